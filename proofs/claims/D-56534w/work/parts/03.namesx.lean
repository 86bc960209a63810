/-! TrainingDiary -/
set_option maxRecDepth 100000
def RX1 : String := "TrainingDiary"
def TX1 : u_T := fun k => match k with
  | 0 => ("TrainingDiary", "book", "LTrainingDiary$Book;", false)
  | 1 => ("TrainingDiary", "snapshot", "LTrainingDiary$Book;", false)
  | 2 => ("TrainingDiary", "history", "Ljava/util/ArrayDeque;", true)
  | _ => ("TrainingDiary", "line", "Ljava/lang/StringBuilder;", true)
def tyX1 : Nat → FieldType := fun k => match k with
  | 0 => .object "TrainingDiary$Book"
  | 1 => .object "TrainingDiary$Book"
  | 2 => .object "java/util/ArrayDeque"
  | _ => .object "java/lang/StringBuilder"
abbrev wsX10 : List Cond := u_ws RX1 TX1 4
theorem nmX1 : ∀ a, a < 4 → ∀ b, b < 4 → a ≠ b → (TX1 a).2.1 ≠ (TX1 b).2.1 := by decide +kernel
theorem tyX1_ok : ∀ k, k < 4 → parseFieldDescriptor (TX1 k).2.2.1 = some (tyX1 k) := by decide +kernel
abbrev cX1_init : ByteArray := prog_1_method_7_code
def yX1_init : MethodName := ⟨RX1, "<init>", "()V"⟩
def dkwX1_init_1 : List UInt8 := [181, 0, 63, 42, 187, 0, 67, 89, 183, 0, 69, 181, 0, 70, 177]
abbrev dktX1_init_1 : List UInt8 := dkwX1_init_1 ++ []
def dkwX1_init_0 : List UInt8 := [42, 183, 0, 48, 42, 187, 0, 53, 89, 183, 0, 55, 181, 0, 56, 42, 187, 0, 60, 89, 183, 0, 62]
abbrev dktX1_init_0 : List UInt8 := dkwX1_init_0 ++ dktX1_init_1
theorem dksX1_init_0 : cX1_init.data.toList.drop 0 = dktX1_init_0 := by decide +kernel
theorem dksX1_init_1 : cX1_init.data.toList.drop 23 = dktX1_init_1 := dk_seg dksX1_init_0 23 rfl rfl
theorem dX1_init_0 : decode cX1_init 0 = .ok (.aload_n 0, 1) := dk_42 (dk_at dksX1_init_0 0 rfl rfl)
theorem dX1_init_1 : decode cX1_init 1 = .ok (.invokespecial 48, 3) := dk_183 0 48 (dk_at dksX1_init_0 1 rfl rfl)
theorem dX1_init_4 : decode cX1_init 4 = .ok (.aload_n 0, 1) := dk_42 (dk_at dksX1_init_0 4 rfl rfl)
theorem dX1_init_5 : decode cX1_init 5 = .ok (.new 53, 3) := dk_187 0 53 (dk_at dksX1_init_0 5 rfl rfl)
theorem dX1_init_8 : decode cX1_init 8 = .ok (.dup, 1) := dk_89 (dk_at dksX1_init_0 8 rfl rfl)
theorem dX1_init_9 : decode cX1_init 9 = .ok (.invokespecial 55, 3) := dk_183 0 55 (dk_at dksX1_init_0 9 rfl rfl)
theorem dX1_init_12 : decode cX1_init 12 = .ok (.putfield 56, 3) := dk_181 0 56 (dk_at dksX1_init_0 12 rfl rfl)
theorem dX1_init_15 : decode cX1_init 15 = .ok (.aload_n 0, 1) := dk_42 (dk_at dksX1_init_0 15 rfl rfl)
theorem dX1_init_16 : decode cX1_init 16 = .ok (.new 60, 3) := dk_187 0 60 (dk_at dksX1_init_0 16 rfl rfl)
theorem dX1_init_19 : decode cX1_init 19 = .ok (.dup, 1) := dk_89 (dk_at dksX1_init_0 19 rfl rfl)
theorem dX1_init_20 : decode cX1_init 20 = .ok (.invokespecial 62, 3) := dk_183 0 62 (dk_at dksX1_init_0 20 rfl rfl)
theorem dX1_init_23 : decode cX1_init 23 = .ok (.putfield 63, 3) := dk_181 0 63 (dk_at dksX1_init_1 0 rfl rfl)
theorem dX1_init_26 : decode cX1_init 26 = .ok (.aload_n 0, 1) := dk_42 (dk_at dksX1_init_1 3 rfl rfl)
theorem dX1_init_27 : decode cX1_init 27 = .ok (.new 67, 3) := dk_187 0 67 (dk_at dksX1_init_1 4 rfl rfl)
theorem dX1_init_30 : decode cX1_init 30 = .ok (.dup, 1) := dk_89 (dk_at dksX1_init_1 7 rfl rfl)
theorem dX1_init_31 : decode cX1_init 31 = .ok (.invokespecial 69, 3) := dk_183 0 69 (dk_at dksX1_init_1 8 rfl rfl)
theorem dX1_init_34 : decode cX1_init 34 = .ok (.putfield 70, 3) := dk_181 0 70 (dk_at dksX1_init_1 11 rfl rfl)
theorem dX1_init_37 : decode cX1_init 37 = .ok (.return_, 1) := dk_177 (dk_at dksX1_init_1 14 rfl rfl)
abbrev cX1_today : ByteArray := prog_1_method_11_code
def yX1_today : MethodName := ⟨RX1, "today", "()I"⟩
def dkwX1_today_0 : List UInt8 := [42, 180, 0, 56, 180, 0, 84, 172]
abbrev dktX1_today_0 : List UInt8 := dkwX1_today_0 ++ []
theorem dksX1_today_0 : cX1_today.data.toList.drop 0 = dktX1_today_0 := by decide +kernel
theorem dX1_today_0 : decode cX1_today 0 = .ok (.aload_n 0, 1) := dk_42 (dk_at dksX1_today_0 0 rfl rfl)
theorem dX1_today_1 : decode cX1_today 1 = .ok (.getfield 56, 3) := dk_180 0 56 (dk_at dksX1_today_0 1 rfl rfl)
theorem dX1_today_4 : decode cX1_today 4 = .ok (.getfield 84, 3) := dk_180 0 84 (dk_at dksX1_today_0 4 rfl rfl)
theorem dX1_today_7 : decode cX1_today 7 = .ok (.ireturn, 1) := dk_172 (dk_at dksX1_today_0 7 rfl rfl)
abbrev cX1_testCount : ByteArray := prog_1_method_14_code
def yX1_testCount : MethodName := ⟨RX1, "testCount", "()I"⟩
def dkwX1_testCount_0 : List UInt8 := [42, 180, 0, 56, 180, 0, 114, 182, 0, 118, 172]
abbrev dktX1_testCount_0 : List UInt8 := dkwX1_testCount_0 ++ []
theorem dksX1_testCount_0 : cX1_testCount.data.toList.drop 0 = dktX1_testCount_0 := by decide +kernel
theorem dX1_testCount_0 : decode cX1_testCount 0 = .ok (.aload_n 0, 1) := dk_42 (dk_at dksX1_testCount_0 0 rfl rfl)
theorem dX1_testCount_1 : decode cX1_testCount 1 = .ok (.getfield 56, 3) := dk_180 0 56 (dk_at dksX1_testCount_0 1 rfl rfl)
theorem dX1_testCount_4 : decode cX1_testCount 4 = .ok (.getfield 114, 3) := dk_180 0 114 (dk_at dksX1_testCount_0 4 rfl rfl)
theorem dX1_testCount_7 : decode cX1_testCount 7 = .ok (.invokevirtual 118, 3) := dk_182 0 118 (dk_at dksX1_testCount_0 7 rfl rfl)
theorem dX1_testCount_10 : decode cX1_testCount 10 = .ok (.ireturn, 1) := dk_172 (dk_at dksX1_testCount_0 10 rfl rfl)
abbrev cX1_sessionCount : ByteArray := prog_1_method_27_code
def yX1_sessionCount : MethodName := ⟨RX1, "sessionCount", "()I"⟩
def dkwX1_sessionCount_0 : List UInt8 := [42, 180, 0, 56, 180, 0, 158, 182, 0, 118, 172]
abbrev dktX1_sessionCount_0 : List UInt8 := dkwX1_sessionCount_0 ++ []
theorem dksX1_sessionCount_0 : cX1_sessionCount.data.toList.drop 0 = dktX1_sessionCount_0 := by decide +kernel
theorem dX1_sessionCount_0 : decode cX1_sessionCount 0 = .ok (.aload_n 0, 1) := dk_42 (dk_at dksX1_sessionCount_0 0 rfl rfl)
theorem dX1_sessionCount_1 : decode cX1_sessionCount 1 = .ok (.getfield 56, 3) := dk_180 0 56 (dk_at dksX1_sessionCount_0 1 rfl rfl)
theorem dX1_sessionCount_4 : decode cX1_sessionCount 4 = .ok (.getfield 158, 3) := dk_180 0 158 (dk_at dksX1_sessionCount_0 4 rfl rfl)
theorem dX1_sessionCount_7 : decode cX1_sessionCount 7 = .ok (.invokevirtual 118, 3) := dk_182 0 118 (dk_at dksX1_sessionCount_0 7 rfl rfl)
theorem dX1_sessionCount_10 : decode cX1_sessionCount 10 = .ok (.ireturn, 1) := dk_172 (dk_at dksX1_sessionCount_0 10 rfl rfl)
abbrev cX1_meanLoad : ByteArray := prog_1_method_35_code
def yX1_meanLoad : MethodName := ⟨RX1, "meanLoad", "()D"⟩
def dkwX1_meanLoad_1 : List UInt8 := [96, 60, 132, 2, 1, 167, 255, 231, 27, 135, 42, 180, 0, 56, 180, 0, 84, 4, 96, 135, 111, 175]
abbrev dktX1_meanLoad_1 : List UInt8 := dkwX1_meanLoad_1 ++ []
def dkwX1_meanLoad_0 : List UInt8 := [3, 60, 3, 61, 28, 42, 180, 0, 56, 180, 0, 84, 163, 0, 20, 27, 42, 180, 0, 56, 28, 182, 0, 192]
abbrev dktX1_meanLoad_0 : List UInt8 := dkwX1_meanLoad_0 ++ dktX1_meanLoad_1
theorem dksX1_meanLoad_0 : cX1_meanLoad.data.toList.drop 0 = dktX1_meanLoad_0 := by decide +kernel
theorem dksX1_meanLoad_1 : cX1_meanLoad.data.toList.drop 24 = dktX1_meanLoad_1 := dk_seg dksX1_meanLoad_0 24 rfl rfl
theorem dX1_meanLoad_0 : decode cX1_meanLoad 0 = .ok (.iconst 0, 1) := dk_3 (dk_at dksX1_meanLoad_0 0 rfl rfl)
theorem dX1_meanLoad_1 : decode cX1_meanLoad 1 = .ok (.istore_n 1, 1) := dk_60 (dk_at dksX1_meanLoad_0 1 rfl rfl)
theorem dX1_meanLoad_2 : decode cX1_meanLoad 2 = .ok (.iconst 0, 1) := dk_3 (dk_at dksX1_meanLoad_0 2 rfl rfl)
theorem dX1_meanLoad_3 : decode cX1_meanLoad 3 = .ok (.istore_n 2, 1) := dk_61 (dk_at dksX1_meanLoad_0 3 rfl rfl)
theorem dX1_meanLoad_4 : decode cX1_meanLoad 4 = .ok (.iload_n 2, 1) := dk_28 (dk_at dksX1_meanLoad_0 4 rfl rfl)
theorem dX1_meanLoad_5 : decode cX1_meanLoad 5 = .ok (.aload_n 0, 1) := dk_42 (dk_at dksX1_meanLoad_0 5 rfl rfl)
theorem dX1_meanLoad_6 : decode cX1_meanLoad 6 = .ok (.getfield 56, 3) := dk_180 0 56 (dk_at dksX1_meanLoad_0 6 rfl rfl)
theorem dX1_meanLoad_9 : decode cX1_meanLoad 9 = .ok (.getfield 84, 3) := dk_180 0 84 (dk_at dksX1_meanLoad_0 9 rfl rfl)
theorem dX1_meanLoad_12 : decode cX1_meanLoad 12 = .ok (.if_icmp .gt 20, 3) := dk_163 0 20 (dk_at dksX1_meanLoad_0 12 rfl rfl)
theorem dX1_meanLoad_15 : decode cX1_meanLoad 15 = .ok (.iload_n 1, 1) := dk_27 (dk_at dksX1_meanLoad_0 15 rfl rfl)
theorem dX1_meanLoad_16 : decode cX1_meanLoad 16 = .ok (.aload_n 0, 1) := dk_42 (dk_at dksX1_meanLoad_0 16 rfl rfl)
theorem dX1_meanLoad_17 : decode cX1_meanLoad 17 = .ok (.getfield 56, 3) := dk_180 0 56 (dk_at dksX1_meanLoad_0 17 rfl rfl)
theorem dX1_meanLoad_20 : decode cX1_meanLoad 20 = .ok (.iload_n 2, 1) := dk_28 (dk_at dksX1_meanLoad_0 20 rfl rfl)
theorem dX1_meanLoad_21 : decode cX1_meanLoad 21 = .ok (.invokevirtual 192, 3) := dk_182 0 192 (dk_at dksX1_meanLoad_0 21 rfl rfl)
theorem dX1_meanLoad_24 : decode cX1_meanLoad 24 = .ok (.iadd, 1) := dk_96 (dk_at dksX1_meanLoad_1 0 rfl rfl)
theorem dX1_meanLoad_25 : decode cX1_meanLoad 25 = .ok (.istore_n 1, 1) := dk_60 (dk_at dksX1_meanLoad_1 1 rfl rfl)
theorem dX1_meanLoad_26 : decode cX1_meanLoad 26 = .ok (.iinc 2 1, 3) := dk_132 2 1 (dk_at dksX1_meanLoad_1 2 rfl rfl)
theorem dX1_meanLoad_29 : decode cX1_meanLoad 29 = .ok (.goto (-25), 3) := dk_167 255 231 (dk_at dksX1_meanLoad_1 5 rfl rfl)
theorem dX1_meanLoad_32 : decode cX1_meanLoad 32 = .ok (.iload_n 1, 1) := dk_27 (dk_at dksX1_meanLoad_1 8 rfl rfl)
theorem dX1_meanLoad_33 : decode cX1_meanLoad 33 = .ok (.i2d, 1) := dk_135 (dk_at dksX1_meanLoad_1 9 rfl rfl)
theorem dX1_meanLoad_34 : decode cX1_meanLoad 34 = .ok (.aload_n 0, 1) := dk_42 (dk_at dksX1_meanLoad_1 10 rfl rfl)
theorem dX1_meanLoad_35 : decode cX1_meanLoad 35 = .ok (.getfield 56, 3) := dk_180 0 56 (dk_at dksX1_meanLoad_1 11 rfl rfl)
theorem dX1_meanLoad_38 : decode cX1_meanLoad 38 = .ok (.getfield 84, 3) := dk_180 0 84 (dk_at dksX1_meanLoad_1 14 rfl rfl)
theorem dX1_meanLoad_41 : decode cX1_meanLoad 41 = .ok (.iconst 1, 1) := dk_4 (dk_at dksX1_meanLoad_1 17 rfl rfl)
theorem dX1_meanLoad_42 : decode cX1_meanLoad 42 = .ok (.iadd, 1) := dk_96 (dk_at dksX1_meanLoad_1 18 rfl rfl)
theorem dX1_meanLoad_43 : decode cX1_meanLoad 43 = .ok (.i2d, 1) := dk_135 (dk_at dksX1_meanLoad_1 19 rfl rfl)
theorem dX1_meanLoad_44 : decode cX1_meanLoad 44 = .ok (.ddiv, 1) := dk_111 (dk_at dksX1_meanLoad_1 20 rfl rfl)
theorem dX1_meanLoad_45 : decode cX1_meanLoad 45 = .ok (.dreturn, 1) := dk_175 (dk_at dksX1_meanLoad_1 21 rfl rfl)
abbrev cX1_requireElement : ByteArray := prog_1_method_5_code
def yX1_requireElement : MethodName := ⟨RX1, "requireElement", "(Z)V"⟩
def dkwX1_requireElement_0 : List UInt8 := [26, 154, 0, 13, 187, 0, 19, 89, 18, 21, 183, 0, 23, 191, 177]
abbrev dktX1_requireElement_0 : List UInt8 := dkwX1_requireElement_0 ++ []
theorem dksX1_requireElement_0 : cX1_requireElement.data.toList.drop 0 = dktX1_requireElement_0 := by decide +kernel
theorem dX1_requireElement_0 : decode cX1_requireElement 0 = .ok (.iload_n 0, 1) := dk_26 (dk_at dksX1_requireElement_0 0 rfl rfl)
theorem dX1_requireElement_1 : decode cX1_requireElement 1 = .ok (.ifCond .ne 13, 3) := dk_154 0 13 (dk_at dksX1_requireElement_0 1 rfl rfl)
theorem dX1_requireElement_4 : decode cX1_requireElement 4 = .ok (.new 19, 3) := dk_187 0 19 (dk_at dksX1_requireElement_0 4 rfl rfl)
theorem dX1_requireElement_7 : decode cX1_requireElement 7 = .ok (.dup, 1) := dk_89 (dk_at dksX1_requireElement_0 7 rfl rfl)
theorem dX1_requireElement_8 : decode cX1_requireElement 8 = .ok (.ldc 21, 2) := dk_18 21 (dk_at dksX1_requireElement_0 8 rfl rfl)
theorem dX1_requireElement_10 : decode cX1_requireElement 10 = .ok (.invokespecial 23, 3) := dk_183 0 23 (dk_at dksX1_requireElement_0 10 rfl rfl)
theorem dX1_requireElement_13 : decode cX1_requireElement 13 = .ok (.athrow, 1) := dk_191 (dk_at dksX1_requireElement_0 13 rfl rfl)
theorem dX1_requireElement_14 : decode cX1_requireElement 14 = .ok (.return_, 1) := dk_177 (dk_at dksX1_requireElement_0 14 rfl rfl)
abbrev cX1_lastUpTo : ByteArray := prog_1_method_6_code
def yX1_lastUpTo : MethodName := ⟨RX1, "lastUpTo", "(LTrainingDiary$Ordered;I)I"⟩
def dkwX1_lastUpTo_2 : List UInt8 := [61, 132, 3, 1, 167, 255, 216, 28, 172]
abbrev dktX1_lastUpTo_2 : List UInt8 := dkwX1_lastUpTo_2 ++ []
def dkwX1_lastUpTo_1 : List UInt8 := [185, 0, 38, 1, 0, 192, 0, 42, 58, 5, 25, 5, 182, 0, 44, 27, 163, 0, 7, 29, 167, 0, 4, 28]
abbrev dktX1_lastUpTo_1 : List UInt8 := dkwX1_lastUpTo_1 ++ dktX1_lastUpTo_2
def dkwX1_lastUpTo_0 : List UInt8 := [2, 61, 3, 62, 42, 182, 0, 26, 58, 4, 25, 4, 185, 0, 32, 1, 0, 153, 0, 36, 25, 4]
abbrev dktX1_lastUpTo_0 : List UInt8 := dkwX1_lastUpTo_0 ++ dktX1_lastUpTo_1
theorem dksX1_lastUpTo_0 : cX1_lastUpTo.data.toList.drop 0 = dktX1_lastUpTo_0 := by decide +kernel
theorem dksX1_lastUpTo_1 : cX1_lastUpTo.data.toList.drop 22 = dktX1_lastUpTo_1 := dk_seg dksX1_lastUpTo_0 22 rfl rfl
theorem dksX1_lastUpTo_2 : cX1_lastUpTo.data.toList.drop 46 = dktX1_lastUpTo_2 := dk_seg dksX1_lastUpTo_1 24 rfl rfl
theorem dX1_lastUpTo_0 : decode cX1_lastUpTo 0 = .ok (.iconst (-1), 1) := dk_2 (dk_at dksX1_lastUpTo_0 0 rfl rfl)
theorem dX1_lastUpTo_1 : decode cX1_lastUpTo 1 = .ok (.istore_n 2, 1) := dk_61 (dk_at dksX1_lastUpTo_0 1 rfl rfl)
theorem dX1_lastUpTo_2 : decode cX1_lastUpTo 2 = .ok (.iconst 0, 1) := dk_3 (dk_at dksX1_lastUpTo_0 2 rfl rfl)
theorem dX1_lastUpTo_3 : decode cX1_lastUpTo 3 = .ok (.istore_n 3, 1) := dk_62 (dk_at dksX1_lastUpTo_0 3 rfl rfl)
theorem dX1_lastUpTo_4 : decode cX1_lastUpTo 4 = .ok (.aload_n 0, 1) := dk_42 (dk_at dksX1_lastUpTo_0 4 rfl rfl)
theorem dX1_lastUpTo_5 : decode cX1_lastUpTo 5 = .ok (.invokevirtual 26, 3) := dk_182 0 26 (dk_at dksX1_lastUpTo_0 5 rfl rfl)
theorem dX1_lastUpTo_8 : decode cX1_lastUpTo 8 = .ok (.astore 4, 2) := dk_58 4 (dk_at dksX1_lastUpTo_0 8 rfl rfl)
theorem dX1_lastUpTo_10 : decode cX1_lastUpTo 10 = .ok (.aload 4, 2) := dk_25 4 (dk_at dksX1_lastUpTo_0 10 rfl rfl)
theorem dX1_lastUpTo_12 : decode cX1_lastUpTo 12 = .ok (.invokeinterface 32 1, 5) := by decide +kernel
theorem dX1_lastUpTo_17 : decode cX1_lastUpTo 17 = .ok (.ifCond .eq 36, 3) := dk_153 0 36 (dk_at dksX1_lastUpTo_0 17 rfl rfl)
theorem dX1_lastUpTo_20 : decode cX1_lastUpTo 20 = .ok (.aload 4, 2) := dk_25 4 (dk_at dksX1_lastUpTo_0 20 rfl rfl)
theorem dX1_lastUpTo_22 : decode cX1_lastUpTo 22 = .ok (.invokeinterface 38 1, 5) := by decide +kernel
theorem dX1_lastUpTo_27 : decode cX1_lastUpTo 27 = .ok (.checkcast 42, 3) := dk_192 0 42 (dk_at dksX1_lastUpTo_1 5 rfl rfl)
theorem dX1_lastUpTo_30 : decode cX1_lastUpTo 30 = .ok (.astore 5, 2) := dk_58 5 (dk_at dksX1_lastUpTo_1 8 rfl rfl)
theorem dX1_lastUpTo_32 : decode cX1_lastUpTo 32 = .ok (.aload 5, 2) := dk_25 5 (dk_at dksX1_lastUpTo_1 10 rfl rfl)
theorem dX1_lastUpTo_34 : decode cX1_lastUpTo 34 = .ok (.invokevirtual 44, 3) := dk_182 0 44 (dk_at dksX1_lastUpTo_1 12 rfl rfl)
theorem dX1_lastUpTo_37 : decode cX1_lastUpTo 37 = .ok (.iload_n 1, 1) := dk_27 (dk_at dksX1_lastUpTo_1 15 rfl rfl)
theorem dX1_lastUpTo_38 : decode cX1_lastUpTo 38 = .ok (.if_icmp .gt 7, 3) := dk_163 0 7 (dk_at dksX1_lastUpTo_1 16 rfl rfl)
theorem dX1_lastUpTo_41 : decode cX1_lastUpTo 41 = .ok (.iload_n 3, 1) := dk_29 (dk_at dksX1_lastUpTo_1 19 rfl rfl)
theorem dX1_lastUpTo_42 : decode cX1_lastUpTo 42 = .ok (.goto 4, 3) := dk_167 0 4 (dk_at dksX1_lastUpTo_1 20 rfl rfl)
theorem dX1_lastUpTo_45 : decode cX1_lastUpTo 45 = .ok (.iload_n 2, 1) := dk_28 (dk_at dksX1_lastUpTo_1 23 rfl rfl)
theorem dX1_lastUpTo_46 : decode cX1_lastUpTo 46 = .ok (.istore_n 2, 1) := dk_61 (dk_at dksX1_lastUpTo_2 0 rfl rfl)
theorem dX1_lastUpTo_47 : decode cX1_lastUpTo 47 = .ok (.iinc 3 1, 3) := dk_132 3 1 (dk_at dksX1_lastUpTo_2 1 rfl rfl)
theorem dX1_lastUpTo_50 : decode cX1_lastUpTo 50 = .ok (.goto (-40), 3) := dk_167 255 216 (dk_at dksX1_lastUpTo_2 4 rfl rfl)
theorem dX1_lastUpTo_53 : decode cX1_lastUpTo 53 = .ok (.iload_n 2, 1) := dk_28 (dk_at dksX1_lastUpTo_2 7 rfl rfl)
theorem dX1_lastUpTo_54 : decode cX1_lastUpTo 54 = .ok (.ireturn, 1) := dk_172 (dk_at dksX1_lastUpTo_2 8 rfl rfl)
abbrev cX1_bestFormDay : ByteArray := prog_1_method_41_code
def yX1_bestFormDay : MethodName := ⟨RX1, "bestFormDay", "()I"⟩
def dkwX1_bestFormDay_1 : List UInt8 := [180, 0, 56, 27, 182, 0, 209, 164, 0, 7, 28, 167, 0, 4, 27, 60, 132, 2, 1, 167, 255, 217, 27, 172]
abbrev dktX1_bestFormDay_1 : List UInt8 := dkwX1_bestFormDay_1 ++ []
def dkwX1_bestFormDay_0 : List UInt8 := [3, 60, 4, 61, 28, 42, 180, 0, 56, 180, 0, 84, 163, 0, 34, 42, 180, 0, 56, 28, 182, 0, 209, 42]
abbrev dktX1_bestFormDay_0 : List UInt8 := dkwX1_bestFormDay_0 ++ dktX1_bestFormDay_1
theorem dksX1_bestFormDay_0 : cX1_bestFormDay.data.toList.drop 0 = dktX1_bestFormDay_0 := by decide +kernel
theorem dksX1_bestFormDay_1 : cX1_bestFormDay.data.toList.drop 24 = dktX1_bestFormDay_1 := dk_seg dksX1_bestFormDay_0 24 rfl rfl
theorem dX1_bestFormDay_0 : decode cX1_bestFormDay 0 = .ok (.iconst 0, 1) := dk_3 (dk_at dksX1_bestFormDay_0 0 rfl rfl)
theorem dX1_bestFormDay_1 : decode cX1_bestFormDay 1 = .ok (.istore_n 1, 1) := dk_60 (dk_at dksX1_bestFormDay_0 1 rfl rfl)
theorem dX1_bestFormDay_2 : decode cX1_bestFormDay 2 = .ok (.iconst 1, 1) := dk_4 (dk_at dksX1_bestFormDay_0 2 rfl rfl)
theorem dX1_bestFormDay_3 : decode cX1_bestFormDay 3 = .ok (.istore_n 2, 1) := dk_61 (dk_at dksX1_bestFormDay_0 3 rfl rfl)
theorem dX1_bestFormDay_4 : decode cX1_bestFormDay 4 = .ok (.iload_n 2, 1) := dk_28 (dk_at dksX1_bestFormDay_0 4 rfl rfl)
theorem dX1_bestFormDay_5 : decode cX1_bestFormDay 5 = .ok (.aload_n 0, 1) := dk_42 (dk_at dksX1_bestFormDay_0 5 rfl rfl)
theorem dX1_bestFormDay_6 : decode cX1_bestFormDay 6 = .ok (.getfield 56, 3) := dk_180 0 56 (dk_at dksX1_bestFormDay_0 6 rfl rfl)
theorem dX1_bestFormDay_9 : decode cX1_bestFormDay 9 = .ok (.getfield 84, 3) := dk_180 0 84 (dk_at dksX1_bestFormDay_0 9 rfl rfl)
theorem dX1_bestFormDay_12 : decode cX1_bestFormDay 12 = .ok (.if_icmp .gt 34, 3) := dk_163 0 34 (dk_at dksX1_bestFormDay_0 12 rfl rfl)
theorem dX1_bestFormDay_15 : decode cX1_bestFormDay 15 = .ok (.aload_n 0, 1) := dk_42 (dk_at dksX1_bestFormDay_0 15 rfl rfl)
theorem dX1_bestFormDay_16 : decode cX1_bestFormDay 16 = .ok (.getfield 56, 3) := dk_180 0 56 (dk_at dksX1_bestFormDay_0 16 rfl rfl)
theorem dX1_bestFormDay_19 : decode cX1_bestFormDay 19 = .ok (.iload_n 2, 1) := dk_28 (dk_at dksX1_bestFormDay_0 19 rfl rfl)
theorem dX1_bestFormDay_20 : decode cX1_bestFormDay 20 = .ok (.invokevirtual 209, 3) := dk_182 0 209 (dk_at dksX1_bestFormDay_0 20 rfl rfl)
theorem dX1_bestFormDay_23 : decode cX1_bestFormDay 23 = .ok (.aload_n 0, 1) := dk_42 (dk_at dksX1_bestFormDay_0 23 rfl rfl)
theorem dX1_bestFormDay_24 : decode cX1_bestFormDay 24 = .ok (.getfield 56, 3) := dk_180 0 56 (dk_at dksX1_bestFormDay_1 0 rfl rfl)
theorem dX1_bestFormDay_27 : decode cX1_bestFormDay 27 = .ok (.iload_n 1, 1) := dk_27 (dk_at dksX1_bestFormDay_1 3 rfl rfl)
theorem dX1_bestFormDay_28 : decode cX1_bestFormDay 28 = .ok (.invokevirtual 209, 3) := dk_182 0 209 (dk_at dksX1_bestFormDay_1 4 rfl rfl)
theorem dX1_bestFormDay_31 : decode cX1_bestFormDay 31 = .ok (.if_icmp .le 7, 3) := dk_164 0 7 (dk_at dksX1_bestFormDay_1 7 rfl rfl)
theorem dX1_bestFormDay_34 : decode cX1_bestFormDay 34 = .ok (.iload_n 2, 1) := dk_28 (dk_at dksX1_bestFormDay_1 10 rfl rfl)
theorem dX1_bestFormDay_35 : decode cX1_bestFormDay 35 = .ok (.goto 4, 3) := dk_167 0 4 (dk_at dksX1_bestFormDay_1 11 rfl rfl)
theorem dX1_bestFormDay_38 : decode cX1_bestFormDay 38 = .ok (.iload_n 1, 1) := dk_27 (dk_at dksX1_bestFormDay_1 14 rfl rfl)
theorem dX1_bestFormDay_39 : decode cX1_bestFormDay 39 = .ok (.istore_n 1, 1) := dk_60 (dk_at dksX1_bestFormDay_1 15 rfl rfl)
theorem dX1_bestFormDay_40 : decode cX1_bestFormDay 40 = .ok (.iinc 2 1, 3) := dk_132 2 1 (dk_at dksX1_bestFormDay_1 16 rfl rfl)
theorem dX1_bestFormDay_43 : decode cX1_bestFormDay 43 = .ok (.goto (-39), 3) := dk_167 255 217 (dk_at dksX1_bestFormDay_1 19 rfl rfl)
theorem dX1_bestFormDay_46 : decode cX1_bestFormDay 46 = .ok (.iload_n 1, 1) := dk_27 (dk_at dksX1_bestFormDay_1 22 rfl rfl)
theorem dX1_bestFormDay_47 : decode cX1_bestFormDay 47 = .ok (.ireturn, 1) := dk_172 (dk_at dksX1_bestFormDay_1 23 rfl rfl)
abbrev cX1_startPlan : ByteArray := prog_1_method_53_code
def yX1_startPlan : MethodName := ⟨RX1, "startPlan", "()I"⟩
def dkwX1_startPlan_0 : List UInt8 := [187, 0, 53, 89, 42, 180, 0, 56, 183, 0, 96, 76, 42, 43, 43, 182, 0, 238, 182, 0, 103, 172]
abbrev dktX1_startPlan_0 : List UInt8 := dkwX1_startPlan_0 ++ []
theorem dksX1_startPlan_0 : cX1_startPlan.data.toList.drop 0 = dktX1_startPlan_0 := by decide +kernel
theorem dX1_startPlan_0 : decode cX1_startPlan 0 = .ok (.new 53, 3) := dk_187 0 53 (dk_at dksX1_startPlan_0 0 rfl rfl)
theorem dX1_startPlan_3 : decode cX1_startPlan 3 = .ok (.dup, 1) := dk_89 (dk_at dksX1_startPlan_0 3 rfl rfl)
theorem dX1_startPlan_4 : decode cX1_startPlan 4 = .ok (.aload_n 0, 1) := dk_42 (dk_at dksX1_startPlan_0 4 rfl rfl)
theorem dX1_startPlan_5 : decode cX1_startPlan 5 = .ok (.getfield 56, 3) := dk_180 0 56 (dk_at dksX1_startPlan_0 5 rfl rfl)
theorem dX1_startPlan_8 : decode cX1_startPlan 8 = .ok (.invokespecial 96, 3) := dk_183 0 96 (dk_at dksX1_startPlan_0 8 rfl rfl)
theorem dX1_startPlan_11 : decode cX1_startPlan 11 = .ok (.astore_n 1, 1) := dk_76 (dk_at dksX1_startPlan_0 11 rfl rfl)
theorem dX1_startPlan_12 : decode cX1_startPlan 12 = .ok (.aload_n 0, 1) := dk_42 (dk_at dksX1_startPlan_0 12 rfl rfl)
theorem dX1_startPlan_13 : decode cX1_startPlan 13 = .ok (.aload_n 1, 1) := dk_43 (dk_at dksX1_startPlan_0 13 rfl rfl)
theorem dX1_startPlan_14 : decode cX1_startPlan 14 = .ok (.aload_n 1, 1) := dk_43 (dk_at dksX1_startPlan_0 14 rfl rfl)
theorem dX1_startPlan_15 : decode cX1_startPlan 15 = .ok (.invokevirtual 238, 3) := dk_182 0 238 (dk_at dksX1_startPlan_0 15 rfl rfl)
theorem dX1_startPlan_18 : decode cX1_startPlan 18 = .ok (.invokevirtual 103, 3) := dk_182 0 103 (dk_at dksX1_startPlan_0 18 rfl rfl)
theorem dX1_startPlan_21 : decode cX1_startPlan 21 = .ok (.ireturn, 1) := dk_172 (dk_at dksX1_startPlan_0 21 rfl rfl)
abbrev cX1_replace : ByteArray := prog_1_method_8_code
def yX1_replace : MethodName := ⟨RX1, "replace", "(LTrainingDiary$Book;I)I"⟩
def dkwX1_replace_1 : List UInt8 := [180, 0, 63, 182, 0, 81, 87, 42, 43, 181, 0, 56, 28, 172]
abbrev dktX1_replace_1 : List UInt8 := dkwX1_replace_1 ++ []
def dkwX1_replace_0 : List UInt8 := [42, 180, 0, 63, 42, 180, 0, 56, 182, 0, 74, 42, 180, 0, 63, 182, 0, 78, 16, 6, 164, 0, 11, 42]
abbrev dktX1_replace_0 : List UInt8 := dkwX1_replace_0 ++ dktX1_replace_1
theorem dksX1_replace_0 : cX1_replace.data.toList.drop 0 = dktX1_replace_0 := by decide +kernel
theorem dksX1_replace_1 : cX1_replace.data.toList.drop 24 = dktX1_replace_1 := dk_seg dksX1_replace_0 24 rfl rfl
theorem dX1_replace_0 : decode cX1_replace 0 = .ok (.aload_n 0, 1) := dk_42 (dk_at dksX1_replace_0 0 rfl rfl)
theorem dX1_replace_1 : decode cX1_replace 1 = .ok (.getfield 63, 3) := dk_180 0 63 (dk_at dksX1_replace_0 1 rfl rfl)
theorem dX1_replace_4 : decode cX1_replace 4 = .ok (.aload_n 0, 1) := dk_42 (dk_at dksX1_replace_0 4 rfl rfl)
theorem dX1_replace_5 : decode cX1_replace 5 = .ok (.getfield 56, 3) := dk_180 0 56 (dk_at dksX1_replace_0 5 rfl rfl)
theorem dX1_replace_8 : decode cX1_replace 8 = .ok (.invokevirtual 74, 3) := dk_182 0 74 (dk_at dksX1_replace_0 8 rfl rfl)
theorem dX1_replace_11 : decode cX1_replace 11 = .ok (.aload_n 0, 1) := dk_42 (dk_at dksX1_replace_0 11 rfl rfl)
theorem dX1_replace_12 : decode cX1_replace 12 = .ok (.getfield 63, 3) := dk_180 0 63 (dk_at dksX1_replace_0 12 rfl rfl)
theorem dX1_replace_15 : decode cX1_replace 15 = .ok (.invokevirtual 78, 3) := dk_182 0 78 (dk_at dksX1_replace_0 15 rfl rfl)
theorem dX1_replace_18 : decode cX1_replace 18 = .ok (.bipush 6, 2) := dk_16 6 (dk_at dksX1_replace_0 18 rfl rfl)
theorem dX1_replace_20 : decode cX1_replace 20 = .ok (.if_icmp .le 11, 3) := dk_164 0 11 (dk_at dksX1_replace_0 20 rfl rfl)
theorem dX1_replace_23 : decode cX1_replace 23 = .ok (.aload_n 0, 1) := dk_42 (dk_at dksX1_replace_0 23 rfl rfl)
theorem dX1_replace_24 : decode cX1_replace 24 = .ok (.getfield 63, 3) := dk_180 0 63 (dk_at dksX1_replace_1 0 rfl rfl)
theorem dX1_replace_27 : decode cX1_replace 27 = .ok (.invokevirtual 81, 3) := dk_182 0 81 (dk_at dksX1_replace_1 3 rfl rfl)
theorem dX1_replace_30 : decode cX1_replace 30 = .ok (.pop, 1) := dk_87 (dk_at dksX1_replace_1 6 rfl rfl)
theorem dX1_replace_31 : decode cX1_replace 31 = .ok (.aload_n 0, 1) := dk_42 (dk_at dksX1_replace_1 7 rfl rfl)
theorem dX1_replace_32 : decode cX1_replace 32 = .ok (.aload_n 1, 1) := dk_43 (dk_at dksX1_replace_1 8 rfl rfl)
theorem dX1_replace_33 : decode cX1_replace 33 = .ok (.putfield 56, 3) := dk_181 0 56 (dk_at dksX1_replace_1 9 rfl rfl)
theorem dX1_replace_36 : decode cX1_replace 36 = .ok (.iload_n 2, 1) := dk_28 (dk_at dksX1_replace_1 12 rfl rfl)
theorem dX1_replace_37 : decode cX1_replace 37 = .ok (.ireturn, 1) := dk_172 (dk_at dksX1_replace_1 13 rfl rfl)
abbrev cX1_missedDays : ByteArray := prog_1_method_57_code
def yX1_missedDays : MethodName := ⟨RX1, "missedDays", "()I"⟩
def dkwX1_missedDays_0 : List UInt8 := [42, 180, 0, 56, 182, 0, 250, 180, 1, 6, 172]
abbrev dktX1_missedDays_0 : List UInt8 := dkwX1_missedDays_0 ++ []
theorem dksX1_missedDays_0 : cX1_missedDays.data.toList.drop 0 = dktX1_missedDays_0 := by decide +kernel
theorem dX1_missedDays_0 : decode cX1_missedDays 0 = .ok (.aload_n 0, 1) := dk_42 (dk_at dksX1_missedDays_0 0 rfl rfl)
theorem dX1_missedDays_1 : decode cX1_missedDays 1 = .ok (.getfield 56, 3) := dk_180 0 56 (dk_at dksX1_missedDays_0 1 rfl rfl)
theorem dX1_missedDays_4 : decode cX1_missedDays 4 = .ok (.invokevirtual 250, 3) := dk_182 0 250 (dk_at dksX1_missedDays_0 4 rfl rfl)
theorem dX1_missedDays_7 : decode cX1_missedDays 7 = .ok (.getfield 262, 3) := dk_180 1 6 (dk_at dksX1_missedDays_0 7 rfl rfl)
theorem dX1_missedDays_10 : decode cX1_missedDays 10 = .ok (.ireturn, 1) := dk_172 (dk_at dksX1_missedDays_0 10 rfl rfl)
abbrev cX1_droppedEntries : ByteArray := prog_1_method_58_code
def yX1_droppedEntries : MethodName := ⟨RX1, "droppedEntries", "()I"⟩
def dkwX1_droppedEntries_0 : List UInt8 := [42, 180, 0, 56, 182, 0, 250, 180, 1, 9, 172]
abbrev dktX1_droppedEntries_0 : List UInt8 := dkwX1_droppedEntries_0 ++ []
theorem dksX1_droppedEntries_0 : cX1_droppedEntries.data.toList.drop 0 = dktX1_droppedEntries_0 := by decide +kernel
theorem dX1_droppedEntries_0 : decode cX1_droppedEntries 0 = .ok (.aload_n 0, 1) := dk_42 (dk_at dksX1_droppedEntries_0 0 rfl rfl)
theorem dX1_droppedEntries_1 : decode cX1_droppedEntries 1 = .ok (.getfield 56, 3) := dk_180 0 56 (dk_at dksX1_droppedEntries_0 1 rfl rfl)
theorem dX1_droppedEntries_4 : decode cX1_droppedEntries 4 = .ok (.invokevirtual 250, 3) := dk_182 0 250 (dk_at dksX1_droppedEntries_0 4 rfl rfl)
theorem dX1_droppedEntries_7 : decode cX1_droppedEntries 7 = .ok (.getfield 265, 3) := dk_180 1 9 (dk_at dksX1_droppedEntries_0 7 rfl rfl)
theorem dX1_droppedEntries_10 : decode cX1_droppedEntries 10 = .ok (.ireturn, 1) := dk_172 (dk_at dksX1_droppedEntries_0 10 rfl rfl)
abbrev cX1_isPlanOver : ByteArray := prog_1_method_60_code
def yX1_isPlanOver : MethodName := ⟨RX1, "isPlanOver", "()Z"⟩
def dkwX1_isPlanOver_1 : List UInt8 := [4, 167, 0, 4, 3, 172]
abbrev dktX1_isPlanOver_1 : List UInt8 := dkwX1_isPlanOver_1 ++ []
def dkwX1_isPlanOver_0 : List UInt8 := [42, 180, 0, 56, 180, 1, 12, 2, 159, 0, 20, 42, 180, 0, 56, 182, 0, 250, 182, 0, 254, 153, 0, 7]
abbrev dktX1_isPlanOver_0 : List UInt8 := dkwX1_isPlanOver_0 ++ dktX1_isPlanOver_1
theorem dksX1_isPlanOver_0 : cX1_isPlanOver.data.toList.drop 0 = dktX1_isPlanOver_0 := by decide +kernel
theorem dksX1_isPlanOver_1 : cX1_isPlanOver.data.toList.drop 24 = dktX1_isPlanOver_1 := dk_seg dksX1_isPlanOver_0 24 rfl rfl
theorem dX1_isPlanOver_0 : decode cX1_isPlanOver 0 = .ok (.aload_n 0, 1) := dk_42 (dk_at dksX1_isPlanOver_0 0 rfl rfl)
theorem dX1_isPlanOver_1 : decode cX1_isPlanOver 1 = .ok (.getfield 56, 3) := dk_180 0 56 (dk_at dksX1_isPlanOver_0 1 rfl rfl)
theorem dX1_isPlanOver_4 : decode cX1_isPlanOver 4 = .ok (.getfield 268, 3) := dk_180 1 12 (dk_at dksX1_isPlanOver_0 4 rfl rfl)
theorem dX1_isPlanOver_7 : decode cX1_isPlanOver 7 = .ok (.iconst (-1), 1) := dk_2 (dk_at dksX1_isPlanOver_0 7 rfl rfl)
theorem dX1_isPlanOver_8 : decode cX1_isPlanOver 8 = .ok (.if_icmp .eq 20, 3) := dk_159 0 20 (dk_at dksX1_isPlanOver_0 8 rfl rfl)
theorem dX1_isPlanOver_11 : decode cX1_isPlanOver 11 = .ok (.aload_n 0, 1) := dk_42 (dk_at dksX1_isPlanOver_0 11 rfl rfl)
theorem dX1_isPlanOver_12 : decode cX1_isPlanOver 12 = .ok (.getfield 56, 3) := dk_180 0 56 (dk_at dksX1_isPlanOver_0 12 rfl rfl)
theorem dX1_isPlanOver_15 : decode cX1_isPlanOver 15 = .ok (.invokevirtual 250, 3) := dk_182 0 250 (dk_at dksX1_isPlanOver_0 15 rfl rfl)
theorem dX1_isPlanOver_18 : decode cX1_isPlanOver 18 = .ok (.invokevirtual 254, 3) := dk_182 0 254 (dk_at dksX1_isPlanOver_0 18 rfl rfl)
theorem dX1_isPlanOver_21 : decode cX1_isPlanOver 21 = .ok (.ifCond .eq 7, 3) := dk_153 0 7 (dk_at dksX1_isPlanOver_0 21 rfl rfl)
theorem dX1_isPlanOver_24 : decode cX1_isPlanOver 24 = .ok (.iconst 1, 1) := dk_4 (dk_at dksX1_isPlanOver_1 0 rfl rfl)
theorem dX1_isPlanOver_25 : decode cX1_isPlanOver 25 = .ok (.goto 4, 3) := dk_167 0 4 (dk_at dksX1_isPlanOver_1 1 rfl rfl)
theorem dX1_isPlanOver_28 : decode cX1_isPlanOver 28 = .ok (.iconst 0, 1) := dk_3 (dk_at dksX1_isPlanOver_1 4 rfl rfl)
theorem dX1_isPlanOver_29 : decode cX1_isPlanOver 29 = .ok (.ireturn, 1) := dk_172 (dk_at dksX1_isPlanOver_1 5 rfl rfl)
abbrev cX1_save : ByteArray := prog_1_method_64_code
def yX1_save : MethodName := ⟨RX1, "save", "()I"⟩
def dkwX1_save_1 : List UInt8 := [182, 0, 118, 172]
abbrev dktX1_save_1 : List UInt8 := dkwX1_save_1 ++ []
def dkwX1_save_0 : List UInt8 := [42, 187, 0, 53, 89, 42, 180, 0, 56, 183, 0, 96, 181, 1, 46, 42, 180, 0, 56, 180, 0, 158]
abbrev dktX1_save_0 : List UInt8 := dkwX1_save_0 ++ dktX1_save_1
theorem dksX1_save_0 : cX1_save.data.toList.drop 0 = dktX1_save_0 := by decide +kernel
theorem dksX1_save_1 : cX1_save.data.toList.drop 22 = dktX1_save_1 := dk_seg dksX1_save_0 22 rfl rfl
theorem dX1_save_0 : decode cX1_save 0 = .ok (.aload_n 0, 1) := dk_42 (dk_at dksX1_save_0 0 rfl rfl)
theorem dX1_save_1 : decode cX1_save 1 = .ok (.new 53, 3) := dk_187 0 53 (dk_at dksX1_save_0 1 rfl rfl)
theorem dX1_save_4 : decode cX1_save 4 = .ok (.dup, 1) := dk_89 (dk_at dksX1_save_0 4 rfl rfl)
theorem dX1_save_5 : decode cX1_save 5 = .ok (.aload_n 0, 1) := dk_42 (dk_at dksX1_save_0 5 rfl rfl)
theorem dX1_save_6 : decode cX1_save 6 = .ok (.getfield 56, 3) := dk_180 0 56 (dk_at dksX1_save_0 6 rfl rfl)
theorem dX1_save_9 : decode cX1_save 9 = .ok (.invokespecial 96, 3) := dk_183 0 96 (dk_at dksX1_save_0 9 rfl rfl)
theorem dX1_save_12 : decode cX1_save 12 = .ok (.putfield 302, 3) := dk_181 1 46 (dk_at dksX1_save_0 12 rfl rfl)
theorem dX1_save_15 : decode cX1_save 15 = .ok (.aload_n 0, 1) := dk_42 (dk_at dksX1_save_0 15 rfl rfl)
theorem dX1_save_16 : decode cX1_save 16 = .ok (.getfield 56, 3) := dk_180 0 56 (dk_at dksX1_save_0 16 rfl rfl)
theorem dX1_save_19 : decode cX1_save 19 = .ok (.getfield 158, 3) := dk_180 0 158 (dk_at dksX1_save_0 19 rfl rfl)
theorem dX1_save_22 : decode cX1_save 22 = .ok (.invokevirtual 118, 3) := dk_182 0 118 (dk_at dksX1_save_1 0 rfl rfl)
theorem dX1_save_25 : decode cX1_save 25 = .ok (.ireturn, 1) := dk_172 (dk_at dksX1_save_1 3 rfl rfl)
abbrev cX1_pass : ByteArray := prog_1_method_10_code
def yX1_pass : MethodName := ⟨RX1, "pass", "(I)I"⟩
def dkwX1_pass_0 : List UInt8 := [187, 0, 53, 89, 42, 180, 0, 56, 183, 0, 96, 77, 42, 44, 44, 27, 182, 0, 99, 182, 0, 103, 172]
abbrev dktX1_pass_0 : List UInt8 := dkwX1_pass_0 ++ []
theorem dksX1_pass_0 : cX1_pass.data.toList.drop 0 = dktX1_pass_0 := by decide +kernel
theorem dX1_pass_0 : decode cX1_pass 0 = .ok (.new 53, 3) := dk_187 0 53 (dk_at dksX1_pass_0 0 rfl rfl)
theorem dX1_pass_3 : decode cX1_pass 3 = .ok (.dup, 1) := dk_89 (dk_at dksX1_pass_0 3 rfl rfl)
theorem dX1_pass_4 : decode cX1_pass 4 = .ok (.aload_n 0, 1) := dk_42 (dk_at dksX1_pass_0 4 rfl rfl)
theorem dX1_pass_5 : decode cX1_pass 5 = .ok (.getfield 56, 3) := dk_180 0 56 (dk_at dksX1_pass_0 5 rfl rfl)
theorem dX1_pass_8 : decode cX1_pass 8 = .ok (.invokespecial 96, 3) := dk_183 0 96 (dk_at dksX1_pass_0 8 rfl rfl)
theorem dX1_pass_11 : decode cX1_pass 11 = .ok (.astore_n 2, 1) := dk_77 (dk_at dksX1_pass_0 11 rfl rfl)
theorem dX1_pass_12 : decode cX1_pass 12 = .ok (.aload_n 0, 1) := dk_42 (dk_at dksX1_pass_0 12 rfl rfl)
theorem dX1_pass_13 : decode cX1_pass 13 = .ok (.aload_n 2, 1) := dk_44 (dk_at dksX1_pass_0 13 rfl rfl)
theorem dX1_pass_14 : decode cX1_pass 14 = .ok (.aload_n 2, 1) := dk_44 (dk_at dksX1_pass_0 14 rfl rfl)
theorem dX1_pass_15 : decode cX1_pass 15 = .ok (.iload_n 1, 1) := dk_27 (dk_at dksX1_pass_0 15 rfl rfl)
theorem dX1_pass_16 : decode cX1_pass 16 = .ok (.invokevirtual 99, 3) := dk_182 0 99 (dk_at dksX1_pass_0 16 rfl rfl)
theorem dX1_pass_19 : decode cX1_pass 19 = .ok (.invokevirtual 103, 3) := dk_182 0 103 (dk_at dksX1_pass_0 19 rfl rfl)
theorem dX1_pass_22 : decode cX1_pass 22 = .ok (.ireturn, 1) := dk_172 (dk_at dksX1_pass_0 22 rfl rfl)
abbrev cX1_isIn : ByteArray := prog_1_method_1_code
def yX1_isIn : MethodName := ⟨RX1, "isIn", "(III)Z"⟩
def dkwX1_isIn_0 : List UInt8 := [26, 27, 161, 0, 12, 26, 28, 163, 0, 7, 4, 167, 0, 4, 3, 172]
abbrev dktX1_isIn_0 : List UInt8 := dkwX1_isIn_0 ++ []
theorem dksX1_isIn_0 : cX1_isIn.data.toList.drop 0 = dktX1_isIn_0 := by decide +kernel
theorem dX1_isIn_0 : decode cX1_isIn 0 = .ok (.iload_n 0, 1) := dk_26 (dk_at dksX1_isIn_0 0 rfl rfl)
theorem dX1_isIn_1 : decode cX1_isIn 1 = .ok (.iload_n 1, 1) := dk_27 (dk_at dksX1_isIn_0 1 rfl rfl)
theorem dX1_isIn_2 : decode cX1_isIn 2 = .ok (.if_icmp .lt 12, 3) := dk_161 0 12 (dk_at dksX1_isIn_0 2 rfl rfl)
theorem dX1_isIn_5 : decode cX1_isIn 5 = .ok (.iload_n 0, 1) := dk_26 (dk_at dksX1_isIn_0 5 rfl rfl)
theorem dX1_isIn_6 : decode cX1_isIn 6 = .ok (.iload_n 2, 1) := dk_28 (dk_at dksX1_isIn_0 6 rfl rfl)
theorem dX1_isIn_7 : decode cX1_isIn 7 = .ok (.if_icmp .gt 7, 3) := dk_163 0 7 (dk_at dksX1_isIn_0 7 rfl rfl)
theorem dX1_isIn_10 : decode cX1_isIn 10 = .ok (.iconst 1, 1) := dk_4 (dk_at dksX1_isIn_0 10 rfl rfl)
theorem dX1_isIn_11 : decode cX1_isIn 11 = .ok (.goto 4, 3) := dk_167 0 4 (dk_at dksX1_isIn_0 11 rfl rfl)
theorem dX1_isIn_14 : decode cX1_isIn 14 = .ok (.iconst 0, 1) := dk_3 (dk_at dksX1_isIn_0 14 rfl rfl)
theorem dX1_isIn_15 : decode cX1_isIn 15 = .ok (.ireturn, 1) := dk_172 (dk_at dksX1_isIn_0 15 rfl rfl)
abbrev cX1_requireArgument : ByteArray := prog_1_method_2_code
def yX1_requireArgument : MethodName := ⟨RX1, "requireArgument", "(Z)V"⟩
def dkwX1_requireArgument_0 : List UInt8 := [26, 154, 0, 13, 187, 0, 1, 89, 18, 3, 183, 0, 5, 191, 177]
abbrev dktX1_requireArgument_0 : List UInt8 := dkwX1_requireArgument_0 ++ []
theorem dksX1_requireArgument_0 : cX1_requireArgument.data.toList.drop 0 = dktX1_requireArgument_0 := by decide +kernel
theorem dX1_requireArgument_0 : decode cX1_requireArgument 0 = .ok (.iload_n 0, 1) := dk_26 (dk_at dksX1_requireArgument_0 0 rfl rfl)
theorem dX1_requireArgument_1 : decode cX1_requireArgument 1 = .ok (.ifCond .ne 13, 3) := dk_154 0 13 (dk_at dksX1_requireArgument_0 1 rfl rfl)
theorem dX1_requireArgument_4 : decode cX1_requireArgument 4 = .ok (.new 1, 3) := dk_187 0 1 (dk_at dksX1_requireArgument_0 4 rfl rfl)
theorem dX1_requireArgument_7 : decode cX1_requireArgument 7 = .ok (.dup, 1) := dk_89 (dk_at dksX1_requireArgument_0 7 rfl rfl)
theorem dX1_requireArgument_8 : decode cX1_requireArgument 8 = .ok (.ldc 3, 2) := dk_18 3 (dk_at dksX1_requireArgument_0 8 rfl rfl)
theorem dX1_requireArgument_10 : decode cX1_requireArgument 10 = .ok (.invokespecial 5, 3) := dk_183 0 5 (dk_at dksX1_requireArgument_0 10 rfl rfl)
theorem dX1_requireArgument_13 : decode cX1_requireArgument 13 = .ok (.athrow, 1) := dk_191 (dk_at dksX1_requireArgument_0 13 rfl rfl)
theorem dX1_requireArgument_14 : decode cX1_requireArgument 14 = .ok (.return_, 1) := dk_177 (dk_at dksX1_requireArgument_0 14 rfl rfl)
abbrev cX1_requireState : ByteArray := prog_1_method_3_code
def yX1_requireState : MethodName := ⟨RX1, "requireState", "(Z)V"⟩
def dkwX1_requireState_0 : List UInt8 := [26, 154, 0, 13, 187, 0, 9, 89, 18, 11, 183, 0, 13, 191, 177]
abbrev dktX1_requireState_0 : List UInt8 := dkwX1_requireState_0 ++ []
theorem dksX1_requireState_0 : cX1_requireState.data.toList.drop 0 = dktX1_requireState_0 := by decide +kernel
theorem dX1_requireState_0 : decode cX1_requireState 0 = .ok (.iload_n 0, 1) := dk_26 (dk_at dksX1_requireState_0 0 rfl rfl)
theorem dX1_requireState_1 : decode cX1_requireState 1 = .ok (.ifCond .ne 13, 3) := dk_154 0 13 (dk_at dksX1_requireState_0 1 rfl rfl)
theorem dX1_requireState_4 : decode cX1_requireState 4 = .ok (.new 9, 3) := dk_187 0 9 (dk_at dksX1_requireState_0 4 rfl rfl)
theorem dX1_requireState_7 : decode cX1_requireState 7 = .ok (.dup, 1) := dk_89 (dk_at dksX1_requireState_0 7 rfl rfl)
theorem dX1_requireState_8 : decode cX1_requireState 8 = .ok (.ldc 11, 2) := dk_18 11 (dk_at dksX1_requireState_0 8 rfl rfl)
theorem dX1_requireState_10 : decode cX1_requireState 10 = .ok (.invokespecial 13, 3) := dk_183 0 13 (dk_at dksX1_requireState_0 10 rfl rfl)
theorem dX1_requireState_13 : decode cX1_requireState 13 = .ok (.athrow, 1) := dk_191 (dk_at dksX1_requireState_0 13 rfl rfl)
theorem dX1_requireState_14 : decode cX1_requireState 14 = .ok (.return_, 1) := dk_177 (dk_at dksX1_requireState_0 14 rfl rfl)
abbrev cX1_addTest : ByteArray := prog_1_method_12_code
def yX1_addTest : MethodName := ⟨RX1, "addTest", "(II)I"⟩
def dkwX1_addTest_0 : List UInt8 := [187, 0, 53, 89, 42, 180, 0, 56, 183, 0, 96, 78, 42, 45, 45, 27, 28, 182, 0, 107, 182, 0, 103, 172]
abbrev dktX1_addTest_0 : List UInt8 := dkwX1_addTest_0 ++ []
theorem dksX1_addTest_0 : cX1_addTest.data.toList.drop 0 = dktX1_addTest_0 := by decide +kernel
theorem dX1_addTest_0 : decode cX1_addTest 0 = .ok (.new 53, 3) := dk_187 0 53 (dk_at dksX1_addTest_0 0 rfl rfl)
theorem dX1_addTest_3 : decode cX1_addTest 3 = .ok (.dup, 1) := dk_89 (dk_at dksX1_addTest_0 3 rfl rfl)
theorem dX1_addTest_4 : decode cX1_addTest 4 = .ok (.aload_n 0, 1) := dk_42 (dk_at dksX1_addTest_0 4 rfl rfl)
theorem dX1_addTest_5 : decode cX1_addTest 5 = .ok (.getfield 56, 3) := dk_180 0 56 (dk_at dksX1_addTest_0 5 rfl rfl)
theorem dX1_addTest_8 : decode cX1_addTest 8 = .ok (.invokespecial 96, 3) := dk_183 0 96 (dk_at dksX1_addTest_0 8 rfl rfl)
theorem dX1_addTest_11 : decode cX1_addTest 11 = .ok (.astore_n 3, 1) := dk_78 (dk_at dksX1_addTest_0 11 rfl rfl)
theorem dX1_addTest_12 : decode cX1_addTest 12 = .ok (.aload_n 0, 1) := dk_42 (dk_at dksX1_addTest_0 12 rfl rfl)
theorem dX1_addTest_13 : decode cX1_addTest 13 = .ok (.aload_n 3, 1) := dk_45 (dk_at dksX1_addTest_0 13 rfl rfl)
theorem dX1_addTest_14 : decode cX1_addTest 14 = .ok (.aload_n 3, 1) := dk_45 (dk_at dksX1_addTest_0 14 rfl rfl)
theorem dX1_addTest_15 : decode cX1_addTest 15 = .ok (.iload_n 1, 1) := dk_27 (dk_at dksX1_addTest_0 15 rfl rfl)
theorem dX1_addTest_16 : decode cX1_addTest 16 = .ok (.iload_n 2, 1) := dk_28 (dk_at dksX1_addTest_0 16 rfl rfl)
theorem dX1_addTest_17 : decode cX1_addTest 17 = .ok (.invokevirtual 107, 3) := dk_182 0 107 (dk_at dksX1_addTest_0 17 rfl rfl)
theorem dX1_addTest_20 : decode cX1_addTest 20 = .ok (.invokevirtual 103, 3) := dk_182 0 103 (dk_at dksX1_addTest_0 20 rfl rfl)
theorem dX1_addTest_23 : decode cX1_addTest 23 = .ok (.ireturn, 1) := dk_172 (dk_at dksX1_addTest_0 23 rfl rfl)
abbrev cX1_removeTest : ByteArray := prog_1_method_13_code
def yX1_removeTest : MethodName := ⟨RX1, "removeTest", "(I)I"⟩
def dkwX1_removeTest_0 : List UInt8 := [187, 0, 53, 89, 42, 180, 0, 56, 183, 0, 96, 77, 42, 44, 44, 27, 182, 0, 111, 182, 0, 103, 172]
abbrev dktX1_removeTest_0 : List UInt8 := dkwX1_removeTest_0 ++ []
theorem dksX1_removeTest_0 : cX1_removeTest.data.toList.drop 0 = dktX1_removeTest_0 := by decide +kernel
theorem dX1_removeTest_0 : decode cX1_removeTest 0 = .ok (.new 53, 3) := dk_187 0 53 (dk_at dksX1_removeTest_0 0 rfl rfl)
theorem dX1_removeTest_3 : decode cX1_removeTest 3 = .ok (.dup, 1) := dk_89 (dk_at dksX1_removeTest_0 3 rfl rfl)
theorem dX1_removeTest_4 : decode cX1_removeTest 4 = .ok (.aload_n 0, 1) := dk_42 (dk_at dksX1_removeTest_0 4 rfl rfl)
theorem dX1_removeTest_5 : decode cX1_removeTest 5 = .ok (.getfield 56, 3) := dk_180 0 56 (dk_at dksX1_removeTest_0 5 rfl rfl)
theorem dX1_removeTest_8 : decode cX1_removeTest 8 = .ok (.invokespecial 96, 3) := dk_183 0 96 (dk_at dksX1_removeTest_0 8 rfl rfl)
theorem dX1_removeTest_11 : decode cX1_removeTest 11 = .ok (.astore_n 2, 1) := dk_77 (dk_at dksX1_removeTest_0 11 rfl rfl)
theorem dX1_removeTest_12 : decode cX1_removeTest 12 = .ok (.aload_n 0, 1) := dk_42 (dk_at dksX1_removeTest_0 12 rfl rfl)
theorem dX1_removeTest_13 : decode cX1_removeTest 13 = .ok (.aload_n 2, 1) := dk_44 (dk_at dksX1_removeTest_0 13 rfl rfl)
theorem dX1_removeTest_14 : decode cX1_removeTest 14 = .ok (.aload_n 2, 1) := dk_44 (dk_at dksX1_removeTest_0 14 rfl rfl)
theorem dX1_removeTest_15 : decode cX1_removeTest 15 = .ok (.iload_n 1, 1) := dk_27 (dk_at dksX1_removeTest_0 15 rfl rfl)
theorem dX1_removeTest_16 : decode cX1_removeTest 16 = .ok (.invokevirtual 111, 3) := dk_182 0 111 (dk_at dksX1_removeTest_0 16 rfl rfl)
theorem dX1_removeTest_19 : decode cX1_removeTest 19 = .ok (.invokevirtual 103, 3) := dk_182 0 103 (dk_at dksX1_removeTest_0 19 rfl rfl)
theorem dX1_removeTest_22 : decode cX1_removeTest 22 = .ok (.ireturn, 1) := dk_172 (dk_at dksX1_removeTest_0 22 rfl rfl)
abbrev cX1_thresholdOn : ByteArray := prog_1_method_15_code
def yX1_thresholdOn : MethodName := ⟨RX1, "thresholdOn", "(I)I"⟩
def dkwX1_thresholdOn_0 : List UInt8 := [27, 3, 17, 0, 199, 184, 0, 88, 184, 0, 92, 42, 180, 0, 56, 27, 182, 0, 119, 172]
abbrev dktX1_thresholdOn_0 : List UInt8 := dkwX1_thresholdOn_0 ++ []
theorem dksX1_thresholdOn_0 : cX1_thresholdOn.data.toList.drop 0 = dktX1_thresholdOn_0 := by decide +kernel
theorem dX1_thresholdOn_0 : decode cX1_thresholdOn 0 = .ok (.iload_n 1, 1) := dk_27 (dk_at dksX1_thresholdOn_0 0 rfl rfl)
theorem dX1_thresholdOn_1 : decode cX1_thresholdOn 1 = .ok (.iconst 0, 1) := dk_3 (dk_at dksX1_thresholdOn_0 1 rfl rfl)
theorem dX1_thresholdOn_2 : decode cX1_thresholdOn 2 = .ok (.sipush 199, 3) := dk_17 0 199 (dk_at dksX1_thresholdOn_0 2 rfl rfl)
theorem dX1_thresholdOn_5 : decode cX1_thresholdOn 5 = .ok (.invokestatic 88, 3) := dk_184 0 88 (dk_at dksX1_thresholdOn_0 5 rfl rfl)
theorem dX1_thresholdOn_8 : decode cX1_thresholdOn 8 = .ok (.invokestatic 92, 3) := dk_184 0 92 (dk_at dksX1_thresholdOn_0 8 rfl rfl)
theorem dX1_thresholdOn_11 : decode cX1_thresholdOn 11 = .ok (.aload_n 0, 1) := dk_42 (dk_at dksX1_thresholdOn_0 11 rfl rfl)
theorem dX1_thresholdOn_12 : decode cX1_thresholdOn 12 = .ok (.getfield 56, 3) := dk_180 0 56 (dk_at dksX1_thresholdOn_0 12 rfl rfl)
theorem dX1_thresholdOn_15 : decode cX1_thresholdOn 15 = .ok (.iload_n 1, 1) := dk_27 (dk_at dksX1_thresholdOn_0 15 rfl rfl)
theorem dX1_thresholdOn_16 : decode cX1_thresholdOn 16 = .ok (.invokevirtual 119, 3) := dk_182 0 119 (dk_at dksX1_thresholdOn_0 16 rfl rfl)
theorem dX1_thresholdOn_19 : decode cX1_thresholdOn 19 = .ok (.ireturn, 1) := dk_172 (dk_at dksX1_thresholdOn_0 19 rfl rfl)
abbrev cX1_setBound : ByteArray := prog_1_method_16_code
def yX1_setBound : MethodName := ⟨RX1, "setBound", "(II)I"⟩
def dkwX1_setBound_0 : List UInt8 := [187, 0, 53, 89, 42, 180, 0, 56, 183, 0, 96, 78, 42, 45, 45, 27, 28, 182, 0, 122, 182, 0, 103, 172]
abbrev dktX1_setBound_0 : List UInt8 := dkwX1_setBound_0 ++ []
theorem dksX1_setBound_0 : cX1_setBound.data.toList.drop 0 = dktX1_setBound_0 := by decide +kernel
theorem dX1_setBound_0 : decode cX1_setBound 0 = .ok (.new 53, 3) := dk_187 0 53 (dk_at dksX1_setBound_0 0 rfl rfl)
theorem dX1_setBound_3 : decode cX1_setBound 3 = .ok (.dup, 1) := dk_89 (dk_at dksX1_setBound_0 3 rfl rfl)
theorem dX1_setBound_4 : decode cX1_setBound 4 = .ok (.aload_n 0, 1) := dk_42 (dk_at dksX1_setBound_0 4 rfl rfl)
theorem dX1_setBound_5 : decode cX1_setBound 5 = .ok (.getfield 56, 3) := dk_180 0 56 (dk_at dksX1_setBound_0 5 rfl rfl)
theorem dX1_setBound_8 : decode cX1_setBound 8 = .ok (.invokespecial 96, 3) := dk_183 0 96 (dk_at dksX1_setBound_0 8 rfl rfl)
theorem dX1_setBound_11 : decode cX1_setBound 11 = .ok (.astore_n 3, 1) := dk_78 (dk_at dksX1_setBound_0 11 rfl rfl)
theorem dX1_setBound_12 : decode cX1_setBound 12 = .ok (.aload_n 0, 1) := dk_42 (dk_at dksX1_setBound_0 12 rfl rfl)
theorem dX1_setBound_13 : decode cX1_setBound 13 = .ok (.aload_n 3, 1) := dk_45 (dk_at dksX1_setBound_0 13 rfl rfl)
theorem dX1_setBound_14 : decode cX1_setBound 14 = .ok (.aload_n 3, 1) := dk_45 (dk_at dksX1_setBound_0 14 rfl rfl)
theorem dX1_setBound_15 : decode cX1_setBound 15 = .ok (.iload_n 1, 1) := dk_27 (dk_at dksX1_setBound_0 15 rfl rfl)
theorem dX1_setBound_16 : decode cX1_setBound 16 = .ok (.iload_n 2, 1) := dk_28 (dk_at dksX1_setBound_0 16 rfl rfl)
theorem dX1_setBound_17 : decode cX1_setBound 17 = .ok (.invokevirtual 122, 3) := dk_182 0 122 (dk_at dksX1_setBound_0 17 rfl rfl)
theorem dX1_setBound_20 : decode cX1_setBound 20 = .ok (.invokevirtual 103, 3) := dk_182 0 103 (dk_at dksX1_setBound_0 20 rfl rfl)
theorem dX1_setBound_23 : decode cX1_setBound 23 = .ok (.ireturn, 1) := dk_172 (dk_at dksX1_setBound_0 23 rfl rfl)
abbrev cX1_boundOf : ByteArray := prog_1_method_17_code
def yX1_boundOf : MethodName := ⟨RX1, "boundOf", "(I)I"⟩
def dkwX1_boundOf_0 : List UInt8 := [27, 5, 8, 184, 0, 88, 184, 0, 92, 42, 180, 0, 56, 180, 0, 125, 27, 46, 172]
abbrev dktX1_boundOf_0 : List UInt8 := dkwX1_boundOf_0 ++ []
theorem dksX1_boundOf_0 : cX1_boundOf.data.toList.drop 0 = dktX1_boundOf_0 := by decide +kernel
theorem dX1_boundOf_0 : decode cX1_boundOf 0 = .ok (.iload_n 1, 1) := dk_27 (dk_at dksX1_boundOf_0 0 rfl rfl)
theorem dX1_boundOf_1 : decode cX1_boundOf 1 = .ok (.iconst 2, 1) := dk_5 (dk_at dksX1_boundOf_0 1 rfl rfl)
theorem dX1_boundOf_2 : decode cX1_boundOf 2 = .ok (.iconst 5, 1) := dk_8 (dk_at dksX1_boundOf_0 2 rfl rfl)
theorem dX1_boundOf_3 : decode cX1_boundOf 3 = .ok (.invokestatic 88, 3) := dk_184 0 88 (dk_at dksX1_boundOf_0 3 rfl rfl)
theorem dX1_boundOf_6 : decode cX1_boundOf 6 = .ok (.invokestatic 92, 3) := dk_184 0 92 (dk_at dksX1_boundOf_0 6 rfl rfl)
theorem dX1_boundOf_9 : decode cX1_boundOf 9 = .ok (.aload_n 0, 1) := dk_42 (dk_at dksX1_boundOf_0 9 rfl rfl)
theorem dX1_boundOf_10 : decode cX1_boundOf 10 = .ok (.getfield 56, 3) := dk_180 0 56 (dk_at dksX1_boundOf_0 10 rfl rfl)
theorem dX1_boundOf_13 : decode cX1_boundOf 13 = .ok (.getfield 125, 3) := dk_180 0 125 (dk_at dksX1_boundOf_0 13 rfl rfl)
theorem dX1_boundOf_16 : decode cX1_boundOf 16 = .ok (.iload_n 1, 1) := dk_27 (dk_at dksX1_boundOf_0 16 rfl rfl)
theorem dX1_boundOf_17 : decode cX1_boundOf 17 = .ok (.iaload, 1) := dk_46 (dk_at dksX1_boundOf_0 17 rfl rfl)
theorem dX1_boundOf_18 : decode cX1_boundOf 18 = .ok (.ireturn, 1) := dk_172 (dk_at dksX1_boundOf_0 18 rfl rfl)
abbrev cX1_setWeight : ByteArray := prog_1_method_18_code
def yX1_setWeight : MethodName := ⟨RX1, "setWeight", "(II)I"⟩
def dkwX1_setWeight_0 : List UInt8 := [187, 0, 53, 89, 42, 180, 0, 56, 183, 0, 96, 78, 42, 45, 45, 27, 28, 182, 0, 129, 182, 0, 103, 172]
abbrev dktX1_setWeight_0 : List UInt8 := dkwX1_setWeight_0 ++ []
theorem dksX1_setWeight_0 : cX1_setWeight.data.toList.drop 0 = dktX1_setWeight_0 := by decide +kernel
theorem dX1_setWeight_0 : decode cX1_setWeight 0 = .ok (.new 53, 3) := dk_187 0 53 (dk_at dksX1_setWeight_0 0 rfl rfl)
theorem dX1_setWeight_3 : decode cX1_setWeight 3 = .ok (.dup, 1) := dk_89 (dk_at dksX1_setWeight_0 3 rfl rfl)
theorem dX1_setWeight_4 : decode cX1_setWeight 4 = .ok (.aload_n 0, 1) := dk_42 (dk_at dksX1_setWeight_0 4 rfl rfl)
theorem dX1_setWeight_5 : decode cX1_setWeight 5 = .ok (.getfield 56, 3) := dk_180 0 56 (dk_at dksX1_setWeight_0 5 rfl rfl)
theorem dX1_setWeight_8 : decode cX1_setWeight 8 = .ok (.invokespecial 96, 3) := dk_183 0 96 (dk_at dksX1_setWeight_0 8 rfl rfl)
theorem dX1_setWeight_11 : decode cX1_setWeight 11 = .ok (.astore_n 3, 1) := dk_78 (dk_at dksX1_setWeight_0 11 rfl rfl)
theorem dX1_setWeight_12 : decode cX1_setWeight 12 = .ok (.aload_n 0, 1) := dk_42 (dk_at dksX1_setWeight_0 12 rfl rfl)
theorem dX1_setWeight_13 : decode cX1_setWeight 13 = .ok (.aload_n 3, 1) := dk_45 (dk_at dksX1_setWeight_0 13 rfl rfl)
theorem dX1_setWeight_14 : decode cX1_setWeight 14 = .ok (.aload_n 3, 1) := dk_45 (dk_at dksX1_setWeight_0 14 rfl rfl)
theorem dX1_setWeight_15 : decode cX1_setWeight 15 = .ok (.iload_n 1, 1) := dk_27 (dk_at dksX1_setWeight_0 15 rfl rfl)
theorem dX1_setWeight_16 : decode cX1_setWeight 16 = .ok (.iload_n 2, 1) := dk_28 (dk_at dksX1_setWeight_0 16 rfl rfl)
theorem dX1_setWeight_17 : decode cX1_setWeight 17 = .ok (.invokevirtual 129, 3) := dk_182 0 129 (dk_at dksX1_setWeight_0 17 rfl rfl)
theorem dX1_setWeight_20 : decode cX1_setWeight 20 = .ok (.invokevirtual 103, 3) := dk_182 0 103 (dk_at dksX1_setWeight_0 20 rfl rfl)
theorem dX1_setWeight_23 : decode cX1_setWeight 23 = .ok (.ireturn, 1) := dk_172 (dk_at dksX1_setWeight_0 23 rfl rfl)
abbrev cX1_weightOf : ByteArray := prog_1_method_20_code
def yX1_weightOf : MethodName := ⟨RX1, "weightOf", "(I)I"⟩
def dkwX1_weightOf_0 : List UInt8 := [27, 184, 0, 132, 42, 180, 0, 56, 180, 0, 136, 27, 46, 172]
abbrev dktX1_weightOf_0 : List UInt8 := dkwX1_weightOf_0 ++ []
theorem dksX1_weightOf_0 : cX1_weightOf.data.toList.drop 0 = dktX1_weightOf_0 := by decide +kernel
theorem dX1_weightOf_0 : decode cX1_weightOf 0 = .ok (.iload_n 1, 1) := dk_27 (dk_at dksX1_weightOf_0 0 rfl rfl)
theorem dX1_weightOf_1 : decode cX1_weightOf 1 = .ok (.invokestatic 132, 3) := dk_184 0 132 (dk_at dksX1_weightOf_0 1 rfl rfl)
theorem dX1_weightOf_4 : decode cX1_weightOf 4 = .ok (.aload_n 0, 1) := dk_42 (dk_at dksX1_weightOf_0 4 rfl rfl)
theorem dX1_weightOf_5 : decode cX1_weightOf 5 = .ok (.getfield 56, 3) := dk_180 0 56 (dk_at dksX1_weightOf_0 5 rfl rfl)
theorem dX1_weightOf_8 : decode cX1_weightOf 8 = .ok (.getfield 136, 3) := dk_180 0 136 (dk_at dksX1_weightOf_0 8 rfl rfl)
theorem dX1_weightOf_11 : decode cX1_weightOf 11 = .ok (.iload_n 1, 1) := dk_27 (dk_at dksX1_weightOf_0 11 rfl rfl)
theorem dX1_weightOf_12 : decode cX1_weightOf 12 = .ok (.iaload, 1) := dk_46 (dk_at dksX1_weightOf_0 12 rfl rfl)
theorem dX1_weightOf_13 : decode cX1_weightOf 13 = .ok (.ireturn, 1) := dk_172 (dk_at dksX1_weightOf_0 13 rfl rfl)
abbrev cX1_requireZone : ByteArray := prog_1_method_19_code
def yX1_requireZone : MethodName := ⟨RX1, "requireZone", "(I)V"⟩
def dkwX1_requireZone_0 : List UInt8 := [26, 4, 8, 184, 0, 88, 184, 0, 92, 177]
abbrev dktX1_requireZone_0 : List UInt8 := dkwX1_requireZone_0 ++ []
theorem dksX1_requireZone_0 : cX1_requireZone.data.toList.drop 0 = dktX1_requireZone_0 := by decide +kernel
theorem dX1_requireZone_0 : decode cX1_requireZone 0 = .ok (.iload_n 0, 1) := dk_26 (dk_at dksX1_requireZone_0 0 rfl rfl)
theorem dX1_requireZone_1 : decode cX1_requireZone 1 = .ok (.iconst 1, 1) := dk_4 (dk_at dksX1_requireZone_0 1 rfl rfl)
theorem dX1_requireZone_2 : decode cX1_requireZone 2 = .ok (.iconst 5, 1) := dk_8 (dk_at dksX1_requireZone_0 2 rfl rfl)
theorem dX1_requireZone_3 : decode cX1_requireZone 3 = .ok (.invokestatic 88, 3) := dk_184 0 88 (dk_at dksX1_requireZone_0 3 rfl rfl)
theorem dX1_requireZone_6 : decode cX1_requireZone 6 = .ok (.invokestatic 92, 3) := dk_184 0 92 (dk_at dksX1_requireZone_0 6 rfl rfl)
theorem dX1_requireZone_9 : decode cX1_requireZone 9 = .ok (.return_, 1) := dk_177 (dk_at dksX1_requireZone_0 9 rfl rfl)
abbrev cX1_zoneOf : ByteArray := prog_1_method_21_code
def yX1_zoneOf : MethodName := ⟨RX1, "zoneOf", "(II)I"⟩
def dkwX1_zoneOf_1 : List UInt8 := [167, 0, 4, 3, 184, 0, 92, 42, 180, 0, 56, 42, 180, 0, 56, 27, 182, 0, 119, 28, 182, 0, 139, 172]
abbrev dktX1_zoneOf_1 : List UInt8 := dkwX1_zoneOf_1 ++ []
def dkwX1_zoneOf_0 : List UInt8 := [27, 3, 17, 0, 199, 184, 0, 88, 153, 0, 18, 28, 3, 17, 1, 244, 184, 0, 88, 153, 0, 7, 4]
abbrev dktX1_zoneOf_0 : List UInt8 := dkwX1_zoneOf_0 ++ dktX1_zoneOf_1
theorem dksX1_zoneOf_0 : cX1_zoneOf.data.toList.drop 0 = dktX1_zoneOf_0 := by decide +kernel
theorem dksX1_zoneOf_1 : cX1_zoneOf.data.toList.drop 23 = dktX1_zoneOf_1 := dk_seg dksX1_zoneOf_0 23 rfl rfl
theorem dX1_zoneOf_0 : decode cX1_zoneOf 0 = .ok (.iload_n 1, 1) := dk_27 (dk_at dksX1_zoneOf_0 0 rfl rfl)
theorem dX1_zoneOf_1 : decode cX1_zoneOf 1 = .ok (.iconst 0, 1) := dk_3 (dk_at dksX1_zoneOf_0 1 rfl rfl)
theorem dX1_zoneOf_2 : decode cX1_zoneOf 2 = .ok (.sipush 199, 3) := dk_17 0 199 (dk_at dksX1_zoneOf_0 2 rfl rfl)
theorem dX1_zoneOf_5 : decode cX1_zoneOf 5 = .ok (.invokestatic 88, 3) := dk_184 0 88 (dk_at dksX1_zoneOf_0 5 rfl rfl)
theorem dX1_zoneOf_8 : decode cX1_zoneOf 8 = .ok (.ifCond .eq 18, 3) := dk_153 0 18 (dk_at dksX1_zoneOf_0 8 rfl rfl)
theorem dX1_zoneOf_11 : decode cX1_zoneOf 11 = .ok (.iload_n 2, 1) := dk_28 (dk_at dksX1_zoneOf_0 11 rfl rfl)
theorem dX1_zoneOf_12 : decode cX1_zoneOf 12 = .ok (.iconst 0, 1) := dk_3 (dk_at dksX1_zoneOf_0 12 rfl rfl)
theorem dX1_zoneOf_13 : decode cX1_zoneOf 13 = .ok (.sipush 500, 3) := dk_17 1 244 (dk_at dksX1_zoneOf_0 13 rfl rfl)
theorem dX1_zoneOf_16 : decode cX1_zoneOf 16 = .ok (.invokestatic 88, 3) := dk_184 0 88 (dk_at dksX1_zoneOf_0 16 rfl rfl)
theorem dX1_zoneOf_19 : decode cX1_zoneOf 19 = .ok (.ifCond .eq 7, 3) := dk_153 0 7 (dk_at dksX1_zoneOf_0 19 rfl rfl)
theorem dX1_zoneOf_22 : decode cX1_zoneOf 22 = .ok (.iconst 1, 1) := dk_4 (dk_at dksX1_zoneOf_0 22 rfl rfl)
theorem dX1_zoneOf_23 : decode cX1_zoneOf 23 = .ok (.goto 4, 3) := dk_167 0 4 (dk_at dksX1_zoneOf_1 0 rfl rfl)
theorem dX1_zoneOf_26 : decode cX1_zoneOf 26 = .ok (.iconst 0, 1) := dk_3 (dk_at dksX1_zoneOf_1 3 rfl rfl)
theorem dX1_zoneOf_27 : decode cX1_zoneOf 27 = .ok (.invokestatic 92, 3) := dk_184 0 92 (dk_at dksX1_zoneOf_1 4 rfl rfl)
theorem dX1_zoneOf_30 : decode cX1_zoneOf 30 = .ok (.aload_n 0, 1) := dk_42 (dk_at dksX1_zoneOf_1 7 rfl rfl)
theorem dX1_zoneOf_31 : decode cX1_zoneOf 31 = .ok (.getfield 56, 3) := dk_180 0 56 (dk_at dksX1_zoneOf_1 8 rfl rfl)
theorem dX1_zoneOf_34 : decode cX1_zoneOf 34 = .ok (.aload_n 0, 1) := dk_42 (dk_at dksX1_zoneOf_1 11 rfl rfl)
theorem dX1_zoneOf_35 : decode cX1_zoneOf 35 = .ok (.getfield 56, 3) := dk_180 0 56 (dk_at dksX1_zoneOf_1 12 rfl rfl)
theorem dX1_zoneOf_38 : decode cX1_zoneOf 38 = .ok (.iload_n 1, 1) := dk_27 (dk_at dksX1_zoneOf_1 15 rfl rfl)
theorem dX1_zoneOf_39 : decode cX1_zoneOf 39 = .ok (.invokevirtual 119, 3) := dk_182 0 119 (dk_at dksX1_zoneOf_1 16 rfl rfl)
theorem dX1_zoneOf_42 : decode cX1_zoneOf 42 = .ok (.iload_n 2, 1) := dk_28 (dk_at dksX1_zoneOf_1 19 rfl rfl)
theorem dX1_zoneOf_43 : decode cX1_zoneOf 43 = .ok (.invokevirtual 139, 3) := dk_182 0 139 (dk_at dksX1_zoneOf_1 20 rfl rfl)
theorem dX1_zoneOf_46 : decode cX1_zoneOf 46 = .ok (.ireturn, 1) := dk_172 (dk_at dksX1_zoneOf_1 23 rfl rfl)
abbrev cX1_addSession : ByteArray := prog_1_method_22_code
def yX1_addSession : MethodName := ⟨RX1, "addSession", "(I)I"⟩
def dkwX1_addSession_0 : List UInt8 := [187, 0, 53, 89, 42, 180, 0, 56, 183, 0, 96, 77, 42, 44, 44, 27, 182, 0, 142, 182, 0, 103, 172]
abbrev dktX1_addSession_0 : List UInt8 := dkwX1_addSession_0 ++ []
theorem dksX1_addSession_0 : cX1_addSession.data.toList.drop 0 = dktX1_addSession_0 := by decide +kernel
theorem dX1_addSession_0 : decode cX1_addSession 0 = .ok (.new 53, 3) := dk_187 0 53 (dk_at dksX1_addSession_0 0 rfl rfl)
theorem dX1_addSession_3 : decode cX1_addSession 3 = .ok (.dup, 1) := dk_89 (dk_at dksX1_addSession_0 3 rfl rfl)
theorem dX1_addSession_4 : decode cX1_addSession 4 = .ok (.aload_n 0, 1) := dk_42 (dk_at dksX1_addSession_0 4 rfl rfl)
theorem dX1_addSession_5 : decode cX1_addSession 5 = .ok (.getfield 56, 3) := dk_180 0 56 (dk_at dksX1_addSession_0 5 rfl rfl)
theorem dX1_addSession_8 : decode cX1_addSession 8 = .ok (.invokespecial 96, 3) := dk_183 0 96 (dk_at dksX1_addSession_0 8 rfl rfl)
theorem dX1_addSession_11 : decode cX1_addSession 11 = .ok (.astore_n 2, 1) := dk_77 (dk_at dksX1_addSession_0 11 rfl rfl)
theorem dX1_addSession_12 : decode cX1_addSession 12 = .ok (.aload_n 0, 1) := dk_42 (dk_at dksX1_addSession_0 12 rfl rfl)
theorem dX1_addSession_13 : decode cX1_addSession 13 = .ok (.aload_n 2, 1) := dk_44 (dk_at dksX1_addSession_0 13 rfl rfl)
theorem dX1_addSession_14 : decode cX1_addSession 14 = .ok (.aload_n 2, 1) := dk_44 (dk_at dksX1_addSession_0 14 rfl rfl)
theorem dX1_addSession_15 : decode cX1_addSession 15 = .ok (.iload_n 1, 1) := dk_27 (dk_at dksX1_addSession_0 15 rfl rfl)
theorem dX1_addSession_16 : decode cX1_addSession 16 = .ok (.invokevirtual 142, 3) := dk_182 0 142 (dk_at dksX1_addSession_0 16 rfl rfl)
theorem dX1_addSession_19 : decode cX1_addSession 19 = .ok (.invokevirtual 103, 3) := dk_182 0 103 (dk_at dksX1_addSession_0 19 rfl rfl)
theorem dX1_addSession_22 : decode cX1_addSession 22 = .ok (.ireturn, 1) := dk_172 (dk_at dksX1_addSession_0 22 rfl rfl)
abbrev cX1_addPart : ByteArray := prog_1_method_23_code
def yX1_addPart : MethodName := ⟨RX1, "addPart", "(III)I"⟩
def dkwX1_addPart_1 : List UInt8 := [182, 0, 103, 172]
abbrev dktX1_addPart_1 : List UInt8 := dkwX1_addPart_1 ++ []
def dkwX1_addPart_0 : List UInt8 := [187, 0, 53, 89, 42, 180, 0, 56, 183, 0, 96, 58, 4, 42, 25, 4, 25, 4, 27, 28, 29, 182, 0, 145]
abbrev dktX1_addPart_0 : List UInt8 := dkwX1_addPart_0 ++ dktX1_addPart_1
theorem dksX1_addPart_0 : cX1_addPart.data.toList.drop 0 = dktX1_addPart_0 := by decide +kernel
theorem dksX1_addPart_1 : cX1_addPart.data.toList.drop 24 = dktX1_addPart_1 := dk_seg dksX1_addPart_0 24 rfl rfl
theorem dX1_addPart_0 : decode cX1_addPart 0 = .ok (.new 53, 3) := dk_187 0 53 (dk_at dksX1_addPart_0 0 rfl rfl)
theorem dX1_addPart_3 : decode cX1_addPart 3 = .ok (.dup, 1) := dk_89 (dk_at dksX1_addPart_0 3 rfl rfl)
theorem dX1_addPart_4 : decode cX1_addPart 4 = .ok (.aload_n 0, 1) := dk_42 (dk_at dksX1_addPart_0 4 rfl rfl)
theorem dX1_addPart_5 : decode cX1_addPart 5 = .ok (.getfield 56, 3) := dk_180 0 56 (dk_at dksX1_addPart_0 5 rfl rfl)
theorem dX1_addPart_8 : decode cX1_addPart 8 = .ok (.invokespecial 96, 3) := dk_183 0 96 (dk_at dksX1_addPart_0 8 rfl rfl)
theorem dX1_addPart_11 : decode cX1_addPart 11 = .ok (.astore 4, 2) := dk_58 4 (dk_at dksX1_addPart_0 11 rfl rfl)
theorem dX1_addPart_13 : decode cX1_addPart 13 = .ok (.aload_n 0, 1) := dk_42 (dk_at dksX1_addPart_0 13 rfl rfl)
theorem dX1_addPart_14 : decode cX1_addPart 14 = .ok (.aload 4, 2) := dk_25 4 (dk_at dksX1_addPart_0 14 rfl rfl)
theorem dX1_addPart_16 : decode cX1_addPart 16 = .ok (.aload 4, 2) := dk_25 4 (dk_at dksX1_addPart_0 16 rfl rfl)
theorem dX1_addPart_18 : decode cX1_addPart 18 = .ok (.iload_n 1, 1) := dk_27 (dk_at dksX1_addPart_0 18 rfl rfl)
theorem dX1_addPart_19 : decode cX1_addPart 19 = .ok (.iload_n 2, 1) := dk_28 (dk_at dksX1_addPart_0 19 rfl rfl)
theorem dX1_addPart_20 : decode cX1_addPart 20 = .ok (.iload_n 3, 1) := dk_29 (dk_at dksX1_addPart_0 20 rfl rfl)
theorem dX1_addPart_21 : decode cX1_addPart 21 = .ok (.invokevirtual 145, 3) := dk_182 0 145 (dk_at dksX1_addPart_0 21 rfl rfl)
theorem dX1_addPart_24 : decode cX1_addPart 24 = .ok (.invokevirtual 103, 3) := dk_182 0 103 (dk_at dksX1_addPart_1 0 rfl rfl)
theorem dX1_addPart_27 : decode cX1_addPart 27 = .ok (.ireturn, 1) := dk_172 (dk_at dksX1_addPart_1 3 rfl rfl)
abbrev cX1_clearParts : ByteArray := prog_1_method_24_code
def yX1_clearParts : MethodName := ⟨RX1, "clearParts", "(I)I"⟩
def dkwX1_clearParts_0 : List UInt8 := [187, 0, 53, 89, 42, 180, 0, 56, 183, 0, 96, 77, 42, 44, 44, 27, 182, 0, 149, 182, 0, 103, 172]
abbrev dktX1_clearParts_0 : List UInt8 := dkwX1_clearParts_0 ++ []
theorem dksX1_clearParts_0 : cX1_clearParts.data.toList.drop 0 = dktX1_clearParts_0 := by decide +kernel
theorem dX1_clearParts_0 : decode cX1_clearParts 0 = .ok (.new 53, 3) := dk_187 0 53 (dk_at dksX1_clearParts_0 0 rfl rfl)
theorem dX1_clearParts_3 : decode cX1_clearParts 3 = .ok (.dup, 1) := dk_89 (dk_at dksX1_clearParts_0 3 rfl rfl)
theorem dX1_clearParts_4 : decode cX1_clearParts 4 = .ok (.aload_n 0, 1) := dk_42 (dk_at dksX1_clearParts_0 4 rfl rfl)
theorem dX1_clearParts_5 : decode cX1_clearParts 5 = .ok (.getfield 56, 3) := dk_180 0 56 (dk_at dksX1_clearParts_0 5 rfl rfl)
theorem dX1_clearParts_8 : decode cX1_clearParts 8 = .ok (.invokespecial 96, 3) := dk_183 0 96 (dk_at dksX1_clearParts_0 8 rfl rfl)
theorem dX1_clearParts_11 : decode cX1_clearParts 11 = .ok (.astore_n 2, 1) := dk_77 (dk_at dksX1_clearParts_0 11 rfl rfl)
theorem dX1_clearParts_12 : decode cX1_clearParts 12 = .ok (.aload_n 0, 1) := dk_42 (dk_at dksX1_clearParts_0 12 rfl rfl)
theorem dX1_clearParts_13 : decode cX1_clearParts 13 = .ok (.aload_n 2, 1) := dk_44 (dk_at dksX1_clearParts_0 13 rfl rfl)
theorem dX1_clearParts_14 : decode cX1_clearParts 14 = .ok (.aload_n 2, 1) := dk_44 (dk_at dksX1_clearParts_0 14 rfl rfl)
theorem dX1_clearParts_15 : decode cX1_clearParts 15 = .ok (.iload_n 1, 1) := dk_27 (dk_at dksX1_clearParts_0 15 rfl rfl)
theorem dX1_clearParts_16 : decode cX1_clearParts 16 = .ok (.invokevirtual 149, 3) := dk_182 0 149 (dk_at dksX1_clearParts_0 16 rfl rfl)
theorem dX1_clearParts_19 : decode cX1_clearParts 19 = .ok (.invokevirtual 103, 3) := dk_182 0 103 (dk_at dksX1_clearParts_0 19 rfl rfl)
theorem dX1_clearParts_22 : decode cX1_clearParts 22 = .ok (.ireturn, 1) := dk_172 (dk_at dksX1_clearParts_0 22 rfl rfl)
abbrev cX1_moveSession : ByteArray := prog_1_method_25_code
def yX1_moveSession : MethodName := ⟨RX1, "moveSession", "(II)I"⟩
def dkwX1_moveSession_0 : List UInt8 := [187, 0, 53, 89, 42, 180, 0, 56, 183, 0, 96, 78, 42, 45, 45, 27, 28, 182, 0, 152, 182, 0, 103, 172]
abbrev dktX1_moveSession_0 : List UInt8 := dkwX1_moveSession_0 ++ []
theorem dksX1_moveSession_0 : cX1_moveSession.data.toList.drop 0 = dktX1_moveSession_0 := by decide +kernel
theorem dX1_moveSession_0 : decode cX1_moveSession 0 = .ok (.new 53, 3) := dk_187 0 53 (dk_at dksX1_moveSession_0 0 rfl rfl)
theorem dX1_moveSession_3 : decode cX1_moveSession 3 = .ok (.dup, 1) := dk_89 (dk_at dksX1_moveSession_0 3 rfl rfl)
theorem dX1_moveSession_4 : decode cX1_moveSession 4 = .ok (.aload_n 0, 1) := dk_42 (dk_at dksX1_moveSession_0 4 rfl rfl)
theorem dX1_moveSession_5 : decode cX1_moveSession 5 = .ok (.getfield 56, 3) := dk_180 0 56 (dk_at dksX1_moveSession_0 5 rfl rfl)
theorem dX1_moveSession_8 : decode cX1_moveSession 8 = .ok (.invokespecial 96, 3) := dk_183 0 96 (dk_at dksX1_moveSession_0 8 rfl rfl)
theorem dX1_moveSession_11 : decode cX1_moveSession 11 = .ok (.astore_n 3, 1) := dk_78 (dk_at dksX1_moveSession_0 11 rfl rfl)
theorem dX1_moveSession_12 : decode cX1_moveSession 12 = .ok (.aload_n 0, 1) := dk_42 (dk_at dksX1_moveSession_0 12 rfl rfl)
theorem dX1_moveSession_13 : decode cX1_moveSession 13 = .ok (.aload_n 3, 1) := dk_45 (dk_at dksX1_moveSession_0 13 rfl rfl)
theorem dX1_moveSession_14 : decode cX1_moveSession 14 = .ok (.aload_n 3, 1) := dk_45 (dk_at dksX1_moveSession_0 14 rfl rfl)
theorem dX1_moveSession_15 : decode cX1_moveSession 15 = .ok (.iload_n 1, 1) := dk_27 (dk_at dksX1_moveSession_0 15 rfl rfl)
theorem dX1_moveSession_16 : decode cX1_moveSession 16 = .ok (.iload_n 2, 1) := dk_28 (dk_at dksX1_moveSession_0 16 rfl rfl)
theorem dX1_moveSession_17 : decode cX1_moveSession 17 = .ok (.invokevirtual 152, 3) := dk_182 0 152 (dk_at dksX1_moveSession_0 17 rfl rfl)
theorem dX1_moveSession_20 : decode cX1_moveSession 20 = .ok (.invokevirtual 103, 3) := dk_182 0 103 (dk_at dksX1_moveSession_0 20 rfl rfl)
theorem dX1_moveSession_23 : decode cX1_moveSession 23 = .ok (.ireturn, 1) := dk_172 (dk_at dksX1_moveSession_0 23 rfl rfl)
abbrev cX1_removeSession : ByteArray := prog_1_method_26_code
def yX1_removeSession : MethodName := ⟨RX1, "removeSession", "(I)I"⟩
def dkwX1_removeSession_0 : List UInt8 := [187, 0, 53, 89, 42, 180, 0, 56, 183, 0, 96, 77, 42, 44, 44, 27, 182, 0, 155, 182, 0, 103, 172]
abbrev dktX1_removeSession_0 : List UInt8 := dkwX1_removeSession_0 ++ []
theorem dksX1_removeSession_0 : cX1_removeSession.data.toList.drop 0 = dktX1_removeSession_0 := by decide +kernel
theorem dX1_removeSession_0 : decode cX1_removeSession 0 = .ok (.new 53, 3) := dk_187 0 53 (dk_at dksX1_removeSession_0 0 rfl rfl)
theorem dX1_removeSession_3 : decode cX1_removeSession 3 = .ok (.dup, 1) := dk_89 (dk_at dksX1_removeSession_0 3 rfl rfl)
theorem dX1_removeSession_4 : decode cX1_removeSession 4 = .ok (.aload_n 0, 1) := dk_42 (dk_at dksX1_removeSession_0 4 rfl rfl)
theorem dX1_removeSession_5 : decode cX1_removeSession 5 = .ok (.getfield 56, 3) := dk_180 0 56 (dk_at dksX1_removeSession_0 5 rfl rfl)
theorem dX1_removeSession_8 : decode cX1_removeSession 8 = .ok (.invokespecial 96, 3) := dk_183 0 96 (dk_at dksX1_removeSession_0 8 rfl rfl)
theorem dX1_removeSession_11 : decode cX1_removeSession 11 = .ok (.astore_n 2, 1) := dk_77 (dk_at dksX1_removeSession_0 11 rfl rfl)
theorem dX1_removeSession_12 : decode cX1_removeSession 12 = .ok (.aload_n 0, 1) := dk_42 (dk_at dksX1_removeSession_0 12 rfl rfl)
theorem dX1_removeSession_13 : decode cX1_removeSession 13 = .ok (.aload_n 2, 1) := dk_44 (dk_at dksX1_removeSession_0 13 rfl rfl)
theorem dX1_removeSession_14 : decode cX1_removeSession 14 = .ok (.aload_n 2, 1) := dk_44 (dk_at dksX1_removeSession_0 14 rfl rfl)
theorem dX1_removeSession_15 : decode cX1_removeSession 15 = .ok (.iload_n 1, 1) := dk_27 (dk_at dksX1_removeSession_0 15 rfl rfl)
theorem dX1_removeSession_16 : decode cX1_removeSession 16 = .ok (.invokevirtual 155, 3) := dk_182 0 155 (dk_at dksX1_removeSession_0 16 rfl rfl)
theorem dX1_removeSession_19 : decode cX1_removeSession 19 = .ok (.invokevirtual 103, 3) := dk_182 0 103 (dk_at dksX1_removeSession_0 19 rfl rfl)
theorem dX1_removeSession_22 : decode cX1_removeSession 22 = .ok (.ireturn, 1) := dk_172 (dk_at dksX1_removeSession_0 22 rfl rfl)
abbrev cX1_sessionAt : ByteArray := prog_1_method_28_code
def yX1_sessionAt : MethodName := ⟨RX1, "sessionAt", "(I)I"⟩
def dkwX1_sessionAt_1 : List UInt8 := [180, 0, 158, 27, 182, 0, 164, 192, 0, 168, 180, 0, 170, 172]
abbrev dktX1_sessionAt_1 : List UInt8 := dkwX1_sessionAt_1 ++ []
def dkwX1_sessionAt_0 : List UInt8 := [27, 3, 42, 180, 0, 56, 180, 0, 158, 182, 0, 118, 4, 100, 184, 0, 88, 184, 0, 161, 42, 180, 0, 56]
abbrev dktX1_sessionAt_0 : List UInt8 := dkwX1_sessionAt_0 ++ dktX1_sessionAt_1
theorem dksX1_sessionAt_0 : cX1_sessionAt.data.toList.drop 0 = dktX1_sessionAt_0 := by decide +kernel
theorem dksX1_sessionAt_1 : cX1_sessionAt.data.toList.drop 24 = dktX1_sessionAt_1 := dk_seg dksX1_sessionAt_0 24 rfl rfl
theorem dX1_sessionAt_0 : decode cX1_sessionAt 0 = .ok (.iload_n 1, 1) := dk_27 (dk_at dksX1_sessionAt_0 0 rfl rfl)
theorem dX1_sessionAt_1 : decode cX1_sessionAt 1 = .ok (.iconst 0, 1) := dk_3 (dk_at dksX1_sessionAt_0 1 rfl rfl)
theorem dX1_sessionAt_2 : decode cX1_sessionAt 2 = .ok (.aload_n 0, 1) := dk_42 (dk_at dksX1_sessionAt_0 2 rfl rfl)
theorem dX1_sessionAt_3 : decode cX1_sessionAt 3 = .ok (.getfield 56, 3) := dk_180 0 56 (dk_at dksX1_sessionAt_0 3 rfl rfl)
theorem dX1_sessionAt_6 : decode cX1_sessionAt 6 = .ok (.getfield 158, 3) := dk_180 0 158 (dk_at dksX1_sessionAt_0 6 rfl rfl)
theorem dX1_sessionAt_9 : decode cX1_sessionAt 9 = .ok (.invokevirtual 118, 3) := dk_182 0 118 (dk_at dksX1_sessionAt_0 9 rfl rfl)
theorem dX1_sessionAt_12 : decode cX1_sessionAt 12 = .ok (.iconst 1, 1) := dk_4 (dk_at dksX1_sessionAt_0 12 rfl rfl)
theorem dX1_sessionAt_13 : decode cX1_sessionAt 13 = .ok (.isub, 1) := dk_100 (dk_at dksX1_sessionAt_0 13 rfl rfl)
theorem dX1_sessionAt_14 : decode cX1_sessionAt 14 = .ok (.invokestatic 88, 3) := dk_184 0 88 (dk_at dksX1_sessionAt_0 14 rfl rfl)
theorem dX1_sessionAt_17 : decode cX1_sessionAt 17 = .ok (.invokestatic 161, 3) := dk_184 0 161 (dk_at dksX1_sessionAt_0 17 rfl rfl)
theorem dX1_sessionAt_20 : decode cX1_sessionAt 20 = .ok (.aload_n 0, 1) := dk_42 (dk_at dksX1_sessionAt_0 20 rfl rfl)
theorem dX1_sessionAt_21 : decode cX1_sessionAt 21 = .ok (.getfield 56, 3) := dk_180 0 56 (dk_at dksX1_sessionAt_0 21 rfl rfl)
theorem dX1_sessionAt_24 : decode cX1_sessionAt 24 = .ok (.getfield 158, 3) := dk_180 0 158 (dk_at dksX1_sessionAt_1 0 rfl rfl)
theorem dX1_sessionAt_27 : decode cX1_sessionAt 27 = .ok (.iload_n 1, 1) := dk_27 (dk_at dksX1_sessionAt_1 3 rfl rfl)
theorem dX1_sessionAt_28 : decode cX1_sessionAt 28 = .ok (.invokevirtual 164, 3) := dk_182 0 164 (dk_at dksX1_sessionAt_1 4 rfl rfl)
theorem dX1_sessionAt_31 : decode cX1_sessionAt 31 = .ok (.checkcast 168, 3) := dk_192 0 168 (dk_at dksX1_sessionAt_1 7 rfl rfl)
theorem dX1_sessionAt_34 : decode cX1_sessionAt 34 = .ok (.getfield 170, 3) := dk_180 0 170 (dk_at dksX1_sessionAt_1 10 rfl rfl)
theorem dX1_sessionAt_37 : decode cX1_sessionAt 37 = .ok (.ireturn, 1) := dk_172 (dk_at dksX1_sessionAt_1 13 rfl rfl)
abbrev cX1_requireIndex : ByteArray := prog_1_method_4_code
def yX1_requireIndex : MethodName := ⟨RX1, "requireIndex", "(Z)V"⟩
def dkwX1_requireIndex_0 : List UInt8 := [26, 154, 0, 13, 187, 0, 14, 89, 18, 16, 183, 0, 18, 191, 177]
abbrev dktX1_requireIndex_0 : List UInt8 := dkwX1_requireIndex_0 ++ []
theorem dksX1_requireIndex_0 : cX1_requireIndex.data.toList.drop 0 = dktX1_requireIndex_0 := by decide +kernel
theorem dX1_requireIndex_0 : decode cX1_requireIndex 0 = .ok (.iload_n 0, 1) := dk_26 (dk_at dksX1_requireIndex_0 0 rfl rfl)
theorem dX1_requireIndex_1 : decode cX1_requireIndex 1 = .ok (.ifCond .ne 13, 3) := dk_154 0 13 (dk_at dksX1_requireIndex_0 1 rfl rfl)
theorem dX1_requireIndex_4 : decode cX1_requireIndex 4 = .ok (.new 14, 3) := dk_187 0 14 (dk_at dksX1_requireIndex_0 4 rfl rfl)
theorem dX1_requireIndex_7 : decode cX1_requireIndex 7 = .ok (.dup, 1) := dk_89 (dk_at dksX1_requireIndex_0 7 rfl rfl)
theorem dX1_requireIndex_8 : decode cX1_requireIndex 8 = .ok (.ldc 16, 2) := dk_18 16 (dk_at dksX1_requireIndex_0 8 rfl rfl)
theorem dX1_requireIndex_10 : decode cX1_requireIndex 10 = .ok (.invokespecial 18, 3) := dk_183 0 18 (dk_at dksX1_requireIndex_0 10 rfl rfl)
theorem dX1_requireIndex_13 : decode cX1_requireIndex 13 = .ok (.athrow, 1) := dk_191 (dk_at dksX1_requireIndex_0 13 rfl rfl)
theorem dX1_requireIndex_14 : decode cX1_requireIndex 14 = .ok (.return_, 1) := dk_177 (dk_at dksX1_requireIndex_0 14 rfl rfl)
abbrev cX1_dayOf : ByteArray := prog_1_method_29_code
def yX1_dayOf : MethodName := ⟨RX1, "dayOf", "(I)I"⟩
def dkwX1_dayOf_0 : List UInt8 := [42, 180, 0, 56, 27, 182, 0, 173, 182, 0, 177, 172]
abbrev dktX1_dayOf_0 : List UInt8 := dkwX1_dayOf_0 ++ []
theorem dksX1_dayOf_0 : cX1_dayOf.data.toList.drop 0 = dktX1_dayOf_0 := by decide +kernel
theorem dX1_dayOf_0 : decode cX1_dayOf 0 = .ok (.aload_n 0, 1) := dk_42 (dk_at dksX1_dayOf_0 0 rfl rfl)
theorem dX1_dayOf_1 : decode cX1_dayOf 1 = .ok (.getfield 56, 3) := dk_180 0 56 (dk_at dksX1_dayOf_0 1 rfl rfl)
theorem dX1_dayOf_4 : decode cX1_dayOf 4 = .ok (.iload_n 1, 1) := dk_27 (dk_at dksX1_dayOf_0 4 rfl rfl)
theorem dX1_dayOf_5 : decode cX1_dayOf 5 = .ok (.invokevirtual 173, 3) := dk_182 0 173 (dk_at dksX1_dayOf_0 5 rfl rfl)
theorem dX1_dayOf_8 : decode cX1_dayOf 8 = .ok (.invokevirtual 177, 3) := dk_182 0 177 (dk_at dksX1_dayOf_0 8 rfl rfl)
theorem dX1_dayOf_11 : decode cX1_dayOf 11 = .ok (.ireturn, 1) := dk_172 (dk_at dksX1_dayOf_0 11 rfl rfl)
abbrev cX1_minutesOf : ByteArray := prog_1_method_30_code
def yX1_minutesOf : MethodName := ⟨RX1, "minutesOf", "(I)I"⟩
def dkwX1_minutesOf_0 : List UInt8 := [42, 180, 0, 56, 27, 182, 0, 173, 182, 0, 178, 172]
abbrev dktX1_minutesOf_0 : List UInt8 := dkwX1_minutesOf_0 ++ []
theorem dksX1_minutesOf_0 : cX1_minutesOf.data.toList.drop 0 = dktX1_minutesOf_0 := by decide +kernel
theorem dX1_minutesOf_0 : decode cX1_minutesOf 0 = .ok (.aload_n 0, 1) := dk_42 (dk_at dksX1_minutesOf_0 0 rfl rfl)
theorem dX1_minutesOf_1 : decode cX1_minutesOf 1 = .ok (.getfield 56, 3) := dk_180 0 56 (dk_at dksX1_minutesOf_0 1 rfl rfl)
theorem dX1_minutesOf_4 : decode cX1_minutesOf 4 = .ok (.iload_n 1, 1) := dk_27 (dk_at dksX1_minutesOf_0 4 rfl rfl)
theorem dX1_minutesOf_5 : decode cX1_minutesOf 5 = .ok (.invokevirtual 173, 3) := dk_182 0 173 (dk_at dksX1_minutesOf_0 5 rfl rfl)
theorem dX1_minutesOf_8 : decode cX1_minutesOf 8 = .ok (.invokevirtual 178, 3) := dk_182 0 178 (dk_at dksX1_minutesOf_0 8 rfl rfl)
theorem dX1_minutesOf_11 : decode cX1_minutesOf 11 = .ok (.ireturn, 1) := dk_172 (dk_at dksX1_minutesOf_0 11 rfl rfl)
abbrev cX1_minutesInZone : ByteArray := prog_1_method_31_code
def yX1_minutesInZone : MethodName := ⟨RX1, "minutesInZone", "(II)I"⟩
def dkwX1_minutesInZone_0 : List UInt8 := [42, 180, 0, 56, 27, 182, 0, 173, 78, 28, 184, 0, 132, 42, 180, 0, 56, 45, 28, 182, 0, 181, 172]
abbrev dktX1_minutesInZone_0 : List UInt8 := dkwX1_minutesInZone_0 ++ []
theorem dksX1_minutesInZone_0 : cX1_minutesInZone.data.toList.drop 0 = dktX1_minutesInZone_0 := by decide +kernel
theorem dX1_minutesInZone_0 : decode cX1_minutesInZone 0 = .ok (.aload_n 0, 1) := dk_42 (dk_at dksX1_minutesInZone_0 0 rfl rfl)
theorem dX1_minutesInZone_1 : decode cX1_minutesInZone 1 = .ok (.getfield 56, 3) := dk_180 0 56 (dk_at dksX1_minutesInZone_0 1 rfl rfl)
theorem dX1_minutesInZone_4 : decode cX1_minutesInZone 4 = .ok (.iload_n 1, 1) := dk_27 (dk_at dksX1_minutesInZone_0 4 rfl rfl)
theorem dX1_minutesInZone_5 : decode cX1_minutesInZone 5 = .ok (.invokevirtual 173, 3) := dk_182 0 173 (dk_at dksX1_minutesInZone_0 5 rfl rfl)
theorem dX1_minutesInZone_8 : decode cX1_minutesInZone 8 = .ok (.astore_n 3, 1) := dk_78 (dk_at dksX1_minutesInZone_0 8 rfl rfl)
theorem dX1_minutesInZone_9 : decode cX1_minutesInZone 9 = .ok (.iload_n 2, 1) := dk_28 (dk_at dksX1_minutesInZone_0 9 rfl rfl)
theorem dX1_minutesInZone_10 : decode cX1_minutesInZone 10 = .ok (.invokestatic 132, 3) := dk_184 0 132 (dk_at dksX1_minutesInZone_0 10 rfl rfl)
theorem dX1_minutesInZone_13 : decode cX1_minutesInZone 13 = .ok (.aload_n 0, 1) := dk_42 (dk_at dksX1_minutesInZone_0 13 rfl rfl)
theorem dX1_minutesInZone_14 : decode cX1_minutesInZone 14 = .ok (.getfield 56, 3) := dk_180 0 56 (dk_at dksX1_minutesInZone_0 14 rfl rfl)
theorem dX1_minutesInZone_17 : decode cX1_minutesInZone 17 = .ok (.aload_n 3, 1) := dk_45 (dk_at dksX1_minutesInZone_0 17 rfl rfl)
theorem dX1_minutesInZone_18 : decode cX1_minutesInZone 18 = .ok (.iload_n 2, 1) := dk_28 (dk_at dksX1_minutesInZone_0 18 rfl rfl)
theorem dX1_minutesInZone_19 : decode cX1_minutesInZone 19 = .ok (.invokevirtual 181, 3) := dk_182 0 181 (dk_at dksX1_minutesInZone_0 19 rfl rfl)
theorem dX1_minutesInZone_22 : decode cX1_minutesInZone 22 = .ok (.ireturn, 1) := dk_172 (dk_at dksX1_minutesInZone_0 22 rfl rfl)
abbrev cX1_loadOf : ByteArray := prog_1_method_32_code
def yX1_loadOf : MethodName := ⟨RX1, "loadOf", "(I)I"⟩
def dkwX1_loadOf_0 : List UInt8 := [42, 180, 0, 56, 42, 180, 0, 56, 27, 182, 0, 173, 182, 0, 185, 172]
abbrev dktX1_loadOf_0 : List UInt8 := dkwX1_loadOf_0 ++ []
theorem dksX1_loadOf_0 : cX1_loadOf.data.toList.drop 0 = dktX1_loadOf_0 := by decide +kernel
theorem dX1_loadOf_0 : decode cX1_loadOf 0 = .ok (.aload_n 0, 1) := dk_42 (dk_at dksX1_loadOf_0 0 rfl rfl)
theorem dX1_loadOf_1 : decode cX1_loadOf 1 = .ok (.getfield 56, 3) := dk_180 0 56 (dk_at dksX1_loadOf_0 1 rfl rfl)
theorem dX1_loadOf_4 : decode cX1_loadOf 4 = .ok (.aload_n 0, 1) := dk_42 (dk_at dksX1_loadOf_0 4 rfl rfl)
theorem dX1_loadOf_5 : decode cX1_loadOf 5 = .ok (.getfield 56, 3) := dk_180 0 56 (dk_at dksX1_loadOf_0 5 rfl rfl)
theorem dX1_loadOf_8 : decode cX1_loadOf 8 = .ok (.iload_n 1, 1) := dk_27 (dk_at dksX1_loadOf_0 8 rfl rfl)
theorem dX1_loadOf_9 : decode cX1_loadOf 9 = .ok (.invokevirtual 173, 3) := dk_182 0 173 (dk_at dksX1_loadOf_0 9 rfl rfl)
theorem dX1_loadOf_12 : decode cX1_loadOf 12 = .ok (.invokevirtual 185, 3) := dk_182 0 185 (dk_at dksX1_loadOf_0 12 rfl rfl)
theorem dX1_loadOf_15 : decode cX1_loadOf 15 = .ok (.ireturn, 1) := dk_172 (dk_at dksX1_loadOf_0 15 rfl rfl)
abbrev cX1_loadOn : ByteArray := prog_1_method_33_code
def yX1_loadOn : MethodName := ⟨RX1, "loadOn", "(I)I"⟩
def dkwX1_loadOn_0 : List UInt8 := [42, 27, 182, 0, 189, 42, 180, 0, 56, 27, 182, 0, 192, 172]
abbrev dktX1_loadOn_0 : List UInt8 := dkwX1_loadOn_0 ++ []
theorem dksX1_loadOn_0 : cX1_loadOn.data.toList.drop 0 = dktX1_loadOn_0 := by decide +kernel
theorem dX1_loadOn_0 : decode cX1_loadOn 0 = .ok (.aload_n 0, 1) := dk_42 (dk_at dksX1_loadOn_0 0 rfl rfl)
theorem dX1_loadOn_1 : decode cX1_loadOn 1 = .ok (.iload_n 1, 1) := dk_27 (dk_at dksX1_loadOn_0 1 rfl rfl)
theorem dX1_loadOn_2 : decode cX1_loadOn 2 = .ok (.invokevirtual 189, 3) := dk_182 0 189 (dk_at dksX1_loadOn_0 2 rfl rfl)
theorem dX1_loadOn_5 : decode cX1_loadOn 5 = .ok (.aload_n 0, 1) := dk_42 (dk_at dksX1_loadOn_0 5 rfl rfl)
theorem dX1_loadOn_6 : decode cX1_loadOn 6 = .ok (.getfield 56, 3) := dk_180 0 56 (dk_at dksX1_loadOn_0 6 rfl rfl)
theorem dX1_loadOn_9 : decode cX1_loadOn 9 = .ok (.iload_n 1, 1) := dk_27 (dk_at dksX1_loadOn_0 9 rfl rfl)
theorem dX1_loadOn_10 : decode cX1_loadOn 10 = .ok (.invokevirtual 192, 3) := dk_182 0 192 (dk_at dksX1_loadOn_0 10 rfl rfl)
theorem dX1_loadOn_13 : decode cX1_loadOn 13 = .ok (.ireturn, 1) := dk_172 (dk_at dksX1_loadOn_0 13 rfl rfl)
abbrev cX1_requireDay : ByteArray := prog_1_method_9_code
def yX1_requireDay : MethodName := ⟨RX1, "requireDay", "(I)V"⟩
def dkwX1_requireDay_0 : List UInt8 := [27, 3, 42, 180, 0, 56, 180, 0, 84, 184, 0, 88, 184, 0, 92, 177]
abbrev dktX1_requireDay_0 : List UInt8 := dkwX1_requireDay_0 ++ []
theorem dksX1_requireDay_0 : cX1_requireDay.data.toList.drop 0 = dktX1_requireDay_0 := by decide +kernel
theorem dX1_requireDay_0 : decode cX1_requireDay 0 = .ok (.iload_n 1, 1) := dk_27 (dk_at dksX1_requireDay_0 0 rfl rfl)
theorem dX1_requireDay_1 : decode cX1_requireDay 1 = .ok (.iconst 0, 1) := dk_3 (dk_at dksX1_requireDay_0 1 rfl rfl)
theorem dX1_requireDay_2 : decode cX1_requireDay 2 = .ok (.aload_n 0, 1) := dk_42 (dk_at dksX1_requireDay_0 2 rfl rfl)
theorem dX1_requireDay_3 : decode cX1_requireDay 3 = .ok (.getfield 56, 3) := dk_180 0 56 (dk_at dksX1_requireDay_0 3 rfl rfl)
theorem dX1_requireDay_6 : decode cX1_requireDay 6 = .ok (.getfield 84, 3) := dk_180 0 84 (dk_at dksX1_requireDay_0 6 rfl rfl)
theorem dX1_requireDay_9 : decode cX1_requireDay 9 = .ok (.invokestatic 88, 3) := dk_184 0 88 (dk_at dksX1_requireDay_0 9 rfl rfl)
theorem dX1_requireDay_12 : decode cX1_requireDay 12 = .ok (.invokestatic 92, 3) := dk_184 0 92 (dk_at dksX1_requireDay_0 12 rfl rfl)
theorem dX1_requireDay_15 : decode cX1_requireDay 15 = .ok (.return_, 1) := dk_177 (dk_at dksX1_requireDay_0 15 rfl rfl)
abbrev cX1_zoneShare : ByteArray := prog_1_method_34_code
def yX1_zoneShare : MethodName := ⟨RX1, "zoneShare", "(I)F"⟩
def dkwX1_zoneShare_3 : List UInt8 := [154, 0, 13, 187, 0, 195, 89, 18, 197, 183, 0, 199, 191, 29, 134, 28, 134, 110, 174]
abbrev dktX1_zoneShare_3 : List UInt8 := dkwX1_zoneShare_3 ++ []
def dkwX1_zoneShare_2 : List UInt8 := [182, 0, 178, 96, 61, 29, 42, 180, 0, 56, 25, 5, 27, 182, 0, 181, 96, 62, 167, 255, 213, 28]
abbrev dktX1_zoneShare_2 : List UInt8 := dkwX1_zoneShare_2 ++ dktX1_zoneShare_3
def dkwX1_zoneShare_1 : List UInt8 := [185, 0, 32, 1, 0, 153, 0, 39, 25, 4, 185, 0, 38, 1, 0, 192, 0, 168, 58, 5, 28, 25, 5]
abbrev dktX1_zoneShare_1 : List UInt8 := dkwX1_zoneShare_1 ++ dktX1_zoneShare_2
def dkwX1_zoneShare_0 : List UInt8 := [27, 184, 0, 132, 3, 61, 3, 62, 42, 180, 0, 56, 180, 0, 158, 182, 0, 26, 58, 4, 25, 4]
abbrev dktX1_zoneShare_0 : List UInt8 := dkwX1_zoneShare_0 ++ dktX1_zoneShare_1
theorem dksX1_zoneShare_0 : cX1_zoneShare.data.toList.drop 0 = dktX1_zoneShare_0 := by decide +kernel
theorem dksX1_zoneShare_1 : cX1_zoneShare.data.toList.drop 22 = dktX1_zoneShare_1 := dk_seg dksX1_zoneShare_0 22 rfl rfl
theorem dksX1_zoneShare_2 : cX1_zoneShare.data.toList.drop 45 = dktX1_zoneShare_2 := dk_seg dksX1_zoneShare_1 23 rfl rfl
theorem dksX1_zoneShare_3 : cX1_zoneShare.data.toList.drop 67 = dktX1_zoneShare_3 := dk_seg dksX1_zoneShare_2 22 rfl rfl
theorem dX1_zoneShare_0 : decode cX1_zoneShare 0 = .ok (.iload_n 1, 1) := dk_27 (dk_at dksX1_zoneShare_0 0 rfl rfl)
theorem dX1_zoneShare_1 : decode cX1_zoneShare 1 = .ok (.invokestatic 132, 3) := dk_184 0 132 (dk_at dksX1_zoneShare_0 1 rfl rfl)
theorem dX1_zoneShare_4 : decode cX1_zoneShare 4 = .ok (.iconst 0, 1) := dk_3 (dk_at dksX1_zoneShare_0 4 rfl rfl)
theorem dX1_zoneShare_5 : decode cX1_zoneShare 5 = .ok (.istore_n 2, 1) := dk_61 (dk_at dksX1_zoneShare_0 5 rfl rfl)
theorem dX1_zoneShare_6 : decode cX1_zoneShare 6 = .ok (.iconst 0, 1) := dk_3 (dk_at dksX1_zoneShare_0 6 rfl rfl)
theorem dX1_zoneShare_7 : decode cX1_zoneShare 7 = .ok (.istore_n 3, 1) := dk_62 (dk_at dksX1_zoneShare_0 7 rfl rfl)
theorem dX1_zoneShare_8 : decode cX1_zoneShare 8 = .ok (.aload_n 0, 1) := dk_42 (dk_at dksX1_zoneShare_0 8 rfl rfl)
theorem dX1_zoneShare_9 : decode cX1_zoneShare 9 = .ok (.getfield 56, 3) := dk_180 0 56 (dk_at dksX1_zoneShare_0 9 rfl rfl)
theorem dX1_zoneShare_12 : decode cX1_zoneShare 12 = .ok (.getfield 158, 3) := dk_180 0 158 (dk_at dksX1_zoneShare_0 12 rfl rfl)
theorem dX1_zoneShare_15 : decode cX1_zoneShare 15 = .ok (.invokevirtual 26, 3) := dk_182 0 26 (dk_at dksX1_zoneShare_0 15 rfl rfl)
theorem dX1_zoneShare_18 : decode cX1_zoneShare 18 = .ok (.astore 4, 2) := dk_58 4 (dk_at dksX1_zoneShare_0 18 rfl rfl)
theorem dX1_zoneShare_20 : decode cX1_zoneShare 20 = .ok (.aload 4, 2) := dk_25 4 (dk_at dksX1_zoneShare_0 20 rfl rfl)
theorem dX1_zoneShare_22 : decode cX1_zoneShare 22 = .ok (.invokeinterface 32 1, 5) := by decide +kernel
theorem dX1_zoneShare_27 : decode cX1_zoneShare 27 = .ok (.ifCond .eq 39, 3) := dk_153 0 39 (dk_at dksX1_zoneShare_1 5 rfl rfl)
theorem dX1_zoneShare_30 : decode cX1_zoneShare 30 = .ok (.aload 4, 2) := dk_25 4 (dk_at dksX1_zoneShare_1 8 rfl rfl)
theorem dX1_zoneShare_32 : decode cX1_zoneShare 32 = .ok (.invokeinterface 38 1, 5) := by decide +kernel
theorem dX1_zoneShare_37 : decode cX1_zoneShare 37 = .ok (.checkcast 168, 3) := dk_192 0 168 (dk_at dksX1_zoneShare_1 15 rfl rfl)
theorem dX1_zoneShare_40 : decode cX1_zoneShare 40 = .ok (.astore 5, 2) := dk_58 5 (dk_at dksX1_zoneShare_1 18 rfl rfl)
theorem dX1_zoneShare_42 : decode cX1_zoneShare 42 = .ok (.iload_n 2, 1) := dk_28 (dk_at dksX1_zoneShare_1 20 rfl rfl)
theorem dX1_zoneShare_43 : decode cX1_zoneShare 43 = .ok (.aload 5, 2) := dk_25 5 (dk_at dksX1_zoneShare_1 21 rfl rfl)
theorem dX1_zoneShare_45 : decode cX1_zoneShare 45 = .ok (.invokevirtual 178, 3) := dk_182 0 178 (dk_at dksX1_zoneShare_2 0 rfl rfl)
theorem dX1_zoneShare_48 : decode cX1_zoneShare 48 = .ok (.iadd, 1) := dk_96 (dk_at dksX1_zoneShare_2 3 rfl rfl)
theorem dX1_zoneShare_49 : decode cX1_zoneShare 49 = .ok (.istore_n 2, 1) := dk_61 (dk_at dksX1_zoneShare_2 4 rfl rfl)
theorem dX1_zoneShare_50 : decode cX1_zoneShare 50 = .ok (.iload_n 3, 1) := dk_29 (dk_at dksX1_zoneShare_2 5 rfl rfl)
theorem dX1_zoneShare_51 : decode cX1_zoneShare 51 = .ok (.aload_n 0, 1) := dk_42 (dk_at dksX1_zoneShare_2 6 rfl rfl)
theorem dX1_zoneShare_52 : decode cX1_zoneShare 52 = .ok (.getfield 56, 3) := dk_180 0 56 (dk_at dksX1_zoneShare_2 7 rfl rfl)
theorem dX1_zoneShare_55 : decode cX1_zoneShare 55 = .ok (.aload 5, 2) := dk_25 5 (dk_at dksX1_zoneShare_2 10 rfl rfl)
theorem dX1_zoneShare_57 : decode cX1_zoneShare 57 = .ok (.iload_n 1, 1) := dk_27 (dk_at dksX1_zoneShare_2 12 rfl rfl)
theorem dX1_zoneShare_58 : decode cX1_zoneShare 58 = .ok (.invokevirtual 181, 3) := dk_182 0 181 (dk_at dksX1_zoneShare_2 13 rfl rfl)
theorem dX1_zoneShare_61 : decode cX1_zoneShare 61 = .ok (.iadd, 1) := dk_96 (dk_at dksX1_zoneShare_2 16 rfl rfl)
theorem dX1_zoneShare_62 : decode cX1_zoneShare 62 = .ok (.istore_n 3, 1) := dk_62 (dk_at dksX1_zoneShare_2 17 rfl rfl)
theorem dX1_zoneShare_63 : decode cX1_zoneShare 63 = .ok (.goto (-43), 3) := dk_167 255 213 (dk_at dksX1_zoneShare_2 18 rfl rfl)
theorem dX1_zoneShare_66 : decode cX1_zoneShare 66 = .ok (.iload_n 2, 1) := dk_28 (dk_at dksX1_zoneShare_2 21 rfl rfl)
theorem dX1_zoneShare_67 : decode cX1_zoneShare 67 = .ok (.ifCond .ne 13, 3) := dk_154 0 13 (dk_at dksX1_zoneShare_3 0 rfl rfl)
theorem dX1_zoneShare_70 : decode cX1_zoneShare 70 = .ok (.new 195, 3) := dk_187 0 195 (dk_at dksX1_zoneShare_3 3 rfl rfl)
theorem dX1_zoneShare_73 : decode cX1_zoneShare 73 = .ok (.dup, 1) := dk_89 (dk_at dksX1_zoneShare_3 6 rfl rfl)
theorem dX1_zoneShare_74 : decode cX1_zoneShare 74 = .ok (.ldc 197, 2) := dk_18 197 (dk_at dksX1_zoneShare_3 7 rfl rfl)
theorem dX1_zoneShare_76 : decode cX1_zoneShare 76 = .ok (.invokespecial 199, 3) := dk_183 0 199 (dk_at dksX1_zoneShare_3 9 rfl rfl)
theorem dX1_zoneShare_79 : decode cX1_zoneShare 79 = .ok (.athrow, 1) := dk_191 (dk_at dksX1_zoneShare_3 12 rfl rfl)
theorem dX1_zoneShare_80 : decode cX1_zoneShare 80 = .ok (.iload_n 3, 1) := dk_29 (dk_at dksX1_zoneShare_3 13 rfl rfl)
theorem dX1_zoneShare_81 : decode cX1_zoneShare 81 = .ok (.i2f, 1) := dk_134 (dk_at dksX1_zoneShare_3 14 rfl rfl)
theorem dX1_zoneShare_82 : decode cX1_zoneShare 82 = .ok (.iload_n 2, 1) := dk_28 (dk_at dksX1_zoneShare_3 15 rfl rfl)
theorem dX1_zoneShare_83 : decode cX1_zoneShare 83 = .ok (.i2f, 1) := dk_134 (dk_at dksX1_zoneShare_3 16 rfl rfl)
theorem dX1_zoneShare_84 : decode cX1_zoneShare 84 = .ok (.fdiv, 1) := dk_110 (dk_at dksX1_zoneShare_3 17 rfl rfl)
theorem dX1_zoneShare_85 : decode cX1_zoneShare 85 = .ok (.freturn, 1) := dk_174 (dk_at dksX1_zoneShare_3 18 rfl rfl)
abbrev cX1_fitnessOn : ByteArray := prog_1_method_36_code
def yX1_fitnessOn : MethodName := ⟨RX1, "fitnessOn", "(I)I"⟩
def dkwX1_fitnessOn_0 : List UInt8 := [42, 27, 182, 0, 189, 42, 180, 0, 56, 27, 182, 0, 200, 172]
abbrev dktX1_fitnessOn_0 : List UInt8 := dkwX1_fitnessOn_0 ++ []
theorem dksX1_fitnessOn_0 : cX1_fitnessOn.data.toList.drop 0 = dktX1_fitnessOn_0 := by decide +kernel
theorem dX1_fitnessOn_0 : decode cX1_fitnessOn 0 = .ok (.aload_n 0, 1) := dk_42 (dk_at dksX1_fitnessOn_0 0 rfl rfl)
theorem dX1_fitnessOn_1 : decode cX1_fitnessOn 1 = .ok (.iload_n 1, 1) := dk_27 (dk_at dksX1_fitnessOn_0 1 rfl rfl)
theorem dX1_fitnessOn_2 : decode cX1_fitnessOn 2 = .ok (.invokevirtual 189, 3) := dk_182 0 189 (dk_at dksX1_fitnessOn_0 2 rfl rfl)
theorem dX1_fitnessOn_5 : decode cX1_fitnessOn 5 = .ok (.aload_n 0, 1) := dk_42 (dk_at dksX1_fitnessOn_0 5 rfl rfl)
theorem dX1_fitnessOn_6 : decode cX1_fitnessOn 6 = .ok (.getfield 56, 3) := dk_180 0 56 (dk_at dksX1_fitnessOn_0 6 rfl rfl)
theorem dX1_fitnessOn_9 : decode cX1_fitnessOn 9 = .ok (.iload_n 1, 1) := dk_27 (dk_at dksX1_fitnessOn_0 9 rfl rfl)
theorem dX1_fitnessOn_10 : decode cX1_fitnessOn 10 = .ok (.invokevirtual 200, 3) := dk_182 0 200 (dk_at dksX1_fitnessOn_0 10 rfl rfl)
theorem dX1_fitnessOn_13 : decode cX1_fitnessOn 13 = .ok (.ireturn, 1) := dk_172 (dk_at dksX1_fitnessOn_0 13 rfl rfl)
abbrev cX1_fitnessFromStart : ByteArray := prog_1_method_37_code
def yX1_fitnessFromStart : MethodName := ⟨RX1, "fitnessFromStart", "(I)I"⟩
def dkwX1_fitnessFromStart_0 : List UInt8 := [42, 27, 182, 0, 189, 42, 180, 0, 56, 27, 16, 42, 182, 0, 203, 172]
abbrev dktX1_fitnessFromStart_0 : List UInt8 := dkwX1_fitnessFromStart_0 ++ []
theorem dksX1_fitnessFromStart_0 : cX1_fitnessFromStart.data.toList.drop 0 = dktX1_fitnessFromStart_0 := by decide +kernel
theorem dX1_fitnessFromStart_0 : decode cX1_fitnessFromStart 0 = .ok (.aload_n 0, 1) := dk_42 (dk_at dksX1_fitnessFromStart_0 0 rfl rfl)
theorem dX1_fitnessFromStart_1 : decode cX1_fitnessFromStart 1 = .ok (.iload_n 1, 1) := dk_27 (dk_at dksX1_fitnessFromStart_0 1 rfl rfl)
theorem dX1_fitnessFromStart_2 : decode cX1_fitnessFromStart 2 = .ok (.invokevirtual 189, 3) := dk_182 0 189 (dk_at dksX1_fitnessFromStart_0 2 rfl rfl)
theorem dX1_fitnessFromStart_5 : decode cX1_fitnessFromStart 5 = .ok (.aload_n 0, 1) := dk_42 (dk_at dksX1_fitnessFromStart_0 5 rfl rfl)
theorem dX1_fitnessFromStart_6 : decode cX1_fitnessFromStart 6 = .ok (.getfield 56, 3) := dk_180 0 56 (dk_at dksX1_fitnessFromStart_0 6 rfl rfl)
theorem dX1_fitnessFromStart_9 : decode cX1_fitnessFromStart 9 = .ok (.iload_n 1, 1) := dk_27 (dk_at dksX1_fitnessFromStart_0 9 rfl rfl)
theorem dX1_fitnessFromStart_10 : decode cX1_fitnessFromStart 10 = .ok (.bipush 42, 2) := dk_16 42 (dk_at dksX1_fitnessFromStart_0 10 rfl rfl)
theorem dX1_fitnessFromStart_12 : decode cX1_fitnessFromStart 12 = .ok (.invokevirtual 203, 3) := dk_182 0 203 (dk_at dksX1_fitnessFromStart_0 12 rfl rfl)
theorem dX1_fitnessFromStart_15 : decode cX1_fitnessFromStart 15 = .ok (.ireturn, 1) := dk_172 (dk_at dksX1_fitnessFromStart_0 15 rfl rfl)
abbrev cX1_fatigueOn : ByteArray := prog_1_method_38_code
def yX1_fatigueOn : MethodName := ⟨RX1, "fatigueOn", "(I)I"⟩
def dkwX1_fatigueOn_0 : List UInt8 := [42, 27, 182, 0, 189, 42, 180, 0, 56, 27, 182, 0, 206, 172]
abbrev dktX1_fatigueOn_0 : List UInt8 := dkwX1_fatigueOn_0 ++ []
theorem dksX1_fatigueOn_0 : cX1_fatigueOn.data.toList.drop 0 = dktX1_fatigueOn_0 := by decide +kernel
theorem dX1_fatigueOn_0 : decode cX1_fatigueOn 0 = .ok (.aload_n 0, 1) := dk_42 (dk_at dksX1_fatigueOn_0 0 rfl rfl)
theorem dX1_fatigueOn_1 : decode cX1_fatigueOn 1 = .ok (.iload_n 1, 1) := dk_27 (dk_at dksX1_fatigueOn_0 1 rfl rfl)
theorem dX1_fatigueOn_2 : decode cX1_fatigueOn 2 = .ok (.invokevirtual 189, 3) := dk_182 0 189 (dk_at dksX1_fatigueOn_0 2 rfl rfl)
theorem dX1_fatigueOn_5 : decode cX1_fatigueOn 5 = .ok (.aload_n 0, 1) := dk_42 (dk_at dksX1_fatigueOn_0 5 rfl rfl)
theorem dX1_fatigueOn_6 : decode cX1_fatigueOn 6 = .ok (.getfield 56, 3) := dk_180 0 56 (dk_at dksX1_fatigueOn_0 6 rfl rfl)
theorem dX1_fatigueOn_9 : decode cX1_fatigueOn 9 = .ok (.iload_n 1, 1) := dk_27 (dk_at dksX1_fatigueOn_0 9 rfl rfl)
theorem dX1_fatigueOn_10 : decode cX1_fatigueOn 10 = .ok (.invokevirtual 206, 3) := dk_182 0 206 (dk_at dksX1_fatigueOn_0 10 rfl rfl)
theorem dX1_fatigueOn_13 : decode cX1_fatigueOn 13 = .ok (.ireturn, 1) := dk_172 (dk_at dksX1_fatigueOn_0 13 rfl rfl)
abbrev cX1_fatigueFromStart : ByteArray := prog_1_method_39_code
def yX1_fatigueFromStart : MethodName := ⟨RX1, "fatigueFromStart", "(I)I"⟩
def dkwX1_fatigueFromStart_0 : List UInt8 := [42, 27, 182, 0, 189, 42, 180, 0, 56, 27, 16, 7, 182, 0, 203, 172]
abbrev dktX1_fatigueFromStart_0 : List UInt8 := dkwX1_fatigueFromStart_0 ++ []
theorem dksX1_fatigueFromStart_0 : cX1_fatigueFromStart.data.toList.drop 0 = dktX1_fatigueFromStart_0 := by decide +kernel
theorem dX1_fatigueFromStart_0 : decode cX1_fatigueFromStart 0 = .ok (.aload_n 0, 1) := dk_42 (dk_at dksX1_fatigueFromStart_0 0 rfl rfl)
theorem dX1_fatigueFromStart_1 : decode cX1_fatigueFromStart 1 = .ok (.iload_n 1, 1) := dk_27 (dk_at dksX1_fatigueFromStart_0 1 rfl rfl)
theorem dX1_fatigueFromStart_2 : decode cX1_fatigueFromStart 2 = .ok (.invokevirtual 189, 3) := dk_182 0 189 (dk_at dksX1_fatigueFromStart_0 2 rfl rfl)
theorem dX1_fatigueFromStart_5 : decode cX1_fatigueFromStart 5 = .ok (.aload_n 0, 1) := dk_42 (dk_at dksX1_fatigueFromStart_0 5 rfl rfl)
theorem dX1_fatigueFromStart_6 : decode cX1_fatigueFromStart 6 = .ok (.getfield 56, 3) := dk_180 0 56 (dk_at dksX1_fatigueFromStart_0 6 rfl rfl)
theorem dX1_fatigueFromStart_9 : decode cX1_fatigueFromStart 9 = .ok (.iload_n 1, 1) := dk_27 (dk_at dksX1_fatigueFromStart_0 9 rfl rfl)
theorem dX1_fatigueFromStart_10 : decode cX1_fatigueFromStart 10 = .ok (.bipush 7, 2) := dk_16 7 (dk_at dksX1_fatigueFromStart_0 10 rfl rfl)
theorem dX1_fatigueFromStart_12 : decode cX1_fatigueFromStart 12 = .ok (.invokevirtual 203, 3) := dk_182 0 203 (dk_at dksX1_fatigueFromStart_0 12 rfl rfl)
theorem dX1_fatigueFromStart_15 : decode cX1_fatigueFromStart 15 = .ok (.ireturn, 1) := dk_172 (dk_at dksX1_fatigueFromStart_0 15 rfl rfl)
abbrev cX1_formOn : ByteArray := prog_1_method_40_code
def yX1_formOn : MethodName := ⟨RX1, "formOn", "(I)I"⟩
def dkwX1_formOn_0 : List UInt8 := [42, 27, 182, 0, 189, 42, 180, 0, 56, 27, 182, 0, 209, 172]
abbrev dktX1_formOn_0 : List UInt8 := dkwX1_formOn_0 ++ []
theorem dksX1_formOn_0 : cX1_formOn.data.toList.drop 0 = dktX1_formOn_0 := by decide +kernel
theorem dX1_formOn_0 : decode cX1_formOn 0 = .ok (.aload_n 0, 1) := dk_42 (dk_at dksX1_formOn_0 0 rfl rfl)
theorem dX1_formOn_1 : decode cX1_formOn 1 = .ok (.iload_n 1, 1) := dk_27 (dk_at dksX1_formOn_0 1 rfl rfl)
theorem dX1_formOn_2 : decode cX1_formOn 2 = .ok (.invokevirtual 189, 3) := dk_182 0 189 (dk_at dksX1_formOn_0 2 rfl rfl)
theorem dX1_formOn_5 : decode cX1_formOn 5 = .ok (.aload_n 0, 1) := dk_42 (dk_at dksX1_formOn_0 5 rfl rfl)
theorem dX1_formOn_6 : decode cX1_formOn 6 = .ok (.getfield 56, 3) := dk_180 0 56 (dk_at dksX1_formOn_0 6 rfl rfl)
theorem dX1_formOn_9 : decode cX1_formOn 9 = .ok (.iload_n 1, 1) := dk_27 (dk_at dksX1_formOn_0 9 rfl rfl)
theorem dX1_formOn_10 : decode cX1_formOn 10 = .ok (.invokevirtual 209, 3) := dk_182 0 209 (dk_at dksX1_formOn_0 10 rfl rfl)
theorem dX1_formOn_13 : decode cX1_formOn 13 = .ok (.ireturn, 1) := dk_172 (dk_at dksX1_formOn_0 13 rfl rfl)
abbrev cX1_daysToForm : ByteArray := prog_1_method_42_code
def yX1_daysToForm : MethodName := ⟨RX1, "daysToForm", "(I)I"⟩
def dkwX1_daysToForm_5 : List UInt8 := [172]
abbrev dktX1_daysToForm_5 : List UInt8 := dkwX1_daysToForm_5 ++ []
def dkwX1_daysToForm_4 : List UInt8 := [132, 4, 1, 167, 255, 224, 21, 4, 17, 0, 200, 163, 0, 7, 4, 167, 0, 4, 3, 184, 0, 214, 21, 4]
abbrev dktX1_daysToForm_4 : List UInt8 := dkwX1_daysToForm_4 ++ dktX1_daysToForm_5
def dkwX1_daysToForm_3 : List UInt8 := [163, 0, 30, 28, 29, 100, 27, 162, 0, 23, 28, 28, 16, 42, 108, 100, 61, 29, 29, 16, 7, 108, 100, 62]
abbrev dktX1_daysToForm_3 : List UInt8 := dkwX1_daysToForm_3 ++ dktX1_daysToForm_4
def dkwX1_daysToForm_2 : List UInt8 := [42, 180, 0, 56, 42, 180, 0, 56, 180, 0, 84, 182, 0, 206, 62, 4, 54, 4, 21, 4, 17, 0, 200]
abbrev dktX1_daysToForm_2 : List UInt8 := dkwX1_daysToForm_2 ++ dktX1_daysToForm_3
def dkwX1_daysToForm_1 : List UInt8 := [182, 0, 209, 27, 161, 0, 5, 3, 172, 42, 180, 0, 56, 42, 180, 0, 56, 180, 0, 84, 182, 0, 200, 61]
abbrev dktX1_daysToForm_1 : List UInt8 := dkwX1_daysToForm_1 ++ dktX1_daysToForm_2
def dkwX1_daysToForm_0 : List UInt8 := [27, 18, 212, 18, 213, 184, 0, 88, 184, 0, 92, 42, 180, 0, 56, 42, 180, 0, 56, 180, 0, 84]
abbrev dktX1_daysToForm_0 : List UInt8 := dkwX1_daysToForm_0 ++ dktX1_daysToForm_1
theorem dksX1_daysToForm_0 : cX1_daysToForm.data.toList.drop 0 = dktX1_daysToForm_0 := by decide +kernel
theorem dksX1_daysToForm_1 : cX1_daysToForm.data.toList.drop 22 = dktX1_daysToForm_1 := dk_seg dksX1_daysToForm_0 22 rfl rfl
theorem dksX1_daysToForm_2 : cX1_daysToForm.data.toList.drop 46 = dktX1_daysToForm_2 := dk_seg dksX1_daysToForm_1 24 rfl rfl
theorem dksX1_daysToForm_3 : cX1_daysToForm.data.toList.drop 69 = dktX1_daysToForm_3 := dk_seg dksX1_daysToForm_2 23 rfl rfl
theorem dksX1_daysToForm_4 : cX1_daysToForm.data.toList.drop 93 = dktX1_daysToForm_4 := dk_seg dksX1_daysToForm_3 24 rfl rfl
theorem dksX1_daysToForm_5 : cX1_daysToForm.data.toList.drop 117 = dktX1_daysToForm_5 := dk_seg dksX1_daysToForm_4 24 rfl rfl
theorem dX1_daysToForm_0 : decode cX1_daysToForm 0 = .ok (.iload_n 1, 1) := dk_27 (dk_at dksX1_daysToForm_0 0 rfl rfl)
theorem dX1_daysToForm_1 : decode cX1_daysToForm 1 = .ok (.ldc 212, 2) := dk_18 212 (dk_at dksX1_daysToForm_0 1 rfl rfl)
theorem dX1_daysToForm_3 : decode cX1_daysToForm 3 = .ok (.ldc 213, 2) := dk_18 213 (dk_at dksX1_daysToForm_0 3 rfl rfl)
theorem dX1_daysToForm_5 : decode cX1_daysToForm 5 = .ok (.invokestatic 88, 3) := dk_184 0 88 (dk_at dksX1_daysToForm_0 5 rfl rfl)
theorem dX1_daysToForm_8 : decode cX1_daysToForm 8 = .ok (.invokestatic 92, 3) := dk_184 0 92 (dk_at dksX1_daysToForm_0 8 rfl rfl)
theorem dX1_daysToForm_11 : decode cX1_daysToForm 11 = .ok (.aload_n 0, 1) := dk_42 (dk_at dksX1_daysToForm_0 11 rfl rfl)
theorem dX1_daysToForm_12 : decode cX1_daysToForm 12 = .ok (.getfield 56, 3) := dk_180 0 56 (dk_at dksX1_daysToForm_0 12 rfl rfl)
theorem dX1_daysToForm_15 : decode cX1_daysToForm 15 = .ok (.aload_n 0, 1) := dk_42 (dk_at dksX1_daysToForm_0 15 rfl rfl)
theorem dX1_daysToForm_16 : decode cX1_daysToForm 16 = .ok (.getfield 56, 3) := dk_180 0 56 (dk_at dksX1_daysToForm_0 16 rfl rfl)
theorem dX1_daysToForm_19 : decode cX1_daysToForm 19 = .ok (.getfield 84, 3) := dk_180 0 84 (dk_at dksX1_daysToForm_0 19 rfl rfl)
theorem dX1_daysToForm_22 : decode cX1_daysToForm 22 = .ok (.invokevirtual 209, 3) := dk_182 0 209 (dk_at dksX1_daysToForm_1 0 rfl rfl)
theorem dX1_daysToForm_25 : decode cX1_daysToForm 25 = .ok (.iload_n 1, 1) := dk_27 (dk_at dksX1_daysToForm_1 3 rfl rfl)
theorem dX1_daysToForm_26 : decode cX1_daysToForm 26 = .ok (.if_icmp .lt 5, 3) := dk_161 0 5 (dk_at dksX1_daysToForm_1 4 rfl rfl)
theorem dX1_daysToForm_29 : decode cX1_daysToForm 29 = .ok (.iconst 0, 1) := dk_3 (dk_at dksX1_daysToForm_1 7 rfl rfl)
theorem dX1_daysToForm_30 : decode cX1_daysToForm 30 = .ok (.ireturn, 1) := dk_172 (dk_at dksX1_daysToForm_1 8 rfl rfl)
theorem dX1_daysToForm_31 : decode cX1_daysToForm 31 = .ok (.aload_n 0, 1) := dk_42 (dk_at dksX1_daysToForm_1 9 rfl rfl)
theorem dX1_daysToForm_32 : decode cX1_daysToForm 32 = .ok (.getfield 56, 3) := dk_180 0 56 (dk_at dksX1_daysToForm_1 10 rfl rfl)
theorem dX1_daysToForm_35 : decode cX1_daysToForm 35 = .ok (.aload_n 0, 1) := dk_42 (dk_at dksX1_daysToForm_1 13 rfl rfl)
theorem dX1_daysToForm_36 : decode cX1_daysToForm 36 = .ok (.getfield 56, 3) := dk_180 0 56 (dk_at dksX1_daysToForm_1 14 rfl rfl)
theorem dX1_daysToForm_39 : decode cX1_daysToForm 39 = .ok (.getfield 84, 3) := dk_180 0 84 (dk_at dksX1_daysToForm_1 17 rfl rfl)
theorem dX1_daysToForm_42 : decode cX1_daysToForm 42 = .ok (.invokevirtual 200, 3) := dk_182 0 200 (dk_at dksX1_daysToForm_1 20 rfl rfl)
theorem dX1_daysToForm_45 : decode cX1_daysToForm 45 = .ok (.istore_n 2, 1) := dk_61 (dk_at dksX1_daysToForm_1 23 rfl rfl)
theorem dX1_daysToForm_46 : decode cX1_daysToForm 46 = .ok (.aload_n 0, 1) := dk_42 (dk_at dksX1_daysToForm_2 0 rfl rfl)
theorem dX1_daysToForm_47 : decode cX1_daysToForm 47 = .ok (.getfield 56, 3) := dk_180 0 56 (dk_at dksX1_daysToForm_2 1 rfl rfl)
theorem dX1_daysToForm_50 : decode cX1_daysToForm 50 = .ok (.aload_n 0, 1) := dk_42 (dk_at dksX1_daysToForm_2 4 rfl rfl)
theorem dX1_daysToForm_51 : decode cX1_daysToForm 51 = .ok (.getfield 56, 3) := dk_180 0 56 (dk_at dksX1_daysToForm_2 5 rfl rfl)
theorem dX1_daysToForm_54 : decode cX1_daysToForm 54 = .ok (.getfield 84, 3) := dk_180 0 84 (dk_at dksX1_daysToForm_2 8 rfl rfl)
theorem dX1_daysToForm_57 : decode cX1_daysToForm 57 = .ok (.invokevirtual 206, 3) := dk_182 0 206 (dk_at dksX1_daysToForm_2 11 rfl rfl)
theorem dX1_daysToForm_60 : decode cX1_daysToForm 60 = .ok (.istore_n 3, 1) := dk_62 (dk_at dksX1_daysToForm_2 14 rfl rfl)
theorem dX1_daysToForm_61 : decode cX1_daysToForm 61 = .ok (.iconst 1, 1) := dk_4 (dk_at dksX1_daysToForm_2 15 rfl rfl)
theorem dX1_daysToForm_62 : decode cX1_daysToForm 62 = .ok (.istore 4, 2) := dk_54 4 (dk_at dksX1_daysToForm_2 16 rfl rfl)
theorem dX1_daysToForm_64 : decode cX1_daysToForm 64 = .ok (.iload 4, 2) := dk_21 4 (dk_at dksX1_daysToForm_2 18 rfl rfl)
theorem dX1_daysToForm_66 : decode cX1_daysToForm 66 = .ok (.sipush 200, 3) := dk_17 0 200 (dk_at dksX1_daysToForm_2 20 rfl rfl)
theorem dX1_daysToForm_69 : decode cX1_daysToForm 69 = .ok (.if_icmp .gt 30, 3) := dk_163 0 30 (dk_at dksX1_daysToForm_3 0 rfl rfl)
theorem dX1_daysToForm_72 : decode cX1_daysToForm 72 = .ok (.iload_n 2, 1) := dk_28 (dk_at dksX1_daysToForm_3 3 rfl rfl)
theorem dX1_daysToForm_73 : decode cX1_daysToForm 73 = .ok (.iload_n 3, 1) := dk_29 (dk_at dksX1_daysToForm_3 4 rfl rfl)
theorem dX1_daysToForm_74 : decode cX1_daysToForm 74 = .ok (.isub, 1) := dk_100 (dk_at dksX1_daysToForm_3 5 rfl rfl)
theorem dX1_daysToForm_75 : decode cX1_daysToForm 75 = .ok (.iload_n 1, 1) := dk_27 (dk_at dksX1_daysToForm_3 6 rfl rfl)
theorem dX1_daysToForm_76 : decode cX1_daysToForm 76 = .ok (.if_icmp .ge 23, 3) := dk_162 0 23 (dk_at dksX1_daysToForm_3 7 rfl rfl)
theorem dX1_daysToForm_79 : decode cX1_daysToForm 79 = .ok (.iload_n 2, 1) := dk_28 (dk_at dksX1_daysToForm_3 10 rfl rfl)
theorem dX1_daysToForm_80 : decode cX1_daysToForm 80 = .ok (.iload_n 2, 1) := dk_28 (dk_at dksX1_daysToForm_3 11 rfl rfl)
theorem dX1_daysToForm_81 : decode cX1_daysToForm 81 = .ok (.bipush 42, 2) := dk_16 42 (dk_at dksX1_daysToForm_3 12 rfl rfl)
theorem dX1_daysToForm_83 : decode cX1_daysToForm 83 = .ok (.idiv, 1) := dk_108 (dk_at dksX1_daysToForm_3 14 rfl rfl)
theorem dX1_daysToForm_84 : decode cX1_daysToForm 84 = .ok (.isub, 1) := dk_100 (dk_at dksX1_daysToForm_3 15 rfl rfl)
theorem dX1_daysToForm_85 : decode cX1_daysToForm 85 = .ok (.istore_n 2, 1) := dk_61 (dk_at dksX1_daysToForm_3 16 rfl rfl)
theorem dX1_daysToForm_86 : decode cX1_daysToForm 86 = .ok (.iload_n 3, 1) := dk_29 (dk_at dksX1_daysToForm_3 17 rfl rfl)
theorem dX1_daysToForm_87 : decode cX1_daysToForm 87 = .ok (.iload_n 3, 1) := dk_29 (dk_at dksX1_daysToForm_3 18 rfl rfl)
theorem dX1_daysToForm_88 : decode cX1_daysToForm 88 = .ok (.bipush 7, 2) := dk_16 7 (dk_at dksX1_daysToForm_3 19 rfl rfl)
theorem dX1_daysToForm_90 : decode cX1_daysToForm 90 = .ok (.idiv, 1) := dk_108 (dk_at dksX1_daysToForm_3 21 rfl rfl)
theorem dX1_daysToForm_91 : decode cX1_daysToForm 91 = .ok (.isub, 1) := dk_100 (dk_at dksX1_daysToForm_3 22 rfl rfl)
theorem dX1_daysToForm_92 : decode cX1_daysToForm 92 = .ok (.istore_n 3, 1) := dk_62 (dk_at dksX1_daysToForm_3 23 rfl rfl)
theorem dX1_daysToForm_93 : decode cX1_daysToForm 93 = .ok (.iinc 4 1, 3) := dk_132 4 1 (dk_at dksX1_daysToForm_4 0 rfl rfl)
theorem dX1_daysToForm_96 : decode cX1_daysToForm 96 = .ok (.goto (-32), 3) := dk_167 255 224 (dk_at dksX1_daysToForm_4 3 rfl rfl)
theorem dX1_daysToForm_99 : decode cX1_daysToForm 99 = .ok (.iload 4, 2) := dk_21 4 (dk_at dksX1_daysToForm_4 6 rfl rfl)
theorem dX1_daysToForm_101 : decode cX1_daysToForm 101 = .ok (.sipush 200, 3) := dk_17 0 200 (dk_at dksX1_daysToForm_4 8 rfl rfl)
theorem dX1_daysToForm_104 : decode cX1_daysToForm 104 = .ok (.if_icmp .gt 7, 3) := dk_163 0 7 (dk_at dksX1_daysToForm_4 11 rfl rfl)
theorem dX1_daysToForm_107 : decode cX1_daysToForm 107 = .ok (.iconst 1, 1) := dk_4 (dk_at dksX1_daysToForm_4 14 rfl rfl)
theorem dX1_daysToForm_108 : decode cX1_daysToForm 108 = .ok (.goto 4, 3) := dk_167 0 4 (dk_at dksX1_daysToForm_4 15 rfl rfl)
theorem dX1_daysToForm_111 : decode cX1_daysToForm 111 = .ok (.iconst 0, 1) := dk_3 (dk_at dksX1_daysToForm_4 18 rfl rfl)
theorem dX1_daysToForm_112 : decode cX1_daysToForm 112 = .ok (.invokestatic 214, 3) := dk_184 0 214 (dk_at dksX1_daysToForm_4 19 rfl rfl)
theorem dX1_daysToForm_115 : decode cX1_daysToForm 115 = .ok (.iload 4, 2) := dk_21 4 (dk_at dksX1_daysToForm_4 22 rfl rfl)
theorem dX1_daysToForm_117 : decode cX1_daysToForm 117 = .ok (.ireturn, 1) := dk_172 (dk_at dksX1_daysToForm_5 0 rfl rfl)
abbrev cX1_bestDays : ByteArray := prog_1_method_46_code
def yX1_bestDays : MethodName := ⟨RX1, "bestDays", "(I)I"⟩
def dkwX1_bestDays_0 : List UInt8 := [42, 27, 182, 0, 222, 42, 42, 27, 182, 0, 225, 27, 182, 0, 228, 172]
abbrev dktX1_bestDays_0 : List UInt8 := dkwX1_bestDays_0 ++ []
theorem dksX1_bestDays_0 : cX1_bestDays.data.toList.drop 0 = dktX1_bestDays_0 := by decide +kernel
theorem dX1_bestDays_0 : decode cX1_bestDays 0 = .ok (.aload_n 0, 1) := dk_42 (dk_at dksX1_bestDays_0 0 rfl rfl)
theorem dX1_bestDays_1 : decode cX1_bestDays 1 = .ok (.iload_n 1, 1) := dk_27 (dk_at dksX1_bestDays_0 1 rfl rfl)
theorem dX1_bestDays_2 : decode cX1_bestDays 2 = .ok (.invokevirtual 222, 3) := dk_182 0 222 (dk_at dksX1_bestDays_0 2 rfl rfl)
theorem dX1_bestDays_5 : decode cX1_bestDays 5 = .ok (.aload_n 0, 1) := dk_42 (dk_at dksX1_bestDays_0 5 rfl rfl)
theorem dX1_bestDays_6 : decode cX1_bestDays 6 = .ok (.aload_n 0, 1) := dk_42 (dk_at dksX1_bestDays_0 6 rfl rfl)
theorem dX1_bestDays_7 : decode cX1_bestDays 7 = .ok (.iload_n 1, 1) := dk_27 (dk_at dksX1_bestDays_0 7 rfl rfl)
theorem dX1_bestDays_8 : decode cX1_bestDays 8 = .ok (.invokevirtual 225, 3) := dk_182 0 225 (dk_at dksX1_bestDays_0 8 rfl rfl)
theorem dX1_bestDays_11 : decode cX1_bestDays 11 = .ok (.iload_n 1, 1) := dk_27 (dk_at dksX1_bestDays_0 11 rfl rfl)
theorem dX1_bestDays_12 : decode cX1_bestDays 12 = .ok (.invokevirtual 228, 3) := dk_182 0 228 (dk_at dksX1_bestDays_0 12 rfl rfl)
theorem dX1_bestDays_15 : decode cX1_bestDays 15 = .ok (.ireturn, 1) := dk_172 (dk_at dksX1_bestDays_0 15 rfl rfl)
abbrev cX1_requireWindow : ByteArray := prog_1_method_43_code
def yX1_requireWindow : MethodName := ⟨RX1, "requireWindow", "(I)V"⟩
def dkwX1_requireWindow_1 : List UInt8 := [167, 0, 4, 3, 184, 0, 214, 177]
abbrev dktX1_requireWindow_1 : List UInt8 := dkwX1_requireWindow_1 ++ []
def dkwX1_requireWindow_0 : List UInt8 := [27, 4, 16, 60, 184, 0, 88, 184, 0, 92, 27, 42, 180, 0, 56, 180, 0, 84, 4, 96, 163, 0, 7, 4]
abbrev dktX1_requireWindow_0 : List UInt8 := dkwX1_requireWindow_0 ++ dktX1_requireWindow_1
theorem dksX1_requireWindow_0 : cX1_requireWindow.data.toList.drop 0 = dktX1_requireWindow_0 := by decide +kernel
theorem dksX1_requireWindow_1 : cX1_requireWindow.data.toList.drop 24 = dktX1_requireWindow_1 := dk_seg dksX1_requireWindow_0 24 rfl rfl
theorem dX1_requireWindow_0 : decode cX1_requireWindow 0 = .ok (.iload_n 1, 1) := dk_27 (dk_at dksX1_requireWindow_0 0 rfl rfl)
theorem dX1_requireWindow_1 : decode cX1_requireWindow 1 = .ok (.iconst 1, 1) := dk_4 (dk_at dksX1_requireWindow_0 1 rfl rfl)
theorem dX1_requireWindow_2 : decode cX1_requireWindow 2 = .ok (.bipush 60, 2) := dk_16 60 (dk_at dksX1_requireWindow_0 2 rfl rfl)
theorem dX1_requireWindow_4 : decode cX1_requireWindow 4 = .ok (.invokestatic 88, 3) := dk_184 0 88 (dk_at dksX1_requireWindow_0 4 rfl rfl)
theorem dX1_requireWindow_7 : decode cX1_requireWindow 7 = .ok (.invokestatic 92, 3) := dk_184 0 92 (dk_at dksX1_requireWindow_0 7 rfl rfl)
theorem dX1_requireWindow_10 : decode cX1_requireWindow 10 = .ok (.iload_n 1, 1) := dk_27 (dk_at dksX1_requireWindow_0 10 rfl rfl)
theorem dX1_requireWindow_11 : decode cX1_requireWindow 11 = .ok (.aload_n 0, 1) := dk_42 (dk_at dksX1_requireWindow_0 11 rfl rfl)
theorem dX1_requireWindow_12 : decode cX1_requireWindow 12 = .ok (.getfield 56, 3) := dk_180 0 56 (dk_at dksX1_requireWindow_0 12 rfl rfl)
theorem dX1_requireWindow_15 : decode cX1_requireWindow 15 = .ok (.getfield 84, 3) := dk_180 0 84 (dk_at dksX1_requireWindow_0 15 rfl rfl)
theorem dX1_requireWindow_18 : decode cX1_requireWindow 18 = .ok (.iconst 1, 1) := dk_4 (dk_at dksX1_requireWindow_0 18 rfl rfl)
theorem dX1_requireWindow_19 : decode cX1_requireWindow 19 = .ok (.iadd, 1) := dk_96 (dk_at dksX1_requireWindow_0 19 rfl rfl)
theorem dX1_requireWindow_20 : decode cX1_requireWindow 20 = .ok (.if_icmp .gt 7, 3) := dk_163 0 7 (dk_at dksX1_requireWindow_0 20 rfl rfl)
theorem dX1_requireWindow_23 : decode cX1_requireWindow 23 = .ok (.iconst 1, 1) := dk_4 (dk_at dksX1_requireWindow_0 23 rfl rfl)
theorem dX1_requireWindow_24 : decode cX1_requireWindow 24 = .ok (.goto 4, 3) := dk_167 0 4 (dk_at dksX1_requireWindow_1 0 rfl rfl)
theorem dX1_requireWindow_27 : decode cX1_requireWindow 27 = .ok (.iconst 0, 1) := dk_3 (dk_at dksX1_requireWindow_1 3 rfl rfl)
theorem dX1_requireWindow_28 : decode cX1_requireWindow 28 = .ok (.invokestatic 214, 3) := dk_184 0 214 (dk_at dksX1_requireWindow_1 4 rfl rfl)
theorem dX1_requireWindow_31 : decode cX1_requireWindow 31 = .ok (.return_, 1) := dk_177 (dk_at dksX1_requireWindow_1 7 rfl rfl)
abbrev cX1_bestStart : ByteArray := prog_1_method_44_code
def yX1_bestStart : MethodName := ⟨RX1, "bestStart", "(I)I"⟩
def dkwX1_bestStart_4 : List UInt8 := [132, 5, 1, 167, 255, 193, 21, 4, 172]
abbrev dktX1_bestStart_4 : List UInt8 := dkwX1_bestStart_4 ++ []
def dkwX1_bestStart_3 : List UInt8 := [29, 164, 0, 12, 21, 5, 27, 100, 4, 96, 167, 0, 5, 21, 4, 54, 4, 29, 28, 184, 0, 217, 62]
abbrev dktX1_bestStart_3 : List UInt8 := dkwX1_bestStart_3 ++ dktX1_bestStart_4
def dkwX1_bestStart_2 : List UInt8 := [42, 180, 0, 56, 21, 5, 182, 0, 192, 42, 180, 0, 56, 21, 5, 27, 100, 182, 0, 192, 100, 96, 61, 28]
abbrev dktX1_bestStart_2 : List UInt8 := dkwX1_bestStart_2 ++ dktX1_bestStart_3
def dkwX1_bestStart_1 : List UInt8 := [167, 255, 237, 28, 62, 3, 54, 4, 27, 54, 5, 21, 5, 42, 180, 0, 56, 180, 0, 84, 163, 0, 57, 28]
abbrev dktX1_bestStart_1 : List UInt8 := dkwX1_bestStart_1 ++ dktX1_bestStart_2
def dkwX1_bestStart_0 : List UInt8 := [3, 61, 3, 62, 29, 27, 162, 0, 20, 28, 42, 180, 0, 56, 29, 182, 0, 192, 96, 61, 132, 3, 1]
abbrev dktX1_bestStart_0 : List UInt8 := dkwX1_bestStart_0 ++ dktX1_bestStart_1
theorem dksX1_bestStart_0 : cX1_bestStart.data.toList.drop 0 = dktX1_bestStart_0 := by decide +kernel
theorem dksX1_bestStart_1 : cX1_bestStart.data.toList.drop 23 = dktX1_bestStart_1 := dk_seg dksX1_bestStart_0 23 rfl rfl
theorem dksX1_bestStart_2 : cX1_bestStart.data.toList.drop 47 = dktX1_bestStart_2 := dk_seg dksX1_bestStart_1 24 rfl rfl
theorem dksX1_bestStart_3 : cX1_bestStart.data.toList.drop 71 = dktX1_bestStart_3 := dk_seg dksX1_bestStart_2 24 rfl rfl
theorem dksX1_bestStart_4 : cX1_bestStart.data.toList.drop 94 = dktX1_bestStart_4 := dk_seg dksX1_bestStart_3 23 rfl rfl
theorem dX1_bestStart_0 : decode cX1_bestStart 0 = .ok (.iconst 0, 1) := dk_3 (dk_at dksX1_bestStart_0 0 rfl rfl)
theorem dX1_bestStart_1 : decode cX1_bestStart 1 = .ok (.istore_n 2, 1) := dk_61 (dk_at dksX1_bestStart_0 1 rfl rfl)
theorem dX1_bestStart_2 : decode cX1_bestStart 2 = .ok (.iconst 0, 1) := dk_3 (dk_at dksX1_bestStart_0 2 rfl rfl)
theorem dX1_bestStart_3 : decode cX1_bestStart 3 = .ok (.istore_n 3, 1) := dk_62 (dk_at dksX1_bestStart_0 3 rfl rfl)
theorem dX1_bestStart_4 : decode cX1_bestStart 4 = .ok (.iload_n 3, 1) := dk_29 (dk_at dksX1_bestStart_0 4 rfl rfl)
theorem dX1_bestStart_5 : decode cX1_bestStart 5 = .ok (.iload_n 1, 1) := dk_27 (dk_at dksX1_bestStart_0 5 rfl rfl)
theorem dX1_bestStart_6 : decode cX1_bestStart 6 = .ok (.if_icmp .ge 20, 3) := dk_162 0 20 (dk_at dksX1_bestStart_0 6 rfl rfl)
theorem dX1_bestStart_9 : decode cX1_bestStart 9 = .ok (.iload_n 2, 1) := dk_28 (dk_at dksX1_bestStart_0 9 rfl rfl)
theorem dX1_bestStart_10 : decode cX1_bestStart 10 = .ok (.aload_n 0, 1) := dk_42 (dk_at dksX1_bestStart_0 10 rfl rfl)
theorem dX1_bestStart_11 : decode cX1_bestStart 11 = .ok (.getfield 56, 3) := dk_180 0 56 (dk_at dksX1_bestStart_0 11 rfl rfl)
theorem dX1_bestStart_14 : decode cX1_bestStart 14 = .ok (.iload_n 3, 1) := dk_29 (dk_at dksX1_bestStart_0 14 rfl rfl)
theorem dX1_bestStart_15 : decode cX1_bestStart 15 = .ok (.invokevirtual 192, 3) := dk_182 0 192 (dk_at dksX1_bestStart_0 15 rfl rfl)
theorem dX1_bestStart_18 : decode cX1_bestStart 18 = .ok (.iadd, 1) := dk_96 (dk_at dksX1_bestStart_0 18 rfl rfl)
theorem dX1_bestStart_19 : decode cX1_bestStart 19 = .ok (.istore_n 2, 1) := dk_61 (dk_at dksX1_bestStart_0 19 rfl rfl)
theorem dX1_bestStart_20 : decode cX1_bestStart 20 = .ok (.iinc 3 1, 3) := dk_132 3 1 (dk_at dksX1_bestStart_0 20 rfl rfl)
theorem dX1_bestStart_23 : decode cX1_bestStart 23 = .ok (.goto (-19), 3) := dk_167 255 237 (dk_at dksX1_bestStart_1 0 rfl rfl)
theorem dX1_bestStart_26 : decode cX1_bestStart 26 = .ok (.iload_n 2, 1) := dk_28 (dk_at dksX1_bestStart_1 3 rfl rfl)
theorem dX1_bestStart_27 : decode cX1_bestStart 27 = .ok (.istore_n 3, 1) := dk_62 (dk_at dksX1_bestStart_1 4 rfl rfl)
theorem dX1_bestStart_28 : decode cX1_bestStart 28 = .ok (.iconst 0, 1) := dk_3 (dk_at dksX1_bestStart_1 5 rfl rfl)
theorem dX1_bestStart_29 : decode cX1_bestStart 29 = .ok (.istore 4, 2) := dk_54 4 (dk_at dksX1_bestStart_1 6 rfl rfl)
theorem dX1_bestStart_31 : decode cX1_bestStart 31 = .ok (.iload_n 1, 1) := dk_27 (dk_at dksX1_bestStart_1 8 rfl rfl)
theorem dX1_bestStart_32 : decode cX1_bestStart 32 = .ok (.istore 5, 2) := dk_54 5 (dk_at dksX1_bestStart_1 9 rfl rfl)
theorem dX1_bestStart_34 : decode cX1_bestStart 34 = .ok (.iload 5, 2) := dk_21 5 (dk_at dksX1_bestStart_1 11 rfl rfl)
theorem dX1_bestStart_36 : decode cX1_bestStart 36 = .ok (.aload_n 0, 1) := dk_42 (dk_at dksX1_bestStart_1 13 rfl rfl)
theorem dX1_bestStart_37 : decode cX1_bestStart 37 = .ok (.getfield 56, 3) := dk_180 0 56 (dk_at dksX1_bestStart_1 14 rfl rfl)
theorem dX1_bestStart_40 : decode cX1_bestStart 40 = .ok (.getfield 84, 3) := dk_180 0 84 (dk_at dksX1_bestStart_1 17 rfl rfl)
theorem dX1_bestStart_43 : decode cX1_bestStart 43 = .ok (.if_icmp .gt 57, 3) := dk_163 0 57 (dk_at dksX1_bestStart_1 20 rfl rfl)
theorem dX1_bestStart_46 : decode cX1_bestStart 46 = .ok (.iload_n 2, 1) := dk_28 (dk_at dksX1_bestStart_1 23 rfl rfl)
theorem dX1_bestStart_47 : decode cX1_bestStart 47 = .ok (.aload_n 0, 1) := dk_42 (dk_at dksX1_bestStart_2 0 rfl rfl)
theorem dX1_bestStart_48 : decode cX1_bestStart 48 = .ok (.getfield 56, 3) := dk_180 0 56 (dk_at dksX1_bestStart_2 1 rfl rfl)
theorem dX1_bestStart_51 : decode cX1_bestStart 51 = .ok (.iload 5, 2) := dk_21 5 (dk_at dksX1_bestStart_2 4 rfl rfl)
theorem dX1_bestStart_53 : decode cX1_bestStart 53 = .ok (.invokevirtual 192, 3) := dk_182 0 192 (dk_at dksX1_bestStart_2 6 rfl rfl)
theorem dX1_bestStart_56 : decode cX1_bestStart 56 = .ok (.aload_n 0, 1) := dk_42 (dk_at dksX1_bestStart_2 9 rfl rfl)
theorem dX1_bestStart_57 : decode cX1_bestStart 57 = .ok (.getfield 56, 3) := dk_180 0 56 (dk_at dksX1_bestStart_2 10 rfl rfl)
theorem dX1_bestStart_60 : decode cX1_bestStart 60 = .ok (.iload 5, 2) := dk_21 5 (dk_at dksX1_bestStart_2 13 rfl rfl)
theorem dX1_bestStart_62 : decode cX1_bestStart 62 = .ok (.iload_n 1, 1) := dk_27 (dk_at dksX1_bestStart_2 15 rfl rfl)
theorem dX1_bestStart_63 : decode cX1_bestStart 63 = .ok (.isub, 1) := dk_100 (dk_at dksX1_bestStart_2 16 rfl rfl)
theorem dX1_bestStart_64 : decode cX1_bestStart 64 = .ok (.invokevirtual 192, 3) := dk_182 0 192 (dk_at dksX1_bestStart_2 17 rfl rfl)
theorem dX1_bestStart_67 : decode cX1_bestStart 67 = .ok (.isub, 1) := dk_100 (dk_at dksX1_bestStart_2 20 rfl rfl)
theorem dX1_bestStart_68 : decode cX1_bestStart 68 = .ok (.iadd, 1) := dk_96 (dk_at dksX1_bestStart_2 21 rfl rfl)
theorem dX1_bestStart_69 : decode cX1_bestStart 69 = .ok (.istore_n 2, 1) := dk_61 (dk_at dksX1_bestStart_2 22 rfl rfl)
theorem dX1_bestStart_70 : decode cX1_bestStart 70 = .ok (.iload_n 2, 1) := dk_28 (dk_at dksX1_bestStart_2 23 rfl rfl)
theorem dX1_bestStart_71 : decode cX1_bestStart 71 = .ok (.iload_n 3, 1) := dk_29 (dk_at dksX1_bestStart_3 0 rfl rfl)
theorem dX1_bestStart_72 : decode cX1_bestStart 72 = .ok (.if_icmp .le 12, 3) := dk_164 0 12 (dk_at dksX1_bestStart_3 1 rfl rfl)
theorem dX1_bestStart_75 : decode cX1_bestStart 75 = .ok (.iload 5, 2) := dk_21 5 (dk_at dksX1_bestStart_3 4 rfl rfl)
theorem dX1_bestStart_77 : decode cX1_bestStart 77 = .ok (.iload_n 1, 1) := dk_27 (dk_at dksX1_bestStart_3 6 rfl rfl)
theorem dX1_bestStart_78 : decode cX1_bestStart 78 = .ok (.isub, 1) := dk_100 (dk_at dksX1_bestStart_3 7 rfl rfl)
theorem dX1_bestStart_79 : decode cX1_bestStart 79 = .ok (.iconst 1, 1) := dk_4 (dk_at dksX1_bestStart_3 8 rfl rfl)
theorem dX1_bestStart_80 : decode cX1_bestStart 80 = .ok (.iadd, 1) := dk_96 (dk_at dksX1_bestStart_3 9 rfl rfl)
theorem dX1_bestStart_81 : decode cX1_bestStart 81 = .ok (.goto 5, 3) := dk_167 0 5 (dk_at dksX1_bestStart_3 10 rfl rfl)
theorem dX1_bestStart_84 : decode cX1_bestStart 84 = .ok (.iload 4, 2) := dk_21 4 (dk_at dksX1_bestStart_3 13 rfl rfl)
theorem dX1_bestStart_86 : decode cX1_bestStart 86 = .ok (.istore 4, 2) := dk_54 4 (dk_at dksX1_bestStart_3 15 rfl rfl)
theorem dX1_bestStart_88 : decode cX1_bestStart 88 = .ok (.iload_n 3, 1) := dk_29 (dk_at dksX1_bestStart_3 17 rfl rfl)
theorem dX1_bestStart_89 : decode cX1_bestStart 89 = .ok (.iload_n 2, 1) := dk_28 (dk_at dksX1_bestStart_3 18 rfl rfl)
theorem dX1_bestStart_90 : decode cX1_bestStart 90 = .ok (.invokestatic 217, 3) := dk_184 0 217 (dk_at dksX1_bestStart_3 19 rfl rfl)
theorem dX1_bestStart_93 : decode cX1_bestStart 93 = .ok (.istore_n 3, 1) := dk_62 (dk_at dksX1_bestStart_3 22 rfl rfl)
theorem dX1_bestStart_94 : decode cX1_bestStart 94 = .ok (.iinc 5 1, 3) := dk_132 5 1 (dk_at dksX1_bestStart_4 0 rfl rfl)
theorem dX1_bestStart_97 : decode cX1_bestStart 97 = .ok (.goto (-63), 3) := dk_167 255 193 (dk_at dksX1_bestStart_4 3 rfl rfl)
theorem dX1_bestStart_100 : decode cX1_bestStart 100 = .ok (.iload 4, 2) := dk_21 4 (dk_at dksX1_bestStart_4 6 rfl rfl)
theorem dX1_bestStart_102 : decode cX1_bestStart 102 = .ok (.ireturn, 1) := dk_172 (dk_at dksX1_bestStart_4 8 rfl rfl)
abbrev cX1_sumOf : ByteArray := prog_1_method_45_code
def yX1_sumOf : MethodName := ⟨RX1, "sumOf", "(II)I"⟩
def dkwX1_sumOf_1 : List UInt8 := [62, 132, 4, 1, 167, 255, 233, 29, 172]
abbrev dktX1_sumOf_1 : List UInt8 := dkwX1_sumOf_1 ++ []
def dkwX1_sumOf_0 : List UInt8 := [3, 62, 27, 54, 4, 21, 4, 27, 28, 96, 162, 0, 21, 29, 42, 180, 0, 56, 21, 4, 182, 0, 192, 96]
abbrev dktX1_sumOf_0 : List UInt8 := dkwX1_sumOf_0 ++ dktX1_sumOf_1
theorem dksX1_sumOf_0 : cX1_sumOf.data.toList.drop 0 = dktX1_sumOf_0 := by decide +kernel
theorem dksX1_sumOf_1 : cX1_sumOf.data.toList.drop 24 = dktX1_sumOf_1 := dk_seg dksX1_sumOf_0 24 rfl rfl
theorem dX1_sumOf_0 : decode cX1_sumOf 0 = .ok (.iconst 0, 1) := dk_3 (dk_at dksX1_sumOf_0 0 rfl rfl)
theorem dX1_sumOf_1 : decode cX1_sumOf 1 = .ok (.istore_n 3, 1) := dk_62 (dk_at dksX1_sumOf_0 1 rfl rfl)
theorem dX1_sumOf_2 : decode cX1_sumOf 2 = .ok (.iload_n 1, 1) := dk_27 (dk_at dksX1_sumOf_0 2 rfl rfl)
theorem dX1_sumOf_3 : decode cX1_sumOf 3 = .ok (.istore 4, 2) := dk_54 4 (dk_at dksX1_sumOf_0 3 rfl rfl)
theorem dX1_sumOf_5 : decode cX1_sumOf 5 = .ok (.iload 4, 2) := dk_21 4 (dk_at dksX1_sumOf_0 5 rfl rfl)
theorem dX1_sumOf_7 : decode cX1_sumOf 7 = .ok (.iload_n 1, 1) := dk_27 (dk_at dksX1_sumOf_0 7 rfl rfl)
theorem dX1_sumOf_8 : decode cX1_sumOf 8 = .ok (.iload_n 2, 1) := dk_28 (dk_at dksX1_sumOf_0 8 rfl rfl)
theorem dX1_sumOf_9 : decode cX1_sumOf 9 = .ok (.iadd, 1) := dk_96 (dk_at dksX1_sumOf_0 9 rfl rfl)
theorem dX1_sumOf_10 : decode cX1_sumOf 10 = .ok (.if_icmp .ge 21, 3) := dk_162 0 21 (dk_at dksX1_sumOf_0 10 rfl rfl)
theorem dX1_sumOf_13 : decode cX1_sumOf 13 = .ok (.iload_n 3, 1) := dk_29 (dk_at dksX1_sumOf_0 13 rfl rfl)
theorem dX1_sumOf_14 : decode cX1_sumOf 14 = .ok (.aload_n 0, 1) := dk_42 (dk_at dksX1_sumOf_0 14 rfl rfl)
theorem dX1_sumOf_15 : decode cX1_sumOf 15 = .ok (.getfield 56, 3) := dk_180 0 56 (dk_at dksX1_sumOf_0 15 rfl rfl)
theorem dX1_sumOf_18 : decode cX1_sumOf 18 = .ok (.iload 4, 2) := dk_21 4 (dk_at dksX1_sumOf_0 18 rfl rfl)
theorem dX1_sumOf_20 : decode cX1_sumOf 20 = .ok (.invokevirtual 192, 3) := dk_182 0 192 (dk_at dksX1_sumOf_0 20 rfl rfl)
theorem dX1_sumOf_23 : decode cX1_sumOf 23 = .ok (.iadd, 1) := dk_96 (dk_at dksX1_sumOf_0 23 rfl rfl)
theorem dX1_sumOf_24 : decode cX1_sumOf 24 = .ok (.istore_n 3, 1) := dk_62 (dk_at dksX1_sumOf_1 0 rfl rfl)
theorem dX1_sumOf_25 : decode cX1_sumOf 25 = .ok (.iinc 4 1, 3) := dk_132 4 1 (dk_at dksX1_sumOf_1 1 rfl rfl)
theorem dX1_sumOf_28 : decode cX1_sumOf 28 = .ok (.goto (-23), 3) := dk_167 255 233 (dk_at dksX1_sumOf_1 4 rfl rfl)
theorem dX1_sumOf_31 : decode cX1_sumOf 31 = .ok (.iload_n 3, 1) := dk_29 (dk_at dksX1_sumOf_1 7 rfl rfl)
theorem dX1_sumOf_32 : decode cX1_sumOf 32 = .ok (.ireturn, 1) := dk_172 (dk_at dksX1_sumOf_1 8 rfl rfl)
abbrev cX1_bestDaysByTrying : ByteArray := prog_1_method_47_code
def yX1_bestDaysByTrying : MethodName := ⟨RX1, "bestDaysByTrying", "(I)I"⟩
def dkwX1_bestDaysByTrying_1 : List UInt8 := [28, 42, 29, 27, 182, 0, 228, 184, 0, 217, 61, 132, 3, 1, 167, 255, 227, 28, 172]
abbrev dktX1_bestDaysByTrying_1 : List UInt8 := dkwX1_bestDaysByTrying_1 ++ []
def dkwX1_bestDaysByTrying_0 : List UInt8 := [42, 27, 182, 0, 222, 3, 61, 3, 62, 29, 27, 96, 42, 180, 0, 56, 180, 0, 84, 4, 96, 163, 0, 20]
abbrev dktX1_bestDaysByTrying_0 : List UInt8 := dkwX1_bestDaysByTrying_0 ++ dktX1_bestDaysByTrying_1
theorem dksX1_bestDaysByTrying_0 : cX1_bestDaysByTrying.data.toList.drop 0 = dktX1_bestDaysByTrying_0 := by decide +kernel
theorem dksX1_bestDaysByTrying_1 : cX1_bestDaysByTrying.data.toList.drop 24 = dktX1_bestDaysByTrying_1 := dk_seg dksX1_bestDaysByTrying_0 24 rfl rfl
theorem dX1_bestDaysByTrying_0 : decode cX1_bestDaysByTrying 0 = .ok (.aload_n 0, 1) := dk_42 (dk_at dksX1_bestDaysByTrying_0 0 rfl rfl)
theorem dX1_bestDaysByTrying_1 : decode cX1_bestDaysByTrying 1 = .ok (.iload_n 1, 1) := dk_27 (dk_at dksX1_bestDaysByTrying_0 1 rfl rfl)
theorem dX1_bestDaysByTrying_2 : decode cX1_bestDaysByTrying 2 = .ok (.invokevirtual 222, 3) := dk_182 0 222 (dk_at dksX1_bestDaysByTrying_0 2 rfl rfl)
theorem dX1_bestDaysByTrying_5 : decode cX1_bestDaysByTrying 5 = .ok (.iconst 0, 1) := dk_3 (dk_at dksX1_bestDaysByTrying_0 5 rfl rfl)
theorem dX1_bestDaysByTrying_6 : decode cX1_bestDaysByTrying 6 = .ok (.istore_n 2, 1) := dk_61 (dk_at dksX1_bestDaysByTrying_0 6 rfl rfl)
theorem dX1_bestDaysByTrying_7 : decode cX1_bestDaysByTrying 7 = .ok (.iconst 0, 1) := dk_3 (dk_at dksX1_bestDaysByTrying_0 7 rfl rfl)
theorem dX1_bestDaysByTrying_8 : decode cX1_bestDaysByTrying 8 = .ok (.istore_n 3, 1) := dk_62 (dk_at dksX1_bestDaysByTrying_0 8 rfl rfl)
theorem dX1_bestDaysByTrying_9 : decode cX1_bestDaysByTrying 9 = .ok (.iload_n 3, 1) := dk_29 (dk_at dksX1_bestDaysByTrying_0 9 rfl rfl)
theorem dX1_bestDaysByTrying_10 : decode cX1_bestDaysByTrying 10 = .ok (.iload_n 1, 1) := dk_27 (dk_at dksX1_bestDaysByTrying_0 10 rfl rfl)
theorem dX1_bestDaysByTrying_11 : decode cX1_bestDaysByTrying 11 = .ok (.iadd, 1) := dk_96 (dk_at dksX1_bestDaysByTrying_0 11 rfl rfl)
theorem dX1_bestDaysByTrying_12 : decode cX1_bestDaysByTrying 12 = .ok (.aload_n 0, 1) := dk_42 (dk_at dksX1_bestDaysByTrying_0 12 rfl rfl)
theorem dX1_bestDaysByTrying_13 : decode cX1_bestDaysByTrying 13 = .ok (.getfield 56, 3) := dk_180 0 56 (dk_at dksX1_bestDaysByTrying_0 13 rfl rfl)
theorem dX1_bestDaysByTrying_16 : decode cX1_bestDaysByTrying 16 = .ok (.getfield 84, 3) := dk_180 0 84 (dk_at dksX1_bestDaysByTrying_0 16 rfl rfl)
theorem dX1_bestDaysByTrying_19 : decode cX1_bestDaysByTrying 19 = .ok (.iconst 1, 1) := dk_4 (dk_at dksX1_bestDaysByTrying_0 19 rfl rfl)
theorem dX1_bestDaysByTrying_20 : decode cX1_bestDaysByTrying 20 = .ok (.iadd, 1) := dk_96 (dk_at dksX1_bestDaysByTrying_0 20 rfl rfl)
theorem dX1_bestDaysByTrying_21 : decode cX1_bestDaysByTrying 21 = .ok (.if_icmp .gt 20, 3) := dk_163 0 20 (dk_at dksX1_bestDaysByTrying_0 21 rfl rfl)
theorem dX1_bestDaysByTrying_24 : decode cX1_bestDaysByTrying 24 = .ok (.iload_n 2, 1) := dk_28 (dk_at dksX1_bestDaysByTrying_1 0 rfl rfl)
theorem dX1_bestDaysByTrying_25 : decode cX1_bestDaysByTrying 25 = .ok (.aload_n 0, 1) := dk_42 (dk_at dksX1_bestDaysByTrying_1 1 rfl rfl)
theorem dX1_bestDaysByTrying_26 : decode cX1_bestDaysByTrying 26 = .ok (.iload_n 3, 1) := dk_29 (dk_at dksX1_bestDaysByTrying_1 2 rfl rfl)
theorem dX1_bestDaysByTrying_27 : decode cX1_bestDaysByTrying 27 = .ok (.iload_n 1, 1) := dk_27 (dk_at dksX1_bestDaysByTrying_1 3 rfl rfl)
theorem dX1_bestDaysByTrying_28 : decode cX1_bestDaysByTrying 28 = .ok (.invokevirtual 228, 3) := dk_182 0 228 (dk_at dksX1_bestDaysByTrying_1 4 rfl rfl)
theorem dX1_bestDaysByTrying_31 : decode cX1_bestDaysByTrying 31 = .ok (.invokestatic 217, 3) := dk_184 0 217 (dk_at dksX1_bestDaysByTrying_1 7 rfl rfl)
theorem dX1_bestDaysByTrying_34 : decode cX1_bestDaysByTrying 34 = .ok (.istore_n 2, 1) := dk_61 (dk_at dksX1_bestDaysByTrying_1 10 rfl rfl)
theorem dX1_bestDaysByTrying_35 : decode cX1_bestDaysByTrying 35 = .ok (.iinc 3 1, 3) := dk_132 3 1 (dk_at dksX1_bestDaysByTrying_1 11 rfl rfl)
theorem dX1_bestDaysByTrying_38 : decode cX1_bestDaysByTrying 38 = .ok (.goto (-29), 3) := dk_167 255 227 (dk_at dksX1_bestDaysByTrying_1 14 rfl rfl)
theorem dX1_bestDaysByTrying_41 : decode cX1_bestDaysByTrying 41 = .ok (.iload_n 2, 1) := dk_28 (dk_at dksX1_bestDaysByTrying_1 17 rfl rfl)
theorem dX1_bestDaysByTrying_42 : decode cX1_bestDaysByTrying 42 = .ok (.ireturn, 1) := dk_172 (dk_at dksX1_bestDaysByTrying_1 18 rfl rfl)
abbrev cX1_bestDaysStart : ByteArray := prog_1_method_48_code
def yX1_bestDaysStart : MethodName := ⟨RX1, "bestDaysStart", "(I)I"⟩
def dkwX1_bestDaysStart_0 : List UInt8 := [42, 27, 182, 0, 222, 42, 27, 182, 0, 225, 172]
abbrev dktX1_bestDaysStart_0 : List UInt8 := dkwX1_bestDaysStart_0 ++ []
theorem dksX1_bestDaysStart_0 : cX1_bestDaysStart.data.toList.drop 0 = dktX1_bestDaysStart_0 := by decide +kernel
theorem dX1_bestDaysStart_0 : decode cX1_bestDaysStart 0 = .ok (.aload_n 0, 1) := dk_42 (dk_at dksX1_bestDaysStart_0 0 rfl rfl)
theorem dX1_bestDaysStart_1 : decode cX1_bestDaysStart 1 = .ok (.iload_n 1, 1) := dk_27 (dk_at dksX1_bestDaysStart_0 1 rfl rfl)
theorem dX1_bestDaysStart_2 : decode cX1_bestDaysStart 2 = .ok (.invokevirtual 222, 3) := dk_182 0 222 (dk_at dksX1_bestDaysStart_0 2 rfl rfl)
theorem dX1_bestDaysStart_5 : decode cX1_bestDaysStart 5 = .ok (.aload_n 0, 1) := dk_42 (dk_at dksX1_bestDaysStart_0 5 rfl rfl)
theorem dX1_bestDaysStart_6 : decode cX1_bestDaysStart 6 = .ok (.iload_n 1, 1) := dk_27 (dk_at dksX1_bestDaysStart_0 6 rfl rfl)
theorem dX1_bestDaysStart_7 : decode cX1_bestDaysStart 7 = .ok (.invokevirtual 225, 3) := dk_182 0 225 (dk_at dksX1_bestDaysStart_0 7 rfl rfl)
theorem dX1_bestDaysStart_10 : decode cX1_bestDaysStart 10 = .ok (.ireturn, 1) := dk_172 (dk_at dksX1_bestDaysStart_0 10 rfl rfl)
abbrev cX1_bestEffort : ByteArray := prog_1_method_50_code
def yX1_bestEffort : MethodName := ⟨RX1, "bestEffort", "(I)I"⟩
def dkwX1_bestEffort_3 : List UInt8 := [172]
abbrev dktX1_bestEffort_3 : List UInt8 := dkwX1_bestEffort_3 ++ []
def dkwX1_bestEffort_2 : List UInt8 := [184, 0, 235, 184, 0, 217, 61, 167, 255, 225, 28, 2, 159, 0, 7, 4, 167, 0, 4, 3, 184, 0, 214, 28]
abbrev dktX1_bestEffort_2 : List UInt8 := dkwX1_bestEffort_2 ++ dktX1_bestEffort_3
def dkwX1_bestEffort_1 : List UInt8 := [45, 185, 0, 32, 1, 0, 153, 0, 28, 45, 185, 0, 38, 1, 0, 192, 0, 168, 58, 4, 28, 25, 4, 27]
abbrev dktX1_bestEffort_1 : List UInt8 := dkwX1_bestEffort_1 ++ dktX1_bestEffort_2
def dkwX1_bestEffort_0 : List UInt8 := [27, 4, 17, 0, 240, 184, 0, 88, 184, 0, 92, 2, 61, 42, 180, 0, 56, 180, 0, 158, 182, 0, 26, 78]
abbrev dktX1_bestEffort_0 : List UInt8 := dkwX1_bestEffort_0 ++ dktX1_bestEffort_1
theorem dksX1_bestEffort_0 : cX1_bestEffort.data.toList.drop 0 = dktX1_bestEffort_0 := by decide +kernel
theorem dksX1_bestEffort_1 : cX1_bestEffort.data.toList.drop 24 = dktX1_bestEffort_1 := dk_seg dksX1_bestEffort_0 24 rfl rfl
theorem dksX1_bestEffort_2 : cX1_bestEffort.data.toList.drop 48 = dktX1_bestEffort_2 := dk_seg dksX1_bestEffort_1 24 rfl rfl
theorem dksX1_bestEffort_3 : cX1_bestEffort.data.toList.drop 72 = dktX1_bestEffort_3 := dk_seg dksX1_bestEffort_2 24 rfl rfl
theorem dX1_bestEffort_0 : decode cX1_bestEffort 0 = .ok (.iload_n 1, 1) := dk_27 (dk_at dksX1_bestEffort_0 0 rfl rfl)
theorem dX1_bestEffort_1 : decode cX1_bestEffort 1 = .ok (.iconst 1, 1) := dk_4 (dk_at dksX1_bestEffort_0 1 rfl rfl)
theorem dX1_bestEffort_2 : decode cX1_bestEffort 2 = .ok (.sipush 240, 3) := dk_17 0 240 (dk_at dksX1_bestEffort_0 2 rfl rfl)
theorem dX1_bestEffort_5 : decode cX1_bestEffort 5 = .ok (.invokestatic 88, 3) := dk_184 0 88 (dk_at dksX1_bestEffort_0 5 rfl rfl)
theorem dX1_bestEffort_8 : decode cX1_bestEffort 8 = .ok (.invokestatic 92, 3) := dk_184 0 92 (dk_at dksX1_bestEffort_0 8 rfl rfl)
theorem dX1_bestEffort_11 : decode cX1_bestEffort 11 = .ok (.iconst (-1), 1) := dk_2 (dk_at dksX1_bestEffort_0 11 rfl rfl)
theorem dX1_bestEffort_12 : decode cX1_bestEffort 12 = .ok (.istore_n 2, 1) := dk_61 (dk_at dksX1_bestEffort_0 12 rfl rfl)
theorem dX1_bestEffort_13 : decode cX1_bestEffort 13 = .ok (.aload_n 0, 1) := dk_42 (dk_at dksX1_bestEffort_0 13 rfl rfl)
theorem dX1_bestEffort_14 : decode cX1_bestEffort 14 = .ok (.getfield 56, 3) := dk_180 0 56 (dk_at dksX1_bestEffort_0 14 rfl rfl)
theorem dX1_bestEffort_17 : decode cX1_bestEffort 17 = .ok (.getfield 158, 3) := dk_180 0 158 (dk_at dksX1_bestEffort_0 17 rfl rfl)
theorem dX1_bestEffort_20 : decode cX1_bestEffort 20 = .ok (.invokevirtual 26, 3) := dk_182 0 26 (dk_at dksX1_bestEffort_0 20 rfl rfl)
theorem dX1_bestEffort_23 : decode cX1_bestEffort 23 = .ok (.astore_n 3, 1) := dk_78 (dk_at dksX1_bestEffort_0 23 rfl rfl)
theorem dX1_bestEffort_24 : decode cX1_bestEffort 24 = .ok (.aload_n 3, 1) := dk_45 (dk_at dksX1_bestEffort_1 0 rfl rfl)
theorem dX1_bestEffort_25 : decode cX1_bestEffort 25 = .ok (.invokeinterface 32 1, 5) := by decide +kernel
theorem dX1_bestEffort_30 : decode cX1_bestEffort 30 = .ok (.ifCond .eq 28, 3) := dk_153 0 28 (dk_at dksX1_bestEffort_1 6 rfl rfl)
theorem dX1_bestEffort_33 : decode cX1_bestEffort 33 = .ok (.aload_n 3, 1) := dk_45 (dk_at dksX1_bestEffort_1 9 rfl rfl)
theorem dX1_bestEffort_34 : decode cX1_bestEffort 34 = .ok (.invokeinterface 38 1, 5) := by decide +kernel
theorem dX1_bestEffort_39 : decode cX1_bestEffort 39 = .ok (.checkcast 168, 3) := dk_192 0 168 (dk_at dksX1_bestEffort_1 15 rfl rfl)
theorem dX1_bestEffort_42 : decode cX1_bestEffort 42 = .ok (.astore 4, 2) := dk_58 4 (dk_at dksX1_bestEffort_1 18 rfl rfl)
theorem dX1_bestEffort_44 : decode cX1_bestEffort 44 = .ok (.iload_n 2, 1) := dk_28 (dk_at dksX1_bestEffort_1 20 rfl rfl)
theorem dX1_bestEffort_45 : decode cX1_bestEffort 45 = .ok (.aload 4, 2) := dk_25 4 (dk_at dksX1_bestEffort_1 21 rfl rfl)
theorem dX1_bestEffort_47 : decode cX1_bestEffort 47 = .ok (.iload_n 1, 1) := dk_27 (dk_at dksX1_bestEffort_1 23 rfl rfl)
theorem dX1_bestEffort_48 : decode cX1_bestEffort 48 = .ok (.invokestatic 235, 3) := dk_184 0 235 (dk_at dksX1_bestEffort_2 0 rfl rfl)
theorem dX1_bestEffort_51 : decode cX1_bestEffort 51 = .ok (.invokestatic 217, 3) := dk_184 0 217 (dk_at dksX1_bestEffort_2 3 rfl rfl)
theorem dX1_bestEffort_54 : decode cX1_bestEffort 54 = .ok (.istore_n 2, 1) := dk_61 (dk_at dksX1_bestEffort_2 6 rfl rfl)
theorem dX1_bestEffort_55 : decode cX1_bestEffort 55 = .ok (.goto (-31), 3) := dk_167 255 225 (dk_at dksX1_bestEffort_2 7 rfl rfl)
theorem dX1_bestEffort_58 : decode cX1_bestEffort 58 = .ok (.iload_n 2, 1) := dk_28 (dk_at dksX1_bestEffort_2 10 rfl rfl)
theorem dX1_bestEffort_59 : decode cX1_bestEffort 59 = .ok (.iconst (-1), 1) := dk_2 (dk_at dksX1_bestEffort_2 11 rfl rfl)
theorem dX1_bestEffort_60 : decode cX1_bestEffort 60 = .ok (.if_icmp .eq 7, 3) := dk_159 0 7 (dk_at dksX1_bestEffort_2 12 rfl rfl)
theorem dX1_bestEffort_63 : decode cX1_bestEffort 63 = .ok (.iconst 1, 1) := dk_4 (dk_at dksX1_bestEffort_2 15 rfl rfl)
theorem dX1_bestEffort_64 : decode cX1_bestEffort 64 = .ok (.goto 4, 3) := dk_167 0 4 (dk_at dksX1_bestEffort_2 16 rfl rfl)
theorem dX1_bestEffort_67 : decode cX1_bestEffort 67 = .ok (.iconst 0, 1) := dk_3 (dk_at dksX1_bestEffort_2 19 rfl rfl)
theorem dX1_bestEffort_68 : decode cX1_bestEffort 68 = .ok (.invokestatic 214, 3) := dk_184 0 214 (dk_at dksX1_bestEffort_2 20 rfl rfl)
theorem dX1_bestEffort_71 : decode cX1_bestEffort 71 = .ok (.iload_n 2, 1) := dk_28 (dk_at dksX1_bestEffort_2 23 rfl rfl)
theorem dX1_bestEffort_72 : decode cX1_bestEffort 72 = .ok (.ireturn, 1) := dk_172 (dk_at dksX1_bestEffort_3 0 rfl rfl)
abbrev cX1_effortOf : ByteArray := prog_1_method_49_code
def yX1_effortOf : MethodName := ⟨RX1, "effortOf", "(LTrainingDiary$Session;I)I"⟩
def dkwX1_effortOf_3 : List UInt8 := [100, 184, 0, 217, 54, 4, 132, 5, 1, 167, 255, 196, 21, 4, 172]
abbrev dktX1_effortOf_3 : List UInt8 := dkwX1_effortOf_3 ++ []
def dkwX1_effortOf_2 : List UInt8 := [162, 0, 8, 21, 4, 167, 0, 23, 21, 4, 45, 21, 5, 4, 96, 46, 45, 21, 5, 4, 96, 27, 100, 46]
abbrev dktX1_effortOf_2 : List UInt8 := dkwX1_effortOf_2 ++ dktX1_effortOf_3
def dkwX1_effortOf_1 : List UInt8 := [162, 0, 59, 45, 21, 5, 4, 96, 45, 21, 5, 46, 44, 21, 5, 53, 96, 79, 21, 5, 4, 96, 27]
abbrev dktX1_effortOf_1 : List UInt8 := dkwX1_effortOf_1 ++ dktX1_effortOf_2
def dkwX1_effortOf_0 : List UInt8 := [42, 182, 0, 231, 77, 44, 190, 4, 96, 188, 10, 78, 2, 54, 4, 3, 54, 5, 21, 5, 44, 190]
abbrev dktX1_effortOf_0 : List UInt8 := dkwX1_effortOf_0 ++ dktX1_effortOf_1
theorem dksX1_effortOf_0 : cX1_effortOf.data.toList.drop 0 = dktX1_effortOf_0 := by decide +kernel
theorem dksX1_effortOf_1 : cX1_effortOf.data.toList.drop 22 = dktX1_effortOf_1 := dk_seg dksX1_effortOf_0 22 rfl rfl
theorem dksX1_effortOf_2 : cX1_effortOf.data.toList.drop 45 = dktX1_effortOf_2 := dk_seg dksX1_effortOf_1 23 rfl rfl
theorem dksX1_effortOf_3 : cX1_effortOf.data.toList.drop 69 = dktX1_effortOf_3 := dk_seg dksX1_effortOf_2 24 rfl rfl
theorem dX1_effortOf_0 : decode cX1_effortOf 0 = .ok (.aload_n 0, 1) := dk_42 (dk_at dksX1_effortOf_0 0 rfl rfl)
theorem dX1_effortOf_1 : decode cX1_effortOf 1 = .ok (.invokevirtual 231, 3) := dk_182 0 231 (dk_at dksX1_effortOf_0 1 rfl rfl)
theorem dX1_effortOf_4 : decode cX1_effortOf 4 = .ok (.astore_n 2, 1) := dk_77 (dk_at dksX1_effortOf_0 4 rfl rfl)
theorem dX1_effortOf_5 : decode cX1_effortOf 5 = .ok (.aload_n 2, 1) := dk_44 (dk_at dksX1_effortOf_0 5 rfl rfl)
theorem dX1_effortOf_6 : decode cX1_effortOf 6 = .ok (.arraylength, 1) := dk_190 (dk_at dksX1_effortOf_0 6 rfl rfl)
theorem dX1_effortOf_7 : decode cX1_effortOf 7 = .ok (.iconst 1, 1) := dk_4 (dk_at dksX1_effortOf_0 7 rfl rfl)
theorem dX1_effortOf_8 : decode cX1_effortOf 8 = .ok (.iadd, 1) := dk_96 (dk_at dksX1_effortOf_0 8 rfl rfl)
theorem dX1_effortOf_9 : decode cX1_effortOf 9 = .ok (.newarray .int, 2) := dk_188_10 (dk_at dksX1_effortOf_0 9 rfl rfl)
theorem dX1_effortOf_11 : decode cX1_effortOf 11 = .ok (.astore_n 3, 1) := dk_78 (dk_at dksX1_effortOf_0 11 rfl rfl)
theorem dX1_effortOf_12 : decode cX1_effortOf 12 = .ok (.iconst (-1), 1) := dk_2 (dk_at dksX1_effortOf_0 12 rfl rfl)
theorem dX1_effortOf_13 : decode cX1_effortOf 13 = .ok (.istore 4, 2) := dk_54 4 (dk_at dksX1_effortOf_0 13 rfl rfl)
theorem dX1_effortOf_15 : decode cX1_effortOf 15 = .ok (.iconst 0, 1) := dk_3 (dk_at dksX1_effortOf_0 15 rfl rfl)
theorem dX1_effortOf_16 : decode cX1_effortOf 16 = .ok (.istore 5, 2) := dk_54 5 (dk_at dksX1_effortOf_0 16 rfl rfl)
theorem dX1_effortOf_18 : decode cX1_effortOf 18 = .ok (.iload 5, 2) := dk_21 5 (dk_at dksX1_effortOf_0 18 rfl rfl)
theorem dX1_effortOf_20 : decode cX1_effortOf 20 = .ok (.aload_n 2, 1) := dk_44 (dk_at dksX1_effortOf_0 20 rfl rfl)
theorem dX1_effortOf_21 : decode cX1_effortOf 21 = .ok (.arraylength, 1) := dk_190 (dk_at dksX1_effortOf_0 21 rfl rfl)
theorem dX1_effortOf_22 : decode cX1_effortOf 22 = .ok (.if_icmp .ge 59, 3) := dk_162 0 59 (dk_at dksX1_effortOf_1 0 rfl rfl)
theorem dX1_effortOf_25 : decode cX1_effortOf 25 = .ok (.aload_n 3, 1) := dk_45 (dk_at dksX1_effortOf_1 3 rfl rfl)
theorem dX1_effortOf_26 : decode cX1_effortOf 26 = .ok (.iload 5, 2) := dk_21 5 (dk_at dksX1_effortOf_1 4 rfl rfl)
theorem dX1_effortOf_28 : decode cX1_effortOf 28 = .ok (.iconst 1, 1) := dk_4 (dk_at dksX1_effortOf_1 6 rfl rfl)
theorem dX1_effortOf_29 : decode cX1_effortOf 29 = .ok (.iadd, 1) := dk_96 (dk_at dksX1_effortOf_1 7 rfl rfl)
theorem dX1_effortOf_30 : decode cX1_effortOf 30 = .ok (.aload_n 3, 1) := dk_45 (dk_at dksX1_effortOf_1 8 rfl rfl)
theorem dX1_effortOf_31 : decode cX1_effortOf 31 = .ok (.iload 5, 2) := dk_21 5 (dk_at dksX1_effortOf_1 9 rfl rfl)
theorem dX1_effortOf_33 : decode cX1_effortOf 33 = .ok (.iaload, 1) := dk_46 (dk_at dksX1_effortOf_1 11 rfl rfl)
theorem dX1_effortOf_34 : decode cX1_effortOf 34 = .ok (.aload_n 2, 1) := dk_44 (dk_at dksX1_effortOf_1 12 rfl rfl)
theorem dX1_effortOf_35 : decode cX1_effortOf 35 = .ok (.iload 5, 2) := dk_21 5 (dk_at dksX1_effortOf_1 13 rfl rfl)
theorem dX1_effortOf_37 : decode cX1_effortOf 37 = .ok (.saload, 1) := dk_53 (dk_at dksX1_effortOf_1 15 rfl rfl)
theorem dX1_effortOf_38 : decode cX1_effortOf 38 = .ok (.iadd, 1) := dk_96 (dk_at dksX1_effortOf_1 16 rfl rfl)
theorem dX1_effortOf_39 : decode cX1_effortOf 39 = .ok (.iastore, 1) := dk_79 (dk_at dksX1_effortOf_1 17 rfl rfl)
theorem dX1_effortOf_40 : decode cX1_effortOf 40 = .ok (.iload 5, 2) := dk_21 5 (dk_at dksX1_effortOf_1 18 rfl rfl)
theorem dX1_effortOf_42 : decode cX1_effortOf 42 = .ok (.iconst 1, 1) := dk_4 (dk_at dksX1_effortOf_1 20 rfl rfl)
theorem dX1_effortOf_43 : decode cX1_effortOf 43 = .ok (.iadd, 1) := dk_96 (dk_at dksX1_effortOf_1 21 rfl rfl)
theorem dX1_effortOf_44 : decode cX1_effortOf 44 = .ok (.iload_n 1, 1) := dk_27 (dk_at dksX1_effortOf_1 22 rfl rfl)
theorem dX1_effortOf_45 : decode cX1_effortOf 45 = .ok (.if_icmp .ge 8, 3) := dk_162 0 8 (dk_at dksX1_effortOf_2 0 rfl rfl)
theorem dX1_effortOf_48 : decode cX1_effortOf 48 = .ok (.iload 4, 2) := dk_21 4 (dk_at dksX1_effortOf_2 3 rfl rfl)
theorem dX1_effortOf_50 : decode cX1_effortOf 50 = .ok (.goto 23, 3) := dk_167 0 23 (dk_at dksX1_effortOf_2 5 rfl rfl)
theorem dX1_effortOf_53 : decode cX1_effortOf 53 = .ok (.iload 4, 2) := dk_21 4 (dk_at dksX1_effortOf_2 8 rfl rfl)
theorem dX1_effortOf_55 : decode cX1_effortOf 55 = .ok (.aload_n 3, 1) := dk_45 (dk_at dksX1_effortOf_2 10 rfl rfl)
theorem dX1_effortOf_56 : decode cX1_effortOf 56 = .ok (.iload 5, 2) := dk_21 5 (dk_at dksX1_effortOf_2 11 rfl rfl)
theorem dX1_effortOf_58 : decode cX1_effortOf 58 = .ok (.iconst 1, 1) := dk_4 (dk_at dksX1_effortOf_2 13 rfl rfl)
theorem dX1_effortOf_59 : decode cX1_effortOf 59 = .ok (.iadd, 1) := dk_96 (dk_at dksX1_effortOf_2 14 rfl rfl)
theorem dX1_effortOf_60 : decode cX1_effortOf 60 = .ok (.iaload, 1) := dk_46 (dk_at dksX1_effortOf_2 15 rfl rfl)
theorem dX1_effortOf_61 : decode cX1_effortOf 61 = .ok (.aload_n 3, 1) := dk_45 (dk_at dksX1_effortOf_2 16 rfl rfl)
theorem dX1_effortOf_62 : decode cX1_effortOf 62 = .ok (.iload 5, 2) := dk_21 5 (dk_at dksX1_effortOf_2 17 rfl rfl)
theorem dX1_effortOf_64 : decode cX1_effortOf 64 = .ok (.iconst 1, 1) := dk_4 (dk_at dksX1_effortOf_2 19 rfl rfl)
theorem dX1_effortOf_65 : decode cX1_effortOf 65 = .ok (.iadd, 1) := dk_96 (dk_at dksX1_effortOf_2 20 rfl rfl)
theorem dX1_effortOf_66 : decode cX1_effortOf 66 = .ok (.iload_n 1, 1) := dk_27 (dk_at dksX1_effortOf_2 21 rfl rfl)
theorem dX1_effortOf_67 : decode cX1_effortOf 67 = .ok (.isub, 1) := dk_100 (dk_at dksX1_effortOf_2 22 rfl rfl)
theorem dX1_effortOf_68 : decode cX1_effortOf 68 = .ok (.iaload, 1) := dk_46 (dk_at dksX1_effortOf_2 23 rfl rfl)
theorem dX1_effortOf_69 : decode cX1_effortOf 69 = .ok (.isub, 1) := dk_100 (dk_at dksX1_effortOf_3 0 rfl rfl)
theorem dX1_effortOf_70 : decode cX1_effortOf 70 = .ok (.invokestatic 217, 3) := dk_184 0 217 (dk_at dksX1_effortOf_3 1 rfl rfl)
theorem dX1_effortOf_73 : decode cX1_effortOf 73 = .ok (.istore 4, 2) := dk_54 4 (dk_at dksX1_effortOf_3 4 rfl rfl)
theorem dX1_effortOf_75 : decode cX1_effortOf 75 = .ok (.iinc 5 1, 3) := dk_132 5 1 (dk_at dksX1_effortOf_3 6 rfl rfl)
theorem dX1_effortOf_78 : decode cX1_effortOf 78 = .ok (.goto (-60), 3) := dk_167 255 196 (dk_at dksX1_effortOf_3 9 rfl rfl)
theorem dX1_effortOf_81 : decode cX1_effortOf 81 = .ok (.iload 4, 2) := dk_21 4 (dk_at dksX1_effortOf_3 12 rfl rfl)
theorem dX1_effortOf_83 : decode cX1_effortOf 83 = .ok (.ireturn, 1) := dk_172 (dk_at dksX1_effortOf_3 14 rfl rfl)
abbrev cX1_bestEffortByTrying : ByteArray := prog_1_method_51_code
def yX1_bestEffortByTrying : MethodName := ⟨RX1, "bestEffortByTrying", "(I)I"⟩
def dkwX1_bestEffortByTrying_5 : List UInt8 := [4, 167, 0, 4, 3, 184, 0, 214, 28, 172]
abbrev dktX1_bestEffortByTrying_5 : List UInt8 := dkwX1_bestEffortByTrying_5 ++ []
def dkwX1_bestEffortByTrying_4 : List UInt8 := [167, 255, 223, 28, 21, 7, 184, 0, 217, 61, 132, 6, 1, 167, 255, 203, 167, 255, 170, 28, 2, 159, 0, 7]
abbrev dktX1_bestEffortByTrying_4 : List UInt8 := dkwX1_bestEffortByTrying_4 ++ dktX1_bestEffortByTrying_5
def dkwX1_bestEffortByTrying_3 : List UInt8 := [21, 8, 25, 5, 190, 161, 0, 6, 167, 0, 32, 21, 7, 25, 5, 21, 8, 53, 96, 54, 7, 132, 8, 1]
abbrev dktX1_bestEffortByTrying_3 : List UInt8 := dkwX1_bestEffortByTrying_3 ++ dktX1_bestEffortByTrying_4
def dkwX1_bestEffortByTrying_2 : List UInt8 := [182, 0, 231, 58, 5, 3, 54, 6, 3, 54, 7, 21, 6, 54, 8, 21, 8, 21, 6, 27, 96, 162, 0, 30]
abbrev dktX1_bestEffortByTrying_2 : List UInt8 := dkwX1_bestEffortByTrying_2 ++ dktX1_bestEffortByTrying_3
def dkwX1_bestEffortByTrying_1 : List UInt8 := [45, 185, 0, 32, 1, 0, 153, 0, 83, 45, 185, 0, 38, 1, 0, 192, 0, 168, 58, 4, 25, 4]
abbrev dktX1_bestEffortByTrying_1 : List UInt8 := dkwX1_bestEffortByTrying_1 ++ dktX1_bestEffortByTrying_2
def dkwX1_bestEffortByTrying_0 : List UInt8 := [27, 4, 17, 0, 240, 184, 0, 88, 184, 0, 92, 2, 61, 42, 180, 0, 56, 180, 0, 158, 182, 0, 26, 78]
abbrev dktX1_bestEffortByTrying_0 : List UInt8 := dkwX1_bestEffortByTrying_0 ++ dktX1_bestEffortByTrying_1
theorem dksX1_bestEffortByTrying_0 : cX1_bestEffortByTrying.data.toList.drop 0 = dktX1_bestEffortByTrying_0 := by decide +kernel
theorem dksX1_bestEffortByTrying_1 : cX1_bestEffortByTrying.data.toList.drop 24 = dktX1_bestEffortByTrying_1 := dk_seg dksX1_bestEffortByTrying_0 24 rfl rfl
theorem dksX1_bestEffortByTrying_2 : cX1_bestEffortByTrying.data.toList.drop 46 = dktX1_bestEffortByTrying_2 := dk_seg dksX1_bestEffortByTrying_1 22 rfl rfl
theorem dksX1_bestEffortByTrying_3 : cX1_bestEffortByTrying.data.toList.drop 70 = dktX1_bestEffortByTrying_3 := dk_seg dksX1_bestEffortByTrying_2 24 rfl rfl
theorem dksX1_bestEffortByTrying_4 : cX1_bestEffortByTrying.data.toList.drop 94 = dktX1_bestEffortByTrying_4 := dk_seg dksX1_bestEffortByTrying_3 24 rfl rfl
theorem dksX1_bestEffortByTrying_5 : cX1_bestEffortByTrying.data.toList.drop 118 = dktX1_bestEffortByTrying_5 := dk_seg dksX1_bestEffortByTrying_4 24 rfl rfl
theorem dX1_bestEffortByTrying_0 : decode cX1_bestEffortByTrying 0 = .ok (.iload_n 1, 1) := dk_27 (dk_at dksX1_bestEffortByTrying_0 0 rfl rfl)
theorem dX1_bestEffortByTrying_1 : decode cX1_bestEffortByTrying 1 = .ok (.iconst 1, 1) := dk_4 (dk_at dksX1_bestEffortByTrying_0 1 rfl rfl)
theorem dX1_bestEffortByTrying_2 : decode cX1_bestEffortByTrying 2 = .ok (.sipush 240, 3) := dk_17 0 240 (dk_at dksX1_bestEffortByTrying_0 2 rfl rfl)
theorem dX1_bestEffortByTrying_5 : decode cX1_bestEffortByTrying 5 = .ok (.invokestatic 88, 3) := dk_184 0 88 (dk_at dksX1_bestEffortByTrying_0 5 rfl rfl)
theorem dX1_bestEffortByTrying_8 : decode cX1_bestEffortByTrying 8 = .ok (.invokestatic 92, 3) := dk_184 0 92 (dk_at dksX1_bestEffortByTrying_0 8 rfl rfl)
theorem dX1_bestEffortByTrying_11 : decode cX1_bestEffortByTrying 11 = .ok (.iconst (-1), 1) := dk_2 (dk_at dksX1_bestEffortByTrying_0 11 rfl rfl)
theorem dX1_bestEffortByTrying_12 : decode cX1_bestEffortByTrying 12 = .ok (.istore_n 2, 1) := dk_61 (dk_at dksX1_bestEffortByTrying_0 12 rfl rfl)
theorem dX1_bestEffortByTrying_13 : decode cX1_bestEffortByTrying 13 = .ok (.aload_n 0, 1) := dk_42 (dk_at dksX1_bestEffortByTrying_0 13 rfl rfl)
theorem dX1_bestEffortByTrying_14 : decode cX1_bestEffortByTrying 14 = .ok (.getfield 56, 3) := dk_180 0 56 (dk_at dksX1_bestEffortByTrying_0 14 rfl rfl)
theorem dX1_bestEffortByTrying_17 : decode cX1_bestEffortByTrying 17 = .ok (.getfield 158, 3) := dk_180 0 158 (dk_at dksX1_bestEffortByTrying_0 17 rfl rfl)
theorem dX1_bestEffortByTrying_20 : decode cX1_bestEffortByTrying 20 = .ok (.invokevirtual 26, 3) := dk_182 0 26 (dk_at dksX1_bestEffortByTrying_0 20 rfl rfl)
theorem dX1_bestEffortByTrying_23 : decode cX1_bestEffortByTrying 23 = .ok (.astore_n 3, 1) := dk_78 (dk_at dksX1_bestEffortByTrying_0 23 rfl rfl)
theorem dX1_bestEffortByTrying_24 : decode cX1_bestEffortByTrying 24 = .ok (.aload_n 3, 1) := dk_45 (dk_at dksX1_bestEffortByTrying_1 0 rfl rfl)
theorem dX1_bestEffortByTrying_25 : decode cX1_bestEffortByTrying 25 = .ok (.invokeinterface 32 1, 5) := by decide +kernel
theorem dX1_bestEffortByTrying_30 : decode cX1_bestEffortByTrying 30 = .ok (.ifCond .eq 83, 3) := dk_153 0 83 (dk_at dksX1_bestEffortByTrying_1 6 rfl rfl)
theorem dX1_bestEffortByTrying_33 : decode cX1_bestEffortByTrying 33 = .ok (.aload_n 3, 1) := dk_45 (dk_at dksX1_bestEffortByTrying_1 9 rfl rfl)
theorem dX1_bestEffortByTrying_34 : decode cX1_bestEffortByTrying 34 = .ok (.invokeinterface 38 1, 5) := by decide +kernel
theorem dX1_bestEffortByTrying_39 : decode cX1_bestEffortByTrying 39 = .ok (.checkcast 168, 3) := dk_192 0 168 (dk_at dksX1_bestEffortByTrying_1 15 rfl rfl)
theorem dX1_bestEffortByTrying_42 : decode cX1_bestEffortByTrying 42 = .ok (.astore 4, 2) := dk_58 4 (dk_at dksX1_bestEffortByTrying_1 18 rfl rfl)
theorem dX1_bestEffortByTrying_44 : decode cX1_bestEffortByTrying 44 = .ok (.aload 4, 2) := dk_25 4 (dk_at dksX1_bestEffortByTrying_1 20 rfl rfl)
theorem dX1_bestEffortByTrying_46 : decode cX1_bestEffortByTrying 46 = .ok (.invokevirtual 231, 3) := dk_182 0 231 (dk_at dksX1_bestEffortByTrying_2 0 rfl rfl)
theorem dX1_bestEffortByTrying_49 : decode cX1_bestEffortByTrying 49 = .ok (.astore 5, 2) := dk_58 5 (dk_at dksX1_bestEffortByTrying_2 3 rfl rfl)
theorem dX1_bestEffortByTrying_51 : decode cX1_bestEffortByTrying 51 = .ok (.iconst 0, 1) := dk_3 (dk_at dksX1_bestEffortByTrying_2 5 rfl rfl)
theorem dX1_bestEffortByTrying_52 : decode cX1_bestEffortByTrying 52 = .ok (.istore 6, 2) := dk_54 6 (dk_at dksX1_bestEffortByTrying_2 6 rfl rfl)
theorem dX1_bestEffortByTrying_54 : decode cX1_bestEffortByTrying 54 = .ok (.iconst 0, 1) := dk_3 (dk_at dksX1_bestEffortByTrying_2 8 rfl rfl)
theorem dX1_bestEffortByTrying_55 : decode cX1_bestEffortByTrying 55 = .ok (.istore 7, 2) := dk_54 7 (dk_at dksX1_bestEffortByTrying_2 9 rfl rfl)
theorem dX1_bestEffortByTrying_57 : decode cX1_bestEffortByTrying 57 = .ok (.iload 6, 2) := dk_21 6 (dk_at dksX1_bestEffortByTrying_2 11 rfl rfl)
theorem dX1_bestEffortByTrying_59 : decode cX1_bestEffortByTrying 59 = .ok (.istore 8, 2) := dk_54 8 (dk_at dksX1_bestEffortByTrying_2 13 rfl rfl)
theorem dX1_bestEffortByTrying_61 : decode cX1_bestEffortByTrying 61 = .ok (.iload 8, 2) := dk_21 8 (dk_at dksX1_bestEffortByTrying_2 15 rfl rfl)
theorem dX1_bestEffortByTrying_63 : decode cX1_bestEffortByTrying 63 = .ok (.iload 6, 2) := dk_21 6 (dk_at dksX1_bestEffortByTrying_2 17 rfl rfl)
theorem dX1_bestEffortByTrying_65 : decode cX1_bestEffortByTrying 65 = .ok (.iload_n 1, 1) := dk_27 (dk_at dksX1_bestEffortByTrying_2 19 rfl rfl)
theorem dX1_bestEffortByTrying_66 : decode cX1_bestEffortByTrying 66 = .ok (.iadd, 1) := dk_96 (dk_at dksX1_bestEffortByTrying_2 20 rfl rfl)
theorem dX1_bestEffortByTrying_67 : decode cX1_bestEffortByTrying 67 = .ok (.if_icmp .ge 30, 3) := dk_162 0 30 (dk_at dksX1_bestEffortByTrying_2 21 rfl rfl)
theorem dX1_bestEffortByTrying_70 : decode cX1_bestEffortByTrying 70 = .ok (.iload 8, 2) := dk_21 8 (dk_at dksX1_bestEffortByTrying_3 0 rfl rfl)
theorem dX1_bestEffortByTrying_72 : decode cX1_bestEffortByTrying 72 = .ok (.aload 5, 2) := dk_25 5 (dk_at dksX1_bestEffortByTrying_3 2 rfl rfl)
theorem dX1_bestEffortByTrying_74 : decode cX1_bestEffortByTrying 74 = .ok (.arraylength, 1) := dk_190 (dk_at dksX1_bestEffortByTrying_3 4 rfl rfl)
theorem dX1_bestEffortByTrying_75 : decode cX1_bestEffortByTrying 75 = .ok (.if_icmp .lt 6, 3) := dk_161 0 6 (dk_at dksX1_bestEffortByTrying_3 5 rfl rfl)
theorem dX1_bestEffortByTrying_78 : decode cX1_bestEffortByTrying 78 = .ok (.goto 32, 3) := dk_167 0 32 (dk_at dksX1_bestEffortByTrying_3 8 rfl rfl)
theorem dX1_bestEffortByTrying_81 : decode cX1_bestEffortByTrying 81 = .ok (.iload 7, 2) := dk_21 7 (dk_at dksX1_bestEffortByTrying_3 11 rfl rfl)
theorem dX1_bestEffortByTrying_83 : decode cX1_bestEffortByTrying 83 = .ok (.aload 5, 2) := dk_25 5 (dk_at dksX1_bestEffortByTrying_3 13 rfl rfl)
theorem dX1_bestEffortByTrying_85 : decode cX1_bestEffortByTrying 85 = .ok (.iload 8, 2) := dk_21 8 (dk_at dksX1_bestEffortByTrying_3 15 rfl rfl)
theorem dX1_bestEffortByTrying_87 : decode cX1_bestEffortByTrying 87 = .ok (.saload, 1) := dk_53 (dk_at dksX1_bestEffortByTrying_3 17 rfl rfl)
theorem dX1_bestEffortByTrying_88 : decode cX1_bestEffortByTrying 88 = .ok (.iadd, 1) := dk_96 (dk_at dksX1_bestEffortByTrying_3 18 rfl rfl)
theorem dX1_bestEffortByTrying_89 : decode cX1_bestEffortByTrying 89 = .ok (.istore 7, 2) := dk_54 7 (dk_at dksX1_bestEffortByTrying_3 19 rfl rfl)
theorem dX1_bestEffortByTrying_91 : decode cX1_bestEffortByTrying 91 = .ok (.iinc 8 1, 3) := dk_132 8 1 (dk_at dksX1_bestEffortByTrying_3 21 rfl rfl)
theorem dX1_bestEffortByTrying_94 : decode cX1_bestEffortByTrying 94 = .ok (.goto (-33), 3) := dk_167 255 223 (dk_at dksX1_bestEffortByTrying_4 0 rfl rfl)
theorem dX1_bestEffortByTrying_97 : decode cX1_bestEffortByTrying 97 = .ok (.iload_n 2, 1) := dk_28 (dk_at dksX1_bestEffortByTrying_4 3 rfl rfl)
theorem dX1_bestEffortByTrying_98 : decode cX1_bestEffortByTrying 98 = .ok (.iload 7, 2) := dk_21 7 (dk_at dksX1_bestEffortByTrying_4 4 rfl rfl)
theorem dX1_bestEffortByTrying_100 : decode cX1_bestEffortByTrying 100 = .ok (.invokestatic 217, 3) := dk_184 0 217 (dk_at dksX1_bestEffortByTrying_4 6 rfl rfl)
theorem dX1_bestEffortByTrying_103 : decode cX1_bestEffortByTrying 103 = .ok (.istore_n 2, 1) := dk_61 (dk_at dksX1_bestEffortByTrying_4 9 rfl rfl)
theorem dX1_bestEffortByTrying_104 : decode cX1_bestEffortByTrying 104 = .ok (.iinc 6 1, 3) := dk_132 6 1 (dk_at dksX1_bestEffortByTrying_4 10 rfl rfl)
theorem dX1_bestEffortByTrying_107 : decode cX1_bestEffortByTrying 107 = .ok (.goto (-53), 3) := dk_167 255 203 (dk_at dksX1_bestEffortByTrying_4 13 rfl rfl)
theorem dX1_bestEffortByTrying_110 : decode cX1_bestEffortByTrying 110 = .ok (.goto (-86), 3) := dk_167 255 170 (dk_at dksX1_bestEffortByTrying_4 16 rfl rfl)
theorem dX1_bestEffortByTrying_113 : decode cX1_bestEffortByTrying 113 = .ok (.iload_n 2, 1) := dk_28 (dk_at dksX1_bestEffortByTrying_4 19 rfl rfl)
theorem dX1_bestEffortByTrying_114 : decode cX1_bestEffortByTrying 114 = .ok (.iconst (-1), 1) := dk_2 (dk_at dksX1_bestEffortByTrying_4 20 rfl rfl)
theorem dX1_bestEffortByTrying_115 : decode cX1_bestEffortByTrying 115 = .ok (.if_icmp .eq 7, 3) := dk_159 0 7 (dk_at dksX1_bestEffortByTrying_4 21 rfl rfl)
theorem dX1_bestEffortByTrying_118 : decode cX1_bestEffortByTrying 118 = .ok (.iconst 1, 1) := dk_4 (dk_at dksX1_bestEffortByTrying_5 0 rfl rfl)
theorem dX1_bestEffortByTrying_119 : decode cX1_bestEffortByTrying 119 = .ok (.goto 4, 3) := dk_167 0 4 (dk_at dksX1_bestEffortByTrying_5 1 rfl rfl)
theorem dX1_bestEffortByTrying_122 : decode cX1_bestEffortByTrying 122 = .ok (.iconst 0, 1) := dk_3 (dk_at dksX1_bestEffortByTrying_5 4 rfl rfl)
theorem dX1_bestEffortByTrying_123 : decode cX1_bestEffortByTrying 123 = .ok (.invokestatic 214, 3) := dk_184 0 214 (dk_at dksX1_bestEffortByTrying_5 5 rfl rfl)
theorem dX1_bestEffortByTrying_126 : decode cX1_bestEffortByTrying 126 = .ok (.iload_n 2, 1) := dk_28 (dk_at dksX1_bestEffortByTrying_5 8 rfl rfl)
theorem dX1_bestEffortByTrying_127 : decode cX1_bestEffortByTrying 127 = .ok (.ireturn, 1) := dk_172 (dk_at dksX1_bestEffortByTrying_5 9 rfl rfl)
abbrev cX1_bestEffortSession : ByteArray := prog_1_method_52_code
def yX1_bestEffortSession : MethodName := ⟨RX1, "bestEffortSession", "(I)I"⟩
def dkwX1_bestEffortSession_4 : List UInt8 := [3, 184, 0, 214, 29, 172]
abbrev dktX1_bestEffortSession_4 : List UInt8 := dkwX1_bestEffortSession_4 ++ []
def dkwX1_bestEffortSession_3 : List UInt8 := [167, 0, 4, 29, 62, 28, 21, 6, 184, 0, 217, 61, 167, 255, 203, 29, 2, 159, 0, 7, 4, 167, 0, 4]
abbrev dktX1_bestEffortSession_3 : List UInt8 := dkwX1_bestEffortSession_3 ++ dktX1_bestEffortSession_4
def dkwX1_bestEffortSession_2 : List UInt8 := [192, 0, 168, 58, 5, 25, 5, 27, 184, 0, 235, 54, 6, 21, 6, 28, 164, 0, 11, 25, 5, 180, 0, 170]
abbrev dktX1_bestEffortSession_2 : List UInt8 := dkwX1_bestEffortSession_2 ++ dktX1_bestEffortSession_3
def dkwX1_bestEffortSession_1 : List UInt8 := [182, 0, 26, 58, 4, 25, 4, 185, 0, 32, 1, 0, 153, 0, 49, 25, 4, 185, 0, 38, 1, 0]
abbrev dktX1_bestEffortSession_1 : List UInt8 := dkwX1_bestEffortSession_1 ++ dktX1_bestEffortSession_2
def dkwX1_bestEffortSession_0 : List UInt8 := [27, 4, 17, 0, 240, 184, 0, 88, 184, 0, 92, 2, 61, 2, 62, 42, 180, 0, 56, 180, 0, 158]
abbrev dktX1_bestEffortSession_0 : List UInt8 := dkwX1_bestEffortSession_0 ++ dktX1_bestEffortSession_1
theorem dksX1_bestEffortSession_0 : cX1_bestEffortSession.data.toList.drop 0 = dktX1_bestEffortSession_0 := by decide +kernel
theorem dksX1_bestEffortSession_1 : cX1_bestEffortSession.data.toList.drop 22 = dktX1_bestEffortSession_1 := dk_seg dksX1_bestEffortSession_0 22 rfl rfl
theorem dksX1_bestEffortSession_2 : cX1_bestEffortSession.data.toList.drop 44 = dktX1_bestEffortSession_2 := dk_seg dksX1_bestEffortSession_1 22 rfl rfl
theorem dksX1_bestEffortSession_3 : cX1_bestEffortSession.data.toList.drop 68 = dktX1_bestEffortSession_3 := dk_seg dksX1_bestEffortSession_2 24 rfl rfl
theorem dksX1_bestEffortSession_4 : cX1_bestEffortSession.data.toList.drop 92 = dktX1_bestEffortSession_4 := dk_seg dksX1_bestEffortSession_3 24 rfl rfl
theorem dX1_bestEffortSession_0 : decode cX1_bestEffortSession 0 = .ok (.iload_n 1, 1) := dk_27 (dk_at dksX1_bestEffortSession_0 0 rfl rfl)
theorem dX1_bestEffortSession_1 : decode cX1_bestEffortSession 1 = .ok (.iconst 1, 1) := dk_4 (dk_at dksX1_bestEffortSession_0 1 rfl rfl)
theorem dX1_bestEffortSession_2 : decode cX1_bestEffortSession 2 = .ok (.sipush 240, 3) := dk_17 0 240 (dk_at dksX1_bestEffortSession_0 2 rfl rfl)
theorem dX1_bestEffortSession_5 : decode cX1_bestEffortSession 5 = .ok (.invokestatic 88, 3) := dk_184 0 88 (dk_at dksX1_bestEffortSession_0 5 rfl rfl)
theorem dX1_bestEffortSession_8 : decode cX1_bestEffortSession 8 = .ok (.invokestatic 92, 3) := dk_184 0 92 (dk_at dksX1_bestEffortSession_0 8 rfl rfl)
theorem dX1_bestEffortSession_11 : decode cX1_bestEffortSession 11 = .ok (.iconst (-1), 1) := dk_2 (dk_at dksX1_bestEffortSession_0 11 rfl rfl)
theorem dX1_bestEffortSession_12 : decode cX1_bestEffortSession 12 = .ok (.istore_n 2, 1) := dk_61 (dk_at dksX1_bestEffortSession_0 12 rfl rfl)
theorem dX1_bestEffortSession_13 : decode cX1_bestEffortSession 13 = .ok (.iconst (-1), 1) := dk_2 (dk_at dksX1_bestEffortSession_0 13 rfl rfl)
theorem dX1_bestEffortSession_14 : decode cX1_bestEffortSession 14 = .ok (.istore_n 3, 1) := dk_62 (dk_at dksX1_bestEffortSession_0 14 rfl rfl)
theorem dX1_bestEffortSession_15 : decode cX1_bestEffortSession 15 = .ok (.aload_n 0, 1) := dk_42 (dk_at dksX1_bestEffortSession_0 15 rfl rfl)
theorem dX1_bestEffortSession_16 : decode cX1_bestEffortSession 16 = .ok (.getfield 56, 3) := dk_180 0 56 (dk_at dksX1_bestEffortSession_0 16 rfl rfl)
theorem dX1_bestEffortSession_19 : decode cX1_bestEffortSession 19 = .ok (.getfield 158, 3) := dk_180 0 158 (dk_at dksX1_bestEffortSession_0 19 rfl rfl)
theorem dX1_bestEffortSession_22 : decode cX1_bestEffortSession 22 = .ok (.invokevirtual 26, 3) := dk_182 0 26 (dk_at dksX1_bestEffortSession_1 0 rfl rfl)
theorem dX1_bestEffortSession_25 : decode cX1_bestEffortSession 25 = .ok (.astore 4, 2) := dk_58 4 (dk_at dksX1_bestEffortSession_1 3 rfl rfl)
theorem dX1_bestEffortSession_27 : decode cX1_bestEffortSession 27 = .ok (.aload 4, 2) := dk_25 4 (dk_at dksX1_bestEffortSession_1 5 rfl rfl)
theorem dX1_bestEffortSession_29 : decode cX1_bestEffortSession 29 = .ok (.invokeinterface 32 1, 5) := by decide +kernel
theorem dX1_bestEffortSession_34 : decode cX1_bestEffortSession 34 = .ok (.ifCond .eq 49, 3) := dk_153 0 49 (dk_at dksX1_bestEffortSession_1 12 rfl rfl)
theorem dX1_bestEffortSession_37 : decode cX1_bestEffortSession 37 = .ok (.aload 4, 2) := dk_25 4 (dk_at dksX1_bestEffortSession_1 15 rfl rfl)
theorem dX1_bestEffortSession_39 : decode cX1_bestEffortSession 39 = .ok (.invokeinterface 38 1, 5) := by decide +kernel
theorem dX1_bestEffortSession_44 : decode cX1_bestEffortSession 44 = .ok (.checkcast 168, 3) := dk_192 0 168 (dk_at dksX1_bestEffortSession_2 0 rfl rfl)
theorem dX1_bestEffortSession_47 : decode cX1_bestEffortSession 47 = .ok (.astore 5, 2) := dk_58 5 (dk_at dksX1_bestEffortSession_2 3 rfl rfl)
theorem dX1_bestEffortSession_49 : decode cX1_bestEffortSession 49 = .ok (.aload 5, 2) := dk_25 5 (dk_at dksX1_bestEffortSession_2 5 rfl rfl)
theorem dX1_bestEffortSession_51 : decode cX1_bestEffortSession 51 = .ok (.iload_n 1, 1) := dk_27 (dk_at dksX1_bestEffortSession_2 7 rfl rfl)
theorem dX1_bestEffortSession_52 : decode cX1_bestEffortSession 52 = .ok (.invokestatic 235, 3) := dk_184 0 235 (dk_at dksX1_bestEffortSession_2 8 rfl rfl)
theorem dX1_bestEffortSession_55 : decode cX1_bestEffortSession 55 = .ok (.istore 6, 2) := dk_54 6 (dk_at dksX1_bestEffortSession_2 11 rfl rfl)
theorem dX1_bestEffortSession_57 : decode cX1_bestEffortSession 57 = .ok (.iload 6, 2) := dk_21 6 (dk_at dksX1_bestEffortSession_2 13 rfl rfl)
theorem dX1_bestEffortSession_59 : decode cX1_bestEffortSession 59 = .ok (.iload_n 2, 1) := dk_28 (dk_at dksX1_bestEffortSession_2 15 rfl rfl)
theorem dX1_bestEffortSession_60 : decode cX1_bestEffortSession 60 = .ok (.if_icmp .le 11, 3) := dk_164 0 11 (dk_at dksX1_bestEffortSession_2 16 rfl rfl)
theorem dX1_bestEffortSession_63 : decode cX1_bestEffortSession 63 = .ok (.aload 5, 2) := dk_25 5 (dk_at dksX1_bestEffortSession_2 19 rfl rfl)
theorem dX1_bestEffortSession_65 : decode cX1_bestEffortSession 65 = .ok (.getfield 170, 3) := dk_180 0 170 (dk_at dksX1_bestEffortSession_2 21 rfl rfl)
theorem dX1_bestEffortSession_68 : decode cX1_bestEffortSession 68 = .ok (.goto 4, 3) := dk_167 0 4 (dk_at dksX1_bestEffortSession_3 0 rfl rfl)
theorem dX1_bestEffortSession_71 : decode cX1_bestEffortSession 71 = .ok (.iload_n 3, 1) := dk_29 (dk_at dksX1_bestEffortSession_3 3 rfl rfl)
theorem dX1_bestEffortSession_72 : decode cX1_bestEffortSession 72 = .ok (.istore_n 3, 1) := dk_62 (dk_at dksX1_bestEffortSession_3 4 rfl rfl)
theorem dX1_bestEffortSession_73 : decode cX1_bestEffortSession 73 = .ok (.iload_n 2, 1) := dk_28 (dk_at dksX1_bestEffortSession_3 5 rfl rfl)
theorem dX1_bestEffortSession_74 : decode cX1_bestEffortSession 74 = .ok (.iload 6, 2) := dk_21 6 (dk_at dksX1_bestEffortSession_3 6 rfl rfl)
theorem dX1_bestEffortSession_76 : decode cX1_bestEffortSession 76 = .ok (.invokestatic 217, 3) := dk_184 0 217 (dk_at dksX1_bestEffortSession_3 8 rfl rfl)
theorem dX1_bestEffortSession_79 : decode cX1_bestEffortSession 79 = .ok (.istore_n 2, 1) := dk_61 (dk_at dksX1_bestEffortSession_3 11 rfl rfl)
theorem dX1_bestEffortSession_80 : decode cX1_bestEffortSession 80 = .ok (.goto (-53), 3) := dk_167 255 203 (dk_at dksX1_bestEffortSession_3 12 rfl rfl)
theorem dX1_bestEffortSession_83 : decode cX1_bestEffortSession 83 = .ok (.iload_n 3, 1) := dk_29 (dk_at dksX1_bestEffortSession_3 15 rfl rfl)
theorem dX1_bestEffortSession_84 : decode cX1_bestEffortSession 84 = .ok (.iconst (-1), 1) := dk_2 (dk_at dksX1_bestEffortSession_3 16 rfl rfl)
theorem dX1_bestEffortSession_85 : decode cX1_bestEffortSession 85 = .ok (.if_icmp .eq 7, 3) := dk_159 0 7 (dk_at dksX1_bestEffortSession_3 17 rfl rfl)
theorem dX1_bestEffortSession_88 : decode cX1_bestEffortSession 88 = .ok (.iconst 1, 1) := dk_4 (dk_at dksX1_bestEffortSession_3 20 rfl rfl)
theorem dX1_bestEffortSession_89 : decode cX1_bestEffortSession 89 = .ok (.goto 4, 3) := dk_167 0 4 (dk_at dksX1_bestEffortSession_3 21 rfl rfl)
theorem dX1_bestEffortSession_92 : decode cX1_bestEffortSession 92 = .ok (.iconst 0, 1) := dk_3 (dk_at dksX1_bestEffortSession_4 0 rfl rfl)
theorem dX1_bestEffortSession_93 : decode cX1_bestEffortSession 93 = .ok (.invokestatic 214, 3) := dk_184 0 214 (dk_at dksX1_bestEffortSession_4 1 rfl rfl)
theorem dX1_bestEffortSession_96 : decode cX1_bestEffortSession 96 = .ok (.iload_n 3, 1) := dk_29 (dk_at dksX1_bestEffortSession_4 4 rfl rfl)
theorem dX1_bestEffortSession_97 : decode cX1_bestEffortSession 97 = .ok (.ireturn, 1) := dk_172 (dk_at dksX1_bestEffortSession_4 5 rfl rfl)
abbrev cX1_addTarget : ByteArray := prog_1_method_54_code
def yX1_addTarget : MethodName := ⟨RX1, "addTarget", "(I)I"⟩
def dkwX1_addTarget_0 : List UInt8 := [187, 0, 53, 89, 42, 180, 0, 56, 183, 0, 96, 77, 42, 44, 44, 27, 182, 0, 241, 182, 0, 103, 172]
abbrev dktX1_addTarget_0 : List UInt8 := dkwX1_addTarget_0 ++ []
theorem dksX1_addTarget_0 : cX1_addTarget.data.toList.drop 0 = dktX1_addTarget_0 := by decide +kernel
theorem dX1_addTarget_0 : decode cX1_addTarget 0 = .ok (.new 53, 3) := dk_187 0 53 (dk_at dksX1_addTarget_0 0 rfl rfl)
theorem dX1_addTarget_3 : decode cX1_addTarget 3 = .ok (.dup, 1) := dk_89 (dk_at dksX1_addTarget_0 3 rfl rfl)
theorem dX1_addTarget_4 : decode cX1_addTarget 4 = .ok (.aload_n 0, 1) := dk_42 (dk_at dksX1_addTarget_0 4 rfl rfl)
theorem dX1_addTarget_5 : decode cX1_addTarget 5 = .ok (.getfield 56, 3) := dk_180 0 56 (dk_at dksX1_addTarget_0 5 rfl rfl)
theorem dX1_addTarget_8 : decode cX1_addTarget 8 = .ok (.invokespecial 96, 3) := dk_183 0 96 (dk_at dksX1_addTarget_0 8 rfl rfl)
theorem dX1_addTarget_11 : decode cX1_addTarget 11 = .ok (.astore_n 2, 1) := dk_77 (dk_at dksX1_addTarget_0 11 rfl rfl)
theorem dX1_addTarget_12 : decode cX1_addTarget 12 = .ok (.aload_n 0, 1) := dk_42 (dk_at dksX1_addTarget_0 12 rfl rfl)
theorem dX1_addTarget_13 : decode cX1_addTarget 13 = .ok (.aload_n 2, 1) := dk_44 (dk_at dksX1_addTarget_0 13 rfl rfl)
theorem dX1_addTarget_14 : decode cX1_addTarget 14 = .ok (.aload_n 2, 1) := dk_44 (dk_at dksX1_addTarget_0 14 rfl rfl)
theorem dX1_addTarget_15 : decode cX1_addTarget 15 = .ok (.iload_n 1, 1) := dk_27 (dk_at dksX1_addTarget_0 15 rfl rfl)
theorem dX1_addTarget_16 : decode cX1_addTarget 16 = .ok (.invokevirtual 241, 3) := dk_182 0 241 (dk_at dksX1_addTarget_0 16 rfl rfl)
theorem dX1_addTarget_19 : decode cX1_addTarget 19 = .ok (.invokevirtual 103, 3) := dk_182 0 103 (dk_at dksX1_addTarget_0 19 rfl rfl)
theorem dX1_addTarget_22 : decode cX1_addTarget 22 = .ok (.ireturn, 1) := dk_172 (dk_at dksX1_addTarget_0 22 rfl rfl)
abbrev cX1_targetAt : ByteArray := prog_1_method_55_code
def yX1_targetAt : MethodName := ⟨RX1, "targetAt", "(I)I"⟩
def dkwX1_targetAt_1 : List UInt8 := [27, 46, 172]
abbrev dktX1_targetAt_1 : List UInt8 := dkwX1_targetAt_1 ++ []
def dkwX1_targetAt_0 : List UInt8 := [27, 3, 42, 180, 0, 56, 180, 0, 244, 4, 100, 184, 0, 88, 184, 0, 161, 42, 180, 0, 56, 180, 0, 247]
abbrev dktX1_targetAt_0 : List UInt8 := dkwX1_targetAt_0 ++ dktX1_targetAt_1
theorem dksX1_targetAt_0 : cX1_targetAt.data.toList.drop 0 = dktX1_targetAt_0 := by decide +kernel
theorem dksX1_targetAt_1 : cX1_targetAt.data.toList.drop 24 = dktX1_targetAt_1 := dk_seg dksX1_targetAt_0 24 rfl rfl
theorem dX1_targetAt_0 : decode cX1_targetAt 0 = .ok (.iload_n 1, 1) := dk_27 (dk_at dksX1_targetAt_0 0 rfl rfl)
theorem dX1_targetAt_1 : decode cX1_targetAt 1 = .ok (.iconst 0, 1) := dk_3 (dk_at dksX1_targetAt_0 1 rfl rfl)
theorem dX1_targetAt_2 : decode cX1_targetAt 2 = .ok (.aload_n 0, 1) := dk_42 (dk_at dksX1_targetAt_0 2 rfl rfl)
theorem dX1_targetAt_3 : decode cX1_targetAt 3 = .ok (.getfield 56, 3) := dk_180 0 56 (dk_at dksX1_targetAt_0 3 rfl rfl)
theorem dX1_targetAt_6 : decode cX1_targetAt 6 = .ok (.getfield 244, 3) := dk_180 0 244 (dk_at dksX1_targetAt_0 6 rfl rfl)
theorem dX1_targetAt_9 : decode cX1_targetAt 9 = .ok (.iconst 1, 1) := dk_4 (dk_at dksX1_targetAt_0 9 rfl rfl)
theorem dX1_targetAt_10 : decode cX1_targetAt 10 = .ok (.isub, 1) := dk_100 (dk_at dksX1_targetAt_0 10 rfl rfl)
theorem dX1_targetAt_11 : decode cX1_targetAt 11 = .ok (.invokestatic 88, 3) := dk_184 0 88 (dk_at dksX1_targetAt_0 11 rfl rfl)
theorem dX1_targetAt_14 : decode cX1_targetAt 14 = .ok (.invokestatic 161, 3) := dk_184 0 161 (dk_at dksX1_targetAt_0 14 rfl rfl)
theorem dX1_targetAt_17 : decode cX1_targetAt 17 = .ok (.aload_n 0, 1) := dk_42 (dk_at dksX1_targetAt_0 17 rfl rfl)
theorem dX1_targetAt_18 : decode cX1_targetAt 18 = .ok (.getfield 56, 3) := dk_180 0 56 (dk_at dksX1_targetAt_0 18 rfl rfl)
theorem dX1_targetAt_21 : decode cX1_targetAt 21 = .ok (.getfield 247, 3) := dk_180 0 247 (dk_at dksX1_targetAt_0 21 rfl rfl)
theorem dX1_targetAt_24 : decode cX1_targetAt 24 = .ok (.iload_n 1, 1) := dk_27 (dk_at dksX1_targetAt_1 0 rfl rfl)
theorem dX1_targetAt_25 : decode cX1_targetAt 25 = .ok (.iaload, 1) := dk_46 (dk_at dksX1_targetAt_1 1 rfl rfl)
theorem dX1_targetAt_26 : decode cX1_targetAt 26 = .ok (.ireturn, 1) := dk_172 (dk_at dksX1_targetAt_1 2 rfl rfl)
abbrev cX1_dueEntry : ByteArray := prog_1_method_56_code
def yX1_dueEntry : MethodName := ⟨RX1, "dueEntry", "()I"⟩
def dkwX1_dueEntry_1 : List UInt8 := [180, 1, 3, 172]
abbrev dktX1_dueEntry_1 : List UInt8 := dkwX1_dueEntry_1 ++ []
def dkwX1_dueEntry_0 : List UInt8 := [42, 180, 0, 56, 182, 0, 250, 76, 43, 182, 0, 254, 154, 0, 7, 4, 167, 0, 4, 3, 184, 0, 214, 43]
abbrev dktX1_dueEntry_0 : List UInt8 := dkwX1_dueEntry_0 ++ dktX1_dueEntry_1
theorem dksX1_dueEntry_0 : cX1_dueEntry.data.toList.drop 0 = dktX1_dueEntry_0 := by decide +kernel
theorem dksX1_dueEntry_1 : cX1_dueEntry.data.toList.drop 24 = dktX1_dueEntry_1 := dk_seg dksX1_dueEntry_0 24 rfl rfl
theorem dX1_dueEntry_0 : decode cX1_dueEntry 0 = .ok (.aload_n 0, 1) := dk_42 (dk_at dksX1_dueEntry_0 0 rfl rfl)
theorem dX1_dueEntry_1 : decode cX1_dueEntry 1 = .ok (.getfield 56, 3) := dk_180 0 56 (dk_at dksX1_dueEntry_0 1 rfl rfl)
theorem dX1_dueEntry_4 : decode cX1_dueEntry 4 = .ok (.invokevirtual 250, 3) := dk_182 0 250 (dk_at dksX1_dueEntry_0 4 rfl rfl)
theorem dX1_dueEntry_7 : decode cX1_dueEntry 7 = .ok (.astore_n 1, 1) := dk_76 (dk_at dksX1_dueEntry_0 7 rfl rfl)
theorem dX1_dueEntry_8 : decode cX1_dueEntry 8 = .ok (.aload_n 1, 1) := dk_43 (dk_at dksX1_dueEntry_0 8 rfl rfl)
theorem dX1_dueEntry_9 : decode cX1_dueEntry 9 = .ok (.invokevirtual 254, 3) := dk_182 0 254 (dk_at dksX1_dueEntry_0 9 rfl rfl)
theorem dX1_dueEntry_12 : decode cX1_dueEntry 12 = .ok (.ifCond .ne 7, 3) := dk_154 0 7 (dk_at dksX1_dueEntry_0 12 rfl rfl)
theorem dX1_dueEntry_15 : decode cX1_dueEntry 15 = .ok (.iconst 1, 1) := dk_4 (dk_at dksX1_dueEntry_0 15 rfl rfl)
theorem dX1_dueEntry_16 : decode cX1_dueEntry 16 = .ok (.goto 4, 3) := dk_167 0 4 (dk_at dksX1_dueEntry_0 16 rfl rfl)
theorem dX1_dueEntry_19 : decode cX1_dueEntry 19 = .ok (.iconst 0, 1) := dk_3 (dk_at dksX1_dueEntry_0 19 rfl rfl)
theorem dX1_dueEntry_20 : decode cX1_dueEntry 20 = .ok (.invokestatic 214, 3) := dk_184 0 214 (dk_at dksX1_dueEntry_0 20 rfl rfl)
theorem dX1_dueEntry_23 : decode cX1_dueEntry 23 = .ok (.aload_n 1, 1) := dk_43 (dk_at dksX1_dueEntry_0 23 rfl rfl)
theorem dX1_dueEntry_24 : decode cX1_dueEntry 24 = .ok (.getfield 259, 3) := dk_180 1 3 (dk_at dksX1_dueEntry_1 0 rfl rfl)
theorem dX1_dueEntry_27 : decode cX1_dueEntry 27 = .ok (.ireturn, 1) := dk_172 (dk_at dksX1_dueEntry_1 3 rfl rfl)
abbrev cX1_planEnd : ByteArray := prog_1_method_59_code
def yX1_planEnd : MethodName := ⟨RX1, "planEnd", "()I"⟩
def dkwX1_planEnd_1 : List UInt8 := [180, 0, 56, 180, 0, 84, 42, 180, 0, 56, 180, 0, 244, 96, 4, 100, 43, 180, 1, 3, 100, 172]
abbrev dktX1_planEnd_1 : List UInt8 := dkwX1_planEnd_1 ++ []
def dkwX1_planEnd_0 : List UInt8 := [42, 180, 0, 56, 182, 0, 250, 76, 43, 182, 0, 254, 154, 0, 7, 4, 167, 0, 4, 3, 184, 0, 214, 42]
abbrev dktX1_planEnd_0 : List UInt8 := dkwX1_planEnd_0 ++ dktX1_planEnd_1
theorem dksX1_planEnd_0 : cX1_planEnd.data.toList.drop 0 = dktX1_planEnd_0 := by decide +kernel
theorem dksX1_planEnd_1 : cX1_planEnd.data.toList.drop 24 = dktX1_planEnd_1 := dk_seg dksX1_planEnd_0 24 rfl rfl
theorem dX1_planEnd_0 : decode cX1_planEnd 0 = .ok (.aload_n 0, 1) := dk_42 (dk_at dksX1_planEnd_0 0 rfl rfl)
theorem dX1_planEnd_1 : decode cX1_planEnd 1 = .ok (.getfield 56, 3) := dk_180 0 56 (dk_at dksX1_planEnd_0 1 rfl rfl)
theorem dX1_planEnd_4 : decode cX1_planEnd 4 = .ok (.invokevirtual 250, 3) := dk_182 0 250 (dk_at dksX1_planEnd_0 4 rfl rfl)
theorem dX1_planEnd_7 : decode cX1_planEnd 7 = .ok (.astore_n 1, 1) := dk_76 (dk_at dksX1_planEnd_0 7 rfl rfl)
theorem dX1_planEnd_8 : decode cX1_planEnd 8 = .ok (.aload_n 1, 1) := dk_43 (dk_at dksX1_planEnd_0 8 rfl rfl)
theorem dX1_planEnd_9 : decode cX1_planEnd 9 = .ok (.invokevirtual 254, 3) := dk_182 0 254 (dk_at dksX1_planEnd_0 9 rfl rfl)
theorem dX1_planEnd_12 : decode cX1_planEnd 12 = .ok (.ifCond .ne 7, 3) := dk_154 0 7 (dk_at dksX1_planEnd_0 12 rfl rfl)
theorem dX1_planEnd_15 : decode cX1_planEnd 15 = .ok (.iconst 1, 1) := dk_4 (dk_at dksX1_planEnd_0 15 rfl rfl)
theorem dX1_planEnd_16 : decode cX1_planEnd 16 = .ok (.goto 4, 3) := dk_167 0 4 (dk_at dksX1_planEnd_0 16 rfl rfl)
theorem dX1_planEnd_19 : decode cX1_planEnd 19 = .ok (.iconst 0, 1) := dk_3 (dk_at dksX1_planEnd_0 19 rfl rfl)
theorem dX1_planEnd_20 : decode cX1_planEnd 20 = .ok (.invokestatic 214, 3) := dk_184 0 214 (dk_at dksX1_planEnd_0 20 rfl rfl)
theorem dX1_planEnd_23 : decode cX1_planEnd 23 = .ok (.aload_n 0, 1) := dk_42 (dk_at dksX1_planEnd_0 23 rfl rfl)
theorem dX1_planEnd_24 : decode cX1_planEnd 24 = .ok (.getfield 56, 3) := dk_180 0 56 (dk_at dksX1_planEnd_1 0 rfl rfl)
theorem dX1_planEnd_27 : decode cX1_planEnd 27 = .ok (.getfield 84, 3) := dk_180 0 84 (dk_at dksX1_planEnd_1 3 rfl rfl)
theorem dX1_planEnd_30 : decode cX1_planEnd 30 = .ok (.aload_n 0, 1) := dk_42 (dk_at dksX1_planEnd_1 6 rfl rfl)
theorem dX1_planEnd_31 : decode cX1_planEnd 31 = .ok (.getfield 56, 3) := dk_180 0 56 (dk_at dksX1_planEnd_1 7 rfl rfl)
theorem dX1_planEnd_34 : decode cX1_planEnd 34 = .ok (.getfield 244, 3) := dk_180 0 244 (dk_at dksX1_planEnd_1 10 rfl rfl)
theorem dX1_planEnd_37 : decode cX1_planEnd 37 = .ok (.iadd, 1) := dk_96 (dk_at dksX1_planEnd_1 13 rfl rfl)
theorem dX1_planEnd_38 : decode cX1_planEnd 38 = .ok (.iconst 1, 1) := dk_4 (dk_at dksX1_planEnd_1 14 rfl rfl)
theorem dX1_planEnd_39 : decode cX1_planEnd 39 = .ok (.isub, 1) := dk_100 (dk_at dksX1_planEnd_1 15 rfl rfl)
theorem dX1_planEnd_40 : decode cX1_planEnd 40 = .ok (.aload_n 1, 1) := dk_43 (dk_at dksX1_planEnd_1 16 rfl rfl)
theorem dX1_planEnd_41 : decode cX1_planEnd 41 = .ok (.getfield 259, 3) := dk_180 1 3 (dk_at dksX1_planEnd_1 17 rfl rfl)
theorem dX1_planEnd_44 : decode cX1_planEnd 44 = .ok (.isub, 1) := dk_100 (dk_at dksX1_planEnd_1 20 rfl rfl)
theorem dX1_planEnd_45 : decode cX1_planEnd 45 = .ok (.ireturn, 1) := dk_172 (dk_at dksX1_planEnd_1 21 rfl rfl)
abbrev cX1_writeWeek : ByteArray := prog_1_method_61_code
def yX1_writeWeek : MethodName := ⟨RX1, "writeWeek", "(I)I"⟩
def dkwX1_writeWeek_2 : List UInt8 := [28, 182, 1, 26, 182, 1, 30, 87, 132, 2, 1, 167, 255, 212, 42, 180, 0, 70, 182, 1, 33, 172]
abbrev dktX1_writeWeek_2 : List UInt8 := dkwX1_writeWeek_2 ++ []
def dkwX1_writeWeek_1 : List UInt8 := [180, 0, 70, 28, 27, 160, 0, 9, 19, 1, 18, 167, 0, 6, 19, 1, 20, 182, 1, 22, 42, 180, 0, 56]
abbrev dktX1_writeWeek_1 : List UInt8 := dkwX1_writeWeek_1 ++ dktX1_writeWeek_2
def dkwX1_writeWeek_0 : List UInt8 := [42, 27, 182, 0, 189, 42, 180, 0, 70, 3, 182, 1, 15, 27, 61, 28, 27, 16, 7, 96, 162, 0, 42, 42]
abbrev dktX1_writeWeek_0 : List UInt8 := dkwX1_writeWeek_0 ++ dktX1_writeWeek_1
theorem dksX1_writeWeek_0 : cX1_writeWeek.data.toList.drop 0 = dktX1_writeWeek_0 := by decide +kernel
theorem dksX1_writeWeek_1 : cX1_writeWeek.data.toList.drop 24 = dktX1_writeWeek_1 := dk_seg dksX1_writeWeek_0 24 rfl rfl
theorem dksX1_writeWeek_2 : cX1_writeWeek.data.toList.drop 48 = dktX1_writeWeek_2 := dk_seg dksX1_writeWeek_1 24 rfl rfl
theorem dX1_writeWeek_0 : decode cX1_writeWeek 0 = .ok (.aload_n 0, 1) := dk_42 (dk_at dksX1_writeWeek_0 0 rfl rfl)
theorem dX1_writeWeek_1 : decode cX1_writeWeek 1 = .ok (.iload_n 1, 1) := dk_27 (dk_at dksX1_writeWeek_0 1 rfl rfl)
theorem dX1_writeWeek_2 : decode cX1_writeWeek 2 = .ok (.invokevirtual 189, 3) := dk_182 0 189 (dk_at dksX1_writeWeek_0 2 rfl rfl)
theorem dX1_writeWeek_5 : decode cX1_writeWeek 5 = .ok (.aload_n 0, 1) := dk_42 (dk_at dksX1_writeWeek_0 5 rfl rfl)
theorem dX1_writeWeek_6 : decode cX1_writeWeek 6 = .ok (.getfield 70, 3) := dk_180 0 70 (dk_at dksX1_writeWeek_0 6 rfl rfl)
theorem dX1_writeWeek_9 : decode cX1_writeWeek 9 = .ok (.iconst 0, 1) := dk_3 (dk_at dksX1_writeWeek_0 9 rfl rfl)
theorem dX1_writeWeek_10 : decode cX1_writeWeek 10 = .ok (.invokevirtual 271, 3) := dk_182 1 15 (dk_at dksX1_writeWeek_0 10 rfl rfl)
theorem dX1_writeWeek_13 : decode cX1_writeWeek 13 = .ok (.iload_n 1, 1) := dk_27 (dk_at dksX1_writeWeek_0 13 rfl rfl)
theorem dX1_writeWeek_14 : decode cX1_writeWeek 14 = .ok (.istore_n 2, 1) := dk_61 (dk_at dksX1_writeWeek_0 14 rfl rfl)
theorem dX1_writeWeek_15 : decode cX1_writeWeek 15 = .ok (.iload_n 2, 1) := dk_28 (dk_at dksX1_writeWeek_0 15 rfl rfl)
theorem dX1_writeWeek_16 : decode cX1_writeWeek 16 = .ok (.iload_n 1, 1) := dk_27 (dk_at dksX1_writeWeek_0 16 rfl rfl)
theorem dX1_writeWeek_17 : decode cX1_writeWeek 17 = .ok (.bipush 7, 2) := dk_16 7 (dk_at dksX1_writeWeek_0 17 rfl rfl)
theorem dX1_writeWeek_19 : decode cX1_writeWeek 19 = .ok (.iadd, 1) := dk_96 (dk_at dksX1_writeWeek_0 19 rfl rfl)
theorem dX1_writeWeek_20 : decode cX1_writeWeek 20 = .ok (.if_icmp .ge 42, 3) := dk_162 0 42 (dk_at dksX1_writeWeek_0 20 rfl rfl)
theorem dX1_writeWeek_23 : decode cX1_writeWeek 23 = .ok (.aload_n 0, 1) := dk_42 (dk_at dksX1_writeWeek_0 23 rfl rfl)
theorem dX1_writeWeek_24 : decode cX1_writeWeek 24 = .ok (.getfield 70, 3) := dk_180 0 70 (dk_at dksX1_writeWeek_1 0 rfl rfl)
theorem dX1_writeWeek_27 : decode cX1_writeWeek 27 = .ok (.iload_n 2, 1) := dk_28 (dk_at dksX1_writeWeek_1 3 rfl rfl)
theorem dX1_writeWeek_28 : decode cX1_writeWeek 28 = .ok (.iload_n 1, 1) := dk_27 (dk_at dksX1_writeWeek_1 4 rfl rfl)
theorem dX1_writeWeek_29 : decode cX1_writeWeek 29 = .ok (.if_icmp .ne 9, 3) := dk_160 0 9 (dk_at dksX1_writeWeek_1 5 rfl rfl)
theorem dX1_writeWeek_32 : decode cX1_writeWeek 32 = .ok (.ldc_w 274, 3) := dk_19 1 18 (dk_at dksX1_writeWeek_1 8 rfl rfl)
theorem dX1_writeWeek_35 : decode cX1_writeWeek 35 = .ok (.goto 6, 3) := dk_167 0 6 (dk_at dksX1_writeWeek_1 11 rfl rfl)
theorem dX1_writeWeek_38 : decode cX1_writeWeek 38 = .ok (.ldc_w 276, 3) := dk_19 1 20 (dk_at dksX1_writeWeek_1 14 rfl rfl)
theorem dX1_writeWeek_41 : decode cX1_writeWeek 41 = .ok (.invokevirtual 278, 3) := dk_182 1 22 (dk_at dksX1_writeWeek_1 17 rfl rfl)
theorem dX1_writeWeek_44 : decode cX1_writeWeek 44 = .ok (.aload_n 0, 1) := dk_42 (dk_at dksX1_writeWeek_1 20 rfl rfl)
theorem dX1_writeWeek_45 : decode cX1_writeWeek 45 = .ok (.getfield 56, 3) := dk_180 0 56 (dk_at dksX1_writeWeek_1 21 rfl rfl)
theorem dX1_writeWeek_48 : decode cX1_writeWeek 48 = .ok (.iload_n 2, 1) := dk_28 (dk_at dksX1_writeWeek_2 0 rfl rfl)
theorem dX1_writeWeek_49 : decode cX1_writeWeek 49 = .ok (.invokevirtual 282, 3) := dk_182 1 26 (dk_at dksX1_writeWeek_2 1 rfl rfl)
theorem dX1_writeWeek_52 : decode cX1_writeWeek 52 = .ok (.invokevirtual 286, 3) := dk_182 1 30 (dk_at dksX1_writeWeek_2 4 rfl rfl)
theorem dX1_writeWeek_55 : decode cX1_writeWeek 55 = .ok (.pop, 1) := dk_87 (dk_at dksX1_writeWeek_2 7 rfl rfl)
theorem dX1_writeWeek_56 : decode cX1_writeWeek 56 = .ok (.iinc 2 1, 3) := dk_132 2 1 (dk_at dksX1_writeWeek_2 8 rfl rfl)
theorem dX1_writeWeek_59 : decode cX1_writeWeek 59 = .ok (.goto (-44), 3) := dk_167 255 212 (dk_at dksX1_writeWeek_2 11 rfl rfl)
theorem dX1_writeWeek_62 : decode cX1_writeWeek 62 = .ok (.aload_n 0, 1) := dk_42 (dk_at dksX1_writeWeek_2 14 rfl rfl)
theorem dX1_writeWeek_63 : decode cX1_writeWeek 63 = .ok (.getfield 70, 3) := dk_180 0 70 (dk_at dksX1_writeWeek_2 15 rfl rfl)
theorem dX1_writeWeek_66 : decode cX1_writeWeek 66 = .ok (.invokevirtual 289, 3) := dk_182 1 33 (dk_at dksX1_writeWeek_2 18 rfl rfl)
theorem dX1_writeWeek_69 : decode cX1_writeWeek 69 = .ok (.ireturn, 1) := dk_172 (dk_at dksX1_writeWeek_2 21 rfl rfl)
abbrev cX1_lineAt : ByteArray := prog_1_method_62_code
def yX1_lineAt : MethodName := ⟨RX1, "lineAt", "(I)C"⟩
def dkwX1_lineAt_1 : List UInt8 := [182, 1, 34, 172]
abbrev dktX1_lineAt_1 : List UInt8 := dkwX1_lineAt_1 ++ []
def dkwX1_lineAt_0 : List UInt8 := [27, 3, 42, 180, 0, 70, 182, 1, 33, 4, 100, 184, 0, 88, 184, 0, 161, 42, 180, 0, 70, 27]
abbrev dktX1_lineAt_0 : List UInt8 := dkwX1_lineAt_0 ++ dktX1_lineAt_1
theorem dksX1_lineAt_0 : cX1_lineAt.data.toList.drop 0 = dktX1_lineAt_0 := by decide +kernel
theorem dksX1_lineAt_1 : cX1_lineAt.data.toList.drop 22 = dktX1_lineAt_1 := dk_seg dksX1_lineAt_0 22 rfl rfl
theorem dX1_lineAt_0 : decode cX1_lineAt 0 = .ok (.iload_n 1, 1) := dk_27 (dk_at dksX1_lineAt_0 0 rfl rfl)
theorem dX1_lineAt_1 : decode cX1_lineAt 1 = .ok (.iconst 0, 1) := dk_3 (dk_at dksX1_lineAt_0 1 rfl rfl)
theorem dX1_lineAt_2 : decode cX1_lineAt 2 = .ok (.aload_n 0, 1) := dk_42 (dk_at dksX1_lineAt_0 2 rfl rfl)
theorem dX1_lineAt_3 : decode cX1_lineAt 3 = .ok (.getfield 70, 3) := dk_180 0 70 (dk_at dksX1_lineAt_0 3 rfl rfl)
theorem dX1_lineAt_6 : decode cX1_lineAt 6 = .ok (.invokevirtual 289, 3) := dk_182 1 33 (dk_at dksX1_lineAt_0 6 rfl rfl)
theorem dX1_lineAt_9 : decode cX1_lineAt 9 = .ok (.iconst 1, 1) := dk_4 (dk_at dksX1_lineAt_0 9 rfl rfl)
theorem dX1_lineAt_10 : decode cX1_lineAt 10 = .ok (.isub, 1) := dk_100 (dk_at dksX1_lineAt_0 10 rfl rfl)
theorem dX1_lineAt_11 : decode cX1_lineAt 11 = .ok (.invokestatic 88, 3) := dk_184 0 88 (dk_at dksX1_lineAt_0 11 rfl rfl)
theorem dX1_lineAt_14 : decode cX1_lineAt 14 = .ok (.invokestatic 161, 3) := dk_184 0 161 (dk_at dksX1_lineAt_0 14 rfl rfl)
theorem dX1_lineAt_17 : decode cX1_lineAt 17 = .ok (.aload_n 0, 1) := dk_42 (dk_at dksX1_lineAt_0 17 rfl rfl)
theorem dX1_lineAt_18 : decode cX1_lineAt 18 = .ok (.getfield 70, 3) := dk_180 0 70 (dk_at dksX1_lineAt_0 18 rfl rfl)
theorem dX1_lineAt_21 : decode cX1_lineAt 21 = .ok (.iload_n 1, 1) := dk_27 (dk_at dksX1_lineAt_0 21 rfl rfl)
theorem dX1_lineAt_22 : decode cX1_lineAt 22 = .ok (.invokevirtual 290, 3) := dk_182 1 34 (dk_at dksX1_lineAt_1 0 rfl rfl)
theorem dX1_lineAt_25 : decode cX1_lineAt 25 = .ok (.ireturn, 1) := dk_172 (dk_at dksX1_lineAt_1 3 rfl rfl)
abbrev cX1_undo : ByteArray := prog_1_method_63_code
def yX1_undo : MethodName := ⟨RX1, "undo", "()I"⟩
def dkwX1_undo_1 : List UInt8 := [182, 1, 43, 192, 0, 53, 181, 0, 56, 42, 180, 0, 63, 182, 0, 78, 172]
abbrev dktX1_undo_1 : List UInt8 := dkwX1_undo_1 ++ []
def dkwX1_undo_0 : List UInt8 := [42, 180, 0, 63, 182, 1, 37, 154, 0, 7, 4, 167, 0, 4, 3, 184, 1, 40, 42, 42, 180, 0, 63]
abbrev dktX1_undo_0 : List UInt8 := dkwX1_undo_0 ++ dktX1_undo_1
theorem dksX1_undo_0 : cX1_undo.data.toList.drop 0 = dktX1_undo_0 := by decide +kernel
theorem dksX1_undo_1 : cX1_undo.data.toList.drop 23 = dktX1_undo_1 := dk_seg dksX1_undo_0 23 rfl rfl
theorem dX1_undo_0 : decode cX1_undo 0 = .ok (.aload_n 0, 1) := dk_42 (dk_at dksX1_undo_0 0 rfl rfl)
theorem dX1_undo_1 : decode cX1_undo 1 = .ok (.getfield 63, 3) := dk_180 0 63 (dk_at dksX1_undo_0 1 rfl rfl)
theorem dX1_undo_4 : decode cX1_undo 4 = .ok (.invokevirtual 293, 3) := dk_182 1 37 (dk_at dksX1_undo_0 4 rfl rfl)
theorem dX1_undo_7 : decode cX1_undo 7 = .ok (.ifCond .ne 7, 3) := dk_154 0 7 (dk_at dksX1_undo_0 7 rfl rfl)
theorem dX1_undo_10 : decode cX1_undo 10 = .ok (.iconst 1, 1) := dk_4 (dk_at dksX1_undo_0 10 rfl rfl)
theorem dX1_undo_11 : decode cX1_undo 11 = .ok (.goto 4, 3) := dk_167 0 4 (dk_at dksX1_undo_0 11 rfl rfl)
theorem dX1_undo_14 : decode cX1_undo 14 = .ok (.iconst 0, 1) := dk_3 (dk_at dksX1_undo_0 14 rfl rfl)
theorem dX1_undo_15 : decode cX1_undo 15 = .ok (.invokestatic 296, 3) := dk_184 1 40 (dk_at dksX1_undo_0 15 rfl rfl)
theorem dX1_undo_18 : decode cX1_undo 18 = .ok (.aload_n 0, 1) := dk_42 (dk_at dksX1_undo_0 18 rfl rfl)
theorem dX1_undo_19 : decode cX1_undo 19 = .ok (.aload_n 0, 1) := dk_42 (dk_at dksX1_undo_0 19 rfl rfl)
theorem dX1_undo_20 : decode cX1_undo 20 = .ok (.getfield 63, 3) := dk_180 0 63 (dk_at dksX1_undo_0 20 rfl rfl)
theorem dX1_undo_23 : decode cX1_undo 23 = .ok (.invokevirtual 299, 3) := dk_182 1 43 (dk_at dksX1_undo_1 0 rfl rfl)
theorem dX1_undo_26 : decode cX1_undo 26 = .ok (.checkcast 53, 3) := dk_192 0 53 (dk_at dksX1_undo_1 3 rfl rfl)
theorem dX1_undo_29 : decode cX1_undo 29 = .ok (.putfield 56, 3) := dk_181 0 56 (dk_at dksX1_undo_1 6 rfl rfl)
theorem dX1_undo_32 : decode cX1_undo 32 = .ok (.aload_n 0, 1) := dk_42 (dk_at dksX1_undo_1 9 rfl rfl)
theorem dX1_undo_33 : decode cX1_undo 33 = .ok (.getfield 63, 3) := dk_180 0 63 (dk_at dksX1_undo_1 10 rfl rfl)
theorem dX1_undo_36 : decode cX1_undo 36 = .ok (.invokevirtual 78, 3) := dk_182 0 78 (dk_at dksX1_undo_1 13 rfl rfl)
theorem dX1_undo_39 : decode cX1_undo 39 = .ok (.ireturn, 1) := dk_172 (dk_at dksX1_undo_1 16 rfl rfl)
abbrev cX1_restore : ByteArray := prog_1_method_65_code
def yX1_restore : MethodName := ⟨RX1, "restore", "()I"⟩
def dkwX1_restore_1 : List UInt8 := [183, 0, 96, 181, 0, 56, 42, 180, 0, 63, 182, 1, 49, 42, 180, 0, 56, 180, 0, 158, 182, 0, 118, 172]
abbrev dktX1_restore_1 : List UInt8 := dkwX1_restore_1 ++ []
def dkwX1_restore_0 : List UInt8 := [42, 180, 1, 46, 198, 0, 7, 4, 167, 0, 4, 3, 184, 1, 40, 42, 187, 0, 53, 89, 42, 180, 1, 46]
abbrev dktX1_restore_0 : List UInt8 := dkwX1_restore_0 ++ dktX1_restore_1
theorem dksX1_restore_0 : cX1_restore.data.toList.drop 0 = dktX1_restore_0 := by decide +kernel
theorem dksX1_restore_1 : cX1_restore.data.toList.drop 24 = dktX1_restore_1 := dk_seg dksX1_restore_0 24 rfl rfl
theorem dX1_restore_0 : decode cX1_restore 0 = .ok (.aload_n 0, 1) := dk_42 (dk_at dksX1_restore_0 0 rfl rfl)
theorem dX1_restore_1 : decode cX1_restore 1 = .ok (.getfield 302, 3) := dk_180 1 46 (dk_at dksX1_restore_0 1 rfl rfl)
theorem dX1_restore_4 : decode cX1_restore 4 = .ok (.ifnull 7, 3) := dk_198 0 7 (dk_at dksX1_restore_0 4 rfl rfl)
theorem dX1_restore_7 : decode cX1_restore 7 = .ok (.iconst 1, 1) := dk_4 (dk_at dksX1_restore_0 7 rfl rfl)
theorem dX1_restore_8 : decode cX1_restore 8 = .ok (.goto 4, 3) := dk_167 0 4 (dk_at dksX1_restore_0 8 rfl rfl)
theorem dX1_restore_11 : decode cX1_restore 11 = .ok (.iconst 0, 1) := dk_3 (dk_at dksX1_restore_0 11 rfl rfl)
theorem dX1_restore_12 : decode cX1_restore 12 = .ok (.invokestatic 296, 3) := dk_184 1 40 (dk_at dksX1_restore_0 12 rfl rfl)
theorem dX1_restore_15 : decode cX1_restore 15 = .ok (.aload_n 0, 1) := dk_42 (dk_at dksX1_restore_0 15 rfl rfl)
theorem dX1_restore_16 : decode cX1_restore 16 = .ok (.new 53, 3) := dk_187 0 53 (dk_at dksX1_restore_0 16 rfl rfl)
theorem dX1_restore_19 : decode cX1_restore 19 = .ok (.dup, 1) := dk_89 (dk_at dksX1_restore_0 19 rfl rfl)
theorem dX1_restore_20 : decode cX1_restore 20 = .ok (.aload_n 0, 1) := dk_42 (dk_at dksX1_restore_0 20 rfl rfl)
theorem dX1_restore_21 : decode cX1_restore 21 = .ok (.getfield 302, 3) := dk_180 1 46 (dk_at dksX1_restore_0 21 rfl rfl)
theorem dX1_restore_24 : decode cX1_restore 24 = .ok (.invokespecial 96, 3) := dk_183 0 96 (dk_at dksX1_restore_1 0 rfl rfl)
theorem dX1_restore_27 : decode cX1_restore 27 = .ok (.putfield 56, 3) := dk_181 0 56 (dk_at dksX1_restore_1 3 rfl rfl)
theorem dX1_restore_30 : decode cX1_restore 30 = .ok (.aload_n 0, 1) := dk_42 (dk_at dksX1_restore_1 6 rfl rfl)
theorem dX1_restore_31 : decode cX1_restore 31 = .ok (.getfield 63, 3) := dk_180 0 63 (dk_at dksX1_restore_1 7 rfl rfl)
theorem dX1_restore_34 : decode cX1_restore 34 = .ok (.invokevirtual 305, 3) := dk_182 1 49 (dk_at dksX1_restore_1 10 rfl rfl)
theorem dX1_restore_37 : decode cX1_restore 37 = .ok (.aload_n 0, 1) := dk_42 (dk_at dksX1_restore_1 13 rfl rfl)
theorem dX1_restore_38 : decode cX1_restore 38 = .ok (.getfield 56, 3) := dk_180 0 56 (dk_at dksX1_restore_1 14 rfl rfl)
theorem dX1_restore_41 : decode cX1_restore 41 = .ok (.getfield 158, 3) := dk_180 0 158 (dk_at dksX1_restore_1 17 rfl rfl)
theorem dX1_restore_44 : decode cX1_restore 44 = .ok (.invokevirtual 118, 3) := dk_182 0 118 (dk_at dksX1_restore_1 20 rfl rfl)
theorem dX1_restore_47 : decode cX1_restore 47 = .ok (.ireturn, 1) := dk_172 (dk_at dksX1_restore_1 23 rfl rfl)
theorem q47 : (Jvm.Cond.initialized "TrainingDiary") ∈ lw_all := lw_g (lw_at lw_m1 1 rfl) rfl
theorem q84 : (Jvm.Cond.instantiable "TrainingDiary" (4 : Nat)) ∈ lw_all := lw_g (lw_at lw_m1 38 rfl) rfl
theorem q86 : (Jvm.Cond.instanceMethod ({ cls := "TrainingDiary", name := "<init>", desc := "()V" } : Jvm.MethodName)) ∈ lw_all := lw_g (lw_at lw_m1 40 rfl) rfl
theorem q87 : (Jvm.Cond.code ({ cls := "TrainingDiary", name := "<init>", desc := "()V" } : Jvm.MethodName) prog_1_method_7_code (1 : Nat) (Option.none : Option Jvm.ClassFile.FieldType)) ∈ lw_all := lw_g (lw_at lw_m1 41 rfl) rfl
theorem q88 : (Jvm.Cond.methodLink "TrainingDiary" (48 : Nat) ({ cls := "java/lang/Object", name := "<init>", desc := "()V" } : Jvm.MethodName)) ∈ lw_all := lw_g (lw_at lw_m1 42 rfl) rfl
theorem q91 : (Jvm.Cond.classLink "TrainingDiary" (53 : Nat) "TrainingDiary$Book") ∈ lw_all := lw_g (lw_at lw_m1 45 rfl) rfl
theorem q93 : (Jvm.Cond.methodLink "TrainingDiary" (55 : Nat) ({ cls := "TrainingDiary$Book", name := "<init>", desc := "()V" } : Jvm.MethodName)) ∈ lw_all := lw_g (lw_at lw_m1 47 rfl) rfl
theorem q136 : (Jvm.Cond.fieldLinkNest "TrainingDiary" (114 : Nat) "TrainingDiary$Book" "tests" "LTrainingDiary$Ordered;" "TrainingDiary") ∈ lw_tbl := lw_at lw_m1 90 rfl
theorem q138 : (Jvm.Cond.fieldLinkNest "TrainingDiary" (158 : Nat) "TrainingDiary$Book" "sessions" "LTrainingDiary$Ordered;" "TrainingDiary") ∈ lw_tbl := lw_at lw_m1 92 rfl
theorem q140 : (Jvm.Cond.fieldLinkNest "TrainingDiary" (125 : Nat) "TrainingDiary$Book" "bounds" "[I" "TrainingDiary") ∈ lw_tbl := lw_at lw_m1 94 rfl
theorem q142 : (Jvm.Cond.fieldLinkNest "TrainingDiary" (136 : Nat) "TrainingDiary$Book" "weights" "[I" "TrainingDiary") ∈ lw_tbl := lw_at lw_m1 96 rfl
theorem q145 : (Jvm.Cond.fieldLinkNest "TrainingDiary" (247 : Nat) "TrainingDiary$Book" "targets" "[I" "TrainingDiary") ∈ lw_tbl := lw_at lw_m1 99 rfl
theorem q148 : (Jvm.Cond.fieldLinkNest "TrainingDiary" (84 : Nat) "TrainingDiary$Book" "today" "I" "TrainingDiary") ∈ lw_tbl := lw_at lw_m1 102 rfl
theorem q152 : (Jvm.Cond.fieldLinkNest "TrainingDiary" (268 : Nat) "TrainingDiary$Book" "planStart" "I" "TrainingDiary") ∈ lw_tbl := lw_at lw_m1 106 rfl
theorem q155 : (Jvm.Cond.fieldLinkNest "TrainingDiary" (244 : Nat) "TrainingDiary$Book" "entries" "I" "TrainingDiary") ∈ lw_tbl := lw_at lw_m1 109 rfl
theorem q187 : (Jvm.Cond.classLink "TrainingDiary" (60 : Nat) "java/util/ArrayDeque") ∈ lw_all := lw_g (lw_at lw_m1 141 rfl) rfl
theorem q189 : (Jvm.Cond.methodLink "TrainingDiary" (62 : Nat) ({ cls := "java/util/ArrayDeque", name := "<init>", desc := "()V" } : Jvm.MethodName)) ∈ lw_all := lw_g (lw_at lw_m1 143 rfl) rfl
theorem q205 : (Jvm.Cond.classLink "TrainingDiary" (67 : Nat) "java/lang/StringBuilder") ∈ lw_all := lw_g (lw_at lw_m1 159 rfl) rfl
theorem q207 : (Jvm.Cond.methodLink "TrainingDiary" (69 : Nat) ({ cls := "java/lang/StringBuilder", name := "<init>", desc := "()V" } : Jvm.MethodName)) ∈ lw_all := lw_g (lw_at lw_m1 161 rfl) rfl
theorem q238 : (Jvm.Cond.fieldLink "TrainingDiary" (56 : Nat) "TrainingDiary" "book" "LTrainingDiary$Book;") ∈ lw_all := lw_g (lw_at lw_m1 192 rfl) rfl
theorem q239 : (Jvm.Cond.fieldLink "TrainingDiary" (302 : Nat) "TrainingDiary" "snapshot" "LTrainingDiary$Book;") ∈ lw_all := lw_g (lw_at lw_m1 193 rfl) rfl
theorem q240 : (Jvm.Cond.fieldLink "TrainingDiary" (63 : Nat) "TrainingDiary" "history" "Ljava/util/ArrayDeque;") ∈ lw_all := lw_g (lw_at lw_m1 194 rfl) rfl
theorem q241 : (Jvm.Cond.fieldLink "TrainingDiary" (70 : Nat) "TrainingDiary" "line" "Ljava/lang/StringBuilder;") ∈ lw_all := lw_g (lw_at lw_m1 195 rfl) rfl
theorem q242 : (Jvm.Cond.lays "TrainingDiary" "TrainingDiary" "book" "LTrainingDiary$Book;") ∈ lw_all := lw_g (lw_at lw_m1 196 rfl) rfl
theorem q243 : (Jvm.Cond.soleField "TrainingDiary" "book") ∈ lw_all := lw_g (lw_at lw_m1 197 rfl) rfl
theorem q244 : (Jvm.Cond.lays "TrainingDiary" "TrainingDiary" "snapshot" "LTrainingDiary$Book;") ∈ lw_all := lw_g (lw_at lw_m1 198 rfl) rfl
theorem q245 : (Jvm.Cond.soleField "TrainingDiary" "snapshot") ∈ lw_all := lw_g (lw_at lw_m1 199 rfl) rfl
theorem q246 : (Jvm.Cond.laysFinal "TrainingDiary" "TrainingDiary" "history" "Ljava/util/ArrayDeque;") ∈ lw_all := lw_g (lw_at lw_m1 200 rfl) rfl
theorem q247 : (Jvm.Cond.soleField "TrainingDiary" "history") ∈ lw_all := lw_g (lw_at lw_m1 201 rfl) rfl
theorem q248 : (Jvm.Cond.laysFinal "TrainingDiary" "TrainingDiary" "line" "Ljava/lang/StringBuilder;") ∈ lw_all := lw_g (lw_at lw_m1 202 rfl) rfl
theorem q249 : (Jvm.Cond.soleField "TrainingDiary" "line") ∈ lw_all := lw_g (lw_at lw_m1 203 rfl) rfl
theorem q250 : (Jvm.Cond.superclass "TrainingDiary" "java/lang/Object") ∈ lw_all := lw_g (lw_at lw_m1 204 rfl) rfl
theorem q252 : (Jvm.Cond.instanceMethod ({ cls := "TrainingDiary", name := "today", desc := "()I" } : Jvm.MethodName)) ∈ lw_all := lw_g (lw_at lw_m1 206 rfl) rfl
theorem q253 : (Jvm.Cond.selects "TrainingDiary" ({ cls := "TrainingDiary", name := "today", desc := "()I" } : Jvm.MethodName) ({ cls := "TrainingDiary", name := "today", desc := "()I" } : Jvm.MethodName)) ∈ lw_all := lw_g (lw_at lw_m1 207 rfl) rfl
theorem q254 : (Jvm.Cond.code ({ cls := "TrainingDiary", name := "today", desc := "()I" } : Jvm.MethodName) prog_1_method_11_code (1 : Nat) (Option.some Jvm.ClassFile.FieldType.int)) ∈ lw_all := lw_g (lw_at lw_m1 208 rfl) rfl
theorem q256 : (Jvm.Cond.instanceMethod ({ cls := "TrainingDiary", name := "testCount", desc := "()I" } : Jvm.MethodName)) ∈ lw_all := lw_g (lw_at lw_m1 210 rfl) rfl
theorem q257 : (Jvm.Cond.selects "TrainingDiary" ({ cls := "TrainingDiary", name := "testCount", desc := "()I" } : Jvm.MethodName) ({ cls := "TrainingDiary", name := "testCount", desc := "()I" } : Jvm.MethodName)) ∈ lw_all := lw_g (lw_at lw_m1 211 rfl) rfl
theorem q258 : (Jvm.Cond.code ({ cls := "TrainingDiary", name := "testCount", desc := "()I" } : Jvm.MethodName) prog_1_method_14_code (1 : Nat) (Option.some Jvm.ClassFile.FieldType.int)) ∈ lw_all := lw_g (lw_at lw_m1 212 rfl) rfl
theorem q259 : (Jvm.Cond.methodLink "TrainingDiary" (118 : Nat) ({ cls := "TrainingDiary$Ordered", name := "size", desc := "()I" } : Jvm.MethodName)) ∈ lw_all := lw_g (lw_at lw_m1 213 rfl) rfl
theorem q268 : (Jvm.Cond.instanceMethod ({ cls := "TrainingDiary", name := "sessionCount", desc := "()I" } : Jvm.MethodName)) ∈ lw_all := lw_g (lw_at lw_m1 222 rfl) rfl
theorem q269 : (Jvm.Cond.selects "TrainingDiary" ({ cls := "TrainingDiary", name := "sessionCount", desc := "()I" } : Jvm.MethodName) ({ cls := "TrainingDiary", name := "sessionCount", desc := "()I" } : Jvm.MethodName)) ∈ lw_all := lw_g (lw_at lw_m1 223 rfl) rfl
theorem q270 : (Jvm.Cond.code ({ cls := "TrainingDiary", name := "sessionCount", desc := "()I" } : Jvm.MethodName) prog_1_method_27_code (1 : Nat) (Option.some Jvm.ClassFile.FieldType.int)) ∈ lw_all := lw_g (lw_at lw_m1 224 rfl) rfl
theorem q272 : (Jvm.Cond.instanceMethod ({ cls := "TrainingDiary", name := "meanLoad", desc := "()D" } : Jvm.MethodName)) ∈ lw_all := lw_g (lw_at lw_m1 226 rfl) rfl
theorem q273 : (Jvm.Cond.selects "TrainingDiary" ({ cls := "TrainingDiary", name := "meanLoad", desc := "()D" } : Jvm.MethodName) ({ cls := "TrainingDiary", name := "meanLoad", desc := "()D" } : Jvm.MethodName)) ∈ lw_all := lw_g (lw_at lw_m1 227 rfl) rfl
theorem q274 : (Jvm.Cond.code ({ cls := "TrainingDiary", name := "meanLoad", desc := "()D" } : Jvm.MethodName) prog_1_method_35_code (3 : Nat) (Option.some Jvm.ClassFile.FieldType.double)) ∈ lw_all := lw_g (lw_at lw_m1 228 rfl) rfl
theorem q275 : (Jvm.Cond.methodLink "TrainingDiary" (192 : Nat) ({ cls := "TrainingDiary$Book", name := "loadOn", desc := "(I)I" } : Jvm.MethodName)) ∈ lw_all := lw_g (lw_at lw_m1 229 rfl) rfl
theorem q330 : (Jvm.Cond.static ({ cls := "TrainingDiary", name := "requireElement", desc := "(Z)V" } : Jvm.MethodName)) ∈ lw_all := lw_g (lw_at lw_m2 44 rfl) rfl
theorem q331 : (Jvm.Cond.code ({ cls := "TrainingDiary", name := "requireElement", desc := "(Z)V" } : Jvm.MethodName) prog_1_method_5_code (1 : Nat) (Option.none : Option Jvm.ClassFile.FieldType)) ∈ lw_all := lw_g (lw_at lw_m2 45 rfl) rfl
theorem q332 : (Jvm.Cond.classLink "TrainingDiary" (19 : Nat) "java/util/NoSuchElementException") ∈ lw_all := lw_g (lw_at lw_m2 46 rfl) rfl
theorem q377 : (Jvm.Cond.stringRef "TrainingDiary" (21 : Nat) "there is none") ∈ lw_tbl := lw_at lw_m2 91 rfl
theorem q378 : (Jvm.Cond.methodLink "TrainingDiary" (23 : Nat) ({ cls := "java/util/NoSuchElementException", name := "<init>", desc := "(Ljava/lang/String;)V" } : Jvm.MethodName)) ∈ lw_all := lw_g (lw_at lw_m2 92 rfl) rfl
theorem q434 : (Jvm.Cond.static ({ cls := "TrainingDiary", name := "lastUpTo", desc := "(LTrainingDiary$Ordered;I)I" } : Jvm.MethodName)) ∈ lw_all := lw_g (lw_at lw_m2 148 rfl) rfl
theorem q435 : (Jvm.Cond.code ({ cls := "TrainingDiary", name := "lastUpTo", desc := "(LTrainingDiary$Ordered;I)I" } : Jvm.MethodName) prog_1_method_6_code (6 : Nat) (Option.some Jvm.ClassFile.FieldType.int)) ∈ lw_all := lw_g (lw_at lw_m2 149 rfl) rfl
theorem q436 : (Jvm.Cond.methodLink "TrainingDiary" (26 : Nat) ({ cls := "TrainingDiary$Ordered", name := "iterator", desc := "()Ljava/util/Iterator;" } : Jvm.MethodName)) ∈ lw_all := lw_g (lw_at lw_m2 150 rfl) rfl
theorem q437 : (Jvm.Cond.interfaceEntry "TrainingDiary" (32 : Nat)) ∈ lw_tbl := lw_at lw_m2 151 rfl
theorem q438 : (Jvm.Cond.methodLink "TrainingDiary" (32 : Nat) ({ cls := "java/util/Iterator", name := "hasNext", desc := "()Z" } : Jvm.MethodName)) ∈ lw_all := lw_g (lw_at lw_m2 152 rfl) rfl
theorem q439 : (Jvm.Cond.interfaceEntry "TrainingDiary" (38 : Nat)) ∈ lw_tbl := lw_at lw_m2 153 rfl
theorem q440 : (Jvm.Cond.methodLink "TrainingDiary" (38 : Nat) ({ cls := "java/util/Iterator", name := "next", desc := "()Ljava/lang/Object;" } : Jvm.MethodName)) ∈ lw_all := lw_g (lw_at lw_m2 154 rfl) rfl
theorem q441 : (Jvm.Cond.classLink "TrainingDiary" (42 : Nat) "TrainingDiary$Dated") ∈ lw_all := lw_g (lw_at lw_m2 155 rfl) rfl
theorem q442 : (Jvm.Cond.methodLink "TrainingDiary" (44 : Nat) ({ cls := "TrainingDiary$Dated", name := "day", desc := "()I" } : Jvm.MethodName)) ∈ lw_all := lw_g (lw_at lw_m2 156 rfl) rfl
theorem q455 : (Jvm.Cond.instanceMethod ({ cls := "TrainingDiary", name := "bestFormDay", desc := "()I" } : Jvm.MethodName)) ∈ lw_all := lw_g (lw_at lw_m2 169 rfl) rfl
theorem q456 : (Jvm.Cond.selects "TrainingDiary" ({ cls := "TrainingDiary", name := "bestFormDay", desc := "()I" } : Jvm.MethodName) ({ cls := "TrainingDiary", name := "bestFormDay", desc := "()I" } : Jvm.MethodName)) ∈ lw_all := lw_g (lw_at lw_m2 170 rfl) rfl
theorem q457 : (Jvm.Cond.code ({ cls := "TrainingDiary", name := "bestFormDay", desc := "()I" } : Jvm.MethodName) prog_1_method_41_code (3 : Nat) (Option.some Jvm.ClassFile.FieldType.int)) ∈ lw_all := lw_g (lw_at lw_m2 171 rfl) rfl
theorem q458 : (Jvm.Cond.methodLink "TrainingDiary" (209 : Nat) ({ cls := "TrainingDiary$Book", name := "formOn", desc := "(I)I" } : Jvm.MethodName)) ∈ lw_all := lw_g (lw_at lw_m2 172 rfl) rfl
theorem q471 : (Jvm.Cond.instanceMethod ({ cls := "TrainingDiary", name := "startPlan", desc := "()I" } : Jvm.MethodName)) ∈ lw_all := lw_g (lw_at lw_m2 185 rfl) rfl
theorem q472 : (Jvm.Cond.selects "TrainingDiary" ({ cls := "TrainingDiary", name := "startPlan", desc := "()I" } : Jvm.MethodName) ({ cls := "TrainingDiary", name := "startPlan", desc := "()I" } : Jvm.MethodName)) ∈ lw_all := lw_g (lw_at lw_m2 186 rfl) rfl
theorem q473 : (Jvm.Cond.code ({ cls := "TrainingDiary", name := "startPlan", desc := "()I" } : Jvm.MethodName) prog_1_method_53_code (2 : Nat) (Option.some Jvm.ClassFile.FieldType.int)) ∈ lw_all := lw_g (lw_at lw_m2 187 rfl) rfl
theorem q474 : (Jvm.Cond.methodLink "TrainingDiary" (96 : Nat) ({ cls := "TrainingDiary$Book", name := "<init>", desc := "(LTrainingDiary$Book;)V" } : Jvm.MethodName)) ∈ lw_all := lw_g (lw_at lw_m2 188 rfl) rfl
theorem q517 : (Jvm.Cond.selects "TrainingDiary" ({ cls := "java/lang/Object", name := "getClass", desc := "()Ljava/lang/Class;" } : Jvm.MethodName) ({ cls := "java/lang/Object", name := "getClass", desc := "()Ljava/lang/Class;" } : Jvm.MethodName)) ∈ lw_all := lw_g (lw_at lw_m2 231 rfl) rfl
theorem q551 : (Jvm.Cond.methodLink "TrainingDiary" (238 : Nat) ({ cls := "TrainingDiary$Book", name := "startPlan", desc := "()I" } : Jvm.MethodName)) ∈ lw_all := lw_g (lw_at lw_m3 25 rfl) rfl
theorem q555 : (Jvm.Cond.methodLink "TrainingDiary" (103 : Nat) ({ cls := "TrainingDiary", name := "replace", desc := "(LTrainingDiary$Book;I)I" } : Jvm.MethodName)) ∈ lw_all := lw_g (lw_at lw_m3 29 rfl) rfl
theorem q556 : (Jvm.Cond.privateMethod ({ cls := "TrainingDiary", name := "replace", desc := "(LTrainingDiary$Book;I)I" } : Jvm.MethodName)) ∈ lw_tbl := lw_at lw_m3 30 rfl
theorem q557 : (Jvm.Cond.instanceMethod ({ cls := "TrainingDiary", name := "replace", desc := "(LTrainingDiary$Book;I)I" } : Jvm.MethodName)) ∈ lw_all := lw_g (lw_at lw_m3 31 rfl) rfl
theorem q558 : (Jvm.Cond.code ({ cls := "TrainingDiary", name := "replace", desc := "(LTrainingDiary$Book;I)I" } : Jvm.MethodName) prog_1_method_8_code (3 : Nat) (Option.some Jvm.ClassFile.FieldType.int)) ∈ lw_all := lw_g (lw_at lw_m3 32 rfl) rfl
theorem q559 : (Jvm.Cond.methodLink "TrainingDiary" (74 : Nat) ({ cls := "java/util/ArrayDeque", name := "addLast", desc := "(Ljava/lang/Object;)V" } : Jvm.MethodName)) ∈ lw_all := lw_g (lw_at lw_m3 33 rfl) rfl
theorem q594 : (Jvm.Cond.methodLink "TrainingDiary" (78 : Nat) ({ cls := "java/util/ArrayDeque", name := "size", desc := "()I" } : Jvm.MethodName)) ∈ lw_all := lw_g (lw_at lw_m3 68 rfl) rfl
theorem q601 : (Jvm.Cond.methodLink "TrainingDiary" (81 : Nat) ({ cls := "java/util/ArrayDeque", name := "removeFirst", desc := "()Ljava/lang/Object;" } : Jvm.MethodName)) ∈ lw_all := lw_g (lw_at lw_m3 75 rfl) rfl
theorem q624 : (Jvm.Cond.instanceMethod ({ cls := "TrainingDiary", name := "missedDays", desc := "()I" } : Jvm.MethodName)) ∈ lw_all := lw_g (lw_at lw_m3 98 rfl) rfl
theorem q625 : (Jvm.Cond.selects "TrainingDiary" ({ cls := "TrainingDiary", name := "missedDays", desc := "()I" } : Jvm.MethodName) ({ cls := "TrainingDiary", name := "missedDays", desc := "()I" } : Jvm.MethodName)) ∈ lw_all := lw_g (lw_at lw_m3 99 rfl) rfl
theorem q626 : (Jvm.Cond.code ({ cls := "TrainingDiary", name := "missedDays", desc := "()I" } : Jvm.MethodName) prog_1_method_57_code (1 : Nat) (Option.some Jvm.ClassFile.FieldType.int)) ∈ lw_all := lw_g (lw_at lw_m3 100 rfl) rfl
theorem q627 : (Jvm.Cond.methodLink "TrainingDiary" (250 : Nat) ({ cls := "TrainingDiary$Book", name := "course", desc := "()LTrainingDiary$Book$Course;" } : Jvm.MethodName)) ∈ lw_all := lw_g (lw_at lw_m3 101 rfl) rfl
theorem q643 : (Jvm.Cond.fieldLinkNest "TrainingDiary" (259 : Nat) "TrainingDiary$Book$Course" "due" "I" "TrainingDiary") ∈ lw_tbl := lw_at lw_m3 117 rfl
theorem q645 : (Jvm.Cond.fieldLinkNest "TrainingDiary" (262 : Nat) "TrainingDiary$Book$Course" "missed" "I" "TrainingDiary") ∈ lw_tbl := lw_at lw_m3 119 rfl
theorem q647 : (Jvm.Cond.fieldLinkNest "TrainingDiary" (265 : Nat) "TrainingDiary$Book$Course" "dropped" "I" "TrainingDiary") ∈ lw_tbl := lw_at lw_m3 121 rfl
theorem q662 : (Jvm.Cond.instanceMethod ({ cls := "TrainingDiary", name := "droppedEntries", desc := "()I" } : Jvm.MethodName)) ∈ lw_all := lw_g (lw_at lw_m3 136 rfl) rfl
theorem q663 : (Jvm.Cond.selects "TrainingDiary" ({ cls := "TrainingDiary", name := "droppedEntries", desc := "()I" } : Jvm.MethodName) ({ cls := "TrainingDiary", name := "droppedEntries", desc := "()I" } : Jvm.MethodName)) ∈ lw_all := lw_g (lw_at lw_m3 137 rfl) rfl
theorem q664 : (Jvm.Cond.code ({ cls := "TrainingDiary", name := "droppedEntries", desc := "()I" } : Jvm.MethodName) prog_1_method_58_code (1 : Nat) (Option.some Jvm.ClassFile.FieldType.int)) ∈ lw_all := lw_g (lw_at lw_m3 138 rfl) rfl
theorem q666 : (Jvm.Cond.instanceMethod ({ cls := "TrainingDiary", name := "isPlanOver", desc := "()Z" } : Jvm.MethodName)) ∈ lw_all := lw_g (lw_at lw_m3 140 rfl) rfl
theorem q667 : (Jvm.Cond.selects "TrainingDiary" ({ cls := "TrainingDiary", name := "isPlanOver", desc := "()Z" } : Jvm.MethodName) ({ cls := "TrainingDiary", name := "isPlanOver", desc := "()Z" } : Jvm.MethodName)) ∈ lw_all := lw_g (lw_at lw_m3 141 rfl) rfl
theorem q668 : (Jvm.Cond.code ({ cls := "TrainingDiary", name := "isPlanOver", desc := "()Z" } : Jvm.MethodName) prog_1_method_60_code (1 : Nat) (Option.some Jvm.ClassFile.FieldType.boolean)) ∈ lw_all := lw_g (lw_at lw_m3 142 rfl) rfl
theorem q669 : (Jvm.Cond.methodLink "TrainingDiary" (254 : Nat) ({ cls := "TrainingDiary$Book$Course", name := "isOver", desc := "()Z" } : Jvm.MethodName)) ∈ lw_all := lw_g (lw_at lw_m3 143 rfl) rfl
theorem q674 : (Jvm.Cond.instanceMethod ({ cls := "TrainingDiary", name := "save", desc := "()I" } : Jvm.MethodName)) ∈ lw_all := lw_g (lw_at lw_m3 148 rfl) rfl
theorem q675 : (Jvm.Cond.selects "TrainingDiary" ({ cls := "TrainingDiary", name := "save", desc := "()I" } : Jvm.MethodName) ({ cls := "TrainingDiary", name := "save", desc := "()I" } : Jvm.MethodName)) ∈ lw_all := lw_g (lw_at lw_m3 149 rfl) rfl
theorem q676 : (Jvm.Cond.code ({ cls := "TrainingDiary", name := "save", desc := "()I" } : Jvm.MethodName) prog_1_method_64_code (1 : Nat) (Option.some Jvm.ClassFile.FieldType.int)) ∈ lw_all := lw_g (lw_at lw_m3 150 rfl) rfl
theorem q683 : (Jvm.Cond.instanceMethod ({ cls := "TrainingDiary", name := "pass", desc := "(I)I" } : Jvm.MethodName)) ∈ lw_all := lw_g (lw_at lw_m3 157 rfl) rfl
theorem q684 : (Jvm.Cond.selects "TrainingDiary" ({ cls := "TrainingDiary", name := "pass", desc := "(I)I" } : Jvm.MethodName) ({ cls := "TrainingDiary", name := "pass", desc := "(I)I" } : Jvm.MethodName)) ∈ lw_all := lw_g (lw_at lw_m3 158 rfl) rfl
theorem q685 : (Jvm.Cond.code ({ cls := "TrainingDiary", name := "pass", desc := "(I)I" } : Jvm.MethodName) prog_1_method_10_code (3 : Nat) (Option.some Jvm.ClassFile.FieldType.int)) ∈ lw_all := lw_g (lw_at lw_m3 159 rfl) rfl
theorem q686 : (Jvm.Cond.methodLink "TrainingDiary" (99 : Nat) ({ cls := "TrainingDiary$Book", name := "pass", desc := "(I)I" } : Jvm.MethodName)) ∈ lw_all := lw_g (lw_at lw_m3 160 rfl) rfl
theorem q691 : (Jvm.Cond.static ({ cls := "TrainingDiary", name := "isIn", desc := "(III)Z" } : Jvm.MethodName)) ∈ lw_all := lw_g (lw_at lw_m3 165 rfl) rfl
theorem q692 : (Jvm.Cond.code ({ cls := "TrainingDiary", name := "isIn", desc := "(III)Z" } : Jvm.MethodName) prog_1_method_1_code (3 : Nat) (Option.some Jvm.ClassFile.FieldType.boolean)) ∈ lw_all := lw_g (lw_at lw_m3 166 rfl) rfl
theorem q694 : (Jvm.Cond.static ({ cls := "TrainingDiary", name := "requireArgument", desc := "(Z)V" } : Jvm.MethodName)) ∈ lw_all := lw_g (lw_at lw_m3 168 rfl) rfl
theorem q695 : (Jvm.Cond.code ({ cls := "TrainingDiary", name := "requireArgument", desc := "(Z)V" } : Jvm.MethodName) prog_1_method_2_code (1 : Nat) (Option.none : Option Jvm.ClassFile.FieldType)) ∈ lw_all := lw_g (lw_at lw_m3 169 rfl) rfl
theorem q696 : (Jvm.Cond.classLink "TrainingDiary" (1 : Nat) "java/lang/IllegalArgumentException") ∈ lw_all := lw_g (lw_at lw_m3 170 rfl) rfl
theorem q705 : (Jvm.Cond.stringRef "TrainingDiary" (3 : Nat) "out of range") ∈ lw_tbl := lw_at lw_m3 179 rfl
theorem q706 : (Jvm.Cond.methodLink "TrainingDiary" (5 : Nat) ({ cls := "java/lang/IllegalArgumentException", name := "<init>", desc := "(Ljava/lang/String;)V" } : Jvm.MethodName)) ∈ lw_all := lw_g (lw_at lw_m3 180 rfl) rfl
theorem q713 : (Jvm.Cond.static ({ cls := "TrainingDiary", name := "requireState", desc := "(Z)V" } : Jvm.MethodName)) ∈ lw_all := lw_g (lw_at lw_m3 187 rfl) rfl
theorem q714 : (Jvm.Cond.code ({ cls := "TrainingDiary", name := "requireState", desc := "(Z)V" } : Jvm.MethodName) prog_1_method_3_code (1 : Nat) (Option.none : Option Jvm.ClassFile.FieldType)) ∈ lw_all := lw_g (lw_at lw_m3 188 rfl) rfl
theorem q715 : (Jvm.Cond.classLink "TrainingDiary" (9 : Nat) "java/lang/IllegalStateException") ∈ lw_all := lw_g (lw_at lw_m3 189 rfl) rfl
theorem q716 : (Jvm.Cond.stringRef "TrainingDiary" (11 : Nat) "not possible at present") ∈ lw_tbl := lw_at lw_m3 190 rfl
theorem q717 : (Jvm.Cond.methodLink "TrainingDiary" (13 : Nat) ({ cls := "java/lang/IllegalStateException", name := "<init>", desc := "(Ljava/lang/String;)V" } : Jvm.MethodName)) ∈ lw_all := lw_g (lw_at lw_m3 191 rfl) rfl
theorem q722 : (Jvm.Cond.instanceMethod ({ cls := "TrainingDiary", name := "addTest", desc := "(II)I" } : Jvm.MethodName)) ∈ lw_all := lw_g (lw_at lw_m3 196 rfl) rfl
theorem q723 : (Jvm.Cond.selects "TrainingDiary" ({ cls := "TrainingDiary", name := "addTest", desc := "(II)I" } : Jvm.MethodName) ({ cls := "TrainingDiary", name := "addTest", desc := "(II)I" } : Jvm.MethodName)) ∈ lw_all := lw_g (lw_at lw_m3 197 rfl) rfl
theorem q724 : (Jvm.Cond.code ({ cls := "TrainingDiary", name := "addTest", desc := "(II)I" } : Jvm.MethodName) prog_1_method_12_code (4 : Nat) (Option.some Jvm.ClassFile.FieldType.int)) ∈ lw_all := lw_g (lw_at lw_m3 198 rfl) rfl
theorem q725 : (Jvm.Cond.methodLink "TrainingDiary" (107 : Nat) ({ cls := "TrainingDiary$Book", name := "addTest", desc := "(II)I" } : Jvm.MethodName)) ∈ lw_all := lw_g (lw_at lw_m3 199 rfl) rfl
theorem q1015 : (Jvm.Cond.instanceMethod ({ cls := "TrainingDiary", name := "removeTest", desc := "(I)I" } : Jvm.MethodName)) ∈ lw_all := lw_g (lw_at lw_m5 9 rfl) rfl
theorem q1016 : (Jvm.Cond.selects "TrainingDiary" ({ cls := "TrainingDiary", name := "removeTest", desc := "(I)I" } : Jvm.MethodName) ({ cls := "TrainingDiary", name := "removeTest", desc := "(I)I" } : Jvm.MethodName)) ∈ lw_all := lw_g (lw_at lw_m5 10 rfl) rfl
theorem q1017 : (Jvm.Cond.code ({ cls := "TrainingDiary", name := "removeTest", desc := "(I)I" } : Jvm.MethodName) prog_1_method_13_code (3 : Nat) (Option.some Jvm.ClassFile.FieldType.int)) ∈ lw_all := lw_g (lw_at lw_m5 11 rfl) rfl
theorem q1018 : (Jvm.Cond.methodLink "TrainingDiary" (111 : Nat) ({ cls := "TrainingDiary$Book", name := "removeTest", desc := "(I)I" } : Jvm.MethodName)) ∈ lw_all := lw_g (lw_at lw_m5 12 rfl) rfl
theorem q1039 : (Jvm.Cond.instanceMethod ({ cls := "TrainingDiary", name := "thresholdOn", desc := "(I)I" } : Jvm.MethodName)) ∈ lw_all := lw_g (lw_at lw_m5 33 rfl) rfl
theorem q1040 : (Jvm.Cond.selects "TrainingDiary" ({ cls := "TrainingDiary", name := "thresholdOn", desc := "(I)I" } : Jvm.MethodName) ({ cls := "TrainingDiary", name := "thresholdOn", desc := "(I)I" } : Jvm.MethodName)) ∈ lw_all := lw_g (lw_at lw_m5 34 rfl) rfl
theorem q1041 : (Jvm.Cond.code ({ cls := "TrainingDiary", name := "thresholdOn", desc := "(I)I" } : Jvm.MethodName) prog_1_method_15_code (2 : Nat) (Option.some Jvm.ClassFile.FieldType.int)) ∈ lw_all := lw_g (lw_at lw_m5 35 rfl) rfl
theorem q1042 : (Jvm.Cond.methodLink "TrainingDiary" (88 : Nat) ({ cls := "TrainingDiary", name := "isIn", desc := "(III)Z" } : Jvm.MethodName)) ∈ lw_all := lw_g (lw_at lw_m5 36 rfl) rfl
theorem q1043 : (Jvm.Cond.methodLink "TrainingDiary" (92 : Nat) ({ cls := "TrainingDiary", name := "requireArgument", desc := "(Z)V" } : Jvm.MethodName)) ∈ lw_all := lw_g (lw_at lw_m5 37 rfl) rfl
theorem q1044 : (Jvm.Cond.methodLink "TrainingDiary" (119 : Nat) ({ cls := "TrainingDiary$Book", name := "thresholdOn", desc := "(I)I" } : Jvm.MethodName)) ∈ lw_all := lw_g (lw_at lw_m5 38 rfl) rfl
theorem q1049 : (Jvm.Cond.instanceMethod ({ cls := "TrainingDiary", name := "setBound", desc := "(II)I" } : Jvm.MethodName)) ∈ lw_all := lw_g (lw_at lw_m5 43 rfl) rfl
theorem q1050 : (Jvm.Cond.selects "TrainingDiary" ({ cls := "TrainingDiary", name := "setBound", desc := "(II)I" } : Jvm.MethodName) ({ cls := "TrainingDiary", name := "setBound", desc := "(II)I" } : Jvm.MethodName)) ∈ lw_all := lw_g (lw_at lw_m5 44 rfl) rfl
theorem q1051 : (Jvm.Cond.code ({ cls := "TrainingDiary", name := "setBound", desc := "(II)I" } : Jvm.MethodName) prog_1_method_16_code (4 : Nat) (Option.some Jvm.ClassFile.FieldType.int)) ∈ lw_all := lw_g (lw_at lw_m5 45 rfl) rfl
theorem q1052 : (Jvm.Cond.methodLink "TrainingDiary" (122 : Nat) ({ cls := "TrainingDiary$Book", name := "setBound", desc := "(II)I" } : Jvm.MethodName)) ∈ lw_all := lw_g (lw_at lw_m5 46 rfl) rfl
theorem q1060 : (Jvm.Cond.instanceMethod ({ cls := "TrainingDiary", name := "boundOf", desc := "(I)I" } : Jvm.MethodName)) ∈ lw_all := lw_g (lw_at lw_m5 54 rfl) rfl
theorem q1061 : (Jvm.Cond.selects "TrainingDiary" ({ cls := "TrainingDiary", name := "boundOf", desc := "(I)I" } : Jvm.MethodName) ({ cls := "TrainingDiary", name := "boundOf", desc := "(I)I" } : Jvm.MethodName)) ∈ lw_all := lw_g (lw_at lw_m5 55 rfl) rfl
theorem q1062 : (Jvm.Cond.code ({ cls := "TrainingDiary", name := "boundOf", desc := "(I)I" } : Jvm.MethodName) prog_1_method_17_code (2 : Nat) (Option.some Jvm.ClassFile.FieldType.int)) ∈ lw_all := lw_g (lw_at lw_m5 56 rfl) rfl
theorem q1067 : (Jvm.Cond.instanceMethod ({ cls := "TrainingDiary", name := "setWeight", desc := "(II)I" } : Jvm.MethodName)) ∈ lw_all := lw_g (lw_at lw_m5 61 rfl) rfl
theorem q1068 : (Jvm.Cond.selects "TrainingDiary" ({ cls := "TrainingDiary", name := "setWeight", desc := "(II)I" } : Jvm.MethodName) ({ cls := "TrainingDiary", name := "setWeight", desc := "(II)I" } : Jvm.MethodName)) ∈ lw_all := lw_g (lw_at lw_m5 62 rfl) rfl
theorem q1069 : (Jvm.Cond.code ({ cls := "TrainingDiary", name := "setWeight", desc := "(II)I" } : Jvm.MethodName) prog_1_method_18_code (4 : Nat) (Option.some Jvm.ClassFile.FieldType.int)) ∈ lw_all := lw_g (lw_at lw_m5 63 rfl) rfl
theorem q1070 : (Jvm.Cond.methodLink "TrainingDiary" (129 : Nat) ({ cls := "TrainingDiary$Book", name := "setWeight", desc := "(II)I" } : Jvm.MethodName)) ∈ lw_all := lw_g (lw_at lw_m5 64 rfl) rfl
theorem q1078 : (Jvm.Cond.instanceMethod ({ cls := "TrainingDiary", name := "weightOf", desc := "(I)I" } : Jvm.MethodName)) ∈ lw_all := lw_g (lw_at lw_m5 72 rfl) rfl
theorem q1079 : (Jvm.Cond.selects "TrainingDiary" ({ cls := "TrainingDiary", name := "weightOf", desc := "(I)I" } : Jvm.MethodName) ({ cls := "TrainingDiary", name := "weightOf", desc := "(I)I" } : Jvm.MethodName)) ∈ lw_all := lw_g (lw_at lw_m5 73 rfl) rfl
theorem q1080 : (Jvm.Cond.code ({ cls := "TrainingDiary", name := "weightOf", desc := "(I)I" } : Jvm.MethodName) prog_1_method_20_code (2 : Nat) (Option.some Jvm.ClassFile.FieldType.int)) ∈ lw_all := lw_g (lw_at lw_m5 74 rfl) rfl
theorem q1081 : (Jvm.Cond.methodLink "TrainingDiary" (132 : Nat) ({ cls := "TrainingDiary", name := "requireZone", desc := "(I)V" } : Jvm.MethodName)) ∈ lw_all := lw_g (lw_at lw_m5 75 rfl) rfl
theorem q1082 : (Jvm.Cond.static ({ cls := "TrainingDiary", name := "requireZone", desc := "(I)V" } : Jvm.MethodName)) ∈ lw_all := lw_g (lw_at lw_m5 76 rfl) rfl
theorem q1083 : (Jvm.Cond.code ({ cls := "TrainingDiary", name := "requireZone", desc := "(I)V" } : Jvm.MethodName) prog_1_method_19_code (1 : Nat) (Option.none : Option Jvm.ClassFile.FieldType)) ∈ lw_all := lw_g (lw_at lw_m5 77 rfl) rfl
theorem q1088 : (Jvm.Cond.instanceMethod ({ cls := "TrainingDiary", name := "zoneOf", desc := "(II)I" } : Jvm.MethodName)) ∈ lw_all := lw_g (lw_at lw_m5 82 rfl) rfl
theorem q1089 : (Jvm.Cond.selects "TrainingDiary" ({ cls := "TrainingDiary", name := "zoneOf", desc := "(II)I" } : Jvm.MethodName) ({ cls := "TrainingDiary", name := "zoneOf", desc := "(II)I" } : Jvm.MethodName)) ∈ lw_all := lw_g (lw_at lw_m5 83 rfl) rfl
theorem q1090 : (Jvm.Cond.code ({ cls := "TrainingDiary", name := "zoneOf", desc := "(II)I" } : Jvm.MethodName) prog_1_method_21_code (3 : Nat) (Option.some Jvm.ClassFile.FieldType.int)) ∈ lw_all := lw_g (lw_at lw_m5 84 rfl) rfl
theorem q1091 : (Jvm.Cond.methodLink "TrainingDiary" (139 : Nat) ({ cls := "TrainingDiary$Book", name := "zoneOf", desc := "(II)I" } : Jvm.MethodName)) ∈ lw_all := lw_g (lw_at lw_m5 85 rfl) rfl
theorem q1096 : (Jvm.Cond.instanceMethod ({ cls := "TrainingDiary", name := "addSession", desc := "(I)I" } : Jvm.MethodName)) ∈ lw_all := lw_g (lw_at lw_m5 90 rfl) rfl
theorem q1097 : (Jvm.Cond.selects "TrainingDiary" ({ cls := "TrainingDiary", name := "addSession", desc := "(I)I" } : Jvm.MethodName) ({ cls := "TrainingDiary", name := "addSession", desc := "(I)I" } : Jvm.MethodName)) ∈ lw_all := lw_g (lw_at lw_m5 91 rfl) rfl
theorem q1098 : (Jvm.Cond.code ({ cls := "TrainingDiary", name := "addSession", desc := "(I)I" } : Jvm.MethodName) prog_1_method_22_code (3 : Nat) (Option.some Jvm.ClassFile.FieldType.int)) ∈ lw_all := lw_g (lw_at lw_m5 92 rfl) rfl
theorem q1099 : (Jvm.Cond.methodLink "TrainingDiary" (142 : Nat) ({ cls := "TrainingDiary$Book", name := "addSession", desc := "(I)I" } : Jvm.MethodName)) ∈ lw_all := lw_g (lw_at lw_m5 93 rfl) rfl
theorem q1113 : (Jvm.Cond.fieldLinkNest "TrainingDiary" (170 : Nat) "TrainingDiary$Session" "id" "I" "TrainingDiary") ∈ lw_tbl := lw_at lw_m5 107 rfl
theorem q1131 : (Jvm.Cond.instanceMethod ({ cls := "TrainingDiary", name := "addPart", desc := "(III)I" } : Jvm.MethodName)) ∈ lw_all := lw_g (lw_at lw_m5 125 rfl) rfl
theorem q1132 : (Jvm.Cond.selects "TrainingDiary" ({ cls := "TrainingDiary", name := "addPart", desc := "(III)I" } : Jvm.MethodName) ({ cls := "TrainingDiary", name := "addPart", desc := "(III)I" } : Jvm.MethodName)) ∈ lw_all := lw_g (lw_at lw_m5 126 rfl) rfl
theorem q1133 : (Jvm.Cond.code ({ cls := "TrainingDiary", name := "addPart", desc := "(III)I" } : Jvm.MethodName) prog_1_method_23_code (5 : Nat) (Option.some Jvm.ClassFile.FieldType.int)) ∈ lw_all := lw_g (lw_at lw_m5 127 rfl) rfl
theorem q1134 : (Jvm.Cond.methodLink "TrainingDiary" (145 : Nat) ({ cls := "TrainingDiary$Book", name := "addPart", desc := "(III)I" } : Jvm.MethodName)) ∈ lw_all := lw_g (lw_at lw_m5 128 rfl) rfl
theorem q1161 : (Jvm.Cond.instanceMethod ({ cls := "TrainingDiary", name := "clearParts", desc := "(I)I" } : Jvm.MethodName)) ∈ lw_all := lw_g (lw_at lw_m5 155 rfl) rfl
theorem q1162 : (Jvm.Cond.selects "TrainingDiary" ({ cls := "TrainingDiary", name := "clearParts", desc := "(I)I" } : Jvm.MethodName) ({ cls := "TrainingDiary", name := "clearParts", desc := "(I)I" } : Jvm.MethodName)) ∈ lw_all := lw_g (lw_at lw_m5 156 rfl) rfl
theorem q1163 : (Jvm.Cond.code ({ cls := "TrainingDiary", name := "clearParts", desc := "(I)I" } : Jvm.MethodName) prog_1_method_24_code (3 : Nat) (Option.some Jvm.ClassFile.FieldType.int)) ∈ lw_all := lw_g (lw_at lw_m5 157 rfl) rfl
theorem q1164 : (Jvm.Cond.methodLink "TrainingDiary" (149 : Nat) ({ cls := "TrainingDiary$Book", name := "clearParts", desc := "(I)I" } : Jvm.MethodName)) ∈ lw_all := lw_g (lw_at lw_m5 158 rfl) rfl
theorem q1172 : (Jvm.Cond.instanceMethod ({ cls := "TrainingDiary", name := "moveSession", desc := "(II)I" } : Jvm.MethodName)) ∈ lw_all := lw_g (lw_at lw_m5 166 rfl) rfl
theorem q1173 : (Jvm.Cond.selects "TrainingDiary" ({ cls := "TrainingDiary", name := "moveSession", desc := "(II)I" } : Jvm.MethodName) ({ cls := "TrainingDiary", name := "moveSession", desc := "(II)I" } : Jvm.MethodName)) ∈ lw_all := lw_g (lw_at lw_m5 167 rfl) rfl
theorem q1174 : (Jvm.Cond.code ({ cls := "TrainingDiary", name := "moveSession", desc := "(II)I" } : Jvm.MethodName) prog_1_method_25_code (4 : Nat) (Option.some Jvm.ClassFile.FieldType.int)) ∈ lw_all := lw_g (lw_at lw_m5 168 rfl) rfl
theorem q1175 : (Jvm.Cond.methodLink "TrainingDiary" (152 : Nat) ({ cls := "TrainingDiary$Book", name := "moveSession", desc := "(II)I" } : Jvm.MethodName)) ∈ lw_all := lw_g (lw_at lw_m5 169 rfl) rfl
theorem q1187 : (Jvm.Cond.instanceMethod ({ cls := "TrainingDiary", name := "removeSession", desc := "(I)I" } : Jvm.MethodName)) ∈ lw_all := lw_g (lw_at lw_m5 181 rfl) rfl
theorem q1188 : (Jvm.Cond.selects "TrainingDiary" ({ cls := "TrainingDiary", name := "removeSession", desc := "(I)I" } : Jvm.MethodName) ({ cls := "TrainingDiary", name := "removeSession", desc := "(I)I" } : Jvm.MethodName)) ∈ lw_all := lw_g (lw_at lw_m5 182 rfl) rfl
theorem q1189 : (Jvm.Cond.code ({ cls := "TrainingDiary", name := "removeSession", desc := "(I)I" } : Jvm.MethodName) prog_1_method_26_code (3 : Nat) (Option.some Jvm.ClassFile.FieldType.int)) ∈ lw_all := lw_g (lw_at lw_m5 183 rfl) rfl
theorem q1190 : (Jvm.Cond.methodLink "TrainingDiary" (155 : Nat) ({ cls := "TrainingDiary$Book", name := "removeSession", desc := "(I)I" } : Jvm.MethodName)) ∈ lw_all := lw_g (lw_at lw_m5 184 rfl) rfl
theorem q1214 : (Jvm.Cond.instanceMethod ({ cls := "TrainingDiary", name := "sessionAt", desc := "(I)I" } : Jvm.MethodName)) ∈ lw_all := lw_g (lw_at lw_m5 208 rfl) rfl
theorem q1215 : (Jvm.Cond.selects "TrainingDiary" ({ cls := "TrainingDiary", name := "sessionAt", desc := "(I)I" } : Jvm.MethodName) ({ cls := "TrainingDiary", name := "sessionAt", desc := "(I)I" } : Jvm.MethodName)) ∈ lw_all := lw_g (lw_at lw_m5 209 rfl) rfl
theorem q1216 : (Jvm.Cond.code ({ cls := "TrainingDiary", name := "sessionAt", desc := "(I)I" } : Jvm.MethodName) prog_1_method_28_code (2 : Nat) (Option.some Jvm.ClassFile.FieldType.int)) ∈ lw_all := lw_g (lw_at lw_m5 210 rfl) rfl
theorem q1217 : (Jvm.Cond.methodLink "TrainingDiary" (161 : Nat) ({ cls := "TrainingDiary", name := "requireIndex", desc := "(Z)V" } : Jvm.MethodName)) ∈ lw_all := lw_g (lw_at lw_m5 211 rfl) rfl
theorem q1218 : (Jvm.Cond.static ({ cls := "TrainingDiary", name := "requireIndex", desc := "(Z)V" } : Jvm.MethodName)) ∈ lw_all := lw_g (lw_at lw_m5 212 rfl) rfl
theorem q1219 : (Jvm.Cond.code ({ cls := "TrainingDiary", name := "requireIndex", desc := "(Z)V" } : Jvm.MethodName) prog_1_method_4_code (1 : Nat) (Option.none : Option Jvm.ClassFile.FieldType)) ∈ lw_all := lw_g (lw_at lw_m5 213 rfl) rfl
theorem q1220 : (Jvm.Cond.classLink "TrainingDiary" (14 : Nat) "java/lang/IndexOutOfBoundsException") ∈ lw_all := lw_g (lw_at lw_m5 214 rfl) rfl
theorem q1221 : (Jvm.Cond.stringRef "TrainingDiary" (16 : Nat) "there is no such position") ∈ lw_tbl := lw_at lw_m5 215 rfl
theorem q1222 : (Jvm.Cond.methodLink "TrainingDiary" (18 : Nat) ({ cls := "java/lang/IndexOutOfBoundsException", name := "<init>", desc := "(Ljava/lang/String;)V" } : Jvm.MethodName)) ∈ lw_all := lw_g (lw_at lw_m5 216 rfl) rfl
theorem q1223 : (Jvm.Cond.methodLink "TrainingDiary" (164 : Nat) ({ cls := "TrainingDiary$Ordered", name := "get", desc := "(I)LTrainingDiary$Dated;" } : Jvm.MethodName)) ∈ lw_all := lw_g (lw_at lw_m5 217 rfl) rfl
theorem q1224 : (Jvm.Cond.classLink "TrainingDiary" (168 : Nat) "TrainingDiary$Session") ∈ lw_all := lw_g (lw_at lw_m5 218 rfl) rfl
theorem q1229 : (Jvm.Cond.instanceMethod ({ cls := "TrainingDiary", name := "dayOf", desc := "(I)I" } : Jvm.MethodName)) ∈ lw_all := lw_g (lw_at lw_m5 223 rfl) rfl
theorem q1230 : (Jvm.Cond.selects "TrainingDiary" ({ cls := "TrainingDiary", name := "dayOf", desc := "(I)I" } : Jvm.MethodName) ({ cls := "TrainingDiary", name := "dayOf", desc := "(I)I" } : Jvm.MethodName)) ∈ lw_all := lw_g (lw_at lw_m5 224 rfl) rfl
theorem q1231 : (Jvm.Cond.code ({ cls := "TrainingDiary", name := "dayOf", desc := "(I)I" } : Jvm.MethodName) prog_1_method_29_code (2 : Nat) (Option.some Jvm.ClassFile.FieldType.int)) ∈ lw_all := lw_g (lw_at lw_m5 225 rfl) rfl
theorem q1232 : (Jvm.Cond.methodLink "TrainingDiary" (173 : Nat) ({ cls := "TrainingDiary$Book", name := "session", desc := "(I)LTrainingDiary$Session;" } : Jvm.MethodName)) ∈ lw_all := lw_g (lw_at lw_m5 226 rfl) rfl
theorem q1236 : (Jvm.Cond.methodLink "TrainingDiary" (177 : Nat) ({ cls := "TrainingDiary$Session", name := "day", desc := "()I" } : Jvm.MethodName)) ∈ lw_all := lw_g (lw_at lw_m5 230 rfl) rfl
theorem q1241 : (Jvm.Cond.instanceMethod ({ cls := "TrainingDiary", name := "minutesOf", desc := "(I)I" } : Jvm.MethodName)) ∈ lw_all := lw_g (lw_at lw_m5 235 rfl) rfl
theorem q1242 : (Jvm.Cond.selects "TrainingDiary" ({ cls := "TrainingDiary", name := "minutesOf", desc := "(I)I" } : Jvm.MethodName) ({ cls := "TrainingDiary", name := "minutesOf", desc := "(I)I" } : Jvm.MethodName)) ∈ lw_all := lw_g (lw_at lw_m5 236 rfl) rfl
theorem q1243 : (Jvm.Cond.code ({ cls := "TrainingDiary", name := "minutesOf", desc := "(I)I" } : Jvm.MethodName) prog_1_method_30_code (2 : Nat) (Option.some Jvm.ClassFile.FieldType.int)) ∈ lw_all := lw_g (lw_at lw_m5 237 rfl) rfl
theorem q1244 : (Jvm.Cond.methodLink "TrainingDiary" (178 : Nat) ({ cls := "TrainingDiary$Session", name := "length", desc := "()I" } : Jvm.MethodName)) ∈ lw_all := lw_g (lw_at lw_m5 238 rfl) rfl
theorem q1249 : (Jvm.Cond.instanceMethod ({ cls := "TrainingDiary", name := "minutesInZone", desc := "(II)I" } : Jvm.MethodName)) ∈ lw_all := lw_g (lw_at lw_m6 3 rfl) rfl
theorem q1250 : (Jvm.Cond.selects "TrainingDiary" ({ cls := "TrainingDiary", name := "minutesInZone", desc := "(II)I" } : Jvm.MethodName) ({ cls := "TrainingDiary", name := "minutesInZone", desc := "(II)I" } : Jvm.MethodName)) ∈ lw_all := lw_g (lw_at lw_m6 4 rfl) rfl
theorem q1251 : (Jvm.Cond.code ({ cls := "TrainingDiary", name := "minutesInZone", desc := "(II)I" } : Jvm.MethodName) prog_1_method_31_code (4 : Nat) (Option.some Jvm.ClassFile.FieldType.int)) ∈ lw_all := lw_g (lw_at lw_m6 5 rfl) rfl
theorem q1252 : (Jvm.Cond.methodLink "TrainingDiary" (181 : Nat) ({ cls := "TrainingDiary$Book", name := "minutesInZone", desc := "(LTrainingDiary$Session;I)I" } : Jvm.MethodName)) ∈ lw_all := lw_g (lw_at lw_m6 6 rfl) rfl
theorem q1260 : (Jvm.Cond.instanceMethod ({ cls := "TrainingDiary", name := "loadOf", desc := "(I)I" } : Jvm.MethodName)) ∈ lw_all := lw_g (lw_at lw_m6 14 rfl) rfl
theorem q1261 : (Jvm.Cond.selects "TrainingDiary" ({ cls := "TrainingDiary", name := "loadOf", desc := "(I)I" } : Jvm.MethodName) ({ cls := "TrainingDiary", name := "loadOf", desc := "(I)I" } : Jvm.MethodName)) ∈ lw_all := lw_g (lw_at lw_m6 15 rfl) rfl
theorem q1262 : (Jvm.Cond.code ({ cls := "TrainingDiary", name := "loadOf", desc := "(I)I" } : Jvm.MethodName) prog_1_method_32_code (2 : Nat) (Option.some Jvm.ClassFile.FieldType.int)) ∈ lw_all := lw_g (lw_at lw_m6 16 rfl) rfl
theorem q1263 : (Jvm.Cond.methodLink "TrainingDiary" (185 : Nat) ({ cls := "TrainingDiary$Book", name := "loadOf", desc := "(LTrainingDiary$Session;)I" } : Jvm.MethodName)) ∈ lw_all := lw_g (lw_at lw_m6 17 rfl) rfl
theorem q1268 : (Jvm.Cond.instanceMethod ({ cls := "TrainingDiary", name := "loadOn", desc := "(I)I" } : Jvm.MethodName)) ∈ lw_all := lw_g (lw_at lw_m6 22 rfl) rfl
theorem q1269 : (Jvm.Cond.selects "TrainingDiary" ({ cls := "TrainingDiary", name := "loadOn", desc := "(I)I" } : Jvm.MethodName) ({ cls := "TrainingDiary", name := "loadOn", desc := "(I)I" } : Jvm.MethodName)) ∈ lw_all := lw_g (lw_at lw_m6 23 rfl) rfl
theorem q1270 : (Jvm.Cond.code ({ cls := "TrainingDiary", name := "loadOn", desc := "(I)I" } : Jvm.MethodName) prog_1_method_33_code (2 : Nat) (Option.some Jvm.ClassFile.FieldType.int)) ∈ lw_all := lw_g (lw_at lw_m6 24 rfl) rfl
theorem q1271 : (Jvm.Cond.methodLink "TrainingDiary" (189 : Nat) ({ cls := "TrainingDiary", name := "requireDay", desc := "(I)V" } : Jvm.MethodName)) ∈ lw_all := lw_g (lw_at lw_m6 25 rfl) rfl
theorem q1272 : (Jvm.Cond.privateMethod ({ cls := "TrainingDiary", name := "requireDay", desc := "(I)V" } : Jvm.MethodName)) ∈ lw_tbl := lw_at lw_m6 26 rfl
theorem q1273 : (Jvm.Cond.instanceMethod ({ cls := "TrainingDiary", name := "requireDay", desc := "(I)V" } : Jvm.MethodName)) ∈ lw_all := lw_g (lw_at lw_m6 27 rfl) rfl
theorem q1274 : (Jvm.Cond.code ({ cls := "TrainingDiary", name := "requireDay", desc := "(I)V" } : Jvm.MethodName) prog_1_method_9_code (2 : Nat) (Option.none : Option Jvm.ClassFile.FieldType)) ∈ lw_all := lw_g (lw_at lw_m6 28 rfl) rfl
theorem q1293 : (Jvm.Cond.instanceMethod ({ cls := "TrainingDiary", name := "zoneShare", desc := "(I)F" } : Jvm.MethodName)) ∈ lw_all := lw_g (lw_at lw_m6 47 rfl) rfl
theorem q1294 : (Jvm.Cond.selects "TrainingDiary" ({ cls := "TrainingDiary", name := "zoneShare", desc := "(I)F" } : Jvm.MethodName) ({ cls := "TrainingDiary", name := "zoneShare", desc := "(I)F" } : Jvm.MethodName)) ∈ lw_all := lw_g (lw_at lw_m6 48 rfl) rfl
theorem q1295 : (Jvm.Cond.code ({ cls := "TrainingDiary", name := "zoneShare", desc := "(I)F" } : Jvm.MethodName) prog_1_method_34_code (6 : Nat) (Option.some Jvm.ClassFile.FieldType.float)) ∈ lw_all := lw_g (lw_at lw_m6 49 rfl) rfl
theorem q1296 : (Jvm.Cond.classLink "TrainingDiary" (195 : Nat) "java/lang/ArithmeticException") ∈ lw_all := lw_g (lw_at lw_m6 50 rfl) rfl
theorem q1297 : (Jvm.Cond.stringRef "TrainingDiary" (197 : Nat) "there are no minutes") ∈ lw_tbl := lw_at lw_m6 51 rfl
theorem q1298 : (Jvm.Cond.methodLink "TrainingDiary" (199 : Nat) ({ cls := "java/lang/ArithmeticException", name := "<init>", desc := "(Ljava/lang/String;)V" } : Jvm.MethodName)) ∈ lw_all := lw_g (lw_at lw_m6 52 rfl) rfl
theorem q1303 : (Jvm.Cond.instanceMethod ({ cls := "TrainingDiary", name := "fitnessOn", desc := "(I)I" } : Jvm.MethodName)) ∈ lw_all := lw_g (lw_at lw_m6 57 rfl) rfl
theorem q1304 : (Jvm.Cond.selects "TrainingDiary" ({ cls := "TrainingDiary", name := "fitnessOn", desc := "(I)I" } : Jvm.MethodName) ({ cls := "TrainingDiary", name := "fitnessOn", desc := "(I)I" } : Jvm.MethodName)) ∈ lw_all := lw_g (lw_at lw_m6 58 rfl) rfl
theorem q1305 : (Jvm.Cond.code ({ cls := "TrainingDiary", name := "fitnessOn", desc := "(I)I" } : Jvm.MethodName) prog_1_method_36_code (2 : Nat) (Option.some Jvm.ClassFile.FieldType.int)) ∈ lw_all := lw_g (lw_at lw_m6 59 rfl) rfl
theorem q1306 : (Jvm.Cond.methodLink "TrainingDiary" (200 : Nat) ({ cls := "TrainingDiary$Book", name := "fitnessOn", desc := "(I)I" } : Jvm.MethodName)) ∈ lw_all := lw_g (lw_at lw_m6 60 rfl) rfl
theorem q1311 : (Jvm.Cond.instanceMethod ({ cls := "TrainingDiary", name := "fitnessFromStart", desc := "(I)I" } : Jvm.MethodName)) ∈ lw_all := lw_g (lw_at lw_m6 65 rfl) rfl
theorem q1312 : (Jvm.Cond.selects "TrainingDiary" ({ cls := "TrainingDiary", name := "fitnessFromStart", desc := "(I)I" } : Jvm.MethodName) ({ cls := "TrainingDiary", name := "fitnessFromStart", desc := "(I)I" } : Jvm.MethodName)) ∈ lw_all := lw_g (lw_at lw_m6 66 rfl) rfl
theorem q1313 : (Jvm.Cond.code ({ cls := "TrainingDiary", name := "fitnessFromStart", desc := "(I)I" } : Jvm.MethodName) prog_1_method_37_code (2 : Nat) (Option.some Jvm.ClassFile.FieldType.int)) ∈ lw_all := lw_g (lw_at lw_m6 67 rfl) rfl
theorem q1314 : (Jvm.Cond.methodLink "TrainingDiary" (203 : Nat) ({ cls := "TrainingDiary$Book", name := "fromStart", desc := "(II)I" } : Jvm.MethodName)) ∈ lw_all := lw_g (lw_at lw_m6 68 rfl) rfl
theorem q1322 : (Jvm.Cond.instanceMethod ({ cls := "TrainingDiary", name := "fatigueOn", desc := "(I)I" } : Jvm.MethodName)) ∈ lw_all := lw_g (lw_at lw_m6 76 rfl) rfl
theorem q1323 : (Jvm.Cond.selects "TrainingDiary" ({ cls := "TrainingDiary", name := "fatigueOn", desc := "(I)I" } : Jvm.MethodName) ({ cls := "TrainingDiary", name := "fatigueOn", desc := "(I)I" } : Jvm.MethodName)) ∈ lw_all := lw_g (lw_at lw_m6 77 rfl) rfl
theorem q1324 : (Jvm.Cond.code ({ cls := "TrainingDiary", name := "fatigueOn", desc := "(I)I" } : Jvm.MethodName) prog_1_method_38_code (2 : Nat) (Option.some Jvm.ClassFile.FieldType.int)) ∈ lw_all := lw_g (lw_at lw_m6 78 rfl) rfl
theorem q1325 : (Jvm.Cond.methodLink "TrainingDiary" (206 : Nat) ({ cls := "TrainingDiary$Book", name := "fatigueOn", desc := "(I)I" } : Jvm.MethodName)) ∈ lw_all := lw_g (lw_at lw_m6 79 rfl) rfl
theorem q1330 : (Jvm.Cond.instanceMethod ({ cls := "TrainingDiary", name := "fatigueFromStart", desc := "(I)I" } : Jvm.MethodName)) ∈ lw_all := lw_g (lw_at lw_m6 84 rfl) rfl
theorem q1331 : (Jvm.Cond.selects "TrainingDiary" ({ cls := "TrainingDiary", name := "fatigueFromStart", desc := "(I)I" } : Jvm.MethodName) ({ cls := "TrainingDiary", name := "fatigueFromStart", desc := "(I)I" } : Jvm.MethodName)) ∈ lw_all := lw_g (lw_at lw_m6 85 rfl) rfl
theorem q1332 : (Jvm.Cond.code ({ cls := "TrainingDiary", name := "fatigueFromStart", desc := "(I)I" } : Jvm.MethodName) prog_1_method_39_code (2 : Nat) (Option.some Jvm.ClassFile.FieldType.int)) ∈ lw_all := lw_g (lw_at lw_m6 86 rfl) rfl
theorem q1337 : (Jvm.Cond.instanceMethod ({ cls := "TrainingDiary", name := "formOn", desc := "(I)I" } : Jvm.MethodName)) ∈ lw_all := lw_g (lw_at lw_m6 91 rfl) rfl
theorem q1338 : (Jvm.Cond.selects "TrainingDiary" ({ cls := "TrainingDiary", name := "formOn", desc := "(I)I" } : Jvm.MethodName) ({ cls := "TrainingDiary", name := "formOn", desc := "(I)I" } : Jvm.MethodName)) ∈ lw_all := lw_g (lw_at lw_m6 92 rfl) rfl
theorem q1339 : (Jvm.Cond.code ({ cls := "TrainingDiary", name := "formOn", desc := "(I)I" } : Jvm.MethodName) prog_1_method_40_code (2 : Nat) (Option.some Jvm.ClassFile.FieldType.int)) ∈ lw_all := lw_g (lw_at lw_m6 93 rfl) rfl
theorem q1344 : (Jvm.Cond.instanceMethod ({ cls := "TrainingDiary", name := "daysToForm", desc := "(I)I" } : Jvm.MethodName)) ∈ lw_all := lw_g (lw_at lw_m6 98 rfl) rfl
theorem q1345 : (Jvm.Cond.selects "TrainingDiary" ({ cls := "TrainingDiary", name := "daysToForm", desc := "(I)I" } : Jvm.MethodName) ({ cls := "TrainingDiary", name := "daysToForm", desc := "(I)I" } : Jvm.MethodName)) ∈ lw_all := lw_g (lw_at lw_m6 99 rfl) rfl
theorem q1346 : (Jvm.Cond.code ({ cls := "TrainingDiary", name := "daysToForm", desc := "(I)I" } : Jvm.MethodName) prog_1_method_42_code (5 : Nat) (Option.some Jvm.ClassFile.FieldType.int)) ∈ lw_all := lw_g (lw_at lw_m6 100 rfl) rfl
theorem q1347 : (Jvm.Cond.constant "TrainingDiary" (212 : Nat) (-100000 : Int32)) ∈ lw_all := lw_g (lw_at lw_m6 101 rfl) rfl
theorem q1348 : (Jvm.Cond.constant "TrainingDiary" (213 : Nat) (100000 : Int32)) ∈ lw_all := lw_g (lw_at lw_m6 102 rfl) rfl
theorem q1349 : (Jvm.Cond.methodLink "TrainingDiary" (214 : Nat) ({ cls := "TrainingDiary", name := "requireElement", desc := "(Z)V" } : Jvm.MethodName)) ∈ lw_all := lw_g (lw_at lw_m6 103 rfl) rfl
theorem q1354 : (Jvm.Cond.instanceMethod ({ cls := "TrainingDiary", name := "bestDays", desc := "(I)I" } : Jvm.MethodName)) ∈ lw_all := lw_g (lw_at lw_m6 108 rfl) rfl
theorem q1355 : (Jvm.Cond.selects "TrainingDiary" ({ cls := "TrainingDiary", name := "bestDays", desc := "(I)I" } : Jvm.MethodName) ({ cls := "TrainingDiary", name := "bestDays", desc := "(I)I" } : Jvm.MethodName)) ∈ lw_all := lw_g (lw_at lw_m6 109 rfl) rfl
theorem q1356 : (Jvm.Cond.code ({ cls := "TrainingDiary", name := "bestDays", desc := "(I)I" } : Jvm.MethodName) prog_1_method_46_code (2 : Nat) (Option.some Jvm.ClassFile.FieldType.int)) ∈ lw_all := lw_g (lw_at lw_m6 110 rfl) rfl
theorem q1357 : (Jvm.Cond.methodLink "TrainingDiary" (222 : Nat) ({ cls := "TrainingDiary", name := "requireWindow", desc := "(I)V" } : Jvm.MethodName)) ∈ lw_all := lw_g (lw_at lw_m6 111 rfl) rfl
theorem q1358 : (Jvm.Cond.privateMethod ({ cls := "TrainingDiary", name := "requireWindow", desc := "(I)V" } : Jvm.MethodName)) ∈ lw_tbl := lw_at lw_m6 112 rfl
theorem q1359 : (Jvm.Cond.instanceMethod ({ cls := "TrainingDiary", name := "requireWindow", desc := "(I)V" } : Jvm.MethodName)) ∈ lw_all := lw_g (lw_at lw_m6 113 rfl) rfl
theorem q1360 : (Jvm.Cond.code ({ cls := "TrainingDiary", name := "requireWindow", desc := "(I)V" } : Jvm.MethodName) prog_1_method_43_code (2 : Nat) (Option.none : Option Jvm.ClassFile.FieldType)) ∈ lw_all := lw_g (lw_at lw_m6 114 rfl) rfl
theorem q1361 : (Jvm.Cond.methodLink "TrainingDiary" (225 : Nat) ({ cls := "TrainingDiary", name := "bestStart", desc := "(I)I" } : Jvm.MethodName)) ∈ lw_all := lw_g (lw_at lw_m6 115 rfl) rfl
theorem q1362 : (Jvm.Cond.privateMethod ({ cls := "TrainingDiary", name := "bestStart", desc := "(I)I" } : Jvm.MethodName)) ∈ lw_tbl := lw_at lw_m6 116 rfl
theorem q1363 : (Jvm.Cond.instanceMethod ({ cls := "TrainingDiary", name := "bestStart", desc := "(I)I" } : Jvm.MethodName)) ∈ lw_all := lw_g (lw_at lw_m6 117 rfl) rfl
theorem q1364 : (Jvm.Cond.code ({ cls := "TrainingDiary", name := "bestStart", desc := "(I)I" } : Jvm.MethodName) prog_1_method_44_code (6 : Nat) (Option.some Jvm.ClassFile.FieldType.int)) ∈ lw_all := lw_g (lw_at lw_m6 118 rfl) rfl
theorem q1365 : (Jvm.Cond.methodLink "TrainingDiary" (217 : Nat) ({ cls := "java/lang/Math", name := "max", desc := "(II)I" } : Jvm.MethodName)) ∈ lw_all := lw_g (lw_at lw_m6 119 rfl) rfl
theorem q1366 : (Jvm.Cond.methodLink "TrainingDiary" (228 : Nat) ({ cls := "TrainingDiary", name := "sumOf", desc := "(II)I" } : Jvm.MethodName)) ∈ lw_all := lw_g (lw_at lw_m6 120 rfl) rfl
theorem q1367 : (Jvm.Cond.privateMethod ({ cls := "TrainingDiary", name := "sumOf", desc := "(II)I" } : Jvm.MethodName)) ∈ lw_tbl := lw_at lw_m6 121 rfl
theorem q1368 : (Jvm.Cond.instanceMethod ({ cls := "TrainingDiary", name := "sumOf", desc := "(II)I" } : Jvm.MethodName)) ∈ lw_all := lw_g (lw_at lw_m6 122 rfl) rfl
theorem q1369 : (Jvm.Cond.code ({ cls := "TrainingDiary", name := "sumOf", desc := "(II)I" } : Jvm.MethodName) prog_1_method_45_code (5 : Nat) (Option.some Jvm.ClassFile.FieldType.int)) ∈ lw_all := lw_g (lw_at lw_m6 123 rfl) rfl
theorem q1374 : (Jvm.Cond.instanceMethod ({ cls := "TrainingDiary", name := "bestDaysByTrying", desc := "(I)I" } : Jvm.MethodName)) ∈ lw_all := lw_g (lw_at lw_m6 128 rfl) rfl
theorem q1375 : (Jvm.Cond.selects "TrainingDiary" ({ cls := "TrainingDiary", name := "bestDaysByTrying", desc := "(I)I" } : Jvm.MethodName) ({ cls := "TrainingDiary", name := "bestDaysByTrying", desc := "(I)I" } : Jvm.MethodName)) ∈ lw_all := lw_g (lw_at lw_m6 129 rfl) rfl
theorem q1376 : (Jvm.Cond.code ({ cls := "TrainingDiary", name := "bestDaysByTrying", desc := "(I)I" } : Jvm.MethodName) prog_1_method_47_code (4 : Nat) (Option.some Jvm.ClassFile.FieldType.int)) ∈ lw_all := lw_g (lw_at lw_m6 130 rfl) rfl
theorem q1381 : (Jvm.Cond.instanceMethod ({ cls := "TrainingDiary", name := "bestDaysStart", desc := "(I)I" } : Jvm.MethodName)) ∈ lw_all := lw_g (lw_at lw_m6 135 rfl) rfl
theorem q1382 : (Jvm.Cond.selects "TrainingDiary" ({ cls := "TrainingDiary", name := "bestDaysStart", desc := "(I)I" } : Jvm.MethodName) ({ cls := "TrainingDiary", name := "bestDaysStart", desc := "(I)I" } : Jvm.MethodName)) ∈ lw_all := lw_g (lw_at lw_m6 136 rfl) rfl
theorem q1383 : (Jvm.Cond.code ({ cls := "TrainingDiary", name := "bestDaysStart", desc := "(I)I" } : Jvm.MethodName) prog_1_method_48_code (2 : Nat) (Option.some Jvm.ClassFile.FieldType.int)) ∈ lw_all := lw_g (lw_at lw_m6 137 rfl) rfl
theorem q1388 : (Jvm.Cond.instanceMethod ({ cls := "TrainingDiary", name := "bestEffort", desc := "(I)I" } : Jvm.MethodName)) ∈ lw_all := lw_g (lw_at lw_m6 142 rfl) rfl
theorem q1389 : (Jvm.Cond.selects "TrainingDiary" ({ cls := "TrainingDiary", name := "bestEffort", desc := "(I)I" } : Jvm.MethodName) ({ cls := "TrainingDiary", name := "bestEffort", desc := "(I)I" } : Jvm.MethodName)) ∈ lw_all := lw_g (lw_at lw_m6 143 rfl) rfl
theorem q1390 : (Jvm.Cond.code ({ cls := "TrainingDiary", name := "bestEffort", desc := "(I)I" } : Jvm.MethodName) prog_1_method_50_code (5 : Nat) (Option.some Jvm.ClassFile.FieldType.int)) ∈ lw_all := lw_g (lw_at lw_m6 144 rfl) rfl
theorem q1391 : (Jvm.Cond.methodLink "TrainingDiary" (235 : Nat) ({ cls := "TrainingDiary", name := "effortOf", desc := "(LTrainingDiary$Session;I)I" } : Jvm.MethodName)) ∈ lw_all := lw_g (lw_at lw_m6 145 rfl) rfl
theorem q1392 : (Jvm.Cond.static ({ cls := "TrainingDiary", name := "effortOf", desc := "(LTrainingDiary$Session;I)I" } : Jvm.MethodName)) ∈ lw_all := lw_g (lw_at lw_m6 146 rfl) rfl
theorem q1393 : (Jvm.Cond.code ({ cls := "TrainingDiary", name := "effortOf", desc := "(LTrainingDiary$Session;I)I" } : Jvm.MethodName) prog_1_method_49_code (6 : Nat) (Option.some Jvm.ClassFile.FieldType.int)) ∈ lw_all := lw_g (lw_at lw_m6 147 rfl) rfl
theorem q1394 : (Jvm.Cond.methodLink "TrainingDiary" (231 : Nat) ({ cls := "TrainingDiary$Session", name := "byMinutes", desc := "()[S" } : Jvm.MethodName)) ∈ lw_all := lw_g (lw_at lw_m6 148 rfl) rfl
theorem q1403 : (Jvm.Cond.instanceMethod ({ cls := "TrainingDiary", name := "bestEffortByTrying", desc := "(I)I" } : Jvm.MethodName)) ∈ lw_all := lw_g (lw_at lw_m6 157 rfl) rfl
theorem q1404 : (Jvm.Cond.selects "TrainingDiary" ({ cls := "TrainingDiary", name := "bestEffortByTrying", desc := "(I)I" } : Jvm.MethodName) ({ cls := "TrainingDiary", name := "bestEffortByTrying", desc := "(I)I" } : Jvm.MethodName)) ∈ lw_all := lw_g (lw_at lw_m6 158 rfl) rfl
theorem q1405 : (Jvm.Cond.code ({ cls := "TrainingDiary", name := "bestEffortByTrying", desc := "(I)I" } : Jvm.MethodName) prog_1_method_51_code (9 : Nat) (Option.some Jvm.ClassFile.FieldType.int)) ∈ lw_all := lw_g (lw_at lw_m6 159 rfl) rfl
theorem q1410 : (Jvm.Cond.instanceMethod ({ cls := "TrainingDiary", name := "bestEffortSession", desc := "(I)I" } : Jvm.MethodName)) ∈ lw_all := lw_g (lw_at lw_m6 164 rfl) rfl
theorem q1411 : (Jvm.Cond.selects "TrainingDiary" ({ cls := "TrainingDiary", name := "bestEffortSession", desc := "(I)I" } : Jvm.MethodName) ({ cls := "TrainingDiary", name := "bestEffortSession", desc := "(I)I" } : Jvm.MethodName)) ∈ lw_all := lw_g (lw_at lw_m6 165 rfl) rfl
theorem q1412 : (Jvm.Cond.code ({ cls := "TrainingDiary", name := "bestEffortSession", desc := "(I)I" } : Jvm.MethodName) prog_1_method_52_code (7 : Nat) (Option.some Jvm.ClassFile.FieldType.int)) ∈ lw_all := lw_g (lw_at lw_m6 166 rfl) rfl
theorem q1417 : (Jvm.Cond.instanceMethod ({ cls := "TrainingDiary", name := "addTarget", desc := "(I)I" } : Jvm.MethodName)) ∈ lw_all := lw_g (lw_at lw_m6 171 rfl) rfl
theorem q1418 : (Jvm.Cond.selects "TrainingDiary" ({ cls := "TrainingDiary", name := "addTarget", desc := "(I)I" } : Jvm.MethodName) ({ cls := "TrainingDiary", name := "addTarget", desc := "(I)I" } : Jvm.MethodName)) ∈ lw_all := lw_g (lw_at lw_m6 172 rfl) rfl
theorem q1419 : (Jvm.Cond.code ({ cls := "TrainingDiary", name := "addTarget", desc := "(I)I" } : Jvm.MethodName) prog_1_method_54_code (3 : Nat) (Option.some Jvm.ClassFile.FieldType.int)) ∈ lw_all := lw_g (lw_at lw_m6 173 rfl) rfl
theorem q1420 : (Jvm.Cond.methodLink "TrainingDiary" (241 : Nat) ({ cls := "TrainingDiary$Book", name := "addTarget", desc := "(I)I" } : Jvm.MethodName)) ∈ lw_all := lw_g (lw_at lw_m6 174 rfl) rfl
theorem q1428 : (Jvm.Cond.instanceMethod ({ cls := "TrainingDiary", name := "targetAt", desc := "(I)I" } : Jvm.MethodName)) ∈ lw_all := lw_g (lw_at lw_m6 182 rfl) rfl
theorem q1429 : (Jvm.Cond.selects "TrainingDiary" ({ cls := "TrainingDiary", name := "targetAt", desc := "(I)I" } : Jvm.MethodName) ({ cls := "TrainingDiary", name := "targetAt", desc := "(I)I" } : Jvm.MethodName)) ∈ lw_all := lw_g (lw_at lw_m6 183 rfl) rfl
theorem q1430 : (Jvm.Cond.code ({ cls := "TrainingDiary", name := "targetAt", desc := "(I)I" } : Jvm.MethodName) prog_1_method_55_code (2 : Nat) (Option.some Jvm.ClassFile.FieldType.int)) ∈ lw_all := lw_g (lw_at lw_m6 184 rfl) rfl
theorem q1435 : (Jvm.Cond.instanceMethod ({ cls := "TrainingDiary", name := "dueEntry", desc := "()I" } : Jvm.MethodName)) ∈ lw_all := lw_g (lw_at lw_m6 189 rfl) rfl
theorem q1436 : (Jvm.Cond.selects "TrainingDiary" ({ cls := "TrainingDiary", name := "dueEntry", desc := "()I" } : Jvm.MethodName) ({ cls := "TrainingDiary", name := "dueEntry", desc := "()I" } : Jvm.MethodName)) ∈ lw_all := lw_g (lw_at lw_m6 190 rfl) rfl
theorem q1437 : (Jvm.Cond.code ({ cls := "TrainingDiary", name := "dueEntry", desc := "()I" } : Jvm.MethodName) prog_1_method_56_code (2 : Nat) (Option.some Jvm.ClassFile.FieldType.int)) ∈ lw_all := lw_g (lw_at lw_m6 191 rfl) rfl
theorem q1442 : (Jvm.Cond.instanceMethod ({ cls := "TrainingDiary", name := "planEnd", desc := "()I" } : Jvm.MethodName)) ∈ lw_all := lw_g (lw_at lw_m6 196 rfl) rfl
theorem q1443 : (Jvm.Cond.selects "TrainingDiary" ({ cls := "TrainingDiary", name := "planEnd", desc := "()I" } : Jvm.MethodName) ({ cls := "TrainingDiary", name := "planEnd", desc := "()I" } : Jvm.MethodName)) ∈ lw_all := lw_g (lw_at lw_m6 197 rfl) rfl
theorem q1444 : (Jvm.Cond.code ({ cls := "TrainingDiary", name := "planEnd", desc := "()I" } : Jvm.MethodName) prog_1_method_59_code (2 : Nat) (Option.some Jvm.ClassFile.FieldType.int)) ∈ lw_all := lw_g (lw_at lw_m6 198 rfl) rfl
theorem q1449 : (Jvm.Cond.instanceMethod ({ cls := "TrainingDiary", name := "writeWeek", desc := "(I)I" } : Jvm.MethodName)) ∈ lw_all := lw_g (lw_at lw_m6 203 rfl) rfl
theorem q1450 : (Jvm.Cond.selects "TrainingDiary" ({ cls := "TrainingDiary", name := "writeWeek", desc := "(I)I" } : Jvm.MethodName) ({ cls := "TrainingDiary", name := "writeWeek", desc := "(I)I" } : Jvm.MethodName)) ∈ lw_all := lw_g (lw_at lw_m6 204 rfl) rfl
theorem q1451 : (Jvm.Cond.code ({ cls := "TrainingDiary", name := "writeWeek", desc := "(I)I" } : Jvm.MethodName) prog_1_method_61_code (3 : Nat) (Option.some Jvm.ClassFile.FieldType.int)) ∈ lw_all := lw_g (lw_at lw_m6 205 rfl) rfl
theorem q1452 : (Jvm.Cond.methodLink "TrainingDiary" (271 : Nat) ({ cls := "java/lang/StringBuilder", name := "setLength", desc := "(I)V" } : Jvm.MethodName)) ∈ lw_all := lw_g (lw_at lw_m6 206 rfl) rfl
theorem q1504 : (Jvm.Cond.stringRef "TrainingDiary" (274 : Nat) "") ∈ lw_tbl := lw_at lw_m7 18 rfl
theorem q1505 : (Jvm.Cond.stringRef "TrainingDiary" (276 : Nat) " ") ∈ lw_tbl := lw_at lw_m7 19 rfl
theorem q1506 : (Jvm.Cond.methodLink "TrainingDiary" (278 : Nat) ({ cls := "java/lang/StringBuilder", name := "append", desc := "(Ljava/lang/String;)Ljava/lang/StringBuilder;" } : Jvm.MethodName)) ∈ lw_all := lw_g (lw_at lw_m7 20 rfl) rfl
theorem q1507 : (Jvm.Cond.methodLink "TrainingDiary" (282 : Nat) ({ cls := "TrainingDiary$Book", name := "sign", desc := "(I)C" } : Jvm.MethodName)) ∈ lw_all := lw_g (lw_at lw_m7 21 rfl) rfl
theorem q1512 : (Jvm.Cond.methodLink "TrainingDiary" (286 : Nat) ({ cls := "java/lang/StringBuilder", name := "append", desc := "(C)Ljava/lang/StringBuilder;" } : Jvm.MethodName)) ∈ lw_all := lw_g (lw_at lw_m7 26 rfl) rfl
theorem q1532 : (Jvm.Cond.methodLink "TrainingDiary" (289 : Nat) ({ cls := "java/lang/StringBuilder", name := "length", desc := "()I" } : Jvm.MethodName)) ∈ lw_all := lw_g (lw_at lw_m7 46 rfl) rfl
theorem q1538 : (Jvm.Cond.instanceMethod ({ cls := "TrainingDiary", name := "lineAt", desc := "(I)C" } : Jvm.MethodName)) ∈ lw_all := lw_g (lw_at lw_m7 52 rfl) rfl
theorem q1539 : (Jvm.Cond.selects "TrainingDiary" ({ cls := "TrainingDiary", name := "lineAt", desc := "(I)C" } : Jvm.MethodName) ({ cls := "TrainingDiary", name := "lineAt", desc := "(I)C" } : Jvm.MethodName)) ∈ lw_all := lw_g (lw_at lw_m7 53 rfl) rfl
theorem q1540 : (Jvm.Cond.code ({ cls := "TrainingDiary", name := "lineAt", desc := "(I)C" } : Jvm.MethodName) prog_1_method_62_code (2 : Nat) (Option.some Jvm.ClassFile.FieldType.char)) ∈ lw_all := lw_g (lw_at lw_m7 54 rfl) rfl
theorem q1541 : (Jvm.Cond.methodLink "TrainingDiary" (290 : Nat) ({ cls := "java/lang/StringBuilder", name := "charAt", desc := "(I)C" } : Jvm.MethodName)) ∈ lw_all := lw_g (lw_at lw_m7 55 rfl) rfl
theorem q1555 : (Jvm.Cond.instanceMethod ({ cls := "TrainingDiary", name := "undo", desc := "()I" } : Jvm.MethodName)) ∈ lw_all := lw_g (lw_at lw_m7 69 rfl) rfl
theorem q1556 : (Jvm.Cond.selects "TrainingDiary" ({ cls := "TrainingDiary", name := "undo", desc := "()I" } : Jvm.MethodName) ({ cls := "TrainingDiary", name := "undo", desc := "()I" } : Jvm.MethodName)) ∈ lw_all := lw_g (lw_at lw_m7 70 rfl) rfl
theorem q1557 : (Jvm.Cond.code ({ cls := "TrainingDiary", name := "undo", desc := "()I" } : Jvm.MethodName) prog_1_method_63_code (1 : Nat) (Option.some Jvm.ClassFile.FieldType.int)) ∈ lw_all := lw_g (lw_at lw_m7 71 rfl) rfl
theorem q1558 : (Jvm.Cond.methodLink "TrainingDiary" (293 : Nat) ({ cls := "java/util/ArrayDeque", name := "isEmpty", desc := "()Z" } : Jvm.MethodName)) ∈ lw_all := lw_g (lw_at lw_m7 72 rfl) rfl
theorem q1562 : (Jvm.Cond.methodLink "TrainingDiary" (296 : Nat) ({ cls := "TrainingDiary", name := "requireState", desc := "(Z)V" } : Jvm.MethodName)) ∈ lw_all := lw_g (lw_at lw_m7 76 rfl) rfl
theorem q1563 : (Jvm.Cond.methodLink "TrainingDiary" (299 : Nat) ({ cls := "java/util/ArrayDeque", name := "removeLast", desc := "()Ljava/lang/Object;" } : Jvm.MethodName)) ∈ lw_all := lw_g (lw_at lw_m7 77 rfl) rfl
theorem q1578 : (Jvm.Cond.instanceMethod ({ cls := "TrainingDiary", name := "restore", desc := "()I" } : Jvm.MethodName)) ∈ lw_all := lw_g (lw_at lw_m7 92 rfl) rfl
theorem q1579 : (Jvm.Cond.selects "TrainingDiary" ({ cls := "TrainingDiary", name := "restore", desc := "()I" } : Jvm.MethodName) ({ cls := "TrainingDiary", name := "restore", desc := "()I" } : Jvm.MethodName)) ∈ lw_all := lw_g (lw_at lw_m7 93 rfl) rfl
theorem q1580 : (Jvm.Cond.code ({ cls := "TrainingDiary", name := "restore", desc := "()I" } : Jvm.MethodName) prog_1_method_65_code (1 : Nat) (Option.some Jvm.ClassFile.FieldType.int)) ∈ lw_all := lw_g (lw_at lw_m7 94 rfl) rfl
theorem q1581 : (Jvm.Cond.methodLink "TrainingDiary" (305 : Nat) ({ cls := "java/util/ArrayDeque", name := "clear", desc := "()V" } : Jvm.MethodName)) ∈ lw_all := lw_g (lw_at lw_m7 95 rfl) rfl
theorem q1986 : (Jvm.Cond.castable "TrainingDiary" "java/lang/Object") ∈ lw_tbl := lw_at lw_m9 20 rfl
theorem in_X1 : ∀ w ∈ wsX10, w ∈ lw_all := lw_in wsX10 [242, 244, 246, 248] (by decide +kernel) (by decide +kernel)
/-! TrainingDiary$Book -/
set_option maxRecDepth 100000
def RX2 : String := "TrainingDiary$Book"
def TX2 : u_T := fun k => match k with
  | 0 => ("TrainingDiary$Book", "tests", "LTrainingDiary$Ordered;", true)
  | 1 => ("TrainingDiary$Book", "sessions", "LTrainingDiary$Ordered;", true)
  | 2 => ("TrainingDiary$Book", "bounds", "[I", true)
  | 3 => ("TrainingDiary$Book", "weights", "[I", true)
  | 4 => ("TrainingDiary$Book", "targets", "[I", true)
  | 5 => ("TrainingDiary$Book", "today", "I", false)
  | 6 => ("TrainingDiary$Book", "nextId", "I", false)
  | 7 => ("TrainingDiary$Book", "planStart", "I", false)
  | 8 => ("TrainingDiary$Book", "entries", "I", false)
  | 9 => ("TrainingDiary$Book", "known", "I", false)
  | 10 => ("TrainingDiary$Book", "loads", "[I", true)
  | 11 => ("TrainingDiary$Book", "fitness", "[I", true)
  | _ => ("TrainingDiary$Book", "fatigue", "[I", true)
def tyX2 : Nat → FieldType := fun k => match k with
  | 0 => .object "TrainingDiary$Ordered"
  | 1 => .object "TrainingDiary$Ordered"
  | 2 => .array .int
  | 3 => .array .int
  | 4 => .array .int
  | 5 => .int
  | 6 => .int
  | 7 => .int
  | 8 => .int
  | 9 => .int
  | 10 => .array .int
  | 11 => .array .int
  | _ => .array .int
abbrev wsX20 : List Cond := u_ws RX2 TX2 13
set_option maxRecDepth 100000 in
theorem nmX2 : ∀ a, a < 13 → ∀ b, b < 13 → a ≠ b → (TX2 a).2.1 ≠ (TX2 b).2.1 := by decide +kernel
set_option maxRecDepth 100000 in
theorem tyX2_ok : ∀ k, k < 13 → parseFieldDescriptor (TX2 k).2.2.1 = some (tyX2 k) := by decide +kernel
abbrev cX2_init : ByteArray := prog_2_method_1_code
def yX2_init : MethodName := ⟨RX2, "<init>", "()V"⟩
def dkwX2_init_5 : List UInt8 := [187, 0, 34, 89, 183, 0, 36, 181, 0, 37, 42, 187, 0, 34, 89, 183, 0, 36, 181, 0, 41, 177]
abbrev dktX2_init_5 : List UInt8 := dkwX2_init_5 ++ []
def dkwX2_init_4 : List UInt8 := [181, 0, 25, 42, 17, 0, 200, 188, 10, 181, 0, 28, 42, 17, 0, 200, 188, 10, 181, 0, 31, 42]
abbrev dktX2_init_4 : List UInt8 := dkwX2_init_4 ++ dktX2_init_5
def dkwX2_init_3 : List UInt8 := [181, 0, 15, 42, 16, 28, 188, 10, 181, 0, 18, 42, 2, 181, 0, 21, 42, 17, 0, 200, 188, 10]
abbrev dktX2_init_3 : List UInt8 := dkwX2_init_3 ++ dktX2_init_4
def dkwX2_init_2 : List UInt8 := [79, 89, 4, 4, 79, 89, 5, 5, 79, 89, 6, 6, 79, 89, 7, 8, 79, 89, 8, 16, 8, 79]
abbrev dktX2_init_2 : List UInt8 := dkwX2_init_2 ++ dktX2_init_3
def dkwX2_init_1 : List UInt8 := [16, 90, 79, 89, 7, 16, 100, 79, 89, 8, 16, 110, 79, 181, 0, 9, 42, 16, 6, 188, 10, 89, 3, 3]
abbrev dktX2_init_1 : List UInt8 := dkwX2_init_1 ++ dktX2_init_2
def dkwX2_init_0 : List UInt8 := [42, 183, 0, 3, 42, 16, 6, 188, 10, 89, 3, 3, 79, 89, 4, 3, 79, 89, 5, 16, 80, 79, 89, 6]
abbrev dktX2_init_0 : List UInt8 := dkwX2_init_0 ++ dktX2_init_1
theorem dksX2_init_0 : cX2_init.data.toList.drop 0 = dktX2_init_0 := by decide +kernel
theorem dksX2_init_1 : cX2_init.data.toList.drop 24 = dktX2_init_1 := dk_seg dksX2_init_0 24 rfl rfl
theorem dksX2_init_2 : cX2_init.data.toList.drop 48 = dktX2_init_2 := dk_seg dksX2_init_1 24 rfl rfl
theorem dksX2_init_3 : cX2_init.data.toList.drop 70 = dktX2_init_3 := dk_seg dksX2_init_2 22 rfl rfl
theorem dksX2_init_4 : cX2_init.data.toList.drop 92 = dktX2_init_4 := dk_seg dksX2_init_3 22 rfl rfl
theorem dksX2_init_5 : cX2_init.data.toList.drop 114 = dktX2_init_5 := dk_seg dksX2_init_4 22 rfl rfl
theorem dX2_init_0 : decode cX2_init 0 = .ok (.aload_n 0, 1) := dk_42 (dk_at dksX2_init_0 0 rfl rfl)
theorem dX2_init_1 : decode cX2_init 1 = .ok (.invokespecial 3, 3) := dk_183 0 3 (dk_at dksX2_init_0 1 rfl rfl)
theorem dX2_init_4 : decode cX2_init 4 = .ok (.aload_n 0, 1) := dk_42 (dk_at dksX2_init_0 4 rfl rfl)
theorem dX2_init_5 : decode cX2_init 5 = .ok (.bipush 6, 2) := dk_16 6 (dk_at dksX2_init_0 5 rfl rfl)
theorem dX2_init_7 : decode cX2_init 7 = .ok (.newarray .int, 2) := dk_188_10 (dk_at dksX2_init_0 7 rfl rfl)
theorem dX2_init_9 : decode cX2_init 9 = .ok (.dup, 1) := dk_89 (dk_at dksX2_init_0 9 rfl rfl)
theorem dX2_init_10 : decode cX2_init 10 = .ok (.iconst 0, 1) := dk_3 (dk_at dksX2_init_0 10 rfl rfl)
theorem dX2_init_11 : decode cX2_init 11 = .ok (.iconst 0, 1) := dk_3 (dk_at dksX2_init_0 11 rfl rfl)
theorem dX2_init_12 : decode cX2_init 12 = .ok (.iastore, 1) := dk_79 (dk_at dksX2_init_0 12 rfl rfl)
theorem dX2_init_13 : decode cX2_init 13 = .ok (.dup, 1) := dk_89 (dk_at dksX2_init_0 13 rfl rfl)
theorem dX2_init_14 : decode cX2_init 14 = .ok (.iconst 1, 1) := dk_4 (dk_at dksX2_init_0 14 rfl rfl)
theorem dX2_init_15 : decode cX2_init 15 = .ok (.iconst 0, 1) := dk_3 (dk_at dksX2_init_0 15 rfl rfl)
theorem dX2_init_16 : decode cX2_init 16 = .ok (.iastore, 1) := dk_79 (dk_at dksX2_init_0 16 rfl rfl)
theorem dX2_init_17 : decode cX2_init 17 = .ok (.dup, 1) := dk_89 (dk_at dksX2_init_0 17 rfl rfl)
theorem dX2_init_18 : decode cX2_init 18 = .ok (.iconst 2, 1) := dk_5 (dk_at dksX2_init_0 18 rfl rfl)
theorem dX2_init_19 : decode cX2_init 19 = .ok (.bipush 80, 2) := dk_16 80 (dk_at dksX2_init_0 19 rfl rfl)
theorem dX2_init_21 : decode cX2_init 21 = .ok (.iastore, 1) := dk_79 (dk_at dksX2_init_0 21 rfl rfl)
theorem dX2_init_22 : decode cX2_init 22 = .ok (.dup, 1) := dk_89 (dk_at dksX2_init_0 22 rfl rfl)
theorem dX2_init_23 : decode cX2_init 23 = .ok (.iconst 3, 1) := dk_6 (dk_at dksX2_init_0 23 rfl rfl)
theorem dX2_init_24 : decode cX2_init 24 = .ok (.bipush 90, 2) := dk_16 90 (dk_at dksX2_init_1 0 rfl rfl)
theorem dX2_init_26 : decode cX2_init 26 = .ok (.iastore, 1) := dk_79 (dk_at dksX2_init_1 2 rfl rfl)
theorem dX2_init_27 : decode cX2_init 27 = .ok (.dup, 1) := dk_89 (dk_at dksX2_init_1 3 rfl rfl)
theorem dX2_init_28 : decode cX2_init 28 = .ok (.iconst 4, 1) := dk_7 (dk_at dksX2_init_1 4 rfl rfl)
theorem dX2_init_29 : decode cX2_init 29 = .ok (.bipush 100, 2) := dk_16 100 (dk_at dksX2_init_1 5 rfl rfl)
theorem dX2_init_31 : decode cX2_init 31 = .ok (.iastore, 1) := dk_79 (dk_at dksX2_init_1 7 rfl rfl)
theorem dX2_init_32 : decode cX2_init 32 = .ok (.dup, 1) := dk_89 (dk_at dksX2_init_1 8 rfl rfl)
theorem dX2_init_33 : decode cX2_init 33 = .ok (.iconst 5, 1) := dk_8 (dk_at dksX2_init_1 9 rfl rfl)
theorem dX2_init_34 : decode cX2_init 34 = .ok (.bipush 110, 2) := dk_16 110 (dk_at dksX2_init_1 10 rfl rfl)
theorem dX2_init_36 : decode cX2_init 36 = .ok (.iastore, 1) := dk_79 (dk_at dksX2_init_1 12 rfl rfl)
theorem dX2_init_37 : decode cX2_init 37 = .ok (.putfield 9, 3) := dk_181 0 9 (dk_at dksX2_init_1 13 rfl rfl)
theorem dX2_init_40 : decode cX2_init 40 = .ok (.aload_n 0, 1) := dk_42 (dk_at dksX2_init_1 16 rfl rfl)
theorem dX2_init_41 : decode cX2_init 41 = .ok (.bipush 6, 2) := dk_16 6 (dk_at dksX2_init_1 17 rfl rfl)
theorem dX2_init_43 : decode cX2_init 43 = .ok (.newarray .int, 2) := dk_188_10 (dk_at dksX2_init_1 19 rfl rfl)
theorem dX2_init_45 : decode cX2_init 45 = .ok (.dup, 1) := dk_89 (dk_at dksX2_init_1 21 rfl rfl)
theorem dX2_init_46 : decode cX2_init 46 = .ok (.iconst 0, 1) := dk_3 (dk_at dksX2_init_1 22 rfl rfl)
theorem dX2_init_47 : decode cX2_init 47 = .ok (.iconst 0, 1) := dk_3 (dk_at dksX2_init_1 23 rfl rfl)
theorem dX2_init_48 : decode cX2_init 48 = .ok (.iastore, 1) := dk_79 (dk_at dksX2_init_2 0 rfl rfl)
theorem dX2_init_49 : decode cX2_init 49 = .ok (.dup, 1) := dk_89 (dk_at dksX2_init_2 1 rfl rfl)
theorem dX2_init_50 : decode cX2_init 50 = .ok (.iconst 1, 1) := dk_4 (dk_at dksX2_init_2 2 rfl rfl)
theorem dX2_init_51 : decode cX2_init 51 = .ok (.iconst 1, 1) := dk_4 (dk_at dksX2_init_2 3 rfl rfl)
theorem dX2_init_52 : decode cX2_init 52 = .ok (.iastore, 1) := dk_79 (dk_at dksX2_init_2 4 rfl rfl)
theorem dX2_init_53 : decode cX2_init 53 = .ok (.dup, 1) := dk_89 (dk_at dksX2_init_2 5 rfl rfl)
theorem dX2_init_54 : decode cX2_init 54 = .ok (.iconst 2, 1) := dk_5 (dk_at dksX2_init_2 6 rfl rfl)
theorem dX2_init_55 : decode cX2_init 55 = .ok (.iconst 2, 1) := dk_5 (dk_at dksX2_init_2 7 rfl rfl)
theorem dX2_init_56 : decode cX2_init 56 = .ok (.iastore, 1) := dk_79 (dk_at dksX2_init_2 8 rfl rfl)
theorem dX2_init_57 : decode cX2_init 57 = .ok (.dup, 1) := dk_89 (dk_at dksX2_init_2 9 rfl rfl)
theorem dX2_init_58 : decode cX2_init 58 = .ok (.iconst 3, 1) := dk_6 (dk_at dksX2_init_2 10 rfl rfl)
theorem dX2_init_59 : decode cX2_init 59 = .ok (.iconst 3, 1) := dk_6 (dk_at dksX2_init_2 11 rfl rfl)
theorem dX2_init_60 : decode cX2_init 60 = .ok (.iastore, 1) := dk_79 (dk_at dksX2_init_2 12 rfl rfl)
theorem dX2_init_61 : decode cX2_init 61 = .ok (.dup, 1) := dk_89 (dk_at dksX2_init_2 13 rfl rfl)
theorem dX2_init_62 : decode cX2_init 62 = .ok (.iconst 4, 1) := dk_7 (dk_at dksX2_init_2 14 rfl rfl)
theorem dX2_init_63 : decode cX2_init 63 = .ok (.iconst 5, 1) := dk_8 (dk_at dksX2_init_2 15 rfl rfl)
theorem dX2_init_64 : decode cX2_init 64 = .ok (.iastore, 1) := dk_79 (dk_at dksX2_init_2 16 rfl rfl)
theorem dX2_init_65 : decode cX2_init 65 = .ok (.dup, 1) := dk_89 (dk_at dksX2_init_2 17 rfl rfl)
theorem dX2_init_66 : decode cX2_init 66 = .ok (.iconst 5, 1) := dk_8 (dk_at dksX2_init_2 18 rfl rfl)
theorem dX2_init_67 : decode cX2_init 67 = .ok (.bipush 8, 2) := dk_16 8 (dk_at dksX2_init_2 19 rfl rfl)
theorem dX2_init_69 : decode cX2_init 69 = .ok (.iastore, 1) := dk_79 (dk_at dksX2_init_2 21 rfl rfl)
theorem dX2_init_70 : decode cX2_init 70 = .ok (.putfield 15, 3) := dk_181 0 15 (dk_at dksX2_init_3 0 rfl rfl)
theorem dX2_init_73 : decode cX2_init 73 = .ok (.aload_n 0, 1) := dk_42 (dk_at dksX2_init_3 3 rfl rfl)
theorem dX2_init_74 : decode cX2_init 74 = .ok (.bipush 28, 2) := dk_16 28 (dk_at dksX2_init_3 4 rfl rfl)
theorem dX2_init_76 : decode cX2_init 76 = .ok (.newarray .int, 2) := dk_188_10 (dk_at dksX2_init_3 6 rfl rfl)
theorem dX2_init_78 : decode cX2_init 78 = .ok (.putfield 18, 3) := dk_181 0 18 (dk_at dksX2_init_3 8 rfl rfl)
theorem dX2_init_81 : decode cX2_init 81 = .ok (.aload_n 0, 1) := dk_42 (dk_at dksX2_init_3 11 rfl rfl)
theorem dX2_init_82 : decode cX2_init 82 = .ok (.iconst (-1), 1) := dk_2 (dk_at dksX2_init_3 12 rfl rfl)
theorem dX2_init_83 : decode cX2_init 83 = .ok (.putfield 21, 3) := dk_181 0 21 (dk_at dksX2_init_3 13 rfl rfl)
theorem dX2_init_86 : decode cX2_init 86 = .ok (.aload_n 0, 1) := dk_42 (dk_at dksX2_init_3 16 rfl rfl)
theorem dX2_init_87 : decode cX2_init 87 = .ok (.sipush 200, 3) := dk_17 0 200 (dk_at dksX2_init_3 17 rfl rfl)
theorem dX2_init_90 : decode cX2_init 90 = .ok (.newarray .int, 2) := dk_188_10 (dk_at dksX2_init_3 20 rfl rfl)
theorem dX2_init_92 : decode cX2_init 92 = .ok (.putfield 25, 3) := dk_181 0 25 (dk_at dksX2_init_4 0 rfl rfl)
theorem dX2_init_95 : decode cX2_init 95 = .ok (.aload_n 0, 1) := dk_42 (dk_at dksX2_init_4 3 rfl rfl)
theorem dX2_init_96 : decode cX2_init 96 = .ok (.sipush 200, 3) := dk_17 0 200 (dk_at dksX2_init_4 4 rfl rfl)
theorem dX2_init_99 : decode cX2_init 99 = .ok (.newarray .int, 2) := dk_188_10 (dk_at dksX2_init_4 7 rfl rfl)
theorem dX2_init_101 : decode cX2_init 101 = .ok (.putfield 28, 3) := dk_181 0 28 (dk_at dksX2_init_4 9 rfl rfl)
theorem dX2_init_104 : decode cX2_init 104 = .ok (.aload_n 0, 1) := dk_42 (dk_at dksX2_init_4 12 rfl rfl)
theorem dX2_init_105 : decode cX2_init 105 = .ok (.sipush 200, 3) := dk_17 0 200 (dk_at dksX2_init_4 13 rfl rfl)
theorem dX2_init_108 : decode cX2_init 108 = .ok (.newarray .int, 2) := dk_188_10 (dk_at dksX2_init_4 16 rfl rfl)
theorem dX2_init_110 : decode cX2_init 110 = .ok (.putfield 31, 3) := dk_181 0 31 (dk_at dksX2_init_4 18 rfl rfl)
theorem dX2_init_113 : decode cX2_init 113 = .ok (.aload_n 0, 1) := dk_42 (dk_at dksX2_init_4 21 rfl rfl)
theorem dX2_init_114 : decode cX2_init 114 = .ok (.new 34, 3) := dk_187 0 34 (dk_at dksX2_init_5 0 rfl rfl)
theorem dX2_init_117 : decode cX2_init 117 = .ok (.dup, 1) := dk_89 (dk_at dksX2_init_5 3 rfl rfl)
theorem dX2_init_118 : decode cX2_init 118 = .ok (.invokespecial 36, 3) := dk_183 0 36 (dk_at dksX2_init_5 4 rfl rfl)
theorem dX2_init_121 : decode cX2_init 121 = .ok (.putfield 37, 3) := dk_181 0 37 (dk_at dksX2_init_5 7 rfl rfl)
theorem dX2_init_124 : decode cX2_init 124 = .ok (.aload_n 0, 1) := dk_42 (dk_at dksX2_init_5 10 rfl rfl)
theorem dX2_init_125 : decode cX2_init 125 = .ok (.new 34, 3) := dk_187 0 34 (dk_at dksX2_init_5 11 rfl rfl)
theorem dX2_init_128 : decode cX2_init 128 = .ok (.dup, 1) := dk_89 (dk_at dksX2_init_5 14 rfl rfl)
theorem dX2_init_129 : decode cX2_init 129 = .ok (.invokespecial 36, 3) := dk_183 0 36 (dk_at dksX2_init_5 15 rfl rfl)
theorem dX2_init_132 : decode cX2_init 132 = .ok (.putfield 41, 3) := dk_181 0 41 (dk_at dksX2_init_5 18 rfl rfl)
theorem dX2_init_135 : decode cX2_init 135 = .ok (.return_, 1) := dk_177 (dk_at dksX2_init_5 21 rfl rfl)
abbrev cX2_loadOn : ByteArray := prog_2_method_10_code
def yX2_loadOn : MethodName := ⟨RX2, "loadOn", "(I)I"⟩
def dkwX2_loadOn_0 : List UInt8 := [42, 27, 182, 0, 125, 42, 180, 0, 25, 27, 46, 172]
abbrev dktX2_loadOn_0 : List UInt8 := dkwX2_loadOn_0 ++ []
theorem dksX2_loadOn_0 : cX2_loadOn.data.toList.drop 0 = dktX2_loadOn_0 := by decide +kernel
theorem dX2_loadOn_0 : decode cX2_loadOn 0 = .ok (.aload_n 0, 1) := dk_42 (dk_at dksX2_loadOn_0 0 rfl rfl)
theorem dX2_loadOn_1 : decode cX2_loadOn 1 = .ok (.iload_n 1, 1) := dk_27 (dk_at dksX2_loadOn_0 1 rfl rfl)
theorem dX2_loadOn_2 : decode cX2_loadOn 2 = .ok (.invokevirtual 125, 3) := dk_182 0 125 (dk_at dksX2_loadOn_0 2 rfl rfl)
theorem dX2_loadOn_5 : decode cX2_loadOn 5 = .ok (.aload_n 0, 1) := dk_42 (dk_at dksX2_loadOn_0 5 rfl rfl)
theorem dX2_loadOn_6 : decode cX2_loadOn 6 = .ok (.getfield 25, 3) := dk_180 0 25 (dk_at dksX2_loadOn_0 6 rfl rfl)
theorem dX2_loadOn_9 : decode cX2_loadOn 9 = .ok (.iload_n 1, 1) := dk_27 (dk_at dksX2_loadOn_0 9 rfl rfl)
theorem dX2_loadOn_10 : decode cX2_loadOn 10 = .ok (.iaload, 1) := dk_46 (dk_at dksX2_loadOn_0 10 rfl rfl)
theorem dX2_loadOn_11 : decode cX2_loadOn 11 = .ok (.ireturn, 1) := dk_172 (dk_at dksX2_loadOn_0 11 rfl rfl)
abbrev cX2_learnUpTo : ByteArray := prog_2_method_9_code
def yX2_learnUpTo : MethodName := ⟨RX2, "learnUpTo", "(I)V"⟩
def dkwX2_learnUpTo_6 : List UInt8 := [167, 255, 117, 177]
abbrev dktX2_learnUpTo_6 : List UInt8 := dkwX2_learnUpTo_6 ++ []
def dkwX2_learnUpTo_5 : List UInt8 := [180, 0, 62, 46, 104, 29, 100, 16, 7, 108, 96, 79, 42, 89, 180, 0, 62, 4, 96, 181, 0, 62]
abbrev dktX2_learnUpTo_5 : List UInt8 := dkwX2_learnUpTo_5 ++ dktX2_learnUpTo_6
def dkwX2_learnUpTo_4 : List UInt8 := [16, 42, 108, 96, 79, 42, 180, 0, 31, 42, 180, 0, 62, 29, 17, 3, 232, 42, 180, 0, 25, 42]
abbrev dktX2_learnUpTo_4 : List UInt8 := dkwX2_learnUpTo_4 ++ dktX2_learnUpTo_5
def dkwX2_learnUpTo_3 : List UInt8 := [42, 180, 0, 28, 42, 180, 0, 62, 28, 17, 3, 232, 42, 180, 0, 25, 42, 180, 0, 62, 46, 104, 28, 100]
abbrev dktX2_learnUpTo_3 : List UInt8 := dkwX2_learnUpTo_3 ++ dktX2_learnUpTo_4
def dkwX2_learnUpTo_2 : List UInt8 := [180, 0, 62, 4, 100, 46, 62, 42, 180, 0, 25, 42, 180, 0, 62, 42, 42, 180, 0, 62, 182, 0, 122, 79]
abbrev dktX2_learnUpTo_2 : List UInt8 := dkwX2_learnUpTo_2 ++ dktX2_learnUpTo_3
def dkwX2_learnUpTo_1 : List UInt8 := [180, 0, 62, 4, 100, 46, 61, 42, 180, 0, 62, 154, 0, 7, 3, 167, 0, 14, 42, 180, 0, 31, 42]
abbrev dktX2_learnUpTo_1 : List UInt8 := dkwX2_learnUpTo_1 ++ dktX2_learnUpTo_2
def dkwX2_learnUpTo_0 : List UInt8 := [42, 180, 0, 62, 27, 163, 0, 137, 42, 180, 0, 62, 154, 0, 7, 3, 167, 0, 14, 42, 180, 0, 28, 42]
abbrev dktX2_learnUpTo_0 : List UInt8 := dkwX2_learnUpTo_0 ++ dktX2_learnUpTo_1
theorem dksX2_learnUpTo_0 : cX2_learnUpTo.data.toList.drop 0 = dktX2_learnUpTo_0 := by decide +kernel
theorem dksX2_learnUpTo_1 : cX2_learnUpTo.data.toList.drop 24 = dktX2_learnUpTo_1 := dk_seg dksX2_learnUpTo_0 24 rfl rfl
theorem dksX2_learnUpTo_2 : cX2_learnUpTo.data.toList.drop 47 = dktX2_learnUpTo_2 := dk_seg dksX2_learnUpTo_1 23 rfl rfl
theorem dksX2_learnUpTo_3 : cX2_learnUpTo.data.toList.drop 71 = dktX2_learnUpTo_3 := dk_seg dksX2_learnUpTo_2 24 rfl rfl
theorem dksX2_learnUpTo_4 : cX2_learnUpTo.data.toList.drop 95 = dktX2_learnUpTo_4 := dk_seg dksX2_learnUpTo_3 24 rfl rfl
theorem dksX2_learnUpTo_5 : cX2_learnUpTo.data.toList.drop 117 = dktX2_learnUpTo_5 := dk_seg dksX2_learnUpTo_4 22 rfl rfl
theorem dksX2_learnUpTo_6 : cX2_learnUpTo.data.toList.drop 139 = dktX2_learnUpTo_6 := dk_seg dksX2_learnUpTo_5 22 rfl rfl
theorem dX2_learnUpTo_0 : decode cX2_learnUpTo 0 = .ok (.aload_n 0, 1) := dk_42 (dk_at dksX2_learnUpTo_0 0 rfl rfl)
theorem dX2_learnUpTo_1 : decode cX2_learnUpTo 1 = .ok (.getfield 62, 3) := dk_180 0 62 (dk_at dksX2_learnUpTo_0 1 rfl rfl)
theorem dX2_learnUpTo_4 : decode cX2_learnUpTo 4 = .ok (.iload_n 1, 1) := dk_27 (dk_at dksX2_learnUpTo_0 4 rfl rfl)
theorem dX2_learnUpTo_5 : decode cX2_learnUpTo 5 = .ok (.if_icmp .gt 137, 3) := dk_163 0 137 (dk_at dksX2_learnUpTo_0 5 rfl rfl)
theorem dX2_learnUpTo_8 : decode cX2_learnUpTo 8 = .ok (.aload_n 0, 1) := dk_42 (dk_at dksX2_learnUpTo_0 8 rfl rfl)
theorem dX2_learnUpTo_9 : decode cX2_learnUpTo 9 = .ok (.getfield 62, 3) := dk_180 0 62 (dk_at dksX2_learnUpTo_0 9 rfl rfl)
theorem dX2_learnUpTo_12 : decode cX2_learnUpTo 12 = .ok (.ifCond .ne 7, 3) := dk_154 0 7 (dk_at dksX2_learnUpTo_0 12 rfl rfl)
theorem dX2_learnUpTo_15 : decode cX2_learnUpTo 15 = .ok (.iconst 0, 1) := dk_3 (dk_at dksX2_learnUpTo_0 15 rfl rfl)
theorem dX2_learnUpTo_16 : decode cX2_learnUpTo 16 = .ok (.goto 14, 3) := dk_167 0 14 (dk_at dksX2_learnUpTo_0 16 rfl rfl)
theorem dX2_learnUpTo_19 : decode cX2_learnUpTo 19 = .ok (.aload_n 0, 1) := dk_42 (dk_at dksX2_learnUpTo_0 19 rfl rfl)
theorem dX2_learnUpTo_20 : decode cX2_learnUpTo 20 = .ok (.getfield 28, 3) := dk_180 0 28 (dk_at dksX2_learnUpTo_0 20 rfl rfl)
theorem dX2_learnUpTo_23 : decode cX2_learnUpTo 23 = .ok (.aload_n 0, 1) := dk_42 (dk_at dksX2_learnUpTo_0 23 rfl rfl)
theorem dX2_learnUpTo_24 : decode cX2_learnUpTo 24 = .ok (.getfield 62, 3) := dk_180 0 62 (dk_at dksX2_learnUpTo_1 0 rfl rfl)
theorem dX2_learnUpTo_27 : decode cX2_learnUpTo 27 = .ok (.iconst 1, 1) := dk_4 (dk_at dksX2_learnUpTo_1 3 rfl rfl)
theorem dX2_learnUpTo_28 : decode cX2_learnUpTo 28 = .ok (.isub, 1) := dk_100 (dk_at dksX2_learnUpTo_1 4 rfl rfl)
theorem dX2_learnUpTo_29 : decode cX2_learnUpTo 29 = .ok (.iaload, 1) := dk_46 (dk_at dksX2_learnUpTo_1 5 rfl rfl)
theorem dX2_learnUpTo_30 : decode cX2_learnUpTo 30 = .ok (.istore_n 2, 1) := dk_61 (dk_at dksX2_learnUpTo_1 6 rfl rfl)
theorem dX2_learnUpTo_31 : decode cX2_learnUpTo 31 = .ok (.aload_n 0, 1) := dk_42 (dk_at dksX2_learnUpTo_1 7 rfl rfl)
theorem dX2_learnUpTo_32 : decode cX2_learnUpTo 32 = .ok (.getfield 62, 3) := dk_180 0 62 (dk_at dksX2_learnUpTo_1 8 rfl rfl)
theorem dX2_learnUpTo_35 : decode cX2_learnUpTo 35 = .ok (.ifCond .ne 7, 3) := dk_154 0 7 (dk_at dksX2_learnUpTo_1 11 rfl rfl)
theorem dX2_learnUpTo_38 : decode cX2_learnUpTo 38 = .ok (.iconst 0, 1) := dk_3 (dk_at dksX2_learnUpTo_1 14 rfl rfl)
theorem dX2_learnUpTo_39 : decode cX2_learnUpTo 39 = .ok (.goto 14, 3) := dk_167 0 14 (dk_at dksX2_learnUpTo_1 15 rfl rfl)
theorem dX2_learnUpTo_42 : decode cX2_learnUpTo 42 = .ok (.aload_n 0, 1) := dk_42 (dk_at dksX2_learnUpTo_1 18 rfl rfl)
theorem dX2_learnUpTo_43 : decode cX2_learnUpTo 43 = .ok (.getfield 31, 3) := dk_180 0 31 (dk_at dksX2_learnUpTo_1 19 rfl rfl)
theorem dX2_learnUpTo_46 : decode cX2_learnUpTo 46 = .ok (.aload_n 0, 1) := dk_42 (dk_at dksX2_learnUpTo_1 22 rfl rfl)
theorem dX2_learnUpTo_47 : decode cX2_learnUpTo 47 = .ok (.getfield 62, 3) := dk_180 0 62 (dk_at dksX2_learnUpTo_2 0 rfl rfl)
theorem dX2_learnUpTo_50 : decode cX2_learnUpTo 50 = .ok (.iconst 1, 1) := dk_4 (dk_at dksX2_learnUpTo_2 3 rfl rfl)
theorem dX2_learnUpTo_51 : decode cX2_learnUpTo 51 = .ok (.isub, 1) := dk_100 (dk_at dksX2_learnUpTo_2 4 rfl rfl)
theorem dX2_learnUpTo_52 : decode cX2_learnUpTo 52 = .ok (.iaload, 1) := dk_46 (dk_at dksX2_learnUpTo_2 5 rfl rfl)
theorem dX2_learnUpTo_53 : decode cX2_learnUpTo 53 = .ok (.istore_n 3, 1) := dk_62 (dk_at dksX2_learnUpTo_2 6 rfl rfl)
theorem dX2_learnUpTo_54 : decode cX2_learnUpTo 54 = .ok (.aload_n 0, 1) := dk_42 (dk_at dksX2_learnUpTo_2 7 rfl rfl)
theorem dX2_learnUpTo_55 : decode cX2_learnUpTo 55 = .ok (.getfield 25, 3) := dk_180 0 25 (dk_at dksX2_learnUpTo_2 8 rfl rfl)
theorem dX2_learnUpTo_58 : decode cX2_learnUpTo 58 = .ok (.aload_n 0, 1) := dk_42 (dk_at dksX2_learnUpTo_2 11 rfl rfl)
theorem dX2_learnUpTo_59 : decode cX2_learnUpTo 59 = .ok (.getfield 62, 3) := dk_180 0 62 (dk_at dksX2_learnUpTo_2 12 rfl rfl)
theorem dX2_learnUpTo_62 : decode cX2_learnUpTo 62 = .ok (.aload_n 0, 1) := dk_42 (dk_at dksX2_learnUpTo_2 15 rfl rfl)
theorem dX2_learnUpTo_63 : decode cX2_learnUpTo 63 = .ok (.aload_n 0, 1) := dk_42 (dk_at dksX2_learnUpTo_2 16 rfl rfl)
theorem dX2_learnUpTo_64 : decode cX2_learnUpTo 64 = .ok (.getfield 62, 3) := dk_180 0 62 (dk_at dksX2_learnUpTo_2 17 rfl rfl)
theorem dX2_learnUpTo_67 : decode cX2_learnUpTo 67 = .ok (.invokevirtual 122, 3) := dk_182 0 122 (dk_at dksX2_learnUpTo_2 20 rfl rfl)
theorem dX2_learnUpTo_70 : decode cX2_learnUpTo 70 = .ok (.iastore, 1) := dk_79 (dk_at dksX2_learnUpTo_2 23 rfl rfl)
theorem dX2_learnUpTo_71 : decode cX2_learnUpTo 71 = .ok (.aload_n 0, 1) := dk_42 (dk_at dksX2_learnUpTo_3 0 rfl rfl)
theorem dX2_learnUpTo_72 : decode cX2_learnUpTo 72 = .ok (.getfield 28, 3) := dk_180 0 28 (dk_at dksX2_learnUpTo_3 1 rfl rfl)
theorem dX2_learnUpTo_75 : decode cX2_learnUpTo 75 = .ok (.aload_n 0, 1) := dk_42 (dk_at dksX2_learnUpTo_3 4 rfl rfl)
theorem dX2_learnUpTo_76 : decode cX2_learnUpTo 76 = .ok (.getfield 62, 3) := dk_180 0 62 (dk_at dksX2_learnUpTo_3 5 rfl rfl)
theorem dX2_learnUpTo_79 : decode cX2_learnUpTo 79 = .ok (.iload_n 2, 1) := dk_28 (dk_at dksX2_learnUpTo_3 8 rfl rfl)
theorem dX2_learnUpTo_80 : decode cX2_learnUpTo 80 = .ok (.sipush 1000, 3) := dk_17 3 232 (dk_at dksX2_learnUpTo_3 9 rfl rfl)
theorem dX2_learnUpTo_83 : decode cX2_learnUpTo 83 = .ok (.aload_n 0, 1) := dk_42 (dk_at dksX2_learnUpTo_3 12 rfl rfl)
theorem dX2_learnUpTo_84 : decode cX2_learnUpTo 84 = .ok (.getfield 25, 3) := dk_180 0 25 (dk_at dksX2_learnUpTo_3 13 rfl rfl)
theorem dX2_learnUpTo_87 : decode cX2_learnUpTo 87 = .ok (.aload_n 0, 1) := dk_42 (dk_at dksX2_learnUpTo_3 16 rfl rfl)
theorem dX2_learnUpTo_88 : decode cX2_learnUpTo 88 = .ok (.getfield 62, 3) := dk_180 0 62 (dk_at dksX2_learnUpTo_3 17 rfl rfl)
theorem dX2_learnUpTo_91 : decode cX2_learnUpTo 91 = .ok (.iaload, 1) := dk_46 (dk_at dksX2_learnUpTo_3 20 rfl rfl)
theorem dX2_learnUpTo_92 : decode cX2_learnUpTo 92 = .ok (.imul, 1) := dk_104 (dk_at dksX2_learnUpTo_3 21 rfl rfl)
theorem dX2_learnUpTo_93 : decode cX2_learnUpTo 93 = .ok (.iload_n 2, 1) := dk_28 (dk_at dksX2_learnUpTo_3 22 rfl rfl)
theorem dX2_learnUpTo_94 : decode cX2_learnUpTo 94 = .ok (.isub, 1) := dk_100 (dk_at dksX2_learnUpTo_3 23 rfl rfl)
theorem dX2_learnUpTo_95 : decode cX2_learnUpTo 95 = .ok (.bipush 42, 2) := dk_16 42 (dk_at dksX2_learnUpTo_4 0 rfl rfl)
theorem dX2_learnUpTo_97 : decode cX2_learnUpTo 97 = .ok (.idiv, 1) := dk_108 (dk_at dksX2_learnUpTo_4 2 rfl rfl)
theorem dX2_learnUpTo_98 : decode cX2_learnUpTo 98 = .ok (.iadd, 1) := dk_96 (dk_at dksX2_learnUpTo_4 3 rfl rfl)
theorem dX2_learnUpTo_99 : decode cX2_learnUpTo 99 = .ok (.iastore, 1) := dk_79 (dk_at dksX2_learnUpTo_4 4 rfl rfl)
theorem dX2_learnUpTo_100 : decode cX2_learnUpTo 100 = .ok (.aload_n 0, 1) := dk_42 (dk_at dksX2_learnUpTo_4 5 rfl rfl)
theorem dX2_learnUpTo_101 : decode cX2_learnUpTo 101 = .ok (.getfield 31, 3) := dk_180 0 31 (dk_at dksX2_learnUpTo_4 6 rfl rfl)
theorem dX2_learnUpTo_104 : decode cX2_learnUpTo 104 = .ok (.aload_n 0, 1) := dk_42 (dk_at dksX2_learnUpTo_4 9 rfl rfl)
theorem dX2_learnUpTo_105 : decode cX2_learnUpTo 105 = .ok (.getfield 62, 3) := dk_180 0 62 (dk_at dksX2_learnUpTo_4 10 rfl rfl)
theorem dX2_learnUpTo_108 : decode cX2_learnUpTo 108 = .ok (.iload_n 3, 1) := dk_29 (dk_at dksX2_learnUpTo_4 13 rfl rfl)
theorem dX2_learnUpTo_109 : decode cX2_learnUpTo 109 = .ok (.sipush 1000, 3) := dk_17 3 232 (dk_at dksX2_learnUpTo_4 14 rfl rfl)
theorem dX2_learnUpTo_112 : decode cX2_learnUpTo 112 = .ok (.aload_n 0, 1) := dk_42 (dk_at dksX2_learnUpTo_4 17 rfl rfl)
theorem dX2_learnUpTo_113 : decode cX2_learnUpTo 113 = .ok (.getfield 25, 3) := dk_180 0 25 (dk_at dksX2_learnUpTo_4 18 rfl rfl)
theorem dX2_learnUpTo_116 : decode cX2_learnUpTo 116 = .ok (.aload_n 0, 1) := dk_42 (dk_at dksX2_learnUpTo_4 21 rfl rfl)
theorem dX2_learnUpTo_117 : decode cX2_learnUpTo 117 = .ok (.getfield 62, 3) := dk_180 0 62 (dk_at dksX2_learnUpTo_5 0 rfl rfl)
theorem dX2_learnUpTo_120 : decode cX2_learnUpTo 120 = .ok (.iaload, 1) := dk_46 (dk_at dksX2_learnUpTo_5 3 rfl rfl)
theorem dX2_learnUpTo_121 : decode cX2_learnUpTo 121 = .ok (.imul, 1) := dk_104 (dk_at dksX2_learnUpTo_5 4 rfl rfl)
theorem dX2_learnUpTo_122 : decode cX2_learnUpTo 122 = .ok (.iload_n 3, 1) := dk_29 (dk_at dksX2_learnUpTo_5 5 rfl rfl)
theorem dX2_learnUpTo_123 : decode cX2_learnUpTo 123 = .ok (.isub, 1) := dk_100 (dk_at dksX2_learnUpTo_5 6 rfl rfl)
theorem dX2_learnUpTo_124 : decode cX2_learnUpTo 124 = .ok (.bipush 7, 2) := dk_16 7 (dk_at dksX2_learnUpTo_5 7 rfl rfl)
theorem dX2_learnUpTo_126 : decode cX2_learnUpTo 126 = .ok (.idiv, 1) := dk_108 (dk_at dksX2_learnUpTo_5 9 rfl rfl)
theorem dX2_learnUpTo_127 : decode cX2_learnUpTo 127 = .ok (.iadd, 1) := dk_96 (dk_at dksX2_learnUpTo_5 10 rfl rfl)
theorem dX2_learnUpTo_128 : decode cX2_learnUpTo 128 = .ok (.iastore, 1) := dk_79 (dk_at dksX2_learnUpTo_5 11 rfl rfl)
theorem dX2_learnUpTo_129 : decode cX2_learnUpTo 129 = .ok (.aload_n 0, 1) := dk_42 (dk_at dksX2_learnUpTo_5 12 rfl rfl)
theorem dX2_learnUpTo_130 : decode cX2_learnUpTo 130 = .ok (.dup, 1) := dk_89 (dk_at dksX2_learnUpTo_5 13 rfl rfl)
theorem dX2_learnUpTo_131 : decode cX2_learnUpTo 131 = .ok (.getfield 62, 3) := dk_180 0 62 (dk_at dksX2_learnUpTo_5 14 rfl rfl)
theorem dX2_learnUpTo_134 : decode cX2_learnUpTo 134 = .ok (.iconst 1, 1) := dk_4 (dk_at dksX2_learnUpTo_5 17 rfl rfl)
theorem dX2_learnUpTo_135 : decode cX2_learnUpTo 135 = .ok (.iadd, 1) := dk_96 (dk_at dksX2_learnUpTo_5 18 rfl rfl)
theorem dX2_learnUpTo_136 : decode cX2_learnUpTo 136 = .ok (.putfield 62, 3) := dk_181 0 62 (dk_at dksX2_learnUpTo_5 19 rfl rfl)
theorem dX2_learnUpTo_139 : decode cX2_learnUpTo 139 = .ok (.goto (-139), 3) := dk_167 255 117 (dk_at dksX2_learnUpTo_6 0 rfl rfl)
theorem dX2_learnUpTo_142 : decode cX2_learnUpTo 142 = .ok (.return_, 1) := dk_177 (dk_at dksX2_learnUpTo_6 3 rfl rfl)
abbrev cX2_loadFromSessions : ByteArray := prog_2_method_8_code
def yX2_loadFromSessions : MethodName := ⟨RX2, "loadFromSessions", "(I)I"⟩
def dkwX2_loadFromSessions_2 : List UInt8 := [182, 0, 118, 167, 0, 4, 3, 96, 61, 167, 255, 214, 28, 172]
abbrev dktX2_loadFromSessions_2 : List UInt8 := dkwX2_loadFromSessions_2 ++ []
def dkwX2_loadFromSessions_1 : List UInt8 := [185, 0, 114, 1, 0, 192, 0, 85, 58, 4, 28, 25, 4, 182, 0, 84, 27, 160, 0, 12, 42, 25, 4]
abbrev dktX2_loadFromSessions_1 : List UInt8 := dkwX2_loadFromSessions_1 ++ dktX2_loadFromSessions_2
def dkwX2_loadFromSessions_0 : List UInt8 := [3, 61, 42, 180, 0, 41, 182, 0, 104, 78, 45, 185, 0, 108, 1, 0, 153, 0, 39, 45]
abbrev dktX2_loadFromSessions_0 : List UInt8 := dkwX2_loadFromSessions_0 ++ dktX2_loadFromSessions_1
theorem dksX2_loadFromSessions_0 : cX2_loadFromSessions.data.toList.drop 0 = dktX2_loadFromSessions_0 := by decide +kernel
theorem dksX2_loadFromSessions_1 : cX2_loadFromSessions.data.toList.drop 20 = dktX2_loadFromSessions_1 := dk_seg dksX2_loadFromSessions_0 20 rfl rfl
theorem dksX2_loadFromSessions_2 : cX2_loadFromSessions.data.toList.drop 43 = dktX2_loadFromSessions_2 := dk_seg dksX2_loadFromSessions_1 23 rfl rfl
theorem dX2_loadFromSessions_0 : decode cX2_loadFromSessions 0 = .ok (.iconst 0, 1) := dk_3 (dk_at dksX2_loadFromSessions_0 0 rfl rfl)
theorem dX2_loadFromSessions_1 : decode cX2_loadFromSessions 1 = .ok (.istore_n 2, 1) := dk_61 (dk_at dksX2_loadFromSessions_0 1 rfl rfl)
theorem dX2_loadFromSessions_2 : decode cX2_loadFromSessions 2 = .ok (.aload_n 0, 1) := dk_42 (dk_at dksX2_loadFromSessions_0 2 rfl rfl)
theorem dX2_loadFromSessions_3 : decode cX2_loadFromSessions 3 = .ok (.getfield 41, 3) := dk_180 0 41 (dk_at dksX2_loadFromSessions_0 3 rfl rfl)
theorem dX2_loadFromSessions_6 : decode cX2_loadFromSessions 6 = .ok (.invokevirtual 104, 3) := dk_182 0 104 (dk_at dksX2_loadFromSessions_0 6 rfl rfl)
theorem dX2_loadFromSessions_9 : decode cX2_loadFromSessions 9 = .ok (.astore_n 3, 1) := dk_78 (dk_at dksX2_loadFromSessions_0 9 rfl rfl)
theorem dX2_loadFromSessions_10 : decode cX2_loadFromSessions 10 = .ok (.aload_n 3, 1) := dk_45 (dk_at dksX2_loadFromSessions_0 10 rfl rfl)
theorem dX2_loadFromSessions_11 : decode cX2_loadFromSessions 11 = .ok (.invokeinterface 108 1, 5) := by decide +kernel
theorem dX2_loadFromSessions_16 : decode cX2_loadFromSessions 16 = .ok (.ifCond .eq 39, 3) := dk_153 0 39 (dk_at dksX2_loadFromSessions_0 16 rfl rfl)
theorem dX2_loadFromSessions_19 : decode cX2_loadFromSessions 19 = .ok (.aload_n 3, 1) := dk_45 (dk_at dksX2_loadFromSessions_0 19 rfl rfl)
theorem dX2_loadFromSessions_20 : decode cX2_loadFromSessions 20 = .ok (.invokeinterface 114 1, 5) := by decide +kernel
theorem dX2_loadFromSessions_25 : decode cX2_loadFromSessions 25 = .ok (.checkcast 85, 3) := dk_192 0 85 (dk_at dksX2_loadFromSessions_1 5 rfl rfl)
theorem dX2_loadFromSessions_28 : decode cX2_loadFromSessions 28 = .ok (.astore 4, 2) := dk_58 4 (dk_at dksX2_loadFromSessions_1 8 rfl rfl)
theorem dX2_loadFromSessions_30 : decode cX2_loadFromSessions 30 = .ok (.iload_n 2, 1) := dk_28 (dk_at dksX2_loadFromSessions_1 10 rfl rfl)
theorem dX2_loadFromSessions_31 : decode cX2_loadFromSessions 31 = .ok (.aload 4, 2) := dk_25 4 (dk_at dksX2_loadFromSessions_1 11 rfl rfl)
theorem dX2_loadFromSessions_33 : decode cX2_loadFromSessions 33 = .ok (.invokevirtual 84, 3) := dk_182 0 84 (dk_at dksX2_loadFromSessions_1 13 rfl rfl)
theorem dX2_loadFromSessions_36 : decode cX2_loadFromSessions 36 = .ok (.iload_n 1, 1) := dk_27 (dk_at dksX2_loadFromSessions_1 16 rfl rfl)
theorem dX2_loadFromSessions_37 : decode cX2_loadFromSessions 37 = .ok (.if_icmp .ne 12, 3) := dk_160 0 12 (dk_at dksX2_loadFromSessions_1 17 rfl rfl)
theorem dX2_loadFromSessions_40 : decode cX2_loadFromSessions 40 = .ok (.aload_n 0, 1) := dk_42 (dk_at dksX2_loadFromSessions_1 20 rfl rfl)
theorem dX2_loadFromSessions_41 : decode cX2_loadFromSessions 41 = .ok (.aload 4, 2) := dk_25 4 (dk_at dksX2_loadFromSessions_1 21 rfl rfl)
theorem dX2_loadFromSessions_43 : decode cX2_loadFromSessions 43 = .ok (.invokevirtual 118, 3) := dk_182 0 118 (dk_at dksX2_loadFromSessions_2 0 rfl rfl)
theorem dX2_loadFromSessions_46 : decode cX2_loadFromSessions 46 = .ok (.goto 4, 3) := dk_167 0 4 (dk_at dksX2_loadFromSessions_2 3 rfl rfl)
theorem dX2_loadFromSessions_49 : decode cX2_loadFromSessions 49 = .ok (.iconst 0, 1) := dk_3 (dk_at dksX2_loadFromSessions_2 6 rfl rfl)
theorem dX2_loadFromSessions_50 : decode cX2_loadFromSessions 50 = .ok (.iadd, 1) := dk_96 (dk_at dksX2_loadFromSessions_2 7 rfl rfl)
theorem dX2_loadFromSessions_51 : decode cX2_loadFromSessions 51 = .ok (.istore_n 2, 1) := dk_61 (dk_at dksX2_loadFromSessions_2 8 rfl rfl)
theorem dX2_loadFromSessions_52 : decode cX2_loadFromSessions 52 = .ok (.goto (-42), 3) := dk_167 255 214 (dk_at dksX2_loadFromSessions_2 9 rfl rfl)
theorem dX2_loadFromSessions_55 : decode cX2_loadFromSessions 55 = .ok (.iload_n 2, 1) := dk_28 (dk_at dksX2_loadFromSessions_2 12 rfl rfl)
theorem dX2_loadFromSessions_56 : decode cX2_loadFromSessions 56 = .ok (.ireturn, 1) := dk_172 (dk_at dksX2_loadFromSessions_2 13 rfl rfl)
abbrev cX2_loadOf : ByteArray := prog_2_method_7_code
def yX2_loadOf : MethodName := ⟨RX2, "loadOf", "(LTrainingDiary$Session;)I"⟩
def dkwX2_loadOf_2 : List UInt8 := [46, 104, 96, 62, 132, 4, 1, 167, 255, 215, 29, 172]
abbrev dktX2_loadOf_2 : List UInt8 := dkwX2_loadOf_2 ++ []
def dkwX2_loadOf_1 : List UInt8 := [29, 43, 180, 0, 94, 21, 4, 53, 42, 180, 0, 15, 42, 28, 43, 180, 0, 98, 21, 4, 53, 182, 0, 101]
abbrev dktX2_loadOf_1 : List UInt8 := dkwX2_loadOf_1 ++ dktX2_loadOf_2
def dkwX2_loadOf_0 : List UInt8 := [42, 43, 182, 0, 84, 182, 0, 90, 61, 3, 62, 3, 54, 4, 21, 4, 43, 180, 0, 94, 190, 162, 0, 37]
abbrev dktX2_loadOf_0 : List UInt8 := dkwX2_loadOf_0 ++ dktX2_loadOf_1
theorem dksX2_loadOf_0 : cX2_loadOf.data.toList.drop 0 = dktX2_loadOf_0 := by decide +kernel
theorem dksX2_loadOf_1 : cX2_loadOf.data.toList.drop 24 = dktX2_loadOf_1 := dk_seg dksX2_loadOf_0 24 rfl rfl
theorem dksX2_loadOf_2 : cX2_loadOf.data.toList.drop 48 = dktX2_loadOf_2 := dk_seg dksX2_loadOf_1 24 rfl rfl
theorem dX2_loadOf_0 : decode cX2_loadOf 0 = .ok (.aload_n 0, 1) := dk_42 (dk_at dksX2_loadOf_0 0 rfl rfl)
theorem dX2_loadOf_1 : decode cX2_loadOf 1 = .ok (.aload_n 1, 1) := dk_43 (dk_at dksX2_loadOf_0 1 rfl rfl)
theorem dX2_loadOf_2 : decode cX2_loadOf 2 = .ok (.invokevirtual 84, 3) := dk_182 0 84 (dk_at dksX2_loadOf_0 2 rfl rfl)
theorem dX2_loadOf_5 : decode cX2_loadOf 5 = .ok (.invokevirtual 90, 3) := dk_182 0 90 (dk_at dksX2_loadOf_0 5 rfl rfl)
theorem dX2_loadOf_8 : decode cX2_loadOf 8 = .ok (.istore_n 2, 1) := dk_61 (dk_at dksX2_loadOf_0 8 rfl rfl)
theorem dX2_loadOf_9 : decode cX2_loadOf 9 = .ok (.iconst 0, 1) := dk_3 (dk_at dksX2_loadOf_0 9 rfl rfl)
theorem dX2_loadOf_10 : decode cX2_loadOf 10 = .ok (.istore_n 3, 1) := dk_62 (dk_at dksX2_loadOf_0 10 rfl rfl)
theorem dX2_loadOf_11 : decode cX2_loadOf 11 = .ok (.iconst 0, 1) := dk_3 (dk_at dksX2_loadOf_0 11 rfl rfl)
theorem dX2_loadOf_12 : decode cX2_loadOf 12 = .ok (.istore 4, 2) := dk_54 4 (dk_at dksX2_loadOf_0 12 rfl rfl)
theorem dX2_loadOf_14 : decode cX2_loadOf 14 = .ok (.iload 4, 2) := dk_21 4 (dk_at dksX2_loadOf_0 14 rfl rfl)
theorem dX2_loadOf_16 : decode cX2_loadOf 16 = .ok (.aload_n 1, 1) := dk_43 (dk_at dksX2_loadOf_0 16 rfl rfl)
theorem dX2_loadOf_17 : decode cX2_loadOf 17 = .ok (.getfield 94, 3) := dk_180 0 94 (dk_at dksX2_loadOf_0 17 rfl rfl)
theorem dX2_loadOf_20 : decode cX2_loadOf 20 = .ok (.arraylength, 1) := dk_190 (dk_at dksX2_loadOf_0 20 rfl rfl)
theorem dX2_loadOf_21 : decode cX2_loadOf 21 = .ok (.if_icmp .ge 37, 3) := dk_162 0 37 (dk_at dksX2_loadOf_0 21 rfl rfl)
theorem dX2_loadOf_24 : decode cX2_loadOf 24 = .ok (.iload_n 3, 1) := dk_29 (dk_at dksX2_loadOf_1 0 rfl rfl)
theorem dX2_loadOf_25 : decode cX2_loadOf 25 = .ok (.aload_n 1, 1) := dk_43 (dk_at dksX2_loadOf_1 1 rfl rfl)
theorem dX2_loadOf_26 : decode cX2_loadOf 26 = .ok (.getfield 94, 3) := dk_180 0 94 (dk_at dksX2_loadOf_1 2 rfl rfl)
theorem dX2_loadOf_29 : decode cX2_loadOf 29 = .ok (.iload 4, 2) := dk_21 4 (dk_at dksX2_loadOf_1 5 rfl rfl)
theorem dX2_loadOf_31 : decode cX2_loadOf 31 = .ok (.saload, 1) := dk_53 (dk_at dksX2_loadOf_1 7 rfl rfl)
theorem dX2_loadOf_32 : decode cX2_loadOf 32 = .ok (.aload_n 0, 1) := dk_42 (dk_at dksX2_loadOf_1 8 rfl rfl)
theorem dX2_loadOf_33 : decode cX2_loadOf 33 = .ok (.getfield 15, 3) := dk_180 0 15 (dk_at dksX2_loadOf_1 9 rfl rfl)
theorem dX2_loadOf_36 : decode cX2_loadOf 36 = .ok (.aload_n 0, 1) := dk_42 (dk_at dksX2_loadOf_1 12 rfl rfl)
theorem dX2_loadOf_37 : decode cX2_loadOf 37 = .ok (.iload_n 2, 1) := dk_28 (dk_at dksX2_loadOf_1 13 rfl rfl)
theorem dX2_loadOf_38 : decode cX2_loadOf 38 = .ok (.aload_n 1, 1) := dk_43 (dk_at dksX2_loadOf_1 14 rfl rfl)
theorem dX2_loadOf_39 : decode cX2_loadOf 39 = .ok (.getfield 98, 3) := dk_180 0 98 (dk_at dksX2_loadOf_1 15 rfl rfl)
theorem dX2_loadOf_42 : decode cX2_loadOf 42 = .ok (.iload 4, 2) := dk_21 4 (dk_at dksX2_loadOf_1 18 rfl rfl)
theorem dX2_loadOf_44 : decode cX2_loadOf 44 = .ok (.saload, 1) := dk_53 (dk_at dksX2_loadOf_1 20 rfl rfl)
theorem dX2_loadOf_45 : decode cX2_loadOf 45 = .ok (.invokevirtual 101, 3) := dk_182 0 101 (dk_at dksX2_loadOf_1 21 rfl rfl)
theorem dX2_loadOf_48 : decode cX2_loadOf 48 = .ok (.iaload, 1) := dk_46 (dk_at dksX2_loadOf_2 0 rfl rfl)
theorem dX2_loadOf_49 : decode cX2_loadOf 49 = .ok (.imul, 1) := dk_104 (dk_at dksX2_loadOf_2 1 rfl rfl)
theorem dX2_loadOf_50 : decode cX2_loadOf 50 = .ok (.iadd, 1) := dk_96 (dk_at dksX2_loadOf_2 2 rfl rfl)
theorem dX2_loadOf_51 : decode cX2_loadOf 51 = .ok (.istore_n 3, 1) := dk_62 (dk_at dksX2_loadOf_2 3 rfl rfl)
theorem dX2_loadOf_52 : decode cX2_loadOf 52 = .ok (.iinc 4 1, 3) := dk_132 4 1 (dk_at dksX2_loadOf_2 4 rfl rfl)
theorem dX2_loadOf_55 : decode cX2_loadOf 55 = .ok (.goto (-41), 3) := dk_167 255 215 (dk_at dksX2_loadOf_2 7 rfl rfl)
theorem dX2_loadOf_58 : decode cX2_loadOf 58 = .ok (.iload_n 3, 1) := dk_29 (dk_at dksX2_loadOf_2 10 rfl rfl)
theorem dX2_loadOf_59 : decode cX2_loadOf 59 = .ok (.ireturn, 1) := dk_172 (dk_at dksX2_loadOf_2 11 rfl rfl)
abbrev cX2_thresholdOn : ByteArray := prog_2_method_4_code
def yX2_thresholdOn : MethodName := ⟨RX2, "thresholdOn", "(I)I"⟩
def dkwX2_thresholdOn_1 : List UInt8 := [28, 182, 0, 75, 192, 0, 79, 180, 0, 81, 172]
abbrev dktX2_thresholdOn_1 : List UInt8 := dkwX2_thresholdOn_1 ++ []
def dkwX2_thresholdOn_0 : List UInt8 := [42, 180, 0, 37, 27, 184, 0, 71, 61, 28, 2, 160, 0, 9, 17, 0, 200, 167, 0, 17, 42, 180, 0, 37]
abbrev dktX2_thresholdOn_0 : List UInt8 := dkwX2_thresholdOn_0 ++ dktX2_thresholdOn_1
theorem dksX2_thresholdOn_0 : cX2_thresholdOn.data.toList.drop 0 = dktX2_thresholdOn_0 := by decide +kernel
theorem dksX2_thresholdOn_1 : cX2_thresholdOn.data.toList.drop 24 = dktX2_thresholdOn_1 := dk_seg dksX2_thresholdOn_0 24 rfl rfl
theorem dX2_thresholdOn_0 : decode cX2_thresholdOn 0 = .ok (.aload_n 0, 1) := dk_42 (dk_at dksX2_thresholdOn_0 0 rfl rfl)
theorem dX2_thresholdOn_1 : decode cX2_thresholdOn 1 = .ok (.getfield 37, 3) := dk_180 0 37 (dk_at dksX2_thresholdOn_0 1 rfl rfl)
theorem dX2_thresholdOn_4 : decode cX2_thresholdOn 4 = .ok (.iload_n 1, 1) := dk_27 (dk_at dksX2_thresholdOn_0 4 rfl rfl)
theorem dX2_thresholdOn_5 : decode cX2_thresholdOn 5 = .ok (.invokestatic 71, 3) := dk_184 0 71 (dk_at dksX2_thresholdOn_0 5 rfl rfl)
theorem dX2_thresholdOn_8 : decode cX2_thresholdOn 8 = .ok (.istore_n 2, 1) := dk_61 (dk_at dksX2_thresholdOn_0 8 rfl rfl)
theorem dX2_thresholdOn_9 : decode cX2_thresholdOn 9 = .ok (.iload_n 2, 1) := dk_28 (dk_at dksX2_thresholdOn_0 9 rfl rfl)
theorem dX2_thresholdOn_10 : decode cX2_thresholdOn 10 = .ok (.iconst (-1), 1) := dk_2 (dk_at dksX2_thresholdOn_0 10 rfl rfl)
theorem dX2_thresholdOn_11 : decode cX2_thresholdOn 11 = .ok (.if_icmp .ne 9, 3) := dk_160 0 9 (dk_at dksX2_thresholdOn_0 11 rfl rfl)
theorem dX2_thresholdOn_14 : decode cX2_thresholdOn 14 = .ok (.sipush 200, 3) := dk_17 0 200 (dk_at dksX2_thresholdOn_0 14 rfl rfl)
theorem dX2_thresholdOn_17 : decode cX2_thresholdOn 17 = .ok (.goto 17, 3) := dk_167 0 17 (dk_at dksX2_thresholdOn_0 17 rfl rfl)
theorem dX2_thresholdOn_20 : decode cX2_thresholdOn 20 = .ok (.aload_n 0, 1) := dk_42 (dk_at dksX2_thresholdOn_0 20 rfl rfl)
theorem dX2_thresholdOn_21 : decode cX2_thresholdOn 21 = .ok (.getfield 37, 3) := dk_180 0 37 (dk_at dksX2_thresholdOn_0 21 rfl rfl)
theorem dX2_thresholdOn_24 : decode cX2_thresholdOn 24 = .ok (.iload_n 2, 1) := dk_28 (dk_at dksX2_thresholdOn_1 0 rfl rfl)
theorem dX2_thresholdOn_25 : decode cX2_thresholdOn 25 = .ok (.invokevirtual 75, 3) := dk_182 0 75 (dk_at dksX2_thresholdOn_1 1 rfl rfl)
theorem dX2_thresholdOn_28 : decode cX2_thresholdOn 28 = .ok (.checkcast 79, 3) := dk_192 0 79 (dk_at dksX2_thresholdOn_1 4 rfl rfl)
theorem dX2_thresholdOn_31 : decode cX2_thresholdOn 31 = .ok (.getfield 81, 3) := dk_180 0 81 (dk_at dksX2_thresholdOn_1 7 rfl rfl)
theorem dX2_thresholdOn_34 : decode cX2_thresholdOn 34 = .ok (.ireturn, 1) := dk_172 (dk_at dksX2_thresholdOn_1 10 rfl rfl)
abbrev cX2_zoneOf : ByteArray := prog_2_method_5_code
def yX2_zoneOf : MethodName := ⟨RX2, "zoneOf", "(II)I"⟩
def dkwX2_zoneOf_1 : List UInt8 := [46, 29, 163, 0, 9, 132, 4, 1, 167, 255, 234, 21, 4, 172]
abbrev dktX2_zoneOf_1 : List UInt8 := dkwX2_zoneOf_1 ++ []
def dkwX2_zoneOf_0 : List UInt8 := [16, 100, 28, 104, 27, 108, 62, 4, 54, 4, 21, 4, 8, 162, 0, 22, 42, 180, 0, 9, 21, 4, 4, 96]
abbrev dktX2_zoneOf_0 : List UInt8 := dkwX2_zoneOf_0 ++ dktX2_zoneOf_1
theorem dksX2_zoneOf_0 : cX2_zoneOf.data.toList.drop 0 = dktX2_zoneOf_0 := by decide +kernel
theorem dksX2_zoneOf_1 : cX2_zoneOf.data.toList.drop 24 = dktX2_zoneOf_1 := dk_seg dksX2_zoneOf_0 24 rfl rfl
theorem dX2_zoneOf_0 : decode cX2_zoneOf 0 = .ok (.bipush 100, 2) := dk_16 100 (dk_at dksX2_zoneOf_0 0 rfl rfl)
theorem dX2_zoneOf_2 : decode cX2_zoneOf 2 = .ok (.iload_n 2, 1) := dk_28 (dk_at dksX2_zoneOf_0 2 rfl rfl)
theorem dX2_zoneOf_3 : decode cX2_zoneOf 3 = .ok (.imul, 1) := dk_104 (dk_at dksX2_zoneOf_0 3 rfl rfl)
theorem dX2_zoneOf_4 : decode cX2_zoneOf 4 = .ok (.iload_n 1, 1) := dk_27 (dk_at dksX2_zoneOf_0 4 rfl rfl)
theorem dX2_zoneOf_5 : decode cX2_zoneOf 5 = .ok (.idiv, 1) := dk_108 (dk_at dksX2_zoneOf_0 5 rfl rfl)
theorem dX2_zoneOf_6 : decode cX2_zoneOf 6 = .ok (.istore_n 3, 1) := dk_62 (dk_at dksX2_zoneOf_0 6 rfl rfl)
theorem dX2_zoneOf_7 : decode cX2_zoneOf 7 = .ok (.iconst 1, 1) := dk_4 (dk_at dksX2_zoneOf_0 7 rfl rfl)
theorem dX2_zoneOf_8 : decode cX2_zoneOf 8 = .ok (.istore 4, 2) := dk_54 4 (dk_at dksX2_zoneOf_0 8 rfl rfl)
theorem dX2_zoneOf_10 : decode cX2_zoneOf 10 = .ok (.iload 4, 2) := dk_21 4 (dk_at dksX2_zoneOf_0 10 rfl rfl)
theorem dX2_zoneOf_12 : decode cX2_zoneOf 12 = .ok (.iconst 5, 1) := dk_8 (dk_at dksX2_zoneOf_0 12 rfl rfl)
theorem dX2_zoneOf_13 : decode cX2_zoneOf 13 = .ok (.if_icmp .ge 22, 3) := dk_162 0 22 (dk_at dksX2_zoneOf_0 13 rfl rfl)
theorem dX2_zoneOf_16 : decode cX2_zoneOf 16 = .ok (.aload_n 0, 1) := dk_42 (dk_at dksX2_zoneOf_0 16 rfl rfl)
theorem dX2_zoneOf_17 : decode cX2_zoneOf 17 = .ok (.getfield 9, 3) := dk_180 0 9 (dk_at dksX2_zoneOf_0 17 rfl rfl)
theorem dX2_zoneOf_20 : decode cX2_zoneOf 20 = .ok (.iload 4, 2) := dk_21 4 (dk_at dksX2_zoneOf_0 20 rfl rfl)
theorem dX2_zoneOf_22 : decode cX2_zoneOf 22 = .ok (.iconst 1, 1) := dk_4 (dk_at dksX2_zoneOf_0 22 rfl rfl)
theorem dX2_zoneOf_23 : decode cX2_zoneOf 23 = .ok (.iadd, 1) := dk_96 (dk_at dksX2_zoneOf_0 23 rfl rfl)
theorem dX2_zoneOf_24 : decode cX2_zoneOf 24 = .ok (.iaload, 1) := dk_46 (dk_at dksX2_zoneOf_1 0 rfl rfl)
theorem dX2_zoneOf_25 : decode cX2_zoneOf 25 = .ok (.iload_n 3, 1) := dk_29 (dk_at dksX2_zoneOf_1 1 rfl rfl)
theorem dX2_zoneOf_26 : decode cX2_zoneOf 26 = .ok (.if_icmp .gt 9, 3) := dk_163 0 9 (dk_at dksX2_zoneOf_1 2 rfl rfl)
theorem dX2_zoneOf_29 : decode cX2_zoneOf 29 = .ok (.iinc 4 1, 3) := dk_132 4 1 (dk_at dksX2_zoneOf_1 5 rfl rfl)
theorem dX2_zoneOf_32 : decode cX2_zoneOf 32 = .ok (.goto (-22), 3) := dk_167 255 234 (dk_at dksX2_zoneOf_1 8 rfl rfl)
theorem dX2_zoneOf_35 : decode cX2_zoneOf 35 = .ok (.iload 4, 2) := dk_21 4 (dk_at dksX2_zoneOf_1 11 rfl rfl)
theorem dX2_zoneOf_37 : decode cX2_zoneOf 37 = .ok (.ireturn, 1) := dk_172 (dk_at dksX2_zoneOf_1 13 rfl rfl)
abbrev cX2_formOn : ByteArray := prog_2_method_14_code
def yX2_formOn : MethodName := ⟨RX2, "formOn", "(I)I"⟩
def dkwX2_formOn_0 : List UInt8 := [27, 154, 0, 7, 3, 167, 0, 18, 42, 27, 4, 100, 182, 0, 129, 42, 27, 4, 100, 182, 0, 132, 100, 172]
abbrev dktX2_formOn_0 : List UInt8 := dkwX2_formOn_0 ++ []
theorem dksX2_formOn_0 : cX2_formOn.data.toList.drop 0 = dktX2_formOn_0 := by decide +kernel
theorem dX2_formOn_0 : decode cX2_formOn 0 = .ok (.iload_n 1, 1) := dk_27 (dk_at dksX2_formOn_0 0 rfl rfl)
theorem dX2_formOn_1 : decode cX2_formOn 1 = .ok (.ifCond .ne 7, 3) := dk_154 0 7 (dk_at dksX2_formOn_0 1 rfl rfl)
theorem dX2_formOn_4 : decode cX2_formOn 4 = .ok (.iconst 0, 1) := dk_3 (dk_at dksX2_formOn_0 4 rfl rfl)
theorem dX2_formOn_5 : decode cX2_formOn 5 = .ok (.goto 18, 3) := dk_167 0 18 (dk_at dksX2_formOn_0 5 rfl rfl)
theorem dX2_formOn_8 : decode cX2_formOn 8 = .ok (.aload_n 0, 1) := dk_42 (dk_at dksX2_formOn_0 8 rfl rfl)
theorem dX2_formOn_9 : decode cX2_formOn 9 = .ok (.iload_n 1, 1) := dk_27 (dk_at dksX2_formOn_0 9 rfl rfl)
theorem dX2_formOn_10 : decode cX2_formOn 10 = .ok (.iconst 1, 1) := dk_4 (dk_at dksX2_formOn_0 10 rfl rfl)
theorem dX2_formOn_11 : decode cX2_formOn 11 = .ok (.isub, 1) := dk_100 (dk_at dksX2_formOn_0 11 rfl rfl)
theorem dX2_formOn_12 : decode cX2_formOn 12 = .ok (.invokevirtual 129, 3) := dk_182 0 129 (dk_at dksX2_formOn_0 12 rfl rfl)
theorem dX2_formOn_15 : decode cX2_formOn 15 = .ok (.aload_n 0, 1) := dk_42 (dk_at dksX2_formOn_0 15 rfl rfl)
theorem dX2_formOn_16 : decode cX2_formOn 16 = .ok (.iload_n 1, 1) := dk_27 (dk_at dksX2_formOn_0 16 rfl rfl)
theorem dX2_formOn_17 : decode cX2_formOn 17 = .ok (.iconst 1, 1) := dk_4 (dk_at dksX2_formOn_0 17 rfl rfl)
theorem dX2_formOn_18 : decode cX2_formOn 18 = .ok (.isub, 1) := dk_100 (dk_at dksX2_formOn_0 18 rfl rfl)
theorem dX2_formOn_19 : decode cX2_formOn 19 = .ok (.invokevirtual 132, 3) := dk_182 0 132 (dk_at dksX2_formOn_0 19 rfl rfl)
theorem dX2_formOn_22 : decode cX2_formOn 22 = .ok (.isub, 1) := dk_100 (dk_at dksX2_formOn_0 22 rfl rfl)
theorem dX2_formOn_23 : decode cX2_formOn 23 = .ok (.ireturn, 1) := dk_172 (dk_at dksX2_formOn_0 23 rfl rfl)
abbrev cX2_fitnessOn : ByteArray := prog_2_method_11_code
def yX2_fitnessOn : MethodName := ⟨RX2, "fitnessOn", "(I)I"⟩
def dkwX2_fitnessOn_0 : List UInt8 := [42, 27, 182, 0, 125, 42, 180, 0, 28, 27, 46, 172]
abbrev dktX2_fitnessOn_0 : List UInt8 := dkwX2_fitnessOn_0 ++ []
theorem dksX2_fitnessOn_0 : cX2_fitnessOn.data.toList.drop 0 = dktX2_fitnessOn_0 := by decide +kernel
theorem dX2_fitnessOn_0 : decode cX2_fitnessOn 0 = .ok (.aload_n 0, 1) := dk_42 (dk_at dksX2_fitnessOn_0 0 rfl rfl)
theorem dX2_fitnessOn_1 : decode cX2_fitnessOn 1 = .ok (.iload_n 1, 1) := dk_27 (dk_at dksX2_fitnessOn_0 1 rfl rfl)
theorem dX2_fitnessOn_2 : decode cX2_fitnessOn 2 = .ok (.invokevirtual 125, 3) := dk_182 0 125 (dk_at dksX2_fitnessOn_0 2 rfl rfl)
theorem dX2_fitnessOn_5 : decode cX2_fitnessOn 5 = .ok (.aload_n 0, 1) := dk_42 (dk_at dksX2_fitnessOn_0 5 rfl rfl)
theorem dX2_fitnessOn_6 : decode cX2_fitnessOn 6 = .ok (.getfield 28, 3) := dk_180 0 28 (dk_at dksX2_fitnessOn_0 6 rfl rfl)
theorem dX2_fitnessOn_9 : decode cX2_fitnessOn 9 = .ok (.iload_n 1, 1) := dk_27 (dk_at dksX2_fitnessOn_0 9 rfl rfl)
theorem dX2_fitnessOn_10 : decode cX2_fitnessOn 10 = .ok (.iaload, 1) := dk_46 (dk_at dksX2_fitnessOn_0 10 rfl rfl)
theorem dX2_fitnessOn_11 : decode cX2_fitnessOn 11 = .ok (.ireturn, 1) := dk_172 (dk_at dksX2_fitnessOn_0 11 rfl rfl)
abbrev cX2_fatigueOn : ByteArray := prog_2_method_12_code
def yX2_fatigueOn : MethodName := ⟨RX2, "fatigueOn", "(I)I"⟩
def dkwX2_fatigueOn_0 : List UInt8 := [42, 27, 182, 0, 125, 42, 180, 0, 31, 27, 46, 172]
abbrev dktX2_fatigueOn_0 : List UInt8 := dkwX2_fatigueOn_0 ++ []
theorem dksX2_fatigueOn_0 : cX2_fatigueOn.data.toList.drop 0 = dktX2_fatigueOn_0 := by decide +kernel
theorem dX2_fatigueOn_0 : decode cX2_fatigueOn 0 = .ok (.aload_n 0, 1) := dk_42 (dk_at dksX2_fatigueOn_0 0 rfl rfl)
theorem dX2_fatigueOn_1 : decode cX2_fatigueOn 1 = .ok (.iload_n 1, 1) := dk_27 (dk_at dksX2_fatigueOn_0 1 rfl rfl)
theorem dX2_fatigueOn_2 : decode cX2_fatigueOn 2 = .ok (.invokevirtual 125, 3) := dk_182 0 125 (dk_at dksX2_fatigueOn_0 2 rfl rfl)
theorem dX2_fatigueOn_5 : decode cX2_fatigueOn 5 = .ok (.aload_n 0, 1) := dk_42 (dk_at dksX2_fatigueOn_0 5 rfl rfl)
theorem dX2_fatigueOn_6 : decode cX2_fatigueOn 6 = .ok (.getfield 31, 3) := dk_180 0 31 (dk_at dksX2_fatigueOn_0 6 rfl rfl)
theorem dX2_fatigueOn_9 : decode cX2_fatigueOn 9 = .ok (.iload_n 1, 1) := dk_27 (dk_at dksX2_fatigueOn_0 9 rfl rfl)
theorem dX2_fatigueOn_10 : decode cX2_fatigueOn 10 = .ok (.iaload, 1) := dk_46 (dk_at dksX2_fatigueOn_0 10 rfl rfl)
theorem dX2_fatigueOn_11 : decode cX2_fatigueOn 11 = .ok (.ireturn, 1) := dk_172 (dk_at dksX2_fatigueOn_0 11 rfl rfl)
abbrev cX2_init_2 : ByteArray := prog_2_method_2_code
def yX2_init_2 : MethodName := ⟨RX2, "<init>", "(LTrainingDiary$Book;)V"⟩
def dkwX2_init_2_12 : List UInt8 := [180, 0, 62, 184, 0, 47, 177]
abbrev dktX2_init_2_12 : List UInt8 := dkwX2_init_2_12 ++ []
def dkwX2_init_2_11 : List UInt8 := [3, 42, 180, 0, 28, 3, 42, 180, 0, 62, 184, 0, 47, 43, 180, 0, 31, 3, 42, 180, 0, 31, 3, 42]
abbrev dktX2_init_2_11 : List UInt8 := dkwX2_init_2_11 ++ dktX2_init_2_12
def dkwX2_init_2_10 : List UInt8 := [181, 0, 62, 43, 180, 0, 25, 3, 42, 180, 0, 25, 3, 42, 180, 0, 62, 184, 0, 47, 43, 180, 0, 28]
abbrev dktX2_init_2_10 : List UInt8 := dkwX2_init_2_10 ++ dktX2_init_2_11
def dkwX2_init_2_9 : List UInt8 := [181, 0, 56, 42, 43, 180, 0, 21, 181, 0, 21, 42, 43, 180, 0, 59, 181, 0, 59, 42, 43, 180, 0, 62]
abbrev dktX2_init_2_9 : List UInt8 := dkwX2_init_2_9 ++ dktX2_init_2_10
def dkwX2_init_2_8 : List UInt8 := [180, 0, 18, 3, 16, 28, 184, 0, 47, 42, 43, 180, 0, 53, 181, 0, 53, 42, 43, 180, 0, 56]
abbrev dktX2_init_2_8 : List UInt8 := dkwX2_init_2_8 ++ dktX2_init_2_9
def dkwX2_init_2_7 : List UInt8 := [43, 180, 0, 15, 3, 42, 180, 0, 15, 3, 42, 180, 0, 15, 190, 184, 0, 47, 43, 180, 0, 18, 3, 42]
abbrev dktX2_init_2_7 : List UInt8 := dkwX2_init_2_7 ++ dktX2_init_2_8
def dkwX2_init_2_6 : List UInt8 := [183, 0, 44, 181, 0, 41, 43, 180, 0, 9, 3, 42, 180, 0, 9, 3, 42, 180, 0, 9, 190, 184, 0, 47]
abbrev dktX2_init_2_6 : List UInt8 := dkwX2_init_2_6 ++ dktX2_init_2_7
def dkwX2_init_2_5 : List UInt8 := [187, 0, 34, 89, 43, 180, 0, 37, 183, 0, 44, 181, 0, 37, 42, 187, 0, 34, 89, 43, 180, 0, 41]
abbrev dktX2_init_2_5 : List UInt8 := dkwX2_init_2_5 ++ dktX2_init_2_6
def dkwX2_init_2_4 : List UInt8 := [181, 0, 25, 42, 17, 0, 200, 188, 10, 181, 0, 28, 42, 17, 0, 200, 188, 10, 181, 0, 31, 42]
abbrev dktX2_init_2_4 : List UInt8 := dkwX2_init_2_4 ++ dktX2_init_2_5
def dkwX2_init_2_3 : List UInt8 := [181, 0, 15, 42, 16, 28, 188, 10, 181, 0, 18, 42, 2, 181, 0, 21, 42, 17, 0, 200, 188, 10]
abbrev dktX2_init_2_3 : List UInt8 := dkwX2_init_2_3 ++ dktX2_init_2_4
def dkwX2_init_2_2 : List UInt8 := [79, 89, 4, 4, 79, 89, 5, 5, 79, 89, 6, 6, 79, 89, 7, 8, 79, 89, 8, 16, 8, 79]
abbrev dktX2_init_2_2 : List UInt8 := dkwX2_init_2_2 ++ dktX2_init_2_3
def dkwX2_init_2_1 : List UInt8 := [16, 90, 79, 89, 7, 16, 100, 79, 89, 8, 16, 110, 79, 181, 0, 9, 42, 16, 6, 188, 10, 89, 3, 3]
abbrev dktX2_init_2_1 : List UInt8 := dkwX2_init_2_1 ++ dktX2_init_2_2
def dkwX2_init_2_0 : List UInt8 := [42, 183, 0, 3, 42, 16, 6, 188, 10, 89, 3, 3, 79, 89, 4, 3, 79, 89, 5, 16, 80, 79, 89, 6]
abbrev dktX2_init_2_0 : List UInt8 := dkwX2_init_2_0 ++ dktX2_init_2_1
theorem dksX2_init_2_0 : cX2_init_2.data.toList.drop 0 = dktX2_init_2_0 := by decide +kernel
theorem dksX2_init_2_1 : cX2_init_2.data.toList.drop 24 = dktX2_init_2_1 := dk_seg dksX2_init_2_0 24 rfl rfl
theorem dksX2_init_2_2 : cX2_init_2.data.toList.drop 48 = dktX2_init_2_2 := dk_seg dksX2_init_2_1 24 rfl rfl
theorem dksX2_init_2_3 : cX2_init_2.data.toList.drop 70 = dktX2_init_2_3 := dk_seg dksX2_init_2_2 22 rfl rfl
theorem dksX2_init_2_4 : cX2_init_2.data.toList.drop 92 = dktX2_init_2_4 := dk_seg dksX2_init_2_3 22 rfl rfl
theorem dksX2_init_2_5 : cX2_init_2.data.toList.drop 114 = dktX2_init_2_5 := dk_seg dksX2_init_2_4 22 rfl rfl
theorem dksX2_init_2_6 : cX2_init_2.data.toList.drop 137 = dktX2_init_2_6 := dk_seg dksX2_init_2_5 23 rfl rfl
theorem dksX2_init_2_7 : cX2_init_2.data.toList.drop 161 = dktX2_init_2_7 := dk_seg dksX2_init_2_6 24 rfl rfl
theorem dksX2_init_2_8 : cX2_init_2.data.toList.drop 185 = dktX2_init_2_8 := dk_seg dksX2_init_2_7 24 rfl rfl
theorem dksX2_init_2_9 : cX2_init_2.data.toList.drop 207 = dktX2_init_2_9 := dk_seg dksX2_init_2_8 22 rfl rfl
theorem dksX2_init_2_10 : cX2_init_2.data.toList.drop 231 = dktX2_init_2_10 := dk_seg dksX2_init_2_9 24 rfl rfl
theorem dksX2_init_2_11 : cX2_init_2.data.toList.drop 255 = dktX2_init_2_11 := dk_seg dksX2_init_2_10 24 rfl rfl
theorem dksX2_init_2_12 : cX2_init_2.data.toList.drop 279 = dktX2_init_2_12 := dk_seg dksX2_init_2_11 24 rfl rfl
theorem dX2_init_2_0 : decode cX2_init_2 0 = .ok (.aload_n 0, 1) := dk_42 (dk_at dksX2_init_2_0 0 rfl rfl)
theorem dX2_init_2_1 : decode cX2_init_2 1 = .ok (.invokespecial 3, 3) := dk_183 0 3 (dk_at dksX2_init_2_0 1 rfl rfl)
theorem dX2_init_2_4 : decode cX2_init_2 4 = .ok (.aload_n 0, 1) := dk_42 (dk_at dksX2_init_2_0 4 rfl rfl)
theorem dX2_init_2_5 : decode cX2_init_2 5 = .ok (.bipush 6, 2) := dk_16 6 (dk_at dksX2_init_2_0 5 rfl rfl)
theorem dX2_init_2_7 : decode cX2_init_2 7 = .ok (.newarray .int, 2) := dk_188_10 (dk_at dksX2_init_2_0 7 rfl rfl)
theorem dX2_init_2_9 : decode cX2_init_2 9 = .ok (.dup, 1) := dk_89 (dk_at dksX2_init_2_0 9 rfl rfl)
theorem dX2_init_2_10 : decode cX2_init_2 10 = .ok (.iconst 0, 1) := dk_3 (dk_at dksX2_init_2_0 10 rfl rfl)
theorem dX2_init_2_11 : decode cX2_init_2 11 = .ok (.iconst 0, 1) := dk_3 (dk_at dksX2_init_2_0 11 rfl rfl)
theorem dX2_init_2_12 : decode cX2_init_2 12 = .ok (.iastore, 1) := dk_79 (dk_at dksX2_init_2_0 12 rfl rfl)
theorem dX2_init_2_13 : decode cX2_init_2 13 = .ok (.dup, 1) := dk_89 (dk_at dksX2_init_2_0 13 rfl rfl)
theorem dX2_init_2_14 : decode cX2_init_2 14 = .ok (.iconst 1, 1) := dk_4 (dk_at dksX2_init_2_0 14 rfl rfl)
theorem dX2_init_2_15 : decode cX2_init_2 15 = .ok (.iconst 0, 1) := dk_3 (dk_at dksX2_init_2_0 15 rfl rfl)
theorem dX2_init_2_16 : decode cX2_init_2 16 = .ok (.iastore, 1) := dk_79 (dk_at dksX2_init_2_0 16 rfl rfl)
theorem dX2_init_2_17 : decode cX2_init_2 17 = .ok (.dup, 1) := dk_89 (dk_at dksX2_init_2_0 17 rfl rfl)
theorem dX2_init_2_18 : decode cX2_init_2 18 = .ok (.iconst 2, 1) := dk_5 (dk_at dksX2_init_2_0 18 rfl rfl)
theorem dX2_init_2_19 : decode cX2_init_2 19 = .ok (.bipush 80, 2) := dk_16 80 (dk_at dksX2_init_2_0 19 rfl rfl)
theorem dX2_init_2_21 : decode cX2_init_2 21 = .ok (.iastore, 1) := dk_79 (dk_at dksX2_init_2_0 21 rfl rfl)
theorem dX2_init_2_22 : decode cX2_init_2 22 = .ok (.dup, 1) := dk_89 (dk_at dksX2_init_2_0 22 rfl rfl)
theorem dX2_init_2_23 : decode cX2_init_2 23 = .ok (.iconst 3, 1) := dk_6 (dk_at dksX2_init_2_0 23 rfl rfl)
theorem dX2_init_2_24 : decode cX2_init_2 24 = .ok (.bipush 90, 2) := dk_16 90 (dk_at dksX2_init_2_1 0 rfl rfl)
theorem dX2_init_2_26 : decode cX2_init_2 26 = .ok (.iastore, 1) := dk_79 (dk_at dksX2_init_2_1 2 rfl rfl)
theorem dX2_init_2_27 : decode cX2_init_2 27 = .ok (.dup, 1) := dk_89 (dk_at dksX2_init_2_1 3 rfl rfl)
theorem dX2_init_2_28 : decode cX2_init_2 28 = .ok (.iconst 4, 1) := dk_7 (dk_at dksX2_init_2_1 4 rfl rfl)
theorem dX2_init_2_29 : decode cX2_init_2 29 = .ok (.bipush 100, 2) := dk_16 100 (dk_at dksX2_init_2_1 5 rfl rfl)
theorem dX2_init_2_31 : decode cX2_init_2 31 = .ok (.iastore, 1) := dk_79 (dk_at dksX2_init_2_1 7 rfl rfl)
theorem dX2_init_2_32 : decode cX2_init_2 32 = .ok (.dup, 1) := dk_89 (dk_at dksX2_init_2_1 8 rfl rfl)
theorem dX2_init_2_33 : decode cX2_init_2 33 = .ok (.iconst 5, 1) := dk_8 (dk_at dksX2_init_2_1 9 rfl rfl)
theorem dX2_init_2_34 : decode cX2_init_2 34 = .ok (.bipush 110, 2) := dk_16 110 (dk_at dksX2_init_2_1 10 rfl rfl)
theorem dX2_init_2_36 : decode cX2_init_2 36 = .ok (.iastore, 1) := dk_79 (dk_at dksX2_init_2_1 12 rfl rfl)
theorem dX2_init_2_37 : decode cX2_init_2 37 = .ok (.putfield 9, 3) := dk_181 0 9 (dk_at dksX2_init_2_1 13 rfl rfl)
theorem dX2_init_2_40 : decode cX2_init_2 40 = .ok (.aload_n 0, 1) := dk_42 (dk_at dksX2_init_2_1 16 rfl rfl)
theorem dX2_init_2_41 : decode cX2_init_2 41 = .ok (.bipush 6, 2) := dk_16 6 (dk_at dksX2_init_2_1 17 rfl rfl)
theorem dX2_init_2_43 : decode cX2_init_2 43 = .ok (.newarray .int, 2) := dk_188_10 (dk_at dksX2_init_2_1 19 rfl rfl)
theorem dX2_init_2_45 : decode cX2_init_2 45 = .ok (.dup, 1) := dk_89 (dk_at dksX2_init_2_1 21 rfl rfl)
theorem dX2_init_2_46 : decode cX2_init_2 46 = .ok (.iconst 0, 1) := dk_3 (dk_at dksX2_init_2_1 22 rfl rfl)
theorem dX2_init_2_47 : decode cX2_init_2 47 = .ok (.iconst 0, 1) := dk_3 (dk_at dksX2_init_2_1 23 rfl rfl)
theorem dX2_init_2_48 : decode cX2_init_2 48 = .ok (.iastore, 1) := dk_79 (dk_at dksX2_init_2_2 0 rfl rfl)
theorem dX2_init_2_49 : decode cX2_init_2 49 = .ok (.dup, 1) := dk_89 (dk_at dksX2_init_2_2 1 rfl rfl)
theorem dX2_init_2_50 : decode cX2_init_2 50 = .ok (.iconst 1, 1) := dk_4 (dk_at dksX2_init_2_2 2 rfl rfl)
theorem dX2_init_2_51 : decode cX2_init_2 51 = .ok (.iconst 1, 1) := dk_4 (dk_at dksX2_init_2_2 3 rfl rfl)
theorem dX2_init_2_52 : decode cX2_init_2 52 = .ok (.iastore, 1) := dk_79 (dk_at dksX2_init_2_2 4 rfl rfl)
theorem dX2_init_2_53 : decode cX2_init_2 53 = .ok (.dup, 1) := dk_89 (dk_at dksX2_init_2_2 5 rfl rfl)
theorem dX2_init_2_54 : decode cX2_init_2 54 = .ok (.iconst 2, 1) := dk_5 (dk_at dksX2_init_2_2 6 rfl rfl)
theorem dX2_init_2_55 : decode cX2_init_2 55 = .ok (.iconst 2, 1) := dk_5 (dk_at dksX2_init_2_2 7 rfl rfl)
theorem dX2_init_2_56 : decode cX2_init_2 56 = .ok (.iastore, 1) := dk_79 (dk_at dksX2_init_2_2 8 rfl rfl)
theorem dX2_init_2_57 : decode cX2_init_2 57 = .ok (.dup, 1) := dk_89 (dk_at dksX2_init_2_2 9 rfl rfl)
theorem dX2_init_2_58 : decode cX2_init_2 58 = .ok (.iconst 3, 1) := dk_6 (dk_at dksX2_init_2_2 10 rfl rfl)
theorem dX2_init_2_59 : decode cX2_init_2 59 = .ok (.iconst 3, 1) := dk_6 (dk_at dksX2_init_2_2 11 rfl rfl)
theorem dX2_init_2_60 : decode cX2_init_2 60 = .ok (.iastore, 1) := dk_79 (dk_at dksX2_init_2_2 12 rfl rfl)
theorem dX2_init_2_61 : decode cX2_init_2 61 = .ok (.dup, 1) := dk_89 (dk_at dksX2_init_2_2 13 rfl rfl)
theorem dX2_init_2_62 : decode cX2_init_2 62 = .ok (.iconst 4, 1) := dk_7 (dk_at dksX2_init_2_2 14 rfl rfl)
theorem dX2_init_2_63 : decode cX2_init_2 63 = .ok (.iconst 5, 1) := dk_8 (dk_at dksX2_init_2_2 15 rfl rfl)
theorem dX2_init_2_64 : decode cX2_init_2 64 = .ok (.iastore, 1) := dk_79 (dk_at dksX2_init_2_2 16 rfl rfl)
theorem dX2_init_2_65 : decode cX2_init_2 65 = .ok (.dup, 1) := dk_89 (dk_at dksX2_init_2_2 17 rfl rfl)
theorem dX2_init_2_66 : decode cX2_init_2 66 = .ok (.iconst 5, 1) := dk_8 (dk_at dksX2_init_2_2 18 rfl rfl)
theorem dX2_init_2_67 : decode cX2_init_2 67 = .ok (.bipush 8, 2) := dk_16 8 (dk_at dksX2_init_2_2 19 rfl rfl)
theorem dX2_init_2_69 : decode cX2_init_2 69 = .ok (.iastore, 1) := dk_79 (dk_at dksX2_init_2_2 21 rfl rfl)
theorem dX2_init_2_70 : decode cX2_init_2 70 = .ok (.putfield 15, 3) := dk_181 0 15 (dk_at dksX2_init_2_3 0 rfl rfl)
theorem dX2_init_2_73 : decode cX2_init_2 73 = .ok (.aload_n 0, 1) := dk_42 (dk_at dksX2_init_2_3 3 rfl rfl)
theorem dX2_init_2_74 : decode cX2_init_2 74 = .ok (.bipush 28, 2) := dk_16 28 (dk_at dksX2_init_2_3 4 rfl rfl)
theorem dX2_init_2_76 : decode cX2_init_2 76 = .ok (.newarray .int, 2) := dk_188_10 (dk_at dksX2_init_2_3 6 rfl rfl)
theorem dX2_init_2_78 : decode cX2_init_2 78 = .ok (.putfield 18, 3) := dk_181 0 18 (dk_at dksX2_init_2_3 8 rfl rfl)
theorem dX2_init_2_81 : decode cX2_init_2 81 = .ok (.aload_n 0, 1) := dk_42 (dk_at dksX2_init_2_3 11 rfl rfl)
theorem dX2_init_2_82 : decode cX2_init_2 82 = .ok (.iconst (-1), 1) := dk_2 (dk_at dksX2_init_2_3 12 rfl rfl)
theorem dX2_init_2_83 : decode cX2_init_2 83 = .ok (.putfield 21, 3) := dk_181 0 21 (dk_at dksX2_init_2_3 13 rfl rfl)
theorem dX2_init_2_86 : decode cX2_init_2 86 = .ok (.aload_n 0, 1) := dk_42 (dk_at dksX2_init_2_3 16 rfl rfl)
theorem dX2_init_2_87 : decode cX2_init_2 87 = .ok (.sipush 200, 3) := dk_17 0 200 (dk_at dksX2_init_2_3 17 rfl rfl)
theorem dX2_init_2_90 : decode cX2_init_2 90 = .ok (.newarray .int, 2) := dk_188_10 (dk_at dksX2_init_2_3 20 rfl rfl)
theorem dX2_init_2_92 : decode cX2_init_2 92 = .ok (.putfield 25, 3) := dk_181 0 25 (dk_at dksX2_init_2_4 0 rfl rfl)
theorem dX2_init_2_95 : decode cX2_init_2 95 = .ok (.aload_n 0, 1) := dk_42 (dk_at dksX2_init_2_4 3 rfl rfl)
theorem dX2_init_2_96 : decode cX2_init_2 96 = .ok (.sipush 200, 3) := dk_17 0 200 (dk_at dksX2_init_2_4 4 rfl rfl)
theorem dX2_init_2_99 : decode cX2_init_2 99 = .ok (.newarray .int, 2) := dk_188_10 (dk_at dksX2_init_2_4 7 rfl rfl)
theorem dX2_init_2_101 : decode cX2_init_2 101 = .ok (.putfield 28, 3) := dk_181 0 28 (dk_at dksX2_init_2_4 9 rfl rfl)
theorem dX2_init_2_104 : decode cX2_init_2 104 = .ok (.aload_n 0, 1) := dk_42 (dk_at dksX2_init_2_4 12 rfl rfl)
theorem dX2_init_2_105 : decode cX2_init_2 105 = .ok (.sipush 200, 3) := dk_17 0 200 (dk_at dksX2_init_2_4 13 rfl rfl)
theorem dX2_init_2_108 : decode cX2_init_2 108 = .ok (.newarray .int, 2) := dk_188_10 (dk_at dksX2_init_2_4 16 rfl rfl)
theorem dX2_init_2_110 : decode cX2_init_2 110 = .ok (.putfield 31, 3) := dk_181 0 31 (dk_at dksX2_init_2_4 18 rfl rfl)
theorem dX2_init_2_113 : decode cX2_init_2 113 = .ok (.aload_n 0, 1) := dk_42 (dk_at dksX2_init_2_4 21 rfl rfl)
theorem dX2_init_2_114 : decode cX2_init_2 114 = .ok (.new 34, 3) := dk_187 0 34 (dk_at dksX2_init_2_5 0 rfl rfl)
theorem dX2_init_2_117 : decode cX2_init_2 117 = .ok (.dup, 1) := dk_89 (dk_at dksX2_init_2_5 3 rfl rfl)
theorem dX2_init_2_118 : decode cX2_init_2 118 = .ok (.aload_n 1, 1) := dk_43 (dk_at dksX2_init_2_5 4 rfl rfl)
theorem dX2_init_2_119 : decode cX2_init_2 119 = .ok (.getfield 37, 3) := dk_180 0 37 (dk_at dksX2_init_2_5 5 rfl rfl)
theorem dX2_init_2_122 : decode cX2_init_2 122 = .ok (.invokespecial 44, 3) := dk_183 0 44 (dk_at dksX2_init_2_5 8 rfl rfl)
theorem dX2_init_2_125 : decode cX2_init_2 125 = .ok (.putfield 37, 3) := dk_181 0 37 (dk_at dksX2_init_2_5 11 rfl rfl)
theorem dX2_init_2_128 : decode cX2_init_2 128 = .ok (.aload_n 0, 1) := dk_42 (dk_at dksX2_init_2_5 14 rfl rfl)
theorem dX2_init_2_129 : decode cX2_init_2 129 = .ok (.new 34, 3) := dk_187 0 34 (dk_at dksX2_init_2_5 15 rfl rfl)
theorem dX2_init_2_132 : decode cX2_init_2 132 = .ok (.dup, 1) := dk_89 (dk_at dksX2_init_2_5 18 rfl rfl)
theorem dX2_init_2_133 : decode cX2_init_2 133 = .ok (.aload_n 1, 1) := dk_43 (dk_at dksX2_init_2_5 19 rfl rfl)
theorem dX2_init_2_134 : decode cX2_init_2 134 = .ok (.getfield 41, 3) := dk_180 0 41 (dk_at dksX2_init_2_5 20 rfl rfl)
theorem dX2_init_2_137 : decode cX2_init_2 137 = .ok (.invokespecial 44, 3) := dk_183 0 44 (dk_at dksX2_init_2_6 0 rfl rfl)
theorem dX2_init_2_140 : decode cX2_init_2 140 = .ok (.putfield 41, 3) := dk_181 0 41 (dk_at dksX2_init_2_6 3 rfl rfl)
theorem dX2_init_2_143 : decode cX2_init_2 143 = .ok (.aload_n 1, 1) := dk_43 (dk_at dksX2_init_2_6 6 rfl rfl)
theorem dX2_init_2_144 : decode cX2_init_2 144 = .ok (.getfield 9, 3) := dk_180 0 9 (dk_at dksX2_init_2_6 7 rfl rfl)
theorem dX2_init_2_147 : decode cX2_init_2 147 = .ok (.iconst 0, 1) := dk_3 (dk_at dksX2_init_2_6 10 rfl rfl)
theorem dX2_init_2_148 : decode cX2_init_2 148 = .ok (.aload_n 0, 1) := dk_42 (dk_at dksX2_init_2_6 11 rfl rfl)
theorem dX2_init_2_149 : decode cX2_init_2 149 = .ok (.getfield 9, 3) := dk_180 0 9 (dk_at dksX2_init_2_6 12 rfl rfl)
theorem dX2_init_2_152 : decode cX2_init_2 152 = .ok (.iconst 0, 1) := dk_3 (dk_at dksX2_init_2_6 15 rfl rfl)
theorem dX2_init_2_153 : decode cX2_init_2 153 = .ok (.aload_n 0, 1) := dk_42 (dk_at dksX2_init_2_6 16 rfl rfl)
theorem dX2_init_2_154 : decode cX2_init_2 154 = .ok (.getfield 9, 3) := dk_180 0 9 (dk_at dksX2_init_2_6 17 rfl rfl)
theorem dX2_init_2_157 : decode cX2_init_2 157 = .ok (.arraylength, 1) := dk_190 (dk_at dksX2_init_2_6 20 rfl rfl)
theorem dX2_init_2_158 : decode cX2_init_2 158 = .ok (.invokestatic 47, 3) := dk_184 0 47 (dk_at dksX2_init_2_6 21 rfl rfl)
theorem dX2_init_2_161 : decode cX2_init_2 161 = .ok (.aload_n 1, 1) := dk_43 (dk_at dksX2_init_2_7 0 rfl rfl)
theorem dX2_init_2_162 : decode cX2_init_2 162 = .ok (.getfield 15, 3) := dk_180 0 15 (dk_at dksX2_init_2_7 1 rfl rfl)
theorem dX2_init_2_165 : decode cX2_init_2 165 = .ok (.iconst 0, 1) := dk_3 (dk_at dksX2_init_2_7 4 rfl rfl)
theorem dX2_init_2_166 : decode cX2_init_2 166 = .ok (.aload_n 0, 1) := dk_42 (dk_at dksX2_init_2_7 5 rfl rfl)
theorem dX2_init_2_167 : decode cX2_init_2 167 = .ok (.getfield 15, 3) := dk_180 0 15 (dk_at dksX2_init_2_7 6 rfl rfl)
theorem dX2_init_2_170 : decode cX2_init_2 170 = .ok (.iconst 0, 1) := dk_3 (dk_at dksX2_init_2_7 9 rfl rfl)
theorem dX2_init_2_171 : decode cX2_init_2 171 = .ok (.aload_n 0, 1) := dk_42 (dk_at dksX2_init_2_7 10 rfl rfl)
theorem dX2_init_2_172 : decode cX2_init_2 172 = .ok (.getfield 15, 3) := dk_180 0 15 (dk_at dksX2_init_2_7 11 rfl rfl)
theorem dX2_init_2_175 : decode cX2_init_2 175 = .ok (.arraylength, 1) := dk_190 (dk_at dksX2_init_2_7 14 rfl rfl)
theorem dX2_init_2_176 : decode cX2_init_2 176 = .ok (.invokestatic 47, 3) := dk_184 0 47 (dk_at dksX2_init_2_7 15 rfl rfl)
theorem dX2_init_2_179 : decode cX2_init_2 179 = .ok (.aload_n 1, 1) := dk_43 (dk_at dksX2_init_2_7 18 rfl rfl)
theorem dX2_init_2_180 : decode cX2_init_2 180 = .ok (.getfield 18, 3) := dk_180 0 18 (dk_at dksX2_init_2_7 19 rfl rfl)
theorem dX2_init_2_183 : decode cX2_init_2 183 = .ok (.iconst 0, 1) := dk_3 (dk_at dksX2_init_2_7 22 rfl rfl)
theorem dX2_init_2_184 : decode cX2_init_2 184 = .ok (.aload_n 0, 1) := dk_42 (dk_at dksX2_init_2_7 23 rfl rfl)
theorem dX2_init_2_185 : decode cX2_init_2 185 = .ok (.getfield 18, 3) := dk_180 0 18 (dk_at dksX2_init_2_8 0 rfl rfl)
theorem dX2_init_2_188 : decode cX2_init_2 188 = .ok (.iconst 0, 1) := dk_3 (dk_at dksX2_init_2_8 3 rfl rfl)
theorem dX2_init_2_189 : decode cX2_init_2 189 = .ok (.bipush 28, 2) := dk_16 28 (dk_at dksX2_init_2_8 4 rfl rfl)
theorem dX2_init_2_191 : decode cX2_init_2 191 = .ok (.invokestatic 47, 3) := dk_184 0 47 (dk_at dksX2_init_2_8 6 rfl rfl)
theorem dX2_init_2_194 : decode cX2_init_2 194 = .ok (.aload_n 0, 1) := dk_42 (dk_at dksX2_init_2_8 9 rfl rfl)
theorem dX2_init_2_195 : decode cX2_init_2 195 = .ok (.aload_n 1, 1) := dk_43 (dk_at dksX2_init_2_8 10 rfl rfl)
theorem dX2_init_2_196 : decode cX2_init_2 196 = .ok (.getfield 53, 3) := dk_180 0 53 (dk_at dksX2_init_2_8 11 rfl rfl)
theorem dX2_init_2_199 : decode cX2_init_2 199 = .ok (.putfield 53, 3) := dk_181 0 53 (dk_at dksX2_init_2_8 14 rfl rfl)
theorem dX2_init_2_202 : decode cX2_init_2 202 = .ok (.aload_n 0, 1) := dk_42 (dk_at dksX2_init_2_8 17 rfl rfl)
theorem dX2_init_2_203 : decode cX2_init_2 203 = .ok (.aload_n 1, 1) := dk_43 (dk_at dksX2_init_2_8 18 rfl rfl)
theorem dX2_init_2_204 : decode cX2_init_2 204 = .ok (.getfield 56, 3) := dk_180 0 56 (dk_at dksX2_init_2_8 19 rfl rfl)
theorem dX2_init_2_207 : decode cX2_init_2 207 = .ok (.putfield 56, 3) := dk_181 0 56 (dk_at dksX2_init_2_9 0 rfl rfl)
theorem dX2_init_2_210 : decode cX2_init_2 210 = .ok (.aload_n 0, 1) := dk_42 (dk_at dksX2_init_2_9 3 rfl rfl)
theorem dX2_init_2_211 : decode cX2_init_2 211 = .ok (.aload_n 1, 1) := dk_43 (dk_at dksX2_init_2_9 4 rfl rfl)
theorem dX2_init_2_212 : decode cX2_init_2 212 = .ok (.getfield 21, 3) := dk_180 0 21 (dk_at dksX2_init_2_9 5 rfl rfl)
theorem dX2_init_2_215 : decode cX2_init_2 215 = .ok (.putfield 21, 3) := dk_181 0 21 (dk_at dksX2_init_2_9 8 rfl rfl)
theorem dX2_init_2_218 : decode cX2_init_2 218 = .ok (.aload_n 0, 1) := dk_42 (dk_at dksX2_init_2_9 11 rfl rfl)
theorem dX2_init_2_219 : decode cX2_init_2 219 = .ok (.aload_n 1, 1) := dk_43 (dk_at dksX2_init_2_9 12 rfl rfl)
theorem dX2_init_2_220 : decode cX2_init_2 220 = .ok (.getfield 59, 3) := dk_180 0 59 (dk_at dksX2_init_2_9 13 rfl rfl)
theorem dX2_init_2_223 : decode cX2_init_2 223 = .ok (.putfield 59, 3) := dk_181 0 59 (dk_at dksX2_init_2_9 16 rfl rfl)
theorem dX2_init_2_226 : decode cX2_init_2 226 = .ok (.aload_n 0, 1) := dk_42 (dk_at dksX2_init_2_9 19 rfl rfl)
theorem dX2_init_2_227 : decode cX2_init_2 227 = .ok (.aload_n 1, 1) := dk_43 (dk_at dksX2_init_2_9 20 rfl rfl)
theorem dX2_init_2_228 : decode cX2_init_2 228 = .ok (.getfield 62, 3) := dk_180 0 62 (dk_at dksX2_init_2_9 21 rfl rfl)
theorem dX2_init_2_231 : decode cX2_init_2 231 = .ok (.putfield 62, 3) := dk_181 0 62 (dk_at dksX2_init_2_10 0 rfl rfl)
theorem dX2_init_2_234 : decode cX2_init_2 234 = .ok (.aload_n 1, 1) := dk_43 (dk_at dksX2_init_2_10 3 rfl rfl)
theorem dX2_init_2_235 : decode cX2_init_2 235 = .ok (.getfield 25, 3) := dk_180 0 25 (dk_at dksX2_init_2_10 4 rfl rfl)
theorem dX2_init_2_238 : decode cX2_init_2 238 = .ok (.iconst 0, 1) := dk_3 (dk_at dksX2_init_2_10 7 rfl rfl)
theorem dX2_init_2_239 : decode cX2_init_2 239 = .ok (.aload_n 0, 1) := dk_42 (dk_at dksX2_init_2_10 8 rfl rfl)
theorem dX2_init_2_240 : decode cX2_init_2 240 = .ok (.getfield 25, 3) := dk_180 0 25 (dk_at dksX2_init_2_10 9 rfl rfl)
theorem dX2_init_2_243 : decode cX2_init_2 243 = .ok (.iconst 0, 1) := dk_3 (dk_at dksX2_init_2_10 12 rfl rfl)
theorem dX2_init_2_244 : decode cX2_init_2 244 = .ok (.aload_n 0, 1) := dk_42 (dk_at dksX2_init_2_10 13 rfl rfl)
theorem dX2_init_2_245 : decode cX2_init_2 245 = .ok (.getfield 62, 3) := dk_180 0 62 (dk_at dksX2_init_2_10 14 rfl rfl)
theorem dX2_init_2_248 : decode cX2_init_2 248 = .ok (.invokestatic 47, 3) := dk_184 0 47 (dk_at dksX2_init_2_10 17 rfl rfl)
theorem dX2_init_2_251 : decode cX2_init_2 251 = .ok (.aload_n 1, 1) := dk_43 (dk_at dksX2_init_2_10 20 rfl rfl)
theorem dX2_init_2_252 : decode cX2_init_2 252 = .ok (.getfield 28, 3) := dk_180 0 28 (dk_at dksX2_init_2_10 21 rfl rfl)
theorem dX2_init_2_255 : decode cX2_init_2 255 = .ok (.iconst 0, 1) := dk_3 (dk_at dksX2_init_2_11 0 rfl rfl)
theorem dX2_init_2_256 : decode cX2_init_2 256 = .ok (.aload_n 0, 1) := dk_42 (dk_at dksX2_init_2_11 1 rfl rfl)
theorem dX2_init_2_257 : decode cX2_init_2 257 = .ok (.getfield 28, 3) := dk_180 0 28 (dk_at dksX2_init_2_11 2 rfl rfl)
theorem dX2_init_2_260 : decode cX2_init_2 260 = .ok (.iconst 0, 1) := dk_3 (dk_at dksX2_init_2_11 5 rfl rfl)
theorem dX2_init_2_261 : decode cX2_init_2 261 = .ok (.aload_n 0, 1) := dk_42 (dk_at dksX2_init_2_11 6 rfl rfl)
theorem dX2_init_2_262 : decode cX2_init_2 262 = .ok (.getfield 62, 3) := dk_180 0 62 (dk_at dksX2_init_2_11 7 rfl rfl)
theorem dX2_init_2_265 : decode cX2_init_2 265 = .ok (.invokestatic 47, 3) := dk_184 0 47 (dk_at dksX2_init_2_11 10 rfl rfl)
theorem dX2_init_2_268 : decode cX2_init_2 268 = .ok (.aload_n 1, 1) := dk_43 (dk_at dksX2_init_2_11 13 rfl rfl)
theorem dX2_init_2_269 : decode cX2_init_2 269 = .ok (.getfield 31, 3) := dk_180 0 31 (dk_at dksX2_init_2_11 14 rfl rfl)
theorem dX2_init_2_272 : decode cX2_init_2 272 = .ok (.iconst 0, 1) := dk_3 (dk_at dksX2_init_2_11 17 rfl rfl)
theorem dX2_init_2_273 : decode cX2_init_2 273 = .ok (.aload_n 0, 1) := dk_42 (dk_at dksX2_init_2_11 18 rfl rfl)
theorem dX2_init_2_274 : decode cX2_init_2 274 = .ok (.getfield 31, 3) := dk_180 0 31 (dk_at dksX2_init_2_11 19 rfl rfl)
theorem dX2_init_2_277 : decode cX2_init_2 277 = .ok (.iconst 0, 1) := dk_3 (dk_at dksX2_init_2_11 22 rfl rfl)
theorem dX2_init_2_278 : decode cX2_init_2 278 = .ok (.aload_n 0, 1) := dk_42 (dk_at dksX2_init_2_11 23 rfl rfl)
theorem dX2_init_2_279 : decode cX2_init_2 279 = .ok (.getfield 62, 3) := dk_180 0 62 (dk_at dksX2_init_2_12 0 rfl rfl)
theorem dX2_init_2_282 : decode cX2_init_2 282 = .ok (.invokestatic 47, 3) := dk_184 0 47 (dk_at dksX2_init_2_12 3 rfl rfl)
theorem dX2_init_2_285 : decode cX2_init_2 285 = .ok (.return_, 1) := dk_177 (dk_at dksX2_init_2_12 6 rfl rfl)
abbrev cX2_startPlan : ByteArray := prog_2_method_29_code
def yX2_startPlan : MethodName := ⟨RX2, "startPlan", "()I"⟩
def dkwX2_startPlan_0 : List UInt8 := [42, 180, 0, 59, 60, 42, 42, 180, 0, 53, 181, 0, 21, 42, 3, 181, 0, 59, 27, 172]
abbrev dktX2_startPlan_0 : List UInt8 := dkwX2_startPlan_0 ++ []
theorem dksX2_startPlan_0 : cX2_startPlan.data.toList.drop 0 = dktX2_startPlan_0 := by decide +kernel
theorem dX2_startPlan_0 : decode cX2_startPlan 0 = .ok (.aload_n 0, 1) := dk_42 (dk_at dksX2_startPlan_0 0 rfl rfl)
theorem dX2_startPlan_1 : decode cX2_startPlan 1 = .ok (.getfield 59, 3) := dk_180 0 59 (dk_at dksX2_startPlan_0 1 rfl rfl)
theorem dX2_startPlan_4 : decode cX2_startPlan 4 = .ok (.istore_n 1, 1) := dk_60 (dk_at dksX2_startPlan_0 4 rfl rfl)
theorem dX2_startPlan_5 : decode cX2_startPlan 5 = .ok (.aload_n 0, 1) := dk_42 (dk_at dksX2_startPlan_0 5 rfl rfl)
theorem dX2_startPlan_6 : decode cX2_startPlan 6 = .ok (.aload_n 0, 1) := dk_42 (dk_at dksX2_startPlan_0 6 rfl rfl)
theorem dX2_startPlan_7 : decode cX2_startPlan 7 = .ok (.getfield 53, 3) := dk_180 0 53 (dk_at dksX2_startPlan_0 7 rfl rfl)
theorem dX2_startPlan_10 : decode cX2_startPlan 10 = .ok (.putfield 21, 3) := dk_181 0 21 (dk_at dksX2_startPlan_0 10 rfl rfl)
theorem dX2_startPlan_13 : decode cX2_startPlan 13 = .ok (.aload_n 0, 1) := dk_42 (dk_at dksX2_startPlan_0 13 rfl rfl)
theorem dX2_startPlan_14 : decode cX2_startPlan 14 = .ok (.iconst 0, 1) := dk_3 (dk_at dksX2_startPlan_0 14 rfl rfl)
theorem dX2_startPlan_15 : decode cX2_startPlan 15 = .ok (.putfield 59, 3) := dk_181 0 59 (dk_at dksX2_startPlan_0 15 rfl rfl)
theorem dX2_startPlan_18 : decode cX2_startPlan 18 = .ok (.iload_n 1, 1) := dk_27 (dk_at dksX2_startPlan_0 18 rfl rfl)
theorem dX2_startPlan_19 : decode cX2_startPlan 19 = .ok (.ireturn, 1) := dk_172 (dk_at dksX2_startPlan_0 19 rfl rfl)
abbrev cX2_course : ByteArray := prog_2_method_31_code
def yX2_course : MethodName := ⟨RX2, "course", "()LTrainingDiary$Book$Course;"⟩
def dkwX2_course_0 : List UInt8 := [187, 0, 192, 89, 42, 183, 0, 194, 176]
abbrev dktX2_course_0 : List UInt8 := dkwX2_course_0 ++ []
theorem dksX2_course_0 : cX2_course.data.toList.drop 0 = dktX2_course_0 := by decide +kernel
theorem dX2_course_0 : decode cX2_course 0 = .ok (.new 192, 3) := dk_187 0 192 (dk_at dksX2_course_0 0 rfl rfl)
theorem dX2_course_3 : decode cX2_course 3 = .ok (.dup, 1) := dk_89 (dk_at dksX2_course_0 3 rfl rfl)
theorem dX2_course_4 : decode cX2_course 4 = .ok (.aload_n 0, 1) := dk_42 (dk_at dksX2_course_0 4 rfl rfl)
theorem dX2_course_5 : decode cX2_course 5 = .ok (.invokespecial 194, 3) := dk_183 0 194 (dk_at dksX2_course_0 5 rfl rfl)
theorem dX2_course_8 : decode cX2_course 8 = .ok (.areturn, 1) := dk_176 (dk_at dksX2_course_0 8 rfl rfl)
abbrev cX2_pass : ByteArray := prog_2_method_23_code
def yX2_pass : MethodName := ⟨RX2, "pass", "(I)I"⟩
def dkwX2_pass_1 : List UInt8 := [167, 0, 4, 3, 184, 0, 165, 42, 89, 180, 0, 53, 27, 96, 181, 0, 53, 42, 180, 0, 53, 172]
abbrev dktX2_pass_1 : List UInt8 := dkwX2_pass_1 ++ []
def dkwX2_pass_0 : List UInt8 := [27, 4, 16, 30, 184, 0, 158, 184, 0, 162, 42, 180, 0, 53, 27, 96, 17, 0, 199, 163, 0, 7, 4]
abbrev dktX2_pass_0 : List UInt8 := dkwX2_pass_0 ++ dktX2_pass_1
theorem dksX2_pass_0 : cX2_pass.data.toList.drop 0 = dktX2_pass_0 := by decide +kernel
theorem dksX2_pass_1 : cX2_pass.data.toList.drop 23 = dktX2_pass_1 := dk_seg dksX2_pass_0 23 rfl rfl
theorem dX2_pass_0 : decode cX2_pass 0 = .ok (.iload_n 1, 1) := dk_27 (dk_at dksX2_pass_0 0 rfl rfl)
theorem dX2_pass_1 : decode cX2_pass 1 = .ok (.iconst 1, 1) := dk_4 (dk_at dksX2_pass_0 1 rfl rfl)
theorem dX2_pass_2 : decode cX2_pass 2 = .ok (.bipush 30, 2) := dk_16 30 (dk_at dksX2_pass_0 2 rfl rfl)
theorem dX2_pass_4 : decode cX2_pass 4 = .ok (.invokestatic 158, 3) := dk_184 0 158 (dk_at dksX2_pass_0 4 rfl rfl)
theorem dX2_pass_7 : decode cX2_pass 7 = .ok (.invokestatic 162, 3) := dk_184 0 162 (dk_at dksX2_pass_0 7 rfl rfl)
theorem dX2_pass_10 : decode cX2_pass 10 = .ok (.aload_n 0, 1) := dk_42 (dk_at dksX2_pass_0 10 rfl rfl)
theorem dX2_pass_11 : decode cX2_pass 11 = .ok (.getfield 53, 3) := dk_180 0 53 (dk_at dksX2_pass_0 11 rfl rfl)
theorem dX2_pass_14 : decode cX2_pass 14 = .ok (.iload_n 1, 1) := dk_27 (dk_at dksX2_pass_0 14 rfl rfl)
theorem dX2_pass_15 : decode cX2_pass 15 = .ok (.iadd, 1) := dk_96 (dk_at dksX2_pass_0 15 rfl rfl)
theorem dX2_pass_16 : decode cX2_pass 16 = .ok (.sipush 199, 3) := dk_17 0 199 (dk_at dksX2_pass_0 16 rfl rfl)
theorem dX2_pass_19 : decode cX2_pass 19 = .ok (.if_icmp .gt 7, 3) := dk_163 0 7 (dk_at dksX2_pass_0 19 rfl rfl)
theorem dX2_pass_22 : decode cX2_pass 22 = .ok (.iconst 1, 1) := dk_4 (dk_at dksX2_pass_0 22 rfl rfl)
theorem dX2_pass_23 : decode cX2_pass 23 = .ok (.goto 4, 3) := dk_167 0 4 (dk_at dksX2_pass_1 0 rfl rfl)
theorem dX2_pass_26 : decode cX2_pass 26 = .ok (.iconst 0, 1) := dk_3 (dk_at dksX2_pass_1 3 rfl rfl)
theorem dX2_pass_27 : decode cX2_pass 27 = .ok (.invokestatic 165, 3) := dk_184 0 165 (dk_at dksX2_pass_1 4 rfl rfl)
theorem dX2_pass_30 : decode cX2_pass 30 = .ok (.aload_n 0, 1) := dk_42 (dk_at dksX2_pass_1 7 rfl rfl)
theorem dX2_pass_31 : decode cX2_pass 31 = .ok (.dup, 1) := dk_89 (dk_at dksX2_pass_1 8 rfl rfl)
theorem dX2_pass_32 : decode cX2_pass 32 = .ok (.getfield 53, 3) := dk_180 0 53 (dk_at dksX2_pass_1 9 rfl rfl)
theorem dX2_pass_35 : decode cX2_pass 35 = .ok (.iload_n 1, 1) := dk_27 (dk_at dksX2_pass_1 12 rfl rfl)
theorem dX2_pass_36 : decode cX2_pass 36 = .ok (.iadd, 1) := dk_96 (dk_at dksX2_pass_1 13 rfl rfl)
theorem dX2_pass_37 : decode cX2_pass 37 = .ok (.putfield 53, 3) := dk_181 0 53 (dk_at dksX2_pass_1 14 rfl rfl)
theorem dX2_pass_40 : decode cX2_pass 40 = .ok (.aload_n 0, 1) := dk_42 (dk_at dksX2_pass_1 17 rfl rfl)
theorem dX2_pass_41 : decode cX2_pass 41 = .ok (.getfield 53, 3) := dk_180 0 53 (dk_at dksX2_pass_1 18 rfl rfl)
theorem dX2_pass_44 : decode cX2_pass 44 = .ok (.ireturn, 1) := dk_172 (dk_at dksX2_pass_1 21 rfl rfl)
abbrev cX2_addTest : ByteArray := prog_2_method_25_code
def yX2_addTest : MethodName := ⟨RX2, "addTest", "(II)I"⟩
def dkwX2_addTest_7 : List UInt8 := [160, 0, 7, 3, 167, 0, 4, 4, 96, 54, 4, 132, 5, 1, 167, 255, 213, 21, 4, 172]
abbrev dktX2_addTest_7 : List UInt8 := dkwX2_addTest_7 ++ []
def dkwX2_addTest_6 : List UInt8 := [21, 4, 42, 42, 180, 0, 41, 21, 5, 182, 0, 75, 192, 0, 85, 182, 0, 118, 45, 21, 5, 46]
abbrev dktX2_addTest_6 : List UInt8 := dkwX2_addTest_6 ++ dktX2_addTest_7
def dkwX2_addTest_5 : List UInt8 := [183, 0, 191, 182, 0, 154, 42, 27, 182, 0, 148, 3, 54, 4, 3, 54, 5, 21, 5, 45, 190, 162, 0, 42]
abbrev dktX2_addTest_5 : List UInt8 := dkwX2_addTest_5 ++ dktX2_addTest_6
def dkwX2_addTest_4 : List UInt8 := [192, 0, 85, 182, 0, 118, 79, 132, 4, 1, 167, 255, 226, 42, 180, 0, 37, 187, 0, 79, 89, 27, 28]
abbrev dktX2_addTest_4 : List UInt8 := dkwX2_addTest_4 ++ dktX2_addTest_5
def dkwX2_addTest_3 : List UInt8 := [3, 54, 4, 21, 4, 45, 190, 162, 0, 29, 45, 21, 4, 42, 42, 180, 0, 41, 21, 4, 182, 0, 75]
abbrev dktX2_addTest_3 : List UInt8 := dkwX2_addTest_3 ++ dktX2_addTest_4
def dkwX2_addTest_2 : List UInt8 := [182, 0, 187, 154, 0, 7, 4, 167, 0, 4, 3, 184, 0, 165, 42, 180, 0, 41, 182, 0, 135, 188, 10, 78]
abbrev dktX2_addTest_2 : List UInt8 := dkwX2_addTest_2 ++ dktX2_addTest_3
def dkwX2_addTest_1 : List UInt8 := [4, 167, 0, 4, 3, 184, 0, 162, 42, 180, 0, 37, 182, 0, 135, 16, 10, 162, 0, 15, 42, 27]
abbrev dktX2_addTest_1 : List UInt8 := dkwX2_addTest_1 ++ dktX2_addTest_2
def dkwX2_addTest_0 : List UInt8 := [27, 3, 42, 180, 0, 53, 184, 0, 158, 153, 0, 19, 28, 16, 50, 17, 1, 144, 184, 0, 158, 153, 0, 7]
abbrev dktX2_addTest_0 : List UInt8 := dkwX2_addTest_0 ++ dktX2_addTest_1
theorem dksX2_addTest_0 : cX2_addTest.data.toList.drop 0 = dktX2_addTest_0 := by decide +kernel
theorem dksX2_addTest_1 : cX2_addTest.data.toList.drop 24 = dktX2_addTest_1 := dk_seg dksX2_addTest_0 24 rfl rfl
theorem dksX2_addTest_2 : cX2_addTest.data.toList.drop 46 = dktX2_addTest_2 := dk_seg dksX2_addTest_1 22 rfl rfl
theorem dksX2_addTest_3 : cX2_addTest.data.toList.drop 70 = dktX2_addTest_3 := dk_seg dksX2_addTest_2 24 rfl rfl
theorem dksX2_addTest_4 : cX2_addTest.data.toList.drop 93 = dktX2_addTest_4 := dk_seg dksX2_addTest_3 23 rfl rfl
theorem dksX2_addTest_5 : cX2_addTest.data.toList.drop 116 = dktX2_addTest_5 := dk_seg dksX2_addTest_4 23 rfl rfl
theorem dksX2_addTest_6 : cX2_addTest.data.toList.drop 140 = dktX2_addTest_6 := dk_seg dksX2_addTest_5 24 rfl rfl
theorem dksX2_addTest_7 : cX2_addTest.data.toList.drop 162 = dktX2_addTest_7 := dk_seg dksX2_addTest_6 22 rfl rfl
theorem dX2_addTest_0 : decode cX2_addTest 0 = .ok (.iload_n 1, 1) := dk_27 (dk_at dksX2_addTest_0 0 rfl rfl)
theorem dX2_addTest_1 : decode cX2_addTest 1 = .ok (.iconst 0, 1) := dk_3 (dk_at dksX2_addTest_0 1 rfl rfl)
theorem dX2_addTest_2 : decode cX2_addTest 2 = .ok (.aload_n 0, 1) := dk_42 (dk_at dksX2_addTest_0 2 rfl rfl)
theorem dX2_addTest_3 : decode cX2_addTest 3 = .ok (.getfield 53, 3) := dk_180 0 53 (dk_at dksX2_addTest_0 3 rfl rfl)
theorem dX2_addTest_6 : decode cX2_addTest 6 = .ok (.invokestatic 158, 3) := dk_184 0 158 (dk_at dksX2_addTest_0 6 rfl rfl)
theorem dX2_addTest_9 : decode cX2_addTest 9 = .ok (.ifCond .eq 19, 3) := dk_153 0 19 (dk_at dksX2_addTest_0 9 rfl rfl)
theorem dX2_addTest_12 : decode cX2_addTest 12 = .ok (.iload_n 2, 1) := dk_28 (dk_at dksX2_addTest_0 12 rfl rfl)
theorem dX2_addTest_13 : decode cX2_addTest 13 = .ok (.bipush 50, 2) := dk_16 50 (dk_at dksX2_addTest_0 13 rfl rfl)
theorem dX2_addTest_15 : decode cX2_addTest 15 = .ok (.sipush 400, 3) := dk_17 1 144 (dk_at dksX2_addTest_0 15 rfl rfl)
theorem dX2_addTest_18 : decode cX2_addTest 18 = .ok (.invokestatic 158, 3) := dk_184 0 158 (dk_at dksX2_addTest_0 18 rfl rfl)
theorem dX2_addTest_21 : decode cX2_addTest 21 = .ok (.ifCond .eq 7, 3) := dk_153 0 7 (dk_at dksX2_addTest_0 21 rfl rfl)
theorem dX2_addTest_24 : decode cX2_addTest 24 = .ok (.iconst 1, 1) := dk_4 (dk_at dksX2_addTest_1 0 rfl rfl)
theorem dX2_addTest_25 : decode cX2_addTest 25 = .ok (.goto 4, 3) := dk_167 0 4 (dk_at dksX2_addTest_1 1 rfl rfl)
theorem dX2_addTest_28 : decode cX2_addTest 28 = .ok (.iconst 0, 1) := dk_3 (dk_at dksX2_addTest_1 4 rfl rfl)
theorem dX2_addTest_29 : decode cX2_addTest 29 = .ok (.invokestatic 162, 3) := dk_184 0 162 (dk_at dksX2_addTest_1 5 rfl rfl)
theorem dX2_addTest_32 : decode cX2_addTest 32 = .ok (.aload_n 0, 1) := dk_42 (dk_at dksX2_addTest_1 8 rfl rfl)
theorem dX2_addTest_33 : decode cX2_addTest 33 = .ok (.getfield 37, 3) := dk_180 0 37 (dk_at dksX2_addTest_1 9 rfl rfl)
theorem dX2_addTest_36 : decode cX2_addTest 36 = .ok (.invokevirtual 135, 3) := dk_182 0 135 (dk_at dksX2_addTest_1 12 rfl rfl)
theorem dX2_addTest_39 : decode cX2_addTest 39 = .ok (.bipush 10, 2) := dk_16 10 (dk_at dksX2_addTest_1 15 rfl rfl)
theorem dX2_addTest_41 : decode cX2_addTest 41 = .ok (.if_icmp .ge 15, 3) := dk_162 0 15 (dk_at dksX2_addTest_1 17 rfl rfl)
theorem dX2_addTest_44 : decode cX2_addTest 44 = .ok (.aload_n 0, 1) := dk_42 (dk_at dksX2_addTest_1 20 rfl rfl)
theorem dX2_addTest_45 : decode cX2_addTest 45 = .ok (.iload_n 1, 1) := dk_27 (dk_at dksX2_addTest_1 21 rfl rfl)
theorem dX2_addTest_46 : decode cX2_addTest 46 = .ok (.invokevirtual 187, 3) := dk_182 0 187 (dk_at dksX2_addTest_2 0 rfl rfl)
theorem dX2_addTest_49 : decode cX2_addTest 49 = .ok (.ifCond .ne 7, 3) := dk_154 0 7 (dk_at dksX2_addTest_2 3 rfl rfl)
theorem dX2_addTest_52 : decode cX2_addTest 52 = .ok (.iconst 1, 1) := dk_4 (dk_at dksX2_addTest_2 6 rfl rfl)
theorem dX2_addTest_53 : decode cX2_addTest 53 = .ok (.goto 4, 3) := dk_167 0 4 (dk_at dksX2_addTest_2 7 rfl rfl)
theorem dX2_addTest_56 : decode cX2_addTest 56 = .ok (.iconst 0, 1) := dk_3 (dk_at dksX2_addTest_2 10 rfl rfl)
theorem dX2_addTest_57 : decode cX2_addTest 57 = .ok (.invokestatic 165, 3) := dk_184 0 165 (dk_at dksX2_addTest_2 11 rfl rfl)
theorem dX2_addTest_60 : decode cX2_addTest 60 = .ok (.aload_n 0, 1) := dk_42 (dk_at dksX2_addTest_2 14 rfl rfl)
theorem dX2_addTest_61 : decode cX2_addTest 61 = .ok (.getfield 41, 3) := dk_180 0 41 (dk_at dksX2_addTest_2 15 rfl rfl)
theorem dX2_addTest_64 : decode cX2_addTest 64 = .ok (.invokevirtual 135, 3) := dk_182 0 135 (dk_at dksX2_addTest_2 18 rfl rfl)
theorem dX2_addTest_67 : decode cX2_addTest 67 = .ok (.newarray .int, 2) := dk_188_10 (dk_at dksX2_addTest_2 21 rfl rfl)
theorem dX2_addTest_69 : decode cX2_addTest 69 = .ok (.astore_n 3, 1) := dk_78 (dk_at dksX2_addTest_2 23 rfl rfl)
theorem dX2_addTest_70 : decode cX2_addTest 70 = .ok (.iconst 0, 1) := dk_3 (dk_at dksX2_addTest_3 0 rfl rfl)
theorem dX2_addTest_71 : decode cX2_addTest 71 = .ok (.istore 4, 2) := dk_54 4 (dk_at dksX2_addTest_3 1 rfl rfl)
theorem dX2_addTest_73 : decode cX2_addTest 73 = .ok (.iload 4, 2) := dk_21 4 (dk_at dksX2_addTest_3 3 rfl rfl)
theorem dX2_addTest_75 : decode cX2_addTest 75 = .ok (.aload_n 3, 1) := dk_45 (dk_at dksX2_addTest_3 5 rfl rfl)
theorem dX2_addTest_76 : decode cX2_addTest 76 = .ok (.arraylength, 1) := dk_190 (dk_at dksX2_addTest_3 6 rfl rfl)
theorem dX2_addTest_77 : decode cX2_addTest 77 = .ok (.if_icmp .ge 29, 3) := dk_162 0 29 (dk_at dksX2_addTest_3 7 rfl rfl)
theorem dX2_addTest_80 : decode cX2_addTest 80 = .ok (.aload_n 3, 1) := dk_45 (dk_at dksX2_addTest_3 10 rfl rfl)
theorem dX2_addTest_81 : decode cX2_addTest 81 = .ok (.iload 4, 2) := dk_21 4 (dk_at dksX2_addTest_3 11 rfl rfl)
theorem dX2_addTest_83 : decode cX2_addTest 83 = .ok (.aload_n 0, 1) := dk_42 (dk_at dksX2_addTest_3 13 rfl rfl)
theorem dX2_addTest_84 : decode cX2_addTest 84 = .ok (.aload_n 0, 1) := dk_42 (dk_at dksX2_addTest_3 14 rfl rfl)
theorem dX2_addTest_85 : decode cX2_addTest 85 = .ok (.getfield 41, 3) := dk_180 0 41 (dk_at dksX2_addTest_3 15 rfl rfl)
theorem dX2_addTest_88 : decode cX2_addTest 88 = .ok (.iload 4, 2) := dk_21 4 (dk_at dksX2_addTest_3 18 rfl rfl)
theorem dX2_addTest_90 : decode cX2_addTest 90 = .ok (.invokevirtual 75, 3) := dk_182 0 75 (dk_at dksX2_addTest_3 20 rfl rfl)
theorem dX2_addTest_93 : decode cX2_addTest 93 = .ok (.checkcast 85, 3) := dk_192 0 85 (dk_at dksX2_addTest_4 0 rfl rfl)
theorem dX2_addTest_96 : decode cX2_addTest 96 = .ok (.invokevirtual 118, 3) := dk_182 0 118 (dk_at dksX2_addTest_4 3 rfl rfl)
theorem dX2_addTest_99 : decode cX2_addTest 99 = .ok (.iastore, 1) := dk_79 (dk_at dksX2_addTest_4 6 rfl rfl)
theorem dX2_addTest_100 : decode cX2_addTest 100 = .ok (.iinc 4 1, 3) := dk_132 4 1 (dk_at dksX2_addTest_4 7 rfl rfl)
theorem dX2_addTest_103 : decode cX2_addTest 103 = .ok (.goto (-30), 3) := dk_167 255 226 (dk_at dksX2_addTest_4 10 rfl rfl)
theorem dX2_addTest_106 : decode cX2_addTest 106 = .ok (.aload_n 0, 1) := dk_42 (dk_at dksX2_addTest_4 13 rfl rfl)
theorem dX2_addTest_107 : decode cX2_addTest 107 = .ok (.getfield 37, 3) := dk_180 0 37 (dk_at dksX2_addTest_4 14 rfl rfl)
theorem dX2_addTest_110 : decode cX2_addTest 110 = .ok (.new 79, 3) := dk_187 0 79 (dk_at dksX2_addTest_4 17 rfl rfl)
theorem dX2_addTest_113 : decode cX2_addTest 113 = .ok (.dup, 1) := dk_89 (dk_at dksX2_addTest_4 20 rfl rfl)
theorem dX2_addTest_114 : decode cX2_addTest 114 = .ok (.iload_n 1, 1) := dk_27 (dk_at dksX2_addTest_4 21 rfl rfl)
theorem dX2_addTest_115 : decode cX2_addTest 115 = .ok (.iload_n 2, 1) := dk_28 (dk_at dksX2_addTest_4 22 rfl rfl)
theorem dX2_addTest_116 : decode cX2_addTest 116 = .ok (.invokespecial 191, 3) := dk_183 0 191 (dk_at dksX2_addTest_5 0 rfl rfl)
theorem dX2_addTest_119 : decode cX2_addTest 119 = .ok (.invokevirtual 154, 3) := dk_182 0 154 (dk_at dksX2_addTest_5 3 rfl rfl)
theorem dX2_addTest_122 : decode cX2_addTest 122 = .ok (.aload_n 0, 1) := dk_42 (dk_at dksX2_addTest_5 6 rfl rfl)
theorem dX2_addTest_123 : decode cX2_addTest 123 = .ok (.iload_n 1, 1) := dk_27 (dk_at dksX2_addTest_5 7 rfl rfl)
theorem dX2_addTest_124 : decode cX2_addTest 124 = .ok (.invokevirtual 148, 3) := dk_182 0 148 (dk_at dksX2_addTest_5 8 rfl rfl)
theorem dX2_addTest_127 : decode cX2_addTest 127 = .ok (.iconst 0, 1) := dk_3 (dk_at dksX2_addTest_5 11 rfl rfl)
theorem dX2_addTest_128 : decode cX2_addTest 128 = .ok (.istore 4, 2) := dk_54 4 (dk_at dksX2_addTest_5 12 rfl rfl)
theorem dX2_addTest_130 : decode cX2_addTest 130 = .ok (.iconst 0, 1) := dk_3 (dk_at dksX2_addTest_5 14 rfl rfl)
theorem dX2_addTest_131 : decode cX2_addTest 131 = .ok (.istore 5, 2) := dk_54 5 (dk_at dksX2_addTest_5 15 rfl rfl)
theorem dX2_addTest_133 : decode cX2_addTest 133 = .ok (.iload 5, 2) := dk_21 5 (dk_at dksX2_addTest_5 17 rfl rfl)
theorem dX2_addTest_135 : decode cX2_addTest 135 = .ok (.aload_n 3, 1) := dk_45 (dk_at dksX2_addTest_5 19 rfl rfl)
theorem dX2_addTest_136 : decode cX2_addTest 136 = .ok (.arraylength, 1) := dk_190 (dk_at dksX2_addTest_5 20 rfl rfl)
theorem dX2_addTest_137 : decode cX2_addTest 137 = .ok (.if_icmp .ge 42, 3) := dk_162 0 42 (dk_at dksX2_addTest_5 21 rfl rfl)
theorem dX2_addTest_140 : decode cX2_addTest 140 = .ok (.iload 4, 2) := dk_21 4 (dk_at dksX2_addTest_6 0 rfl rfl)
theorem dX2_addTest_142 : decode cX2_addTest 142 = .ok (.aload_n 0, 1) := dk_42 (dk_at dksX2_addTest_6 2 rfl rfl)
theorem dX2_addTest_143 : decode cX2_addTest 143 = .ok (.aload_n 0, 1) := dk_42 (dk_at dksX2_addTest_6 3 rfl rfl)
theorem dX2_addTest_144 : decode cX2_addTest 144 = .ok (.getfield 41, 3) := dk_180 0 41 (dk_at dksX2_addTest_6 4 rfl rfl)
theorem dX2_addTest_147 : decode cX2_addTest 147 = .ok (.iload 5, 2) := dk_21 5 (dk_at dksX2_addTest_6 7 rfl rfl)
theorem dX2_addTest_149 : decode cX2_addTest 149 = .ok (.invokevirtual 75, 3) := dk_182 0 75 (dk_at dksX2_addTest_6 9 rfl rfl)
theorem dX2_addTest_152 : decode cX2_addTest 152 = .ok (.checkcast 85, 3) := dk_192 0 85 (dk_at dksX2_addTest_6 12 rfl rfl)
theorem dX2_addTest_155 : decode cX2_addTest 155 = .ok (.invokevirtual 118, 3) := dk_182 0 118 (dk_at dksX2_addTest_6 15 rfl rfl)
theorem dX2_addTest_158 : decode cX2_addTest 158 = .ok (.aload_n 3, 1) := dk_45 (dk_at dksX2_addTest_6 18 rfl rfl)
theorem dX2_addTest_159 : decode cX2_addTest 159 = .ok (.iload 5, 2) := dk_21 5 (dk_at dksX2_addTest_6 19 rfl rfl)
theorem dX2_addTest_161 : decode cX2_addTest 161 = .ok (.iaload, 1) := dk_46 (dk_at dksX2_addTest_6 21 rfl rfl)
theorem dX2_addTest_162 : decode cX2_addTest 162 = .ok (.if_icmp .ne 7, 3) := dk_160 0 7 (dk_at dksX2_addTest_7 0 rfl rfl)
theorem dX2_addTest_165 : decode cX2_addTest 165 = .ok (.iconst 0, 1) := dk_3 (dk_at dksX2_addTest_7 3 rfl rfl)
theorem dX2_addTest_166 : decode cX2_addTest 166 = .ok (.goto 4, 3) := dk_167 0 4 (dk_at dksX2_addTest_7 4 rfl rfl)
theorem dX2_addTest_169 : decode cX2_addTest 169 = .ok (.iconst 1, 1) := dk_4 (dk_at dksX2_addTest_7 7 rfl rfl)
theorem dX2_addTest_170 : decode cX2_addTest 170 = .ok (.iadd, 1) := dk_96 (dk_at dksX2_addTest_7 8 rfl rfl)
theorem dX2_addTest_171 : decode cX2_addTest 171 = .ok (.istore 4, 2) := dk_54 4 (dk_at dksX2_addTest_7 9 rfl rfl)
theorem dX2_addTest_173 : decode cX2_addTest 173 = .ok (.iinc 5 1, 3) := dk_132 5 1 (dk_at dksX2_addTest_7 11 rfl rfl)
theorem dX2_addTest_176 : decode cX2_addTest 176 = .ok (.goto (-43), 3) := dk_167 255 213 (dk_at dksX2_addTest_7 14 rfl rfl)
theorem dX2_addTest_179 : decode cX2_addTest 179 = .ok (.iload 4, 2) := dk_21 4 (dk_at dksX2_addTest_7 17 rfl rfl)
theorem dX2_addTest_181 : decode cX2_addTest 181 = .ok (.ireturn, 1) := dk_172 (dk_at dksX2_addTest_7 19 rfl rfl)
abbrev cX2_hasTestOn : ByteArray := prog_2_method_24_code
def yX2_hasTestOn : MethodName := ⟨RX2, "hasTestOn", "(I)Z"⟩
def dkwX2_hasTestOn_1 : List UInt8 := [192, 0, 79, 182, 0, 186, 27, 160, 0, 7, 4, 167, 0, 4, 3, 172]
abbrev dktX2_hasTestOn_1 : List UInt8 := dkwX2_hasTestOn_1 ++ []
def dkwX2_hasTestOn_0 : List UInt8 := [42, 180, 0, 37, 27, 184, 0, 71, 61, 28, 2, 159, 0, 25, 42, 180, 0, 37, 28, 182, 0, 75]
abbrev dktX2_hasTestOn_0 : List UInt8 := dkwX2_hasTestOn_0 ++ dktX2_hasTestOn_1
theorem dksX2_hasTestOn_0 : cX2_hasTestOn.data.toList.drop 0 = dktX2_hasTestOn_0 := by decide +kernel
theorem dksX2_hasTestOn_1 : cX2_hasTestOn.data.toList.drop 22 = dktX2_hasTestOn_1 := dk_seg dksX2_hasTestOn_0 22 rfl rfl
theorem dX2_hasTestOn_0 : decode cX2_hasTestOn 0 = .ok (.aload_n 0, 1) := dk_42 (dk_at dksX2_hasTestOn_0 0 rfl rfl)
theorem dX2_hasTestOn_1 : decode cX2_hasTestOn 1 = .ok (.getfield 37, 3) := dk_180 0 37 (dk_at dksX2_hasTestOn_0 1 rfl rfl)
theorem dX2_hasTestOn_4 : decode cX2_hasTestOn 4 = .ok (.iload_n 1, 1) := dk_27 (dk_at dksX2_hasTestOn_0 4 rfl rfl)
theorem dX2_hasTestOn_5 : decode cX2_hasTestOn 5 = .ok (.invokestatic 71, 3) := dk_184 0 71 (dk_at dksX2_hasTestOn_0 5 rfl rfl)
theorem dX2_hasTestOn_8 : decode cX2_hasTestOn 8 = .ok (.istore_n 2, 1) := dk_61 (dk_at dksX2_hasTestOn_0 8 rfl rfl)
theorem dX2_hasTestOn_9 : decode cX2_hasTestOn 9 = .ok (.iload_n 2, 1) := dk_28 (dk_at dksX2_hasTestOn_0 9 rfl rfl)
theorem dX2_hasTestOn_10 : decode cX2_hasTestOn 10 = .ok (.iconst (-1), 1) := dk_2 (dk_at dksX2_hasTestOn_0 10 rfl rfl)
theorem dX2_hasTestOn_11 : decode cX2_hasTestOn 11 = .ok (.if_icmp .eq 25, 3) := dk_159 0 25 (dk_at dksX2_hasTestOn_0 11 rfl rfl)
theorem dX2_hasTestOn_14 : decode cX2_hasTestOn 14 = .ok (.aload_n 0, 1) := dk_42 (dk_at dksX2_hasTestOn_0 14 rfl rfl)
theorem dX2_hasTestOn_15 : decode cX2_hasTestOn 15 = .ok (.getfield 37, 3) := dk_180 0 37 (dk_at dksX2_hasTestOn_0 15 rfl rfl)
theorem dX2_hasTestOn_18 : decode cX2_hasTestOn 18 = .ok (.iload_n 2, 1) := dk_28 (dk_at dksX2_hasTestOn_0 18 rfl rfl)
theorem dX2_hasTestOn_19 : decode cX2_hasTestOn 19 = .ok (.invokevirtual 75, 3) := dk_182 0 75 (dk_at dksX2_hasTestOn_0 19 rfl rfl)
theorem dX2_hasTestOn_22 : decode cX2_hasTestOn 22 = .ok (.checkcast 79, 3) := dk_192 0 79 (dk_at dksX2_hasTestOn_1 0 rfl rfl)
theorem dX2_hasTestOn_25 : decode cX2_hasTestOn 25 = .ok (.invokevirtual 186, 3) := dk_182 0 186 (dk_at dksX2_hasTestOn_1 3 rfl rfl)
theorem dX2_hasTestOn_28 : decode cX2_hasTestOn 28 = .ok (.iload_n 1, 1) := dk_27 (dk_at dksX2_hasTestOn_1 6 rfl rfl)
theorem dX2_hasTestOn_29 : decode cX2_hasTestOn 29 = .ok (.if_icmp .ne 7, 3) := dk_160 0 7 (dk_at dksX2_hasTestOn_1 7 rfl rfl)
theorem dX2_hasTestOn_32 : decode cX2_hasTestOn 32 = .ok (.iconst 1, 1) := dk_4 (dk_at dksX2_hasTestOn_1 10 rfl rfl)
theorem dX2_hasTestOn_33 : decode cX2_hasTestOn 33 = .ok (.goto 4, 3) := dk_167 0 4 (dk_at dksX2_hasTestOn_1 11 rfl rfl)
theorem dX2_hasTestOn_36 : decode cX2_hasTestOn 36 = .ok (.iconst 0, 1) := dk_3 (dk_at dksX2_hasTestOn_1 14 rfl rfl)
theorem dX2_hasTestOn_37 : decode cX2_hasTestOn 37 = .ok (.ireturn, 1) := dk_172 (dk_at dksX2_hasTestOn_1 15 rfl rfl)
abbrev cX2_forgetFrom : ByteArray := prog_2_method_3_code
def yX2_forgetFrom : MethodName := ⟨RX2, "forgetFrom", "(I)V"⟩
def dkwX2_forgetFrom_0 : List UInt8 := [42, 42, 180, 0, 62, 27, 184, 0, 65, 181, 0, 62, 177]
abbrev dktX2_forgetFrom_0 : List UInt8 := dkwX2_forgetFrom_0 ++ []
theorem dksX2_forgetFrom_0 : cX2_forgetFrom.data.toList.drop 0 = dktX2_forgetFrom_0 := by decide +kernel
theorem dX2_forgetFrom_0 : decode cX2_forgetFrom 0 = .ok (.aload_n 0, 1) := dk_42 (dk_at dksX2_forgetFrom_0 0 rfl rfl)
theorem dX2_forgetFrom_1 : decode cX2_forgetFrom 1 = .ok (.aload_n 0, 1) := dk_42 (dk_at dksX2_forgetFrom_0 1 rfl rfl)
theorem dX2_forgetFrom_2 : decode cX2_forgetFrom 2 = .ok (.getfield 62, 3) := dk_180 0 62 (dk_at dksX2_forgetFrom_0 2 rfl rfl)
theorem dX2_forgetFrom_5 : decode cX2_forgetFrom 5 = .ok (.iload_n 1, 1) := dk_27 (dk_at dksX2_forgetFrom_0 5 rfl rfl)
theorem dX2_forgetFrom_6 : decode cX2_forgetFrom 6 = .ok (.invokestatic 65, 3) := dk_184 0 65 (dk_at dksX2_forgetFrom_0 6 rfl rfl)
theorem dX2_forgetFrom_9 : decode cX2_forgetFrom 9 = .ok (.putfield 62, 3) := dk_181 0 62 (dk_at dksX2_forgetFrom_0 9 rfl rfl)
theorem dX2_forgetFrom_12 : decode cX2_forgetFrom 12 = .ok (.return_, 1) := dk_177 (dk_at dksX2_forgetFrom_0 12 rfl rfl)
abbrev cX2_removeTest : ByteArray := prog_2_method_26_code
def yX2_removeTest : MethodName := ⟨RX2, "removeTest", "(I)I"⟩
def dkwX2_removeTest_2 : List UInt8 := [172]
abbrev dktX2_removeTest_2 : List UInt8 := dkwX2_removeTest_2 ++ []
def dkwX2_removeTest_1 : List UInt8 := [182, 0, 75, 192, 0, 79, 180, 0, 81, 62, 42, 180, 0, 37, 28, 182, 0, 151, 42, 27, 182, 0, 148, 29]
abbrev dktX2_removeTest_1 : List UInt8 := dkwX2_removeTest_1 ++ dktX2_removeTest_2
def dkwX2_removeTest_0 : List UInt8 := [42, 27, 182, 0, 187, 184, 0, 141, 42, 180, 0, 37, 27, 184, 0, 71, 61, 42, 180, 0, 37, 28]
abbrev dktX2_removeTest_0 : List UInt8 := dkwX2_removeTest_0 ++ dktX2_removeTest_1
theorem dksX2_removeTest_0 : cX2_removeTest.data.toList.drop 0 = dktX2_removeTest_0 := by decide +kernel
theorem dksX2_removeTest_1 : cX2_removeTest.data.toList.drop 22 = dktX2_removeTest_1 := dk_seg dksX2_removeTest_0 22 rfl rfl
theorem dksX2_removeTest_2 : cX2_removeTest.data.toList.drop 46 = dktX2_removeTest_2 := dk_seg dksX2_removeTest_1 24 rfl rfl
theorem dX2_removeTest_0 : decode cX2_removeTest 0 = .ok (.aload_n 0, 1) := dk_42 (dk_at dksX2_removeTest_0 0 rfl rfl)
theorem dX2_removeTest_1 : decode cX2_removeTest 1 = .ok (.iload_n 1, 1) := dk_27 (dk_at dksX2_removeTest_0 1 rfl rfl)
theorem dX2_removeTest_2 : decode cX2_removeTest 2 = .ok (.invokevirtual 187, 3) := dk_182 0 187 (dk_at dksX2_removeTest_0 2 rfl rfl)
theorem dX2_removeTest_5 : decode cX2_removeTest 5 = .ok (.invokestatic 141, 3) := dk_184 0 141 (dk_at dksX2_removeTest_0 5 rfl rfl)
theorem dX2_removeTest_8 : decode cX2_removeTest 8 = .ok (.aload_n 0, 1) := dk_42 (dk_at dksX2_removeTest_0 8 rfl rfl)
theorem dX2_removeTest_9 : decode cX2_removeTest 9 = .ok (.getfield 37, 3) := dk_180 0 37 (dk_at dksX2_removeTest_0 9 rfl rfl)
theorem dX2_removeTest_12 : decode cX2_removeTest 12 = .ok (.iload_n 1, 1) := dk_27 (dk_at dksX2_removeTest_0 12 rfl rfl)
theorem dX2_removeTest_13 : decode cX2_removeTest 13 = .ok (.invokestatic 71, 3) := dk_184 0 71 (dk_at dksX2_removeTest_0 13 rfl rfl)
theorem dX2_removeTest_16 : decode cX2_removeTest 16 = .ok (.istore_n 2, 1) := dk_61 (dk_at dksX2_removeTest_0 16 rfl rfl)
theorem dX2_removeTest_17 : decode cX2_removeTest 17 = .ok (.aload_n 0, 1) := dk_42 (dk_at dksX2_removeTest_0 17 rfl rfl)
theorem dX2_removeTest_18 : decode cX2_removeTest 18 = .ok (.getfield 37, 3) := dk_180 0 37 (dk_at dksX2_removeTest_0 18 rfl rfl)
theorem dX2_removeTest_21 : decode cX2_removeTest 21 = .ok (.iload_n 2, 1) := dk_28 (dk_at dksX2_removeTest_0 21 rfl rfl)
theorem dX2_removeTest_22 : decode cX2_removeTest 22 = .ok (.invokevirtual 75, 3) := dk_182 0 75 (dk_at dksX2_removeTest_1 0 rfl rfl)
theorem dX2_removeTest_25 : decode cX2_removeTest 25 = .ok (.checkcast 79, 3) := dk_192 0 79 (dk_at dksX2_removeTest_1 3 rfl rfl)
theorem dX2_removeTest_28 : decode cX2_removeTest 28 = .ok (.getfield 81, 3) := dk_180 0 81 (dk_at dksX2_removeTest_1 6 rfl rfl)
theorem dX2_removeTest_31 : decode cX2_removeTest 31 = .ok (.istore_n 3, 1) := dk_62 (dk_at dksX2_removeTest_1 9 rfl rfl)
theorem dX2_removeTest_32 : decode cX2_removeTest 32 = .ok (.aload_n 0, 1) := dk_42 (dk_at dksX2_removeTest_1 10 rfl rfl)
theorem dX2_removeTest_33 : decode cX2_removeTest 33 = .ok (.getfield 37, 3) := dk_180 0 37 (dk_at dksX2_removeTest_1 11 rfl rfl)
theorem dX2_removeTest_36 : decode cX2_removeTest 36 = .ok (.iload_n 2, 1) := dk_28 (dk_at dksX2_removeTest_1 14 rfl rfl)
theorem dX2_removeTest_37 : decode cX2_removeTest 37 = .ok (.invokevirtual 151, 3) := dk_182 0 151 (dk_at dksX2_removeTest_1 15 rfl rfl)
theorem dX2_removeTest_40 : decode cX2_removeTest 40 = .ok (.aload_n 0, 1) := dk_42 (dk_at dksX2_removeTest_1 18 rfl rfl)
theorem dX2_removeTest_41 : decode cX2_removeTest 41 = .ok (.iload_n 1, 1) := dk_27 (dk_at dksX2_removeTest_1 19 rfl rfl)
theorem dX2_removeTest_42 : decode cX2_removeTest 42 = .ok (.invokevirtual 148, 3) := dk_182 0 148 (dk_at dksX2_removeTest_1 20 rfl rfl)
theorem dX2_removeTest_45 : decode cX2_removeTest 45 = .ok (.iload_n 3, 1) := dk_29 (dk_at dksX2_removeTest_1 23 rfl rfl)
theorem dX2_removeTest_46 : decode cX2_removeTest 46 = .ok (.ireturn, 1) := dk_172 (dk_at dksX2_removeTest_2 0 rfl rfl)
abbrev cX2_setBound : ByteArray := prog_2_method_27_code
def yX2_setBound : MethodName := ⟨RX2, "setBound", "(II)I"⟩
def dkwX2_setBound_4 : List UInt8 := [28, 79, 42, 3, 182, 0, 148, 21, 4, 172]
abbrev dktX2_setBound_4 : List UInt8 := dkwX2_setBound_4 ++ []
def dkwX2_setBound_3 : List UInt8 := [164, 0, 7, 4, 167, 0, 4, 3, 184, 0, 165, 42, 180, 0, 9, 27, 46, 54, 4, 42, 180, 0, 9, 27]
abbrev dktX2_setBound_3 : List UInt8 := dkwX2_setBound_3 ++ dktX2_setBound_4
def dkwX2_setBound_2 : List UInt8 := [167, 0, 4, 3, 62, 29, 153, 0, 24, 27, 5, 159, 0, 15, 28, 42, 180, 0, 9, 27, 4, 100, 46]
abbrev dktX2_setBound_2 : List UInt8 := dkwX2_setBound_2 ++ dktX2_setBound_3
def dkwX2_setBound_1 : List UInt8 := [3, 184, 0, 162, 27, 8, 159, 0, 15, 28, 42, 180, 0, 9, 27, 4, 96, 46, 162, 0, 7, 4]
abbrev dktX2_setBound_1 : List UInt8 := dkwX2_setBound_1 ++ dktX2_setBound_2
def dkwX2_setBound_0 : List UInt8 := [27, 5, 8, 184, 0, 158, 153, 0, 18, 28, 4, 17, 1, 44, 184, 0, 158, 153, 0, 7, 4, 167, 0, 4]
abbrev dktX2_setBound_0 : List UInt8 := dkwX2_setBound_0 ++ dktX2_setBound_1
theorem dksX2_setBound_0 : cX2_setBound.data.toList.drop 0 = dktX2_setBound_0 := by decide +kernel
theorem dksX2_setBound_1 : cX2_setBound.data.toList.drop 24 = dktX2_setBound_1 := dk_seg dksX2_setBound_0 24 rfl rfl
theorem dksX2_setBound_2 : cX2_setBound.data.toList.drop 46 = dktX2_setBound_2 := dk_seg dksX2_setBound_1 22 rfl rfl
theorem dksX2_setBound_3 : cX2_setBound.data.toList.drop 69 = dktX2_setBound_3 := dk_seg dksX2_setBound_2 23 rfl rfl
theorem dksX2_setBound_4 : cX2_setBound.data.toList.drop 93 = dktX2_setBound_4 := dk_seg dksX2_setBound_3 24 rfl rfl
theorem dX2_setBound_0 : decode cX2_setBound 0 = .ok (.iload_n 1, 1) := dk_27 (dk_at dksX2_setBound_0 0 rfl rfl)
theorem dX2_setBound_1 : decode cX2_setBound 1 = .ok (.iconst 2, 1) := dk_5 (dk_at dksX2_setBound_0 1 rfl rfl)
theorem dX2_setBound_2 : decode cX2_setBound 2 = .ok (.iconst 5, 1) := dk_8 (dk_at dksX2_setBound_0 2 rfl rfl)
theorem dX2_setBound_3 : decode cX2_setBound 3 = .ok (.invokestatic 158, 3) := dk_184 0 158 (dk_at dksX2_setBound_0 3 rfl rfl)
theorem dX2_setBound_6 : decode cX2_setBound 6 = .ok (.ifCond .eq 18, 3) := dk_153 0 18 (dk_at dksX2_setBound_0 6 rfl rfl)
theorem dX2_setBound_9 : decode cX2_setBound 9 = .ok (.iload_n 2, 1) := dk_28 (dk_at dksX2_setBound_0 9 rfl rfl)
theorem dX2_setBound_10 : decode cX2_setBound 10 = .ok (.iconst 1, 1) := dk_4 (dk_at dksX2_setBound_0 10 rfl rfl)
theorem dX2_setBound_11 : decode cX2_setBound 11 = .ok (.sipush 300, 3) := dk_17 1 44 (dk_at dksX2_setBound_0 11 rfl rfl)
theorem dX2_setBound_14 : decode cX2_setBound 14 = .ok (.invokestatic 158, 3) := dk_184 0 158 (dk_at dksX2_setBound_0 14 rfl rfl)
theorem dX2_setBound_17 : decode cX2_setBound 17 = .ok (.ifCond .eq 7, 3) := dk_153 0 7 (dk_at dksX2_setBound_0 17 rfl rfl)
theorem dX2_setBound_20 : decode cX2_setBound 20 = .ok (.iconst 1, 1) := dk_4 (dk_at dksX2_setBound_0 20 rfl rfl)
theorem dX2_setBound_21 : decode cX2_setBound 21 = .ok (.goto 4, 3) := dk_167 0 4 (dk_at dksX2_setBound_0 21 rfl rfl)
theorem dX2_setBound_24 : decode cX2_setBound 24 = .ok (.iconst 0, 1) := dk_3 (dk_at dksX2_setBound_1 0 rfl rfl)
theorem dX2_setBound_25 : decode cX2_setBound 25 = .ok (.invokestatic 162, 3) := dk_184 0 162 (dk_at dksX2_setBound_1 1 rfl rfl)
theorem dX2_setBound_28 : decode cX2_setBound 28 = .ok (.iload_n 1, 1) := dk_27 (dk_at dksX2_setBound_1 4 rfl rfl)
theorem dX2_setBound_29 : decode cX2_setBound 29 = .ok (.iconst 5, 1) := dk_8 (dk_at dksX2_setBound_1 5 rfl rfl)
theorem dX2_setBound_30 : decode cX2_setBound 30 = .ok (.if_icmp .eq 15, 3) := dk_159 0 15 (dk_at dksX2_setBound_1 6 rfl rfl)
theorem dX2_setBound_33 : decode cX2_setBound 33 = .ok (.iload_n 2, 1) := dk_28 (dk_at dksX2_setBound_1 9 rfl rfl)
theorem dX2_setBound_34 : decode cX2_setBound 34 = .ok (.aload_n 0, 1) := dk_42 (dk_at dksX2_setBound_1 10 rfl rfl)
theorem dX2_setBound_35 : decode cX2_setBound 35 = .ok (.getfield 9, 3) := dk_180 0 9 (dk_at dksX2_setBound_1 11 rfl rfl)
theorem dX2_setBound_38 : decode cX2_setBound 38 = .ok (.iload_n 1, 1) := dk_27 (dk_at dksX2_setBound_1 14 rfl rfl)
theorem dX2_setBound_39 : decode cX2_setBound 39 = .ok (.iconst 1, 1) := dk_4 (dk_at dksX2_setBound_1 15 rfl rfl)
theorem dX2_setBound_40 : decode cX2_setBound 40 = .ok (.iadd, 1) := dk_96 (dk_at dksX2_setBound_1 16 rfl rfl)
theorem dX2_setBound_41 : decode cX2_setBound 41 = .ok (.iaload, 1) := dk_46 (dk_at dksX2_setBound_1 17 rfl rfl)
theorem dX2_setBound_42 : decode cX2_setBound 42 = .ok (.if_icmp .ge 7, 3) := dk_162 0 7 (dk_at dksX2_setBound_1 18 rfl rfl)
theorem dX2_setBound_45 : decode cX2_setBound 45 = .ok (.iconst 1, 1) := dk_4 (dk_at dksX2_setBound_1 21 rfl rfl)
theorem dX2_setBound_46 : decode cX2_setBound 46 = .ok (.goto 4, 3) := dk_167 0 4 (dk_at dksX2_setBound_2 0 rfl rfl)
theorem dX2_setBound_49 : decode cX2_setBound 49 = .ok (.iconst 0, 1) := dk_3 (dk_at dksX2_setBound_2 3 rfl rfl)
theorem dX2_setBound_50 : decode cX2_setBound 50 = .ok (.istore_n 3, 1) := dk_62 (dk_at dksX2_setBound_2 4 rfl rfl)
theorem dX2_setBound_51 : decode cX2_setBound 51 = .ok (.iload_n 3, 1) := dk_29 (dk_at dksX2_setBound_2 5 rfl rfl)
theorem dX2_setBound_52 : decode cX2_setBound 52 = .ok (.ifCond .eq 24, 3) := dk_153 0 24 (dk_at dksX2_setBound_2 6 rfl rfl)
theorem dX2_setBound_55 : decode cX2_setBound 55 = .ok (.iload_n 1, 1) := dk_27 (dk_at dksX2_setBound_2 9 rfl rfl)
theorem dX2_setBound_56 : decode cX2_setBound 56 = .ok (.iconst 2, 1) := dk_5 (dk_at dksX2_setBound_2 10 rfl rfl)
theorem dX2_setBound_57 : decode cX2_setBound 57 = .ok (.if_icmp .eq 15, 3) := dk_159 0 15 (dk_at dksX2_setBound_2 11 rfl rfl)
theorem dX2_setBound_60 : decode cX2_setBound 60 = .ok (.iload_n 2, 1) := dk_28 (dk_at dksX2_setBound_2 14 rfl rfl)
theorem dX2_setBound_61 : decode cX2_setBound 61 = .ok (.aload_n 0, 1) := dk_42 (dk_at dksX2_setBound_2 15 rfl rfl)
theorem dX2_setBound_62 : decode cX2_setBound 62 = .ok (.getfield 9, 3) := dk_180 0 9 (dk_at dksX2_setBound_2 16 rfl rfl)
theorem dX2_setBound_65 : decode cX2_setBound 65 = .ok (.iload_n 1, 1) := dk_27 (dk_at dksX2_setBound_2 19 rfl rfl)
theorem dX2_setBound_66 : decode cX2_setBound 66 = .ok (.iconst 1, 1) := dk_4 (dk_at dksX2_setBound_2 20 rfl rfl)
theorem dX2_setBound_67 : decode cX2_setBound 67 = .ok (.isub, 1) := dk_100 (dk_at dksX2_setBound_2 21 rfl rfl)
theorem dX2_setBound_68 : decode cX2_setBound 68 = .ok (.iaload, 1) := dk_46 (dk_at dksX2_setBound_2 22 rfl rfl)
theorem dX2_setBound_69 : decode cX2_setBound 69 = .ok (.if_icmp .le 7, 3) := dk_164 0 7 (dk_at dksX2_setBound_3 0 rfl rfl)
theorem dX2_setBound_72 : decode cX2_setBound 72 = .ok (.iconst 1, 1) := dk_4 (dk_at dksX2_setBound_3 3 rfl rfl)
theorem dX2_setBound_73 : decode cX2_setBound 73 = .ok (.goto 4, 3) := dk_167 0 4 (dk_at dksX2_setBound_3 4 rfl rfl)
theorem dX2_setBound_76 : decode cX2_setBound 76 = .ok (.iconst 0, 1) := dk_3 (dk_at dksX2_setBound_3 7 rfl rfl)
theorem dX2_setBound_77 : decode cX2_setBound 77 = .ok (.invokestatic 165, 3) := dk_184 0 165 (dk_at dksX2_setBound_3 8 rfl rfl)
theorem dX2_setBound_80 : decode cX2_setBound 80 = .ok (.aload_n 0, 1) := dk_42 (dk_at dksX2_setBound_3 11 rfl rfl)
theorem dX2_setBound_81 : decode cX2_setBound 81 = .ok (.getfield 9, 3) := dk_180 0 9 (dk_at dksX2_setBound_3 12 rfl rfl)
theorem dX2_setBound_84 : decode cX2_setBound 84 = .ok (.iload_n 1, 1) := dk_27 (dk_at dksX2_setBound_3 15 rfl rfl)
theorem dX2_setBound_85 : decode cX2_setBound 85 = .ok (.iaload, 1) := dk_46 (dk_at dksX2_setBound_3 16 rfl rfl)
theorem dX2_setBound_86 : decode cX2_setBound 86 = .ok (.istore 4, 2) := dk_54 4 (dk_at dksX2_setBound_3 17 rfl rfl)
theorem dX2_setBound_88 : decode cX2_setBound 88 = .ok (.aload_n 0, 1) := dk_42 (dk_at dksX2_setBound_3 19 rfl rfl)
theorem dX2_setBound_89 : decode cX2_setBound 89 = .ok (.getfield 9, 3) := dk_180 0 9 (dk_at dksX2_setBound_3 20 rfl rfl)
theorem dX2_setBound_92 : decode cX2_setBound 92 = .ok (.iload_n 1, 1) := dk_27 (dk_at dksX2_setBound_3 23 rfl rfl)
theorem dX2_setBound_93 : decode cX2_setBound 93 = .ok (.iload_n 2, 1) := dk_28 (dk_at dksX2_setBound_4 0 rfl rfl)
theorem dX2_setBound_94 : decode cX2_setBound 94 = .ok (.iastore, 1) := dk_79 (dk_at dksX2_setBound_4 1 rfl rfl)
theorem dX2_setBound_95 : decode cX2_setBound 95 = .ok (.aload_n 0, 1) := dk_42 (dk_at dksX2_setBound_4 2 rfl rfl)
theorem dX2_setBound_96 : decode cX2_setBound 96 = .ok (.iconst 0, 1) := dk_3 (dk_at dksX2_setBound_4 3 rfl rfl)
theorem dX2_setBound_97 : decode cX2_setBound 97 = .ok (.invokevirtual 148, 3) := dk_182 0 148 (dk_at dksX2_setBound_4 4 rfl rfl)
theorem dX2_setBound_100 : decode cX2_setBound 100 = .ok (.iload 4, 2) := dk_21 4 (dk_at dksX2_setBound_4 7 rfl rfl)
theorem dX2_setBound_102 : decode cX2_setBound 102 = .ok (.ireturn, 1) := dk_172 (dk_at dksX2_setBound_4 9 rfl rfl)
abbrev cX2_setWeight : ByteArray := prog_2_method_28_code
def yX2_setWeight : MethodName := ⟨RX2, "setWeight", "(II)I"⟩
def dkwX2_setWeight_1 : List UInt8 := [184, 0, 162, 42, 180, 0, 15, 27, 46, 62, 42, 180, 0, 15, 27, 28, 79, 42, 3, 182, 0, 148, 29, 172]
abbrev dktX2_setWeight_1 : List UInt8 := dkwX2_setWeight_1 ++ []
def dkwX2_setWeight_0 : List UInt8 := [27, 4, 8, 184, 0, 158, 153, 0, 17, 28, 3, 16, 100, 184, 0, 158, 153, 0, 7, 4, 167, 0, 4, 3]
abbrev dktX2_setWeight_0 : List UInt8 := dkwX2_setWeight_0 ++ dktX2_setWeight_1
theorem dksX2_setWeight_0 : cX2_setWeight.data.toList.drop 0 = dktX2_setWeight_0 := by decide +kernel
theorem dksX2_setWeight_1 : cX2_setWeight.data.toList.drop 24 = dktX2_setWeight_1 := dk_seg dksX2_setWeight_0 24 rfl rfl
theorem dX2_setWeight_0 : decode cX2_setWeight 0 = .ok (.iload_n 1, 1) := dk_27 (dk_at dksX2_setWeight_0 0 rfl rfl)
theorem dX2_setWeight_1 : decode cX2_setWeight 1 = .ok (.iconst 1, 1) := dk_4 (dk_at dksX2_setWeight_0 1 rfl rfl)
theorem dX2_setWeight_2 : decode cX2_setWeight 2 = .ok (.iconst 5, 1) := dk_8 (dk_at dksX2_setWeight_0 2 rfl rfl)
theorem dX2_setWeight_3 : decode cX2_setWeight 3 = .ok (.invokestatic 158, 3) := dk_184 0 158 (dk_at dksX2_setWeight_0 3 rfl rfl)
theorem dX2_setWeight_6 : decode cX2_setWeight 6 = .ok (.ifCond .eq 17, 3) := dk_153 0 17 (dk_at dksX2_setWeight_0 6 rfl rfl)
theorem dX2_setWeight_9 : decode cX2_setWeight 9 = .ok (.iload_n 2, 1) := dk_28 (dk_at dksX2_setWeight_0 9 rfl rfl)
theorem dX2_setWeight_10 : decode cX2_setWeight 10 = .ok (.iconst 0, 1) := dk_3 (dk_at dksX2_setWeight_0 10 rfl rfl)
theorem dX2_setWeight_11 : decode cX2_setWeight 11 = .ok (.bipush 100, 2) := dk_16 100 (dk_at dksX2_setWeight_0 11 rfl rfl)
theorem dX2_setWeight_13 : decode cX2_setWeight 13 = .ok (.invokestatic 158, 3) := dk_184 0 158 (dk_at dksX2_setWeight_0 13 rfl rfl)
theorem dX2_setWeight_16 : decode cX2_setWeight 16 = .ok (.ifCond .eq 7, 3) := dk_153 0 7 (dk_at dksX2_setWeight_0 16 rfl rfl)
theorem dX2_setWeight_19 : decode cX2_setWeight 19 = .ok (.iconst 1, 1) := dk_4 (dk_at dksX2_setWeight_0 19 rfl rfl)
theorem dX2_setWeight_20 : decode cX2_setWeight 20 = .ok (.goto 4, 3) := dk_167 0 4 (dk_at dksX2_setWeight_0 20 rfl rfl)
theorem dX2_setWeight_23 : decode cX2_setWeight 23 = .ok (.iconst 0, 1) := dk_3 (dk_at dksX2_setWeight_0 23 rfl rfl)
theorem dX2_setWeight_24 : decode cX2_setWeight 24 = .ok (.invokestatic 162, 3) := dk_184 0 162 (dk_at dksX2_setWeight_1 0 rfl rfl)
theorem dX2_setWeight_27 : decode cX2_setWeight 27 = .ok (.aload_n 0, 1) := dk_42 (dk_at dksX2_setWeight_1 3 rfl rfl)
theorem dX2_setWeight_28 : decode cX2_setWeight 28 = .ok (.getfield 15, 3) := dk_180 0 15 (dk_at dksX2_setWeight_1 4 rfl rfl)
theorem dX2_setWeight_31 : decode cX2_setWeight 31 = .ok (.iload_n 1, 1) := dk_27 (dk_at dksX2_setWeight_1 7 rfl rfl)
theorem dX2_setWeight_32 : decode cX2_setWeight 32 = .ok (.iaload, 1) := dk_46 (dk_at dksX2_setWeight_1 8 rfl rfl)
theorem dX2_setWeight_33 : decode cX2_setWeight 33 = .ok (.istore_n 3, 1) := dk_62 (dk_at dksX2_setWeight_1 9 rfl rfl)
theorem dX2_setWeight_34 : decode cX2_setWeight 34 = .ok (.aload_n 0, 1) := dk_42 (dk_at dksX2_setWeight_1 10 rfl rfl)
theorem dX2_setWeight_35 : decode cX2_setWeight 35 = .ok (.getfield 15, 3) := dk_180 0 15 (dk_at dksX2_setWeight_1 11 rfl rfl)
theorem dX2_setWeight_38 : decode cX2_setWeight 38 = .ok (.iload_n 1, 1) := dk_27 (dk_at dksX2_setWeight_1 14 rfl rfl)
theorem dX2_setWeight_39 : decode cX2_setWeight 39 = .ok (.iload_n 2, 1) := dk_28 (dk_at dksX2_setWeight_1 15 rfl rfl)
theorem dX2_setWeight_40 : decode cX2_setWeight 40 = .ok (.iastore, 1) := dk_79 (dk_at dksX2_setWeight_1 16 rfl rfl)
theorem dX2_setWeight_41 : decode cX2_setWeight 41 = .ok (.aload_n 0, 1) := dk_42 (dk_at dksX2_setWeight_1 17 rfl rfl)
theorem dX2_setWeight_42 : decode cX2_setWeight 42 = .ok (.iconst 0, 1) := dk_3 (dk_at dksX2_setWeight_1 18 rfl rfl)
theorem dX2_setWeight_43 : decode cX2_setWeight 43 = .ok (.invokevirtual 148, 3) := dk_182 0 148 (dk_at dksX2_setWeight_1 19 rfl rfl)
theorem dX2_setWeight_46 : decode cX2_setWeight 46 = .ok (.iload_n 3, 1) := dk_29 (dk_at dksX2_setWeight_1 22 rfl rfl)
theorem dX2_setWeight_47 : decode cX2_setWeight 47 = .ok (.ireturn, 1) := dk_172 (dk_at dksX2_setWeight_1 23 rfl rfl)
abbrev cX2_addSession : ByteArray := prog_2_method_18_code
def yX2_addSession : MethodName := ⟨RX2, "addSession", "(I)I"⟩
def dkwX2_addSession_2 : List UInt8 := [182, 0, 154, 42, 89, 180, 0, 56, 4, 96, 181, 0, 56, 42, 180, 0, 56, 4, 100, 172]
abbrev dktX2_addSession_2 : List UInt8 := dkwX2_addSession_2 ++ []
def dkwX2_addSession_1 : List UInt8 := [4, 167, 0, 4, 3, 184, 0, 165, 42, 180, 0, 41, 187, 0, 85, 89, 42, 180, 0, 56, 27, 183, 0, 168]
abbrev dktX2_addSession_1 : List UInt8 := dkwX2_addSession_1 ++ dktX2_addSession_2
def dkwX2_addSession_0 : List UInt8 := [27, 3, 42, 180, 0, 53, 184, 0, 158, 184, 0, 162, 42, 180, 0, 41, 182, 0, 135, 16, 40, 162, 0, 7]
abbrev dktX2_addSession_0 : List UInt8 := dkwX2_addSession_0 ++ dktX2_addSession_1
theorem dksX2_addSession_0 : cX2_addSession.data.toList.drop 0 = dktX2_addSession_0 := by decide +kernel
theorem dksX2_addSession_1 : cX2_addSession.data.toList.drop 24 = dktX2_addSession_1 := dk_seg dksX2_addSession_0 24 rfl rfl
theorem dksX2_addSession_2 : cX2_addSession.data.toList.drop 48 = dktX2_addSession_2 := dk_seg dksX2_addSession_1 24 rfl rfl
theorem dX2_addSession_0 : decode cX2_addSession 0 = .ok (.iload_n 1, 1) := dk_27 (dk_at dksX2_addSession_0 0 rfl rfl)
theorem dX2_addSession_1 : decode cX2_addSession 1 = .ok (.iconst 0, 1) := dk_3 (dk_at dksX2_addSession_0 1 rfl rfl)
theorem dX2_addSession_2 : decode cX2_addSession 2 = .ok (.aload_n 0, 1) := dk_42 (dk_at dksX2_addSession_0 2 rfl rfl)
theorem dX2_addSession_3 : decode cX2_addSession 3 = .ok (.getfield 53, 3) := dk_180 0 53 (dk_at dksX2_addSession_0 3 rfl rfl)
theorem dX2_addSession_6 : decode cX2_addSession 6 = .ok (.invokestatic 158, 3) := dk_184 0 158 (dk_at dksX2_addSession_0 6 rfl rfl)
theorem dX2_addSession_9 : decode cX2_addSession 9 = .ok (.invokestatic 162, 3) := dk_184 0 162 (dk_at dksX2_addSession_0 9 rfl rfl)
theorem dX2_addSession_12 : decode cX2_addSession 12 = .ok (.aload_n 0, 1) := dk_42 (dk_at dksX2_addSession_0 12 rfl rfl)
theorem dX2_addSession_13 : decode cX2_addSession 13 = .ok (.getfield 41, 3) := dk_180 0 41 (dk_at dksX2_addSession_0 13 rfl rfl)
theorem dX2_addSession_16 : decode cX2_addSession 16 = .ok (.invokevirtual 135, 3) := dk_182 0 135 (dk_at dksX2_addSession_0 16 rfl rfl)
theorem dX2_addSession_19 : decode cX2_addSession 19 = .ok (.bipush 40, 2) := dk_16 40 (dk_at dksX2_addSession_0 19 rfl rfl)
theorem dX2_addSession_21 : decode cX2_addSession 21 = .ok (.if_icmp .ge 7, 3) := dk_162 0 7 (dk_at dksX2_addSession_0 21 rfl rfl)
theorem dX2_addSession_24 : decode cX2_addSession 24 = .ok (.iconst 1, 1) := dk_4 (dk_at dksX2_addSession_1 0 rfl rfl)
theorem dX2_addSession_25 : decode cX2_addSession 25 = .ok (.goto 4, 3) := dk_167 0 4 (dk_at dksX2_addSession_1 1 rfl rfl)
theorem dX2_addSession_28 : decode cX2_addSession 28 = .ok (.iconst 0, 1) := dk_3 (dk_at dksX2_addSession_1 4 rfl rfl)
theorem dX2_addSession_29 : decode cX2_addSession 29 = .ok (.invokestatic 165, 3) := dk_184 0 165 (dk_at dksX2_addSession_1 5 rfl rfl)
theorem dX2_addSession_32 : decode cX2_addSession 32 = .ok (.aload_n 0, 1) := dk_42 (dk_at dksX2_addSession_1 8 rfl rfl)
theorem dX2_addSession_33 : decode cX2_addSession 33 = .ok (.getfield 41, 3) := dk_180 0 41 (dk_at dksX2_addSession_1 9 rfl rfl)
theorem dX2_addSession_36 : decode cX2_addSession 36 = .ok (.new 85, 3) := dk_187 0 85 (dk_at dksX2_addSession_1 12 rfl rfl)
theorem dX2_addSession_39 : decode cX2_addSession 39 = .ok (.dup, 1) := dk_89 (dk_at dksX2_addSession_1 15 rfl rfl)
theorem dX2_addSession_40 : decode cX2_addSession 40 = .ok (.aload_n 0, 1) := dk_42 (dk_at dksX2_addSession_1 16 rfl rfl)
theorem dX2_addSession_41 : decode cX2_addSession 41 = .ok (.getfield 56, 3) := dk_180 0 56 (dk_at dksX2_addSession_1 17 rfl rfl)
theorem dX2_addSession_44 : decode cX2_addSession 44 = .ok (.iload_n 1, 1) := dk_27 (dk_at dksX2_addSession_1 20 rfl rfl)
theorem dX2_addSession_45 : decode cX2_addSession 45 = .ok (.invokespecial 168, 3) := dk_183 0 168 (dk_at dksX2_addSession_1 21 rfl rfl)
theorem dX2_addSession_48 : decode cX2_addSession 48 = .ok (.invokevirtual 154, 3) := dk_182 0 154 (dk_at dksX2_addSession_2 0 rfl rfl)
theorem dX2_addSession_51 : decode cX2_addSession 51 = .ok (.aload_n 0, 1) := dk_42 (dk_at dksX2_addSession_2 3 rfl rfl)
theorem dX2_addSession_52 : decode cX2_addSession 52 = .ok (.dup, 1) := dk_89 (dk_at dksX2_addSession_2 4 rfl rfl)
theorem dX2_addSession_53 : decode cX2_addSession 53 = .ok (.getfield 56, 3) := dk_180 0 56 (dk_at dksX2_addSession_2 5 rfl rfl)
theorem dX2_addSession_56 : decode cX2_addSession 56 = .ok (.iconst 1, 1) := dk_4 (dk_at dksX2_addSession_2 8 rfl rfl)
theorem dX2_addSession_57 : decode cX2_addSession 57 = .ok (.iadd, 1) := dk_96 (dk_at dksX2_addSession_2 9 rfl rfl)
theorem dX2_addSession_58 : decode cX2_addSession 58 = .ok (.putfield 56, 3) := dk_181 0 56 (dk_at dksX2_addSession_2 10 rfl rfl)
theorem dX2_addSession_61 : decode cX2_addSession 61 = .ok (.aload_n 0, 1) := dk_42 (dk_at dksX2_addSession_2 13 rfl rfl)
theorem dX2_addSession_62 : decode cX2_addSession 62 = .ok (.getfield 56, 3) := dk_180 0 56 (dk_at dksX2_addSession_2 14 rfl rfl)
theorem dX2_addSession_65 : decode cX2_addSession 65 = .ok (.iconst 1, 1) := dk_4 (dk_at dksX2_addSession_2 17 rfl rfl)
theorem dX2_addSession_66 : decode cX2_addSession 66 = .ok (.isub, 1) := dk_100 (dk_at dksX2_addSession_2 18 rfl rfl)
theorem dX2_addSession_67 : decode cX2_addSession 67 = .ok (.ireturn, 1) := dk_172 (dk_at dksX2_addSession_2 19 rfl rfl)
abbrev cX2_addPart : ByteArray := prog_2_method_19_code
def yX2_addPart : MethodName := ⟨RX2, "addPart", "(III)I"⟩
def dkwX2_addPart_4 : List UInt8 := [25, 5, 180, 0, 94, 190, 4, 96, 172]
abbrev dktX2_addPart_4 : List UInt8 := dkwX2_addPart_4 ++ []
def dkwX2_addPart_3 : List UInt8 := [163, 0, 7, 4, 167, 0, 4, 3, 184, 0, 165, 42, 21, 4, 25, 5, 28, 29, 182, 0, 174, 182, 0, 178]
abbrev dktX2_addPart_3 : List UInt8 := dkwX2_addPart_3 ++ dktX2_addPart_4
def dkwX2_addPart_2 : List UInt8 := [184, 0, 162, 25, 5, 180, 0, 94, 190, 16, 8, 162, 0, 20, 25, 5, 182, 0, 171, 28, 96, 17, 0, 240]
abbrev dktX2_addPart_2 : List UInt8 := dkwX2_addPart_2 ++ dktX2_addPart_3
def dkwX2_addPart_1 : List UInt8 := [16, 120, 184, 0, 158, 153, 0, 18, 29, 3, 17, 1, 244, 184, 0, 158, 153, 0, 7, 4, 167, 0, 4, 3]
abbrev dktX2_addPart_1 : List UInt8 := dkwX2_addPart_1 ++ dktX2_addPart_2
def dkwX2_addPart_0 : List UInt8 := [42, 27, 182, 0, 145, 54, 4, 42, 180, 0, 41, 21, 4, 182, 0, 75, 192, 0, 85, 58, 5, 28, 4]
abbrev dktX2_addPart_0 : List UInt8 := dkwX2_addPart_0 ++ dktX2_addPart_1
theorem dksX2_addPart_0 : cX2_addPart.data.toList.drop 0 = dktX2_addPart_0 := by decide +kernel
theorem dksX2_addPart_1 : cX2_addPart.data.toList.drop 23 = dktX2_addPart_1 := dk_seg dksX2_addPart_0 23 rfl rfl
theorem dksX2_addPart_2 : cX2_addPart.data.toList.drop 47 = dktX2_addPart_2 := dk_seg dksX2_addPart_1 24 rfl rfl
theorem dksX2_addPart_3 : cX2_addPart.data.toList.drop 71 = dktX2_addPart_3 := dk_seg dksX2_addPart_2 24 rfl rfl
theorem dksX2_addPart_4 : cX2_addPart.data.toList.drop 95 = dktX2_addPart_4 := dk_seg dksX2_addPart_3 24 rfl rfl
theorem dX2_addPart_0 : decode cX2_addPart 0 = .ok (.aload_n 0, 1) := dk_42 (dk_at dksX2_addPart_0 0 rfl rfl)
theorem dX2_addPart_1 : decode cX2_addPart 1 = .ok (.iload_n 1, 1) := dk_27 (dk_at dksX2_addPart_0 1 rfl rfl)
theorem dX2_addPart_2 : decode cX2_addPart 2 = .ok (.invokevirtual 145, 3) := dk_182 0 145 (dk_at dksX2_addPart_0 2 rfl rfl)
theorem dX2_addPart_5 : decode cX2_addPart 5 = .ok (.istore 4, 2) := dk_54 4 (dk_at dksX2_addPart_0 5 rfl rfl)
theorem dX2_addPart_7 : decode cX2_addPart 7 = .ok (.aload_n 0, 1) := dk_42 (dk_at dksX2_addPart_0 7 rfl rfl)
theorem dX2_addPart_8 : decode cX2_addPart 8 = .ok (.getfield 41, 3) := dk_180 0 41 (dk_at dksX2_addPart_0 8 rfl rfl)
theorem dX2_addPart_11 : decode cX2_addPart 11 = .ok (.iload 4, 2) := dk_21 4 (dk_at dksX2_addPart_0 11 rfl rfl)
theorem dX2_addPart_13 : decode cX2_addPart 13 = .ok (.invokevirtual 75, 3) := dk_182 0 75 (dk_at dksX2_addPart_0 13 rfl rfl)
theorem dX2_addPart_16 : decode cX2_addPart 16 = .ok (.checkcast 85, 3) := dk_192 0 85 (dk_at dksX2_addPart_0 16 rfl rfl)
theorem dX2_addPart_19 : decode cX2_addPart 19 = .ok (.astore 5, 2) := dk_58 5 (dk_at dksX2_addPart_0 19 rfl rfl)
theorem dX2_addPart_21 : decode cX2_addPart 21 = .ok (.iload_n 2, 1) := dk_28 (dk_at dksX2_addPart_0 21 rfl rfl)
theorem dX2_addPart_22 : decode cX2_addPart 22 = .ok (.iconst 1, 1) := dk_4 (dk_at dksX2_addPart_0 22 rfl rfl)
theorem dX2_addPart_23 : decode cX2_addPart 23 = .ok (.bipush 120, 2) := dk_16 120 (dk_at dksX2_addPart_1 0 rfl rfl)
theorem dX2_addPart_25 : decode cX2_addPart 25 = .ok (.invokestatic 158, 3) := dk_184 0 158 (dk_at dksX2_addPart_1 2 rfl rfl)
theorem dX2_addPart_28 : decode cX2_addPart 28 = .ok (.ifCond .eq 18, 3) := dk_153 0 18 (dk_at dksX2_addPart_1 5 rfl rfl)
theorem dX2_addPart_31 : decode cX2_addPart 31 = .ok (.iload_n 3, 1) := dk_29 (dk_at dksX2_addPart_1 8 rfl rfl)
theorem dX2_addPart_32 : decode cX2_addPart 32 = .ok (.iconst 0, 1) := dk_3 (dk_at dksX2_addPart_1 9 rfl rfl)
theorem dX2_addPart_33 : decode cX2_addPart 33 = .ok (.sipush 500, 3) := dk_17 1 244 (dk_at dksX2_addPart_1 10 rfl rfl)
theorem dX2_addPart_36 : decode cX2_addPart 36 = .ok (.invokestatic 158, 3) := dk_184 0 158 (dk_at dksX2_addPart_1 13 rfl rfl)
theorem dX2_addPart_39 : decode cX2_addPart 39 = .ok (.ifCond .eq 7, 3) := dk_153 0 7 (dk_at dksX2_addPart_1 16 rfl rfl)
theorem dX2_addPart_42 : decode cX2_addPart 42 = .ok (.iconst 1, 1) := dk_4 (dk_at dksX2_addPart_1 19 rfl rfl)
theorem dX2_addPart_43 : decode cX2_addPart 43 = .ok (.goto 4, 3) := dk_167 0 4 (dk_at dksX2_addPart_1 20 rfl rfl)
theorem dX2_addPart_46 : decode cX2_addPart 46 = .ok (.iconst 0, 1) := dk_3 (dk_at dksX2_addPart_1 23 rfl rfl)
theorem dX2_addPart_47 : decode cX2_addPart 47 = .ok (.invokestatic 162, 3) := dk_184 0 162 (dk_at dksX2_addPart_2 0 rfl rfl)
theorem dX2_addPart_50 : decode cX2_addPart 50 = .ok (.aload 5, 2) := dk_25 5 (dk_at dksX2_addPart_2 3 rfl rfl)
theorem dX2_addPart_52 : decode cX2_addPart 52 = .ok (.getfield 94, 3) := dk_180 0 94 (dk_at dksX2_addPart_2 5 rfl rfl)
theorem dX2_addPart_55 : decode cX2_addPart 55 = .ok (.arraylength, 1) := dk_190 (dk_at dksX2_addPart_2 8 rfl rfl)
theorem dX2_addPart_56 : decode cX2_addPart 56 = .ok (.bipush 8, 2) := dk_16 8 (dk_at dksX2_addPart_2 9 rfl rfl)
theorem dX2_addPart_58 : decode cX2_addPart 58 = .ok (.if_icmp .ge 20, 3) := dk_162 0 20 (dk_at dksX2_addPart_2 11 rfl rfl)
theorem dX2_addPart_61 : decode cX2_addPart 61 = .ok (.aload 5, 2) := dk_25 5 (dk_at dksX2_addPart_2 14 rfl rfl)
theorem dX2_addPart_63 : decode cX2_addPart 63 = .ok (.invokevirtual 171, 3) := dk_182 0 171 (dk_at dksX2_addPart_2 16 rfl rfl)
theorem dX2_addPart_66 : decode cX2_addPart 66 = .ok (.iload_n 2, 1) := dk_28 (dk_at dksX2_addPart_2 19 rfl rfl)
theorem dX2_addPart_67 : decode cX2_addPart 67 = .ok (.iadd, 1) := dk_96 (dk_at dksX2_addPart_2 20 rfl rfl)
theorem dX2_addPart_68 : decode cX2_addPart 68 = .ok (.sipush 240, 3) := dk_17 0 240 (dk_at dksX2_addPart_2 21 rfl rfl)
theorem dX2_addPart_71 : decode cX2_addPart 71 = .ok (.if_icmp .gt 7, 3) := dk_163 0 7 (dk_at dksX2_addPart_3 0 rfl rfl)
theorem dX2_addPart_74 : decode cX2_addPart 74 = .ok (.iconst 1, 1) := dk_4 (dk_at dksX2_addPart_3 3 rfl rfl)
theorem dX2_addPart_75 : decode cX2_addPart 75 = .ok (.goto 4, 3) := dk_167 0 4 (dk_at dksX2_addPart_3 4 rfl rfl)
theorem dX2_addPart_78 : decode cX2_addPart 78 = .ok (.iconst 0, 1) := dk_3 (dk_at dksX2_addPart_3 7 rfl rfl)
theorem dX2_addPart_79 : decode cX2_addPart 79 = .ok (.invokestatic 165, 3) := dk_184 0 165 (dk_at dksX2_addPart_3 8 rfl rfl)
theorem dX2_addPart_82 : decode cX2_addPart 82 = .ok (.aload_n 0, 1) := dk_42 (dk_at dksX2_addPart_3 11 rfl rfl)
theorem dX2_addPart_83 : decode cX2_addPart 83 = .ok (.iload 4, 2) := dk_21 4 (dk_at dksX2_addPart_3 12 rfl rfl)
theorem dX2_addPart_85 : decode cX2_addPart 85 = .ok (.aload 5, 2) := dk_25 5 (dk_at dksX2_addPart_3 14 rfl rfl)
theorem dX2_addPart_87 : decode cX2_addPart 87 = .ok (.iload_n 2, 1) := dk_28 (dk_at dksX2_addPart_3 16 rfl rfl)
theorem dX2_addPart_88 : decode cX2_addPart 88 = .ok (.iload_n 3, 1) := dk_29 (dk_at dksX2_addPart_3 17 rfl rfl)
theorem dX2_addPart_89 : decode cX2_addPart 89 = .ok (.invokevirtual 174, 3) := dk_182 0 174 (dk_at dksX2_addPart_3 18 rfl rfl)
theorem dX2_addPart_92 : decode cX2_addPart 92 = .ok (.invokevirtual 178, 3) := dk_182 0 178 (dk_at dksX2_addPart_3 21 rfl rfl)
theorem dX2_addPart_95 : decode cX2_addPart 95 = .ok (.aload 5, 2) := dk_25 5 (dk_at dksX2_addPart_4 0 rfl rfl)
theorem dX2_addPart_97 : decode cX2_addPart 97 = .ok (.getfield 94, 3) := dk_180 0 94 (dk_at dksX2_addPart_4 2 rfl rfl)
theorem dX2_addPart_100 : decode cX2_addPart 100 = .ok (.arraylength, 1) := dk_190 (dk_at dksX2_addPart_4 5 rfl rfl)
theorem dX2_addPart_101 : decode cX2_addPart 101 = .ok (.iconst 1, 1) := dk_4 (dk_at dksX2_addPart_4 6 rfl rfl)
theorem dX2_addPart_102 : decode cX2_addPart 102 = .ok (.iadd, 1) := dk_96 (dk_at dksX2_addPart_4 7 rfl rfl)
theorem dX2_addPart_103 : decode cX2_addPart 103 = .ok (.ireturn, 1) := dk_172 (dk_at dksX2_addPart_4 8 rfl rfl)
abbrev cX2_placeOf : ByteArray := prog_2_method_15_code
def yX2_placeOf : MethodName := ⟨RX2, "placeOf", "(I)I"⟩
def dkwX2_placeOf_2 : List UInt8 := [159, 0, 7, 4, 167, 0, 4, 3, 184, 0, 141, 28, 172]
abbrev dktX2_placeOf_2 : List UInt8 := dkwX2_placeOf_2 ++ []
def dkwX2_placeOf_1 : List UInt8 := [192, 0, 85, 180, 0, 138, 27, 160, 0, 7, 29, 167, 0, 4, 28, 61, 132, 3, 1, 167, 255, 218, 28, 2]
abbrev dktX2_placeOf_1 : List UInt8 := dkwX2_placeOf_1 ++ dktX2_placeOf_2
def dkwX2_placeOf_0 : List UInt8 := [2, 61, 3, 62, 29, 42, 180, 0, 41, 182, 0, 135, 162, 0, 33, 42, 180, 0, 41, 29, 182, 0, 75]
abbrev dktX2_placeOf_0 : List UInt8 := dkwX2_placeOf_0 ++ dktX2_placeOf_1
theorem dksX2_placeOf_0 : cX2_placeOf.data.toList.drop 0 = dktX2_placeOf_0 := by decide +kernel
theorem dksX2_placeOf_1 : cX2_placeOf.data.toList.drop 23 = dktX2_placeOf_1 := dk_seg dksX2_placeOf_0 23 rfl rfl
theorem dksX2_placeOf_2 : cX2_placeOf.data.toList.drop 47 = dktX2_placeOf_2 := dk_seg dksX2_placeOf_1 24 rfl rfl
theorem dX2_placeOf_0 : decode cX2_placeOf 0 = .ok (.iconst (-1), 1) := dk_2 (dk_at dksX2_placeOf_0 0 rfl rfl)
theorem dX2_placeOf_1 : decode cX2_placeOf 1 = .ok (.istore_n 2, 1) := dk_61 (dk_at dksX2_placeOf_0 1 rfl rfl)
theorem dX2_placeOf_2 : decode cX2_placeOf 2 = .ok (.iconst 0, 1) := dk_3 (dk_at dksX2_placeOf_0 2 rfl rfl)
theorem dX2_placeOf_3 : decode cX2_placeOf 3 = .ok (.istore_n 3, 1) := dk_62 (dk_at dksX2_placeOf_0 3 rfl rfl)
theorem dX2_placeOf_4 : decode cX2_placeOf 4 = .ok (.iload_n 3, 1) := dk_29 (dk_at dksX2_placeOf_0 4 rfl rfl)
theorem dX2_placeOf_5 : decode cX2_placeOf 5 = .ok (.aload_n 0, 1) := dk_42 (dk_at dksX2_placeOf_0 5 rfl rfl)
theorem dX2_placeOf_6 : decode cX2_placeOf 6 = .ok (.getfield 41, 3) := dk_180 0 41 (dk_at dksX2_placeOf_0 6 rfl rfl)
theorem dX2_placeOf_9 : decode cX2_placeOf 9 = .ok (.invokevirtual 135, 3) := dk_182 0 135 (dk_at dksX2_placeOf_0 9 rfl rfl)
theorem dX2_placeOf_12 : decode cX2_placeOf 12 = .ok (.if_icmp .ge 33, 3) := dk_162 0 33 (dk_at dksX2_placeOf_0 12 rfl rfl)
theorem dX2_placeOf_15 : decode cX2_placeOf 15 = .ok (.aload_n 0, 1) := dk_42 (dk_at dksX2_placeOf_0 15 rfl rfl)
theorem dX2_placeOf_16 : decode cX2_placeOf 16 = .ok (.getfield 41, 3) := dk_180 0 41 (dk_at dksX2_placeOf_0 16 rfl rfl)
theorem dX2_placeOf_19 : decode cX2_placeOf 19 = .ok (.iload_n 3, 1) := dk_29 (dk_at dksX2_placeOf_0 19 rfl rfl)
theorem dX2_placeOf_20 : decode cX2_placeOf 20 = .ok (.invokevirtual 75, 3) := dk_182 0 75 (dk_at dksX2_placeOf_0 20 rfl rfl)
theorem dX2_placeOf_23 : decode cX2_placeOf 23 = .ok (.checkcast 85, 3) := dk_192 0 85 (dk_at dksX2_placeOf_1 0 rfl rfl)
theorem dX2_placeOf_26 : decode cX2_placeOf 26 = .ok (.getfield 138, 3) := dk_180 0 138 (dk_at dksX2_placeOf_1 3 rfl rfl)
theorem dX2_placeOf_29 : decode cX2_placeOf 29 = .ok (.iload_n 1, 1) := dk_27 (dk_at dksX2_placeOf_1 6 rfl rfl)
theorem dX2_placeOf_30 : decode cX2_placeOf 30 = .ok (.if_icmp .ne 7, 3) := dk_160 0 7 (dk_at dksX2_placeOf_1 7 rfl rfl)
theorem dX2_placeOf_33 : decode cX2_placeOf 33 = .ok (.iload_n 3, 1) := dk_29 (dk_at dksX2_placeOf_1 10 rfl rfl)
theorem dX2_placeOf_34 : decode cX2_placeOf 34 = .ok (.goto 4, 3) := dk_167 0 4 (dk_at dksX2_placeOf_1 11 rfl rfl)
theorem dX2_placeOf_37 : decode cX2_placeOf 37 = .ok (.iload_n 2, 1) := dk_28 (dk_at dksX2_placeOf_1 14 rfl rfl)
theorem dX2_placeOf_38 : decode cX2_placeOf 38 = .ok (.istore_n 2, 1) := dk_61 (dk_at dksX2_placeOf_1 15 rfl rfl)
theorem dX2_placeOf_39 : decode cX2_placeOf 39 = .ok (.iinc 3 1, 3) := dk_132 3 1 (dk_at dksX2_placeOf_1 16 rfl rfl)
theorem dX2_placeOf_42 : decode cX2_placeOf 42 = .ok (.goto (-38), 3) := dk_167 255 218 (dk_at dksX2_placeOf_1 19 rfl rfl)
theorem dX2_placeOf_45 : decode cX2_placeOf 45 = .ok (.iload_n 2, 1) := dk_28 (dk_at dksX2_placeOf_1 22 rfl rfl)
theorem dX2_placeOf_46 : decode cX2_placeOf 46 = .ok (.iconst (-1), 1) := dk_2 (dk_at dksX2_placeOf_1 23 rfl rfl)
theorem dX2_placeOf_47 : decode cX2_placeOf 47 = .ok (.if_icmp .eq 7, 3) := dk_159 0 7 (dk_at dksX2_placeOf_2 0 rfl rfl)
theorem dX2_placeOf_50 : decode cX2_placeOf 50 = .ok (.iconst 1, 1) := dk_4 (dk_at dksX2_placeOf_2 3 rfl rfl)
theorem dX2_placeOf_51 : decode cX2_placeOf 51 = .ok (.goto 4, 3) := dk_167 0 4 (dk_at dksX2_placeOf_2 4 rfl rfl)
theorem dX2_placeOf_54 : decode cX2_placeOf 54 = .ok (.iconst 0, 1) := dk_3 (dk_at dksX2_placeOf_2 7 rfl rfl)
theorem dX2_placeOf_55 : decode cX2_placeOf 55 = .ok (.invokestatic 141, 3) := dk_184 0 141 (dk_at dksX2_placeOf_2 8 rfl rfl)
theorem dX2_placeOf_58 : decode cX2_placeOf 58 = .ok (.iload_n 2, 1) := dk_28 (dk_at dksX2_placeOf_2 11 rfl rfl)
theorem dX2_placeOf_59 : decode cX2_placeOf 59 = .ok (.ireturn, 1) := dk_172 (dk_at dksX2_placeOf_2 12 rfl rfl)
abbrev cX2_replace : ByteArray := prog_2_method_17_code
def yX2_replace : MethodName := ⟨RX2, "replace", "(ILTrainingDiary$Session;)V"⟩
def dkwX2_replace_1 : List UInt8 := [182, 0, 148, 42, 180, 0, 41, 27, 182, 0, 151, 42, 180, 0, 41, 44, 182, 0, 154, 177]
abbrev dktX2_replace_1 : List UInt8 := dkwX2_replace_1 ++ []
def dkwX2_replace_0 : List UInt8 := [42, 42, 180, 0, 41, 27, 182, 0, 75, 192, 0, 85, 182, 0, 84, 44, 182, 0, 84, 184, 0, 65]
abbrev dktX2_replace_0 : List UInt8 := dkwX2_replace_0 ++ dktX2_replace_1
theorem dksX2_replace_0 : cX2_replace.data.toList.drop 0 = dktX2_replace_0 := by decide +kernel
theorem dksX2_replace_1 : cX2_replace.data.toList.drop 22 = dktX2_replace_1 := dk_seg dksX2_replace_0 22 rfl rfl
theorem dX2_replace_0 : decode cX2_replace 0 = .ok (.aload_n 0, 1) := dk_42 (dk_at dksX2_replace_0 0 rfl rfl)
theorem dX2_replace_1 : decode cX2_replace 1 = .ok (.aload_n 0, 1) := dk_42 (dk_at dksX2_replace_0 1 rfl rfl)
theorem dX2_replace_2 : decode cX2_replace 2 = .ok (.getfield 41, 3) := dk_180 0 41 (dk_at dksX2_replace_0 2 rfl rfl)
theorem dX2_replace_5 : decode cX2_replace 5 = .ok (.iload_n 1, 1) := dk_27 (dk_at dksX2_replace_0 5 rfl rfl)
theorem dX2_replace_6 : decode cX2_replace 6 = .ok (.invokevirtual 75, 3) := dk_182 0 75 (dk_at dksX2_replace_0 6 rfl rfl)
theorem dX2_replace_9 : decode cX2_replace 9 = .ok (.checkcast 85, 3) := dk_192 0 85 (dk_at dksX2_replace_0 9 rfl rfl)
theorem dX2_replace_12 : decode cX2_replace 12 = .ok (.invokevirtual 84, 3) := dk_182 0 84 (dk_at dksX2_replace_0 12 rfl rfl)
theorem dX2_replace_15 : decode cX2_replace 15 = .ok (.aload_n 2, 1) := dk_44 (dk_at dksX2_replace_0 15 rfl rfl)
theorem dX2_replace_16 : decode cX2_replace 16 = .ok (.invokevirtual 84, 3) := dk_182 0 84 (dk_at dksX2_replace_0 16 rfl rfl)
theorem dX2_replace_19 : decode cX2_replace 19 = .ok (.invokestatic 65, 3) := dk_184 0 65 (dk_at dksX2_replace_0 19 rfl rfl)
theorem dX2_replace_22 : decode cX2_replace 22 = .ok (.invokevirtual 148, 3) := dk_182 0 148 (dk_at dksX2_replace_1 0 rfl rfl)
theorem dX2_replace_25 : decode cX2_replace 25 = .ok (.aload_n 0, 1) := dk_42 (dk_at dksX2_replace_1 3 rfl rfl)
theorem dX2_replace_26 : decode cX2_replace 26 = .ok (.getfield 41, 3) := dk_180 0 41 (dk_at dksX2_replace_1 4 rfl rfl)
theorem dX2_replace_29 : decode cX2_replace 29 = .ok (.iload_n 1, 1) := dk_27 (dk_at dksX2_replace_1 7 rfl rfl)
theorem dX2_replace_30 : decode cX2_replace 30 = .ok (.invokevirtual 151, 3) := dk_182 0 151 (dk_at dksX2_replace_1 8 rfl rfl)
theorem dX2_replace_33 : decode cX2_replace 33 = .ok (.aload_n 0, 1) := dk_42 (dk_at dksX2_replace_1 11 rfl rfl)
theorem dX2_replace_34 : decode cX2_replace 34 = .ok (.getfield 41, 3) := dk_180 0 41 (dk_at dksX2_replace_1 12 rfl rfl)
theorem dX2_replace_37 : decode cX2_replace 37 = .ok (.aload_n 2, 1) := dk_44 (dk_at dksX2_replace_1 15 rfl rfl)
theorem dX2_replace_38 : decode cX2_replace 38 = .ok (.invokevirtual 154, 3) := dk_182 0 154 (dk_at dksX2_replace_1 16 rfl rfl)
theorem dX2_replace_41 : decode cX2_replace 41 = .ok (.return_, 1) := dk_177 (dk_at dksX2_replace_1 19 rfl rfl)
abbrev cX2_clearParts : ByteArray := prog_2_method_20_code
def yX2_clearParts : MethodName := ⟨RX2, "clearParts", "(I)I"⟩
def dkwX2_clearParts_1 : List UInt8 := [27, 45, 182, 0, 84, 183, 0, 168, 182, 0, 178, 45, 180, 0, 94, 190, 172]
abbrev dktX2_clearParts_1 : List UInt8 := dkwX2_clearParts_1 ++ []
def dkwX2_clearParts_0 : List UInt8 := [42, 27, 182, 0, 145, 61, 42, 180, 0, 41, 28, 182, 0, 75, 192, 0, 85, 78, 42, 28, 187, 0, 85, 89]
abbrev dktX2_clearParts_0 : List UInt8 := dkwX2_clearParts_0 ++ dktX2_clearParts_1
theorem dksX2_clearParts_0 : cX2_clearParts.data.toList.drop 0 = dktX2_clearParts_0 := by decide +kernel
theorem dksX2_clearParts_1 : cX2_clearParts.data.toList.drop 24 = dktX2_clearParts_1 := dk_seg dksX2_clearParts_0 24 rfl rfl
theorem dX2_clearParts_0 : decode cX2_clearParts 0 = .ok (.aload_n 0, 1) := dk_42 (dk_at dksX2_clearParts_0 0 rfl rfl)
theorem dX2_clearParts_1 : decode cX2_clearParts 1 = .ok (.iload_n 1, 1) := dk_27 (dk_at dksX2_clearParts_0 1 rfl rfl)
theorem dX2_clearParts_2 : decode cX2_clearParts 2 = .ok (.invokevirtual 145, 3) := dk_182 0 145 (dk_at dksX2_clearParts_0 2 rfl rfl)
theorem dX2_clearParts_5 : decode cX2_clearParts 5 = .ok (.istore_n 2, 1) := dk_61 (dk_at dksX2_clearParts_0 5 rfl rfl)
theorem dX2_clearParts_6 : decode cX2_clearParts 6 = .ok (.aload_n 0, 1) := dk_42 (dk_at dksX2_clearParts_0 6 rfl rfl)
theorem dX2_clearParts_7 : decode cX2_clearParts 7 = .ok (.getfield 41, 3) := dk_180 0 41 (dk_at dksX2_clearParts_0 7 rfl rfl)
theorem dX2_clearParts_10 : decode cX2_clearParts 10 = .ok (.iload_n 2, 1) := dk_28 (dk_at dksX2_clearParts_0 10 rfl rfl)
theorem dX2_clearParts_11 : decode cX2_clearParts 11 = .ok (.invokevirtual 75, 3) := dk_182 0 75 (dk_at dksX2_clearParts_0 11 rfl rfl)
theorem dX2_clearParts_14 : decode cX2_clearParts 14 = .ok (.checkcast 85, 3) := dk_192 0 85 (dk_at dksX2_clearParts_0 14 rfl rfl)
theorem dX2_clearParts_17 : decode cX2_clearParts 17 = .ok (.astore_n 3, 1) := dk_78 (dk_at dksX2_clearParts_0 17 rfl rfl)
theorem dX2_clearParts_18 : decode cX2_clearParts 18 = .ok (.aload_n 0, 1) := dk_42 (dk_at dksX2_clearParts_0 18 rfl rfl)
theorem dX2_clearParts_19 : decode cX2_clearParts 19 = .ok (.iload_n 2, 1) := dk_28 (dk_at dksX2_clearParts_0 19 rfl rfl)
theorem dX2_clearParts_20 : decode cX2_clearParts 20 = .ok (.new 85, 3) := dk_187 0 85 (dk_at dksX2_clearParts_0 20 rfl rfl)
theorem dX2_clearParts_23 : decode cX2_clearParts 23 = .ok (.dup, 1) := dk_89 (dk_at dksX2_clearParts_0 23 rfl rfl)
theorem dX2_clearParts_24 : decode cX2_clearParts 24 = .ok (.iload_n 1, 1) := dk_27 (dk_at dksX2_clearParts_1 0 rfl rfl)
theorem dX2_clearParts_25 : decode cX2_clearParts 25 = .ok (.aload_n 3, 1) := dk_45 (dk_at dksX2_clearParts_1 1 rfl rfl)
theorem dX2_clearParts_26 : decode cX2_clearParts 26 = .ok (.invokevirtual 84, 3) := dk_182 0 84 (dk_at dksX2_clearParts_1 2 rfl rfl)
theorem dX2_clearParts_29 : decode cX2_clearParts 29 = .ok (.invokespecial 168, 3) := dk_183 0 168 (dk_at dksX2_clearParts_1 5 rfl rfl)
theorem dX2_clearParts_32 : decode cX2_clearParts 32 = .ok (.invokevirtual 178, 3) := dk_182 0 178 (dk_at dksX2_clearParts_1 8 rfl rfl)
theorem dX2_clearParts_35 : decode cX2_clearParts 35 = .ok (.aload_n 3, 1) := dk_45 (dk_at dksX2_clearParts_1 11 rfl rfl)
theorem dX2_clearParts_36 : decode cX2_clearParts 36 = .ok (.getfield 94, 3) := dk_180 0 94 (dk_at dksX2_clearParts_1 12 rfl rfl)
theorem dX2_clearParts_39 : decode cX2_clearParts 39 = .ok (.arraylength, 1) := dk_190 (dk_at dksX2_clearParts_1 15 rfl rfl)
theorem dX2_clearParts_40 : decode cX2_clearParts 40 = .ok (.ireturn, 1) := dk_172 (dk_at dksX2_clearParts_1 16 rfl rfl)
abbrev cX2_moveSession : ByteArray := prog_2_method_21_code
def yX2_moveSession : MethodName := ⟨RX2, "moveSession", "(II)I"⟩
def dkwX2_moveSession_2 : List UInt8 := [28, 182, 0, 182, 182, 0, 178, 21, 4, 172]
abbrev dktX2_moveSession_2 : List UInt8 := dkwX2_moveSession_2 ++ []
def dkwX2_moveSession_1 : List UInt8 := [182, 0, 75, 192, 0, 85, 182, 0, 84, 54, 4, 42, 29, 42, 180, 0, 41, 29, 182, 0, 75, 192, 0, 85]
abbrev dktX2_moveSession_1 : List UInt8 := dkwX2_moveSession_1 ++ dktX2_moveSession_2
def dkwX2_moveSession_0 : List UInt8 := [42, 27, 182, 0, 145, 62, 28, 3, 42, 180, 0, 53, 184, 0, 158, 184, 0, 162, 42, 180, 0, 41, 29]
abbrev dktX2_moveSession_0 : List UInt8 := dkwX2_moveSession_0 ++ dktX2_moveSession_1
theorem dksX2_moveSession_0 : cX2_moveSession.data.toList.drop 0 = dktX2_moveSession_0 := by decide +kernel
theorem dksX2_moveSession_1 : cX2_moveSession.data.toList.drop 23 = dktX2_moveSession_1 := dk_seg dksX2_moveSession_0 23 rfl rfl
theorem dksX2_moveSession_2 : cX2_moveSession.data.toList.drop 47 = dktX2_moveSession_2 := dk_seg dksX2_moveSession_1 24 rfl rfl
theorem dX2_moveSession_0 : decode cX2_moveSession 0 = .ok (.aload_n 0, 1) := dk_42 (dk_at dksX2_moveSession_0 0 rfl rfl)
theorem dX2_moveSession_1 : decode cX2_moveSession 1 = .ok (.iload_n 1, 1) := dk_27 (dk_at dksX2_moveSession_0 1 rfl rfl)
theorem dX2_moveSession_2 : decode cX2_moveSession 2 = .ok (.invokevirtual 145, 3) := dk_182 0 145 (dk_at dksX2_moveSession_0 2 rfl rfl)
theorem dX2_moveSession_5 : decode cX2_moveSession 5 = .ok (.istore_n 3, 1) := dk_62 (dk_at dksX2_moveSession_0 5 rfl rfl)
theorem dX2_moveSession_6 : decode cX2_moveSession 6 = .ok (.iload_n 2, 1) := dk_28 (dk_at dksX2_moveSession_0 6 rfl rfl)
theorem dX2_moveSession_7 : decode cX2_moveSession 7 = .ok (.iconst 0, 1) := dk_3 (dk_at dksX2_moveSession_0 7 rfl rfl)
theorem dX2_moveSession_8 : decode cX2_moveSession 8 = .ok (.aload_n 0, 1) := dk_42 (dk_at dksX2_moveSession_0 8 rfl rfl)
theorem dX2_moveSession_9 : decode cX2_moveSession 9 = .ok (.getfield 53, 3) := dk_180 0 53 (dk_at dksX2_moveSession_0 9 rfl rfl)
theorem dX2_moveSession_12 : decode cX2_moveSession 12 = .ok (.invokestatic 158, 3) := dk_184 0 158 (dk_at dksX2_moveSession_0 12 rfl rfl)
theorem dX2_moveSession_15 : decode cX2_moveSession 15 = .ok (.invokestatic 162, 3) := dk_184 0 162 (dk_at dksX2_moveSession_0 15 rfl rfl)
theorem dX2_moveSession_18 : decode cX2_moveSession 18 = .ok (.aload_n 0, 1) := dk_42 (dk_at dksX2_moveSession_0 18 rfl rfl)
theorem dX2_moveSession_19 : decode cX2_moveSession 19 = .ok (.getfield 41, 3) := dk_180 0 41 (dk_at dksX2_moveSession_0 19 rfl rfl)
theorem dX2_moveSession_22 : decode cX2_moveSession 22 = .ok (.iload_n 3, 1) := dk_29 (dk_at dksX2_moveSession_0 22 rfl rfl)
theorem dX2_moveSession_23 : decode cX2_moveSession 23 = .ok (.invokevirtual 75, 3) := dk_182 0 75 (dk_at dksX2_moveSession_1 0 rfl rfl)
theorem dX2_moveSession_26 : decode cX2_moveSession 26 = .ok (.checkcast 85, 3) := dk_192 0 85 (dk_at dksX2_moveSession_1 3 rfl rfl)
theorem dX2_moveSession_29 : decode cX2_moveSession 29 = .ok (.invokevirtual 84, 3) := dk_182 0 84 (dk_at dksX2_moveSession_1 6 rfl rfl)
theorem dX2_moveSession_32 : decode cX2_moveSession 32 = .ok (.istore 4, 2) := dk_54 4 (dk_at dksX2_moveSession_1 9 rfl rfl)
theorem dX2_moveSession_34 : decode cX2_moveSession 34 = .ok (.aload_n 0, 1) := dk_42 (dk_at dksX2_moveSession_1 11 rfl rfl)
theorem dX2_moveSession_35 : decode cX2_moveSession 35 = .ok (.iload_n 3, 1) := dk_29 (dk_at dksX2_moveSession_1 12 rfl rfl)
theorem dX2_moveSession_36 : decode cX2_moveSession 36 = .ok (.aload_n 0, 1) := dk_42 (dk_at dksX2_moveSession_1 13 rfl rfl)
theorem dX2_moveSession_37 : decode cX2_moveSession 37 = .ok (.getfield 41, 3) := dk_180 0 41 (dk_at dksX2_moveSession_1 14 rfl rfl)
theorem dX2_moveSession_40 : decode cX2_moveSession 40 = .ok (.iload_n 3, 1) := dk_29 (dk_at dksX2_moveSession_1 17 rfl rfl)
theorem dX2_moveSession_41 : decode cX2_moveSession 41 = .ok (.invokevirtual 75, 3) := dk_182 0 75 (dk_at dksX2_moveSession_1 18 rfl rfl)
theorem dX2_moveSession_44 : decode cX2_moveSession 44 = .ok (.checkcast 85, 3) := dk_192 0 85 (dk_at dksX2_moveSession_1 21 rfl rfl)
theorem dX2_moveSession_47 : decode cX2_moveSession 47 = .ok (.iload_n 2, 1) := dk_28 (dk_at dksX2_moveSession_2 0 rfl rfl)
theorem dX2_moveSession_48 : decode cX2_moveSession 48 = .ok (.invokevirtual 182, 3) := dk_182 0 182 (dk_at dksX2_moveSession_2 1 rfl rfl)
theorem dX2_moveSession_51 : decode cX2_moveSession 51 = .ok (.invokevirtual 178, 3) := dk_182 0 178 (dk_at dksX2_moveSession_2 4 rfl rfl)
theorem dX2_moveSession_54 : decode cX2_moveSession 54 = .ok (.iload 4, 2) := dk_21 4 (dk_at dksX2_moveSession_2 7 rfl rfl)
theorem dX2_moveSession_56 : decode cX2_moveSession 56 = .ok (.ireturn, 1) := dk_172 (dk_at dksX2_moveSession_2 9 rfl rfl)
abbrev cX2_removeSession : ByteArray := prog_2_method_22_code
def yX2_removeSession : MethodName := ⟨RX2, "removeSession", "(I)I"⟩
def dkwX2_removeSession_1 : List UInt8 := [42, 180, 0, 41, 28, 182, 0, 151, 42, 180, 0, 41, 182, 0, 135, 172]
abbrev dktX2_removeSession_1 : List UInt8 := dkwX2_removeSession_1 ++ []
def dkwX2_removeSession_0 : List UInt8 := [42, 27, 182, 0, 145, 61, 42, 42, 180, 0, 41, 28, 182, 0, 75, 192, 0, 85, 182, 0, 84, 182, 0, 148]
abbrev dktX2_removeSession_0 : List UInt8 := dkwX2_removeSession_0 ++ dktX2_removeSession_1
theorem dksX2_removeSession_0 : cX2_removeSession.data.toList.drop 0 = dktX2_removeSession_0 := by decide +kernel
theorem dksX2_removeSession_1 : cX2_removeSession.data.toList.drop 24 = dktX2_removeSession_1 := dk_seg dksX2_removeSession_0 24 rfl rfl
theorem dX2_removeSession_0 : decode cX2_removeSession 0 = .ok (.aload_n 0, 1) := dk_42 (dk_at dksX2_removeSession_0 0 rfl rfl)
theorem dX2_removeSession_1 : decode cX2_removeSession 1 = .ok (.iload_n 1, 1) := dk_27 (dk_at dksX2_removeSession_0 1 rfl rfl)
theorem dX2_removeSession_2 : decode cX2_removeSession 2 = .ok (.invokevirtual 145, 3) := dk_182 0 145 (dk_at dksX2_removeSession_0 2 rfl rfl)
theorem dX2_removeSession_5 : decode cX2_removeSession 5 = .ok (.istore_n 2, 1) := dk_61 (dk_at dksX2_removeSession_0 5 rfl rfl)
theorem dX2_removeSession_6 : decode cX2_removeSession 6 = .ok (.aload_n 0, 1) := dk_42 (dk_at dksX2_removeSession_0 6 rfl rfl)
theorem dX2_removeSession_7 : decode cX2_removeSession 7 = .ok (.aload_n 0, 1) := dk_42 (dk_at dksX2_removeSession_0 7 rfl rfl)
theorem dX2_removeSession_8 : decode cX2_removeSession 8 = .ok (.getfield 41, 3) := dk_180 0 41 (dk_at dksX2_removeSession_0 8 rfl rfl)
theorem dX2_removeSession_11 : decode cX2_removeSession 11 = .ok (.iload_n 2, 1) := dk_28 (dk_at dksX2_removeSession_0 11 rfl rfl)
theorem dX2_removeSession_12 : decode cX2_removeSession 12 = .ok (.invokevirtual 75, 3) := dk_182 0 75 (dk_at dksX2_removeSession_0 12 rfl rfl)
theorem dX2_removeSession_15 : decode cX2_removeSession 15 = .ok (.checkcast 85, 3) := dk_192 0 85 (dk_at dksX2_removeSession_0 15 rfl rfl)
theorem dX2_removeSession_18 : decode cX2_removeSession 18 = .ok (.invokevirtual 84, 3) := dk_182 0 84 (dk_at dksX2_removeSession_0 18 rfl rfl)
theorem dX2_removeSession_21 : decode cX2_removeSession 21 = .ok (.invokevirtual 148, 3) := dk_182 0 148 (dk_at dksX2_removeSession_0 21 rfl rfl)
theorem dX2_removeSession_24 : decode cX2_removeSession 24 = .ok (.aload_n 0, 1) := dk_42 (dk_at dksX2_removeSession_1 0 rfl rfl)
theorem dX2_removeSession_25 : decode cX2_removeSession 25 = .ok (.getfield 41, 3) := dk_180 0 41 (dk_at dksX2_removeSession_1 1 rfl rfl)
theorem dX2_removeSession_28 : decode cX2_removeSession 28 = .ok (.iload_n 2, 1) := dk_28 (dk_at dksX2_removeSession_1 4 rfl rfl)
theorem dX2_removeSession_29 : decode cX2_removeSession 29 = .ok (.invokevirtual 151, 3) := dk_182 0 151 (dk_at dksX2_removeSession_1 5 rfl rfl)
theorem dX2_removeSession_32 : decode cX2_removeSession 32 = .ok (.aload_n 0, 1) := dk_42 (dk_at dksX2_removeSession_1 8 rfl rfl)
theorem dX2_removeSession_33 : decode cX2_removeSession 33 = .ok (.getfield 41, 3) := dk_180 0 41 (dk_at dksX2_removeSession_1 9 rfl rfl)
theorem dX2_removeSession_36 : decode cX2_removeSession 36 = .ok (.invokevirtual 135, 3) := dk_182 0 135 (dk_at dksX2_removeSession_1 12 rfl rfl)
theorem dX2_removeSession_39 : decode cX2_removeSession 39 = .ok (.ireturn, 1) := dk_172 (dk_at dksX2_removeSession_1 15 rfl rfl)
abbrev cX2_session : ByteArray := prog_2_method_16_code
def yX2_session : MethodName := ⟨RX2, "session", "(I)LTrainingDiary$Session;"⟩
def dkwX2_session_0 : List UInt8 := [42, 180, 0, 41, 42, 27, 182, 0, 145, 182, 0, 75, 192, 0, 85, 176]
abbrev dktX2_session_0 : List UInt8 := dkwX2_session_0 ++ []
theorem dksX2_session_0 : cX2_session.data.toList.drop 0 = dktX2_session_0 := by decide +kernel
theorem dX2_session_0 : decode cX2_session 0 = .ok (.aload_n 0, 1) := dk_42 (dk_at dksX2_session_0 0 rfl rfl)
theorem dX2_session_1 : decode cX2_session 1 = .ok (.getfield 41, 3) := dk_180 0 41 (dk_at dksX2_session_0 1 rfl rfl)
theorem dX2_session_4 : decode cX2_session 4 = .ok (.aload_n 0, 1) := dk_42 (dk_at dksX2_session_0 4 rfl rfl)
theorem dX2_session_5 : decode cX2_session 5 = .ok (.iload_n 1, 1) := dk_27 (dk_at dksX2_session_0 5 rfl rfl)
theorem dX2_session_6 : decode cX2_session 6 = .ok (.invokevirtual 145, 3) := dk_182 0 145 (dk_at dksX2_session_0 6 rfl rfl)
theorem dX2_session_9 : decode cX2_session 9 = .ok (.invokevirtual 75, 3) := dk_182 0 75 (dk_at dksX2_session_0 9 rfl rfl)
theorem dX2_session_12 : decode cX2_session 12 = .ok (.checkcast 85, 3) := dk_192 0 85 (dk_at dksX2_session_0 12 rfl rfl)
theorem dX2_session_15 : decode cX2_session 15 = .ok (.areturn, 1) := dk_176 (dk_at dksX2_session_0 15 rfl rfl)
abbrev cX2_minutesInZone : ByteArray := prog_2_method_6_code
def yX2_minutesInZone : MethodName := ⟨RX2, "minutesInZone", "(LTrainingDiary$Session;I)I"⟩
def dkwX2_minutesInZone_2 : List UInt8 := [180, 0, 94, 21, 5, 53, 167, 0, 4, 3, 96, 54, 4, 132, 5, 1, 167, 255, 211, 21, 4, 172]
abbrev dktX2_minutesInZone_2 : List UInt8 := dkwX2_minutesInZone_2 ++ []
def dkwX2_minutesInZone_1 : List UInt8 := [162, 0, 41, 21, 4, 42, 29, 43, 180, 0, 98, 21, 5, 53, 182, 0, 101, 28, 160, 0, 13, 43]
abbrev dktX2_minutesInZone_1 : List UInt8 := dkwX2_minutesInZone_1 ++ dktX2_minutesInZone_2
def dkwX2_minutesInZone_0 : List UInt8 := [42, 43, 182, 0, 84, 182, 0, 90, 62, 3, 54, 4, 3, 54, 5, 21, 5, 43, 180, 0, 94, 190]
abbrev dktX2_minutesInZone_0 : List UInt8 := dkwX2_minutesInZone_0 ++ dktX2_minutesInZone_1
theorem dksX2_minutesInZone_0 : cX2_minutesInZone.data.toList.drop 0 = dktX2_minutesInZone_0 := by decide +kernel
theorem dksX2_minutesInZone_1 : cX2_minutesInZone.data.toList.drop 22 = dktX2_minutesInZone_1 := dk_seg dksX2_minutesInZone_0 22 rfl rfl
theorem dksX2_minutesInZone_2 : cX2_minutesInZone.data.toList.drop 44 = dktX2_minutesInZone_2 := dk_seg dksX2_minutesInZone_1 22 rfl rfl
theorem dX2_minutesInZone_0 : decode cX2_minutesInZone 0 = .ok (.aload_n 0, 1) := dk_42 (dk_at dksX2_minutesInZone_0 0 rfl rfl)
theorem dX2_minutesInZone_1 : decode cX2_minutesInZone 1 = .ok (.aload_n 1, 1) := dk_43 (dk_at dksX2_minutesInZone_0 1 rfl rfl)
theorem dX2_minutesInZone_2 : decode cX2_minutesInZone 2 = .ok (.invokevirtual 84, 3) := dk_182 0 84 (dk_at dksX2_minutesInZone_0 2 rfl rfl)
theorem dX2_minutesInZone_5 : decode cX2_minutesInZone 5 = .ok (.invokevirtual 90, 3) := dk_182 0 90 (dk_at dksX2_minutesInZone_0 5 rfl rfl)
theorem dX2_minutesInZone_8 : decode cX2_minutesInZone 8 = .ok (.istore_n 3, 1) := dk_62 (dk_at dksX2_minutesInZone_0 8 rfl rfl)
theorem dX2_minutesInZone_9 : decode cX2_minutesInZone 9 = .ok (.iconst 0, 1) := dk_3 (dk_at dksX2_minutesInZone_0 9 rfl rfl)
theorem dX2_minutesInZone_10 : decode cX2_minutesInZone 10 = .ok (.istore 4, 2) := dk_54 4 (dk_at dksX2_minutesInZone_0 10 rfl rfl)
theorem dX2_minutesInZone_12 : decode cX2_minutesInZone 12 = .ok (.iconst 0, 1) := dk_3 (dk_at dksX2_minutesInZone_0 12 rfl rfl)
theorem dX2_minutesInZone_13 : decode cX2_minutesInZone 13 = .ok (.istore 5, 2) := dk_54 5 (dk_at dksX2_minutesInZone_0 13 rfl rfl)
theorem dX2_minutesInZone_15 : decode cX2_minutesInZone 15 = .ok (.iload 5, 2) := dk_21 5 (dk_at dksX2_minutesInZone_0 15 rfl rfl)
theorem dX2_minutesInZone_17 : decode cX2_minutesInZone 17 = .ok (.aload_n 1, 1) := dk_43 (dk_at dksX2_minutesInZone_0 17 rfl rfl)
theorem dX2_minutesInZone_18 : decode cX2_minutesInZone 18 = .ok (.getfield 94, 3) := dk_180 0 94 (dk_at dksX2_minutesInZone_0 18 rfl rfl)
theorem dX2_minutesInZone_21 : decode cX2_minutesInZone 21 = .ok (.arraylength, 1) := dk_190 (dk_at dksX2_minutesInZone_0 21 rfl rfl)
theorem dX2_minutesInZone_22 : decode cX2_minutesInZone 22 = .ok (.if_icmp .ge 41, 3) := dk_162 0 41 (dk_at dksX2_minutesInZone_1 0 rfl rfl)
theorem dX2_minutesInZone_25 : decode cX2_minutesInZone 25 = .ok (.iload 4, 2) := dk_21 4 (dk_at dksX2_minutesInZone_1 3 rfl rfl)
theorem dX2_minutesInZone_27 : decode cX2_minutesInZone 27 = .ok (.aload_n 0, 1) := dk_42 (dk_at dksX2_minutesInZone_1 5 rfl rfl)
theorem dX2_minutesInZone_28 : decode cX2_minutesInZone 28 = .ok (.iload_n 3, 1) := dk_29 (dk_at dksX2_minutesInZone_1 6 rfl rfl)
theorem dX2_minutesInZone_29 : decode cX2_minutesInZone 29 = .ok (.aload_n 1, 1) := dk_43 (dk_at dksX2_minutesInZone_1 7 rfl rfl)
theorem dX2_minutesInZone_30 : decode cX2_minutesInZone 30 = .ok (.getfield 98, 3) := dk_180 0 98 (dk_at dksX2_minutesInZone_1 8 rfl rfl)
theorem dX2_minutesInZone_33 : decode cX2_minutesInZone 33 = .ok (.iload 5, 2) := dk_21 5 (dk_at dksX2_minutesInZone_1 11 rfl rfl)
theorem dX2_minutesInZone_35 : decode cX2_minutesInZone 35 = .ok (.saload, 1) := dk_53 (dk_at dksX2_minutesInZone_1 13 rfl rfl)
theorem dX2_minutesInZone_36 : decode cX2_minutesInZone 36 = .ok (.invokevirtual 101, 3) := dk_182 0 101 (dk_at dksX2_minutesInZone_1 14 rfl rfl)
theorem dX2_minutesInZone_39 : decode cX2_minutesInZone 39 = .ok (.iload_n 2, 1) := dk_28 (dk_at dksX2_minutesInZone_1 17 rfl rfl)
theorem dX2_minutesInZone_40 : decode cX2_minutesInZone 40 = .ok (.if_icmp .ne 13, 3) := dk_160 0 13 (dk_at dksX2_minutesInZone_1 18 rfl rfl)
theorem dX2_minutesInZone_43 : decode cX2_minutesInZone 43 = .ok (.aload_n 1, 1) := dk_43 (dk_at dksX2_minutesInZone_1 21 rfl rfl)
theorem dX2_minutesInZone_44 : decode cX2_minutesInZone 44 = .ok (.getfield 94, 3) := dk_180 0 94 (dk_at dksX2_minutesInZone_2 0 rfl rfl)
theorem dX2_minutesInZone_47 : decode cX2_minutesInZone 47 = .ok (.iload 5, 2) := dk_21 5 (dk_at dksX2_minutesInZone_2 3 rfl rfl)
theorem dX2_minutesInZone_49 : decode cX2_minutesInZone 49 = .ok (.saload, 1) := dk_53 (dk_at dksX2_minutesInZone_2 5 rfl rfl)
theorem dX2_minutesInZone_50 : decode cX2_minutesInZone 50 = .ok (.goto 4, 3) := dk_167 0 4 (dk_at dksX2_minutesInZone_2 6 rfl rfl)
theorem dX2_minutesInZone_53 : decode cX2_minutesInZone 53 = .ok (.iconst 0, 1) := dk_3 (dk_at dksX2_minutesInZone_2 9 rfl rfl)
theorem dX2_minutesInZone_54 : decode cX2_minutesInZone 54 = .ok (.iadd, 1) := dk_96 (dk_at dksX2_minutesInZone_2 10 rfl rfl)
theorem dX2_minutesInZone_55 : decode cX2_minutesInZone 55 = .ok (.istore 4, 2) := dk_54 4 (dk_at dksX2_minutesInZone_2 11 rfl rfl)
theorem dX2_minutesInZone_57 : decode cX2_minutesInZone 57 = .ok (.iinc 5 1, 3) := dk_132 5 1 (dk_at dksX2_minutesInZone_2 13 rfl rfl)
theorem dX2_minutesInZone_60 : decode cX2_minutesInZone 60 = .ok (.goto (-45), 3) := dk_167 255 211 (dk_at dksX2_minutesInZone_2 16 rfl rfl)
theorem dX2_minutesInZone_63 : decode cX2_minutesInZone 63 = .ok (.iload 4, 2) := dk_21 4 (dk_at dksX2_minutesInZone_2 19 rfl rfl)
theorem dX2_minutesInZone_65 : decode cX2_minutesInZone 65 = .ok (.ireturn, 1) := dk_172 (dk_at dksX2_minutesInZone_2 21 rfl rfl)
abbrev cX2_fromStart : ByteArray := prog_2_method_13_code
def yX2_fromStart : MethodName := ⟨RX2, "fromStart", "(II)I"⟩
def dkwX2_fromStart_1 : List UInt8 := [28, 108, 96, 62, 132, 4, 1, 167, 255, 230, 29, 172]
abbrev dktX2_fromStart_1 : List UInt8 := dkwX2_fromStart_1 ++ []
def dkwX2_fromStart_0 : List UInt8 := [3, 62, 3, 54, 4, 21, 4, 27, 163, 0, 26, 29, 17, 3, 232, 42, 21, 4, 182, 0, 122, 104, 29, 100]
abbrev dktX2_fromStart_0 : List UInt8 := dkwX2_fromStart_0 ++ dktX2_fromStart_1
theorem dksX2_fromStart_0 : cX2_fromStart.data.toList.drop 0 = dktX2_fromStart_0 := by decide +kernel
theorem dksX2_fromStart_1 : cX2_fromStart.data.toList.drop 24 = dktX2_fromStart_1 := dk_seg dksX2_fromStart_0 24 rfl rfl
theorem dX2_fromStart_0 : decode cX2_fromStart 0 = .ok (.iconst 0, 1) := dk_3 (dk_at dksX2_fromStart_0 0 rfl rfl)
theorem dX2_fromStart_1 : decode cX2_fromStart 1 = .ok (.istore_n 3, 1) := dk_62 (dk_at dksX2_fromStart_0 1 rfl rfl)
theorem dX2_fromStart_2 : decode cX2_fromStart 2 = .ok (.iconst 0, 1) := dk_3 (dk_at dksX2_fromStart_0 2 rfl rfl)
theorem dX2_fromStart_3 : decode cX2_fromStart 3 = .ok (.istore 4, 2) := dk_54 4 (dk_at dksX2_fromStart_0 3 rfl rfl)
theorem dX2_fromStart_5 : decode cX2_fromStart 5 = .ok (.iload 4, 2) := dk_21 4 (dk_at dksX2_fromStart_0 5 rfl rfl)
theorem dX2_fromStart_7 : decode cX2_fromStart 7 = .ok (.iload_n 1, 1) := dk_27 (dk_at dksX2_fromStart_0 7 rfl rfl)
theorem dX2_fromStart_8 : decode cX2_fromStart 8 = .ok (.if_icmp .gt 26, 3) := dk_163 0 26 (dk_at dksX2_fromStart_0 8 rfl rfl)
theorem dX2_fromStart_11 : decode cX2_fromStart 11 = .ok (.iload_n 3, 1) := dk_29 (dk_at dksX2_fromStart_0 11 rfl rfl)
theorem dX2_fromStart_12 : decode cX2_fromStart 12 = .ok (.sipush 1000, 3) := dk_17 3 232 (dk_at dksX2_fromStart_0 12 rfl rfl)
theorem dX2_fromStart_15 : decode cX2_fromStart 15 = .ok (.aload_n 0, 1) := dk_42 (dk_at dksX2_fromStart_0 15 rfl rfl)
theorem dX2_fromStart_16 : decode cX2_fromStart 16 = .ok (.iload 4, 2) := dk_21 4 (dk_at dksX2_fromStart_0 16 rfl rfl)
theorem dX2_fromStart_18 : decode cX2_fromStart 18 = .ok (.invokevirtual 122, 3) := dk_182 0 122 (dk_at dksX2_fromStart_0 18 rfl rfl)
theorem dX2_fromStart_21 : decode cX2_fromStart 21 = .ok (.imul, 1) := dk_104 (dk_at dksX2_fromStart_0 21 rfl rfl)
theorem dX2_fromStart_22 : decode cX2_fromStart 22 = .ok (.iload_n 3, 1) := dk_29 (dk_at dksX2_fromStart_0 22 rfl rfl)
theorem dX2_fromStart_23 : decode cX2_fromStart 23 = .ok (.isub, 1) := dk_100 (dk_at dksX2_fromStart_0 23 rfl rfl)
theorem dX2_fromStart_24 : decode cX2_fromStart 24 = .ok (.iload_n 2, 1) := dk_28 (dk_at dksX2_fromStart_1 0 rfl rfl)
theorem dX2_fromStart_25 : decode cX2_fromStart 25 = .ok (.idiv, 1) := dk_108 (dk_at dksX2_fromStart_1 1 rfl rfl)
theorem dX2_fromStart_26 : decode cX2_fromStart 26 = .ok (.iadd, 1) := dk_96 (dk_at dksX2_fromStart_1 2 rfl rfl)
theorem dX2_fromStart_27 : decode cX2_fromStart 27 = .ok (.istore_n 3, 1) := dk_62 (dk_at dksX2_fromStart_1 3 rfl rfl)
theorem dX2_fromStart_28 : decode cX2_fromStart 28 = .ok (.iinc 4 1, 3) := dk_132 4 1 (dk_at dksX2_fromStart_1 4 rfl rfl)
theorem dX2_fromStart_31 : decode cX2_fromStart 31 = .ok (.goto (-26), 3) := dk_167 255 230 (dk_at dksX2_fromStart_1 7 rfl rfl)
theorem dX2_fromStart_34 : decode cX2_fromStart 34 = .ok (.iload_n 3, 1) := dk_29 (dk_at dksX2_fromStart_1 10 rfl rfl)
theorem dX2_fromStart_35 : decode cX2_fromStart 35 = .ok (.ireturn, 1) := dk_172 (dk_at dksX2_fromStart_1 11 rfl rfl)
abbrev cX2_addTarget : ByteArray := prog_2_method_30_code
def yX2_addTarget : MethodName := ⟨RX2, "addTarget", "(I)I"⟩
def dkwX2_addTarget_2 : List UInt8 := [27, 79, 42, 89, 180, 0, 59, 4, 96, 181, 0, 59, 42, 180, 0, 59, 172]
abbrev dktX2_addTarget_2 : List UInt8 := dkwX2_addTarget_2 ++ []
def dkwX2_addTarget_1 : List UInt8 := [180, 0, 59, 16, 28, 162, 0, 7, 4, 167, 0, 4, 3, 184, 0, 165, 42, 180, 0, 18, 42, 180, 0, 59]
abbrev dktX2_addTarget_1 : List UInt8 := dkwX2_addTarget_1 ++ dktX2_addTarget_2
def dkwX2_addTarget_0 : List UInt8 := [27, 3, 17, 78, 32, 184, 0, 158, 184, 0, 162, 42, 180, 0, 21, 42, 180, 0, 53, 160, 0, 16, 42]
abbrev dktX2_addTarget_0 : List UInt8 := dkwX2_addTarget_0 ++ dktX2_addTarget_1
theorem dksX2_addTarget_0 : cX2_addTarget.data.toList.drop 0 = dktX2_addTarget_0 := by decide +kernel
theorem dksX2_addTarget_1 : cX2_addTarget.data.toList.drop 23 = dktX2_addTarget_1 := dk_seg dksX2_addTarget_0 23 rfl rfl
theorem dksX2_addTarget_2 : cX2_addTarget.data.toList.drop 47 = dktX2_addTarget_2 := dk_seg dksX2_addTarget_1 24 rfl rfl
theorem dX2_addTarget_0 : decode cX2_addTarget 0 = .ok (.iload_n 1, 1) := dk_27 (dk_at dksX2_addTarget_0 0 rfl rfl)
theorem dX2_addTarget_1 : decode cX2_addTarget 1 = .ok (.iconst 0, 1) := dk_3 (dk_at dksX2_addTarget_0 1 rfl rfl)
theorem dX2_addTarget_2 : decode cX2_addTarget 2 = .ok (.sipush 20000, 3) := dk_17 78 32 (dk_at dksX2_addTarget_0 2 rfl rfl)
theorem dX2_addTarget_5 : decode cX2_addTarget 5 = .ok (.invokestatic 158, 3) := dk_184 0 158 (dk_at dksX2_addTarget_0 5 rfl rfl)
theorem dX2_addTarget_8 : decode cX2_addTarget 8 = .ok (.invokestatic 162, 3) := dk_184 0 162 (dk_at dksX2_addTarget_0 8 rfl rfl)
theorem dX2_addTarget_11 : decode cX2_addTarget 11 = .ok (.aload_n 0, 1) := dk_42 (dk_at dksX2_addTarget_0 11 rfl rfl)
theorem dX2_addTarget_12 : decode cX2_addTarget 12 = .ok (.getfield 21, 3) := dk_180 0 21 (dk_at dksX2_addTarget_0 12 rfl rfl)
theorem dX2_addTarget_15 : decode cX2_addTarget 15 = .ok (.aload_n 0, 1) := dk_42 (dk_at dksX2_addTarget_0 15 rfl rfl)
theorem dX2_addTarget_16 : decode cX2_addTarget 16 = .ok (.getfield 53, 3) := dk_180 0 53 (dk_at dksX2_addTarget_0 16 rfl rfl)
theorem dX2_addTarget_19 : decode cX2_addTarget 19 = .ok (.if_icmp .ne 16, 3) := dk_160 0 16 (dk_at dksX2_addTarget_0 19 rfl rfl)
theorem dX2_addTarget_22 : decode cX2_addTarget 22 = .ok (.aload_n 0, 1) := dk_42 (dk_at dksX2_addTarget_0 22 rfl rfl)
theorem dX2_addTarget_23 : decode cX2_addTarget 23 = .ok (.getfield 59, 3) := dk_180 0 59 (dk_at dksX2_addTarget_1 0 rfl rfl)
theorem dX2_addTarget_26 : decode cX2_addTarget 26 = .ok (.bipush 28, 2) := dk_16 28 (dk_at dksX2_addTarget_1 3 rfl rfl)
theorem dX2_addTarget_28 : decode cX2_addTarget 28 = .ok (.if_icmp .ge 7, 3) := dk_162 0 7 (dk_at dksX2_addTarget_1 5 rfl rfl)
theorem dX2_addTarget_31 : decode cX2_addTarget 31 = .ok (.iconst 1, 1) := dk_4 (dk_at dksX2_addTarget_1 8 rfl rfl)
theorem dX2_addTarget_32 : decode cX2_addTarget 32 = .ok (.goto 4, 3) := dk_167 0 4 (dk_at dksX2_addTarget_1 9 rfl rfl)
theorem dX2_addTarget_35 : decode cX2_addTarget 35 = .ok (.iconst 0, 1) := dk_3 (dk_at dksX2_addTarget_1 12 rfl rfl)
theorem dX2_addTarget_36 : decode cX2_addTarget 36 = .ok (.invokestatic 165, 3) := dk_184 0 165 (dk_at dksX2_addTarget_1 13 rfl rfl)
theorem dX2_addTarget_39 : decode cX2_addTarget 39 = .ok (.aload_n 0, 1) := dk_42 (dk_at dksX2_addTarget_1 16 rfl rfl)
theorem dX2_addTarget_40 : decode cX2_addTarget 40 = .ok (.getfield 18, 3) := dk_180 0 18 (dk_at dksX2_addTarget_1 17 rfl rfl)
theorem dX2_addTarget_43 : decode cX2_addTarget 43 = .ok (.aload_n 0, 1) := dk_42 (dk_at dksX2_addTarget_1 20 rfl rfl)
theorem dX2_addTarget_44 : decode cX2_addTarget 44 = .ok (.getfield 59, 3) := dk_180 0 59 (dk_at dksX2_addTarget_1 21 rfl rfl)
theorem dX2_addTarget_47 : decode cX2_addTarget 47 = .ok (.iload_n 1, 1) := dk_27 (dk_at dksX2_addTarget_2 0 rfl rfl)
theorem dX2_addTarget_48 : decode cX2_addTarget 48 = .ok (.iastore, 1) := dk_79 (dk_at dksX2_addTarget_2 1 rfl rfl)
theorem dX2_addTarget_49 : decode cX2_addTarget 49 = .ok (.aload_n 0, 1) := dk_42 (dk_at dksX2_addTarget_2 2 rfl rfl)
theorem dX2_addTarget_50 : decode cX2_addTarget 50 = .ok (.dup, 1) := dk_89 (dk_at dksX2_addTarget_2 3 rfl rfl)
theorem dX2_addTarget_51 : decode cX2_addTarget 51 = .ok (.getfield 59, 3) := dk_180 0 59 (dk_at dksX2_addTarget_2 4 rfl rfl)
theorem dX2_addTarget_54 : decode cX2_addTarget 54 = .ok (.iconst 1, 1) := dk_4 (dk_at dksX2_addTarget_2 7 rfl rfl)
theorem dX2_addTarget_55 : decode cX2_addTarget 55 = .ok (.iadd, 1) := dk_96 (dk_at dksX2_addTarget_2 8 rfl rfl)
theorem dX2_addTarget_56 : decode cX2_addTarget 56 = .ok (.putfield 59, 3) := dk_181 0 59 (dk_at dksX2_addTarget_2 9 rfl rfl)
theorem dX2_addTarget_59 : decode cX2_addTarget 59 = .ok (.aload_n 0, 1) := dk_42 (dk_at dksX2_addTarget_2 12 rfl rfl)
theorem dX2_addTarget_60 : decode cX2_addTarget 60 = .ok (.getfield 59, 3) := dk_180 0 59 (dk_at dksX2_addTarget_2 13 rfl rfl)
theorem dX2_addTarget_63 : decode cX2_addTarget 63 = .ok (.ireturn, 1) := dk_172 (dk_at dksX2_addTarget_2 16 rfl rfl)
abbrev cX2_sign : ByteArray := prog_2_method_32_code
def yX2_sign : MethodName := ⟨RX2, "sign", "(I)C"⟩
def dkwX2_sign_6 : List UInt8 := [153, 0, 12, 16, 48, 21, 4, 96, 146, 167, 0, 5, 16, 46, 172]
abbrev dktX2_sign_6 : List UInt8 := dkwX2_sign_6 ++ []
def dkwX2_sign_5 : List UInt8 := [21, 4, 52, 164, 0, 8, 21, 5, 167, 0, 5, 21, 4, 54, 4, 132, 5, 1, 167, 255, 227, 29]
abbrev dktX2_sign_5 : List UInt8 := dkwX2_sign_5 ++ dktX2_sign_6
def dkwX2_sign_4 : List UInt8 := [167, 255, 231, 167, 255, 192, 3, 54, 4, 4, 54, 5, 21, 5, 8, 163, 0, 29, 44, 21, 5, 52, 44]
abbrev dktX2_sign_4 : List UInt8 := dkwX2_sign_4 ++ dktX2_sign_5
def dkwX2_sign_3 : List UInt8 := [163, 0, 25, 44, 21, 6, 92, 52, 42, 25, 5, 21, 6, 182, 0, 197, 96, 146, 85, 132, 6, 1]
abbrev dktX2_sign_3 : List UInt8 := dkwX2_sign_3 ++ dktX2_sign_4
def dkwX2_sign_2 : List UInt8 := [192, 0, 85, 58, 5, 25, 5, 182, 0, 84, 27, 160, 0, 36, 4, 62, 4, 54, 6, 21, 6, 8]
abbrev dktX2_sign_2 : List UInt8 := dkwX2_sign_2 ++ dktX2_sign_3
def dkwX2_sign_1 : List UInt8 := [182, 0, 104, 58, 4, 25, 4, 185, 0, 108, 1, 0, 153, 0, 60, 25, 4, 185, 0, 114, 1, 0]
abbrev dktX2_sign_1 : List UInt8 := dkwX2_sign_1 ++ dktX2_sign_2
def dkwX2_sign_0 : List UInt8 := [27, 42, 180, 0, 53, 164, 0, 6, 16, 45, 172, 16, 6, 188, 5, 77, 3, 62, 42, 180, 0, 41]
abbrev dktX2_sign_0 : List UInt8 := dkwX2_sign_0 ++ dktX2_sign_1
theorem dksX2_sign_0 : cX2_sign.data.toList.drop 0 = dktX2_sign_0 := by decide +kernel
theorem dksX2_sign_1 : cX2_sign.data.toList.drop 22 = dktX2_sign_1 := dk_seg dksX2_sign_0 22 rfl rfl
theorem dksX2_sign_2 : cX2_sign.data.toList.drop 44 = dktX2_sign_2 := dk_seg dksX2_sign_1 22 rfl rfl
theorem dksX2_sign_3 : cX2_sign.data.toList.drop 66 = dktX2_sign_3 := dk_seg dksX2_sign_2 22 rfl rfl
theorem dksX2_sign_4 : cX2_sign.data.toList.drop 88 = dktX2_sign_4 := dk_seg dksX2_sign_3 22 rfl rfl
theorem dksX2_sign_5 : cX2_sign.data.toList.drop 111 = dktX2_sign_5 := dk_seg dksX2_sign_4 23 rfl rfl
theorem dksX2_sign_6 : cX2_sign.data.toList.drop 133 = dktX2_sign_6 := dk_seg dksX2_sign_5 22 rfl rfl
theorem dX2_sign_0 : decode cX2_sign 0 = .ok (.iload_n 1, 1) := dk_27 (dk_at dksX2_sign_0 0 rfl rfl)
theorem dX2_sign_1 : decode cX2_sign 1 = .ok (.aload_n 0, 1) := dk_42 (dk_at dksX2_sign_0 1 rfl rfl)
theorem dX2_sign_2 : decode cX2_sign 2 = .ok (.getfield 53, 3) := dk_180 0 53 (dk_at dksX2_sign_0 2 rfl rfl)
theorem dX2_sign_5 : decode cX2_sign 5 = .ok (.if_icmp .le 6, 3) := dk_164 0 6 (dk_at dksX2_sign_0 5 rfl rfl)
theorem dX2_sign_8 : decode cX2_sign 8 = .ok (.bipush 45, 2) := dk_16 45 (dk_at dksX2_sign_0 8 rfl rfl)
theorem dX2_sign_10 : decode cX2_sign 10 = .ok (.ireturn, 1) := dk_172 (dk_at dksX2_sign_0 10 rfl rfl)
theorem dX2_sign_11 : decode cX2_sign 11 = .ok (.bipush 6, 2) := dk_16 6 (dk_at dksX2_sign_0 11 rfl rfl)
theorem dX2_sign_13 : decode cX2_sign 13 = .ok (.newarray .char, 2) := dk_188_5 (dk_at dksX2_sign_0 13 rfl rfl)
theorem dX2_sign_15 : decode cX2_sign 15 = .ok (.astore_n 2, 1) := dk_77 (dk_at dksX2_sign_0 15 rfl rfl)
theorem dX2_sign_16 : decode cX2_sign 16 = .ok (.iconst 0, 1) := dk_3 (dk_at dksX2_sign_0 16 rfl rfl)
theorem dX2_sign_17 : decode cX2_sign 17 = .ok (.istore_n 3, 1) := dk_62 (dk_at dksX2_sign_0 17 rfl rfl)
theorem dX2_sign_18 : decode cX2_sign 18 = .ok (.aload_n 0, 1) := dk_42 (dk_at dksX2_sign_0 18 rfl rfl)
theorem dX2_sign_19 : decode cX2_sign 19 = .ok (.getfield 41, 3) := dk_180 0 41 (dk_at dksX2_sign_0 19 rfl rfl)
theorem dX2_sign_22 : decode cX2_sign 22 = .ok (.invokevirtual 104, 3) := dk_182 0 104 (dk_at dksX2_sign_1 0 rfl rfl)
theorem dX2_sign_25 : decode cX2_sign 25 = .ok (.astore 4, 2) := dk_58 4 (dk_at dksX2_sign_1 3 rfl rfl)
theorem dX2_sign_27 : decode cX2_sign 27 = .ok (.aload 4, 2) := dk_25 4 (dk_at dksX2_sign_1 5 rfl rfl)
theorem dX2_sign_29 : decode cX2_sign 29 = .ok (.invokeinterface 108 1, 5) := by decide +kernel
theorem dX2_sign_34 : decode cX2_sign 34 = .ok (.ifCond .eq 60, 3) := dk_153 0 60 (dk_at dksX2_sign_1 12 rfl rfl)
theorem dX2_sign_37 : decode cX2_sign 37 = .ok (.aload 4, 2) := dk_25 4 (dk_at dksX2_sign_1 15 rfl rfl)
theorem dX2_sign_39 : decode cX2_sign 39 = .ok (.invokeinterface 114 1, 5) := by decide +kernel
theorem dX2_sign_44 : decode cX2_sign 44 = .ok (.checkcast 85, 3) := dk_192 0 85 (dk_at dksX2_sign_2 0 rfl rfl)
theorem dX2_sign_47 : decode cX2_sign 47 = .ok (.astore 5, 2) := dk_58 5 (dk_at dksX2_sign_2 3 rfl rfl)
theorem dX2_sign_49 : decode cX2_sign 49 = .ok (.aload 5, 2) := dk_25 5 (dk_at dksX2_sign_2 5 rfl rfl)
theorem dX2_sign_51 : decode cX2_sign 51 = .ok (.invokevirtual 84, 3) := dk_182 0 84 (dk_at dksX2_sign_2 7 rfl rfl)
theorem dX2_sign_54 : decode cX2_sign 54 = .ok (.iload_n 1, 1) := dk_27 (dk_at dksX2_sign_2 10 rfl rfl)
theorem dX2_sign_55 : decode cX2_sign 55 = .ok (.if_icmp .ne 36, 3) := dk_160 0 36 (dk_at dksX2_sign_2 11 rfl rfl)
theorem dX2_sign_58 : decode cX2_sign 58 = .ok (.iconst 1, 1) := dk_4 (dk_at dksX2_sign_2 14 rfl rfl)
theorem dX2_sign_59 : decode cX2_sign 59 = .ok (.istore_n 3, 1) := dk_62 (dk_at dksX2_sign_2 15 rfl rfl)
theorem dX2_sign_60 : decode cX2_sign 60 = .ok (.iconst 1, 1) := dk_4 (dk_at dksX2_sign_2 16 rfl rfl)
theorem dX2_sign_61 : decode cX2_sign 61 = .ok (.istore 6, 2) := dk_54 6 (dk_at dksX2_sign_2 17 rfl rfl)
theorem dX2_sign_63 : decode cX2_sign 63 = .ok (.iload 6, 2) := dk_21 6 (dk_at dksX2_sign_2 19 rfl rfl)
theorem dX2_sign_65 : decode cX2_sign 65 = .ok (.iconst 5, 1) := dk_8 (dk_at dksX2_sign_2 21 rfl rfl)
theorem dX2_sign_66 : decode cX2_sign 66 = .ok (.if_icmp .gt 25, 3) := dk_163 0 25 (dk_at dksX2_sign_3 0 rfl rfl)
theorem dX2_sign_69 : decode cX2_sign 69 = .ok (.aload_n 2, 1) := dk_44 (dk_at dksX2_sign_3 3 rfl rfl)
theorem dX2_sign_70 : decode cX2_sign 70 = .ok (.iload 6, 2) := dk_21 6 (dk_at dksX2_sign_3 4 rfl rfl)
theorem dX2_sign_72 : decode cX2_sign 72 = .ok (.dup2, 1) := dk_92 (dk_at dksX2_sign_3 6 rfl rfl)
theorem dX2_sign_73 : decode cX2_sign 73 = .ok (.caload, 1) := dk_52 (dk_at dksX2_sign_3 7 rfl rfl)
theorem dX2_sign_74 : decode cX2_sign 74 = .ok (.aload_n 0, 1) := dk_42 (dk_at dksX2_sign_3 8 rfl rfl)
theorem dX2_sign_75 : decode cX2_sign 75 = .ok (.aload 5, 2) := dk_25 5 (dk_at dksX2_sign_3 9 rfl rfl)
theorem dX2_sign_77 : decode cX2_sign 77 = .ok (.iload 6, 2) := dk_21 6 (dk_at dksX2_sign_3 11 rfl rfl)
theorem dX2_sign_79 : decode cX2_sign 79 = .ok (.invokevirtual 197, 3) := dk_182 0 197 (dk_at dksX2_sign_3 13 rfl rfl)
theorem dX2_sign_82 : decode cX2_sign 82 = .ok (.iadd, 1) := dk_96 (dk_at dksX2_sign_3 16 rfl rfl)
theorem dX2_sign_83 : decode cX2_sign 83 = .ok (.i2c, 1) := dk_146 (dk_at dksX2_sign_3 17 rfl rfl)
theorem dX2_sign_84 : decode cX2_sign 84 = .ok (.castore, 1) := dk_85 (dk_at dksX2_sign_3 18 rfl rfl)
theorem dX2_sign_85 : decode cX2_sign 85 = .ok (.iinc 6 1, 3) := dk_132 6 1 (dk_at dksX2_sign_3 19 rfl rfl)
theorem dX2_sign_88 : decode cX2_sign 88 = .ok (.goto (-25), 3) := dk_167 255 231 (dk_at dksX2_sign_4 0 rfl rfl)
theorem dX2_sign_91 : decode cX2_sign 91 = .ok (.goto (-64), 3) := dk_167 255 192 (dk_at dksX2_sign_4 3 rfl rfl)
theorem dX2_sign_94 : decode cX2_sign 94 = .ok (.iconst 0, 1) := dk_3 (dk_at dksX2_sign_4 6 rfl rfl)
theorem dX2_sign_95 : decode cX2_sign 95 = .ok (.istore 4, 2) := dk_54 4 (dk_at dksX2_sign_4 7 rfl rfl)
theorem dX2_sign_97 : decode cX2_sign 97 = .ok (.iconst 1, 1) := dk_4 (dk_at dksX2_sign_4 9 rfl rfl)
theorem dX2_sign_98 : decode cX2_sign 98 = .ok (.istore 5, 2) := dk_54 5 (dk_at dksX2_sign_4 10 rfl rfl)
theorem dX2_sign_100 : decode cX2_sign 100 = .ok (.iload 5, 2) := dk_21 5 (dk_at dksX2_sign_4 12 rfl rfl)
theorem dX2_sign_102 : decode cX2_sign 102 = .ok (.iconst 5, 1) := dk_8 (dk_at dksX2_sign_4 14 rfl rfl)
theorem dX2_sign_103 : decode cX2_sign 103 = .ok (.if_icmp .gt 29, 3) := dk_163 0 29 (dk_at dksX2_sign_4 15 rfl rfl)
theorem dX2_sign_106 : decode cX2_sign 106 = .ok (.aload_n 2, 1) := dk_44 (dk_at dksX2_sign_4 18 rfl rfl)
theorem dX2_sign_107 : decode cX2_sign 107 = .ok (.iload 5, 2) := dk_21 5 (dk_at dksX2_sign_4 19 rfl rfl)
theorem dX2_sign_109 : decode cX2_sign 109 = .ok (.caload, 1) := dk_52 (dk_at dksX2_sign_4 21 rfl rfl)
theorem dX2_sign_110 : decode cX2_sign 110 = .ok (.aload_n 2, 1) := dk_44 (dk_at dksX2_sign_4 22 rfl rfl)
theorem dX2_sign_111 : decode cX2_sign 111 = .ok (.iload 4, 2) := dk_21 4 (dk_at dksX2_sign_5 0 rfl rfl)
theorem dX2_sign_113 : decode cX2_sign 113 = .ok (.caload, 1) := dk_52 (dk_at dksX2_sign_5 2 rfl rfl)
theorem dX2_sign_114 : decode cX2_sign 114 = .ok (.if_icmp .le 8, 3) := dk_164 0 8 (dk_at dksX2_sign_5 3 rfl rfl)
theorem dX2_sign_117 : decode cX2_sign 117 = .ok (.iload 5, 2) := dk_21 5 (dk_at dksX2_sign_5 6 rfl rfl)
theorem dX2_sign_119 : decode cX2_sign 119 = .ok (.goto 5, 3) := dk_167 0 5 (dk_at dksX2_sign_5 8 rfl rfl)
theorem dX2_sign_122 : decode cX2_sign 122 = .ok (.iload 4, 2) := dk_21 4 (dk_at dksX2_sign_5 11 rfl rfl)
theorem dX2_sign_124 : decode cX2_sign 124 = .ok (.istore 4, 2) := dk_54 4 (dk_at dksX2_sign_5 13 rfl rfl)
theorem dX2_sign_126 : decode cX2_sign 126 = .ok (.iinc 5 1, 3) := dk_132 5 1 (dk_at dksX2_sign_5 15 rfl rfl)
theorem dX2_sign_129 : decode cX2_sign 129 = .ok (.goto (-29), 3) := dk_167 255 227 (dk_at dksX2_sign_5 18 rfl rfl)
theorem dX2_sign_132 : decode cX2_sign 132 = .ok (.iload_n 3, 1) := dk_29 (dk_at dksX2_sign_5 21 rfl rfl)
theorem dX2_sign_133 : decode cX2_sign 133 = .ok (.ifCond .eq 12, 3) := dk_153 0 12 (dk_at dksX2_sign_6 0 rfl rfl)
theorem dX2_sign_136 : decode cX2_sign 136 = .ok (.bipush 48, 2) := dk_16 48 (dk_at dksX2_sign_6 3 rfl rfl)
theorem dX2_sign_138 : decode cX2_sign 138 = .ok (.iload 4, 2) := dk_21 4 (dk_at dksX2_sign_6 5 rfl rfl)
theorem dX2_sign_140 : decode cX2_sign 140 = .ok (.iadd, 1) := dk_96 (dk_at dksX2_sign_6 7 rfl rfl)
theorem dX2_sign_141 : decode cX2_sign 141 = .ok (.i2c, 1) := dk_146 (dk_at dksX2_sign_6 8 rfl rfl)
theorem dX2_sign_142 : decode cX2_sign 142 = .ok (.goto 5, 3) := dk_167 0 5 (dk_at dksX2_sign_6 9 rfl rfl)
theorem dX2_sign_145 : decode cX2_sign 145 = .ok (.bipush 46, 2) := dk_16 46 (dk_at dksX2_sign_6 12 rfl rfl)
theorem dX2_sign_147 : decode cX2_sign 147 = .ok (.ireturn, 1) := dk_172 (dk_at dksX2_sign_6 14 rfl rfl)
theorem q48 : (Jvm.Cond.initialized "TrainingDiary$Book") ∈ lw_all := lw_g (lw_at lw_m1 2 rfl) rfl
theorem q92 : (Jvm.Cond.instantiable "TrainingDiary$Book" (13 : Nat)) ∈ lw_all := lw_g (lw_at lw_m1 46 rfl) rfl
theorem q94 : (Jvm.Cond.instanceMethod ({ cls := "TrainingDiary$Book", name := "<init>", desc := "()V" } : Jvm.MethodName)) ∈ lw_all := lw_g (lw_at lw_m1 48 rfl) rfl
theorem q95 : (Jvm.Cond.code ({ cls := "TrainingDiary$Book", name := "<init>", desc := "()V" } : Jvm.MethodName) prog_2_method_1_code (1 : Nat) (Option.none : Option Jvm.ClassFile.FieldType)) ∈ lw_all := lw_g (lw_at lw_m1 49 rfl) rfl
theorem q96 : (Jvm.Cond.methodLink "TrainingDiary$Book" (3 : Nat) ({ cls := "java/lang/Object", name := "<init>", desc := "()V" } : Jvm.MethodName)) ∈ lw_all := lw_g (lw_at lw_m1 50 rfl) rfl
theorem q97 : (Jvm.Cond.classLink "TrainingDiary$Book" (34 : Nat) "TrainingDiary$Ordered") ∈ lw_all := lw_g (lw_at lw_m1 51 rfl) rfl
theorem q99 : (Jvm.Cond.methodLink "TrainingDiary$Book" (36 : Nat) ({ cls := "TrainingDiary$Ordered", name := "<init>", desc := "()V" } : Jvm.MethodName)) ∈ lw_all := lw_g (lw_at lw_m1 53 rfl) rfl
theorem q135 : (Jvm.Cond.fieldLink "TrainingDiary$Book" (37 : Nat) "TrainingDiary$Book" "tests" "LTrainingDiary$Ordered;") ∈ lw_all := lw_g (lw_at lw_m1 89 rfl) rfl
theorem q137 : (Jvm.Cond.fieldLink "TrainingDiary$Book" (41 : Nat) "TrainingDiary$Book" "sessions" "LTrainingDiary$Ordered;") ∈ lw_all := lw_g (lw_at lw_m1 91 rfl) rfl
theorem q139 : (Jvm.Cond.fieldLink "TrainingDiary$Book" (9 : Nat) "TrainingDiary$Book" "bounds" "[I") ∈ lw_all := lw_g (lw_at lw_m1 93 rfl) rfl
theorem q141 : (Jvm.Cond.fieldLink "TrainingDiary$Book" (15 : Nat) "TrainingDiary$Book" "weights" "[I") ∈ lw_all := lw_g (lw_at lw_m1 95 rfl) rfl
theorem q144 : (Jvm.Cond.fieldLink "TrainingDiary$Book" (18 : Nat) "TrainingDiary$Book" "targets" "[I") ∈ lw_all := lw_g (lw_at lw_m1 98 rfl) rfl
theorem q147 : (Jvm.Cond.fieldLink "TrainingDiary$Book" (53 : Nat) "TrainingDiary$Book" "today" "I") ∈ lw_all := lw_g (lw_at lw_m1 101 rfl) rfl
theorem q149 : (Jvm.Cond.fieldLink "TrainingDiary$Book" (56 : Nat) "TrainingDiary$Book" "nextId" "I") ∈ lw_all := lw_g (lw_at lw_m1 103 rfl) rfl
theorem q151 : (Jvm.Cond.fieldLink "TrainingDiary$Book" (21 : Nat) "TrainingDiary$Book" "planStart" "I") ∈ lw_all := lw_g (lw_at lw_m1 105 rfl) rfl
theorem q154 : (Jvm.Cond.fieldLink "TrainingDiary$Book" (59 : Nat) "TrainingDiary$Book" "entries" "I") ∈ lw_all := lw_g (lw_at lw_m1 108 rfl) rfl
theorem q156 : (Jvm.Cond.fieldLink "TrainingDiary$Book" (62 : Nat) "TrainingDiary$Book" "known" "I") ∈ lw_all := lw_g (lw_at lw_m1 110 rfl) rfl
theorem q157 : (Jvm.Cond.fieldLink "TrainingDiary$Book" (25 : Nat) "TrainingDiary$Book" "loads" "[I") ∈ lw_all := lw_g (lw_at lw_m1 111 rfl) rfl
theorem q158 : (Jvm.Cond.fieldLink "TrainingDiary$Book" (28 : Nat) "TrainingDiary$Book" "fitness" "[I") ∈ lw_all := lw_g (lw_at lw_m1 112 rfl) rfl
theorem q159 : (Jvm.Cond.fieldLink "TrainingDiary$Book" (31 : Nat) "TrainingDiary$Book" "fatigue" "[I") ∈ lw_all := lw_g (lw_at lw_m1 113 rfl) rfl
theorem q160 : (Jvm.Cond.laysFinal "TrainingDiary$Book" "TrainingDiary$Book" "tests" "LTrainingDiary$Ordered;") ∈ lw_all := lw_g (lw_at lw_m1 114 rfl) rfl
theorem q161 : (Jvm.Cond.soleField "TrainingDiary$Book" "tests") ∈ lw_all := lw_g (lw_at lw_m1 115 rfl) rfl
theorem q162 : (Jvm.Cond.laysFinal "TrainingDiary$Book" "TrainingDiary$Book" "sessions" "LTrainingDiary$Ordered;") ∈ lw_all := lw_g (lw_at lw_m1 116 rfl) rfl
theorem q163 : (Jvm.Cond.soleField "TrainingDiary$Book" "sessions") ∈ lw_all := lw_g (lw_at lw_m1 117 rfl) rfl
theorem q164 : (Jvm.Cond.laysFinal "TrainingDiary$Book" "TrainingDiary$Book" "bounds" "[I") ∈ lw_all := lw_g (lw_at lw_m1 118 rfl) rfl
theorem q165 : (Jvm.Cond.soleField "TrainingDiary$Book" "bounds") ∈ lw_all := lw_g (lw_at lw_m1 119 rfl) rfl
theorem q166 : (Jvm.Cond.laysFinal "TrainingDiary$Book" "TrainingDiary$Book" "weights" "[I") ∈ lw_all := lw_g (lw_at lw_m1 120 rfl) rfl
theorem q167 : (Jvm.Cond.soleField "TrainingDiary$Book" "weights") ∈ lw_all := lw_g (lw_at lw_m1 121 rfl) rfl
theorem q168 : (Jvm.Cond.laysFinal "TrainingDiary$Book" "TrainingDiary$Book" "targets" "[I") ∈ lw_all := lw_g (lw_at lw_m1 122 rfl) rfl
theorem q169 : (Jvm.Cond.soleField "TrainingDiary$Book" "targets") ∈ lw_all := lw_g (lw_at lw_m1 123 rfl) rfl
theorem q170 : (Jvm.Cond.lays "TrainingDiary$Book" "TrainingDiary$Book" "today" "I") ∈ lw_all := lw_g (lw_at lw_m1 124 rfl) rfl
theorem q171 : (Jvm.Cond.soleField "TrainingDiary$Book" "today") ∈ lw_all := lw_g (lw_at lw_m1 125 rfl) rfl
theorem q172 : (Jvm.Cond.lays "TrainingDiary$Book" "TrainingDiary$Book" "nextId" "I") ∈ lw_all := lw_g (lw_at lw_m1 126 rfl) rfl
theorem q173 : (Jvm.Cond.soleField "TrainingDiary$Book" "nextId") ∈ lw_all := lw_g (lw_at lw_m1 127 rfl) rfl
theorem q174 : (Jvm.Cond.lays "TrainingDiary$Book" "TrainingDiary$Book" "planStart" "I") ∈ lw_all := lw_g (lw_at lw_m1 128 rfl) rfl
theorem q175 : (Jvm.Cond.soleField "TrainingDiary$Book" "planStart") ∈ lw_all := lw_g (lw_at lw_m1 129 rfl) rfl
theorem q176 : (Jvm.Cond.lays "TrainingDiary$Book" "TrainingDiary$Book" "entries" "I") ∈ lw_all := lw_g (lw_at lw_m1 130 rfl) rfl
theorem q177 : (Jvm.Cond.soleField "TrainingDiary$Book" "entries") ∈ lw_all := lw_g (lw_at lw_m1 131 rfl) rfl
theorem q178 : (Jvm.Cond.lays "TrainingDiary$Book" "TrainingDiary$Book" "known" "I") ∈ lw_all := lw_g (lw_at lw_m1 132 rfl) rfl
theorem q179 : (Jvm.Cond.soleField "TrainingDiary$Book" "known") ∈ lw_all := lw_g (lw_at lw_m1 133 rfl) rfl
theorem q180 : (Jvm.Cond.laysFinal "TrainingDiary$Book" "TrainingDiary$Book" "loads" "[I") ∈ lw_all := lw_g (lw_at lw_m1 134 rfl) rfl
theorem q181 : (Jvm.Cond.soleField "TrainingDiary$Book" "loads") ∈ lw_all := lw_g (lw_at lw_m1 135 rfl) rfl
theorem q182 : (Jvm.Cond.laysFinal "TrainingDiary$Book" "TrainingDiary$Book" "fitness" "[I") ∈ lw_all := lw_g (lw_at lw_m1 136 rfl) rfl
theorem q183 : (Jvm.Cond.soleField "TrainingDiary$Book" "fitness") ∈ lw_all := lw_g (lw_at lw_m1 137 rfl) rfl
theorem q184 : (Jvm.Cond.laysFinal "TrainingDiary$Book" "TrainingDiary$Book" "fatigue" "[I") ∈ lw_all := lw_g (lw_at lw_m1 138 rfl) rfl
theorem q185 : (Jvm.Cond.soleField "TrainingDiary$Book" "fatigue") ∈ lw_all := lw_g (lw_at lw_m1 139 rfl) rfl
theorem q186 : (Jvm.Cond.superclass "TrainingDiary$Book" "java/lang/Object") ∈ lw_all := lw_g (lw_at lw_m1 140 rfl) rfl
theorem q276 : (Jvm.Cond.instanceMethod ({ cls := "TrainingDiary$Book", name := "loadOn", desc := "(I)I" } : Jvm.MethodName)) ∈ lw_all := lw_g (lw_at lw_m1 230 rfl) rfl
theorem q277 : (Jvm.Cond.selects "TrainingDiary$Book" ({ cls := "TrainingDiary$Book", name := "loadOn", desc := "(I)I" } : Jvm.MethodName) ({ cls := "TrainingDiary$Book", name := "loadOn", desc := "(I)I" } : Jvm.MethodName)) ∈ lw_all := lw_g (lw_at lw_m1 231 rfl) rfl
theorem q278 : (Jvm.Cond.code ({ cls := "TrainingDiary$Book", name := "loadOn", desc := "(I)I" } : Jvm.MethodName) prog_2_method_10_code (2 : Nat) (Option.some Jvm.ClassFile.FieldType.int)) ∈ lw_all := lw_g (lw_at lw_m1 232 rfl) rfl
theorem q279 : (Jvm.Cond.methodLink "TrainingDiary$Book" (125 : Nat) ({ cls := "TrainingDiary$Book", name := "learnUpTo", desc := "(I)V" } : Jvm.MethodName)) ∈ lw_all := lw_g (lw_at lw_m1 233 rfl) rfl
theorem q280 : (Jvm.Cond.privateMethod ({ cls := "TrainingDiary$Book", name := "learnUpTo", desc := "(I)V" } : Jvm.MethodName)) ∈ lw_tbl := lw_at lw_m1 234 rfl
theorem q281 : (Jvm.Cond.instanceMethod ({ cls := "TrainingDiary$Book", name := "learnUpTo", desc := "(I)V" } : Jvm.MethodName)) ∈ lw_all := lw_g (lw_at lw_m1 235 rfl) rfl
theorem q282 : (Jvm.Cond.code ({ cls := "TrainingDiary$Book", name := "learnUpTo", desc := "(I)V" } : Jvm.MethodName) prog_2_method_9_code (4 : Nat) (Option.none : Option Jvm.ClassFile.FieldType)) ∈ lw_all := lw_g (lw_at lw_m1 236 rfl) rfl
theorem q283 : (Jvm.Cond.methodLink "TrainingDiary$Book" (122 : Nat) ({ cls := "TrainingDiary$Book", name := "loadFromSessions", desc := "(I)I" } : Jvm.MethodName)) ∈ lw_all := lw_g (lw_at lw_m1 237 rfl) rfl
theorem q284 : (Jvm.Cond.privateMethod ({ cls := "TrainingDiary$Book", name := "loadFromSessions", desc := "(I)I" } : Jvm.MethodName)) ∈ lw_tbl := lw_at lw_m1 238 rfl
theorem q285 : (Jvm.Cond.instanceMethod ({ cls := "TrainingDiary$Book", name := "loadFromSessions", desc := "(I)I" } : Jvm.MethodName)) ∈ lw_all := lw_g (lw_at lw_m1 239 rfl) rfl
theorem q286 : (Jvm.Cond.code ({ cls := "TrainingDiary$Book", name := "loadFromSessions", desc := "(I)I" } : Jvm.MethodName) prog_2_method_8_code (5 : Nat) (Option.some Jvm.ClassFile.FieldType.int)) ∈ lw_all := lw_g (lw_at lw_m2 0 rfl) rfl
theorem q287 : (Jvm.Cond.methodLink "TrainingDiary$Book" (104 : Nat) ({ cls := "TrainingDiary$Ordered", name := "iterator", desc := "()Ljava/util/Iterator;" } : Jvm.MethodName)) ∈ lw_all := lw_g (lw_at lw_m2 1 rfl) rfl
theorem q304 : (Jvm.Cond.interfaceEntry "TrainingDiary$Book" (108 : Nat)) ∈ lw_tbl := lw_at lw_m2 18 rfl
theorem q305 : (Jvm.Cond.methodLink "TrainingDiary$Book" (108 : Nat) ({ cls := "java/util/Iterator", name := "hasNext", desc := "()Z" } : Jvm.MethodName)) ∈ lw_all := lw_g (lw_at lw_m2 19 rfl) rfl
theorem q315 : (Jvm.Cond.interfaceEntry "TrainingDiary$Book" (114 : Nat)) ∈ lw_tbl := lw_at lw_m2 29 rfl
theorem q316 : (Jvm.Cond.methodLink "TrainingDiary$Book" (114 : Nat) ({ cls := "java/util/Iterator", name := "next", desc := "()Ljava/lang/Object;" } : Jvm.MethodName)) ∈ lw_all := lw_g (lw_at lw_m2 30 rfl) rfl
theorem q418 : (Jvm.Cond.classLink "TrainingDiary$Book" (85 : Nat) "TrainingDiary$Session") ∈ lw_all := lw_g (lw_at lw_m2 132 rfl) rfl
theorem q419 : (Jvm.Cond.methodLink "TrainingDiary$Book" (84 : Nat) ({ cls := "TrainingDiary$Session", name := "day", desc := "()I" } : Jvm.MethodName)) ∈ lw_all := lw_g (lw_at lw_m2 133 rfl) rfl
theorem q425 : (Jvm.Cond.methodLink "TrainingDiary$Book" (118 : Nat) ({ cls := "TrainingDiary$Book", name := "loadOf", desc := "(LTrainingDiary$Session;)I" } : Jvm.MethodName)) ∈ lw_all := lw_g (lw_at lw_m2 139 rfl) rfl
theorem q426 : (Jvm.Cond.instanceMethod ({ cls := "TrainingDiary$Book", name := "loadOf", desc := "(LTrainingDiary$Session;)I" } : Jvm.MethodName)) ∈ lw_all := lw_g (lw_at lw_m2 140 rfl) rfl
theorem q427 : (Jvm.Cond.selects "TrainingDiary$Book" ({ cls := "TrainingDiary$Book", name := "loadOf", desc := "(LTrainingDiary$Session;)I" } : Jvm.MethodName) ({ cls := "TrainingDiary$Book", name := "loadOf", desc := "(LTrainingDiary$Session;)I" } : Jvm.MethodName)) ∈ lw_all := lw_g (lw_at lw_m2 141 rfl) rfl
theorem q428 : (Jvm.Cond.code ({ cls := "TrainingDiary$Book", name := "loadOf", desc := "(LTrainingDiary$Session;)I" } : Jvm.MethodName) prog_2_method_7_code (5 : Nat) (Option.some Jvm.ClassFile.FieldType.int)) ∈ lw_all := lw_g (lw_at lw_m2 142 rfl) rfl
theorem q429 : (Jvm.Cond.methodLink "TrainingDiary$Book" (90 : Nat) ({ cls := "TrainingDiary$Book", name := "thresholdOn", desc := "(I)I" } : Jvm.MethodName)) ∈ lw_all := lw_g (lw_at lw_m2 143 rfl) rfl
theorem q430 : (Jvm.Cond.instanceMethod ({ cls := "TrainingDiary$Book", name := "thresholdOn", desc := "(I)I" } : Jvm.MethodName)) ∈ lw_all := lw_g (lw_at lw_m2 144 rfl) rfl
theorem q431 : (Jvm.Cond.selects "TrainingDiary$Book" ({ cls := "TrainingDiary$Book", name := "thresholdOn", desc := "(I)I" } : Jvm.MethodName) ({ cls := "TrainingDiary$Book", name := "thresholdOn", desc := "(I)I" } : Jvm.MethodName)) ∈ lw_all := lw_g (lw_at lw_m2 145 rfl) rfl
theorem q432 : (Jvm.Cond.code ({ cls := "TrainingDiary$Book", name := "thresholdOn", desc := "(I)I" } : Jvm.MethodName) prog_2_method_4_code (3 : Nat) (Option.some Jvm.ClassFile.FieldType.int)) ∈ lw_all := lw_g (lw_at lw_m2 146 rfl) rfl
theorem q433 : (Jvm.Cond.methodLinkNest "TrainingDiary$Book" (71 : Nat) ({ cls := "TrainingDiary", name := "lastUpTo", desc := "(LTrainingDiary$Ordered;I)I" } : Jvm.MethodName) "TrainingDiary") ∈ lw_tbl := lw_at lw_m2 147 rfl
theorem q443 : (Jvm.Cond.methodLink "TrainingDiary$Book" (75 : Nat) ({ cls := "TrainingDiary$Ordered", name := "get", desc := "(I)LTrainingDiary$Dated;" } : Jvm.MethodName)) ∈ lw_all := lw_g (lw_at lw_m2 157 rfl) rfl
theorem q449 : (Jvm.Cond.classLink "TrainingDiary$Book" (79 : Nat) "TrainingDiary$Test") ∈ lw_all := lw_g (lw_at lw_m2 163 rfl) rfl
theorem q450 : (Jvm.Cond.methodLink "TrainingDiary$Book" (101 : Nat) ({ cls := "TrainingDiary$Book", name := "zoneOf", desc := "(II)I" } : Jvm.MethodName)) ∈ lw_all := lw_g (lw_at lw_m2 164 rfl) rfl
theorem q451 : (Jvm.Cond.instanceMethod ({ cls := "TrainingDiary$Book", name := "zoneOf", desc := "(II)I" } : Jvm.MethodName)) ∈ lw_all := lw_g (lw_at lw_m2 165 rfl) rfl
theorem q452 : (Jvm.Cond.selects "TrainingDiary$Book" ({ cls := "TrainingDiary$Book", name := "zoneOf", desc := "(II)I" } : Jvm.MethodName) ({ cls := "TrainingDiary$Book", name := "zoneOf", desc := "(II)I" } : Jvm.MethodName)) ∈ lw_all := lw_g (lw_at lw_m2 166 rfl) rfl
theorem q453 : (Jvm.Cond.code ({ cls := "TrainingDiary$Book", name := "zoneOf", desc := "(II)I" } : Jvm.MethodName) prog_2_method_5_code (5 : Nat) (Option.some Jvm.ClassFile.FieldType.int)) ∈ lw_all := lw_g (lw_at lw_m2 167 rfl) rfl
theorem q459 : (Jvm.Cond.instanceMethod ({ cls := "TrainingDiary$Book", name := "formOn", desc := "(I)I" } : Jvm.MethodName)) ∈ lw_all := lw_g (lw_at lw_m2 173 rfl) rfl
theorem q460 : (Jvm.Cond.selects "TrainingDiary$Book" ({ cls := "TrainingDiary$Book", name := "formOn", desc := "(I)I" } : Jvm.MethodName) ({ cls := "TrainingDiary$Book", name := "formOn", desc := "(I)I" } : Jvm.MethodName)) ∈ lw_all := lw_g (lw_at lw_m2 174 rfl) rfl
theorem q461 : (Jvm.Cond.code ({ cls := "TrainingDiary$Book", name := "formOn", desc := "(I)I" } : Jvm.MethodName) prog_2_method_14_code (2 : Nat) (Option.some Jvm.ClassFile.FieldType.int)) ∈ lw_all := lw_g (lw_at lw_m2 175 rfl) rfl
theorem q462 : (Jvm.Cond.methodLink "TrainingDiary$Book" (129 : Nat) ({ cls := "TrainingDiary$Book", name := "fitnessOn", desc := "(I)I" } : Jvm.MethodName)) ∈ lw_all := lw_g (lw_at lw_m2 176 rfl) rfl
theorem q463 : (Jvm.Cond.instanceMethod ({ cls := "TrainingDiary$Book", name := "fitnessOn", desc := "(I)I" } : Jvm.MethodName)) ∈ lw_all := lw_g (lw_at lw_m2 177 rfl) rfl
theorem q464 : (Jvm.Cond.selects "TrainingDiary$Book" ({ cls := "TrainingDiary$Book", name := "fitnessOn", desc := "(I)I" } : Jvm.MethodName) ({ cls := "TrainingDiary$Book", name := "fitnessOn", desc := "(I)I" } : Jvm.MethodName)) ∈ lw_all := lw_g (lw_at lw_m2 178 rfl) rfl
theorem q465 : (Jvm.Cond.code ({ cls := "TrainingDiary$Book", name := "fitnessOn", desc := "(I)I" } : Jvm.MethodName) prog_2_method_11_code (2 : Nat) (Option.some Jvm.ClassFile.FieldType.int)) ∈ lw_all := lw_g (lw_at lw_m2 179 rfl) rfl
theorem q466 : (Jvm.Cond.methodLink "TrainingDiary$Book" (132 : Nat) ({ cls := "TrainingDiary$Book", name := "fatigueOn", desc := "(I)I" } : Jvm.MethodName)) ∈ lw_all := lw_g (lw_at lw_m2 180 rfl) rfl
theorem q467 : (Jvm.Cond.instanceMethod ({ cls := "TrainingDiary$Book", name := "fatigueOn", desc := "(I)I" } : Jvm.MethodName)) ∈ lw_all := lw_g (lw_at lw_m2 181 rfl) rfl
theorem q468 : (Jvm.Cond.selects "TrainingDiary$Book" ({ cls := "TrainingDiary$Book", name := "fatigueOn", desc := "(I)I" } : Jvm.MethodName) ({ cls := "TrainingDiary$Book", name := "fatigueOn", desc := "(I)I" } : Jvm.MethodName)) ∈ lw_all := lw_g (lw_at lw_m2 182 rfl) rfl
theorem q469 : (Jvm.Cond.code ({ cls := "TrainingDiary$Book", name := "fatigueOn", desc := "(I)I" } : Jvm.MethodName) prog_2_method_12_code (2 : Nat) (Option.some Jvm.ClassFile.FieldType.int)) ∈ lw_all := lw_g (lw_at lw_m2 183 rfl) rfl
theorem q475 : (Jvm.Cond.instanceMethod ({ cls := "TrainingDiary$Book", name := "<init>", desc := "(LTrainingDiary$Book;)V" } : Jvm.MethodName)) ∈ lw_all := lw_g (lw_at lw_m2 189 rfl) rfl
theorem q476 : (Jvm.Cond.code ({ cls := "TrainingDiary$Book", name := "<init>", desc := "(LTrainingDiary$Book;)V" } : Jvm.MethodName) prog_2_method_2_code (2 : Nat) (Option.none : Option Jvm.ClassFile.FieldType)) ∈ lw_all := lw_g (lw_at lw_m2 190 rfl) rfl
theorem q477 : (Jvm.Cond.methodLink "TrainingDiary$Book" (44 : Nat) ({ cls := "TrainingDiary$Ordered", name := "<init>", desc := "(LTrainingDiary$Ordered;)V" } : Jvm.MethodName)) ∈ lw_all := lw_g (lw_at lw_m2 191 rfl) rfl
theorem q518 : (Jvm.Cond.selects "TrainingDiary$Book" ({ cls := "java/lang/Object", name := "getClass", desc := "()Ljava/lang/Class;" } : Jvm.MethodName) ({ cls := "java/lang/Object", name := "getClass", desc := "()Ljava/lang/Class;" } : Jvm.MethodName)) ∈ lw_all := lw_g (lw_at lw_m2 232 rfl) rfl
theorem q550 : (Jvm.Cond.methodLink "TrainingDiary$Book" (47 : Nat) ({ cls := "java/lang/System", name := "arraycopy", desc := "(Ljava/lang/Object;ILjava/lang/Object;II)V" } : Jvm.MethodName)) ∈ lw_all := lw_g (lw_at lw_m3 24 rfl) rfl
theorem q552 : (Jvm.Cond.instanceMethod ({ cls := "TrainingDiary$Book", name := "startPlan", desc := "()I" } : Jvm.MethodName)) ∈ lw_all := lw_g (lw_at lw_m3 26 rfl) rfl
theorem q553 : (Jvm.Cond.selects "TrainingDiary$Book" ({ cls := "TrainingDiary$Book", name := "startPlan", desc := "()I" } : Jvm.MethodName) ({ cls := "TrainingDiary$Book", name := "startPlan", desc := "()I" } : Jvm.MethodName)) ∈ lw_all := lw_g (lw_at lw_m3 27 rfl) rfl
theorem q554 : (Jvm.Cond.code ({ cls := "TrainingDiary$Book", name := "startPlan", desc := "()I" } : Jvm.MethodName) prog_2_method_29_code (2 : Nat) (Option.some Jvm.ClassFile.FieldType.int)) ∈ lw_all := lw_g (lw_at lw_m3 28 rfl) rfl
theorem q628 : (Jvm.Cond.instanceMethod ({ cls := "TrainingDiary$Book", name := "course", desc := "()LTrainingDiary$Book$Course;" } : Jvm.MethodName)) ∈ lw_all := lw_g (lw_at lw_m3 102 rfl) rfl
theorem q629 : (Jvm.Cond.selects "TrainingDiary$Book" ({ cls := "TrainingDiary$Book", name := "course", desc := "()LTrainingDiary$Book$Course;" } : Jvm.MethodName) ({ cls := "TrainingDiary$Book", name := "course", desc := "()LTrainingDiary$Book$Course;" } : Jvm.MethodName)) ∈ lw_all := lw_g (lw_at lw_m3 103 rfl) rfl
theorem q630 : (Jvm.Cond.code ({ cls := "TrainingDiary$Book", name := "course", desc := "()LTrainingDiary$Book$Course;" } : Jvm.MethodName) prog_2_method_31_code (1 : Nat) (Option.some (Jvm.ClassFile.FieldType.object "TrainingDiary$Book$Course"))) ∈ lw_all := lw_g (lw_at lw_m3 104 rfl) rfl
theorem q631 : (Jvm.Cond.classLink "TrainingDiary$Book" (192 : Nat) "TrainingDiary$Book$Course") ∈ lw_all := lw_g (lw_at lw_m3 105 rfl) rfl
theorem q633 : (Jvm.Cond.methodLink "TrainingDiary$Book" (194 : Nat) ({ cls := "TrainingDiary$Book$Course", name := "<init>", desc := "(LTrainingDiary$Book;)V" } : Jvm.MethodName)) ∈ lw_all := lw_g (lw_at lw_m3 107 rfl) rfl
theorem q687 : (Jvm.Cond.instanceMethod ({ cls := "TrainingDiary$Book", name := "pass", desc := "(I)I" } : Jvm.MethodName)) ∈ lw_all := lw_g (lw_at lw_m3 161 rfl) rfl
theorem q688 : (Jvm.Cond.selects "TrainingDiary$Book" ({ cls := "TrainingDiary$Book", name := "pass", desc := "(I)I" } : Jvm.MethodName) ({ cls := "TrainingDiary$Book", name := "pass", desc := "(I)I" } : Jvm.MethodName)) ∈ lw_all := lw_g (lw_at lw_m3 162 rfl) rfl
theorem q689 : (Jvm.Cond.code ({ cls := "TrainingDiary$Book", name := "pass", desc := "(I)I" } : Jvm.MethodName) prog_2_method_23_code (2 : Nat) (Option.some Jvm.ClassFile.FieldType.int)) ∈ lw_all := lw_g (lw_at lw_m3 163 rfl) rfl
theorem q690 : (Jvm.Cond.methodLinkNest "TrainingDiary$Book" (158 : Nat) ({ cls := "TrainingDiary", name := "isIn", desc := "(III)Z" } : Jvm.MethodName) "TrainingDiary") ∈ lw_tbl := lw_at lw_m3 164 rfl
theorem q693 : (Jvm.Cond.methodLinkNest "TrainingDiary$Book" (162 : Nat) ({ cls := "TrainingDiary", name := "requireArgument", desc := "(Z)V" } : Jvm.MethodName) "TrainingDiary") ∈ lw_tbl := lw_at lw_m3 167 rfl
theorem q712 : (Jvm.Cond.methodLinkNest "TrainingDiary$Book" (165 : Nat) ({ cls := "TrainingDiary", name := "requireState", desc := "(Z)V" } : Jvm.MethodName) "TrainingDiary") ∈ lw_tbl := lw_at lw_m3 186 rfl
theorem q726 : (Jvm.Cond.instanceMethod ({ cls := "TrainingDiary$Book", name := "addTest", desc := "(II)I" } : Jvm.MethodName)) ∈ lw_all := lw_g (lw_at lw_m3 200 rfl) rfl
theorem q727 : (Jvm.Cond.selects "TrainingDiary$Book" ({ cls := "TrainingDiary$Book", name := "addTest", desc := "(II)I" } : Jvm.MethodName) ({ cls := "TrainingDiary$Book", name := "addTest", desc := "(II)I" } : Jvm.MethodName)) ∈ lw_all := lw_g (lw_at lw_m3 201 rfl) rfl
theorem q728 : (Jvm.Cond.code ({ cls := "TrainingDiary$Book", name := "addTest", desc := "(II)I" } : Jvm.MethodName) prog_2_method_25_code (6 : Nat) (Option.some Jvm.ClassFile.FieldType.int)) ∈ lw_all := lw_g (lw_at lw_m3 202 rfl) rfl
theorem q729 : (Jvm.Cond.methodLink "TrainingDiary$Book" (135 : Nat) ({ cls := "TrainingDiary$Ordered", name := "size", desc := "()I" } : Jvm.MethodName)) ∈ lw_all := lw_g (lw_at lw_m3 203 rfl) rfl
theorem q730 : (Jvm.Cond.methodLink "TrainingDiary$Book" (187 : Nat) ({ cls := "TrainingDiary$Book", name := "hasTestOn", desc := "(I)Z" } : Jvm.MethodName)) ∈ lw_all := lw_g (lw_at lw_m3 204 rfl) rfl
theorem q731 : (Jvm.Cond.privateMethod ({ cls := "TrainingDiary$Book", name := "hasTestOn", desc := "(I)Z" } : Jvm.MethodName)) ∈ lw_tbl := lw_at lw_m3 205 rfl
theorem q732 : (Jvm.Cond.instanceMethod ({ cls := "TrainingDiary$Book", name := "hasTestOn", desc := "(I)Z" } : Jvm.MethodName)) ∈ lw_all := lw_g (lw_at lw_m3 206 rfl) rfl
theorem q733 : (Jvm.Cond.code ({ cls := "TrainingDiary$Book", name := "hasTestOn", desc := "(I)Z" } : Jvm.MethodName) prog_2_method_24_code (3 : Nat) (Option.some Jvm.ClassFile.FieldType.boolean)) ∈ lw_all := lw_g (lw_at lw_m3 207 rfl) rfl
theorem q734 : (Jvm.Cond.methodLink "TrainingDiary$Book" (186 : Nat) ({ cls := "TrainingDiary$Test", name := "day", desc := "()I" } : Jvm.MethodName)) ∈ lw_all := lw_g (lw_at lw_m3 208 rfl) rfl
theorem q738 : (Jvm.Cond.methodLink "TrainingDiary$Book" (191 : Nat) ({ cls := "TrainingDiary$Test", name := "<init>", desc := "(II)V" } : Jvm.MethodName)) ∈ lw_all := lw_g (lw_at lw_m3 212 rfl) rfl
theorem q746 : (Jvm.Cond.fieldLinkNest "TrainingDiary$Book" (81 : Nat) "TrainingDiary$Test" "threshold" "I" "TrainingDiary") ∈ lw_tbl := lw_at lw_m3 220 rfl
theorem q753 : (Jvm.Cond.methodLink "TrainingDiary$Book" (154 : Nat) ({ cls := "TrainingDiary$Ordered", name := "insert", desc := "(LTrainingDiary$Dated;)V" } : Jvm.MethodName)) ∈ lw_all := lw_g (lw_at lw_m3 227 rfl) rfl
theorem q1005 : (Jvm.Cond.methodLink "TrainingDiary$Book" (148 : Nat) ({ cls := "TrainingDiary$Book", name := "forgetFrom", desc := "(I)V" } : Jvm.MethodName)) ∈ lw_all := lw_g (lw_at lw_m4 239 rfl) rfl
theorem q1006 : (Jvm.Cond.privateMethod ({ cls := "TrainingDiary$Book", name := "forgetFrom", desc := "(I)V" } : Jvm.MethodName)) ∈ lw_tbl := lw_at lw_m5 0 rfl
theorem q1007 : (Jvm.Cond.instanceMethod ({ cls := "TrainingDiary$Book", name := "forgetFrom", desc := "(I)V" } : Jvm.MethodName)) ∈ lw_all := lw_g (lw_at lw_m5 1 rfl) rfl
theorem q1008 : (Jvm.Cond.code ({ cls := "TrainingDiary$Book", name := "forgetFrom", desc := "(I)V" } : Jvm.MethodName) prog_2_method_3_code (2 : Nat) (Option.none : Option Jvm.ClassFile.FieldType)) ∈ lw_all := lw_g (lw_at lw_m5 2 rfl) rfl
theorem q1009 : (Jvm.Cond.methodLink "TrainingDiary$Book" (65 : Nat) ({ cls := "java/lang/Math", name := "min", desc := "(II)I" } : Jvm.MethodName)) ∈ lw_all := lw_g (lw_at lw_m5 3 rfl) rfl
theorem q1019 : (Jvm.Cond.instanceMethod ({ cls := "TrainingDiary$Book", name := "removeTest", desc := "(I)I" } : Jvm.MethodName)) ∈ lw_all := lw_g (lw_at lw_m5 13 rfl) rfl
theorem q1020 : (Jvm.Cond.selects "TrainingDiary$Book" ({ cls := "TrainingDiary$Book", name := "removeTest", desc := "(I)I" } : Jvm.MethodName) ({ cls := "TrainingDiary$Book", name := "removeTest", desc := "(I)I" } : Jvm.MethodName)) ∈ lw_all := lw_g (lw_at lw_m5 14 rfl) rfl
theorem q1021 : (Jvm.Cond.code ({ cls := "TrainingDiary$Book", name := "removeTest", desc := "(I)I" } : Jvm.MethodName) prog_2_method_26_code (4 : Nat) (Option.some Jvm.ClassFile.FieldType.int)) ∈ lw_all := lw_g (lw_at lw_m5 15 rfl) rfl
theorem q1022 : (Jvm.Cond.methodLinkNest "TrainingDiary$Book" (141 : Nat) ({ cls := "TrainingDiary", name := "requireElement", desc := "(Z)V" } : Jvm.MethodName) "TrainingDiary") ∈ lw_tbl := lw_at lw_m5 16 rfl
theorem q1023 : (Jvm.Cond.methodLink "TrainingDiary$Book" (151 : Nat) ({ cls := "TrainingDiary$Ordered", name := "removeAt", desc := "(I)V" } : Jvm.MethodName)) ∈ lw_all := lw_g (lw_at lw_m5 17 rfl) rfl
theorem q1053 : (Jvm.Cond.instanceMethod ({ cls := "TrainingDiary$Book", name := "setBound", desc := "(II)I" } : Jvm.MethodName)) ∈ lw_all := lw_g (lw_at lw_m5 47 rfl) rfl
theorem q1054 : (Jvm.Cond.selects "TrainingDiary$Book" ({ cls := "TrainingDiary$Book", name := "setBound", desc := "(II)I" } : Jvm.MethodName) ({ cls := "TrainingDiary$Book", name := "setBound", desc := "(II)I" } : Jvm.MethodName)) ∈ lw_all := lw_g (lw_at lw_m5 48 rfl) rfl
theorem q1055 : (Jvm.Cond.code ({ cls := "TrainingDiary$Book", name := "setBound", desc := "(II)I" } : Jvm.MethodName) prog_2_method_27_code (5 : Nat) (Option.some Jvm.ClassFile.FieldType.int)) ∈ lw_all := lw_g (lw_at lw_m5 49 rfl) rfl
theorem q1071 : (Jvm.Cond.instanceMethod ({ cls := "TrainingDiary$Book", name := "setWeight", desc := "(II)I" } : Jvm.MethodName)) ∈ lw_all := lw_g (lw_at lw_m5 65 rfl) rfl
theorem q1072 : (Jvm.Cond.selects "TrainingDiary$Book" ({ cls := "TrainingDiary$Book", name := "setWeight", desc := "(II)I" } : Jvm.MethodName) ({ cls := "TrainingDiary$Book", name := "setWeight", desc := "(II)I" } : Jvm.MethodName)) ∈ lw_all := lw_g (lw_at lw_m5 66 rfl) rfl
theorem q1073 : (Jvm.Cond.code ({ cls := "TrainingDiary$Book", name := "setWeight", desc := "(II)I" } : Jvm.MethodName) prog_2_method_28_code (4 : Nat) (Option.some Jvm.ClassFile.FieldType.int)) ∈ lw_all := lw_g (lw_at lw_m5 67 rfl) rfl
theorem q1100 : (Jvm.Cond.instanceMethod ({ cls := "TrainingDiary$Book", name := "addSession", desc := "(I)I" } : Jvm.MethodName)) ∈ lw_all := lw_g (lw_at lw_m5 94 rfl) rfl
theorem q1101 : (Jvm.Cond.selects "TrainingDiary$Book" ({ cls := "TrainingDiary$Book", name := "addSession", desc := "(I)I" } : Jvm.MethodName) ({ cls := "TrainingDiary$Book", name := "addSession", desc := "(I)I" } : Jvm.MethodName)) ∈ lw_all := lw_g (lw_at lw_m5 95 rfl) rfl
theorem q1102 : (Jvm.Cond.code ({ cls := "TrainingDiary$Book", name := "addSession", desc := "(I)I" } : Jvm.MethodName) prog_2_method_18_code (2 : Nat) (Option.some Jvm.ClassFile.FieldType.int)) ∈ lw_all := lw_g (lw_at lw_m5 96 rfl) rfl
theorem q1104 : (Jvm.Cond.methodLink "TrainingDiary$Book" (168 : Nat) ({ cls := "TrainingDiary$Session", name := "<init>", desc := "(II)V" } : Jvm.MethodName)) ∈ lw_all := lw_g (lw_at lw_m5 98 rfl) rfl
theorem q1112 : (Jvm.Cond.fieldLinkNest "TrainingDiary$Book" (138 : Nat) "TrainingDiary$Session" "id" "I" "TrainingDiary") ∈ lw_tbl := lw_at lw_m5 106 rfl
theorem q1115 : (Jvm.Cond.fieldLinkNest "TrainingDiary$Book" (94 : Nat) "TrainingDiary$Session" "minutes" "[S" "TrainingDiary") ∈ lw_tbl := lw_at lw_m5 109 rfl
theorem q1117 : (Jvm.Cond.fieldLinkNest "TrainingDiary$Book" (98 : Nat) "TrainingDiary$Session" "intensities" "[S" "TrainingDiary") ∈ lw_tbl := lw_at lw_m5 111 rfl
theorem q1135 : (Jvm.Cond.instanceMethod ({ cls := "TrainingDiary$Book", name := "addPart", desc := "(III)I" } : Jvm.MethodName)) ∈ lw_all := lw_g (lw_at lw_m5 129 rfl) rfl
theorem q1136 : (Jvm.Cond.selects "TrainingDiary$Book" ({ cls := "TrainingDiary$Book", name := "addPart", desc := "(III)I" } : Jvm.MethodName) ({ cls := "TrainingDiary$Book", name := "addPart", desc := "(III)I" } : Jvm.MethodName)) ∈ lw_all := lw_g (lw_at lw_m5 130 rfl) rfl
theorem q1137 : (Jvm.Cond.code ({ cls := "TrainingDiary$Book", name := "addPart", desc := "(III)I" } : Jvm.MethodName) prog_2_method_19_code (6 : Nat) (Option.some Jvm.ClassFile.FieldType.int)) ∈ lw_all := lw_g (lw_at lw_m5 131 rfl) rfl
theorem q1138 : (Jvm.Cond.methodLink "TrainingDiary$Book" (145 : Nat) ({ cls := "TrainingDiary$Book", name := "placeOf", desc := "(I)I" } : Jvm.MethodName)) ∈ lw_all := lw_g (lw_at lw_m5 132 rfl) rfl
theorem q1139 : (Jvm.Cond.instanceMethod ({ cls := "TrainingDiary$Book", name := "placeOf", desc := "(I)I" } : Jvm.MethodName)) ∈ lw_all := lw_g (lw_at lw_m5 133 rfl) rfl
theorem q1140 : (Jvm.Cond.selects "TrainingDiary$Book" ({ cls := "TrainingDiary$Book", name := "placeOf", desc := "(I)I" } : Jvm.MethodName) ({ cls := "TrainingDiary$Book", name := "placeOf", desc := "(I)I" } : Jvm.MethodName)) ∈ lw_all := lw_g (lw_at lw_m5 134 rfl) rfl
theorem q1141 : (Jvm.Cond.code ({ cls := "TrainingDiary$Book", name := "placeOf", desc := "(I)I" } : Jvm.MethodName) prog_2_method_15_code (4 : Nat) (Option.some Jvm.ClassFile.FieldType.int)) ∈ lw_all := lw_g (lw_at lw_m5 135 rfl) rfl
theorem q1142 : (Jvm.Cond.methodLink "TrainingDiary$Book" (171 : Nat) ({ cls := "TrainingDiary$Session", name := "length", desc := "()I" } : Jvm.MethodName)) ∈ lw_all := lw_g (lw_at lw_m5 136 rfl) rfl
theorem q1146 : (Jvm.Cond.methodLink "TrainingDiary$Book" (174 : Nat) ({ cls := "TrainingDiary$Session", name := "with", desc := "(II)LTrainingDiary$Session;" } : Jvm.MethodName)) ∈ lw_all := lw_g (lw_at lw_m5 140 rfl) rfl
theorem q1153 : (Jvm.Cond.methodLink "TrainingDiary$Book" (178 : Nat) ({ cls := "TrainingDiary$Book", name := "replace", desc := "(ILTrainingDiary$Session;)V" } : Jvm.MethodName)) ∈ lw_all := lw_g (lw_at lw_m5 147 rfl) rfl
theorem q1154 : (Jvm.Cond.privateMethod ({ cls := "TrainingDiary$Book", name := "replace", desc := "(ILTrainingDiary$Session;)V" } : Jvm.MethodName)) ∈ lw_tbl := lw_at lw_m5 148 rfl
theorem q1155 : (Jvm.Cond.instanceMethod ({ cls := "TrainingDiary$Book", name := "replace", desc := "(ILTrainingDiary$Session;)V" } : Jvm.MethodName)) ∈ lw_all := lw_g (lw_at lw_m5 149 rfl) rfl
theorem q1156 : (Jvm.Cond.code ({ cls := "TrainingDiary$Book", name := "replace", desc := "(ILTrainingDiary$Session;)V" } : Jvm.MethodName) prog_2_method_17_code (3 : Nat) (Option.none : Option Jvm.ClassFile.FieldType)) ∈ lw_all := lw_g (lw_at lw_m5 150 rfl) rfl
theorem q1165 : (Jvm.Cond.instanceMethod ({ cls := "TrainingDiary$Book", name := "clearParts", desc := "(I)I" } : Jvm.MethodName)) ∈ lw_all := lw_g (lw_at lw_m5 159 rfl) rfl
theorem q1166 : (Jvm.Cond.selects "TrainingDiary$Book" ({ cls := "TrainingDiary$Book", name := "clearParts", desc := "(I)I" } : Jvm.MethodName) ({ cls := "TrainingDiary$Book", name := "clearParts", desc := "(I)I" } : Jvm.MethodName)) ∈ lw_all := lw_g (lw_at lw_m5 160 rfl) rfl
theorem q1167 : (Jvm.Cond.code ({ cls := "TrainingDiary$Book", name := "clearParts", desc := "(I)I" } : Jvm.MethodName) prog_2_method_20_code (4 : Nat) (Option.some Jvm.ClassFile.FieldType.int)) ∈ lw_all := lw_g (lw_at lw_m5 161 rfl) rfl
theorem q1176 : (Jvm.Cond.instanceMethod ({ cls := "TrainingDiary$Book", name := "moveSession", desc := "(II)I" } : Jvm.MethodName)) ∈ lw_all := lw_g (lw_at lw_m5 170 rfl) rfl
theorem q1177 : (Jvm.Cond.selects "TrainingDiary$Book" ({ cls := "TrainingDiary$Book", name := "moveSession", desc := "(II)I" } : Jvm.MethodName) ({ cls := "TrainingDiary$Book", name := "moveSession", desc := "(II)I" } : Jvm.MethodName)) ∈ lw_all := lw_g (lw_at lw_m5 171 rfl) rfl
theorem q1178 : (Jvm.Cond.code ({ cls := "TrainingDiary$Book", name := "moveSession", desc := "(II)I" } : Jvm.MethodName) prog_2_method_21_code (5 : Nat) (Option.some Jvm.ClassFile.FieldType.int)) ∈ lw_all := lw_g (lw_at lw_m5 172 rfl) rfl
theorem q1179 : (Jvm.Cond.methodLink "TrainingDiary$Book" (182 : Nat) ({ cls := "TrainingDiary$Session", name := "on", desc := "(I)LTrainingDiary$Session;" } : Jvm.MethodName)) ∈ lw_all := lw_g (lw_at lw_m5 173 rfl) rfl
theorem q1191 : (Jvm.Cond.instanceMethod ({ cls := "TrainingDiary$Book", name := "removeSession", desc := "(I)I" } : Jvm.MethodName)) ∈ lw_all := lw_g (lw_at lw_m5 185 rfl) rfl
theorem q1192 : (Jvm.Cond.selects "TrainingDiary$Book" ({ cls := "TrainingDiary$Book", name := "removeSession", desc := "(I)I" } : Jvm.MethodName) ({ cls := "TrainingDiary$Book", name := "removeSession", desc := "(I)I" } : Jvm.MethodName)) ∈ lw_all := lw_g (lw_at lw_m5 186 rfl) rfl
theorem q1193 : (Jvm.Cond.code ({ cls := "TrainingDiary$Book", name := "removeSession", desc := "(I)I" } : Jvm.MethodName) prog_2_method_22_code (3 : Nat) (Option.some Jvm.ClassFile.FieldType.int)) ∈ lw_all := lw_g (lw_at lw_m5 187 rfl) rfl
theorem q1233 : (Jvm.Cond.instanceMethod ({ cls := "TrainingDiary$Book", name := "session", desc := "(I)LTrainingDiary$Session;" } : Jvm.MethodName)) ∈ lw_all := lw_g (lw_at lw_m5 227 rfl) rfl
theorem q1234 : (Jvm.Cond.selects "TrainingDiary$Book" ({ cls := "TrainingDiary$Book", name := "session", desc := "(I)LTrainingDiary$Session;" } : Jvm.MethodName) ({ cls := "TrainingDiary$Book", name := "session", desc := "(I)LTrainingDiary$Session;" } : Jvm.MethodName)) ∈ lw_all := lw_g (lw_at lw_m5 228 rfl) rfl
theorem q1235 : (Jvm.Cond.code ({ cls := "TrainingDiary$Book", name := "session", desc := "(I)LTrainingDiary$Session;" } : Jvm.MethodName) prog_2_method_16_code (2 : Nat) (Option.some (Jvm.ClassFile.FieldType.object "TrainingDiary$Session"))) ∈ lw_all := lw_g (lw_at lw_m5 229 rfl) rfl
theorem q1253 : (Jvm.Cond.instanceMethod ({ cls := "TrainingDiary$Book", name := "minutesInZone", desc := "(LTrainingDiary$Session;I)I" } : Jvm.MethodName)) ∈ lw_all := lw_g (lw_at lw_m6 7 rfl) rfl
theorem q1254 : (Jvm.Cond.selects "TrainingDiary$Book" ({ cls := "TrainingDiary$Book", name := "minutesInZone", desc := "(LTrainingDiary$Session;I)I" } : Jvm.MethodName) ({ cls := "TrainingDiary$Book", name := "minutesInZone", desc := "(LTrainingDiary$Session;I)I" } : Jvm.MethodName)) ∈ lw_all := lw_g (lw_at lw_m6 8 rfl) rfl
theorem q1255 : (Jvm.Cond.code ({ cls := "TrainingDiary$Book", name := "minutesInZone", desc := "(LTrainingDiary$Session;I)I" } : Jvm.MethodName) prog_2_method_6_code (6 : Nat) (Option.some Jvm.ClassFile.FieldType.int)) ∈ lw_all := lw_g (lw_at lw_m6 9 rfl) rfl
theorem q1315 : (Jvm.Cond.instanceMethod ({ cls := "TrainingDiary$Book", name := "fromStart", desc := "(II)I" } : Jvm.MethodName)) ∈ lw_all := lw_g (lw_at lw_m6 69 rfl) rfl
theorem q1316 : (Jvm.Cond.selects "TrainingDiary$Book" ({ cls := "TrainingDiary$Book", name := "fromStart", desc := "(II)I" } : Jvm.MethodName) ({ cls := "TrainingDiary$Book", name := "fromStart", desc := "(II)I" } : Jvm.MethodName)) ∈ lw_all := lw_g (lw_at lw_m6 70 rfl) rfl
theorem q1317 : (Jvm.Cond.code ({ cls := "TrainingDiary$Book", name := "fromStart", desc := "(II)I" } : Jvm.MethodName) prog_2_method_13_code (5 : Nat) (Option.some Jvm.ClassFile.FieldType.int)) ∈ lw_all := lw_g (lw_at lw_m6 71 rfl) rfl
theorem q1421 : (Jvm.Cond.instanceMethod ({ cls := "TrainingDiary$Book", name := "addTarget", desc := "(I)I" } : Jvm.MethodName)) ∈ lw_all := lw_g (lw_at lw_m6 175 rfl) rfl
theorem q1422 : (Jvm.Cond.selects "TrainingDiary$Book" ({ cls := "TrainingDiary$Book", name := "addTarget", desc := "(I)I" } : Jvm.MethodName) ({ cls := "TrainingDiary$Book", name := "addTarget", desc := "(I)I" } : Jvm.MethodName)) ∈ lw_all := lw_g (lw_at lw_m6 176 rfl) rfl
theorem q1423 : (Jvm.Cond.code ({ cls := "TrainingDiary$Book", name := "addTarget", desc := "(I)I" } : Jvm.MethodName) prog_2_method_30_code (2 : Nat) (Option.some Jvm.ClassFile.FieldType.int)) ∈ lw_all := lw_g (lw_at lw_m6 177 rfl) rfl
theorem q1508 : (Jvm.Cond.instanceMethod ({ cls := "TrainingDiary$Book", name := "sign", desc := "(I)C" } : Jvm.MethodName)) ∈ lw_all := lw_g (lw_at lw_m7 22 rfl) rfl
theorem q1509 : (Jvm.Cond.selects "TrainingDiary$Book" ({ cls := "TrainingDiary$Book", name := "sign", desc := "(I)C" } : Jvm.MethodName) ({ cls := "TrainingDiary$Book", name := "sign", desc := "(I)C" } : Jvm.MethodName)) ∈ lw_all := lw_g (lw_at lw_m7 23 rfl) rfl
theorem q1510 : (Jvm.Cond.code ({ cls := "TrainingDiary$Book", name := "sign", desc := "(I)C" } : Jvm.MethodName) prog_2_method_32_code (7 : Nat) (Option.some Jvm.ClassFile.FieldType.char)) ∈ lw_all := lw_g (lw_at lw_m7 24 rfl) rfl
theorem q1511 : (Jvm.Cond.methodLink "TrainingDiary$Book" (197 : Nat) ({ cls := "TrainingDiary$Book", name := "minutesInZone", desc := "(LTrainingDiary$Session;I)I" } : Jvm.MethodName)) ∈ lw_all := lw_g (lw_at lw_m7 25 rfl) rfl
theorem q1987 : (Jvm.Cond.castable "TrainingDiary$Book" "java/lang/Object") ∈ lw_tbl := lw_at lw_m9 21 rfl
theorem in_X2 : ∀ w ∈ wsX20, w ∈ lw_all := lw_in wsX20 [160, 162, 164, 166, 168, 170, 172, 174, 176, 178, 180, 182, 184] (by decide +kernel) (by decide +kernel)
/-! TrainingDiary$Ordered -/
set_option maxRecDepth 100000
def RX3 : String := "TrainingDiary$Ordered"
def TX3 : u_T := fun k => match k with
  | _ => ("TrainingDiary$Ordered", "elements", "Ljava/util/ArrayList;", true)
def tyX3 : Nat → FieldType := fun k => match k with
  | _ => .object "java/util/ArrayList"
abbrev wsX30 : List Cond := u_ws RX3 TX3 1
theorem nmX3 : ∀ a, a < 1 → ∀ b, b < 1 → a ≠ b → (TX3 a).2.1 ≠ (TX3 b).2.1 := by decide +kernel
theorem tyX3_ok : ∀ k, k < 1 → parseFieldDescriptor (TX3 k).2.2.1 = some (tyX3 k) := by decide +kernel
abbrev cX3_init : ByteArray := prog_5_method_1_code
def yX3_init : MethodName := ⟨RX3, "<init>", "()V"⟩
def dkwX3_init_0 : List UInt8 := [42, 183, 0, 1, 42, 187, 0, 7, 89, 183, 0, 9, 181, 0, 10, 177]
abbrev dktX3_init_0 : List UInt8 := dkwX3_init_0 ++ []
theorem dksX3_init_0 : cX3_init.data.toList.drop 0 = dktX3_init_0 := by decide +kernel
theorem dX3_init_0 : decode cX3_init 0 = .ok (.aload_n 0, 1) := dk_42 (dk_at dksX3_init_0 0 rfl rfl)
theorem dX3_init_1 : decode cX3_init 1 = .ok (.invokespecial 1, 3) := dk_183 0 1 (dk_at dksX3_init_0 1 rfl rfl)
theorem dX3_init_4 : decode cX3_init 4 = .ok (.aload_n 0, 1) := dk_42 (dk_at dksX3_init_0 4 rfl rfl)
theorem dX3_init_5 : decode cX3_init 5 = .ok (.new 7, 3) := dk_187 0 7 (dk_at dksX3_init_0 5 rfl rfl)
theorem dX3_init_8 : decode cX3_init 8 = .ok (.dup, 1) := dk_89 (dk_at dksX3_init_0 8 rfl rfl)
theorem dX3_init_9 : decode cX3_init 9 = .ok (.invokespecial 9, 3) := dk_183 0 9 (dk_at dksX3_init_0 9 rfl rfl)
theorem dX3_init_12 : decode cX3_init 12 = .ok (.putfield 10, 3) := dk_181 0 10 (dk_at dksX3_init_0 12 rfl rfl)
theorem dX3_init_15 : decode cX3_init 15 = .ok (.return_, 1) := dk_177 (dk_at dksX3_init_0 15 rfl rfl)
abbrev cX3_size : ByteArray := prog_5_method_3_code
def yX3_size : MethodName := ⟨RX3, "size", "()I"⟩
def dkwX3_size_0 : List UInt8 := [42, 180, 0, 10, 182, 0, 36, 172]
abbrev dktX3_size_0 : List UInt8 := dkwX3_size_0 ++ []
theorem dksX3_size_0 : cX3_size.data.toList.drop 0 = dktX3_size_0 := by decide +kernel
theorem dX3_size_0 : decode cX3_size 0 = .ok (.aload_n 0, 1) := dk_42 (dk_at dksX3_size_0 0 rfl rfl)
theorem dX3_size_1 : decode cX3_size 1 = .ok (.getfield 10, 3) := dk_180 0 10 (dk_at dksX3_size_0 1 rfl rfl)
theorem dX3_size_4 : decode cX3_size 4 = .ok (.invokevirtual 36, 3) := dk_182 0 36 (dk_at dksX3_size_0 4 rfl rfl)
theorem dX3_size_7 : decode cX3_size 7 = .ok (.ireturn, 1) := dk_172 (dk_at dksX3_size_0 7 rfl rfl)
abbrev cX3_iterator : ByteArray := prog_5_method_7_code
def yX3_iterator : MethodName := ⟨RX3, "iterator", "()Ljava/util/Iterator;"⟩
def dkwX3_iterator_0 : List UInt8 := [187, 0, 54, 89, 42, 183, 0, 56, 176]
abbrev dktX3_iterator_0 : List UInt8 := dkwX3_iterator_0 ++ []
theorem dksX3_iterator_0 : cX3_iterator.data.toList.drop 0 = dktX3_iterator_0 := by decide +kernel
theorem dX3_iterator_0 : decode cX3_iterator 0 = .ok (.new 54, 3) := dk_187 0 54 (dk_at dksX3_iterator_0 0 rfl rfl)
theorem dX3_iterator_3 : decode cX3_iterator 3 = .ok (.dup, 1) := dk_89 (dk_at dksX3_iterator_0 3 rfl rfl)
theorem dX3_iterator_4 : decode cX3_iterator 4 = .ok (.aload_n 0, 1) := dk_42 (dk_at dksX3_iterator_0 4 rfl rfl)
theorem dX3_iterator_5 : decode cX3_iterator 5 = .ok (.invokespecial 56, 3) := dk_183 0 56 (dk_at dksX3_iterator_0 5 rfl rfl)
theorem dX3_iterator_8 : decode cX3_iterator 8 = .ok (.areturn, 1) := dk_176 (dk_at dksX3_iterator_0 8 rfl rfl)
abbrev cX3_get : ByteArray := prog_5_method_4_code
def yX3_get : MethodName := ⟨RX3, "get", "(I)LTrainingDiary$Dated;"⟩
def dkwX3_get_0 : List UInt8 := [42, 180, 0, 10, 27, 182, 0, 40, 192, 0, 30, 176]
abbrev dktX3_get_0 : List UInt8 := dkwX3_get_0 ++ []
theorem dksX3_get_0 : cX3_get.data.toList.drop 0 = dktX3_get_0 := by decide +kernel
theorem dX3_get_0 : decode cX3_get 0 = .ok (.aload_n 0, 1) := dk_42 (dk_at dksX3_get_0 0 rfl rfl)
theorem dX3_get_1 : decode cX3_get 1 = .ok (.getfield 10, 3) := dk_180 0 10 (dk_at dksX3_get_0 1 rfl rfl)
theorem dX3_get_4 : decode cX3_get 4 = .ok (.iload_n 1, 1) := dk_27 (dk_at dksX3_get_0 4 rfl rfl)
theorem dX3_get_5 : decode cX3_get 5 = .ok (.invokevirtual 40, 3) := dk_182 0 40 (dk_at dksX3_get_0 5 rfl rfl)
theorem dX3_get_8 : decode cX3_get 8 = .ok (.checkcast 30, 3) := dk_192 0 30 (dk_at dksX3_get_0 8 rfl rfl)
theorem dX3_get_11 : decode cX3_get 11 = .ok (.areturn, 1) := dk_176 (dk_at dksX3_get_0 11 rfl rfl)
abbrev cX3_init_2 : ByteArray := prog_5_method_2_code
def yX3_init_2 : MethodName := ⟨RX3, "<init>", "(LTrainingDiary$Ordered;)V"⟩
def dkwX3_init_2_2 : List UInt8 := [182, 0, 32, 54, 4, 167, 255, 227, 177]
abbrev dktX3_init_2_2 : List UInt8 := dkwX3_init_2_2 ++ []
def dkwX3_init_2_1 : List UInt8 := [185, 0, 20, 1, 0, 153, 0, 26, 44, 185, 0, 26, 1, 0, 192, 0, 30, 78, 42, 180, 0, 10, 45]
abbrev dktX3_init_2_1 : List UInt8 := dkwX3_init_2_1 ++ dktX3_init_2_2
def dkwX3_init_2_0 : List UInt8 := [42, 183, 0, 1, 42, 187, 0, 7, 89, 183, 0, 9, 181, 0, 10, 43, 182, 0, 16, 77, 44]
abbrev dktX3_init_2_0 : List UInt8 := dkwX3_init_2_0 ++ dktX3_init_2_1
theorem dksX3_init_2_0 : cX3_init_2.data.toList.drop 0 = dktX3_init_2_0 := by decide +kernel
theorem dksX3_init_2_1 : cX3_init_2.data.toList.drop 21 = dktX3_init_2_1 := dk_seg dksX3_init_2_0 21 rfl rfl
theorem dksX3_init_2_2 : cX3_init_2.data.toList.drop 44 = dktX3_init_2_2 := dk_seg dksX3_init_2_1 23 rfl rfl
theorem dX3_init_2_0 : decode cX3_init_2 0 = .ok (.aload_n 0, 1) := dk_42 (dk_at dksX3_init_2_0 0 rfl rfl)
theorem dX3_init_2_1 : decode cX3_init_2 1 = .ok (.invokespecial 1, 3) := dk_183 0 1 (dk_at dksX3_init_2_0 1 rfl rfl)
theorem dX3_init_2_4 : decode cX3_init_2 4 = .ok (.aload_n 0, 1) := dk_42 (dk_at dksX3_init_2_0 4 rfl rfl)
theorem dX3_init_2_5 : decode cX3_init_2 5 = .ok (.new 7, 3) := dk_187 0 7 (dk_at dksX3_init_2_0 5 rfl rfl)
theorem dX3_init_2_8 : decode cX3_init_2 8 = .ok (.dup, 1) := dk_89 (dk_at dksX3_init_2_0 8 rfl rfl)
theorem dX3_init_2_9 : decode cX3_init_2 9 = .ok (.invokespecial 9, 3) := dk_183 0 9 (dk_at dksX3_init_2_0 9 rfl rfl)
theorem dX3_init_2_12 : decode cX3_init_2 12 = .ok (.putfield 10, 3) := dk_181 0 10 (dk_at dksX3_init_2_0 12 rfl rfl)
theorem dX3_init_2_15 : decode cX3_init_2 15 = .ok (.aload_n 1, 1) := dk_43 (dk_at dksX3_init_2_0 15 rfl rfl)
theorem dX3_init_2_16 : decode cX3_init_2 16 = .ok (.invokevirtual 16, 3) := dk_182 0 16 (dk_at dksX3_init_2_0 16 rfl rfl)
theorem dX3_init_2_19 : decode cX3_init_2 19 = .ok (.astore_n 2, 1) := dk_77 (dk_at dksX3_init_2_0 19 rfl rfl)
theorem dX3_init_2_20 : decode cX3_init_2 20 = .ok (.aload_n 2, 1) := dk_44 (dk_at dksX3_init_2_0 20 rfl rfl)
theorem dX3_init_2_21 : decode cX3_init_2 21 = .ok (.invokeinterface 20 1, 5) := by decide +kernel
theorem dX3_init_2_26 : decode cX3_init_2 26 = .ok (.ifCond .eq 26, 3) := dk_153 0 26 (dk_at dksX3_init_2_1 5 rfl rfl)
theorem dX3_init_2_29 : decode cX3_init_2 29 = .ok (.aload_n 2, 1) := dk_44 (dk_at dksX3_init_2_1 8 rfl rfl)
theorem dX3_init_2_30 : decode cX3_init_2 30 = .ok (.invokeinterface 26 1, 5) := by decide +kernel
theorem dX3_init_2_35 : decode cX3_init_2 35 = .ok (.checkcast 30, 3) := dk_192 0 30 (dk_at dksX3_init_2_1 14 rfl rfl)
theorem dX3_init_2_38 : decode cX3_init_2 38 = .ok (.astore_n 3, 1) := dk_78 (dk_at dksX3_init_2_1 17 rfl rfl)
theorem dX3_init_2_39 : decode cX3_init_2 39 = .ok (.aload_n 0, 1) := dk_42 (dk_at dksX3_init_2_1 18 rfl rfl)
theorem dX3_init_2_40 : decode cX3_init_2 40 = .ok (.getfield 10, 3) := dk_180 0 10 (dk_at dksX3_init_2_1 19 rfl rfl)
theorem dX3_init_2_43 : decode cX3_init_2 43 = .ok (.aload_n 3, 1) := dk_45 (dk_at dksX3_init_2_1 22 rfl rfl)
theorem dX3_init_2_44 : decode cX3_init_2 44 = .ok (.invokevirtual 32, 3) := dk_182 0 32 (dk_at dksX3_init_2_2 0 rfl rfl)
theorem dX3_init_2_47 : decode cX3_init_2 47 = .ok (.istore 4, 2) := dk_54 4 (dk_at dksX3_init_2_2 3 rfl rfl)
theorem dX3_init_2_49 : decode cX3_init_2 49 = .ok (.goto (-29), 3) := dk_167 255 227 (dk_at dksX3_init_2_2 5 rfl rfl)
theorem dX3_init_2_52 : decode cX3_init_2 52 = .ok (.return_, 1) := dk_177 (dk_at dksX3_init_2_2 8 rfl rfl)
abbrev cX3_insert : ByteArray := prog_5_method_5_code
def yX3_insert : MethodName := ⟨RX3, "insert", "(LTrainingDiary$Dated;)V"⟩
def dkwX3_insert_1 : List UInt8 := [43, 182, 0, 44, 156, 0, 9, 132, 2, 1, 167, 255, 224, 42, 180, 0, 10, 28, 43, 182, 0, 48, 177]
abbrev dktX3_insert_1 : List UInt8 := dkwX3_insert_1 ++ []
def dkwX3_insert_0 : List UInt8 := [3, 61, 28, 42, 180, 0, 10, 182, 0, 36, 162, 0, 27, 42, 180, 0, 10, 28, 182, 0, 40, 192, 0, 30]
abbrev dktX3_insert_0 : List UInt8 := dkwX3_insert_0 ++ dktX3_insert_1
theorem dksX3_insert_0 : cX3_insert.data.toList.drop 0 = dktX3_insert_0 := by decide +kernel
theorem dksX3_insert_1 : cX3_insert.data.toList.drop 24 = dktX3_insert_1 := dk_seg dksX3_insert_0 24 rfl rfl
theorem dX3_insert_0 : decode cX3_insert 0 = .ok (.iconst 0, 1) := dk_3 (dk_at dksX3_insert_0 0 rfl rfl)
theorem dX3_insert_1 : decode cX3_insert 1 = .ok (.istore_n 2, 1) := dk_61 (dk_at dksX3_insert_0 1 rfl rfl)
theorem dX3_insert_2 : decode cX3_insert 2 = .ok (.iload_n 2, 1) := dk_28 (dk_at dksX3_insert_0 2 rfl rfl)
theorem dX3_insert_3 : decode cX3_insert 3 = .ok (.aload_n 0, 1) := dk_42 (dk_at dksX3_insert_0 3 rfl rfl)
theorem dX3_insert_4 : decode cX3_insert 4 = .ok (.getfield 10, 3) := dk_180 0 10 (dk_at dksX3_insert_0 4 rfl rfl)
theorem dX3_insert_7 : decode cX3_insert 7 = .ok (.invokevirtual 36, 3) := dk_182 0 36 (dk_at dksX3_insert_0 7 rfl rfl)
theorem dX3_insert_10 : decode cX3_insert 10 = .ok (.if_icmp .ge 27, 3) := dk_162 0 27 (dk_at dksX3_insert_0 10 rfl rfl)
theorem dX3_insert_13 : decode cX3_insert 13 = .ok (.aload_n 0, 1) := dk_42 (dk_at dksX3_insert_0 13 rfl rfl)
theorem dX3_insert_14 : decode cX3_insert 14 = .ok (.getfield 10, 3) := dk_180 0 10 (dk_at dksX3_insert_0 14 rfl rfl)
theorem dX3_insert_17 : decode cX3_insert 17 = .ok (.iload_n 2, 1) := dk_28 (dk_at dksX3_insert_0 17 rfl rfl)
theorem dX3_insert_18 : decode cX3_insert 18 = .ok (.invokevirtual 40, 3) := dk_182 0 40 (dk_at dksX3_insert_0 18 rfl rfl)
theorem dX3_insert_21 : decode cX3_insert 21 = .ok (.checkcast 30, 3) := dk_192 0 30 (dk_at dksX3_insert_0 21 rfl rfl)
theorem dX3_insert_24 : decode cX3_insert 24 = .ok (.aload_n 1, 1) := dk_43 (dk_at dksX3_insert_1 0 rfl rfl)
theorem dX3_insert_25 : decode cX3_insert 25 = .ok (.invokevirtual 44, 3) := dk_182 0 44 (dk_at dksX3_insert_1 1 rfl rfl)
theorem dX3_insert_28 : decode cX3_insert 28 = .ok (.ifCond .ge 9, 3) := dk_156 0 9 (dk_at dksX3_insert_1 4 rfl rfl)
theorem dX3_insert_31 : decode cX3_insert 31 = .ok (.iinc 2 1, 3) := dk_132 2 1 (dk_at dksX3_insert_1 7 rfl rfl)
theorem dX3_insert_34 : decode cX3_insert 34 = .ok (.goto (-32), 3) := dk_167 255 224 (dk_at dksX3_insert_1 10 rfl rfl)
theorem dX3_insert_37 : decode cX3_insert 37 = .ok (.aload_n 0, 1) := dk_42 (dk_at dksX3_insert_1 13 rfl rfl)
theorem dX3_insert_38 : decode cX3_insert 38 = .ok (.getfield 10, 3) := dk_180 0 10 (dk_at dksX3_insert_1 14 rfl rfl)
theorem dX3_insert_41 : decode cX3_insert 41 = .ok (.iload_n 2, 1) := dk_28 (dk_at dksX3_insert_1 17 rfl rfl)
theorem dX3_insert_42 : decode cX3_insert 42 = .ok (.aload_n 1, 1) := dk_43 (dk_at dksX3_insert_1 18 rfl rfl)
theorem dX3_insert_43 : decode cX3_insert 43 = .ok (.invokevirtual 48, 3) := dk_182 0 48 (dk_at dksX3_insert_1 19 rfl rfl)
theorem dX3_insert_46 : decode cX3_insert 46 = .ok (.return_, 1) := dk_177 (dk_at dksX3_insert_1 22 rfl rfl)
abbrev cX3_removeAt : ByteArray := prog_5_method_6_code
def yX3_removeAt : MethodName := ⟨RX3, "removeAt", "(I)V"⟩
def dkwX3_removeAt_0 : List UInt8 := [42, 180, 0, 10, 27, 182, 0, 51, 192, 0, 30, 77, 177]
abbrev dktX3_removeAt_0 : List UInt8 := dkwX3_removeAt_0 ++ []
theorem dksX3_removeAt_0 : cX3_removeAt.data.toList.drop 0 = dktX3_removeAt_0 := by decide +kernel
theorem dX3_removeAt_0 : decode cX3_removeAt 0 = .ok (.aload_n 0, 1) := dk_42 (dk_at dksX3_removeAt_0 0 rfl rfl)
theorem dX3_removeAt_1 : decode cX3_removeAt 1 = .ok (.getfield 10, 3) := dk_180 0 10 (dk_at dksX3_removeAt_0 1 rfl rfl)
theorem dX3_removeAt_4 : decode cX3_removeAt 4 = .ok (.iload_n 1, 1) := dk_27 (dk_at dksX3_removeAt_0 4 rfl rfl)
theorem dX3_removeAt_5 : decode cX3_removeAt 5 = .ok (.invokevirtual 51, 3) := dk_182 0 51 (dk_at dksX3_removeAt_0 5 rfl rfl)
theorem dX3_removeAt_8 : decode cX3_removeAt 8 = .ok (.checkcast 30, 3) := dk_192 0 30 (dk_at dksX3_removeAt_0 8 rfl rfl)
theorem dX3_removeAt_11 : decode cX3_removeAt 11 = .ok (.astore_n 2, 1) := dk_77 (dk_at dksX3_removeAt_0 11 rfl rfl)
theorem dX3_removeAt_12 : decode cX3_removeAt 12 = .ok (.return_, 1) := dk_177 (dk_at dksX3_removeAt_0 12 rfl rfl)
theorem q49 : (Jvm.Cond.initialized "TrainingDiary$Ordered") ∈ lw_all := lw_g (lw_at lw_m1 3 rfl) rfl
theorem q98 : (Jvm.Cond.instantiable "TrainingDiary$Ordered" (1 : Nat)) ∈ lw_all := lw_g (lw_at lw_m1 52 rfl) rfl
theorem q100 : (Jvm.Cond.instanceMethod ({ cls := "TrainingDiary$Ordered", name := "<init>", desc := "()V" } : Jvm.MethodName)) ∈ lw_all := lw_g (lw_at lw_m1 54 rfl) rfl
theorem q101 : (Jvm.Cond.code ({ cls := "TrainingDiary$Ordered", name := "<init>", desc := "()V" } : Jvm.MethodName) prog_5_method_1_code (1 : Nat) (Option.none : Option Jvm.ClassFile.FieldType)) ∈ lw_all := lw_g (lw_at lw_m1 55 rfl) rfl
theorem q102 : (Jvm.Cond.methodLink "TrainingDiary$Ordered" (1 : Nat) ({ cls := "java/lang/Object", name := "<init>", desc := "()V" } : Jvm.MethodName)) ∈ lw_all := lw_g (lw_at lw_m1 56 rfl) rfl
theorem q103 : (Jvm.Cond.classLink "TrainingDiary$Ordered" (7 : Nat) "java/util/ArrayList") ∈ lw_all := lw_g (lw_at lw_m1 57 rfl) rfl
theorem q105 : (Jvm.Cond.methodLink "TrainingDiary$Ordered" (9 : Nat) ({ cls := "java/util/ArrayList", name := "<init>", desc := "()V" } : Jvm.MethodName)) ∈ lw_all := lw_g (lw_at lw_m1 59 rfl) rfl
theorem q130 : (Jvm.Cond.fieldLink "TrainingDiary$Ordered" (10 : Nat) "TrainingDiary$Ordered" "elements" "Ljava/util/ArrayList;") ∈ lw_all := lw_g (lw_at lw_m1 84 rfl) rfl
theorem q132 : (Jvm.Cond.laysFinal "TrainingDiary$Ordered" "TrainingDiary$Ordered" "elements" "Ljava/util/ArrayList;") ∈ lw_all := lw_g (lw_at lw_m1 86 rfl) rfl
theorem q133 : (Jvm.Cond.soleField "TrainingDiary$Ordered" "elements") ∈ lw_all := lw_g (lw_at lw_m1 87 rfl) rfl
theorem q134 : (Jvm.Cond.superclass "TrainingDiary$Ordered" "java/lang/Object") ∈ lw_all := lw_g (lw_at lw_m1 88 rfl) rfl
theorem q260 : (Jvm.Cond.instanceMethod ({ cls := "TrainingDiary$Ordered", name := "size", desc := "()I" } : Jvm.MethodName)) ∈ lw_all := lw_g (lw_at lw_m1 214 rfl) rfl
theorem q261 : (Jvm.Cond.selects "TrainingDiary$Ordered" ({ cls := "TrainingDiary$Ordered", name := "size", desc := "()I" } : Jvm.MethodName) ({ cls := "TrainingDiary$Ordered", name := "size", desc := "()I" } : Jvm.MethodName)) ∈ lw_all := lw_g (lw_at lw_m1 215 rfl) rfl
theorem q262 : (Jvm.Cond.code ({ cls := "TrainingDiary$Ordered", name := "size", desc := "()I" } : Jvm.MethodName) prog_5_method_3_code (1 : Nat) (Option.some Jvm.ClassFile.FieldType.int)) ∈ lw_all := lw_g (lw_at lw_m1 216 rfl) rfl
theorem q263 : (Jvm.Cond.methodLink "TrainingDiary$Ordered" (36 : Nat) ({ cls := "java/util/ArrayList", name := "size", desc := "()I" } : Jvm.MethodName)) ∈ lw_all := lw_g (lw_at lw_m1 217 rfl) rfl
theorem q288 : (Jvm.Cond.instanceMethod ({ cls := "TrainingDiary$Ordered", name := "iterator", desc := "()Ljava/util/Iterator;" } : Jvm.MethodName)) ∈ lw_all := lw_g (lw_at lw_m2 2 rfl) rfl
theorem q289 : (Jvm.Cond.selects "TrainingDiary$Ordered" ({ cls := "TrainingDiary$Ordered", name := "iterator", desc := "()Ljava/util/Iterator;" } : Jvm.MethodName) ({ cls := "TrainingDiary$Ordered", name := "iterator", desc := "()Ljava/util/Iterator;" } : Jvm.MethodName)) ∈ lw_all := lw_g (lw_at lw_m2 3 rfl) rfl
theorem q290 : (Jvm.Cond.code ({ cls := "TrainingDiary$Ordered", name := "iterator", desc := "()Ljava/util/Iterator;" } : Jvm.MethodName) prog_5_method_7_code (1 : Nat) (Option.some (Jvm.ClassFile.FieldType.object "java/util/Iterator"))) ∈ lw_all := lw_g (lw_at lw_m2 4 rfl) rfl
theorem q291 : (Jvm.Cond.classLink "TrainingDiary$Ordered" (54 : Nat) "TrainingDiary$Ordered$Walk") ∈ lw_all := lw_g (lw_at lw_m2 5 rfl) rfl
theorem q293 : (Jvm.Cond.methodLinkNest "TrainingDiary$Ordered" (56 : Nat) ({ cls := "TrainingDiary$Ordered$Walk", name := "<init>", desc := "(LTrainingDiary$Ordered;)V" } : Jvm.MethodName) "TrainingDiary") ∈ lw_tbl := lw_at lw_m2 7 rfl
theorem q444 : (Jvm.Cond.instanceMethod ({ cls := "TrainingDiary$Ordered", name := "get", desc := "(I)LTrainingDiary$Dated;" } : Jvm.MethodName)) ∈ lw_all := lw_g (lw_at lw_m2 158 rfl) rfl
theorem q445 : (Jvm.Cond.selects "TrainingDiary$Ordered" ({ cls := "TrainingDiary$Ordered", name := "get", desc := "(I)LTrainingDiary$Dated;" } : Jvm.MethodName) ({ cls := "TrainingDiary$Ordered", name := "get", desc := "(I)LTrainingDiary$Dated;" } : Jvm.MethodName)) ∈ lw_all := lw_g (lw_at lw_m2 159 rfl) rfl
theorem q446 : (Jvm.Cond.code ({ cls := "TrainingDiary$Ordered", name := "get", desc := "(I)LTrainingDiary$Dated;" } : Jvm.MethodName) prog_5_method_4_code (2 : Nat) (Option.some (Jvm.ClassFile.FieldType.object "TrainingDiary$Dated"))) ∈ lw_all := lw_g (lw_at lw_m2 160 rfl) rfl
theorem q447 : (Jvm.Cond.methodLink "TrainingDiary$Ordered" (40 : Nat) ({ cls := "java/util/ArrayList", name := "get", desc := "(I)Ljava/lang/Object;" } : Jvm.MethodName)) ∈ lw_all := lw_g (lw_at lw_m2 161 rfl) rfl
theorem q448 : (Jvm.Cond.classLink "TrainingDiary$Ordered" (30 : Nat) "TrainingDiary$Dated") ∈ lw_all := lw_g (lw_at lw_m2 162 rfl) rfl
theorem q478 : (Jvm.Cond.instanceMethod ({ cls := "TrainingDiary$Ordered", name := "<init>", desc := "(LTrainingDiary$Ordered;)V" } : Jvm.MethodName)) ∈ lw_all := lw_g (lw_at lw_m2 192 rfl) rfl
theorem q479 : (Jvm.Cond.code ({ cls := "TrainingDiary$Ordered", name := "<init>", desc := "(LTrainingDiary$Ordered;)V" } : Jvm.MethodName) prog_5_method_2_code (5 : Nat) (Option.none : Option Jvm.ClassFile.FieldType)) ∈ lw_all := lw_g (lw_at lw_m2 193 rfl) rfl
theorem q480 : (Jvm.Cond.methodLink "TrainingDiary$Ordered" (16 : Nat) ({ cls := "TrainingDiary$Ordered", name := "iterator", desc := "()Ljava/util/Iterator;" } : Jvm.MethodName)) ∈ lw_all := lw_g (lw_at lw_m2 194 rfl) rfl
theorem q481 : (Jvm.Cond.interfaceEntry "TrainingDiary$Ordered" (20 : Nat)) ∈ lw_tbl := lw_at lw_m2 195 rfl
theorem q482 : (Jvm.Cond.methodLink "TrainingDiary$Ordered" (20 : Nat) ({ cls := "java/util/Iterator", name := "hasNext", desc := "()Z" } : Jvm.MethodName)) ∈ lw_all := lw_g (lw_at lw_m2 196 rfl) rfl
theorem q483 : (Jvm.Cond.interfaceEntry "TrainingDiary$Ordered" (26 : Nat)) ∈ lw_tbl := lw_at lw_m2 197 rfl
theorem q484 : (Jvm.Cond.methodLink "TrainingDiary$Ordered" (26 : Nat) ({ cls := "java/util/Iterator", name := "next", desc := "()Ljava/lang/Object;" } : Jvm.MethodName)) ∈ lw_all := lw_g (lw_at lw_m2 198 rfl) rfl
theorem q485 : (Jvm.Cond.methodLink "TrainingDiary$Ordered" (32 : Nat) ({ cls := "java/util/ArrayList", name := "add", desc := "(Ljava/lang/Object;)Z" } : Jvm.MethodName)) ∈ lw_all := lw_g (lw_at lw_m2 199 rfl) rfl
theorem q520 : (Jvm.Cond.selects "TrainingDiary$Ordered" ({ cls := "java/lang/Object", name := "getClass", desc := "()Ljava/lang/Class;" } : Jvm.MethodName) ({ cls := "java/lang/Object", name := "getClass", desc := "()Ljava/lang/Class;" } : Jvm.MethodName)) ∈ lw_all := lw_g (lw_at lw_m2 234 rfl) rfl
theorem q754 : (Jvm.Cond.instanceMethod ({ cls := "TrainingDiary$Ordered", name := "insert", desc := "(LTrainingDiary$Dated;)V" } : Jvm.MethodName)) ∈ lw_all := lw_g (lw_at lw_m3 228 rfl) rfl
theorem q755 : (Jvm.Cond.selects "TrainingDiary$Ordered" ({ cls := "TrainingDiary$Ordered", name := "insert", desc := "(LTrainingDiary$Dated;)V" } : Jvm.MethodName) ({ cls := "TrainingDiary$Ordered", name := "insert", desc := "(LTrainingDiary$Dated;)V" } : Jvm.MethodName)) ∈ lw_all := lw_g (lw_at lw_m3 229 rfl) rfl
theorem q756 : (Jvm.Cond.code ({ cls := "TrainingDiary$Ordered", name := "insert", desc := "(LTrainingDiary$Dated;)V" } : Jvm.MethodName) prog_5_method_5_code (3 : Nat) (Option.none : Option Jvm.ClassFile.FieldType)) ∈ lw_all := lw_g (lw_at lw_m3 230 rfl) rfl
theorem q757 : (Jvm.Cond.methodLink "TrainingDiary$Ordered" (44 : Nat) ({ cls := "TrainingDiary$Dated", name := "compareTo", desc := "(LTrainingDiary$Dated;)I" } : Jvm.MethodName)) ∈ lw_all := lw_g (lw_at lw_m3 231 rfl) rfl
theorem q775 : (Jvm.Cond.methodLink "TrainingDiary$Ordered" (48 : Nat) ({ cls := "java/util/ArrayList", name := "add", desc := "(ILjava/lang/Object;)V" } : Jvm.MethodName)) ∈ lw_all := lw_g (lw_at lw_m4 9 rfl) rfl
theorem q1024 : (Jvm.Cond.instanceMethod ({ cls := "TrainingDiary$Ordered", name := "removeAt", desc := "(I)V" } : Jvm.MethodName)) ∈ lw_all := lw_g (lw_at lw_m5 18 rfl) rfl
theorem q1025 : (Jvm.Cond.selects "TrainingDiary$Ordered" ({ cls := "TrainingDiary$Ordered", name := "removeAt", desc := "(I)V" } : Jvm.MethodName) ({ cls := "TrainingDiary$Ordered", name := "removeAt", desc := "(I)V" } : Jvm.MethodName)) ∈ lw_all := lw_g (lw_at lw_m5 19 rfl) rfl
theorem q1026 : (Jvm.Cond.code ({ cls := "TrainingDiary$Ordered", name := "removeAt", desc := "(I)V" } : Jvm.MethodName) prog_5_method_6_code (3 : Nat) (Option.none : Option Jvm.ClassFile.FieldType)) ∈ lw_all := lw_g (lw_at lw_m5 20 rfl) rfl
theorem q1027 : (Jvm.Cond.methodLink "TrainingDiary$Ordered" (51 : Nat) ({ cls := "java/util/ArrayList", name := "remove", desc := "(I)Ljava/lang/Object;" } : Jvm.MethodName)) ∈ lw_all := lw_g (lw_at lw_m5 21 rfl) rfl
theorem q1988 : (Jvm.Cond.castable "TrainingDiary$Ordered" "java/lang/Object") ∈ lw_tbl := lw_at lw_m9 22 rfl
theorem in_X3 : ∀ w ∈ wsX30, w ∈ lw_all := lw_in wsX30 [132] (by decide +kernel) (by decide +kernel)
/-! TrainingDiary$Ordered$Walk -/
set_option maxRecDepth 100000
def RX5 : String := "TrainingDiary$Ordered$Walk"
def TX5 : u_T := fun k => match k with
  | 0 => ("TrainingDiary$Ordered$Walk", "next", "I", false)
  | _ => ("TrainingDiary$Ordered$Walk", "this$0", "LTrainingDiary$Ordered;", true)
def tyX5 : Nat → FieldType := fun k => match k with
  | 0 => .int
  | _ => .object "TrainingDiary$Ordered"
abbrev wsX50 : List Cond := u_ws RX5 TX5 2
theorem nmX5 : ∀ a, a < 2 → ∀ b, b < 2 → a ≠ b → (TX5 a).2.1 ≠ (TX5 b).2.1 := by decide +kernel
theorem tyX5_ok : ∀ k, k < 2 → parseFieldDescriptor (TX5 k).2.2.1 = some (tyX5 k) := by decide +kernel
abbrev cX5_init : ByteArray := prog_6_method_1_code
def yX5_init : MethodName := ⟨RX5, "<init>", "(LTrainingDiary$Ordered;)V"⟩
def dkwX5_init_0 : List UInt8 := [42, 43, 181, 0, 1, 42, 183, 0, 7, 177]
abbrev dktX5_init_0 : List UInt8 := dkwX5_init_0 ++ []
theorem dksX5_init_0 : cX5_init.data.toList.drop 0 = dktX5_init_0 := by decide +kernel
theorem dX5_init_0 : decode cX5_init 0 = .ok (.aload_n 0, 1) := dk_42 (dk_at dksX5_init_0 0 rfl rfl)
theorem dX5_init_1 : decode cX5_init 1 = .ok (.aload_n 1, 1) := dk_43 (dk_at dksX5_init_0 1 rfl rfl)
theorem dX5_init_2 : decode cX5_init 2 = .ok (.putfield 1, 3) := dk_181 0 1 (dk_at dksX5_init_0 2 rfl rfl)
theorem dX5_init_5 : decode cX5_init 5 = .ok (.aload_n 0, 1) := dk_42 (dk_at dksX5_init_0 5 rfl rfl)
theorem dX5_init_6 : decode cX5_init 6 = .ok (.invokespecial 7, 3) := dk_183 0 7 (dk_at dksX5_init_0 6 rfl rfl)
theorem dX5_init_9 : decode cX5_init 9 = .ok (.return_, 1) := dk_177 (dk_at dksX5_init_0 9 rfl rfl)
abbrev cX5_hasNext : ByteArray := prog_6_method_2_code
def yX5_hasNext : MethodName := ⟨RX5, "hasNext", "()Z"⟩
def dkwX5_hasNext_0 : List UInt8 := [42, 180, 0, 13, 42, 180, 0, 1, 180, 0, 17, 182, 0, 23, 162, 0, 7, 4, 167, 0, 4, 3, 172]
abbrev dktX5_hasNext_0 : List UInt8 := dkwX5_hasNext_0 ++ []
theorem dksX5_hasNext_0 : cX5_hasNext.data.toList.drop 0 = dktX5_hasNext_0 := by decide +kernel
theorem dX5_hasNext_0 : decode cX5_hasNext 0 = .ok (.aload_n 0, 1) := dk_42 (dk_at dksX5_hasNext_0 0 rfl rfl)
theorem dX5_hasNext_1 : decode cX5_hasNext 1 = .ok (.getfield 13, 3) := dk_180 0 13 (dk_at dksX5_hasNext_0 1 rfl rfl)
theorem dX5_hasNext_4 : decode cX5_hasNext 4 = .ok (.aload_n 0, 1) := dk_42 (dk_at dksX5_hasNext_0 4 rfl rfl)
theorem dX5_hasNext_5 : decode cX5_hasNext 5 = .ok (.getfield 1, 3) := dk_180 0 1 (dk_at dksX5_hasNext_0 5 rfl rfl)
theorem dX5_hasNext_8 : decode cX5_hasNext 8 = .ok (.getfield 17, 3) := dk_180 0 17 (dk_at dksX5_hasNext_0 8 rfl rfl)
theorem dX5_hasNext_11 : decode cX5_hasNext 11 = .ok (.invokevirtual 23, 3) := dk_182 0 23 (dk_at dksX5_hasNext_0 11 rfl rfl)
theorem dX5_hasNext_14 : decode cX5_hasNext 14 = .ok (.if_icmp .ge 7, 3) := dk_162 0 7 (dk_at dksX5_hasNext_0 14 rfl rfl)
theorem dX5_hasNext_17 : decode cX5_hasNext 17 = .ok (.iconst 1, 1) := dk_4 (dk_at dksX5_hasNext_0 17 rfl rfl)
theorem dX5_hasNext_18 : decode cX5_hasNext 18 = .ok (.goto 4, 3) := dk_167 0 4 (dk_at dksX5_hasNext_0 18 rfl rfl)
theorem dX5_hasNext_21 : decode cX5_hasNext 21 = .ok (.iconst 0, 1) := dk_3 (dk_at dksX5_hasNext_0 21 rfl rfl)
theorem dX5_hasNext_22 : decode cX5_hasNext 22 = .ok (.ireturn, 1) := dk_172 (dk_at dksX5_hasNext_0 22 rfl rfl)
abbrev cX5_next : ByteArray := prog_6_method_4_code
def yX5_next : MethodName := ⟨RX5, "next", "()Ljava/lang/Object;"⟩
theorem dX5_next_0 : decode cX5_next 0 = .ok (.aload_n 0, 1) := by decide +kernel
theorem dX5_next_1 : decode cX5_next 1 = .ok (.invokevirtual 45, 3) := by decide +kernel
theorem dX5_next_4 : decode cX5_next 4 = .ok (.areturn, 1) := by decide +kernel
abbrev cX5_next_2 : ByteArray := prog_6_method_3_code
def yX5_next_2 : MethodName := ⟨RX5, "next", "()LTrainingDiary$Dated;"⟩
def dkwX5_next_2_1 : List UInt8 := [42, 180, 0, 13, 4, 100, 182, 0, 39, 192, 0, 43, 176]
abbrev dktX5_next_2_1 : List UInt8 := dkwX5_next_2_1 ++ []
def dkwX5_next_2_0 : List UInt8 := [42, 182, 0, 29, 184, 0, 33, 42, 89, 180, 0, 13, 4, 96, 181, 0, 13, 42, 180, 0, 1, 180, 0, 17]
abbrev dktX5_next_2_0 : List UInt8 := dkwX5_next_2_0 ++ dktX5_next_2_1
theorem dksX5_next_2_0 : cX5_next_2.data.toList.drop 0 = dktX5_next_2_0 := by decide +kernel
theorem dksX5_next_2_1 : cX5_next_2.data.toList.drop 24 = dktX5_next_2_1 := dk_seg dksX5_next_2_0 24 rfl rfl
theorem dX5_next_2_0 : decode cX5_next_2 0 = .ok (.aload_n 0, 1) := dk_42 (dk_at dksX5_next_2_0 0 rfl rfl)
theorem dX5_next_2_1 : decode cX5_next_2 1 = .ok (.invokevirtual 29, 3) := dk_182 0 29 (dk_at dksX5_next_2_0 1 rfl rfl)
theorem dX5_next_2_4 : decode cX5_next_2 4 = .ok (.invokestatic 33, 3) := dk_184 0 33 (dk_at dksX5_next_2_0 4 rfl rfl)
theorem dX5_next_2_7 : decode cX5_next_2 7 = .ok (.aload_n 0, 1) := dk_42 (dk_at dksX5_next_2_0 7 rfl rfl)
theorem dX5_next_2_8 : decode cX5_next_2 8 = .ok (.dup, 1) := dk_89 (dk_at dksX5_next_2_0 8 rfl rfl)
theorem dX5_next_2_9 : decode cX5_next_2 9 = .ok (.getfield 13, 3) := dk_180 0 13 (dk_at dksX5_next_2_0 9 rfl rfl)
theorem dX5_next_2_12 : decode cX5_next_2 12 = .ok (.iconst 1, 1) := dk_4 (dk_at dksX5_next_2_0 12 rfl rfl)
theorem dX5_next_2_13 : decode cX5_next_2 13 = .ok (.iadd, 1) := dk_96 (dk_at dksX5_next_2_0 13 rfl rfl)
theorem dX5_next_2_14 : decode cX5_next_2 14 = .ok (.putfield 13, 3) := dk_181 0 13 (dk_at dksX5_next_2_0 14 rfl rfl)
theorem dX5_next_2_17 : decode cX5_next_2 17 = .ok (.aload_n 0, 1) := dk_42 (dk_at dksX5_next_2_0 17 rfl rfl)
theorem dX5_next_2_18 : decode cX5_next_2 18 = .ok (.getfield 1, 3) := dk_180 0 1 (dk_at dksX5_next_2_0 18 rfl rfl)
theorem dX5_next_2_21 : decode cX5_next_2 21 = .ok (.getfield 17, 3) := dk_180 0 17 (dk_at dksX5_next_2_0 21 rfl rfl)
theorem dX5_next_2_24 : decode cX5_next_2 24 = .ok (.aload_n 0, 1) := dk_42 (dk_at dksX5_next_2_1 0 rfl rfl)
theorem dX5_next_2_25 : decode cX5_next_2 25 = .ok (.getfield 13, 3) := dk_180 0 13 (dk_at dksX5_next_2_1 1 rfl rfl)
theorem dX5_next_2_28 : decode cX5_next_2 28 = .ok (.iconst 1, 1) := dk_4 (dk_at dksX5_next_2_1 4 rfl rfl)
theorem dX5_next_2_29 : decode cX5_next_2 29 = .ok (.isub, 1) := dk_100 (dk_at dksX5_next_2_1 5 rfl rfl)
theorem dX5_next_2_30 : decode cX5_next_2 30 = .ok (.invokevirtual 39, 3) := dk_182 0 39 (dk_at dksX5_next_2_1 6 rfl rfl)
theorem dX5_next_2_33 : decode cX5_next_2 33 = .ok (.checkcast 43, 3) := dk_192 0 43 (dk_at dksX5_next_2_1 9 rfl rfl)
theorem dX5_next_2_36 : decode cX5_next_2 36 = .ok (.areturn, 1) := dk_176 (dk_at dksX5_next_2_1 12 rfl rfl)
theorem q59 : (Jvm.Cond.initialized "TrainingDiary$Ordered$Walk") ∈ lw_all := lw_g (lw_at lw_m1 13 rfl) rfl
theorem q131 : (Jvm.Cond.fieldLinkNest "TrainingDiary$Ordered$Walk" (17 : Nat) "TrainingDiary$Ordered" "elements" "Ljava/util/ArrayList;" "TrainingDiary") ∈ lw_tbl := lw_at lw_m1 85 rfl
theorem q292 : (Jvm.Cond.instantiable "TrainingDiary$Ordered$Walk" (2 : Nat)) ∈ lw_all := lw_g (lw_at lw_m2 6 rfl) rfl
theorem q294 : (Jvm.Cond.instanceMethod ({ cls := "TrainingDiary$Ordered$Walk", name := "<init>", desc := "(LTrainingDiary$Ordered;)V" } : Jvm.MethodName)) ∈ lw_all := lw_g (lw_at lw_m2 8 rfl) rfl
theorem q295 : (Jvm.Cond.code ({ cls := "TrainingDiary$Ordered$Walk", name := "<init>", desc := "(LTrainingDiary$Ordered;)V" } : Jvm.MethodName) prog_6_method_1_code (2 : Nat) (Option.none : Option Jvm.ClassFile.FieldType)) ∈ lw_all := lw_g (lw_at lw_m2 9 rfl) rfl
theorem q296 : (Jvm.Cond.methodLink "TrainingDiary$Ordered$Walk" (7 : Nat) ({ cls := "java/lang/Object", name := "<init>", desc := "()V" } : Jvm.MethodName)) ∈ lw_all := lw_g (lw_at lw_m2 10 rfl) rfl
theorem q297 : (Jvm.Cond.fieldLink "TrainingDiary$Ordered$Walk" (13 : Nat) "TrainingDiary$Ordered$Walk" "next" "I") ∈ lw_all := lw_g (lw_at lw_m2 11 rfl) rfl
theorem q298 : (Jvm.Cond.fieldLink "TrainingDiary$Ordered$Walk" (1 : Nat) "TrainingDiary$Ordered$Walk" "this$0" "LTrainingDiary$Ordered;") ∈ lw_all := lw_g (lw_at lw_m2 12 rfl) rfl
theorem q299 : (Jvm.Cond.lays "TrainingDiary$Ordered$Walk" "TrainingDiary$Ordered$Walk" "next" "I") ∈ lw_all := lw_g (lw_at lw_m2 13 rfl) rfl
theorem q300 : (Jvm.Cond.soleField "TrainingDiary$Ordered$Walk" "next") ∈ lw_all := lw_g (lw_at lw_m2 14 rfl) rfl
theorem q301 : (Jvm.Cond.laysFinal "TrainingDiary$Ordered$Walk" "TrainingDiary$Ordered$Walk" "this$0" "LTrainingDiary$Ordered;") ∈ lw_all := lw_g (lw_at lw_m2 15 rfl) rfl
theorem q302 : (Jvm.Cond.soleField "TrainingDiary$Ordered$Walk" "this$0") ∈ lw_all := lw_g (lw_at lw_m2 16 rfl) rfl
theorem q303 : (Jvm.Cond.superclass "TrainingDiary$Ordered$Walk" "java/lang/Object") ∈ lw_all := lw_g (lw_at lw_m2 17 rfl) rfl
theorem q308 : (Jvm.Cond.castable "TrainingDiary$Ordered$Walk" "java/util/Iterator") ∈ lw_tbl := lw_at lw_m2 22 rfl
theorem q309 : (Jvm.Cond.selects "TrainingDiary$Ordered$Walk" ({ cls := "java/util/Iterator", name := "hasNext", desc := "()Z" } : Jvm.MethodName) ({ cls := "TrainingDiary$Ordered$Walk", name := "hasNext", desc := "()Z" } : Jvm.MethodName)) ∈ lw_all := lw_g (lw_at lw_m2 23 rfl) rfl
theorem q310 : (Jvm.Cond.unhidden "TrainingDiary$Ordered$Walk" "hasNext" "()Z") ∈ lw_tbl := lw_at lw_m2 24 rfl
theorem q311 : (Jvm.Cond.instanceMethod ({ cls := "TrainingDiary$Ordered$Walk", name := "hasNext", desc := "()Z" } : Jvm.MethodName)) ∈ lw_all := lw_g (lw_at lw_m2 25 rfl) rfl
theorem q312 : (Jvm.Cond.publicMethod ({ cls := "TrainingDiary$Ordered$Walk", name := "hasNext", desc := "()Z" } : Jvm.MethodName)) ∈ lw_tbl := lw_at lw_m2 26 rfl
theorem q313 : (Jvm.Cond.code ({ cls := "TrainingDiary$Ordered$Walk", name := "hasNext", desc := "()Z" } : Jvm.MethodName) prog_6_method_2_code (1 : Nat) (Option.some Jvm.ClassFile.FieldType.boolean)) ∈ lw_all := lw_g (lw_at lw_m2 27 rfl) rfl
theorem q314 : (Jvm.Cond.methodLink "TrainingDiary$Ordered$Walk" (23 : Nat) ({ cls := "java/util/ArrayList", name := "size", desc := "()I" } : Jvm.MethodName)) ∈ lw_all := lw_g (lw_at lw_m2 28 rfl) rfl
theorem q319 : (Jvm.Cond.selects "TrainingDiary$Ordered$Walk" ({ cls := "java/util/Iterator", name := "next", desc := "()Ljava/lang/Object;" } : Jvm.MethodName) ({ cls := "TrainingDiary$Ordered$Walk", name := "next", desc := "()Ljava/lang/Object;" } : Jvm.MethodName)) ∈ lw_all := lw_g (lw_at lw_m2 33 rfl) rfl
theorem q320 : (Jvm.Cond.unhidden "TrainingDiary$Ordered$Walk" "next" "()Ljava/lang/Object;") ∈ lw_tbl := lw_at lw_m2 34 rfl
theorem q321 : (Jvm.Cond.instanceMethod ({ cls := "TrainingDiary$Ordered$Walk", name := "next", desc := "()Ljava/lang/Object;" } : Jvm.MethodName)) ∈ lw_all := lw_g (lw_at lw_m2 35 rfl) rfl
theorem q322 : (Jvm.Cond.publicMethod ({ cls := "TrainingDiary$Ordered$Walk", name := "next", desc := "()Ljava/lang/Object;" } : Jvm.MethodName)) ∈ lw_tbl := lw_at lw_m2 36 rfl
theorem q323 : (Jvm.Cond.code ({ cls := "TrainingDiary$Ordered$Walk", name := "next", desc := "()Ljava/lang/Object;" } : Jvm.MethodName) prog_6_method_4_code (1 : Nat) (Option.some (Jvm.ClassFile.FieldType.object "java/lang/Object"))) ∈ lw_all := lw_g (lw_at lw_m2 37 rfl) rfl
theorem q324 : (Jvm.Cond.methodLink "TrainingDiary$Ordered$Walk" (45 : Nat) ({ cls := "TrainingDiary$Ordered$Walk", name := "next", desc := "()LTrainingDiary$Dated;" } : Jvm.MethodName)) ∈ lw_all := lw_g (lw_at lw_m2 38 rfl) rfl
theorem q325 : (Jvm.Cond.instanceMethod ({ cls := "TrainingDiary$Ordered$Walk", name := "next", desc := "()LTrainingDiary$Dated;" } : Jvm.MethodName)) ∈ lw_all := lw_g (lw_at lw_m2 39 rfl) rfl
theorem q326 : (Jvm.Cond.selects "TrainingDiary$Ordered$Walk" ({ cls := "TrainingDiary$Ordered$Walk", name := "next", desc := "()LTrainingDiary$Dated;" } : Jvm.MethodName) ({ cls := "TrainingDiary$Ordered$Walk", name := "next", desc := "()LTrainingDiary$Dated;" } : Jvm.MethodName)) ∈ lw_all := lw_g (lw_at lw_m2 40 rfl) rfl
theorem q327 : (Jvm.Cond.code ({ cls := "TrainingDiary$Ordered$Walk", name := "next", desc := "()LTrainingDiary$Dated;" } : Jvm.MethodName) prog_6_method_3_code (1 : Nat) (Option.some (Jvm.ClassFile.FieldType.object "TrainingDiary$Dated"))) ∈ lw_all := lw_g (lw_at lw_m2 41 rfl) rfl
theorem q328 : (Jvm.Cond.methodLink "TrainingDiary$Ordered$Walk" (29 : Nat) ({ cls := "TrainingDiary$Ordered$Walk", name := "hasNext", desc := "()Z" } : Jvm.MethodName)) ∈ lw_all := lw_g (lw_at lw_m2 42 rfl) rfl
theorem q329 : (Jvm.Cond.methodLinkNest "TrainingDiary$Ordered$Walk" (33 : Nat) ({ cls := "TrainingDiary", name := "requireElement", desc := "(Z)V" } : Jvm.MethodName) "TrainingDiary") ∈ lw_tbl := lw_at lw_m2 43 rfl
theorem q403 : (Jvm.Cond.methodLink "TrainingDiary$Ordered$Walk" (39 : Nat) ({ cls := "java/util/ArrayList", name := "get", desc := "(I)Ljava/lang/Object;" } : Jvm.MethodName)) ∈ lw_all := lw_g (lw_at lw_m2 117 rfl) rfl
theorem q417 : (Jvm.Cond.classLink "TrainingDiary$Ordered$Walk" (43 : Nat) "TrainingDiary$Dated") ∈ lw_all := lw_g (lw_at lw_m2 131 rfl) rfl
theorem q521 : (Jvm.Cond.selects "TrainingDiary$Ordered$Walk" ({ cls := "java/lang/Object", name := "getClass", desc := "()Ljava/lang/Class;" } : Jvm.MethodName) ({ cls := "java/lang/Object", name := "getClass", desc := "()Ljava/lang/Class;" } : Jvm.MethodName)) ∈ lw_all := lw_g (lw_at lw_m2 235 rfl) rfl
theorem q1964 : (Jvm.Cond.selects "TrainingDiary$Ordered$Walk" ({ cls := "TrainingDiary$Ordered$Walk", name := "hasNext", desc := "()Z" } : Jvm.MethodName) ({ cls := "TrainingDiary$Ordered$Walk", name := "hasNext", desc := "()Z" } : Jvm.MethodName)) ∈ lw_all := lw_g (lw_at lw_m8 238 rfl) rfl
theorem q1993 : (Jvm.Cond.castable "TrainingDiary$Ordered$Walk" "java/lang/Object") ∈ lw_tbl := lw_at lw_m9 27 rfl
theorem in_X5 : ∀ w ∈ wsX50, w ∈ lw_all := lw_in wsX50 [299, 301] (by decide +kernel) (by decide +kernel)
/-! TrainingDiary$Dated -/
set_option maxRecDepth 100000
def RX6 : String := "TrainingDiary$Dated"
abbrev cX6_day : ByteArray := prog_4_method_2_code
def yX6_day : MethodName := ⟨RX6, "day", "()I"⟩
theorem dX6_day_0 : decode cX6_day 0 = .ok (.aload_n 0, 1) := by decide +kernel
theorem dX6_day_1 : decode cX6_day 1 = .ok (.getfield 7, 3) := by decide +kernel
theorem dX6_day_4 : decode cX6_day 4 = .ok (.ireturn, 1) := by decide +kernel
abbrev cX6_init : ByteArray := prog_4_method_1_code
def yX6_init : MethodName := ⟨RX6, "<init>", "(I)V"⟩
def dkwX6_init_0 : List UInt8 := [42, 183, 0, 1, 42, 27, 181, 0, 7, 177]
abbrev dktX6_init_0 : List UInt8 := dkwX6_init_0 ++ []
theorem dksX6_init_0 : cX6_init.data.toList.drop 0 = dktX6_init_0 := by decide +kernel
theorem dX6_init_0 : decode cX6_init 0 = .ok (.aload_n 0, 1) := dk_42 (dk_at dksX6_init_0 0 rfl rfl)
theorem dX6_init_1 : decode cX6_init 1 = .ok (.invokespecial 1, 3) := dk_183 0 1 (dk_at dksX6_init_0 1 rfl rfl)
theorem dX6_init_4 : decode cX6_init 4 = .ok (.aload_n 0, 1) := dk_42 (dk_at dksX6_init_0 4 rfl rfl)
theorem dX6_init_5 : decode cX6_init 5 = .ok (.iload_n 1, 1) := dk_27 (dk_at dksX6_init_0 5 rfl rfl)
theorem dX6_init_6 : decode cX6_init 6 = .ok (.putfield 7, 3) := dk_181 0 7 (dk_at dksX6_init_0 6 rfl rfl)
theorem dX6_init_9 : decode cX6_init 9 = .ok (.return_, 1) := dk_177 (dk_at dksX6_init_0 9 rfl rfl)
abbrev cX6_compareTo : ByteArray := prog_4_method_4_code
def yX6_compareTo : MethodName := ⟨RX6, "compareTo", "(LTrainingDiary$Dated;)I"⟩
def dkwX6_compareTo_1 : List UInt8 := [167, 0, 14, 42, 180, 0, 7, 43, 180, 0, 7, 184, 0, 17, 172]
abbrev dktX6_compareTo_1 : List UInt8 := dkwX6_compareTo_1 ++ []
def dkwX6_compareTo_0 : List UInt8 := [42, 180, 0, 7, 43, 180, 0, 7, 160, 0, 17, 42, 182, 0, 13, 43, 182, 0, 13, 184, 0, 17]
abbrev dktX6_compareTo_0 : List UInt8 := dkwX6_compareTo_0 ++ dktX6_compareTo_1
theorem dksX6_compareTo_0 : cX6_compareTo.data.toList.drop 0 = dktX6_compareTo_0 := by decide +kernel
theorem dksX6_compareTo_1 : cX6_compareTo.data.toList.drop 22 = dktX6_compareTo_1 := dk_seg dksX6_compareTo_0 22 rfl rfl
theorem dX6_compareTo_0 : decode cX6_compareTo 0 = .ok (.aload_n 0, 1) := dk_42 (dk_at dksX6_compareTo_0 0 rfl rfl)
theorem dX6_compareTo_1 : decode cX6_compareTo 1 = .ok (.getfield 7, 3) := dk_180 0 7 (dk_at dksX6_compareTo_0 1 rfl rfl)
theorem dX6_compareTo_4 : decode cX6_compareTo 4 = .ok (.aload_n 1, 1) := dk_43 (dk_at dksX6_compareTo_0 4 rfl rfl)
theorem dX6_compareTo_5 : decode cX6_compareTo 5 = .ok (.getfield 7, 3) := dk_180 0 7 (dk_at dksX6_compareTo_0 5 rfl rfl)
theorem dX6_compareTo_8 : decode cX6_compareTo 8 = .ok (.if_icmp .ne 17, 3) := dk_160 0 17 (dk_at dksX6_compareTo_0 8 rfl rfl)
theorem dX6_compareTo_11 : decode cX6_compareTo 11 = .ok (.aload_n 0, 1) := dk_42 (dk_at dksX6_compareTo_0 11 rfl rfl)
theorem dX6_compareTo_12 : decode cX6_compareTo 12 = .ok (.invokevirtual 13, 3) := dk_182 0 13 (dk_at dksX6_compareTo_0 12 rfl rfl)
theorem dX6_compareTo_15 : decode cX6_compareTo 15 = .ok (.aload_n 1, 1) := dk_43 (dk_at dksX6_compareTo_0 15 rfl rfl)
theorem dX6_compareTo_16 : decode cX6_compareTo 16 = .ok (.invokevirtual 13, 3) := dk_182 0 13 (dk_at dksX6_compareTo_0 16 rfl rfl)
theorem dX6_compareTo_19 : decode cX6_compareTo 19 = .ok (.invokestatic 17, 3) := dk_184 0 17 (dk_at dksX6_compareTo_0 19 rfl rfl)
theorem dX6_compareTo_22 : decode cX6_compareTo 22 = .ok (.goto 14, 3) := dk_167 0 14 (dk_at dksX6_compareTo_1 0 rfl rfl)
theorem dX6_compareTo_25 : decode cX6_compareTo 25 = .ok (.aload_n 0, 1) := dk_42 (dk_at dksX6_compareTo_1 3 rfl rfl)
theorem dX6_compareTo_26 : decode cX6_compareTo 26 = .ok (.getfield 7, 3) := dk_180 0 7 (dk_at dksX6_compareTo_1 4 rfl rfl)
theorem dX6_compareTo_29 : decode cX6_compareTo 29 = .ok (.aload_n 1, 1) := dk_43 (dk_at dksX6_compareTo_1 7 rfl rfl)
theorem dX6_compareTo_30 : decode cX6_compareTo 30 = .ok (.getfield 7, 3) := dk_180 0 7 (dk_at dksX6_compareTo_1 8 rfl rfl)
theorem dX6_compareTo_33 : decode cX6_compareTo 33 = .ok (.invokestatic 17, 3) := dk_184 0 17 (dk_at dksX6_compareTo_1 11 rfl rfl)
theorem dX6_compareTo_36 : decode cX6_compareTo 36 = .ok (.ireturn, 1) := dk_172 (dk_at dksX6_compareTo_1 14 rfl rfl)
theorem q72 : (Jvm.Cond.initialized "TrainingDiary$Dated") ∈ lw_all := lw_g (lw_at lw_m1 26 rfl) rfl
theorem q421 : (Jvm.Cond.declares ({ cls := "TrainingDiary$Dated", name := "day", desc := "()I" } : Jvm.MethodName)) ∈ lw_tbl := lw_at lw_m2 135 rfl
theorem q423 : (Jvm.Cond.instanceMethod ({ cls := "TrainingDiary$Dated", name := "day", desc := "()I" } : Jvm.MethodName)) ∈ lw_all := lw_g (lw_at lw_m2 137 rfl) rfl
theorem q424 : (Jvm.Cond.code ({ cls := "TrainingDiary$Dated", name := "day", desc := "()I" } : Jvm.MethodName) prog_4_method_2_code (1 : Nat) (Option.some Jvm.ClassFile.FieldType.int)) ∈ lw_all := lw_g (lw_at lw_m2 138 rfl) rfl
theorem q742 : (Jvm.Cond.instanceMethod ({ cls := "TrainingDiary$Dated", name := "<init>", desc := "(I)V" } : Jvm.MethodName)) ∈ lw_all := lw_g (lw_at lw_m3 216 rfl) rfl
theorem q743 : (Jvm.Cond.code ({ cls := "TrainingDiary$Dated", name := "<init>", desc := "(I)V" } : Jvm.MethodName) prog_4_method_1_code (2 : Nat) (Option.none : Option Jvm.ClassFile.FieldType)) ∈ lw_all := lw_g (lw_at lw_m3 217 rfl) rfl
theorem q744 : (Jvm.Cond.methodLink "TrainingDiary$Dated" (1 : Nat) ({ cls := "java/lang/Object", name := "<init>", desc := "()V" } : Jvm.MethodName)) ∈ lw_all := lw_g (lw_at lw_m3 218 rfl) rfl
theorem q747 : (Jvm.Cond.fieldLink "TrainingDiary$Dated" (7 : Nat) "TrainingDiary$Dated" "day" "I") ∈ lw_all := lw_g (lw_at lw_m3 221 rfl) rfl
theorem q751 : (Jvm.Cond.soleField "TrainingDiary$Dated" "day") ∈ lw_all := lw_g (lw_at lw_m3 225 rfl) rfl
theorem q758 : (Jvm.Cond.instanceMethod ({ cls := "TrainingDiary$Dated", name := "compareTo", desc := "(LTrainingDiary$Dated;)I" } : Jvm.MethodName)) ∈ lw_all := lw_g (lw_at lw_m3 232 rfl) rfl
theorem q759 : (Jvm.Cond.sameMethod "TrainingDiary$Dated" "TrainingDiary$Dated" "compareTo" "(LTrainingDiary$Dated;)I") ∈ lw_all := lw_g (lw_at lw_m3 233 rfl) rfl
theorem q762 : (Jvm.Cond.code ({ cls := "TrainingDiary$Dated", name := "compareTo", desc := "(LTrainingDiary$Dated;)I" } : Jvm.MethodName) prog_4_method_4_code (2 : Nat) (Option.some Jvm.ClassFile.FieldType.int)) ∈ lw_all := lw_g (lw_at lw_m3 236 rfl) rfl
theorem q763 : (Jvm.Cond.methodLink "TrainingDiary$Dated" (13 : Nat) ({ cls := "TrainingDiary$Dated", name := "number", desc := "()I" } : Jvm.MethodName)) ∈ lw_all := lw_g (lw_at lw_m3 237 rfl) rfl
theorem q764 : (Jvm.Cond.declares ({ cls := "TrainingDiary$Dated", name := "number", desc := "()I" } : Jvm.MethodName)) ∈ lw_tbl := lw_at lw_m3 238 rfl
theorem q765 : (Jvm.Cond.sameMethod "TrainingDiary$Dated" "TrainingDiary$Dated" "number" "()I") ∈ lw_all := lw_g (lw_at lw_m3 239 rfl) rfl
theorem q772 : (Jvm.Cond.methodLink "TrainingDiary$Dated" (17 : Nat) ({ cls := "java/lang/Integer", name := "compare", desc := "(II)I" } : Jvm.MethodName)) ∈ lw_all := lw_g (lw_at lw_m4 6 rfl) rfl
theorem q1966 : (Jvm.Cond.sameMethod "TrainingDiary$Dated" "TrainingDiary$Dated" "day" "()I") ∈ lw_all := lw_g (lw_at lw_m9 0 rfl) rfl
/-! TrainingDiary$Test -/
set_option maxRecDepth 100000
def RX7 : String := "TrainingDiary$Test"
def TX7 : u_T := fun k => match k with
  | 0 => ("TrainingDiary$Dated", "day", "I", true)
  | _ => ("TrainingDiary$Test", "threshold", "I", true)
def tyX7 : Nat → FieldType := fun k => match k with
  | 0 => .int
  | _ => .int
abbrev wsX70 : List Cond := u_ws RX7 TX7 2
theorem nmX7 : ∀ a, a < 2 → ∀ b, b < 2 → a ≠ b → (TX7 a).2.1 ≠ (TX7 b).2.1 := by decide +kernel
theorem tyX7_ok : ∀ k, k < 2 → parseFieldDescriptor (TX7 k).2.2.1 = some (tyX7 k) := by decide +kernel
abbrev cX7_init : ByteArray := prog_8_method_1_code
def yX7_init : MethodName := ⟨RX7, "<init>", "(II)V"⟩
def dkwX7_init_0 : List UInt8 := [42, 27, 183, 0, 1, 42, 28, 181, 0, 7, 177]
abbrev dktX7_init_0 : List UInt8 := dkwX7_init_0 ++ []
theorem dksX7_init_0 : cX7_init.data.toList.drop 0 = dktX7_init_0 := by decide +kernel
theorem dX7_init_0 : decode cX7_init 0 = .ok (.aload_n 0, 1) := dk_42 (dk_at dksX7_init_0 0 rfl rfl)
theorem dX7_init_1 : decode cX7_init 1 = .ok (.iload_n 1, 1) := dk_27 (dk_at dksX7_init_0 1 rfl rfl)
theorem dX7_init_2 : decode cX7_init 2 = .ok (.invokespecial 1, 3) := dk_183 0 1 (dk_at dksX7_init_0 2 rfl rfl)
theorem dX7_init_5 : decode cX7_init 5 = .ok (.aload_n 0, 1) := dk_42 (dk_at dksX7_init_0 5 rfl rfl)
theorem dX7_init_6 : decode cX7_init 6 = .ok (.iload_n 2, 1) := dk_28 (dk_at dksX7_init_0 6 rfl rfl)
theorem dX7_init_7 : decode cX7_init 7 = .ok (.putfield 7, 3) := dk_181 0 7 (dk_at dksX7_init_0 7 rfl rfl)
theorem dX7_init_10 : decode cX7_init 10 = .ok (.return_, 1) := dk_177 (dk_at dksX7_init_0 10 rfl rfl)
abbrev cX7_number : ByteArray := prog_8_method_2_code
def yX7_number : MethodName := ⟨RX7, "number", "()I"⟩
theorem dX7_number_0 : decode cX7_number 0 = .ok (.iconst 0, 1) := by decide +kernel
theorem dX7_number_1 : decode cX7_number 1 = .ok (.ireturn, 1) := by decide +kernel
theorem q73 : (Jvm.Cond.initialized "TrainingDiary$Test") ∈ lw_all := lw_g (lw_at lw_m1 27 rfl) rfl
theorem q523 : (Jvm.Cond.selects "TrainingDiary$Test" ({ cls := "java/lang/Object", name := "getClass", desc := "()Ljava/lang/Class;" } : Jvm.MethodName) ({ cls := "java/lang/Object", name := "getClass", desc := "()Ljava/lang/Class;" } : Jvm.MethodName)) ∈ lw_all := lw_g (lw_at lw_m2 237 rfl) rfl
theorem q735 : (Jvm.Cond.sameMethod "TrainingDiary$Test" "TrainingDiary$Dated" "day" "()I") ∈ lw_all := lw_g (lw_at lw_m3 209 rfl) rfl
theorem q736 : (Jvm.Cond.selects "TrainingDiary$Test" ({ cls := "TrainingDiary$Test", name := "day", desc := "()I" } : Jvm.MethodName) ({ cls := "TrainingDiary$Dated", name := "day", desc := "()I" } : Jvm.MethodName)) ∈ lw_all := lw_g (lw_at lw_m3 210 rfl) rfl
theorem q737 : (Jvm.Cond.instantiable "TrainingDiary$Test" (2 : Nat)) ∈ lw_all := lw_g (lw_at lw_m3 211 rfl) rfl
theorem q739 : (Jvm.Cond.instanceMethod ({ cls := "TrainingDiary$Test", name := "<init>", desc := "(II)V" } : Jvm.MethodName)) ∈ lw_all := lw_g (lw_at lw_m3 213 rfl) rfl
theorem q740 : (Jvm.Cond.code ({ cls := "TrainingDiary$Test", name := "<init>", desc := "(II)V" } : Jvm.MethodName) prog_8_method_1_code (3 : Nat) (Option.none : Option Jvm.ClassFile.FieldType)) ∈ lw_all := lw_g (lw_at lw_m3 214 rfl) rfl
theorem q741 : (Jvm.Cond.methodLink "TrainingDiary$Test" (1 : Nat) ({ cls := "TrainingDiary$Dated", name := "<init>", desc := "(I)V" } : Jvm.MethodName)) ∈ lw_all := lw_g (lw_at lw_m3 215 rfl) rfl
theorem q745 : (Jvm.Cond.fieldLink "TrainingDiary$Test" (7 : Nat) "TrainingDiary$Test" "threshold" "I") ∈ lw_all := lw_g (lw_at lw_m3 219 rfl) rfl
theorem q748 : (Jvm.Cond.laysFinal "TrainingDiary$Test" "TrainingDiary$Test" "threshold" "I") ∈ lw_all := lw_g (lw_at lw_m3 222 rfl) rfl
theorem q749 : (Jvm.Cond.soleField "TrainingDiary$Test" "threshold") ∈ lw_all := lw_g (lw_at lw_m3 223 rfl) rfl
theorem q750 : (Jvm.Cond.laysFinal "TrainingDiary$Test" "TrainingDiary$Dated" "day" "I") ∈ lw_all := lw_g (lw_at lw_m3 224 rfl) rfl
theorem q752 : (Jvm.Cond.superclass "TrainingDiary$Test" "TrainingDiary$Dated") ∈ lw_all := lw_g (lw_at lw_m3 226 rfl) rfl
theorem q761 : (Jvm.Cond.selects "TrainingDiary$Test" ({ cls := "TrainingDiary$Dated", name := "compareTo", desc := "(LTrainingDiary$Dated;)I" } : Jvm.MethodName) ({ cls := "TrainingDiary$Dated", name := "compareTo", desc := "(LTrainingDiary$Dated;)I" } : Jvm.MethodName)) ∈ lw_all := lw_g (lw_at lw_m3 235 rfl) rfl
theorem q769 : (Jvm.Cond.selects "TrainingDiary$Test" ({ cls := "TrainingDiary$Dated", name := "number", desc := "()I" } : Jvm.MethodName) ({ cls := "TrainingDiary$Test", name := "number", desc := "()I" } : Jvm.MethodName)) ∈ lw_all := lw_g (lw_at lw_m4 3 rfl) rfl
theorem q770 : (Jvm.Cond.instanceMethod ({ cls := "TrainingDiary$Test", name := "number", desc := "()I" } : Jvm.MethodName)) ∈ lw_all := lw_g (lw_at lw_m4 4 rfl) rfl
theorem q771 : (Jvm.Cond.code ({ cls := "TrainingDiary$Test", name := "number", desc := "()I" } : Jvm.MethodName) prog_8_method_2_code (1 : Nat) (Option.some Jvm.ClassFile.FieldType.int)) ∈ lw_all := lw_g (lw_at lw_m4 5 rfl) rfl
theorem q1968 : (Jvm.Cond.selects "TrainingDiary$Test" ({ cls := "TrainingDiary$Dated", name := "day", desc := "()I" } : Jvm.MethodName) ({ cls := "TrainingDiary$Dated", name := "day", desc := "()I" } : Jvm.MethodName)) ∈ lw_all := lw_g (lw_at lw_m9 2 rfl) rfl
theorem q1985 : (Jvm.Cond.castable "TrainingDiary$Test" "TrainingDiary$Dated") ∈ lw_tbl := lw_at lw_m9 19 rfl
theorem q1997 : (Jvm.Cond.castable "TrainingDiary$Test" "java/lang/Object") ∈ lw_tbl := lw_at lw_m9 31 rfl
theorem in_X7 : ∀ w ∈ wsX70, w ∈ lw_all := lw_in wsX70 [750, 748] (by decide +kernel) (by decide +kernel)
/-! TrainingDiary$Session -/
set_option maxRecDepth 100000
def RX8 : String := "TrainingDiary$Session"
def TX8 : u_T := fun k => match k with
  | 0 => ("TrainingDiary$Dated", "day", "I", true)
  | 1 => ("TrainingDiary$Session", "id", "I", true)
  | 2 => ("TrainingDiary$Session", "minutes", "[S", true)
  | _ => ("TrainingDiary$Session", "intensities", "[S", true)
def tyX8 : Nat → FieldType := fun k => match k with
  | 0 => .int
  | 1 => .int
  | 2 => .array .short
  | _ => .array .short
abbrev wsX80 : List Cond := u_ws RX8 TX8 4
theorem nmX8 : ∀ a, a < 4 → ∀ b, b < 4 → a ≠ b → (TX8 a).2.1 ≠ (TX8 b).2.1 := by decide +kernel
theorem tyX8_ok : ∀ k, k < 4 → parseFieldDescriptor (TX8 k).2.2.1 = some (tyX8 k) := by decide +kernel
abbrev cX8_number : ByteArray := prog_7_method_3_code
def yX8_number : MethodName := ⟨RX8, "number", "()I"⟩
theorem dX8_number_0 : decode cX8_number 0 = .ok (.aload_n 0, 1) := by decide +kernel
theorem dX8_number_1 : decode cX8_number 1 = .ok (.getfield 12, 3) := by decide +kernel
theorem dX8_number_4 : decode cX8_number 4 = .ok (.ireturn, 1) := by decide +kernel
abbrev cX8_init : ByteArray := prog_7_method_1_code
def yX8_init : MethodName := ⟨RX8, "<init>", "(II)V"⟩
def dkwX8_init_0 : List UInt8 := [42, 27, 28, 3, 188, 9, 3, 188, 9, 183, 0, 1, 177]
abbrev dktX8_init_0 : List UInt8 := dkwX8_init_0 ++ []
theorem dksX8_init_0 : cX8_init.data.toList.drop 0 = dktX8_init_0 := by decide +kernel
theorem dX8_init_0 : decode cX8_init 0 = .ok (.aload_n 0, 1) := dk_42 (dk_at dksX8_init_0 0 rfl rfl)
theorem dX8_init_1 : decode cX8_init 1 = .ok (.iload_n 1, 1) := dk_27 (dk_at dksX8_init_0 1 rfl rfl)
theorem dX8_init_2 : decode cX8_init 2 = .ok (.iload_n 2, 1) := dk_28 (dk_at dksX8_init_0 2 rfl rfl)
theorem dX8_init_3 : decode cX8_init 3 = .ok (.iconst 0, 1) := dk_3 (dk_at dksX8_init_0 3 rfl rfl)
theorem dX8_init_4 : decode cX8_init 4 = .ok (.newarray .short, 2) := dk_188_9 (dk_at dksX8_init_0 4 rfl rfl)
theorem dX8_init_6 : decode cX8_init 6 = .ok (.iconst 0, 1) := dk_3 (dk_at dksX8_init_0 6 rfl rfl)
theorem dX8_init_7 : decode cX8_init 7 = .ok (.newarray .short, 2) := dk_188_9 (dk_at dksX8_init_0 7 rfl rfl)
theorem dX8_init_9 : decode cX8_init 9 = .ok (.invokespecial 1, 3) := dk_183 0 1 (dk_at dksX8_init_0 9 rfl rfl)
theorem dX8_init_12 : decode cX8_init 12 = .ok (.return_, 1) := dk_177 (dk_at dksX8_init_0 12 rfl rfl)
abbrev cX8_init_2 : ByteArray := prog_7_method_2_code
def yX8_init_2 : MethodName := ⟨RX8, "<init>", "(II[S[S)V"⟩
def dkwX8_init_2_0 : List UInt8 := [42, 28, 183, 0, 7, 42, 27, 181, 0, 12, 42, 45, 181, 0, 16, 42, 25, 4, 181, 0, 20, 177]
abbrev dktX8_init_2_0 : List UInt8 := dkwX8_init_2_0 ++ []
theorem dksX8_init_2_0 : cX8_init_2.data.toList.drop 0 = dktX8_init_2_0 := by decide +kernel
theorem dX8_init_2_0 : decode cX8_init_2 0 = .ok (.aload_n 0, 1) := dk_42 (dk_at dksX8_init_2_0 0 rfl rfl)
theorem dX8_init_2_1 : decode cX8_init_2 1 = .ok (.iload_n 2, 1) := dk_28 (dk_at dksX8_init_2_0 1 rfl rfl)
theorem dX8_init_2_2 : decode cX8_init_2 2 = .ok (.invokespecial 7, 3) := dk_183 0 7 (dk_at dksX8_init_2_0 2 rfl rfl)
theorem dX8_init_2_5 : decode cX8_init_2 5 = .ok (.aload_n 0, 1) := dk_42 (dk_at dksX8_init_2_0 5 rfl rfl)
theorem dX8_init_2_6 : decode cX8_init_2 6 = .ok (.iload_n 1, 1) := dk_27 (dk_at dksX8_init_2_0 6 rfl rfl)
theorem dX8_init_2_7 : decode cX8_init_2 7 = .ok (.putfield 12, 3) := dk_181 0 12 (dk_at dksX8_init_2_0 7 rfl rfl)
theorem dX8_init_2_10 : decode cX8_init_2 10 = .ok (.aload_n 0, 1) := dk_42 (dk_at dksX8_init_2_0 10 rfl rfl)
theorem dX8_init_2_11 : decode cX8_init_2 11 = .ok (.aload_n 3, 1) := dk_45 (dk_at dksX8_init_2_0 11 rfl rfl)
theorem dX8_init_2_12 : decode cX8_init_2 12 = .ok (.putfield 16, 3) := dk_181 0 16 (dk_at dksX8_init_2_0 12 rfl rfl)
theorem dX8_init_2_15 : decode cX8_init_2 15 = .ok (.aload_n 0, 1) := dk_42 (dk_at dksX8_init_2_0 15 rfl rfl)
theorem dX8_init_2_16 : decode cX8_init_2 16 = .ok (.aload 4, 2) := dk_25 4 (dk_at dksX8_init_2_0 16 rfl rfl)
theorem dX8_init_2_18 : decode cX8_init_2 18 = .ok (.putfield 20, 3) := dk_181 0 20 (dk_at dksX8_init_2_0 18 rfl rfl)
theorem dX8_init_2_21 : decode cX8_init_2 21 = .ok (.return_, 1) := dk_177 (dk_at dksX8_init_2_0 21 rfl rfl)
abbrev cX8_length : ByteArray := prog_7_method_6_code
def yX8_length : MethodName := ⟨RX8, "length", "()I"⟩
def dkwX8_length_1 : List UInt8 := [54, 5, 27, 21, 5, 96, 60, 132, 4, 1, 167, 255, 236, 27, 172]
abbrev dktX8_length_1 : List UInt8 := dkwX8_length_1 ++ []
def dkwX8_length_0 : List UInt8 := [3, 60, 42, 180, 0, 16, 77, 44, 190, 62, 3, 54, 4, 21, 4, 29, 162, 0, 20, 44, 21, 4, 53]
abbrev dktX8_length_0 : List UInt8 := dkwX8_length_0 ++ dktX8_length_1
theorem dksX8_length_0 : cX8_length.data.toList.drop 0 = dktX8_length_0 := by decide +kernel
theorem dksX8_length_1 : cX8_length.data.toList.drop 23 = dktX8_length_1 := dk_seg dksX8_length_0 23 rfl rfl
theorem dX8_length_0 : decode cX8_length 0 = .ok (.iconst 0, 1) := dk_3 (dk_at dksX8_length_0 0 rfl rfl)
theorem dX8_length_1 : decode cX8_length 1 = .ok (.istore_n 1, 1) := dk_60 (dk_at dksX8_length_0 1 rfl rfl)
theorem dX8_length_2 : decode cX8_length 2 = .ok (.aload_n 0, 1) := dk_42 (dk_at dksX8_length_0 2 rfl rfl)
theorem dX8_length_3 : decode cX8_length 3 = .ok (.getfield 16, 3) := dk_180 0 16 (dk_at dksX8_length_0 3 rfl rfl)
theorem dX8_length_6 : decode cX8_length 6 = .ok (.astore_n 2, 1) := dk_77 (dk_at dksX8_length_0 6 rfl rfl)
theorem dX8_length_7 : decode cX8_length 7 = .ok (.aload_n 2, 1) := dk_44 (dk_at dksX8_length_0 7 rfl rfl)
theorem dX8_length_8 : decode cX8_length 8 = .ok (.arraylength, 1) := dk_190 (dk_at dksX8_length_0 8 rfl rfl)
theorem dX8_length_9 : decode cX8_length 9 = .ok (.istore_n 3, 1) := dk_62 (dk_at dksX8_length_0 9 rfl rfl)
theorem dX8_length_10 : decode cX8_length 10 = .ok (.iconst 0, 1) := dk_3 (dk_at dksX8_length_0 10 rfl rfl)
theorem dX8_length_11 : decode cX8_length 11 = .ok (.istore 4, 2) := dk_54 4 (dk_at dksX8_length_0 11 rfl rfl)
theorem dX8_length_13 : decode cX8_length 13 = .ok (.iload 4, 2) := dk_21 4 (dk_at dksX8_length_0 13 rfl rfl)
theorem dX8_length_15 : decode cX8_length 15 = .ok (.iload_n 3, 1) := dk_29 (dk_at dksX8_length_0 15 rfl rfl)
theorem dX8_length_16 : decode cX8_length 16 = .ok (.if_icmp .ge 20, 3) := dk_162 0 20 (dk_at dksX8_length_0 16 rfl rfl)
theorem dX8_length_19 : decode cX8_length 19 = .ok (.aload_n 2, 1) := dk_44 (dk_at dksX8_length_0 19 rfl rfl)
theorem dX8_length_20 : decode cX8_length 20 = .ok (.iload 4, 2) := dk_21 4 (dk_at dksX8_length_0 20 rfl rfl)
theorem dX8_length_22 : decode cX8_length 22 = .ok (.saload, 1) := dk_53 (dk_at dksX8_length_0 22 rfl rfl)
theorem dX8_length_23 : decode cX8_length 23 = .ok (.istore 5, 2) := dk_54 5 (dk_at dksX8_length_1 0 rfl rfl)
theorem dX8_length_25 : decode cX8_length 25 = .ok (.iload_n 1, 1) := dk_27 (dk_at dksX8_length_1 2 rfl rfl)
theorem dX8_length_26 : decode cX8_length 26 = .ok (.iload 5, 2) := dk_21 5 (dk_at dksX8_length_1 3 rfl rfl)
theorem dX8_length_28 : decode cX8_length 28 = .ok (.iadd, 1) := dk_96 (dk_at dksX8_length_1 5 rfl rfl)
theorem dX8_length_29 : decode cX8_length 29 = .ok (.istore_n 1, 1) := dk_60 (dk_at dksX8_length_1 6 rfl rfl)
theorem dX8_length_30 : decode cX8_length 30 = .ok (.iinc 4 1, 3) := dk_132 4 1 (dk_at dksX8_length_1 7 rfl rfl)
theorem dX8_length_33 : decode cX8_length 33 = .ok (.goto (-20), 3) := dk_167 255 236 (dk_at dksX8_length_1 10 rfl rfl)
theorem dX8_length_36 : decode cX8_length 36 = .ok (.iload_n 1, 1) := dk_27 (dk_at dksX8_length_1 13 rfl rfl)
theorem dX8_length_37 : decode cX8_length 37 = .ok (.ireturn, 1) := dk_172 (dk_at dksX8_length_1 14 rfl rfl)
abbrev cX8_with : ByteArray := prog_7_method_5_code
def yX8_with : MethodName := ⟨RX8, "with", "(II)LTrainingDiary$Session;"⟩
def dkwX8_with_3 : List UInt8 := [183, 0, 1, 176]
abbrev dktX8_with_3 : List UInt8 := dkwX8_with_3 ++ []
def dkwX8_with_2 : List UInt8 := [147, 86, 25, 5, 29, 28, 147, 86, 187, 0, 2, 89, 42, 180, 0, 12, 42, 182, 0, 29, 25, 4, 25, 5]
abbrev dktX8_with_2 : List UInt8 := dkwX8_with_2 ++ dktX8_with_3
def dkwX8_with_1 : List UInt8 := [3, 25, 4, 3, 29, 184, 0, 23, 42, 180, 0, 20, 3, 25, 5, 3, 29, 184, 0, 23, 25, 4, 29, 27]
abbrev dktX8_with_1 : List UInt8 := dkwX8_with_1 ++ dktX8_with_2
def dkwX8_with_0 : List UInt8 := [42, 180, 0, 16, 190, 62, 29, 4, 96, 188, 9, 58, 4, 29, 4, 96, 188, 9, 58, 5, 42, 180, 0, 16]
abbrev dktX8_with_0 : List UInt8 := dkwX8_with_0 ++ dktX8_with_1
theorem dksX8_with_0 : cX8_with.data.toList.drop 0 = dktX8_with_0 := by decide +kernel
theorem dksX8_with_1 : cX8_with.data.toList.drop 24 = dktX8_with_1 := dk_seg dksX8_with_0 24 rfl rfl
theorem dksX8_with_2 : cX8_with.data.toList.drop 48 = dktX8_with_2 := dk_seg dksX8_with_1 24 rfl rfl
theorem dksX8_with_3 : cX8_with.data.toList.drop 72 = dktX8_with_3 := dk_seg dksX8_with_2 24 rfl rfl
theorem dX8_with_0 : decode cX8_with 0 = .ok (.aload_n 0, 1) := dk_42 (dk_at dksX8_with_0 0 rfl rfl)
theorem dX8_with_1 : decode cX8_with 1 = .ok (.getfield 16, 3) := dk_180 0 16 (dk_at dksX8_with_0 1 rfl rfl)
theorem dX8_with_4 : decode cX8_with 4 = .ok (.arraylength, 1) := dk_190 (dk_at dksX8_with_0 4 rfl rfl)
theorem dX8_with_5 : decode cX8_with 5 = .ok (.istore_n 3, 1) := dk_62 (dk_at dksX8_with_0 5 rfl rfl)
theorem dX8_with_6 : decode cX8_with 6 = .ok (.iload_n 3, 1) := dk_29 (dk_at dksX8_with_0 6 rfl rfl)
theorem dX8_with_7 : decode cX8_with 7 = .ok (.iconst 1, 1) := dk_4 (dk_at dksX8_with_0 7 rfl rfl)
theorem dX8_with_8 : decode cX8_with 8 = .ok (.iadd, 1) := dk_96 (dk_at dksX8_with_0 8 rfl rfl)
theorem dX8_with_9 : decode cX8_with 9 = .ok (.newarray .short, 2) := dk_188_9 (dk_at dksX8_with_0 9 rfl rfl)
theorem dX8_with_11 : decode cX8_with 11 = .ok (.astore 4, 2) := dk_58 4 (dk_at dksX8_with_0 11 rfl rfl)
theorem dX8_with_13 : decode cX8_with 13 = .ok (.iload_n 3, 1) := dk_29 (dk_at dksX8_with_0 13 rfl rfl)
theorem dX8_with_14 : decode cX8_with 14 = .ok (.iconst 1, 1) := dk_4 (dk_at dksX8_with_0 14 rfl rfl)
theorem dX8_with_15 : decode cX8_with 15 = .ok (.iadd, 1) := dk_96 (dk_at dksX8_with_0 15 rfl rfl)
theorem dX8_with_16 : decode cX8_with 16 = .ok (.newarray .short, 2) := dk_188_9 (dk_at dksX8_with_0 16 rfl rfl)
theorem dX8_with_18 : decode cX8_with 18 = .ok (.astore 5, 2) := dk_58 5 (dk_at dksX8_with_0 18 rfl rfl)
theorem dX8_with_20 : decode cX8_with 20 = .ok (.aload_n 0, 1) := dk_42 (dk_at dksX8_with_0 20 rfl rfl)
theorem dX8_with_21 : decode cX8_with 21 = .ok (.getfield 16, 3) := dk_180 0 16 (dk_at dksX8_with_0 21 rfl rfl)
theorem dX8_with_24 : decode cX8_with 24 = .ok (.iconst 0, 1) := dk_3 (dk_at dksX8_with_1 0 rfl rfl)
theorem dX8_with_25 : decode cX8_with 25 = .ok (.aload 4, 2) := dk_25 4 (dk_at dksX8_with_1 1 rfl rfl)
theorem dX8_with_27 : decode cX8_with 27 = .ok (.iconst 0, 1) := dk_3 (dk_at dksX8_with_1 3 rfl rfl)
theorem dX8_with_28 : decode cX8_with 28 = .ok (.iload_n 3, 1) := dk_29 (dk_at dksX8_with_1 4 rfl rfl)
theorem dX8_with_29 : decode cX8_with 29 = .ok (.invokestatic 23, 3) := dk_184 0 23 (dk_at dksX8_with_1 5 rfl rfl)
theorem dX8_with_32 : decode cX8_with 32 = .ok (.aload_n 0, 1) := dk_42 (dk_at dksX8_with_1 8 rfl rfl)
theorem dX8_with_33 : decode cX8_with 33 = .ok (.getfield 20, 3) := dk_180 0 20 (dk_at dksX8_with_1 9 rfl rfl)
theorem dX8_with_36 : decode cX8_with 36 = .ok (.iconst 0, 1) := dk_3 (dk_at dksX8_with_1 12 rfl rfl)
theorem dX8_with_37 : decode cX8_with 37 = .ok (.aload 5, 2) := dk_25 5 (dk_at dksX8_with_1 13 rfl rfl)
theorem dX8_with_39 : decode cX8_with 39 = .ok (.iconst 0, 1) := dk_3 (dk_at dksX8_with_1 15 rfl rfl)
theorem dX8_with_40 : decode cX8_with 40 = .ok (.iload_n 3, 1) := dk_29 (dk_at dksX8_with_1 16 rfl rfl)
theorem dX8_with_41 : decode cX8_with 41 = .ok (.invokestatic 23, 3) := dk_184 0 23 (dk_at dksX8_with_1 17 rfl rfl)
theorem dX8_with_44 : decode cX8_with 44 = .ok (.aload 4, 2) := dk_25 4 (dk_at dksX8_with_1 20 rfl rfl)
theorem dX8_with_46 : decode cX8_with 46 = .ok (.iload_n 3, 1) := dk_29 (dk_at dksX8_with_1 22 rfl rfl)
theorem dX8_with_47 : decode cX8_with 47 = .ok (.iload_n 1, 1) := dk_27 (dk_at dksX8_with_1 23 rfl rfl)
theorem dX8_with_48 : decode cX8_with 48 = .ok (.i2s, 1) := dk_147 (dk_at dksX8_with_2 0 rfl rfl)
theorem dX8_with_49 : decode cX8_with 49 = .ok (.sastore, 1) := dk_86 (dk_at dksX8_with_2 1 rfl rfl)
theorem dX8_with_50 : decode cX8_with 50 = .ok (.aload 5, 2) := dk_25 5 (dk_at dksX8_with_2 2 rfl rfl)
theorem dX8_with_52 : decode cX8_with 52 = .ok (.iload_n 3, 1) := dk_29 (dk_at dksX8_with_2 4 rfl rfl)
theorem dX8_with_53 : decode cX8_with 53 = .ok (.iload_n 2, 1) := dk_28 (dk_at dksX8_with_2 5 rfl rfl)
theorem dX8_with_54 : decode cX8_with 54 = .ok (.i2s, 1) := dk_147 (dk_at dksX8_with_2 6 rfl rfl)
theorem dX8_with_55 : decode cX8_with 55 = .ok (.sastore, 1) := dk_86 (dk_at dksX8_with_2 7 rfl rfl)
theorem dX8_with_56 : decode cX8_with 56 = .ok (.new 2, 3) := dk_187 0 2 (dk_at dksX8_with_2 8 rfl rfl)
theorem dX8_with_59 : decode cX8_with 59 = .ok (.dup, 1) := dk_89 (dk_at dksX8_with_2 11 rfl rfl)
theorem dX8_with_60 : decode cX8_with 60 = .ok (.aload_n 0, 1) := dk_42 (dk_at dksX8_with_2 12 rfl rfl)
theorem dX8_with_61 : decode cX8_with 61 = .ok (.getfield 12, 3) := dk_180 0 12 (dk_at dksX8_with_2 13 rfl rfl)
theorem dX8_with_64 : decode cX8_with 64 = .ok (.aload_n 0, 1) := dk_42 (dk_at dksX8_with_2 16 rfl rfl)
theorem dX8_with_65 : decode cX8_with 65 = .ok (.invokevirtual 29, 3) := dk_182 0 29 (dk_at dksX8_with_2 17 rfl rfl)
theorem dX8_with_68 : decode cX8_with 68 = .ok (.aload 4, 2) := dk_25 4 (dk_at dksX8_with_2 20 rfl rfl)
theorem dX8_with_70 : decode cX8_with 70 = .ok (.aload 5, 2) := dk_25 5 (dk_at dksX8_with_2 22 rfl rfl)
theorem dX8_with_72 : decode cX8_with 72 = .ok (.invokespecial 1, 3) := dk_183 0 1 (dk_at dksX8_with_3 0 rfl rfl)
theorem dX8_with_75 : decode cX8_with 75 = .ok (.areturn, 1) := dk_176 (dk_at dksX8_with_3 3 rfl rfl)
abbrev cX8_on : ByteArray := prog_7_method_4_code
def yX8_on : MethodName := ⟨RX8, "on", "(I)LTrainingDiary$Session;"⟩
def dkwX8_on_0 : List UInt8 := [187, 0, 2, 89, 42, 180, 0, 12, 27, 42, 180, 0, 16, 42, 180, 0, 20, 183, 0, 1, 176]
abbrev dktX8_on_0 : List UInt8 := dkwX8_on_0 ++ []
theorem dksX8_on_0 : cX8_on.data.toList.drop 0 = dktX8_on_0 := by decide +kernel
theorem dX8_on_0 : decode cX8_on 0 = .ok (.new 2, 3) := dk_187 0 2 (dk_at dksX8_on_0 0 rfl rfl)
theorem dX8_on_3 : decode cX8_on 3 = .ok (.dup, 1) := dk_89 (dk_at dksX8_on_0 3 rfl rfl)
theorem dX8_on_4 : decode cX8_on 4 = .ok (.aload_n 0, 1) := dk_42 (dk_at dksX8_on_0 4 rfl rfl)
theorem dX8_on_5 : decode cX8_on 5 = .ok (.getfield 12, 3) := dk_180 0 12 (dk_at dksX8_on_0 5 rfl rfl)
theorem dX8_on_8 : decode cX8_on 8 = .ok (.iload_n 1, 1) := dk_27 (dk_at dksX8_on_0 8 rfl rfl)
theorem dX8_on_9 : decode cX8_on 9 = .ok (.aload_n 0, 1) := dk_42 (dk_at dksX8_on_0 9 rfl rfl)
theorem dX8_on_10 : decode cX8_on 10 = .ok (.getfield 16, 3) := dk_180 0 16 (dk_at dksX8_on_0 10 rfl rfl)
theorem dX8_on_13 : decode cX8_on 13 = .ok (.aload_n 0, 1) := dk_42 (dk_at dksX8_on_0 13 rfl rfl)
theorem dX8_on_14 : decode cX8_on 14 = .ok (.getfield 20, 3) := dk_180 0 20 (dk_at dksX8_on_0 14 rfl rfl)
theorem dX8_on_17 : decode cX8_on 17 = .ok (.invokespecial 1, 3) := dk_183 0 1 (dk_at dksX8_on_0 17 rfl rfl)
theorem dX8_on_20 : decode cX8_on 20 = .ok (.areturn, 1) := dk_176 (dk_at dksX8_on_0 20 rfl rfl)
abbrev cX8_byMinutes : ByteArray := prog_7_method_7_code
def yX8_byMinutes : MethodName := ⟨RX8, "byMinutes", "()[S"⟩
def dkwX8_byMinutes_2 : List UInt8 := [132, 4, 1, 167, 255, 230, 132, 3, 1, 167, 255, 212, 43, 176]
abbrev dktX8_byMinutes_2 : List UInt8 := dkwX8_byMinutes_2 ++ []
def dkwX8_byMinutes_1 : List UInt8 := [21, 4, 42, 180, 0, 16, 29, 53, 162, 0, 21, 43, 28, 42, 180, 0, 20, 29, 53, 86, 132, 2, 1]
abbrev dktX8_byMinutes_1 : List UInt8 := dkwX8_byMinutes_1 ++ dktX8_byMinutes_2
def dkwX8_byMinutes_0 : List UInt8 := [42, 182, 0, 33, 188, 9, 76, 3, 61, 3, 62, 29, 42, 180, 0, 16, 190, 162, 0, 41, 3, 54, 4]
abbrev dktX8_byMinutes_0 : List UInt8 := dkwX8_byMinutes_0 ++ dktX8_byMinutes_1
theorem dksX8_byMinutes_0 : cX8_byMinutes.data.toList.drop 0 = dktX8_byMinutes_0 := by decide +kernel
theorem dksX8_byMinutes_1 : cX8_byMinutes.data.toList.drop 23 = dktX8_byMinutes_1 := dk_seg dksX8_byMinutes_0 23 rfl rfl
theorem dksX8_byMinutes_2 : cX8_byMinutes.data.toList.drop 46 = dktX8_byMinutes_2 := dk_seg dksX8_byMinutes_1 23 rfl rfl
theorem dX8_byMinutes_0 : decode cX8_byMinutes 0 = .ok (.aload_n 0, 1) := dk_42 (dk_at dksX8_byMinutes_0 0 rfl rfl)
theorem dX8_byMinutes_1 : decode cX8_byMinutes 1 = .ok (.invokevirtual 33, 3) := dk_182 0 33 (dk_at dksX8_byMinutes_0 1 rfl rfl)
theorem dX8_byMinutes_4 : decode cX8_byMinutes 4 = .ok (.newarray .short, 2) := dk_188_9 (dk_at dksX8_byMinutes_0 4 rfl rfl)
theorem dX8_byMinutes_6 : decode cX8_byMinutes 6 = .ok (.astore_n 1, 1) := dk_76 (dk_at dksX8_byMinutes_0 6 rfl rfl)
theorem dX8_byMinutes_7 : decode cX8_byMinutes 7 = .ok (.iconst 0, 1) := dk_3 (dk_at dksX8_byMinutes_0 7 rfl rfl)
theorem dX8_byMinutes_8 : decode cX8_byMinutes 8 = .ok (.istore_n 2, 1) := dk_61 (dk_at dksX8_byMinutes_0 8 rfl rfl)
theorem dX8_byMinutes_9 : decode cX8_byMinutes 9 = .ok (.iconst 0, 1) := dk_3 (dk_at dksX8_byMinutes_0 9 rfl rfl)
theorem dX8_byMinutes_10 : decode cX8_byMinutes 10 = .ok (.istore_n 3, 1) := dk_62 (dk_at dksX8_byMinutes_0 10 rfl rfl)
theorem dX8_byMinutes_11 : decode cX8_byMinutes 11 = .ok (.iload_n 3, 1) := dk_29 (dk_at dksX8_byMinutes_0 11 rfl rfl)
theorem dX8_byMinutes_12 : decode cX8_byMinutes 12 = .ok (.aload_n 0, 1) := dk_42 (dk_at dksX8_byMinutes_0 12 rfl rfl)
theorem dX8_byMinutes_13 : decode cX8_byMinutes 13 = .ok (.getfield 16, 3) := dk_180 0 16 (dk_at dksX8_byMinutes_0 13 rfl rfl)
theorem dX8_byMinutes_16 : decode cX8_byMinutes 16 = .ok (.arraylength, 1) := dk_190 (dk_at dksX8_byMinutes_0 16 rfl rfl)
theorem dX8_byMinutes_17 : decode cX8_byMinutes 17 = .ok (.if_icmp .ge 41, 3) := dk_162 0 41 (dk_at dksX8_byMinutes_0 17 rfl rfl)
theorem dX8_byMinutes_20 : decode cX8_byMinutes 20 = .ok (.iconst 0, 1) := dk_3 (dk_at dksX8_byMinutes_0 20 rfl rfl)
theorem dX8_byMinutes_21 : decode cX8_byMinutes 21 = .ok (.istore 4, 2) := dk_54 4 (dk_at dksX8_byMinutes_0 21 rfl rfl)
theorem dX8_byMinutes_23 : decode cX8_byMinutes 23 = .ok (.iload 4, 2) := dk_21 4 (dk_at dksX8_byMinutes_1 0 rfl rfl)
theorem dX8_byMinutes_25 : decode cX8_byMinutes 25 = .ok (.aload_n 0, 1) := dk_42 (dk_at dksX8_byMinutes_1 2 rfl rfl)
theorem dX8_byMinutes_26 : decode cX8_byMinutes 26 = .ok (.getfield 16, 3) := dk_180 0 16 (dk_at dksX8_byMinutes_1 3 rfl rfl)
theorem dX8_byMinutes_29 : decode cX8_byMinutes 29 = .ok (.iload_n 3, 1) := dk_29 (dk_at dksX8_byMinutes_1 6 rfl rfl)
theorem dX8_byMinutes_30 : decode cX8_byMinutes 30 = .ok (.saload, 1) := dk_53 (dk_at dksX8_byMinutes_1 7 rfl rfl)
theorem dX8_byMinutes_31 : decode cX8_byMinutes 31 = .ok (.if_icmp .ge 21, 3) := dk_162 0 21 (dk_at dksX8_byMinutes_1 8 rfl rfl)
theorem dX8_byMinutes_34 : decode cX8_byMinutes 34 = .ok (.aload_n 1, 1) := dk_43 (dk_at dksX8_byMinutes_1 11 rfl rfl)
theorem dX8_byMinutes_35 : decode cX8_byMinutes 35 = .ok (.iload_n 2, 1) := dk_28 (dk_at dksX8_byMinutes_1 12 rfl rfl)
theorem dX8_byMinutes_36 : decode cX8_byMinutes 36 = .ok (.aload_n 0, 1) := dk_42 (dk_at dksX8_byMinutes_1 13 rfl rfl)
theorem dX8_byMinutes_37 : decode cX8_byMinutes 37 = .ok (.getfield 20, 3) := dk_180 0 20 (dk_at dksX8_byMinutes_1 14 rfl rfl)
theorem dX8_byMinutes_40 : decode cX8_byMinutes 40 = .ok (.iload_n 3, 1) := dk_29 (dk_at dksX8_byMinutes_1 17 rfl rfl)
theorem dX8_byMinutes_41 : decode cX8_byMinutes 41 = .ok (.saload, 1) := dk_53 (dk_at dksX8_byMinutes_1 18 rfl rfl)
theorem dX8_byMinutes_42 : decode cX8_byMinutes 42 = .ok (.sastore, 1) := dk_86 (dk_at dksX8_byMinutes_1 19 rfl rfl)
theorem dX8_byMinutes_43 : decode cX8_byMinutes 43 = .ok (.iinc 2 1, 3) := dk_132 2 1 (dk_at dksX8_byMinutes_1 20 rfl rfl)
theorem dX8_byMinutes_46 : decode cX8_byMinutes 46 = .ok (.iinc 4 1, 3) := dk_132 4 1 (dk_at dksX8_byMinutes_2 0 rfl rfl)
theorem dX8_byMinutes_49 : decode cX8_byMinutes 49 = .ok (.goto (-26), 3) := dk_167 255 230 (dk_at dksX8_byMinutes_2 3 rfl rfl)
theorem dX8_byMinutes_52 : decode cX8_byMinutes 52 = .ok (.iinc 3 1, 3) := dk_132 3 1 (dk_at dksX8_byMinutes_2 6 rfl rfl)
theorem dX8_byMinutes_55 : decode cX8_byMinutes 55 = .ok (.goto (-44), 3) := dk_167 255 212 (dk_at dksX8_byMinutes_2 9 rfl rfl)
theorem dX8_byMinutes_58 : decode cX8_byMinutes 58 = .ok (.aload_n 1, 1) := dk_43 (dk_at dksX8_byMinutes_2 12 rfl rfl)
theorem dX8_byMinutes_59 : decode cX8_byMinutes 59 = .ok (.areturn, 1) := dk_176 (dk_at dksX8_byMinutes_2 13 rfl rfl)
theorem q78 : (Jvm.Cond.initialized "TrainingDiary$Session") ∈ lw_all := lw_g (lw_at lw_m1 32 rfl) rfl
theorem q420 : (Jvm.Cond.sameMethod "TrainingDiary$Session" "TrainingDiary$Dated" "day" "()I") ∈ lw_all := lw_g (lw_at lw_m2 134 rfl) rfl
theorem q422 : (Jvm.Cond.selects "TrainingDiary$Session" ({ cls := "TrainingDiary$Session", name := "day", desc := "()I" } : Jvm.MethodName) ({ cls := "TrainingDiary$Dated", name := "day", desc := "()I" } : Jvm.MethodName)) ∈ lw_all := lw_g (lw_at lw_m2 136 rfl) rfl
theorem q522 : (Jvm.Cond.selects "TrainingDiary$Session" ({ cls := "java/lang/Object", name := "getClass", desc := "()Ljava/lang/Class;" } : Jvm.MethodName) ({ cls := "java/lang/Object", name := "getClass", desc := "()Ljava/lang/Class;" } : Jvm.MethodName)) ∈ lw_all := lw_g (lw_at lw_m2 236 rfl) rfl
theorem q760 : (Jvm.Cond.selects "TrainingDiary$Session" ({ cls := "TrainingDiary$Dated", name := "compareTo", desc := "(LTrainingDiary$Dated;)I" } : Jvm.MethodName) ({ cls := "TrainingDiary$Dated", name := "compareTo", desc := "(LTrainingDiary$Dated;)I" } : Jvm.MethodName)) ∈ lw_all := lw_g (lw_at lw_m3 234 rfl) rfl
theorem q766 : (Jvm.Cond.selects "TrainingDiary$Session" ({ cls := "TrainingDiary$Dated", name := "number", desc := "()I" } : Jvm.MethodName) ({ cls := "TrainingDiary$Session", name := "number", desc := "()I" } : Jvm.MethodName)) ∈ lw_all := lw_g (lw_at lw_m4 0 rfl) rfl
theorem q767 : (Jvm.Cond.instanceMethod ({ cls := "TrainingDiary$Session", name := "number", desc := "()I" } : Jvm.MethodName)) ∈ lw_all := lw_g (lw_at lw_m4 1 rfl) rfl
theorem q768 : (Jvm.Cond.code ({ cls := "TrainingDiary$Session", name := "number", desc := "()I" } : Jvm.MethodName) prog_7_method_3_code (1 : Nat) (Option.some Jvm.ClassFile.FieldType.int)) ∈ lw_all := lw_g (lw_at lw_m4 2 rfl) rfl
theorem q1103 : (Jvm.Cond.instantiable "TrainingDiary$Session" (4 : Nat)) ∈ lw_all := lw_g (lw_at lw_m5 97 rfl) rfl
theorem q1105 : (Jvm.Cond.instanceMethod ({ cls := "TrainingDiary$Session", name := "<init>", desc := "(II)V" } : Jvm.MethodName)) ∈ lw_all := lw_g (lw_at lw_m5 99 rfl) rfl
theorem q1106 : (Jvm.Cond.code ({ cls := "TrainingDiary$Session", name := "<init>", desc := "(II)V" } : Jvm.MethodName) prog_7_method_1_code (3 : Nat) (Option.none : Option Jvm.ClassFile.FieldType)) ∈ lw_all := lw_g (lw_at lw_m5 100 rfl) rfl
theorem q1107 : (Jvm.Cond.methodLink "TrainingDiary$Session" (1 : Nat) ({ cls := "TrainingDiary$Session", name := "<init>", desc := "(II[S[S)V" } : Jvm.MethodName)) ∈ lw_all := lw_g (lw_at lw_m5 101 rfl) rfl
theorem q1108 : (Jvm.Cond.instanceMethod ({ cls := "TrainingDiary$Session", name := "<init>", desc := "(II[S[S)V" } : Jvm.MethodName)) ∈ lw_all := lw_g (lw_at lw_m5 102 rfl) rfl
theorem q1109 : (Jvm.Cond.code ({ cls := "TrainingDiary$Session", name := "<init>", desc := "(II[S[S)V" } : Jvm.MethodName) prog_7_method_2_code (5 : Nat) (Option.none : Option Jvm.ClassFile.FieldType)) ∈ lw_all := lw_g (lw_at lw_m5 103 rfl) rfl
theorem q1110 : (Jvm.Cond.methodLink "TrainingDiary$Session" (7 : Nat) ({ cls := "TrainingDiary$Dated", name := "<init>", desc := "(I)V" } : Jvm.MethodName)) ∈ lw_all := lw_g (lw_at lw_m5 104 rfl) rfl
theorem q1111 : (Jvm.Cond.fieldLink "TrainingDiary$Session" (12 : Nat) "TrainingDiary$Session" "id" "I") ∈ lw_all := lw_g (lw_at lw_m5 105 rfl) rfl
theorem q1114 : (Jvm.Cond.fieldLink "TrainingDiary$Session" (16 : Nat) "TrainingDiary$Session" "minutes" "[S") ∈ lw_all := lw_g (lw_at lw_m5 108 rfl) rfl
theorem q1116 : (Jvm.Cond.fieldLink "TrainingDiary$Session" (20 : Nat) "TrainingDiary$Session" "intensities" "[S") ∈ lw_all := lw_g (lw_at lw_m5 110 rfl) rfl
theorem q1118 : (Jvm.Cond.laysFinal "TrainingDiary$Session" "TrainingDiary$Session" "id" "I") ∈ lw_all := lw_g (lw_at lw_m5 112 rfl) rfl
theorem q1119 : (Jvm.Cond.soleField "TrainingDiary$Session" "id") ∈ lw_all := lw_g (lw_at lw_m5 113 rfl) rfl
theorem q1120 : (Jvm.Cond.laysFinal "TrainingDiary$Session" "TrainingDiary$Session" "minutes" "[S") ∈ lw_all := lw_g (lw_at lw_m5 114 rfl) rfl
theorem q1121 : (Jvm.Cond.soleField "TrainingDiary$Session" "minutes") ∈ lw_all := lw_g (lw_at lw_m5 115 rfl) rfl
theorem q1122 : (Jvm.Cond.laysFinal "TrainingDiary$Session" "TrainingDiary$Session" "intensities" "[S") ∈ lw_all := lw_g (lw_at lw_m5 116 rfl) rfl
theorem q1123 : (Jvm.Cond.soleField "TrainingDiary$Session" "intensities") ∈ lw_all := lw_g (lw_at lw_m5 117 rfl) rfl
theorem q1124 : (Jvm.Cond.laysFinal "TrainingDiary$Session" "TrainingDiary$Dated" "day" "I") ∈ lw_all := lw_g (lw_at lw_m5 118 rfl) rfl
theorem q1125 : (Jvm.Cond.superclass "TrainingDiary$Session" "TrainingDiary$Dated") ∈ lw_all := lw_g (lw_at lw_m5 119 rfl) rfl
theorem q1143 : (Jvm.Cond.instanceMethod ({ cls := "TrainingDiary$Session", name := "length", desc := "()I" } : Jvm.MethodName)) ∈ lw_all := lw_g (lw_at lw_m5 137 rfl) rfl
theorem q1144 : (Jvm.Cond.selects "TrainingDiary$Session" ({ cls := "TrainingDiary$Session", name := "length", desc := "()I" } : Jvm.MethodName) ({ cls := "TrainingDiary$Session", name := "length", desc := "()I" } : Jvm.MethodName)) ∈ lw_all := lw_g (lw_at lw_m5 138 rfl) rfl
theorem q1145 : (Jvm.Cond.code ({ cls := "TrainingDiary$Session", name := "length", desc := "()I" } : Jvm.MethodName) prog_7_method_6_code (6 : Nat) (Option.some Jvm.ClassFile.FieldType.int)) ∈ lw_all := lw_g (lw_at lw_m5 139 rfl) rfl
theorem q1147 : (Jvm.Cond.instanceMethod ({ cls := "TrainingDiary$Session", name := "with", desc := "(II)LTrainingDiary$Session;" } : Jvm.MethodName)) ∈ lw_all := lw_g (lw_at lw_m5 141 rfl) rfl
theorem q1148 : (Jvm.Cond.selects "TrainingDiary$Session" ({ cls := "TrainingDiary$Session", name := "with", desc := "(II)LTrainingDiary$Session;" } : Jvm.MethodName) ({ cls := "TrainingDiary$Session", name := "with", desc := "(II)LTrainingDiary$Session;" } : Jvm.MethodName)) ∈ lw_all := lw_g (lw_at lw_m5 142 rfl) rfl
theorem q1149 : (Jvm.Cond.code ({ cls := "TrainingDiary$Session", name := "with", desc := "(II)LTrainingDiary$Session;" } : Jvm.MethodName) prog_7_method_5_code (6 : Nat) (Option.some (Jvm.ClassFile.FieldType.object "TrainingDiary$Session"))) ∈ lw_all := lw_g (lw_at lw_m5 143 rfl) rfl
theorem q1150 : (Jvm.Cond.methodLink "TrainingDiary$Session" (23 : Nat) ({ cls := "java/lang/System", name := "arraycopy", desc := "(Ljava/lang/Object;ILjava/lang/Object;II)V" } : Jvm.MethodName)) ∈ lw_all := lw_g (lw_at lw_m5 144 rfl) rfl
theorem q1151 : (Jvm.Cond.classLink "TrainingDiary$Session" (2 : Nat) "TrainingDiary$Session") ∈ lw_all := lw_g (lw_at lw_m5 145 rfl) rfl
theorem q1152 : (Jvm.Cond.methodLink "TrainingDiary$Session" (29 : Nat) ({ cls := "TrainingDiary$Session", name := "day", desc := "()I" } : Jvm.MethodName)) ∈ lw_all := lw_g (lw_at lw_m5 146 rfl) rfl
theorem q1180 : (Jvm.Cond.instanceMethod ({ cls := "TrainingDiary$Session", name := "on", desc := "(I)LTrainingDiary$Session;" } : Jvm.MethodName)) ∈ lw_all := lw_g (lw_at lw_m5 174 rfl) rfl
theorem q1181 : (Jvm.Cond.selects "TrainingDiary$Session" ({ cls := "TrainingDiary$Session", name := "on", desc := "(I)LTrainingDiary$Session;" } : Jvm.MethodName) ({ cls := "TrainingDiary$Session", name := "on", desc := "(I)LTrainingDiary$Session;" } : Jvm.MethodName)) ∈ lw_all := lw_g (lw_at lw_m5 175 rfl) rfl
theorem q1182 : (Jvm.Cond.code ({ cls := "TrainingDiary$Session", name := "on", desc := "(I)LTrainingDiary$Session;" } : Jvm.MethodName) prog_7_method_4_code (2 : Nat) (Option.some (Jvm.ClassFile.FieldType.object "TrainingDiary$Session"))) ∈ lw_all := lw_g (lw_at lw_m5 176 rfl) rfl
theorem q1395 : (Jvm.Cond.instanceMethod ({ cls := "TrainingDiary$Session", name := "byMinutes", desc := "()[S" } : Jvm.MethodName)) ∈ lw_all := lw_g (lw_at lw_m6 149 rfl) rfl
theorem q1396 : (Jvm.Cond.selects "TrainingDiary$Session" ({ cls := "TrainingDiary$Session", name := "byMinutes", desc := "()[S" } : Jvm.MethodName) ({ cls := "TrainingDiary$Session", name := "byMinutes", desc := "()[S" } : Jvm.MethodName)) ∈ lw_all := lw_g (lw_at lw_m6 150 rfl) rfl
theorem q1397 : (Jvm.Cond.code ({ cls := "TrainingDiary$Session", name := "byMinutes", desc := "()[S" } : Jvm.MethodName) prog_7_method_7_code (5 : Nat) (Option.some (Jvm.ClassFile.FieldType.array Jvm.ClassFile.FieldType.short))) ∈ lw_all := lw_g (lw_at lw_m6 151 rfl) rfl
theorem q1398 : (Jvm.Cond.methodLink "TrainingDiary$Session" (33 : Nat) ({ cls := "TrainingDiary$Session", name := "length", desc := "()I" } : Jvm.MethodName)) ∈ lw_all := lw_g (lw_at lw_m6 152 rfl) rfl
theorem q1967 : (Jvm.Cond.selects "TrainingDiary$Session" ({ cls := "TrainingDiary$Dated", name := "day", desc := "()I" } : Jvm.MethodName) ({ cls := "TrainingDiary$Dated", name := "day", desc := "()I" } : Jvm.MethodName)) ∈ lw_all := lw_g (lw_at lw_m9 1 rfl) rfl
theorem q1984 : (Jvm.Cond.castable "TrainingDiary$Session" "TrainingDiary$Dated") ∈ lw_tbl := lw_at lw_m9 18 rfl
theorem q2000 : (Jvm.Cond.castable "TrainingDiary$Session" "java/lang/Object") ∈ lw_tbl := lw_at lw_m9 34 rfl
theorem in_X8 : ∀ w ∈ wsX80, w ∈ lw_all := lw_in wsX80 [1124, 1118, 1120, 1122] (by decide +kernel) (by decide +kernel)
/-! TrainingDiary$Book$Course -/
set_option maxRecDepth 100000
def RX9 : String := "TrainingDiary$Book$Course"
def TX9 : u_T := fun k => match k with
  | 0 => ("TrainingDiary$Book$Course", "due", "I", false)
  | 1 => ("TrainingDiary$Book$Course", "missed", "I", false)
  | 2 => ("TrainingDiary$Book$Course", "dropped", "I", false)
  | 3 => ("TrainingDiary$Book$Course", "tries", "I", false)
  | _ => ("TrainingDiary$Book$Course", "this$0", "LTrainingDiary$Book;", true)
def tyX9 : Nat → FieldType := fun k => match k with
  | 0 => .int
  | 1 => .int
  | 2 => .int
  | 3 => .int
  | _ => .object "TrainingDiary$Book"
abbrev wsX90 : List Cond := u_ws RX9 TX9 5
theorem nmX9 : ∀ a, a < 5 → ∀ b, b < 5 → a ≠ b → (TX9 a).2.1 ≠ (TX9 b).2.1 := by decide +kernel
theorem tyX9_ok : ∀ k, k < 5 → parseFieldDescriptor (TX9 k).2.2.1 = some (tyX9 k) := by decide +kernel
abbrev cX9_init : ByteArray := prog_3_method_1_code
def yX9_init : MethodName := ⟨RX9, "<init>", "(LTrainingDiary$Book;)V"⟩
def dkwX9_init_3 : List UInt8 := [167, 255, 198, 177]
abbrev dktX9_init_3 : List UInt8 := dkwX9_init_3 ++ []
def dkwX9_init_2 : List UInt8 := [104, 43, 180, 0, 34, 42, 180, 0, 24, 46, 162, 0, 7, 4, 167, 0, 4, 3, 182, 0, 38, 132, 2, 1]
abbrev dktX9_init_2 : List UInt8 := dkwX9_init_2 ++ dktX9_init_3
def dkwX9_init_1 : List UInt8 := [180, 0, 21, 162, 0, 48, 42, 180, 0, 24, 43, 180, 0, 27, 162, 0, 37, 42, 5, 43, 28, 182, 0, 30]
abbrev dktX9_init_1 : List UInt8 := dkwX9_init_1 ++ dktX9_init_2
def dkwX9_init_0 : List UInt8 := [42, 43, 181, 0, 3, 42, 183, 0, 9, 43, 180, 0, 15, 61, 43, 180, 0, 15, 2, 159, 0, 56, 28, 43]
abbrev dktX9_init_0 : List UInt8 := dkwX9_init_0 ++ dktX9_init_1
theorem dksX9_init_0 : cX9_init.data.toList.drop 0 = dktX9_init_0 := by decide +kernel
theorem dksX9_init_1 : cX9_init.data.toList.drop 24 = dktX9_init_1 := dk_seg dksX9_init_0 24 rfl rfl
theorem dksX9_init_2 : cX9_init.data.toList.drop 48 = dktX9_init_2 := dk_seg dksX9_init_1 24 rfl rfl
theorem dksX9_init_3 : cX9_init.data.toList.drop 72 = dktX9_init_3 := dk_seg dksX9_init_2 24 rfl rfl
theorem dX9_init_0 : decode cX9_init 0 = .ok (.aload_n 0, 1) := dk_42 (dk_at dksX9_init_0 0 rfl rfl)
theorem dX9_init_1 : decode cX9_init 1 = .ok (.aload_n 1, 1) := dk_43 (dk_at dksX9_init_0 1 rfl rfl)
theorem dX9_init_2 : decode cX9_init 2 = .ok (.putfield 3, 3) := dk_181 0 3 (dk_at dksX9_init_0 2 rfl rfl)
theorem dX9_init_5 : decode cX9_init 5 = .ok (.aload_n 0, 1) := dk_42 (dk_at dksX9_init_0 5 rfl rfl)
theorem dX9_init_6 : decode cX9_init 6 = .ok (.invokespecial 9, 3) := dk_183 0 9 (dk_at dksX9_init_0 6 rfl rfl)
theorem dX9_init_9 : decode cX9_init 9 = .ok (.aload_n 1, 1) := dk_43 (dk_at dksX9_init_0 9 rfl rfl)
theorem dX9_init_10 : decode cX9_init 10 = .ok (.getfield 15, 3) := dk_180 0 15 (dk_at dksX9_init_0 10 rfl rfl)
theorem dX9_init_13 : decode cX9_init 13 = .ok (.istore_n 2, 1) := dk_61 (dk_at dksX9_init_0 13 rfl rfl)
theorem dX9_init_14 : decode cX9_init 14 = .ok (.aload_n 1, 1) := dk_43 (dk_at dksX9_init_0 14 rfl rfl)
theorem dX9_init_15 : decode cX9_init 15 = .ok (.getfield 15, 3) := dk_180 0 15 (dk_at dksX9_init_0 15 rfl rfl)
theorem dX9_init_18 : decode cX9_init 18 = .ok (.iconst (-1), 1) := dk_2 (dk_at dksX9_init_0 18 rfl rfl)
theorem dX9_init_19 : decode cX9_init 19 = .ok (.if_icmp .eq 56, 3) := dk_159 0 56 (dk_at dksX9_init_0 19 rfl rfl)
theorem dX9_init_22 : decode cX9_init 22 = .ok (.iload_n 2, 1) := dk_28 (dk_at dksX9_init_0 22 rfl rfl)
theorem dX9_init_23 : decode cX9_init 23 = .ok (.aload_n 1, 1) := dk_43 (dk_at dksX9_init_0 23 rfl rfl)
theorem dX9_init_24 : decode cX9_init 24 = .ok (.getfield 21, 3) := dk_180 0 21 (dk_at dksX9_init_1 0 rfl rfl)
theorem dX9_init_27 : decode cX9_init 27 = .ok (.if_icmp .ge 48, 3) := dk_162 0 48 (dk_at dksX9_init_1 3 rfl rfl)
theorem dX9_init_30 : decode cX9_init 30 = .ok (.aload_n 0, 1) := dk_42 (dk_at dksX9_init_1 6 rfl rfl)
theorem dX9_init_31 : decode cX9_init 31 = .ok (.getfield 24, 3) := dk_180 0 24 (dk_at dksX9_init_1 7 rfl rfl)
theorem dX9_init_34 : decode cX9_init 34 = .ok (.aload_n 1, 1) := dk_43 (dk_at dksX9_init_1 10 rfl rfl)
theorem dX9_init_35 : decode cX9_init 35 = .ok (.getfield 27, 3) := dk_180 0 27 (dk_at dksX9_init_1 11 rfl rfl)
theorem dX9_init_38 : decode cX9_init 38 = .ok (.if_icmp .ge 37, 3) := dk_162 0 37 (dk_at dksX9_init_1 14 rfl rfl)
theorem dX9_init_41 : decode cX9_init 41 = .ok (.aload_n 0, 1) := dk_42 (dk_at dksX9_init_1 17 rfl rfl)
theorem dX9_init_42 : decode cX9_init 42 = .ok (.iconst 2, 1) := dk_5 (dk_at dksX9_init_1 18 rfl rfl)
theorem dX9_init_43 : decode cX9_init 43 = .ok (.aload_n 1, 1) := dk_43 (dk_at dksX9_init_1 19 rfl rfl)
theorem dX9_init_44 : decode cX9_init 44 = .ok (.iload_n 2, 1) := dk_28 (dk_at dksX9_init_1 20 rfl rfl)
theorem dX9_init_45 : decode cX9_init 45 = .ok (.invokevirtual 30, 3) := dk_182 0 30 (dk_at dksX9_init_1 21 rfl rfl)
theorem dX9_init_48 : decode cX9_init 48 = .ok (.imul, 1) := dk_104 (dk_at dksX9_init_2 0 rfl rfl)
theorem dX9_init_49 : decode cX9_init 49 = .ok (.aload_n 1, 1) := dk_43 (dk_at dksX9_init_2 1 rfl rfl)
theorem dX9_init_50 : decode cX9_init 50 = .ok (.getfield 34, 3) := dk_180 0 34 (dk_at dksX9_init_2 2 rfl rfl)
theorem dX9_init_53 : decode cX9_init 53 = .ok (.aload_n 0, 1) := dk_42 (dk_at dksX9_init_2 5 rfl rfl)
theorem dX9_init_54 : decode cX9_init 54 = .ok (.getfield 24, 3) := dk_180 0 24 (dk_at dksX9_init_2 6 rfl rfl)
theorem dX9_init_57 : decode cX9_init 57 = .ok (.iaload, 1) := dk_46 (dk_at dksX9_init_2 9 rfl rfl)
theorem dX9_init_58 : decode cX9_init 58 = .ok (.if_icmp .ge 7, 3) := dk_162 0 7 (dk_at dksX9_init_2 10 rfl rfl)
theorem dX9_init_61 : decode cX9_init 61 = .ok (.iconst 1, 1) := dk_4 (dk_at dksX9_init_2 13 rfl rfl)
theorem dX9_init_62 : decode cX9_init 62 = .ok (.goto 4, 3) := dk_167 0 4 (dk_at dksX9_init_2 14 rfl rfl)
theorem dX9_init_65 : decode cX9_init 65 = .ok (.iconst 0, 1) := dk_3 (dk_at dksX9_init_2 17 rfl rfl)
theorem dX9_init_66 : decode cX9_init 66 = .ok (.invokevirtual 38, 3) := dk_182 0 38 (dk_at dksX9_init_2 18 rfl rfl)
theorem dX9_init_69 : decode cX9_init 69 = .ok (.iinc 2 1, 3) := dk_132 2 1 (dk_at dksX9_init_2 21 rfl rfl)
theorem dX9_init_72 : decode cX9_init 72 = .ok (.goto (-58), 3) := dk_167 255 198 (dk_at dksX9_init_3 0 rfl rfl)
theorem dX9_init_75 : decode cX9_init 75 = .ok (.return_, 1) := dk_177 (dk_at dksX9_init_3 3 rfl rfl)
abbrev cX9_step : ByteArray := prog_3_method_2_code
def yX9_step : MethodName := ⟨RX9, "step", "(Z)V"⟩
def dkwX9_step_3 : List UInt8 := [42, 89, 180, 0, 24, 4, 96, 181, 0, 24, 42, 3, 181, 0, 45, 177]
abbrev dktX9_step_3 : List UInt8 := dkwX9_step_3 ++ []
def dkwX9_step_2 : List UInt8 := [160, 0, 7, 4, 167, 0, 4, 3, 96, 181, 0, 48, 27, 153, 0, 11, 42, 180, 0, 45, 6, 160, 0, 18]
abbrev dktX9_step_2 : List UInt8 := dkwX9_step_2 ++ dktX9_step_3
def dkwX9_step_1 : List UInt8 := [153, 0, 7, 4, 167, 0, 4, 3, 96, 181, 0, 45, 42, 89, 180, 0, 48, 42, 180, 0, 45, 6]
abbrev dktX9_step_1 : List UInt8 := dkwX9_step_1 ++ dktX9_step_2
def dkwX9_step_0 : List UInt8 := [42, 89, 180, 0, 42, 27, 153, 0, 7, 4, 167, 0, 4, 3, 96, 181, 0, 42, 42, 89, 180, 0, 45, 27]
abbrev dktX9_step_0 : List UInt8 := dkwX9_step_0 ++ dktX9_step_1
theorem dksX9_step_0 : cX9_step.data.toList.drop 0 = dktX9_step_0 := by decide +kernel
theorem dksX9_step_1 : cX9_step.data.toList.drop 24 = dktX9_step_1 := dk_seg dksX9_step_0 24 rfl rfl
theorem dksX9_step_2 : cX9_step.data.toList.drop 46 = dktX9_step_2 := dk_seg dksX9_step_1 22 rfl rfl
theorem dksX9_step_3 : cX9_step.data.toList.drop 70 = dktX9_step_3 := dk_seg dksX9_step_2 24 rfl rfl
theorem dX9_step_0 : decode cX9_step 0 = .ok (.aload_n 0, 1) := dk_42 (dk_at dksX9_step_0 0 rfl rfl)
theorem dX9_step_1 : decode cX9_step 1 = .ok (.dup, 1) := dk_89 (dk_at dksX9_step_0 1 rfl rfl)
theorem dX9_step_2 : decode cX9_step 2 = .ok (.getfield 42, 3) := dk_180 0 42 (dk_at dksX9_step_0 2 rfl rfl)
theorem dX9_step_5 : decode cX9_step 5 = .ok (.iload_n 1, 1) := dk_27 (dk_at dksX9_step_0 5 rfl rfl)
theorem dX9_step_6 : decode cX9_step 6 = .ok (.ifCond .eq 7, 3) := dk_153 0 7 (dk_at dksX9_step_0 6 rfl rfl)
theorem dX9_step_9 : decode cX9_step 9 = .ok (.iconst 1, 1) := dk_4 (dk_at dksX9_step_0 9 rfl rfl)
theorem dX9_step_10 : decode cX9_step 10 = .ok (.goto 4, 3) := dk_167 0 4 (dk_at dksX9_step_0 10 rfl rfl)
theorem dX9_step_13 : decode cX9_step 13 = .ok (.iconst 0, 1) := dk_3 (dk_at dksX9_step_0 13 rfl rfl)
theorem dX9_step_14 : decode cX9_step 14 = .ok (.iadd, 1) := dk_96 (dk_at dksX9_step_0 14 rfl rfl)
theorem dX9_step_15 : decode cX9_step 15 = .ok (.putfield 42, 3) := dk_181 0 42 (dk_at dksX9_step_0 15 rfl rfl)
theorem dX9_step_18 : decode cX9_step 18 = .ok (.aload_n 0, 1) := dk_42 (dk_at dksX9_step_0 18 rfl rfl)
theorem dX9_step_19 : decode cX9_step 19 = .ok (.dup, 1) := dk_89 (dk_at dksX9_step_0 19 rfl rfl)
theorem dX9_step_20 : decode cX9_step 20 = .ok (.getfield 45, 3) := dk_180 0 45 (dk_at dksX9_step_0 20 rfl rfl)
theorem dX9_step_23 : decode cX9_step 23 = .ok (.iload_n 1, 1) := dk_27 (dk_at dksX9_step_0 23 rfl rfl)
theorem dX9_step_24 : decode cX9_step 24 = .ok (.ifCond .eq 7, 3) := dk_153 0 7 (dk_at dksX9_step_1 0 rfl rfl)
theorem dX9_step_27 : decode cX9_step 27 = .ok (.iconst 1, 1) := dk_4 (dk_at dksX9_step_1 3 rfl rfl)
theorem dX9_step_28 : decode cX9_step 28 = .ok (.goto 4, 3) := dk_167 0 4 (dk_at dksX9_step_1 4 rfl rfl)
theorem dX9_step_31 : decode cX9_step 31 = .ok (.iconst 0, 1) := dk_3 (dk_at dksX9_step_1 7 rfl rfl)
theorem dX9_step_32 : decode cX9_step 32 = .ok (.iadd, 1) := dk_96 (dk_at dksX9_step_1 8 rfl rfl)
theorem dX9_step_33 : decode cX9_step 33 = .ok (.putfield 45, 3) := dk_181 0 45 (dk_at dksX9_step_1 9 rfl rfl)
theorem dX9_step_36 : decode cX9_step 36 = .ok (.aload_n 0, 1) := dk_42 (dk_at dksX9_step_1 12 rfl rfl)
theorem dX9_step_37 : decode cX9_step 37 = .ok (.dup, 1) := dk_89 (dk_at dksX9_step_1 13 rfl rfl)
theorem dX9_step_38 : decode cX9_step 38 = .ok (.getfield 48, 3) := dk_180 0 48 (dk_at dksX9_step_1 14 rfl rfl)
theorem dX9_step_41 : decode cX9_step 41 = .ok (.aload_n 0, 1) := dk_42 (dk_at dksX9_step_1 17 rfl rfl)
theorem dX9_step_42 : decode cX9_step 42 = .ok (.getfield 45, 3) := dk_180 0 45 (dk_at dksX9_step_1 18 rfl rfl)
theorem dX9_step_45 : decode cX9_step 45 = .ok (.iconst 3, 1) := dk_6 (dk_at dksX9_step_1 21 rfl rfl)
theorem dX9_step_46 : decode cX9_step 46 = .ok (.if_icmp .ne 7, 3) := dk_160 0 7 (dk_at dksX9_step_2 0 rfl rfl)
theorem dX9_step_49 : decode cX9_step 49 = .ok (.iconst 1, 1) := dk_4 (dk_at dksX9_step_2 3 rfl rfl)
theorem dX9_step_50 : decode cX9_step 50 = .ok (.goto 4, 3) := dk_167 0 4 (dk_at dksX9_step_2 4 rfl rfl)
theorem dX9_step_53 : decode cX9_step 53 = .ok (.iconst 0, 1) := dk_3 (dk_at dksX9_step_2 7 rfl rfl)
theorem dX9_step_54 : decode cX9_step 54 = .ok (.iadd, 1) := dk_96 (dk_at dksX9_step_2 8 rfl rfl)
theorem dX9_step_55 : decode cX9_step 55 = .ok (.putfield 48, 3) := dk_181 0 48 (dk_at dksX9_step_2 9 rfl rfl)
theorem dX9_step_58 : decode cX9_step 58 = .ok (.iload_n 1, 1) := dk_27 (dk_at dksX9_step_2 12 rfl rfl)
theorem dX9_step_59 : decode cX9_step 59 = .ok (.ifCond .eq 11, 3) := dk_153 0 11 (dk_at dksX9_step_2 13 rfl rfl)
theorem dX9_step_62 : decode cX9_step 62 = .ok (.aload_n 0, 1) := dk_42 (dk_at dksX9_step_2 16 rfl rfl)
theorem dX9_step_63 : decode cX9_step 63 = .ok (.getfield 45, 3) := dk_180 0 45 (dk_at dksX9_step_2 17 rfl rfl)
theorem dX9_step_66 : decode cX9_step 66 = .ok (.iconst 3, 1) := dk_6 (dk_at dksX9_step_2 20 rfl rfl)
theorem dX9_step_67 : decode cX9_step 67 = .ok (.if_icmp .ne 18, 3) := dk_160 0 18 (dk_at dksX9_step_2 21 rfl rfl)
theorem dX9_step_70 : decode cX9_step 70 = .ok (.aload_n 0, 1) := dk_42 (dk_at dksX9_step_3 0 rfl rfl)
theorem dX9_step_71 : decode cX9_step 71 = .ok (.dup, 1) := dk_89 (dk_at dksX9_step_3 1 rfl rfl)
theorem dX9_step_72 : decode cX9_step 72 = .ok (.getfield 24, 3) := dk_180 0 24 (dk_at dksX9_step_3 2 rfl rfl)
theorem dX9_step_75 : decode cX9_step 75 = .ok (.iconst 1, 1) := dk_4 (dk_at dksX9_step_3 5 rfl rfl)
theorem dX9_step_76 : decode cX9_step 76 = .ok (.iadd, 1) := dk_96 (dk_at dksX9_step_3 6 rfl rfl)
theorem dX9_step_77 : decode cX9_step 77 = .ok (.putfield 24, 3) := dk_181 0 24 (dk_at dksX9_step_3 7 rfl rfl)
theorem dX9_step_80 : decode cX9_step 80 = .ok (.aload_n 0, 1) := dk_42 (dk_at dksX9_step_3 10 rfl rfl)
theorem dX9_step_81 : decode cX9_step 81 = .ok (.iconst 0, 1) := dk_3 (dk_at dksX9_step_3 11 rfl rfl)
theorem dX9_step_82 : decode cX9_step 82 = .ok (.putfield 45, 3) := dk_181 0 45 (dk_at dksX9_step_3 12 rfl rfl)
theorem dX9_step_85 : decode cX9_step 85 = .ok (.return_, 1) := dk_177 (dk_at dksX9_step_3 15 rfl rfl)
abbrev cX9_isOver : ByteArray := prog_3_method_3_code
def yX9_isOver : MethodName := ⟨RX9, "isOver", "()Z"⟩
def dkwX9_isOver_0 : List UInt8 := [42, 180, 0, 24, 42, 180, 0, 3, 180, 0, 27, 160, 0, 7, 4, 167, 0, 4, 3, 172]
abbrev dktX9_isOver_0 : List UInt8 := dkwX9_isOver_0 ++ []
theorem dksX9_isOver_0 : cX9_isOver.data.toList.drop 0 = dktX9_isOver_0 := by decide +kernel
theorem dX9_isOver_0 : decode cX9_isOver 0 = .ok (.aload_n 0, 1) := dk_42 (dk_at dksX9_isOver_0 0 rfl rfl)
theorem dX9_isOver_1 : decode cX9_isOver 1 = .ok (.getfield 24, 3) := dk_180 0 24 (dk_at dksX9_isOver_0 1 rfl rfl)
theorem dX9_isOver_4 : decode cX9_isOver 4 = .ok (.aload_n 0, 1) := dk_42 (dk_at dksX9_isOver_0 4 rfl rfl)
theorem dX9_isOver_5 : decode cX9_isOver 5 = .ok (.getfield 3, 3) := dk_180 0 3 (dk_at dksX9_isOver_0 5 rfl rfl)
theorem dX9_isOver_8 : decode cX9_isOver 8 = .ok (.getfield 27, 3) := dk_180 0 27 (dk_at dksX9_isOver_0 8 rfl rfl)
theorem dX9_isOver_11 : decode cX9_isOver 11 = .ok (.if_icmp .ne 7, 3) := dk_160 0 7 (dk_at dksX9_isOver_0 11 rfl rfl)
theorem dX9_isOver_14 : decode cX9_isOver 14 = .ok (.iconst 1, 1) := dk_4 (dk_at dksX9_isOver_0 14 rfl rfl)
theorem dX9_isOver_15 : decode cX9_isOver 15 = .ok (.goto 4, 3) := dk_167 0 4 (dk_at dksX9_isOver_0 15 rfl rfl)
theorem dX9_isOver_18 : decode cX9_isOver 18 = .ok (.iconst 0, 1) := dk_3 (dk_at dksX9_isOver_0 18 rfl rfl)
theorem dX9_isOver_19 : decode cX9_isOver 19 = .ok (.ireturn, 1) := dk_172 (dk_at dksX9_isOver_0 19 rfl rfl)
theorem q81 : (Jvm.Cond.initialized "TrainingDiary$Book$Course") ∈ lw_all := lw_g (lw_at lw_m1 35 rfl) rfl
theorem q143 : (Jvm.Cond.fieldLinkNest "TrainingDiary$Book$Course" (34 : Nat) "TrainingDiary$Book" "targets" "[I" "TrainingDiary") ∈ lw_tbl := lw_at lw_m1 97 rfl
theorem q146 : (Jvm.Cond.fieldLinkNest "TrainingDiary$Book$Course" (21 : Nat) "TrainingDiary$Book" "today" "I" "TrainingDiary") ∈ lw_tbl := lw_at lw_m1 100 rfl
theorem q150 : (Jvm.Cond.fieldLinkNest "TrainingDiary$Book$Course" (15 : Nat) "TrainingDiary$Book" "planStart" "I" "TrainingDiary") ∈ lw_tbl := lw_at lw_m1 104 rfl
theorem q153 : (Jvm.Cond.fieldLinkNest "TrainingDiary$Book$Course" (27 : Nat) "TrainingDiary$Book" "entries" "I" "TrainingDiary") ∈ lw_tbl := lw_at lw_m1 107 rfl
theorem q519 : (Jvm.Cond.selects "TrainingDiary$Book$Course" ({ cls := "java/lang/Object", name := "getClass", desc := "()Ljava/lang/Class;" } : Jvm.MethodName) ({ cls := "java/lang/Object", name := "getClass", desc := "()Ljava/lang/Class;" } : Jvm.MethodName)) ∈ lw_all := lw_g (lw_at lw_m2 233 rfl) rfl
theorem q632 : (Jvm.Cond.instantiable "TrainingDiary$Book$Course" (5 : Nat)) ∈ lw_all := lw_g (lw_at lw_m3 106 rfl) rfl
theorem q634 : (Jvm.Cond.instanceMethod ({ cls := "TrainingDiary$Book$Course", name := "<init>", desc := "(LTrainingDiary$Book;)V" } : Jvm.MethodName)) ∈ lw_all := lw_g (lw_at lw_m3 108 rfl) rfl
theorem q635 : (Jvm.Cond.code ({ cls := "TrainingDiary$Book$Course", name := "<init>", desc := "(LTrainingDiary$Book;)V" } : Jvm.MethodName) prog_3_method_1_code (3 : Nat) (Option.none : Option Jvm.ClassFile.FieldType)) ∈ lw_all := lw_g (lw_at lw_m3 109 rfl) rfl
theorem q636 : (Jvm.Cond.methodLink "TrainingDiary$Book$Course" (9 : Nat) ({ cls := "java/lang/Object", name := "<init>", desc := "()V" } : Jvm.MethodName)) ∈ lw_all := lw_g (lw_at lw_m3 110 rfl) rfl
theorem q637 : (Jvm.Cond.methodLink "TrainingDiary$Book$Course" (30 : Nat) ({ cls := "TrainingDiary$Book", name := "loadOn", desc := "(I)I" } : Jvm.MethodName)) ∈ lw_all := lw_g (lw_at lw_m3 111 rfl) rfl
theorem q638 : (Jvm.Cond.methodLink "TrainingDiary$Book$Course" (38 : Nat) ({ cls := "TrainingDiary$Book$Course", name := "step", desc := "(Z)V" } : Jvm.MethodName)) ∈ lw_all := lw_g (lw_at lw_m3 112 rfl) rfl
theorem q639 : (Jvm.Cond.privateMethod ({ cls := "TrainingDiary$Book$Course", name := "step", desc := "(Z)V" } : Jvm.MethodName)) ∈ lw_tbl := lw_at lw_m3 113 rfl
theorem q640 : (Jvm.Cond.instanceMethod ({ cls := "TrainingDiary$Book$Course", name := "step", desc := "(Z)V" } : Jvm.MethodName)) ∈ lw_all := lw_g (lw_at lw_m3 114 rfl) rfl
theorem q641 : (Jvm.Cond.code ({ cls := "TrainingDiary$Book$Course", name := "step", desc := "(Z)V" } : Jvm.MethodName) prog_3_method_2_code (2 : Nat) (Option.none : Option Jvm.ClassFile.FieldType)) ∈ lw_all := lw_g (lw_at lw_m3 115 rfl) rfl
theorem q642 : (Jvm.Cond.fieldLink "TrainingDiary$Book$Course" (24 : Nat) "TrainingDiary$Book$Course" "due" "I") ∈ lw_all := lw_g (lw_at lw_m3 116 rfl) rfl
theorem q644 : (Jvm.Cond.fieldLink "TrainingDiary$Book$Course" (42 : Nat) "TrainingDiary$Book$Course" "missed" "I") ∈ lw_all := lw_g (lw_at lw_m3 118 rfl) rfl
theorem q646 : (Jvm.Cond.fieldLink "TrainingDiary$Book$Course" (48 : Nat) "TrainingDiary$Book$Course" "dropped" "I") ∈ lw_all := lw_g (lw_at lw_m3 120 rfl) rfl
theorem q648 : (Jvm.Cond.fieldLink "TrainingDiary$Book$Course" (45 : Nat) "TrainingDiary$Book$Course" "tries" "I") ∈ lw_all := lw_g (lw_at lw_m3 122 rfl) rfl
theorem q649 : (Jvm.Cond.fieldLink "TrainingDiary$Book$Course" (3 : Nat) "TrainingDiary$Book$Course" "this$0" "LTrainingDiary$Book;") ∈ lw_all := lw_g (lw_at lw_m3 123 rfl) rfl
theorem q650 : (Jvm.Cond.lays "TrainingDiary$Book$Course" "TrainingDiary$Book$Course" "due" "I") ∈ lw_all := lw_g (lw_at lw_m3 124 rfl) rfl
theorem q651 : (Jvm.Cond.soleField "TrainingDiary$Book$Course" "due") ∈ lw_all := lw_g (lw_at lw_m3 125 rfl) rfl
theorem q652 : (Jvm.Cond.lays "TrainingDiary$Book$Course" "TrainingDiary$Book$Course" "missed" "I") ∈ lw_all := lw_g (lw_at lw_m3 126 rfl) rfl
theorem q653 : (Jvm.Cond.soleField "TrainingDiary$Book$Course" "missed") ∈ lw_all := lw_g (lw_at lw_m3 127 rfl) rfl
theorem q654 : (Jvm.Cond.lays "TrainingDiary$Book$Course" "TrainingDiary$Book$Course" "dropped" "I") ∈ lw_all := lw_g (lw_at lw_m3 128 rfl) rfl
theorem q655 : (Jvm.Cond.soleField "TrainingDiary$Book$Course" "dropped") ∈ lw_all := lw_g (lw_at lw_m3 129 rfl) rfl
theorem q656 : (Jvm.Cond.lays "TrainingDiary$Book$Course" "TrainingDiary$Book$Course" "tries" "I") ∈ lw_all := lw_g (lw_at lw_m3 130 rfl) rfl
theorem q657 : (Jvm.Cond.soleField "TrainingDiary$Book$Course" "tries") ∈ lw_all := lw_g (lw_at lw_m3 131 rfl) rfl
theorem q658 : (Jvm.Cond.laysFinal "TrainingDiary$Book$Course" "TrainingDiary$Book$Course" "this$0" "LTrainingDiary$Book;") ∈ lw_all := lw_g (lw_at lw_m3 132 rfl) rfl
theorem q659 : (Jvm.Cond.soleField "TrainingDiary$Book$Course" "this$0") ∈ lw_all := lw_g (lw_at lw_m3 133 rfl) rfl
theorem q660 : (Jvm.Cond.superclass "TrainingDiary$Book$Course" "java/lang/Object") ∈ lw_all := lw_g (lw_at lw_m3 134 rfl) rfl
theorem q670 : (Jvm.Cond.instanceMethod ({ cls := "TrainingDiary$Book$Course", name := "isOver", desc := "()Z" } : Jvm.MethodName)) ∈ lw_all := lw_g (lw_at lw_m3 144 rfl) rfl
theorem q671 : (Jvm.Cond.selects "TrainingDiary$Book$Course" ({ cls := "TrainingDiary$Book$Course", name := "isOver", desc := "()Z" } : Jvm.MethodName) ({ cls := "TrainingDiary$Book$Course", name := "isOver", desc := "()Z" } : Jvm.MethodName)) ∈ lw_all := lw_g (lw_at lw_m3 145 rfl) rfl
theorem q672 : (Jvm.Cond.code ({ cls := "TrainingDiary$Book$Course", name := "isOver", desc := "()Z" } : Jvm.MethodName) prog_3_method_3_code (1 : Nat) (Option.some Jvm.ClassFile.FieldType.boolean)) ∈ lw_all := lw_g (lw_at lw_m3 146 rfl) rfl
theorem q2003 : (Jvm.Cond.castable "TrainingDiary$Book$Course" "java/lang/Object") ∈ lw_tbl := lw_at lw_m9 37 rfl
theorem in_X9 : ∀ w ∈ wsX90, w ∈ lw_all := lw_in wsX90 [650, 652, 654, 656, 658] (by decide +kernel) (by decide +kernel)
