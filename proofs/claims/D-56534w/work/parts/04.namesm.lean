/-! TrainingDiaryModel -/
set_option maxRecDepth 100000
def RX4 : String := "TrainingDiaryModel"
def TX4 : u_T := fun k => match k with
  | 0 => ("TrainingDiaryModel", "s", "[I", false)
  | 1 => ("TrainingDiaryModel", "old", "[[I", true)
  | 2 => ("TrainingDiaryModel", "snapshot", "[I", true)
  | 3 => ("TrainingDiaryModel", "load", "[I", true)
  | 4 => ("TrainingDiaryModel", "zones", "[I", true)
  | 5 => ("TrainingDiaryModel", "line", "[C", true)
  | 6 => ("TrainingDiaryModel", "undoable", "I", false)
  | 7 => ("TrainingDiaryModel", "top", "I", false)
  | 8 => ("TrainingDiaryModel", "written", "I", false)
  | 9 => ("TrainingDiaryModel", "due", "I", false)
  | 10 => ("TrainingDiaryModel", "missed", "I", false)
  | 11 => ("TrainingDiaryModel", "dropped", "I", false)
  | 12 => ("TrainingDiaryModel", "thrown", "I", false)
  | _ => ("TrainingDiaryModel", "isSaved", "Z", false)
def tyX4 : Nat → FieldType := fun k => match k with
  | 0 => .array .int
  | 1 => .array (.array .int)
  | 2 => .array .int
  | 3 => .array .int
  | 4 => .array .int
  | 5 => .array .char
  | 6 => .int
  | 7 => .int
  | 8 => .int
  | 9 => .int
  | 10 => .int
  | 11 => .int
  | 12 => .int
  | _ => .boolean
abbrev wsX40 : List Cond := u_ws RX4 TX4 14
set_option maxRecDepth 100000 in
theorem nmX4 : ∀ a, a < 14 → ∀ b, b < 14 → a ≠ b → (TX4 a).2.1 ≠ (TX4 b).2.1 := by decide +kernel
set_option maxRecDepth 100000 in
theorem tyX4_ok : ∀ k, k < 14 → parseFieldDescriptor (TX4 k).2.2.1 = some (tyX4 k) := by decide +kernel
abbrev cX4_init : ByteArray := prog_10_method_1_code
def yX4_init : MethodName := ⟨RX4, "<init>", "()V"⟩
def dkwX4_init_5 : List UInt8 := [8, 79, 42, 180, 0, 9, 16, 19, 16, 8, 79, 177]
abbrev dktX4_init_5 : List UInt8 := dkwX4_init_5 ++ []
def dkwX4_init_4 : List UInt8 := [4, 79, 42, 180, 0, 9, 16, 16, 5, 79, 42, 180, 0, 9, 16, 17, 6, 79, 42, 180, 0, 9, 16, 18]
abbrev dktX4_init_4 : List UInt8 := dkwX4_init_4 ++ dktX4_init_5
def dkwX4_init_3 : List UInt8 := [16, 8, 27, 96, 16, 60, 16, 10, 27, 104, 96, 79, 132, 1, 1, 167, 255, 232, 42, 180, 0, 9, 16, 15]
abbrev dktX4_init_3 : List UInt8 := dkwX4_init_3 ++ dktX4_init_4
def dkwX4_init_2 : List UInt8 := [188, 10, 181, 0, 24, 42, 16, 13, 188, 5, 181, 0, 27, 5, 60, 27, 8, 163, 0, 25, 42, 180, 0, 9]
abbrev dktX4_init_2 : List UInt8 := dkwX4_init_2 ++ dktX4_init_3
def dkwX4_init_1 : List UInt8 := [181, 0, 15, 42, 17, 3, 62, 188, 10, 181, 0, 18, 42, 17, 0, 200, 188, 10, 181, 0, 21, 42, 16, 6]
abbrev dktX4_init_1 : List UInt8 := dkwX4_init_1 ++ dktX4_init_2
def dkwX4_init_0 : List UInt8 := [42, 183, 0, 3, 42, 17, 3, 62, 188, 10, 181, 0, 9, 42, 16, 6, 17, 3, 62, 197, 0, 13, 2]
abbrev dktX4_init_0 : List UInt8 := dkwX4_init_0 ++ dktX4_init_1
theorem dksX4_init_0 : cX4_init.data.toList.drop 0 = dktX4_init_0 := by decide +kernel
theorem dksX4_init_1 : cX4_init.data.toList.drop 23 = dktX4_init_1 := dk_seg dksX4_init_0 23 rfl rfl
theorem dksX4_init_2 : cX4_init.data.toList.drop 47 = dktX4_init_2 := dk_seg dksX4_init_1 24 rfl rfl
theorem dksX4_init_3 : cX4_init.data.toList.drop 71 = dktX4_init_3 := dk_seg dksX4_init_2 24 rfl rfl
theorem dksX4_init_4 : cX4_init.data.toList.drop 95 = dktX4_init_4 := dk_seg dksX4_init_3 24 rfl rfl
theorem dksX4_init_5 : cX4_init.data.toList.drop 119 = dktX4_init_5 := dk_seg dksX4_init_4 24 rfl rfl
theorem dX4_init_0 : decode cX4_init 0 = .ok (.aload_n 0, 1) := dk_42 (dk_at dksX4_init_0 0 rfl rfl)
theorem dX4_init_1 : decode cX4_init 1 = .ok (.invokespecial 3, 3) := dk_183 0 3 (dk_at dksX4_init_0 1 rfl rfl)
theorem dX4_init_4 : decode cX4_init 4 = .ok (.aload_n 0, 1) := dk_42 (dk_at dksX4_init_0 4 rfl rfl)
theorem dX4_init_5 : decode cX4_init 5 = .ok (.sipush 830, 3) := dk_17 3 62 (dk_at dksX4_init_0 5 rfl rfl)
theorem dX4_init_8 : decode cX4_init 8 = .ok (.newarray .int, 2) := dk_188_10 (dk_at dksX4_init_0 8 rfl rfl)
theorem dX4_init_10 : decode cX4_init 10 = .ok (.putfield 9, 3) := dk_181 0 9 (dk_at dksX4_init_0 10 rfl rfl)
theorem dX4_init_13 : decode cX4_init 13 = .ok (.aload_n 0, 1) := dk_42 (dk_at dksX4_init_0 13 rfl rfl)
theorem dX4_init_14 : decode cX4_init 14 = .ok (.bipush 6, 2) := dk_16 6 (dk_at dksX4_init_0 14 rfl rfl)
theorem dX4_init_16 : decode cX4_init 16 = .ok (.sipush 830, 3) := dk_17 3 62 (dk_at dksX4_init_0 16 rfl rfl)
theorem dX4_init_19 : decode cX4_init 19 = .ok (.multianewarray 13 2, 4) := by decide +kernel
theorem dX4_init_23 : decode cX4_init 23 = .ok (.putfield 15, 3) := dk_181 0 15 (dk_at dksX4_init_1 0 rfl rfl)
theorem dX4_init_26 : decode cX4_init 26 = .ok (.aload_n 0, 1) := dk_42 (dk_at dksX4_init_1 3 rfl rfl)
theorem dX4_init_27 : decode cX4_init 27 = .ok (.sipush 830, 3) := dk_17 3 62 (dk_at dksX4_init_1 4 rfl rfl)
theorem dX4_init_30 : decode cX4_init 30 = .ok (.newarray .int, 2) := dk_188_10 (dk_at dksX4_init_1 7 rfl rfl)
theorem dX4_init_32 : decode cX4_init 32 = .ok (.putfield 18, 3) := dk_181 0 18 (dk_at dksX4_init_1 9 rfl rfl)
theorem dX4_init_35 : decode cX4_init 35 = .ok (.aload_n 0, 1) := dk_42 (dk_at dksX4_init_1 12 rfl rfl)
theorem dX4_init_36 : decode cX4_init 36 = .ok (.sipush 200, 3) := dk_17 0 200 (dk_at dksX4_init_1 13 rfl rfl)
theorem dX4_init_39 : decode cX4_init 39 = .ok (.newarray .int, 2) := dk_188_10 (dk_at dksX4_init_1 16 rfl rfl)
theorem dX4_init_41 : decode cX4_init 41 = .ok (.putfield 21, 3) := dk_181 0 21 (dk_at dksX4_init_1 18 rfl rfl)
theorem dX4_init_44 : decode cX4_init 44 = .ok (.aload_n 0, 1) := dk_42 (dk_at dksX4_init_1 21 rfl rfl)
theorem dX4_init_45 : decode cX4_init 45 = .ok (.bipush 6, 2) := dk_16 6 (dk_at dksX4_init_1 22 rfl rfl)
theorem dX4_init_47 : decode cX4_init 47 = .ok (.newarray .int, 2) := dk_188_10 (dk_at dksX4_init_2 0 rfl rfl)
theorem dX4_init_49 : decode cX4_init 49 = .ok (.putfield 24, 3) := dk_181 0 24 (dk_at dksX4_init_2 2 rfl rfl)
theorem dX4_init_52 : decode cX4_init 52 = .ok (.aload_n 0, 1) := dk_42 (dk_at dksX4_init_2 5 rfl rfl)
theorem dX4_init_53 : decode cX4_init 53 = .ok (.bipush 13, 2) := dk_16 13 (dk_at dksX4_init_2 6 rfl rfl)
theorem dX4_init_55 : decode cX4_init 55 = .ok (.newarray .char, 2) := dk_188_5 (dk_at dksX4_init_2 8 rfl rfl)
theorem dX4_init_57 : decode cX4_init 57 = .ok (.putfield 27, 3) := dk_181 0 27 (dk_at dksX4_init_2 10 rfl rfl)
theorem dX4_init_60 : decode cX4_init 60 = .ok (.iconst 2, 1) := dk_5 (dk_at dksX4_init_2 13 rfl rfl)
theorem dX4_init_61 : decode cX4_init 61 = .ok (.istore_n 1, 1) := dk_60 (dk_at dksX4_init_2 14 rfl rfl)
theorem dX4_init_62 : decode cX4_init 62 = .ok (.iload_n 1, 1) := dk_27 (dk_at dksX4_init_2 15 rfl rfl)
theorem dX4_init_63 : decode cX4_init 63 = .ok (.iconst 5, 1) := dk_8 (dk_at dksX4_init_2 16 rfl rfl)
theorem dX4_init_64 : decode cX4_init 64 = .ok (.if_icmp .gt 25, 3) := dk_163 0 25 (dk_at dksX4_init_2 17 rfl rfl)
theorem dX4_init_67 : decode cX4_init 67 = .ok (.aload_n 0, 1) := dk_42 (dk_at dksX4_init_2 20 rfl rfl)
theorem dX4_init_68 : decode cX4_init 68 = .ok (.getfield 9, 3) := dk_180 0 9 (dk_at dksX4_init_2 21 rfl rfl)
theorem dX4_init_71 : decode cX4_init 71 = .ok (.bipush 8, 2) := dk_16 8 (dk_at dksX4_init_3 0 rfl rfl)
theorem dX4_init_73 : decode cX4_init 73 = .ok (.iload_n 1, 1) := dk_27 (dk_at dksX4_init_3 2 rfl rfl)
theorem dX4_init_74 : decode cX4_init 74 = .ok (.iadd, 1) := dk_96 (dk_at dksX4_init_3 3 rfl rfl)
theorem dX4_init_75 : decode cX4_init 75 = .ok (.bipush 60, 2) := dk_16 60 (dk_at dksX4_init_3 4 rfl rfl)
theorem dX4_init_77 : decode cX4_init 77 = .ok (.bipush 10, 2) := dk_16 10 (dk_at dksX4_init_3 6 rfl rfl)
theorem dX4_init_79 : decode cX4_init 79 = .ok (.iload_n 1, 1) := dk_27 (dk_at dksX4_init_3 8 rfl rfl)
theorem dX4_init_80 : decode cX4_init 80 = .ok (.imul, 1) := dk_104 (dk_at dksX4_init_3 9 rfl rfl)
theorem dX4_init_81 : decode cX4_init 81 = .ok (.iadd, 1) := dk_96 (dk_at dksX4_init_3 10 rfl rfl)
theorem dX4_init_82 : decode cX4_init 82 = .ok (.iastore, 1) := dk_79 (dk_at dksX4_init_3 11 rfl rfl)
theorem dX4_init_83 : decode cX4_init 83 = .ok (.iinc 1 1, 3) := dk_132 1 1 (dk_at dksX4_init_3 12 rfl rfl)
theorem dX4_init_86 : decode cX4_init 86 = .ok (.goto (-24), 3) := dk_167 255 232 (dk_at dksX4_init_3 15 rfl rfl)
theorem dX4_init_89 : decode cX4_init 89 = .ok (.aload_n 0, 1) := dk_42 (dk_at dksX4_init_3 18 rfl rfl)
theorem dX4_init_90 : decode cX4_init 90 = .ok (.getfield 9, 3) := dk_180 0 9 (dk_at dksX4_init_3 19 rfl rfl)
theorem dX4_init_93 : decode cX4_init 93 = .ok (.bipush 15, 2) := dk_16 15 (dk_at dksX4_init_3 22 rfl rfl)
theorem dX4_init_95 : decode cX4_init 95 = .ok (.iconst 1, 1) := dk_4 (dk_at dksX4_init_4 0 rfl rfl)
theorem dX4_init_96 : decode cX4_init 96 = .ok (.iastore, 1) := dk_79 (dk_at dksX4_init_4 1 rfl rfl)
theorem dX4_init_97 : decode cX4_init 97 = .ok (.aload_n 0, 1) := dk_42 (dk_at dksX4_init_4 2 rfl rfl)
theorem dX4_init_98 : decode cX4_init 98 = .ok (.getfield 9, 3) := dk_180 0 9 (dk_at dksX4_init_4 3 rfl rfl)
theorem dX4_init_101 : decode cX4_init 101 = .ok (.bipush 16, 2) := dk_16 16 (dk_at dksX4_init_4 6 rfl rfl)
theorem dX4_init_103 : decode cX4_init 103 = .ok (.iconst 2, 1) := dk_5 (dk_at dksX4_init_4 8 rfl rfl)
theorem dX4_init_104 : decode cX4_init 104 = .ok (.iastore, 1) := dk_79 (dk_at dksX4_init_4 9 rfl rfl)
theorem dX4_init_105 : decode cX4_init 105 = .ok (.aload_n 0, 1) := dk_42 (dk_at dksX4_init_4 10 rfl rfl)
theorem dX4_init_106 : decode cX4_init 106 = .ok (.getfield 9, 3) := dk_180 0 9 (dk_at dksX4_init_4 11 rfl rfl)
theorem dX4_init_109 : decode cX4_init 109 = .ok (.bipush 17, 2) := dk_16 17 (dk_at dksX4_init_4 14 rfl rfl)
theorem dX4_init_111 : decode cX4_init 111 = .ok (.iconst 3, 1) := dk_6 (dk_at dksX4_init_4 16 rfl rfl)
theorem dX4_init_112 : decode cX4_init 112 = .ok (.iastore, 1) := dk_79 (dk_at dksX4_init_4 17 rfl rfl)
theorem dX4_init_113 : decode cX4_init 113 = .ok (.aload_n 0, 1) := dk_42 (dk_at dksX4_init_4 18 rfl rfl)
theorem dX4_init_114 : decode cX4_init 114 = .ok (.getfield 9, 3) := dk_180 0 9 (dk_at dksX4_init_4 19 rfl rfl)
theorem dX4_init_117 : decode cX4_init 117 = .ok (.bipush 18, 2) := dk_16 18 (dk_at dksX4_init_4 22 rfl rfl)
theorem dX4_init_119 : decode cX4_init 119 = .ok (.iconst 5, 1) := dk_8 (dk_at dksX4_init_5 0 rfl rfl)
theorem dX4_init_120 : decode cX4_init 120 = .ok (.iastore, 1) := dk_79 (dk_at dksX4_init_5 1 rfl rfl)
theorem dX4_init_121 : decode cX4_init 121 = .ok (.aload_n 0, 1) := dk_42 (dk_at dksX4_init_5 2 rfl rfl)
theorem dX4_init_122 : decode cX4_init 122 = .ok (.getfield 9, 3) := dk_180 0 9 (dk_at dksX4_init_5 3 rfl rfl)
theorem dX4_init_125 : decode cX4_init 125 = .ok (.bipush 19, 2) := dk_16 19 (dk_at dksX4_init_5 6 rfl rfl)
theorem dX4_init_127 : decode cX4_init 127 = .ok (.bipush 8, 2) := dk_16 8 (dk_at dksX4_init_5 8 rfl rfl)
theorem dX4_init_129 : decode cX4_init 129 = .ok (.iastore, 1) := dk_79 (dk_at dksX4_init_5 10 rfl rfl)
theorem dX4_init_130 : decode cX4_init 130 = .ok (.return_, 1) := dk_177 (dk_at dksX4_init_5 11 rfl rfl)
abbrev cX4_thrown : ByteArray := prog_10_method_2_code
def yX4_thrown : MethodName := ⟨RX4, "thrown", "()I"⟩
theorem dX4_thrown_0 : decode cX4_thrown 0 = .ok (.aload_n 0, 1) := by decide +kernel
theorem dX4_thrown_1 : decode cX4_thrown 1 = .ok (.getfield 31, 3) := by decide +kernel
theorem dX4_thrown_4 : decode cX4_thrown 4 = .ok (.ireturn, 1) := by decide +kernel
abbrev cX4_pass : ByteArray := prog_10_method_7_code
def yX4_pass : MethodName := ⟨RX4, "pass", "(I)I"⟩
def dkwX4_pass_3 : List UInt8 := [46, 172]
abbrev dktX4_pass_3 : List UInt8 := dkwX4_pass_3 ++ []
def dkwX4_pass_2 : List UInt8 := [153, 0, 5, 3, 172, 42, 182, 0, 55, 42, 180, 0, 9, 3, 92, 46, 27, 96, 79, 42, 180, 0, 9, 3]
abbrev dktX4_pass_2 : List UInt8 := dkwX4_pass_2 ++ dktX4_pass_3
def dkwX4_pass_1 : List UInt8 := [42, 180, 0, 9, 3, 46, 27, 96, 17, 0, 199, 164, 0, 7, 4, 167, 0, 4, 3, 5, 182, 0, 51]
abbrev dktX4_pass_1 : List UInt8 := dkwX4_pass_1 ++ dktX4_pass_2
def dkwX4_pass_0 : List UInt8 := [42, 27, 4, 16, 30, 184, 0, 47, 154, 0, 7, 4, 167, 0, 4, 3, 4, 182, 0, 51, 154, 0, 30, 42]
abbrev dktX4_pass_0 : List UInt8 := dkwX4_pass_0 ++ dktX4_pass_1
theorem dksX4_pass_0 : cX4_pass.data.toList.drop 0 = dktX4_pass_0 := by decide +kernel
theorem dksX4_pass_1 : cX4_pass.data.toList.drop 24 = dktX4_pass_1 := dk_seg dksX4_pass_0 24 rfl rfl
theorem dksX4_pass_2 : cX4_pass.data.toList.drop 47 = dktX4_pass_2 := dk_seg dksX4_pass_1 23 rfl rfl
theorem dksX4_pass_3 : cX4_pass.data.toList.drop 71 = dktX4_pass_3 := dk_seg dksX4_pass_2 24 rfl rfl
theorem dX4_pass_0 : decode cX4_pass 0 = .ok (.aload_n 0, 1) := dk_42 (dk_at dksX4_pass_0 0 rfl rfl)
theorem dX4_pass_1 : decode cX4_pass 1 = .ok (.iload_n 1, 1) := dk_27 (dk_at dksX4_pass_0 1 rfl rfl)
theorem dX4_pass_2 : decode cX4_pass 2 = .ok (.iconst 1, 1) := dk_4 (dk_at dksX4_pass_0 2 rfl rfl)
theorem dX4_pass_3 : decode cX4_pass 3 = .ok (.bipush 30, 2) := dk_16 30 (dk_at dksX4_pass_0 3 rfl rfl)
theorem dX4_pass_5 : decode cX4_pass 5 = .ok (.invokestatic 47, 3) := dk_184 0 47 (dk_at dksX4_pass_0 5 rfl rfl)
theorem dX4_pass_8 : decode cX4_pass 8 = .ok (.ifCond .ne 7, 3) := dk_154 0 7 (dk_at dksX4_pass_0 8 rfl rfl)
theorem dX4_pass_11 : decode cX4_pass 11 = .ok (.iconst 1, 1) := dk_4 (dk_at dksX4_pass_0 11 rfl rfl)
theorem dX4_pass_12 : decode cX4_pass 12 = .ok (.goto 4, 3) := dk_167 0 4 (dk_at dksX4_pass_0 12 rfl rfl)
theorem dX4_pass_15 : decode cX4_pass 15 = .ok (.iconst 0, 1) := dk_3 (dk_at dksX4_pass_0 15 rfl rfl)
theorem dX4_pass_16 : decode cX4_pass 16 = .ok (.iconst 1, 1) := dk_4 (dk_at dksX4_pass_0 16 rfl rfl)
theorem dX4_pass_17 : decode cX4_pass 17 = .ok (.invokevirtual 51, 3) := dk_182 0 51 (dk_at dksX4_pass_0 17 rfl rfl)
theorem dX4_pass_20 : decode cX4_pass 20 = .ok (.ifCond .ne 30, 3) := dk_154 0 30 (dk_at dksX4_pass_0 20 rfl rfl)
theorem dX4_pass_23 : decode cX4_pass 23 = .ok (.aload_n 0, 1) := dk_42 (dk_at dksX4_pass_0 23 rfl rfl)
theorem dX4_pass_24 : decode cX4_pass 24 = .ok (.aload_n 0, 1) := dk_42 (dk_at dksX4_pass_1 0 rfl rfl)
theorem dX4_pass_25 : decode cX4_pass 25 = .ok (.getfield 9, 3) := dk_180 0 9 (dk_at dksX4_pass_1 1 rfl rfl)
theorem dX4_pass_28 : decode cX4_pass 28 = .ok (.iconst 0, 1) := dk_3 (dk_at dksX4_pass_1 4 rfl rfl)
theorem dX4_pass_29 : decode cX4_pass 29 = .ok (.iaload, 1) := dk_46 (dk_at dksX4_pass_1 5 rfl rfl)
theorem dX4_pass_30 : decode cX4_pass 30 = .ok (.iload_n 1, 1) := dk_27 (dk_at dksX4_pass_1 6 rfl rfl)
theorem dX4_pass_31 : decode cX4_pass 31 = .ok (.iadd, 1) := dk_96 (dk_at dksX4_pass_1 7 rfl rfl)
theorem dX4_pass_32 : decode cX4_pass 32 = .ok (.sipush 199, 3) := dk_17 0 199 (dk_at dksX4_pass_1 8 rfl rfl)
theorem dX4_pass_35 : decode cX4_pass 35 = .ok (.if_icmp .le 7, 3) := dk_164 0 7 (dk_at dksX4_pass_1 11 rfl rfl)
theorem dX4_pass_38 : decode cX4_pass 38 = .ok (.iconst 1, 1) := dk_4 (dk_at dksX4_pass_1 14 rfl rfl)
theorem dX4_pass_39 : decode cX4_pass 39 = .ok (.goto 4, 3) := dk_167 0 4 (dk_at dksX4_pass_1 15 rfl rfl)
theorem dX4_pass_42 : decode cX4_pass 42 = .ok (.iconst 0, 1) := dk_3 (dk_at dksX4_pass_1 18 rfl rfl)
theorem dX4_pass_43 : decode cX4_pass 43 = .ok (.iconst 2, 1) := dk_5 (dk_at dksX4_pass_1 19 rfl rfl)
theorem dX4_pass_44 : decode cX4_pass 44 = .ok (.invokevirtual 51, 3) := dk_182 0 51 (dk_at dksX4_pass_1 20 rfl rfl)
theorem dX4_pass_47 : decode cX4_pass 47 = .ok (.ifCond .eq 5, 3) := dk_153 0 5 (dk_at dksX4_pass_2 0 rfl rfl)
theorem dX4_pass_50 : decode cX4_pass 50 = .ok (.iconst 0, 1) := dk_3 (dk_at dksX4_pass_2 3 rfl rfl)
theorem dX4_pass_51 : decode cX4_pass 51 = .ok (.ireturn, 1) := dk_172 (dk_at dksX4_pass_2 4 rfl rfl)
theorem dX4_pass_52 : decode cX4_pass 52 = .ok (.aload_n 0, 1) := dk_42 (dk_at dksX4_pass_2 5 rfl rfl)
theorem dX4_pass_53 : decode cX4_pass 53 = .ok (.invokevirtual 55, 3) := dk_182 0 55 (dk_at dksX4_pass_2 6 rfl rfl)
theorem dX4_pass_56 : decode cX4_pass 56 = .ok (.aload_n 0, 1) := dk_42 (dk_at dksX4_pass_2 9 rfl rfl)
theorem dX4_pass_57 : decode cX4_pass 57 = .ok (.getfield 9, 3) := dk_180 0 9 (dk_at dksX4_pass_2 10 rfl rfl)
theorem dX4_pass_60 : decode cX4_pass 60 = .ok (.iconst 0, 1) := dk_3 (dk_at dksX4_pass_2 13 rfl rfl)
theorem dX4_pass_61 : decode cX4_pass 61 = .ok (.dup2, 1) := dk_92 (dk_at dksX4_pass_2 14 rfl rfl)
theorem dX4_pass_62 : decode cX4_pass 62 = .ok (.iaload, 1) := dk_46 (dk_at dksX4_pass_2 15 rfl rfl)
theorem dX4_pass_63 : decode cX4_pass 63 = .ok (.iload_n 1, 1) := dk_27 (dk_at dksX4_pass_2 16 rfl rfl)
theorem dX4_pass_64 : decode cX4_pass 64 = .ok (.iadd, 1) := dk_96 (dk_at dksX4_pass_2 17 rfl rfl)
theorem dX4_pass_65 : decode cX4_pass 65 = .ok (.iastore, 1) := dk_79 (dk_at dksX4_pass_2 18 rfl rfl)
theorem dX4_pass_66 : decode cX4_pass 66 = .ok (.aload_n 0, 1) := dk_42 (dk_at dksX4_pass_2 19 rfl rfl)
theorem dX4_pass_67 : decode cX4_pass 67 = .ok (.getfield 9, 3) := dk_180 0 9 (dk_at dksX4_pass_2 20 rfl rfl)
theorem dX4_pass_70 : decode cX4_pass 70 = .ok (.iconst 0, 1) := dk_3 (dk_at dksX4_pass_2 23 rfl rfl)
theorem dX4_pass_71 : decode cX4_pass 71 = .ok (.iaload, 1) := dk_46 (dk_at dksX4_pass_3 0 rfl rfl)
theorem dX4_pass_72 : decode cX4_pass 72 = .ok (.ireturn, 1) := dk_172 (dk_at dksX4_pass_3 1 rfl rfl)
abbrev cX4_isIn : ByteArray := prog_10_method_3_code
def yX4_isIn : MethodName := ⟨RX4, "isIn", "(III)Z"⟩
def dkwX4_isIn_0 : List UInt8 := [26, 27, 161, 0, 12, 26, 28, 163, 0, 7, 4, 167, 0, 4, 3, 172]
abbrev dktX4_isIn_0 : List UInt8 := dkwX4_isIn_0 ++ []
theorem dksX4_isIn_0 : cX4_isIn.data.toList.drop 0 = dktX4_isIn_0 := by decide +kernel
theorem dX4_isIn_0 : decode cX4_isIn 0 = .ok (.iload_n 0, 1) := dk_26 (dk_at dksX4_isIn_0 0 rfl rfl)
theorem dX4_isIn_1 : decode cX4_isIn 1 = .ok (.iload_n 1, 1) := dk_27 (dk_at dksX4_isIn_0 1 rfl rfl)
theorem dX4_isIn_2 : decode cX4_isIn 2 = .ok (.if_icmp .lt 12, 3) := dk_161 0 12 (dk_at dksX4_isIn_0 2 rfl rfl)
theorem dX4_isIn_5 : decode cX4_isIn 5 = .ok (.iload_n 0, 1) := dk_26 (dk_at dksX4_isIn_0 5 rfl rfl)
theorem dX4_isIn_6 : decode cX4_isIn 6 = .ok (.iload_n 2, 1) := dk_28 (dk_at dksX4_isIn_0 6 rfl rfl)
theorem dX4_isIn_7 : decode cX4_isIn 7 = .ok (.if_icmp .gt 7, 3) := dk_163 0 7 (dk_at dksX4_isIn_0 7 rfl rfl)
theorem dX4_isIn_10 : decode cX4_isIn 10 = .ok (.iconst 1, 1) := dk_4 (dk_at dksX4_isIn_0 10 rfl rfl)
theorem dX4_isIn_11 : decode cX4_isIn 11 = .ok (.goto 4, 3) := dk_167 0 4 (dk_at dksX4_isIn_0 11 rfl rfl)
theorem dX4_isIn_14 : decode cX4_isIn 14 = .ok (.iconst 0, 1) := dk_3 (dk_at dksX4_isIn_0 14 rfl rfl)
theorem dX4_isIn_15 : decode cX4_isIn 15 = .ok (.ireturn, 1) := dk_172 (dk_at dksX4_isIn_0 15 rfl rfl)
abbrev cX4_isThrown : ByteArray := prog_10_method_4_code
def yX4_isThrown : MethodName := ⟨RX4, "isThrown", "(ZI)Z"⟩
def dkwX4_isThrown_0 : List UInt8 := [42, 27, 153, 0, 7, 28, 167, 0, 4, 3, 181, 0, 31, 27, 172]
abbrev dktX4_isThrown_0 : List UInt8 := dkwX4_isThrown_0 ++ []
theorem dksX4_isThrown_0 : cX4_isThrown.data.toList.drop 0 = dktX4_isThrown_0 := by decide +kernel
theorem dX4_isThrown_0 : decode cX4_isThrown 0 = .ok (.aload_n 0, 1) := dk_42 (dk_at dksX4_isThrown_0 0 rfl rfl)
theorem dX4_isThrown_1 : decode cX4_isThrown 1 = .ok (.iload_n 1, 1) := dk_27 (dk_at dksX4_isThrown_0 1 rfl rfl)
theorem dX4_isThrown_2 : decode cX4_isThrown 2 = .ok (.ifCond .eq 7, 3) := dk_153 0 7 (dk_at dksX4_isThrown_0 2 rfl rfl)
theorem dX4_isThrown_5 : decode cX4_isThrown 5 = .ok (.iload_n 2, 1) := dk_28 (dk_at dksX4_isThrown_0 5 rfl rfl)
theorem dX4_isThrown_6 : decode cX4_isThrown 6 = .ok (.goto 4, 3) := dk_167 0 4 (dk_at dksX4_isThrown_0 6 rfl rfl)
theorem dX4_isThrown_9 : decode cX4_isThrown 9 = .ok (.iconst 0, 1) := dk_3 (dk_at dksX4_isThrown_0 9 rfl rfl)
theorem dX4_isThrown_10 : decode cX4_isThrown 10 = .ok (.putfield 31, 3) := dk_181 0 31 (dk_at dksX4_isThrown_0 10 rfl rfl)
theorem dX4_isThrown_13 : decode cX4_isThrown 13 = .ok (.iload_n 1, 1) := dk_27 (dk_at dksX4_isThrown_0 13 rfl rfl)
theorem dX4_isThrown_14 : decode cX4_isThrown 14 = .ok (.ireturn, 1) := dk_172 (dk_at dksX4_isThrown_0 14 rfl rfl)
abbrev cX4_keeps : ByteArray := prog_10_method_5_code
def yX4_keeps : MethodName := ⟨RX4, "keeps", "()V"⟩
def dkwX4_keeps_2 : List UInt8 := [16, 6, 42, 180, 0, 38, 4, 96, 184, 0, 41, 181, 0, 38, 177]
abbrev dktX4_keeps_2 : List UInt8 := dkwX4_keeps_2 ++ []
def dkwX4_keeps_1 : List UInt8 := [180, 0, 15, 42, 180, 0, 35, 50, 27, 42, 180, 0, 9, 27, 46, 79, 132, 1, 1, 167, 255, 229, 42]
abbrev dktX4_keeps_1 : List UInt8 := dkwX4_keeps_1 ++ dktX4_keeps_2
def dkwX4_keeps_0 : List UInt8 := [42, 42, 180, 0, 35, 4, 96, 16, 6, 112, 181, 0, 35, 3, 60, 27, 17, 3, 62, 162, 0, 26, 42]
abbrev dktX4_keeps_0 : List UInt8 := dkwX4_keeps_0 ++ dktX4_keeps_1
theorem dksX4_keeps_0 : cX4_keeps.data.toList.drop 0 = dktX4_keeps_0 := by decide +kernel
theorem dksX4_keeps_1 : cX4_keeps.data.toList.drop 23 = dktX4_keeps_1 := dk_seg dksX4_keeps_0 23 rfl rfl
theorem dksX4_keeps_2 : cX4_keeps.data.toList.drop 46 = dktX4_keeps_2 := dk_seg dksX4_keeps_1 23 rfl rfl
theorem dX4_keeps_0 : decode cX4_keeps 0 = .ok (.aload_n 0, 1) := dk_42 (dk_at dksX4_keeps_0 0 rfl rfl)
theorem dX4_keeps_1 : decode cX4_keeps 1 = .ok (.aload_n 0, 1) := dk_42 (dk_at dksX4_keeps_0 1 rfl rfl)
theorem dX4_keeps_2 : decode cX4_keeps 2 = .ok (.getfield 35, 3) := dk_180 0 35 (dk_at dksX4_keeps_0 2 rfl rfl)
theorem dX4_keeps_5 : decode cX4_keeps 5 = .ok (.iconst 1, 1) := dk_4 (dk_at dksX4_keeps_0 5 rfl rfl)
theorem dX4_keeps_6 : decode cX4_keeps 6 = .ok (.iadd, 1) := dk_96 (dk_at dksX4_keeps_0 6 rfl rfl)
theorem dX4_keeps_7 : decode cX4_keeps 7 = .ok (.bipush 6, 2) := dk_16 6 (dk_at dksX4_keeps_0 7 rfl rfl)
theorem dX4_keeps_9 : decode cX4_keeps 9 = .ok (.irem, 1) := dk_112 (dk_at dksX4_keeps_0 9 rfl rfl)
theorem dX4_keeps_10 : decode cX4_keeps 10 = .ok (.putfield 35, 3) := dk_181 0 35 (dk_at dksX4_keeps_0 10 rfl rfl)
theorem dX4_keeps_13 : decode cX4_keeps 13 = .ok (.iconst 0, 1) := dk_3 (dk_at dksX4_keeps_0 13 rfl rfl)
theorem dX4_keeps_14 : decode cX4_keeps 14 = .ok (.istore_n 1, 1) := dk_60 (dk_at dksX4_keeps_0 14 rfl rfl)
theorem dX4_keeps_15 : decode cX4_keeps 15 = .ok (.iload_n 1, 1) := dk_27 (dk_at dksX4_keeps_0 15 rfl rfl)
theorem dX4_keeps_16 : decode cX4_keeps 16 = .ok (.sipush 830, 3) := dk_17 3 62 (dk_at dksX4_keeps_0 16 rfl rfl)
theorem dX4_keeps_19 : decode cX4_keeps 19 = .ok (.if_icmp .ge 26, 3) := dk_162 0 26 (dk_at dksX4_keeps_0 19 rfl rfl)
theorem dX4_keeps_22 : decode cX4_keeps 22 = .ok (.aload_n 0, 1) := dk_42 (dk_at dksX4_keeps_0 22 rfl rfl)
theorem dX4_keeps_23 : decode cX4_keeps 23 = .ok (.getfield 15, 3) := dk_180 0 15 (dk_at dksX4_keeps_1 0 rfl rfl)
theorem dX4_keeps_26 : decode cX4_keeps 26 = .ok (.aload_n 0, 1) := dk_42 (dk_at dksX4_keeps_1 3 rfl rfl)
theorem dX4_keeps_27 : decode cX4_keeps 27 = .ok (.getfield 35, 3) := dk_180 0 35 (dk_at dksX4_keeps_1 4 rfl rfl)
theorem dX4_keeps_30 : decode cX4_keeps 30 = .ok (.aaload, 1) := dk_50 (dk_at dksX4_keeps_1 7 rfl rfl)
theorem dX4_keeps_31 : decode cX4_keeps 31 = .ok (.iload_n 1, 1) := dk_27 (dk_at dksX4_keeps_1 8 rfl rfl)
theorem dX4_keeps_32 : decode cX4_keeps 32 = .ok (.aload_n 0, 1) := dk_42 (dk_at dksX4_keeps_1 9 rfl rfl)
theorem dX4_keeps_33 : decode cX4_keeps 33 = .ok (.getfield 9, 3) := dk_180 0 9 (dk_at dksX4_keeps_1 10 rfl rfl)
theorem dX4_keeps_36 : decode cX4_keeps 36 = .ok (.iload_n 1, 1) := dk_27 (dk_at dksX4_keeps_1 13 rfl rfl)
theorem dX4_keeps_37 : decode cX4_keeps 37 = .ok (.iaload, 1) := dk_46 (dk_at dksX4_keeps_1 14 rfl rfl)
theorem dX4_keeps_38 : decode cX4_keeps 38 = .ok (.iastore, 1) := dk_79 (dk_at dksX4_keeps_1 15 rfl rfl)
theorem dX4_keeps_39 : decode cX4_keeps 39 = .ok (.iinc 1 1, 3) := dk_132 1 1 (dk_at dksX4_keeps_1 16 rfl rfl)
theorem dX4_keeps_42 : decode cX4_keeps 42 = .ok (.goto (-27), 3) := dk_167 255 229 (dk_at dksX4_keeps_1 19 rfl rfl)
theorem dX4_keeps_45 : decode cX4_keeps 45 = .ok (.aload_n 0, 1) := dk_42 (dk_at dksX4_keeps_1 22 rfl rfl)
theorem dX4_keeps_46 : decode cX4_keeps 46 = .ok (.bipush 6, 2) := dk_16 6 (dk_at dksX4_keeps_2 0 rfl rfl)
theorem dX4_keeps_48 : decode cX4_keeps 48 = .ok (.aload_n 0, 1) := dk_42 (dk_at dksX4_keeps_2 2 rfl rfl)
theorem dX4_keeps_49 : decode cX4_keeps 49 = .ok (.getfield 38, 3) := dk_180 0 38 (dk_at dksX4_keeps_2 3 rfl rfl)
theorem dX4_keeps_52 : decode cX4_keeps 52 = .ok (.iconst 1, 1) := dk_4 (dk_at dksX4_keeps_2 6 rfl rfl)
theorem dX4_keeps_53 : decode cX4_keeps 53 = .ok (.iadd, 1) := dk_96 (dk_at dksX4_keeps_2 7 rfl rfl)
theorem dX4_keeps_54 : decode cX4_keeps 54 = .ok (.invokestatic 41, 3) := dk_184 0 41 (dk_at dksX4_keeps_2 8 rfl rfl)
theorem dX4_keeps_57 : decode cX4_keeps 57 = .ok (.putfield 38, 3) := dk_181 0 38 (dk_at dksX4_keeps_2 11 rfl rfl)
theorem dX4_keeps_60 : decode cX4_keeps 60 = .ok (.return_, 1) := dk_177 (dk_at dksX4_keeps_2 14 rfl rfl)
abbrev cX4_today : ByteArray := prog_10_method_8_code
def yX4_today : MethodName := ⟨RX4, "today", "()I"⟩
def dkwX4_today_0 : List UInt8 := [42, 3, 181, 0, 31, 42, 180, 0, 9, 3, 46, 172]
abbrev dktX4_today_0 : List UInt8 := dkwX4_today_0 ++ []
theorem dksX4_today_0 : cX4_today.data.toList.drop 0 = dktX4_today_0 := by decide +kernel
theorem dX4_today_0 : decode cX4_today 0 = .ok (.aload_n 0, 1) := dk_42 (dk_at dksX4_today_0 0 rfl rfl)
theorem dX4_today_1 : decode cX4_today 1 = .ok (.iconst 0, 1) := dk_3 (dk_at dksX4_today_0 1 rfl rfl)
theorem dX4_today_2 : decode cX4_today 2 = .ok (.putfield 31, 3) := dk_181 0 31 (dk_at dksX4_today_0 2 rfl rfl)
theorem dX4_today_5 : decode cX4_today 5 = .ok (.aload_n 0, 1) := dk_42 (dk_at dksX4_today_0 5 rfl rfl)
theorem dX4_today_6 : decode cX4_today 6 = .ok (.getfield 9, 3) := dk_180 0 9 (dk_at dksX4_today_0 6 rfl rfl)
theorem dX4_today_9 : decode cX4_today 9 = .ok (.iconst 0, 1) := dk_3 (dk_at dksX4_today_0 9 rfl rfl)
theorem dX4_today_10 : decode cX4_today 10 = .ok (.iaload, 1) := dk_46 (dk_at dksX4_today_0 10 rfl rfl)
theorem dX4_today_11 : decode cX4_today 11 = .ok (.ireturn, 1) := dk_172 (dk_at dksX4_today_0 11 rfl rfl)
abbrev cX4_addTest : ByteArray := prog_10_method_10_code
def yX4_addTest : MethodName := ⟨RX4, "addTest", "(II)I"⟩
def dkwX4_addTest_8 : List UInt8 := [167, 255, 198, 29, 172]
abbrev dktX4_addTest_8 : List UInt8 := dkwX4_addTest_8 ++ []
def dkwX4_addTest_7 : List UInt8 := [182, 0, 66, 21, 6, 160, 0, 7, 3, 167, 0, 4, 4, 96, 62, 42, 25, 4, 181, 0, 9, 132, 5, 1]
abbrev dktX4_addTest_7 : List UInt8 := dkwX4_addTest_7 ++ dktX4_addTest_8
def dkwX4_addTest_6 : List UInt8 := [182, 0, 66, 54, 6, 42, 42, 180, 0, 15, 42, 180, 0, 35, 50, 181, 0, 9, 29, 42, 21, 5]
abbrev dktX4_addTest_6 : List UInt8 := dkwX4_addTest_6 ++ dktX4_addTest_7
def dkwX4_addTest_5 : List UInt8 := [79, 3, 62, 42, 180, 0, 9, 58, 4, 3, 54, 5, 21, 5, 25, 4, 5, 46, 162, 0, 55, 42, 21, 5]
abbrev dktX4_addTest_5 : List UInt8 := dkwX4_addTest_5 ++ dktX4_addTest_6
def dkwX4_addTest_4 : List UInt8 := [16, 20, 5, 42, 180, 0, 9, 6, 46, 104, 96, 4, 96, 28, 79, 42, 180, 0, 9, 6, 92, 46, 4, 96]
abbrev dktX4_addTest_4 : List UInt8 := dkwX4_addTest_4 ++ dktX4_addTest_5
def dkwX4_addTest_3 : List UInt8 := [182, 0, 55, 42, 180, 0, 9, 16, 20, 5, 42, 180, 0, 9, 6, 46, 104, 96, 27, 79, 42, 180, 0, 9]
abbrev dktX4_addTest_3 : List UInt8 := dkwX4_addTest_3 ++ dktX4_addTest_4
def dkwX4_addTest_2 : List UInt8 := [27, 182, 0, 62, 155, 0, 7, 4, 167, 0, 4, 3, 5, 182, 0, 51, 153, 0, 5, 3, 172, 42]
abbrev dktX4_addTest_2 : List UInt8 := dkwX4_addTest_2 ++ dktX4_addTest_3
def dkwX4_addTest_1 : List UInt8 := [167, 0, 4, 3, 4, 182, 0, 51, 154, 0, 35, 42, 42, 180, 0, 9, 6, 46, 16, 10, 159, 0, 11, 42]
abbrev dktX4_addTest_1 : List UInt8 := dkwX4_addTest_1 ++ dktX4_addTest_2
def dkwX4_addTest_0 : List UInt8 := [42, 42, 27, 182, 0, 58, 154, 0, 15, 28, 16, 50, 17, 1, 144, 184, 0, 47, 154, 0, 7, 4]
abbrev dktX4_addTest_0 : List UInt8 := dkwX4_addTest_0 ++ dktX4_addTest_1
theorem dksX4_addTest_0 : cX4_addTest.data.toList.drop 0 = dktX4_addTest_0 := by decide +kernel
theorem dksX4_addTest_1 : cX4_addTest.data.toList.drop 22 = dktX4_addTest_1 := dk_seg dksX4_addTest_0 22 rfl rfl
theorem dksX4_addTest_2 : cX4_addTest.data.toList.drop 46 = dktX4_addTest_2 := dk_seg dksX4_addTest_1 24 rfl rfl
theorem dksX4_addTest_3 : cX4_addTest.data.toList.drop 68 = dktX4_addTest_3 := dk_seg dksX4_addTest_2 22 rfl rfl
theorem dksX4_addTest_4 : cX4_addTest.data.toList.drop 92 = dktX4_addTest_4 := dk_seg dksX4_addTest_3 24 rfl rfl
theorem dksX4_addTest_5 : cX4_addTest.data.toList.drop 116 = dktX4_addTest_5 := dk_seg dksX4_addTest_4 24 rfl rfl
theorem dksX4_addTest_6 : cX4_addTest.data.toList.drop 140 = dktX4_addTest_6 := dk_seg dksX4_addTest_5 24 rfl rfl
theorem dksX4_addTest_7 : cX4_addTest.data.toList.drop 162 = dktX4_addTest_7 := dk_seg dksX4_addTest_6 22 rfl rfl
theorem dksX4_addTest_8 : cX4_addTest.data.toList.drop 186 = dktX4_addTest_8 := dk_seg dksX4_addTest_7 24 rfl rfl
theorem dX4_addTest_0 : decode cX4_addTest 0 = .ok (.aload_n 0, 1) := dk_42 (dk_at dksX4_addTest_0 0 rfl rfl)
theorem dX4_addTest_1 : decode cX4_addTest 1 = .ok (.aload_n 0, 1) := dk_42 (dk_at dksX4_addTest_0 1 rfl rfl)
theorem dX4_addTest_2 : decode cX4_addTest 2 = .ok (.iload_n 1, 1) := dk_27 (dk_at dksX4_addTest_0 2 rfl rfl)
theorem dX4_addTest_3 : decode cX4_addTest 3 = .ok (.invokevirtual 58, 3) := dk_182 0 58 (dk_at dksX4_addTest_0 3 rfl rfl)
theorem dX4_addTest_6 : decode cX4_addTest 6 = .ok (.ifCond .ne 15, 3) := dk_154 0 15 (dk_at dksX4_addTest_0 6 rfl rfl)
theorem dX4_addTest_9 : decode cX4_addTest 9 = .ok (.iload_n 2, 1) := dk_28 (dk_at dksX4_addTest_0 9 rfl rfl)
theorem dX4_addTest_10 : decode cX4_addTest 10 = .ok (.bipush 50, 2) := dk_16 50 (dk_at dksX4_addTest_0 10 rfl rfl)
theorem dX4_addTest_12 : decode cX4_addTest 12 = .ok (.sipush 400, 3) := dk_17 1 144 (dk_at dksX4_addTest_0 12 rfl rfl)
theorem dX4_addTest_15 : decode cX4_addTest 15 = .ok (.invokestatic 47, 3) := dk_184 0 47 (dk_at dksX4_addTest_0 15 rfl rfl)
theorem dX4_addTest_18 : decode cX4_addTest 18 = .ok (.ifCond .ne 7, 3) := dk_154 0 7 (dk_at dksX4_addTest_0 18 rfl rfl)
theorem dX4_addTest_21 : decode cX4_addTest 21 = .ok (.iconst 1, 1) := dk_4 (dk_at dksX4_addTest_0 21 rfl rfl)
theorem dX4_addTest_22 : decode cX4_addTest 22 = .ok (.goto 4, 3) := dk_167 0 4 (dk_at dksX4_addTest_1 0 rfl rfl)
theorem dX4_addTest_25 : decode cX4_addTest 25 = .ok (.iconst 0, 1) := dk_3 (dk_at dksX4_addTest_1 3 rfl rfl)
theorem dX4_addTest_26 : decode cX4_addTest 26 = .ok (.iconst 1, 1) := dk_4 (dk_at dksX4_addTest_1 4 rfl rfl)
theorem dX4_addTest_27 : decode cX4_addTest 27 = .ok (.invokevirtual 51, 3) := dk_182 0 51 (dk_at dksX4_addTest_1 5 rfl rfl)
theorem dX4_addTest_30 : decode cX4_addTest 30 = .ok (.ifCond .ne 35, 3) := dk_154 0 35 (dk_at dksX4_addTest_1 8 rfl rfl)
theorem dX4_addTest_33 : decode cX4_addTest 33 = .ok (.aload_n 0, 1) := dk_42 (dk_at dksX4_addTest_1 11 rfl rfl)
theorem dX4_addTest_34 : decode cX4_addTest 34 = .ok (.aload_n 0, 1) := dk_42 (dk_at dksX4_addTest_1 12 rfl rfl)
theorem dX4_addTest_35 : decode cX4_addTest 35 = .ok (.getfield 9, 3) := dk_180 0 9 (dk_at dksX4_addTest_1 13 rfl rfl)
theorem dX4_addTest_38 : decode cX4_addTest 38 = .ok (.iconst 3, 1) := dk_6 (dk_at dksX4_addTest_1 16 rfl rfl)
theorem dX4_addTest_39 : decode cX4_addTest 39 = .ok (.iaload, 1) := dk_46 (dk_at dksX4_addTest_1 17 rfl rfl)
theorem dX4_addTest_40 : decode cX4_addTest 40 = .ok (.bipush 10, 2) := dk_16 10 (dk_at dksX4_addTest_1 18 rfl rfl)
theorem dX4_addTest_42 : decode cX4_addTest 42 = .ok (.if_icmp .eq 11, 3) := dk_159 0 11 (dk_at dksX4_addTest_1 20 rfl rfl)
theorem dX4_addTest_45 : decode cX4_addTest 45 = .ok (.aload_n 0, 1) := dk_42 (dk_at dksX4_addTest_1 23 rfl rfl)
theorem dX4_addTest_46 : decode cX4_addTest 46 = .ok (.iload_n 1, 1) := dk_27 (dk_at dksX4_addTest_2 0 rfl rfl)
theorem dX4_addTest_47 : decode cX4_addTest 47 = .ok (.invokevirtual 62, 3) := dk_182 0 62 (dk_at dksX4_addTest_2 1 rfl rfl)
theorem dX4_addTest_50 : decode cX4_addTest 50 = .ok (.ifCond .lt 7, 3) := dk_155 0 7 (dk_at dksX4_addTest_2 4 rfl rfl)
theorem dX4_addTest_53 : decode cX4_addTest 53 = .ok (.iconst 1, 1) := dk_4 (dk_at dksX4_addTest_2 7 rfl rfl)
theorem dX4_addTest_54 : decode cX4_addTest 54 = .ok (.goto 4, 3) := dk_167 0 4 (dk_at dksX4_addTest_2 8 rfl rfl)
theorem dX4_addTest_57 : decode cX4_addTest 57 = .ok (.iconst 0, 1) := dk_3 (dk_at dksX4_addTest_2 11 rfl rfl)
theorem dX4_addTest_58 : decode cX4_addTest 58 = .ok (.iconst 2, 1) := dk_5 (dk_at dksX4_addTest_2 12 rfl rfl)
theorem dX4_addTest_59 : decode cX4_addTest 59 = .ok (.invokevirtual 51, 3) := dk_182 0 51 (dk_at dksX4_addTest_2 13 rfl rfl)
theorem dX4_addTest_62 : decode cX4_addTest 62 = .ok (.ifCond .eq 5, 3) := dk_153 0 5 (dk_at dksX4_addTest_2 16 rfl rfl)
theorem dX4_addTest_65 : decode cX4_addTest 65 = .ok (.iconst 0, 1) := dk_3 (dk_at dksX4_addTest_2 19 rfl rfl)
theorem dX4_addTest_66 : decode cX4_addTest 66 = .ok (.ireturn, 1) := dk_172 (dk_at dksX4_addTest_2 20 rfl rfl)
theorem dX4_addTest_67 : decode cX4_addTest 67 = .ok (.aload_n 0, 1) := dk_42 (dk_at dksX4_addTest_2 21 rfl rfl)
theorem dX4_addTest_68 : decode cX4_addTest 68 = .ok (.invokevirtual 55, 3) := dk_182 0 55 (dk_at dksX4_addTest_3 0 rfl rfl)
theorem dX4_addTest_71 : decode cX4_addTest 71 = .ok (.aload_n 0, 1) := dk_42 (dk_at dksX4_addTest_3 3 rfl rfl)
theorem dX4_addTest_72 : decode cX4_addTest 72 = .ok (.getfield 9, 3) := dk_180 0 9 (dk_at dksX4_addTest_3 4 rfl rfl)
theorem dX4_addTest_75 : decode cX4_addTest 75 = .ok (.bipush 20, 2) := dk_16 20 (dk_at dksX4_addTest_3 7 rfl rfl)
theorem dX4_addTest_77 : decode cX4_addTest 77 = .ok (.iconst 2, 1) := dk_5 (dk_at dksX4_addTest_3 9 rfl rfl)
theorem dX4_addTest_78 : decode cX4_addTest 78 = .ok (.aload_n 0, 1) := dk_42 (dk_at dksX4_addTest_3 10 rfl rfl)
theorem dX4_addTest_79 : decode cX4_addTest 79 = .ok (.getfield 9, 3) := dk_180 0 9 (dk_at dksX4_addTest_3 11 rfl rfl)
theorem dX4_addTest_82 : decode cX4_addTest 82 = .ok (.iconst 3, 1) := dk_6 (dk_at dksX4_addTest_3 14 rfl rfl)
theorem dX4_addTest_83 : decode cX4_addTest 83 = .ok (.iaload, 1) := dk_46 (dk_at dksX4_addTest_3 15 rfl rfl)
theorem dX4_addTest_84 : decode cX4_addTest 84 = .ok (.imul, 1) := dk_104 (dk_at dksX4_addTest_3 16 rfl rfl)
theorem dX4_addTest_85 : decode cX4_addTest 85 = .ok (.iadd, 1) := dk_96 (dk_at dksX4_addTest_3 17 rfl rfl)
theorem dX4_addTest_86 : decode cX4_addTest 86 = .ok (.iload_n 1, 1) := dk_27 (dk_at dksX4_addTest_3 18 rfl rfl)
theorem dX4_addTest_87 : decode cX4_addTest 87 = .ok (.iastore, 1) := dk_79 (dk_at dksX4_addTest_3 19 rfl rfl)
theorem dX4_addTest_88 : decode cX4_addTest 88 = .ok (.aload_n 0, 1) := dk_42 (dk_at dksX4_addTest_3 20 rfl rfl)
theorem dX4_addTest_89 : decode cX4_addTest 89 = .ok (.getfield 9, 3) := dk_180 0 9 (dk_at dksX4_addTest_3 21 rfl rfl)
theorem dX4_addTest_92 : decode cX4_addTest 92 = .ok (.bipush 20, 2) := dk_16 20 (dk_at dksX4_addTest_4 0 rfl rfl)
theorem dX4_addTest_94 : decode cX4_addTest 94 = .ok (.iconst 2, 1) := dk_5 (dk_at dksX4_addTest_4 2 rfl rfl)
theorem dX4_addTest_95 : decode cX4_addTest 95 = .ok (.aload_n 0, 1) := dk_42 (dk_at dksX4_addTest_4 3 rfl rfl)
theorem dX4_addTest_96 : decode cX4_addTest 96 = .ok (.getfield 9, 3) := dk_180 0 9 (dk_at dksX4_addTest_4 4 rfl rfl)
theorem dX4_addTest_99 : decode cX4_addTest 99 = .ok (.iconst 3, 1) := dk_6 (dk_at dksX4_addTest_4 7 rfl rfl)
theorem dX4_addTest_100 : decode cX4_addTest 100 = .ok (.iaload, 1) := dk_46 (dk_at dksX4_addTest_4 8 rfl rfl)
theorem dX4_addTest_101 : decode cX4_addTest 101 = .ok (.imul, 1) := dk_104 (dk_at dksX4_addTest_4 9 rfl rfl)
theorem dX4_addTest_102 : decode cX4_addTest 102 = .ok (.iadd, 1) := dk_96 (dk_at dksX4_addTest_4 10 rfl rfl)
theorem dX4_addTest_103 : decode cX4_addTest 103 = .ok (.iconst 1, 1) := dk_4 (dk_at dksX4_addTest_4 11 rfl rfl)
theorem dX4_addTest_104 : decode cX4_addTest 104 = .ok (.iadd, 1) := dk_96 (dk_at dksX4_addTest_4 12 rfl rfl)
theorem dX4_addTest_105 : decode cX4_addTest 105 = .ok (.iload_n 2, 1) := dk_28 (dk_at dksX4_addTest_4 13 rfl rfl)
theorem dX4_addTest_106 : decode cX4_addTest 106 = .ok (.iastore, 1) := dk_79 (dk_at dksX4_addTest_4 14 rfl rfl)
theorem dX4_addTest_107 : decode cX4_addTest 107 = .ok (.aload_n 0, 1) := dk_42 (dk_at dksX4_addTest_4 15 rfl rfl)
theorem dX4_addTest_108 : decode cX4_addTest 108 = .ok (.getfield 9, 3) := dk_180 0 9 (dk_at dksX4_addTest_4 16 rfl rfl)
theorem dX4_addTest_111 : decode cX4_addTest 111 = .ok (.iconst 3, 1) := dk_6 (dk_at dksX4_addTest_4 19 rfl rfl)
theorem dX4_addTest_112 : decode cX4_addTest 112 = .ok (.dup2, 1) := dk_92 (dk_at dksX4_addTest_4 20 rfl rfl)
theorem dX4_addTest_113 : decode cX4_addTest 113 = .ok (.iaload, 1) := dk_46 (dk_at dksX4_addTest_4 21 rfl rfl)
theorem dX4_addTest_114 : decode cX4_addTest 114 = .ok (.iconst 1, 1) := dk_4 (dk_at dksX4_addTest_4 22 rfl rfl)
theorem dX4_addTest_115 : decode cX4_addTest 115 = .ok (.iadd, 1) := dk_96 (dk_at dksX4_addTest_4 23 rfl rfl)
theorem dX4_addTest_116 : decode cX4_addTest 116 = .ok (.iastore, 1) := dk_79 (dk_at dksX4_addTest_5 0 rfl rfl)
theorem dX4_addTest_117 : decode cX4_addTest 117 = .ok (.iconst 0, 1) := dk_3 (dk_at dksX4_addTest_5 1 rfl rfl)
theorem dX4_addTest_118 : decode cX4_addTest 118 = .ok (.istore_n 3, 1) := dk_62 (dk_at dksX4_addTest_5 2 rfl rfl)
theorem dX4_addTest_119 : decode cX4_addTest 119 = .ok (.aload_n 0, 1) := dk_42 (dk_at dksX4_addTest_5 3 rfl rfl)
theorem dX4_addTest_120 : decode cX4_addTest 120 = .ok (.getfield 9, 3) := dk_180 0 9 (dk_at dksX4_addTest_5 4 rfl rfl)
theorem dX4_addTest_123 : decode cX4_addTest 123 = .ok (.astore 4, 2) := dk_58 4 (dk_at dksX4_addTest_5 7 rfl rfl)
theorem dX4_addTest_125 : decode cX4_addTest 125 = .ok (.iconst 0, 1) := dk_3 (dk_at dksX4_addTest_5 9 rfl rfl)
theorem dX4_addTest_126 : decode cX4_addTest 126 = .ok (.istore 5, 2) := dk_54 5 (dk_at dksX4_addTest_5 10 rfl rfl)
theorem dX4_addTest_128 : decode cX4_addTest 128 = .ok (.iload 5, 2) := dk_21 5 (dk_at dksX4_addTest_5 12 rfl rfl)
theorem dX4_addTest_130 : decode cX4_addTest 130 = .ok (.aload 4, 2) := dk_25 4 (dk_at dksX4_addTest_5 14 rfl rfl)
theorem dX4_addTest_132 : decode cX4_addTest 132 = .ok (.iconst 2, 1) := dk_5 (dk_at dksX4_addTest_5 16 rfl rfl)
theorem dX4_addTest_133 : decode cX4_addTest 133 = .ok (.iaload, 1) := dk_46 (dk_at dksX4_addTest_5 17 rfl rfl)
theorem dX4_addTest_134 : decode cX4_addTest 134 = .ok (.if_icmp .ge 55, 3) := dk_162 0 55 (dk_at dksX4_addTest_5 18 rfl rfl)
theorem dX4_addTest_137 : decode cX4_addTest 137 = .ok (.aload_n 0, 1) := dk_42 (dk_at dksX4_addTest_5 21 rfl rfl)
theorem dX4_addTest_138 : decode cX4_addTest 138 = .ok (.iload 5, 2) := dk_21 5 (dk_at dksX4_addTest_5 22 rfl rfl)
theorem dX4_addTest_140 : decode cX4_addTest 140 = .ok (.invokevirtual 66, 3) := dk_182 0 66 (dk_at dksX4_addTest_6 0 rfl rfl)
theorem dX4_addTest_143 : decode cX4_addTest 143 = .ok (.istore 6, 2) := dk_54 6 (dk_at dksX4_addTest_6 3 rfl rfl)
theorem dX4_addTest_145 : decode cX4_addTest 145 = .ok (.aload_n 0, 1) := dk_42 (dk_at dksX4_addTest_6 5 rfl rfl)
theorem dX4_addTest_146 : decode cX4_addTest 146 = .ok (.aload_n 0, 1) := dk_42 (dk_at dksX4_addTest_6 6 rfl rfl)
theorem dX4_addTest_147 : decode cX4_addTest 147 = .ok (.getfield 15, 3) := dk_180 0 15 (dk_at dksX4_addTest_6 7 rfl rfl)
theorem dX4_addTest_150 : decode cX4_addTest 150 = .ok (.aload_n 0, 1) := dk_42 (dk_at dksX4_addTest_6 10 rfl rfl)
theorem dX4_addTest_151 : decode cX4_addTest 151 = .ok (.getfield 35, 3) := dk_180 0 35 (dk_at dksX4_addTest_6 11 rfl rfl)
theorem dX4_addTest_154 : decode cX4_addTest 154 = .ok (.aaload, 1) := dk_50 (dk_at dksX4_addTest_6 14 rfl rfl)
theorem dX4_addTest_155 : decode cX4_addTest 155 = .ok (.putfield 9, 3) := dk_181 0 9 (dk_at dksX4_addTest_6 15 rfl rfl)
theorem dX4_addTest_158 : decode cX4_addTest 158 = .ok (.iload_n 3, 1) := dk_29 (dk_at dksX4_addTest_6 18 rfl rfl)
theorem dX4_addTest_159 : decode cX4_addTest 159 = .ok (.aload_n 0, 1) := dk_42 (dk_at dksX4_addTest_6 19 rfl rfl)
theorem dX4_addTest_160 : decode cX4_addTest 160 = .ok (.iload 5, 2) := dk_21 5 (dk_at dksX4_addTest_6 20 rfl rfl)
theorem dX4_addTest_162 : decode cX4_addTest 162 = .ok (.invokevirtual 66, 3) := dk_182 0 66 (dk_at dksX4_addTest_7 0 rfl rfl)
theorem dX4_addTest_165 : decode cX4_addTest 165 = .ok (.iload 6, 2) := dk_21 6 (dk_at dksX4_addTest_7 3 rfl rfl)
theorem dX4_addTest_167 : decode cX4_addTest 167 = .ok (.if_icmp .ne 7, 3) := dk_160 0 7 (dk_at dksX4_addTest_7 5 rfl rfl)
theorem dX4_addTest_170 : decode cX4_addTest 170 = .ok (.iconst 0, 1) := dk_3 (dk_at dksX4_addTest_7 8 rfl rfl)
theorem dX4_addTest_171 : decode cX4_addTest 171 = .ok (.goto 4, 3) := dk_167 0 4 (dk_at dksX4_addTest_7 9 rfl rfl)
theorem dX4_addTest_174 : decode cX4_addTest 174 = .ok (.iconst 1, 1) := dk_4 (dk_at dksX4_addTest_7 12 rfl rfl)
theorem dX4_addTest_175 : decode cX4_addTest 175 = .ok (.iadd, 1) := dk_96 (dk_at dksX4_addTest_7 13 rfl rfl)
theorem dX4_addTest_176 : decode cX4_addTest 176 = .ok (.istore_n 3, 1) := dk_62 (dk_at dksX4_addTest_7 14 rfl rfl)
theorem dX4_addTest_177 : decode cX4_addTest 177 = .ok (.aload_n 0, 1) := dk_42 (dk_at dksX4_addTest_7 15 rfl rfl)
theorem dX4_addTest_178 : decode cX4_addTest 178 = .ok (.aload 4, 2) := dk_25 4 (dk_at dksX4_addTest_7 16 rfl rfl)
theorem dX4_addTest_180 : decode cX4_addTest 180 = .ok (.putfield 9, 3) := dk_181 0 9 (dk_at dksX4_addTest_7 18 rfl rfl)
theorem dX4_addTest_183 : decode cX4_addTest 183 = .ok (.iinc 5 1, 3) := dk_132 5 1 (dk_at dksX4_addTest_7 21 rfl rfl)
theorem dX4_addTest_186 : decode cX4_addTest 186 = .ok (.goto (-58), 3) := dk_167 255 198 (dk_at dksX4_addTest_8 0 rfl rfl)
theorem dX4_addTest_189 : decode cX4_addTest 189 = .ok (.iload_n 3, 1) := dk_29 (dk_at dksX4_addTest_8 3 rfl rfl)
theorem dX4_addTest_190 : decode cX4_addTest 190 = .ok (.ireturn, 1) := dk_172 (dk_at dksX4_addTest_8 4 rfl rfl)
abbrev cX4_isNoDay : ByteArray := prog_10_method_6_code
def yX4_isNoDay : MethodName := ⟨RX4, "isNoDay", "(I)Z"⟩
def dkwX4_isNoDay_0 : List UInt8 := [27, 3, 42, 180, 0, 9, 3, 46, 184, 0, 47, 154, 0, 7, 4, 167, 0, 4, 3, 172]
abbrev dktX4_isNoDay_0 : List UInt8 := dkwX4_isNoDay_0 ++ []
theorem dksX4_isNoDay_0 : cX4_isNoDay.data.toList.drop 0 = dktX4_isNoDay_0 := by decide +kernel
theorem dX4_isNoDay_0 : decode cX4_isNoDay 0 = .ok (.iload_n 1, 1) := dk_27 (dk_at dksX4_isNoDay_0 0 rfl rfl)
theorem dX4_isNoDay_1 : decode cX4_isNoDay 1 = .ok (.iconst 0, 1) := dk_3 (dk_at dksX4_isNoDay_0 1 rfl rfl)
theorem dX4_isNoDay_2 : decode cX4_isNoDay 2 = .ok (.aload_n 0, 1) := dk_42 (dk_at dksX4_isNoDay_0 2 rfl rfl)
theorem dX4_isNoDay_3 : decode cX4_isNoDay 3 = .ok (.getfield 9, 3) := dk_180 0 9 (dk_at dksX4_isNoDay_0 3 rfl rfl)
theorem dX4_isNoDay_6 : decode cX4_isNoDay 6 = .ok (.iconst 0, 1) := dk_3 (dk_at dksX4_isNoDay_0 6 rfl rfl)
theorem dX4_isNoDay_7 : decode cX4_isNoDay 7 = .ok (.iaload, 1) := dk_46 (dk_at dksX4_isNoDay_0 7 rfl rfl)
theorem dX4_isNoDay_8 : decode cX4_isNoDay 8 = .ok (.invokestatic 47, 3) := dk_184 0 47 (dk_at dksX4_isNoDay_0 8 rfl rfl)
theorem dX4_isNoDay_11 : decode cX4_isNoDay 11 = .ok (.ifCond .ne 7, 3) := dk_154 0 7 (dk_at dksX4_isNoDay_0 11 rfl rfl)
theorem dX4_isNoDay_14 : decode cX4_isNoDay 14 = .ok (.iconst 1, 1) := dk_4 (dk_at dksX4_isNoDay_0 14 rfl rfl)
theorem dX4_isNoDay_15 : decode cX4_isNoDay 15 = .ok (.goto 4, 3) := dk_167 0 4 (dk_at dksX4_isNoDay_0 15 rfl rfl)
theorem dX4_isNoDay_18 : decode cX4_isNoDay 18 = .ok (.iconst 0, 1) := dk_3 (dk_at dksX4_isNoDay_0 18 rfl rfl)
theorem dX4_isNoDay_19 : decode cX4_isNoDay 19 = .ok (.ireturn, 1) := dk_172 (dk_at dksX4_isNoDay_0 19 rfl rfl)
abbrev cX4_testOn : ByteArray := prog_10_method_9_code
def yX4_testOn : MethodName := ⟨RX4, "testOn", "(I)I"⟩
def dkwX4_testOn_1 : List UInt8 := [46, 27, 160, 0, 7, 29, 167, 0, 4, 28, 61, 132, 3, 1, 167, 255, 222, 28, 172]
abbrev dktX4_testOn_1 : List UInt8 := dkwX4_testOn_1 ++ []
def dkwX4_testOn_0 : List UInt8 := [2, 61, 3, 62, 29, 42, 180, 0, 9, 6, 46, 162, 0, 30, 42, 180, 0, 9, 16, 20, 5, 29, 104, 96]
abbrev dktX4_testOn_0 : List UInt8 := dkwX4_testOn_0 ++ dktX4_testOn_1
theorem dksX4_testOn_0 : cX4_testOn.data.toList.drop 0 = dktX4_testOn_0 := by decide +kernel
theorem dksX4_testOn_1 : cX4_testOn.data.toList.drop 24 = dktX4_testOn_1 := dk_seg dksX4_testOn_0 24 rfl rfl
theorem dX4_testOn_0 : decode cX4_testOn 0 = .ok (.iconst (-1), 1) := dk_2 (dk_at dksX4_testOn_0 0 rfl rfl)
theorem dX4_testOn_1 : decode cX4_testOn 1 = .ok (.istore_n 2, 1) := dk_61 (dk_at dksX4_testOn_0 1 rfl rfl)
theorem dX4_testOn_2 : decode cX4_testOn 2 = .ok (.iconst 0, 1) := dk_3 (dk_at dksX4_testOn_0 2 rfl rfl)
theorem dX4_testOn_3 : decode cX4_testOn 3 = .ok (.istore_n 3, 1) := dk_62 (dk_at dksX4_testOn_0 3 rfl rfl)
theorem dX4_testOn_4 : decode cX4_testOn 4 = .ok (.iload_n 3, 1) := dk_29 (dk_at dksX4_testOn_0 4 rfl rfl)
theorem dX4_testOn_5 : decode cX4_testOn 5 = .ok (.aload_n 0, 1) := dk_42 (dk_at dksX4_testOn_0 5 rfl rfl)
theorem dX4_testOn_6 : decode cX4_testOn 6 = .ok (.getfield 9, 3) := dk_180 0 9 (dk_at dksX4_testOn_0 6 rfl rfl)
theorem dX4_testOn_9 : decode cX4_testOn 9 = .ok (.iconst 3, 1) := dk_6 (dk_at dksX4_testOn_0 9 rfl rfl)
theorem dX4_testOn_10 : decode cX4_testOn 10 = .ok (.iaload, 1) := dk_46 (dk_at dksX4_testOn_0 10 rfl rfl)
theorem dX4_testOn_11 : decode cX4_testOn 11 = .ok (.if_icmp .ge 30, 3) := dk_162 0 30 (dk_at dksX4_testOn_0 11 rfl rfl)
theorem dX4_testOn_14 : decode cX4_testOn 14 = .ok (.aload_n 0, 1) := dk_42 (dk_at dksX4_testOn_0 14 rfl rfl)
theorem dX4_testOn_15 : decode cX4_testOn 15 = .ok (.getfield 9, 3) := dk_180 0 9 (dk_at dksX4_testOn_0 15 rfl rfl)
theorem dX4_testOn_18 : decode cX4_testOn 18 = .ok (.bipush 20, 2) := dk_16 20 (dk_at dksX4_testOn_0 18 rfl rfl)
theorem dX4_testOn_20 : decode cX4_testOn 20 = .ok (.iconst 2, 1) := dk_5 (dk_at dksX4_testOn_0 20 rfl rfl)
theorem dX4_testOn_21 : decode cX4_testOn 21 = .ok (.iload_n 3, 1) := dk_29 (dk_at dksX4_testOn_0 21 rfl rfl)
theorem dX4_testOn_22 : decode cX4_testOn 22 = .ok (.imul, 1) := dk_104 (dk_at dksX4_testOn_0 22 rfl rfl)
theorem dX4_testOn_23 : decode cX4_testOn 23 = .ok (.iadd, 1) := dk_96 (dk_at dksX4_testOn_0 23 rfl rfl)
theorem dX4_testOn_24 : decode cX4_testOn 24 = .ok (.iaload, 1) := dk_46 (dk_at dksX4_testOn_1 0 rfl rfl)
theorem dX4_testOn_25 : decode cX4_testOn 25 = .ok (.iload_n 1, 1) := dk_27 (dk_at dksX4_testOn_1 1 rfl rfl)
theorem dX4_testOn_26 : decode cX4_testOn 26 = .ok (.if_icmp .ne 7, 3) := dk_160 0 7 (dk_at dksX4_testOn_1 2 rfl rfl)
theorem dX4_testOn_29 : decode cX4_testOn 29 = .ok (.iload_n 3, 1) := dk_29 (dk_at dksX4_testOn_1 5 rfl rfl)
theorem dX4_testOn_30 : decode cX4_testOn 30 = .ok (.goto 4, 3) := dk_167 0 4 (dk_at dksX4_testOn_1 6 rfl rfl)
theorem dX4_testOn_33 : decode cX4_testOn 33 = .ok (.iload_n 2, 1) := dk_28 (dk_at dksX4_testOn_1 9 rfl rfl)
theorem dX4_testOn_34 : decode cX4_testOn 34 = .ok (.istore_n 2, 1) := dk_61 (dk_at dksX4_testOn_1 10 rfl rfl)
theorem dX4_testOn_35 : decode cX4_testOn 35 = .ok (.iinc 3 1, 3) := dk_132 3 1 (dk_at dksX4_testOn_1 11 rfl rfl)
theorem dX4_testOn_38 : decode cX4_testOn 38 = .ok (.goto (-34), 3) := dk_167 255 222 (dk_at dksX4_testOn_1 14 rfl rfl)
theorem dX4_testOn_41 : decode cX4_testOn 41 = .ok (.iload_n 2, 1) := dk_28 (dk_at dksX4_testOn_1 17 rfl rfl)
theorem dX4_testOn_42 : decode cX4_testOn 42 = .ok (.ireturn, 1) := dk_172 (dk_at dksX4_testOn_1 18 rfl rfl)
abbrev cX4_loadAt : ByteArray := prog_10_method_26_code
def yX4_loadAt : MethodName := ⟨RX4, "loadAt", "(I)I"⟩
def dkwX4_loadAt_1 : List UInt8 := [46, 42, 180, 0, 9, 16, 14, 29, 96, 46, 104, 96, 61, 132, 3, 1, 167, 255, 229, 28, 172]
abbrev dktX4_loadAt_1 : List UInt8 := dkwX4_loadAt_1 ++ []
def dkwX4_loadAt_0 : List UInt8 := [42, 182, 0, 78, 42, 27, 182, 0, 81, 3, 61, 4, 62, 29, 8, 163, 0, 28, 28, 42, 180, 0, 24, 29]
abbrev dktX4_loadAt_0 : List UInt8 := dkwX4_loadAt_0 ++ dktX4_loadAt_1
theorem dksX4_loadAt_0 : cX4_loadAt.data.toList.drop 0 = dktX4_loadAt_0 := by decide +kernel
theorem dksX4_loadAt_1 : cX4_loadAt.data.toList.drop 24 = dktX4_loadAt_1 := dk_seg dksX4_loadAt_0 24 rfl rfl
theorem dX4_loadAt_0 : decode cX4_loadAt 0 = .ok (.aload_n 0, 1) := dk_42 (dk_at dksX4_loadAt_0 0 rfl rfl)
theorem dX4_loadAt_1 : decode cX4_loadAt 1 = .ok (.invokevirtual 78, 3) := dk_182 0 78 (dk_at dksX4_loadAt_0 1 rfl rfl)
theorem dX4_loadAt_4 : decode cX4_loadAt 4 = .ok (.aload_n 0, 1) := dk_42 (dk_at dksX4_loadAt_0 4 rfl rfl)
theorem dX4_loadAt_5 : decode cX4_loadAt 5 = .ok (.iload_n 1, 1) := dk_27 (dk_at dksX4_loadAt_0 5 rfl rfl)
theorem dX4_loadAt_6 : decode cX4_loadAt 6 = .ok (.invokevirtual 81, 3) := dk_182 0 81 (dk_at dksX4_loadAt_0 6 rfl rfl)
theorem dX4_loadAt_9 : decode cX4_loadAt 9 = .ok (.iconst 0, 1) := dk_3 (dk_at dksX4_loadAt_0 9 rfl rfl)
theorem dX4_loadAt_10 : decode cX4_loadAt 10 = .ok (.istore_n 2, 1) := dk_61 (dk_at dksX4_loadAt_0 10 rfl rfl)
theorem dX4_loadAt_11 : decode cX4_loadAt 11 = .ok (.iconst 1, 1) := dk_4 (dk_at dksX4_loadAt_0 11 rfl rfl)
theorem dX4_loadAt_12 : decode cX4_loadAt 12 = .ok (.istore_n 3, 1) := dk_62 (dk_at dksX4_loadAt_0 12 rfl rfl)
theorem dX4_loadAt_13 : decode cX4_loadAt 13 = .ok (.iload_n 3, 1) := dk_29 (dk_at dksX4_loadAt_0 13 rfl rfl)
theorem dX4_loadAt_14 : decode cX4_loadAt 14 = .ok (.iconst 5, 1) := dk_8 (dk_at dksX4_loadAt_0 14 rfl rfl)
theorem dX4_loadAt_15 : decode cX4_loadAt 15 = .ok (.if_icmp .gt 28, 3) := dk_163 0 28 (dk_at dksX4_loadAt_0 15 rfl rfl)
theorem dX4_loadAt_18 : decode cX4_loadAt 18 = .ok (.iload_n 2, 1) := dk_28 (dk_at dksX4_loadAt_0 18 rfl rfl)
theorem dX4_loadAt_19 : decode cX4_loadAt 19 = .ok (.aload_n 0, 1) := dk_42 (dk_at dksX4_loadAt_0 19 rfl rfl)
theorem dX4_loadAt_20 : decode cX4_loadAt 20 = .ok (.getfield 24, 3) := dk_180 0 24 (dk_at dksX4_loadAt_0 20 rfl rfl)
theorem dX4_loadAt_23 : decode cX4_loadAt 23 = .ok (.iload_n 3, 1) := dk_29 (dk_at dksX4_loadAt_0 23 rfl rfl)
theorem dX4_loadAt_24 : decode cX4_loadAt 24 = .ok (.iaload, 1) := dk_46 (dk_at dksX4_loadAt_1 0 rfl rfl)
theorem dX4_loadAt_25 : decode cX4_loadAt 25 = .ok (.aload_n 0, 1) := dk_42 (dk_at dksX4_loadAt_1 1 rfl rfl)
theorem dX4_loadAt_26 : decode cX4_loadAt 26 = .ok (.getfield 9, 3) := dk_180 0 9 (dk_at dksX4_loadAt_1 2 rfl rfl)
theorem dX4_loadAt_29 : decode cX4_loadAt 29 = .ok (.bipush 14, 2) := dk_16 14 (dk_at dksX4_loadAt_1 5 rfl rfl)
theorem dX4_loadAt_31 : decode cX4_loadAt 31 = .ok (.iload_n 3, 1) := dk_29 (dk_at dksX4_loadAt_1 7 rfl rfl)
theorem dX4_loadAt_32 : decode cX4_loadAt 32 = .ok (.iadd, 1) := dk_96 (dk_at dksX4_loadAt_1 8 rfl rfl)
theorem dX4_loadAt_33 : decode cX4_loadAt 33 = .ok (.iaload, 1) := dk_46 (dk_at dksX4_loadAt_1 9 rfl rfl)
theorem dX4_loadAt_34 : decode cX4_loadAt 34 = .ok (.imul, 1) := dk_104 (dk_at dksX4_loadAt_1 10 rfl rfl)
theorem dX4_loadAt_35 : decode cX4_loadAt 35 = .ok (.iadd, 1) := dk_96 (dk_at dksX4_loadAt_1 11 rfl rfl)
theorem dX4_loadAt_36 : decode cX4_loadAt 36 = .ok (.istore_n 2, 1) := dk_61 (dk_at dksX4_loadAt_1 12 rfl rfl)
theorem dX4_loadAt_37 : decode cX4_loadAt 37 = .ok (.iinc 3 1, 3) := dk_132 3 1 (dk_at dksX4_loadAt_1 13 rfl rfl)
theorem dX4_loadAt_40 : decode cX4_loadAt 40 = .ok (.goto (-27), 3) := dk_167 255 229 (dk_at dksX4_loadAt_1 16 rfl rfl)
theorem dX4_loadAt_43 : decode cX4_loadAt 43 = .ok (.iload_n 2, 1) := dk_28 (dk_at dksX4_loadAt_1 19 rfl rfl)
theorem dX4_loadAt_44 : decode cX4_loadAt 44 = .ok (.ireturn, 1) := dk_172 (dk_at dksX4_loadAt_1 20 rfl rfl)
abbrev cX4_noZones : ByteArray := prog_10_method_25_code
def yX4_noZones : MethodName := ⟨RX4, "noZones", "()V"⟩
def dkwX4_noZones_0 : List UInt8 := [3, 60, 27, 16, 6, 162, 0, 16, 42, 180, 0, 24, 27, 3, 79, 132, 1, 1, 167, 255, 240, 177]
abbrev dktX4_noZones_0 : List UInt8 := dkwX4_noZones_0 ++ []
theorem dksX4_noZones_0 : cX4_noZones.data.toList.drop 0 = dktX4_noZones_0 := by decide +kernel
theorem dX4_noZones_0 : decode cX4_noZones 0 = .ok (.iconst 0, 1) := dk_3 (dk_at dksX4_noZones_0 0 rfl rfl)
theorem dX4_noZones_1 : decode cX4_noZones 1 = .ok (.istore_n 1, 1) := dk_60 (dk_at dksX4_noZones_0 1 rfl rfl)
theorem dX4_noZones_2 : decode cX4_noZones 2 = .ok (.iload_n 1, 1) := dk_27 (dk_at dksX4_noZones_0 2 rfl rfl)
theorem dX4_noZones_3 : decode cX4_noZones 3 = .ok (.bipush 6, 2) := dk_16 6 (dk_at dksX4_noZones_0 3 rfl rfl)
theorem dX4_noZones_5 : decode cX4_noZones 5 = .ok (.if_icmp .ge 16, 3) := dk_162 0 16 (dk_at dksX4_noZones_0 5 rfl rfl)
theorem dX4_noZones_8 : decode cX4_noZones 8 = .ok (.aload_n 0, 1) := dk_42 (dk_at dksX4_noZones_0 8 rfl rfl)
theorem dX4_noZones_9 : decode cX4_noZones 9 = .ok (.getfield 24, 3) := dk_180 0 24 (dk_at dksX4_noZones_0 9 rfl rfl)
theorem dX4_noZones_12 : decode cX4_noZones 12 = .ok (.iload_n 1, 1) := dk_27 (dk_at dksX4_noZones_0 12 rfl rfl)
theorem dX4_noZones_13 : decode cX4_noZones 13 = .ok (.iconst 0, 1) := dk_3 (dk_at dksX4_noZones_0 13 rfl rfl)
theorem dX4_noZones_14 : decode cX4_noZones 14 = .ok (.iastore, 1) := dk_79 (dk_at dksX4_noZones_0 14 rfl rfl)
theorem dX4_noZones_15 : decode cX4_noZones 15 = .ok (.iinc 1 1, 3) := dk_132 1 1 (dk_at dksX4_noZones_0 15 rfl rfl)
theorem dX4_noZones_18 : decode cX4_noZones 18 = .ok (.goto (-16), 3) := dk_167 255 240 (dk_at dksX4_noZones_0 18 rfl rfl)
theorem dX4_noZones_21 : decode cX4_noZones 21 = .ok (.return_, 1) := dk_177 (dk_at dksX4_noZones_0 21 rfl rfl)
abbrev cX4_zones : ByteArray := prog_10_method_24_code
def yX4_zones : MethodName := ⟨RX4, "zones", "(I)V"⟩
def dkwX4_zones_3 : List UInt8 := [79, 132, 2, 1, 167, 255, 182, 177]
abbrev dktX4_zones_3 : List UInt8 := dkwX4_zones_3 ++ []
def dkwX4_zones_2 : List UInt8 := [96, 28, 96, 46, 182, 0, 72, 92, 46, 42, 180, 0, 9, 42, 27, 182, 0, 75, 6, 96, 28, 96, 46, 96]
abbrev dktX4_zones_2 : List UInt8 := dkwX4_zones_2 ++ dktX4_zones_3
def dkwX4_zones_1 : List UInt8 := [180, 0, 9, 42, 27, 182, 0, 75, 4, 96, 46, 42, 180, 0, 9, 42, 27, 182, 0, 75, 6, 96, 16, 8]
abbrev dktX4_zones_1 : List UInt8 := dkwX4_zones_1 ++ dktX4_zones_2
def dkwX4_zones_0 : List UInt8 := [3, 61, 28, 42, 180, 0, 9, 42, 27, 182, 0, 75, 5, 96, 46, 162, 0, 64, 42, 180, 0, 24, 42, 42]
abbrev dktX4_zones_0 : List UInt8 := dkwX4_zones_0 ++ dktX4_zones_1
theorem dksX4_zones_0 : cX4_zones.data.toList.drop 0 = dktX4_zones_0 := by decide +kernel
theorem dksX4_zones_1 : cX4_zones.data.toList.drop 24 = dktX4_zones_1 := dk_seg dksX4_zones_0 24 rfl rfl
theorem dksX4_zones_2 : cX4_zones.data.toList.drop 48 = dktX4_zones_2 := dk_seg dksX4_zones_1 24 rfl rfl
theorem dksX4_zones_3 : cX4_zones.data.toList.drop 72 = dktX4_zones_3 := dk_seg dksX4_zones_2 24 rfl rfl
theorem dX4_zones_0 : decode cX4_zones 0 = .ok (.iconst 0, 1) := dk_3 (dk_at dksX4_zones_0 0 rfl rfl)
theorem dX4_zones_1 : decode cX4_zones 1 = .ok (.istore_n 2, 1) := dk_61 (dk_at dksX4_zones_0 1 rfl rfl)
theorem dX4_zones_2 : decode cX4_zones 2 = .ok (.iload_n 2, 1) := dk_28 (dk_at dksX4_zones_0 2 rfl rfl)
theorem dX4_zones_3 : decode cX4_zones 3 = .ok (.aload_n 0, 1) := dk_42 (dk_at dksX4_zones_0 3 rfl rfl)
theorem dX4_zones_4 : decode cX4_zones 4 = .ok (.getfield 9, 3) := dk_180 0 9 (dk_at dksX4_zones_0 4 rfl rfl)
theorem dX4_zones_7 : decode cX4_zones 7 = .ok (.aload_n 0, 1) := dk_42 (dk_at dksX4_zones_0 7 rfl rfl)
theorem dX4_zones_8 : decode cX4_zones 8 = .ok (.iload_n 1, 1) := dk_27 (dk_at dksX4_zones_0 8 rfl rfl)
theorem dX4_zones_9 : decode cX4_zones 9 = .ok (.invokevirtual 75, 3) := dk_182 0 75 (dk_at dksX4_zones_0 9 rfl rfl)
theorem dX4_zones_12 : decode cX4_zones 12 = .ok (.iconst 2, 1) := dk_5 (dk_at dksX4_zones_0 12 rfl rfl)
theorem dX4_zones_13 : decode cX4_zones 13 = .ok (.iadd, 1) := dk_96 (dk_at dksX4_zones_0 13 rfl rfl)
theorem dX4_zones_14 : decode cX4_zones 14 = .ok (.iaload, 1) := dk_46 (dk_at dksX4_zones_0 14 rfl rfl)
theorem dX4_zones_15 : decode cX4_zones 15 = .ok (.if_icmp .ge 64, 3) := dk_162 0 64 (dk_at dksX4_zones_0 15 rfl rfl)
theorem dX4_zones_18 : decode cX4_zones 18 = .ok (.aload_n 0, 1) := dk_42 (dk_at dksX4_zones_0 18 rfl rfl)
theorem dX4_zones_19 : decode cX4_zones 19 = .ok (.getfield 24, 3) := dk_180 0 24 (dk_at dksX4_zones_0 19 rfl rfl)
theorem dX4_zones_22 : decode cX4_zones 22 = .ok (.aload_n 0, 1) := dk_42 (dk_at dksX4_zones_0 22 rfl rfl)
theorem dX4_zones_23 : decode cX4_zones 23 = .ok (.aload_n 0, 1) := dk_42 (dk_at dksX4_zones_0 23 rfl rfl)
theorem dX4_zones_24 : decode cX4_zones 24 = .ok (.getfield 9, 3) := dk_180 0 9 (dk_at dksX4_zones_1 0 rfl rfl)
theorem dX4_zones_27 : decode cX4_zones 27 = .ok (.aload_n 0, 1) := dk_42 (dk_at dksX4_zones_1 3 rfl rfl)
theorem dX4_zones_28 : decode cX4_zones 28 = .ok (.iload_n 1, 1) := dk_27 (dk_at dksX4_zones_1 4 rfl rfl)
theorem dX4_zones_29 : decode cX4_zones 29 = .ok (.invokevirtual 75, 3) := dk_182 0 75 (dk_at dksX4_zones_1 5 rfl rfl)
theorem dX4_zones_32 : decode cX4_zones 32 = .ok (.iconst 1, 1) := dk_4 (dk_at dksX4_zones_1 8 rfl rfl)
theorem dX4_zones_33 : decode cX4_zones 33 = .ok (.iadd, 1) := dk_96 (dk_at dksX4_zones_1 9 rfl rfl)
theorem dX4_zones_34 : decode cX4_zones 34 = .ok (.iaload, 1) := dk_46 (dk_at dksX4_zones_1 10 rfl rfl)
theorem dX4_zones_35 : decode cX4_zones 35 = .ok (.aload_n 0, 1) := dk_42 (dk_at dksX4_zones_1 11 rfl rfl)
theorem dX4_zones_36 : decode cX4_zones 36 = .ok (.getfield 9, 3) := dk_180 0 9 (dk_at dksX4_zones_1 12 rfl rfl)
theorem dX4_zones_39 : decode cX4_zones 39 = .ok (.aload_n 0, 1) := dk_42 (dk_at dksX4_zones_1 15 rfl rfl)
theorem dX4_zones_40 : decode cX4_zones 40 = .ok (.iload_n 1, 1) := dk_27 (dk_at dksX4_zones_1 16 rfl rfl)
theorem dX4_zones_41 : decode cX4_zones 41 = .ok (.invokevirtual 75, 3) := dk_182 0 75 (dk_at dksX4_zones_1 17 rfl rfl)
theorem dX4_zones_44 : decode cX4_zones 44 = .ok (.iconst 3, 1) := dk_6 (dk_at dksX4_zones_1 20 rfl rfl)
theorem dX4_zones_45 : decode cX4_zones 45 = .ok (.iadd, 1) := dk_96 (dk_at dksX4_zones_1 21 rfl rfl)
theorem dX4_zones_46 : decode cX4_zones 46 = .ok (.bipush 8, 2) := dk_16 8 (dk_at dksX4_zones_1 22 rfl rfl)
theorem dX4_zones_48 : decode cX4_zones 48 = .ok (.iadd, 1) := dk_96 (dk_at dksX4_zones_2 0 rfl rfl)
theorem dX4_zones_49 : decode cX4_zones 49 = .ok (.iload_n 2, 1) := dk_28 (dk_at dksX4_zones_2 1 rfl rfl)
theorem dX4_zones_50 : decode cX4_zones 50 = .ok (.iadd, 1) := dk_96 (dk_at dksX4_zones_2 2 rfl rfl)
theorem dX4_zones_51 : decode cX4_zones 51 = .ok (.iaload, 1) := dk_46 (dk_at dksX4_zones_2 3 rfl rfl)
theorem dX4_zones_52 : decode cX4_zones 52 = .ok (.invokevirtual 72, 3) := dk_182 0 72 (dk_at dksX4_zones_2 4 rfl rfl)
theorem dX4_zones_55 : decode cX4_zones 55 = .ok (.dup2, 1) := dk_92 (dk_at dksX4_zones_2 7 rfl rfl)
theorem dX4_zones_56 : decode cX4_zones 56 = .ok (.iaload, 1) := dk_46 (dk_at dksX4_zones_2 8 rfl rfl)
theorem dX4_zones_57 : decode cX4_zones 57 = .ok (.aload_n 0, 1) := dk_42 (dk_at dksX4_zones_2 9 rfl rfl)
theorem dX4_zones_58 : decode cX4_zones 58 = .ok (.getfield 9, 3) := dk_180 0 9 (dk_at dksX4_zones_2 10 rfl rfl)
theorem dX4_zones_61 : decode cX4_zones 61 = .ok (.aload_n 0, 1) := dk_42 (dk_at dksX4_zones_2 13 rfl rfl)
theorem dX4_zones_62 : decode cX4_zones 62 = .ok (.iload_n 1, 1) := dk_27 (dk_at dksX4_zones_2 14 rfl rfl)
theorem dX4_zones_63 : decode cX4_zones 63 = .ok (.invokevirtual 75, 3) := dk_182 0 75 (dk_at dksX4_zones_2 15 rfl rfl)
theorem dX4_zones_66 : decode cX4_zones 66 = .ok (.iconst 3, 1) := dk_6 (dk_at dksX4_zones_2 18 rfl rfl)
theorem dX4_zones_67 : decode cX4_zones 67 = .ok (.iadd, 1) := dk_96 (dk_at dksX4_zones_2 19 rfl rfl)
theorem dX4_zones_68 : decode cX4_zones 68 = .ok (.iload_n 2, 1) := dk_28 (dk_at dksX4_zones_2 20 rfl rfl)
theorem dX4_zones_69 : decode cX4_zones 69 = .ok (.iadd, 1) := dk_96 (dk_at dksX4_zones_2 21 rfl rfl)
theorem dX4_zones_70 : decode cX4_zones 70 = .ok (.iaload, 1) := dk_46 (dk_at dksX4_zones_2 22 rfl rfl)
theorem dX4_zones_71 : decode cX4_zones 71 = .ok (.iadd, 1) := dk_96 (dk_at dksX4_zones_2 23 rfl rfl)
theorem dX4_zones_72 : decode cX4_zones 72 = .ok (.iastore, 1) := dk_79 (dk_at dksX4_zones_3 0 rfl rfl)
theorem dX4_zones_73 : decode cX4_zones 73 = .ok (.iinc 2 1, 3) := dk_132 2 1 (dk_at dksX4_zones_3 1 rfl rfl)
theorem dX4_zones_76 : decode cX4_zones 76 = .ok (.goto (-74), 3) := dk_167 255 182 (dk_at dksX4_zones_3 4 rfl rfl)
theorem dX4_zones_79 : decode cX4_zones 79 = .ok (.return_, 1) := dk_177 (dk_at dksX4_zones_3 7 rfl rfl)
abbrev cX4_at : ByteArray := prog_10_method_21_code
def yX4_at : MethodName := ⟨RX4, "at", "(I)I"⟩
def dkwX4_at_0 : List UInt8 := [16, 70, 16, 19, 27, 104, 96, 172]
abbrev dktX4_at_0 : List UInt8 := dkwX4_at_0 ++ []
theorem dksX4_at_0 : cX4_at.data.toList.drop 0 = dktX4_at_0 := by decide +kernel
theorem dX4_at_0 : decode cX4_at 0 = .ok (.bipush 70, 2) := dk_16 70 (dk_at dksX4_at_0 0 rfl rfl)
theorem dX4_at_2 : decode cX4_at 2 = .ok (.bipush 19, 2) := dk_16 19 (dk_at dksX4_at_0 2 rfl rfl)
theorem dX4_at_4 : decode cX4_at 4 = .ok (.iload_n 1, 1) := dk_27 (dk_at dksX4_at_0 4 rfl rfl)
theorem dX4_at_5 : decode cX4_at 5 = .ok (.imul, 1) := dk_104 (dk_at dksX4_at_0 5 rfl rfl)
theorem dX4_at_6 : decode cX4_at 6 = .ok (.iadd, 1) := dk_96 (dk_at dksX4_at_0 6 rfl rfl)
theorem dX4_at_7 : decode cX4_at 7 = .ok (.ireturn, 1) := dk_172 (dk_at dksX4_at_0 7 rfl rfl)
abbrev cX4_zone : ByteArray := prog_10_method_19_code
def yX4_zone : MethodName := ⟨RX4, "zone", "(II)I"⟩
def dkwX4_zone_2 : List UInt8 := [132, 5, 1, 167, 255, 224, 21, 4, 172]
abbrev dktX4_zone_2 : List UInt8 := dkwX4_zone_2 ++ []
def dkwX4_zone_1 : List UInt8 := [180, 0, 9, 16, 8, 21, 5, 96, 46, 29, 163, 0, 8, 21, 5, 167, 0, 5, 21, 4, 54, 4]
abbrev dktX4_zone_1 : List UInt8 := dkwX4_zone_1 ++ dktX4_zone_2
def dkwX4_zone_0 : List UInt8 := [16, 100, 28, 104, 42, 27, 182, 0, 69, 108, 62, 4, 54, 4, 5, 54, 5, 21, 5, 8, 163, 0, 32, 42]
abbrev dktX4_zone_0 : List UInt8 := dkwX4_zone_0 ++ dktX4_zone_1
theorem dksX4_zone_0 : cX4_zone.data.toList.drop 0 = dktX4_zone_0 := by decide +kernel
theorem dksX4_zone_1 : cX4_zone.data.toList.drop 24 = dktX4_zone_1 := dk_seg dksX4_zone_0 24 rfl rfl
theorem dksX4_zone_2 : cX4_zone.data.toList.drop 46 = dktX4_zone_2 := dk_seg dksX4_zone_1 22 rfl rfl
theorem dX4_zone_0 : decode cX4_zone 0 = .ok (.bipush 100, 2) := dk_16 100 (dk_at dksX4_zone_0 0 rfl rfl)
theorem dX4_zone_2 : decode cX4_zone 2 = .ok (.iload_n 2, 1) := dk_28 (dk_at dksX4_zone_0 2 rfl rfl)
theorem dX4_zone_3 : decode cX4_zone 3 = .ok (.imul, 1) := dk_104 (dk_at dksX4_zone_0 3 rfl rfl)
theorem dX4_zone_4 : decode cX4_zone 4 = .ok (.aload_n 0, 1) := dk_42 (dk_at dksX4_zone_0 4 rfl rfl)
theorem dX4_zone_5 : decode cX4_zone 5 = .ok (.iload_n 1, 1) := dk_27 (dk_at dksX4_zone_0 5 rfl rfl)
theorem dX4_zone_6 : decode cX4_zone 6 = .ok (.invokevirtual 69, 3) := dk_182 0 69 (dk_at dksX4_zone_0 6 rfl rfl)
theorem dX4_zone_9 : decode cX4_zone 9 = .ok (.idiv, 1) := dk_108 (dk_at dksX4_zone_0 9 rfl rfl)
theorem dX4_zone_10 : decode cX4_zone 10 = .ok (.istore_n 3, 1) := dk_62 (dk_at dksX4_zone_0 10 rfl rfl)
theorem dX4_zone_11 : decode cX4_zone 11 = .ok (.iconst 1, 1) := dk_4 (dk_at dksX4_zone_0 11 rfl rfl)
theorem dX4_zone_12 : decode cX4_zone 12 = .ok (.istore 4, 2) := dk_54 4 (dk_at dksX4_zone_0 12 rfl rfl)
theorem dX4_zone_14 : decode cX4_zone 14 = .ok (.iconst 2, 1) := dk_5 (dk_at dksX4_zone_0 14 rfl rfl)
theorem dX4_zone_15 : decode cX4_zone 15 = .ok (.istore 5, 2) := dk_54 5 (dk_at dksX4_zone_0 15 rfl rfl)
theorem dX4_zone_17 : decode cX4_zone 17 = .ok (.iload 5, 2) := dk_21 5 (dk_at dksX4_zone_0 17 rfl rfl)
theorem dX4_zone_19 : decode cX4_zone 19 = .ok (.iconst 5, 1) := dk_8 (dk_at dksX4_zone_0 19 rfl rfl)
theorem dX4_zone_20 : decode cX4_zone 20 = .ok (.if_icmp .gt 32, 3) := dk_163 0 32 (dk_at dksX4_zone_0 20 rfl rfl)
theorem dX4_zone_23 : decode cX4_zone 23 = .ok (.aload_n 0, 1) := dk_42 (dk_at dksX4_zone_0 23 rfl rfl)
theorem dX4_zone_24 : decode cX4_zone 24 = .ok (.getfield 9, 3) := dk_180 0 9 (dk_at dksX4_zone_1 0 rfl rfl)
theorem dX4_zone_27 : decode cX4_zone 27 = .ok (.bipush 8, 2) := dk_16 8 (dk_at dksX4_zone_1 3 rfl rfl)
theorem dX4_zone_29 : decode cX4_zone 29 = .ok (.iload 5, 2) := dk_21 5 (dk_at dksX4_zone_1 5 rfl rfl)
theorem dX4_zone_31 : decode cX4_zone 31 = .ok (.iadd, 1) := dk_96 (dk_at dksX4_zone_1 7 rfl rfl)
theorem dX4_zone_32 : decode cX4_zone 32 = .ok (.iaload, 1) := dk_46 (dk_at dksX4_zone_1 8 rfl rfl)
theorem dX4_zone_33 : decode cX4_zone 33 = .ok (.iload_n 3, 1) := dk_29 (dk_at dksX4_zone_1 9 rfl rfl)
theorem dX4_zone_34 : decode cX4_zone 34 = .ok (.if_icmp .gt 8, 3) := dk_163 0 8 (dk_at dksX4_zone_1 10 rfl rfl)
theorem dX4_zone_37 : decode cX4_zone 37 = .ok (.iload 5, 2) := dk_21 5 (dk_at dksX4_zone_1 13 rfl rfl)
theorem dX4_zone_39 : decode cX4_zone 39 = .ok (.goto 5, 3) := dk_167 0 5 (dk_at dksX4_zone_1 15 rfl rfl)
theorem dX4_zone_42 : decode cX4_zone 42 = .ok (.iload 4, 2) := dk_21 4 (dk_at dksX4_zone_1 18 rfl rfl)
theorem dX4_zone_44 : decode cX4_zone 44 = .ok (.istore 4, 2) := dk_54 4 (dk_at dksX4_zone_1 20 rfl rfl)
theorem dX4_zone_46 : decode cX4_zone 46 = .ok (.iinc 5 1, 3) := dk_132 5 1 (dk_at dksX4_zone_2 0 rfl rfl)
theorem dX4_zone_49 : decode cX4_zone 49 = .ok (.goto (-32), 3) := dk_167 255 224 (dk_at dksX4_zone_2 3 rfl rfl)
theorem dX4_zone_52 : decode cX4_zone 52 = .ok (.iload 4, 2) := dk_21 4 (dk_at dksX4_zone_2 6 rfl rfl)
theorem dX4_zone_54 : decode cX4_zone 54 = .ok (.ireturn, 1) := dk_172 (dk_at dksX4_zone_2 8 rfl rfl)
abbrev cX4_threshold : ByteArray := prog_10_method_13_code
def yX4_threshold : MethodName := ⟨RX4, "threshold", "(I)I"⟩
def dkwX4_threshold_3 : List UInt8 := [21, 4, 104, 96, 4, 96, 46, 62, 132, 4, 1, 167, 255, 182, 29, 172]
abbrev dktX4_threshold_3 : List UInt8 := dkwX4_threshold_3 ++ []
def dkwX4_threshold_2 : List UInt8 := [28, 164, 0, 31, 42, 180, 0, 9, 16, 20, 5, 21, 4, 104, 96, 46, 61, 42, 180, 0, 9, 16, 20, 5]
abbrev dktX4_threshold_2 : List UInt8 := dkwX4_threshold_2 ++ dktX4_threshold_3
def dkwX4_threshold_1 : List UInt8 := [16, 20, 5, 21, 4, 104, 96, 46, 27, 163, 0, 47, 42, 180, 0, 9, 16, 20, 5, 21, 4, 104, 96, 46]
abbrev dktX4_threshold_1 : List UInt8 := dkwX4_threshold_1 ++ dktX4_threshold_2
def dkwX4_threshold_0 : List UInt8 := [2, 61, 17, 0, 200, 62, 3, 54, 4, 21, 4, 42, 180, 0, 9, 6, 46, 162, 0, 69, 42, 180, 0, 9]
abbrev dktX4_threshold_0 : List UInt8 := dkwX4_threshold_0 ++ dktX4_threshold_1
theorem dksX4_threshold_0 : cX4_threshold.data.toList.drop 0 = dktX4_threshold_0 := by decide +kernel
theorem dksX4_threshold_1 : cX4_threshold.data.toList.drop 24 = dktX4_threshold_1 := dk_seg dksX4_threshold_0 24 rfl rfl
theorem dksX4_threshold_2 : cX4_threshold.data.toList.drop 48 = dktX4_threshold_2 := dk_seg dksX4_threshold_1 24 rfl rfl
theorem dksX4_threshold_3 : cX4_threshold.data.toList.drop 72 = dktX4_threshold_3 := dk_seg dksX4_threshold_2 24 rfl rfl
theorem dX4_threshold_0 : decode cX4_threshold 0 = .ok (.iconst (-1), 1) := dk_2 (dk_at dksX4_threshold_0 0 rfl rfl)
theorem dX4_threshold_1 : decode cX4_threshold 1 = .ok (.istore_n 2, 1) := dk_61 (dk_at dksX4_threshold_0 1 rfl rfl)
theorem dX4_threshold_2 : decode cX4_threshold 2 = .ok (.sipush 200, 3) := dk_17 0 200 (dk_at dksX4_threshold_0 2 rfl rfl)
theorem dX4_threshold_5 : decode cX4_threshold 5 = .ok (.istore_n 3, 1) := dk_62 (dk_at dksX4_threshold_0 5 rfl rfl)
theorem dX4_threshold_6 : decode cX4_threshold 6 = .ok (.iconst 0, 1) := dk_3 (dk_at dksX4_threshold_0 6 rfl rfl)
theorem dX4_threshold_7 : decode cX4_threshold 7 = .ok (.istore 4, 2) := dk_54 4 (dk_at dksX4_threshold_0 7 rfl rfl)
theorem dX4_threshold_9 : decode cX4_threshold 9 = .ok (.iload 4, 2) := dk_21 4 (dk_at dksX4_threshold_0 9 rfl rfl)
theorem dX4_threshold_11 : decode cX4_threshold 11 = .ok (.aload_n 0, 1) := dk_42 (dk_at dksX4_threshold_0 11 rfl rfl)
theorem dX4_threshold_12 : decode cX4_threshold 12 = .ok (.getfield 9, 3) := dk_180 0 9 (dk_at dksX4_threshold_0 12 rfl rfl)
theorem dX4_threshold_15 : decode cX4_threshold 15 = .ok (.iconst 3, 1) := dk_6 (dk_at dksX4_threshold_0 15 rfl rfl)
theorem dX4_threshold_16 : decode cX4_threshold 16 = .ok (.iaload, 1) := dk_46 (dk_at dksX4_threshold_0 16 rfl rfl)
theorem dX4_threshold_17 : decode cX4_threshold 17 = .ok (.if_icmp .ge 69, 3) := dk_162 0 69 (dk_at dksX4_threshold_0 17 rfl rfl)
theorem dX4_threshold_20 : decode cX4_threshold 20 = .ok (.aload_n 0, 1) := dk_42 (dk_at dksX4_threshold_0 20 rfl rfl)
theorem dX4_threshold_21 : decode cX4_threshold 21 = .ok (.getfield 9, 3) := dk_180 0 9 (dk_at dksX4_threshold_0 21 rfl rfl)
theorem dX4_threshold_24 : decode cX4_threshold 24 = .ok (.bipush 20, 2) := dk_16 20 (dk_at dksX4_threshold_1 0 rfl rfl)
theorem dX4_threshold_26 : decode cX4_threshold 26 = .ok (.iconst 2, 1) := dk_5 (dk_at dksX4_threshold_1 2 rfl rfl)
theorem dX4_threshold_27 : decode cX4_threshold 27 = .ok (.iload 4, 2) := dk_21 4 (dk_at dksX4_threshold_1 3 rfl rfl)
theorem dX4_threshold_29 : decode cX4_threshold 29 = .ok (.imul, 1) := dk_104 (dk_at dksX4_threshold_1 5 rfl rfl)
theorem dX4_threshold_30 : decode cX4_threshold 30 = .ok (.iadd, 1) := dk_96 (dk_at dksX4_threshold_1 6 rfl rfl)
theorem dX4_threshold_31 : decode cX4_threshold 31 = .ok (.iaload, 1) := dk_46 (dk_at dksX4_threshold_1 7 rfl rfl)
theorem dX4_threshold_32 : decode cX4_threshold 32 = .ok (.iload_n 1, 1) := dk_27 (dk_at dksX4_threshold_1 8 rfl rfl)
theorem dX4_threshold_33 : decode cX4_threshold 33 = .ok (.if_icmp .gt 47, 3) := dk_163 0 47 (dk_at dksX4_threshold_1 9 rfl rfl)
theorem dX4_threshold_36 : decode cX4_threshold 36 = .ok (.aload_n 0, 1) := dk_42 (dk_at dksX4_threshold_1 12 rfl rfl)
theorem dX4_threshold_37 : decode cX4_threshold 37 = .ok (.getfield 9, 3) := dk_180 0 9 (dk_at dksX4_threshold_1 13 rfl rfl)
theorem dX4_threshold_40 : decode cX4_threshold 40 = .ok (.bipush 20, 2) := dk_16 20 (dk_at dksX4_threshold_1 16 rfl rfl)
theorem dX4_threshold_42 : decode cX4_threshold 42 = .ok (.iconst 2, 1) := dk_5 (dk_at dksX4_threshold_1 18 rfl rfl)
theorem dX4_threshold_43 : decode cX4_threshold 43 = .ok (.iload 4, 2) := dk_21 4 (dk_at dksX4_threshold_1 19 rfl rfl)
theorem dX4_threshold_45 : decode cX4_threshold 45 = .ok (.imul, 1) := dk_104 (dk_at dksX4_threshold_1 21 rfl rfl)
theorem dX4_threshold_46 : decode cX4_threshold 46 = .ok (.iadd, 1) := dk_96 (dk_at dksX4_threshold_1 22 rfl rfl)
theorem dX4_threshold_47 : decode cX4_threshold 47 = .ok (.iaload, 1) := dk_46 (dk_at dksX4_threshold_1 23 rfl rfl)
theorem dX4_threshold_48 : decode cX4_threshold 48 = .ok (.iload_n 2, 1) := dk_28 (dk_at dksX4_threshold_2 0 rfl rfl)
theorem dX4_threshold_49 : decode cX4_threshold 49 = .ok (.if_icmp .le 31, 3) := dk_164 0 31 (dk_at dksX4_threshold_2 1 rfl rfl)
theorem dX4_threshold_52 : decode cX4_threshold 52 = .ok (.aload_n 0, 1) := dk_42 (dk_at dksX4_threshold_2 4 rfl rfl)
theorem dX4_threshold_53 : decode cX4_threshold 53 = .ok (.getfield 9, 3) := dk_180 0 9 (dk_at dksX4_threshold_2 5 rfl rfl)
theorem dX4_threshold_56 : decode cX4_threshold 56 = .ok (.bipush 20, 2) := dk_16 20 (dk_at dksX4_threshold_2 8 rfl rfl)
theorem dX4_threshold_58 : decode cX4_threshold 58 = .ok (.iconst 2, 1) := dk_5 (dk_at dksX4_threshold_2 10 rfl rfl)
theorem dX4_threshold_59 : decode cX4_threshold 59 = .ok (.iload 4, 2) := dk_21 4 (dk_at dksX4_threshold_2 11 rfl rfl)
theorem dX4_threshold_61 : decode cX4_threshold 61 = .ok (.imul, 1) := dk_104 (dk_at dksX4_threshold_2 13 rfl rfl)
theorem dX4_threshold_62 : decode cX4_threshold 62 = .ok (.iadd, 1) := dk_96 (dk_at dksX4_threshold_2 14 rfl rfl)
theorem dX4_threshold_63 : decode cX4_threshold 63 = .ok (.iaload, 1) := dk_46 (dk_at dksX4_threshold_2 15 rfl rfl)
theorem dX4_threshold_64 : decode cX4_threshold 64 = .ok (.istore_n 2, 1) := dk_61 (dk_at dksX4_threshold_2 16 rfl rfl)
theorem dX4_threshold_65 : decode cX4_threshold 65 = .ok (.aload_n 0, 1) := dk_42 (dk_at dksX4_threshold_2 17 rfl rfl)
theorem dX4_threshold_66 : decode cX4_threshold 66 = .ok (.getfield 9, 3) := dk_180 0 9 (dk_at dksX4_threshold_2 18 rfl rfl)
theorem dX4_threshold_69 : decode cX4_threshold 69 = .ok (.bipush 20, 2) := dk_16 20 (dk_at dksX4_threshold_2 21 rfl rfl)
theorem dX4_threshold_71 : decode cX4_threshold 71 = .ok (.iconst 2, 1) := dk_5 (dk_at dksX4_threshold_2 23 rfl rfl)
theorem dX4_threshold_72 : decode cX4_threshold 72 = .ok (.iload 4, 2) := dk_21 4 (dk_at dksX4_threshold_3 0 rfl rfl)
theorem dX4_threshold_74 : decode cX4_threshold 74 = .ok (.imul, 1) := dk_104 (dk_at dksX4_threshold_3 2 rfl rfl)
theorem dX4_threshold_75 : decode cX4_threshold 75 = .ok (.iadd, 1) := dk_96 (dk_at dksX4_threshold_3 3 rfl rfl)
theorem dX4_threshold_76 : decode cX4_threshold 76 = .ok (.iconst 1, 1) := dk_4 (dk_at dksX4_threshold_3 4 rfl rfl)
theorem dX4_threshold_77 : decode cX4_threshold 77 = .ok (.iadd, 1) := dk_96 (dk_at dksX4_threshold_3 5 rfl rfl)
theorem dX4_threshold_78 : decode cX4_threshold 78 = .ok (.iaload, 1) := dk_46 (dk_at dksX4_threshold_3 6 rfl rfl)
theorem dX4_threshold_79 : decode cX4_threshold 79 = .ok (.istore_n 3, 1) := dk_62 (dk_at dksX4_threshold_3 7 rfl rfl)
theorem dX4_threshold_80 : decode cX4_threshold 80 = .ok (.iinc 4 1, 3) := dk_132 4 1 (dk_at dksX4_threshold_3 8 rfl rfl)
theorem dX4_threshold_83 : decode cX4_threshold 83 = .ok (.goto (-74), 3) := dk_167 255 182 (dk_at dksX4_threshold_3 11 rfl rfl)
theorem dX4_threshold_86 : decode cX4_threshold 86 = .ok (.iload_n 3, 1) := dk_29 (dk_at dksX4_threshold_3 14 rfl rfl)
theorem dX4_threshold_87 : decode cX4_threshold 87 = .ok (.ireturn, 1) := dk_172 (dk_at dksX4_threshold_3 15 rfl rfl)
abbrev cX4_removeTest : ByteArray := prog_10_method_11_code
def yX4_removeTest : MethodName := ⟨RX4, "removeTest", "(I)I"⟩
def dkwX4_removeTest_4 : List UInt8 := [180, 0, 9, 16, 20, 5, 42, 180, 0, 9, 6, 46, 104, 96, 4, 96, 46, 79, 29, 172]
abbrev dktX4_removeTest_4 : List UInt8 := dkwX4_removeTest_4 ++ []
def dkwX4_removeTest_3 : List UInt8 := [180, 0, 9, 6, 46, 104, 96, 46, 79, 42, 180, 0, 9, 16, 20, 5, 28, 104, 96, 4, 96, 42]
abbrev dktX4_removeTest_3 : List UInt8 := dkwX4_removeTest_3 ++ dktX4_removeTest_4
def dkwX4_removeTest_2 : List UInt8 := [92, 46, 4, 100, 79, 42, 180, 0, 9, 16, 20, 5, 28, 104, 96, 42, 180, 0, 9, 16, 20, 5, 42]
abbrev dktX4_removeTest_2 : List UInt8 := dkwX4_removeTest_2 ++ dktX4_removeTest_3
def dkwX4_removeTest_1 : List UInt8 := [172, 42, 182, 0, 55, 42, 180, 0, 9, 16, 20, 5, 28, 104, 96, 4, 96, 46, 62, 42, 180, 0, 9, 6]
abbrev dktX4_removeTest_1 : List UInt8 := dkwX4_removeTest_1 ++ dktX4_removeTest_2
def dkwX4_removeTest_0 : List UInt8 := [42, 27, 182, 0, 62, 61, 42, 28, 156, 0, 7, 4, 167, 0, 4, 3, 4, 182, 0, 51, 153, 0, 5, 3]
abbrev dktX4_removeTest_0 : List UInt8 := dkwX4_removeTest_0 ++ dktX4_removeTest_1
theorem dksX4_removeTest_0 : cX4_removeTest.data.toList.drop 0 = dktX4_removeTest_0 := by decide +kernel
theorem dksX4_removeTest_1 : cX4_removeTest.data.toList.drop 24 = dktX4_removeTest_1 := dk_seg dksX4_removeTest_0 24 rfl rfl
theorem dksX4_removeTest_2 : cX4_removeTest.data.toList.drop 48 = dktX4_removeTest_2 := dk_seg dksX4_removeTest_1 24 rfl rfl
theorem dksX4_removeTest_3 : cX4_removeTest.data.toList.drop 71 = dktX4_removeTest_3 := dk_seg dksX4_removeTest_2 23 rfl rfl
theorem dksX4_removeTest_4 : cX4_removeTest.data.toList.drop 93 = dktX4_removeTest_4 := dk_seg dksX4_removeTest_3 22 rfl rfl
theorem dX4_removeTest_0 : decode cX4_removeTest 0 = .ok (.aload_n 0, 1) := dk_42 (dk_at dksX4_removeTest_0 0 rfl rfl)
theorem dX4_removeTest_1 : decode cX4_removeTest 1 = .ok (.iload_n 1, 1) := dk_27 (dk_at dksX4_removeTest_0 1 rfl rfl)
theorem dX4_removeTest_2 : decode cX4_removeTest 2 = .ok (.invokevirtual 62, 3) := dk_182 0 62 (dk_at dksX4_removeTest_0 2 rfl rfl)
theorem dX4_removeTest_5 : decode cX4_removeTest 5 = .ok (.istore_n 2, 1) := dk_61 (dk_at dksX4_removeTest_0 5 rfl rfl)
theorem dX4_removeTest_6 : decode cX4_removeTest 6 = .ok (.aload_n 0, 1) := dk_42 (dk_at dksX4_removeTest_0 6 rfl rfl)
theorem dX4_removeTest_7 : decode cX4_removeTest 7 = .ok (.iload_n 2, 1) := dk_28 (dk_at dksX4_removeTest_0 7 rfl rfl)
theorem dX4_removeTest_8 : decode cX4_removeTest 8 = .ok (.ifCond .ge 7, 3) := dk_156 0 7 (dk_at dksX4_removeTest_0 8 rfl rfl)
theorem dX4_removeTest_11 : decode cX4_removeTest 11 = .ok (.iconst 1, 1) := dk_4 (dk_at dksX4_removeTest_0 11 rfl rfl)
theorem dX4_removeTest_12 : decode cX4_removeTest 12 = .ok (.goto 4, 3) := dk_167 0 4 (dk_at dksX4_removeTest_0 12 rfl rfl)
theorem dX4_removeTest_15 : decode cX4_removeTest 15 = .ok (.iconst 0, 1) := dk_3 (dk_at dksX4_removeTest_0 15 rfl rfl)
theorem dX4_removeTest_16 : decode cX4_removeTest 16 = .ok (.iconst 1, 1) := dk_4 (dk_at dksX4_removeTest_0 16 rfl rfl)
theorem dX4_removeTest_17 : decode cX4_removeTest 17 = .ok (.invokevirtual 51, 3) := dk_182 0 51 (dk_at dksX4_removeTest_0 17 rfl rfl)
theorem dX4_removeTest_20 : decode cX4_removeTest 20 = .ok (.ifCond .eq 5, 3) := dk_153 0 5 (dk_at dksX4_removeTest_0 20 rfl rfl)
theorem dX4_removeTest_23 : decode cX4_removeTest 23 = .ok (.iconst 0, 1) := dk_3 (dk_at dksX4_removeTest_0 23 rfl rfl)
theorem dX4_removeTest_24 : decode cX4_removeTest 24 = .ok (.ireturn, 1) := dk_172 (dk_at dksX4_removeTest_1 0 rfl rfl)
theorem dX4_removeTest_25 : decode cX4_removeTest 25 = .ok (.aload_n 0, 1) := dk_42 (dk_at dksX4_removeTest_1 1 rfl rfl)
theorem dX4_removeTest_26 : decode cX4_removeTest 26 = .ok (.invokevirtual 55, 3) := dk_182 0 55 (dk_at dksX4_removeTest_1 2 rfl rfl)
theorem dX4_removeTest_29 : decode cX4_removeTest 29 = .ok (.aload_n 0, 1) := dk_42 (dk_at dksX4_removeTest_1 5 rfl rfl)
theorem dX4_removeTest_30 : decode cX4_removeTest 30 = .ok (.getfield 9, 3) := dk_180 0 9 (dk_at dksX4_removeTest_1 6 rfl rfl)
theorem dX4_removeTest_33 : decode cX4_removeTest 33 = .ok (.bipush 20, 2) := dk_16 20 (dk_at dksX4_removeTest_1 9 rfl rfl)
theorem dX4_removeTest_35 : decode cX4_removeTest 35 = .ok (.iconst 2, 1) := dk_5 (dk_at dksX4_removeTest_1 11 rfl rfl)
theorem dX4_removeTest_36 : decode cX4_removeTest 36 = .ok (.iload_n 2, 1) := dk_28 (dk_at dksX4_removeTest_1 12 rfl rfl)
theorem dX4_removeTest_37 : decode cX4_removeTest 37 = .ok (.imul, 1) := dk_104 (dk_at dksX4_removeTest_1 13 rfl rfl)
theorem dX4_removeTest_38 : decode cX4_removeTest 38 = .ok (.iadd, 1) := dk_96 (dk_at dksX4_removeTest_1 14 rfl rfl)
theorem dX4_removeTest_39 : decode cX4_removeTest 39 = .ok (.iconst 1, 1) := dk_4 (dk_at dksX4_removeTest_1 15 rfl rfl)
theorem dX4_removeTest_40 : decode cX4_removeTest 40 = .ok (.iadd, 1) := dk_96 (dk_at dksX4_removeTest_1 16 rfl rfl)
theorem dX4_removeTest_41 : decode cX4_removeTest 41 = .ok (.iaload, 1) := dk_46 (dk_at dksX4_removeTest_1 17 rfl rfl)
theorem dX4_removeTest_42 : decode cX4_removeTest 42 = .ok (.istore_n 3, 1) := dk_62 (dk_at dksX4_removeTest_1 18 rfl rfl)
theorem dX4_removeTest_43 : decode cX4_removeTest 43 = .ok (.aload_n 0, 1) := dk_42 (dk_at dksX4_removeTest_1 19 rfl rfl)
theorem dX4_removeTest_44 : decode cX4_removeTest 44 = .ok (.getfield 9, 3) := dk_180 0 9 (dk_at dksX4_removeTest_1 20 rfl rfl)
theorem dX4_removeTest_47 : decode cX4_removeTest 47 = .ok (.iconst 3, 1) := dk_6 (dk_at dksX4_removeTest_1 23 rfl rfl)
theorem dX4_removeTest_48 : decode cX4_removeTest 48 = .ok (.dup2, 1) := dk_92 (dk_at dksX4_removeTest_2 0 rfl rfl)
theorem dX4_removeTest_49 : decode cX4_removeTest 49 = .ok (.iaload, 1) := dk_46 (dk_at dksX4_removeTest_2 1 rfl rfl)
theorem dX4_removeTest_50 : decode cX4_removeTest 50 = .ok (.iconst 1, 1) := dk_4 (dk_at dksX4_removeTest_2 2 rfl rfl)
theorem dX4_removeTest_51 : decode cX4_removeTest 51 = .ok (.isub, 1) := dk_100 (dk_at dksX4_removeTest_2 3 rfl rfl)
theorem dX4_removeTest_52 : decode cX4_removeTest 52 = .ok (.iastore, 1) := dk_79 (dk_at dksX4_removeTest_2 4 rfl rfl)
theorem dX4_removeTest_53 : decode cX4_removeTest 53 = .ok (.aload_n 0, 1) := dk_42 (dk_at dksX4_removeTest_2 5 rfl rfl)
theorem dX4_removeTest_54 : decode cX4_removeTest 54 = .ok (.getfield 9, 3) := dk_180 0 9 (dk_at dksX4_removeTest_2 6 rfl rfl)
theorem dX4_removeTest_57 : decode cX4_removeTest 57 = .ok (.bipush 20, 2) := dk_16 20 (dk_at dksX4_removeTest_2 9 rfl rfl)
theorem dX4_removeTest_59 : decode cX4_removeTest 59 = .ok (.iconst 2, 1) := dk_5 (dk_at dksX4_removeTest_2 11 rfl rfl)
theorem dX4_removeTest_60 : decode cX4_removeTest 60 = .ok (.iload_n 2, 1) := dk_28 (dk_at dksX4_removeTest_2 12 rfl rfl)
theorem dX4_removeTest_61 : decode cX4_removeTest 61 = .ok (.imul, 1) := dk_104 (dk_at dksX4_removeTest_2 13 rfl rfl)
theorem dX4_removeTest_62 : decode cX4_removeTest 62 = .ok (.iadd, 1) := dk_96 (dk_at dksX4_removeTest_2 14 rfl rfl)
theorem dX4_removeTest_63 : decode cX4_removeTest 63 = .ok (.aload_n 0, 1) := dk_42 (dk_at dksX4_removeTest_2 15 rfl rfl)
theorem dX4_removeTest_64 : decode cX4_removeTest 64 = .ok (.getfield 9, 3) := dk_180 0 9 (dk_at dksX4_removeTest_2 16 rfl rfl)
theorem dX4_removeTest_67 : decode cX4_removeTest 67 = .ok (.bipush 20, 2) := dk_16 20 (dk_at dksX4_removeTest_2 19 rfl rfl)
theorem dX4_removeTest_69 : decode cX4_removeTest 69 = .ok (.iconst 2, 1) := dk_5 (dk_at dksX4_removeTest_2 21 rfl rfl)
theorem dX4_removeTest_70 : decode cX4_removeTest 70 = .ok (.aload_n 0, 1) := dk_42 (dk_at dksX4_removeTest_2 22 rfl rfl)
theorem dX4_removeTest_71 : decode cX4_removeTest 71 = .ok (.getfield 9, 3) := dk_180 0 9 (dk_at dksX4_removeTest_3 0 rfl rfl)
theorem dX4_removeTest_74 : decode cX4_removeTest 74 = .ok (.iconst 3, 1) := dk_6 (dk_at dksX4_removeTest_3 3 rfl rfl)
theorem dX4_removeTest_75 : decode cX4_removeTest 75 = .ok (.iaload, 1) := dk_46 (dk_at dksX4_removeTest_3 4 rfl rfl)
theorem dX4_removeTest_76 : decode cX4_removeTest 76 = .ok (.imul, 1) := dk_104 (dk_at dksX4_removeTest_3 5 rfl rfl)
theorem dX4_removeTest_77 : decode cX4_removeTest 77 = .ok (.iadd, 1) := dk_96 (dk_at dksX4_removeTest_3 6 rfl rfl)
theorem dX4_removeTest_78 : decode cX4_removeTest 78 = .ok (.iaload, 1) := dk_46 (dk_at dksX4_removeTest_3 7 rfl rfl)
theorem dX4_removeTest_79 : decode cX4_removeTest 79 = .ok (.iastore, 1) := dk_79 (dk_at dksX4_removeTest_3 8 rfl rfl)
theorem dX4_removeTest_80 : decode cX4_removeTest 80 = .ok (.aload_n 0, 1) := dk_42 (dk_at dksX4_removeTest_3 9 rfl rfl)
theorem dX4_removeTest_81 : decode cX4_removeTest 81 = .ok (.getfield 9, 3) := dk_180 0 9 (dk_at dksX4_removeTest_3 10 rfl rfl)
theorem dX4_removeTest_84 : decode cX4_removeTest 84 = .ok (.bipush 20, 2) := dk_16 20 (dk_at dksX4_removeTest_3 13 rfl rfl)
theorem dX4_removeTest_86 : decode cX4_removeTest 86 = .ok (.iconst 2, 1) := dk_5 (dk_at dksX4_removeTest_3 15 rfl rfl)
theorem dX4_removeTest_87 : decode cX4_removeTest 87 = .ok (.iload_n 2, 1) := dk_28 (dk_at dksX4_removeTest_3 16 rfl rfl)
theorem dX4_removeTest_88 : decode cX4_removeTest 88 = .ok (.imul, 1) := dk_104 (dk_at dksX4_removeTest_3 17 rfl rfl)
theorem dX4_removeTest_89 : decode cX4_removeTest 89 = .ok (.iadd, 1) := dk_96 (dk_at dksX4_removeTest_3 18 rfl rfl)
theorem dX4_removeTest_90 : decode cX4_removeTest 90 = .ok (.iconst 1, 1) := dk_4 (dk_at dksX4_removeTest_3 19 rfl rfl)
theorem dX4_removeTest_91 : decode cX4_removeTest 91 = .ok (.iadd, 1) := dk_96 (dk_at dksX4_removeTest_3 20 rfl rfl)
theorem dX4_removeTest_92 : decode cX4_removeTest 92 = .ok (.aload_n 0, 1) := dk_42 (dk_at dksX4_removeTest_3 21 rfl rfl)
theorem dX4_removeTest_93 : decode cX4_removeTest 93 = .ok (.getfield 9, 3) := dk_180 0 9 (dk_at dksX4_removeTest_4 0 rfl rfl)
theorem dX4_removeTest_96 : decode cX4_removeTest 96 = .ok (.bipush 20, 2) := dk_16 20 (dk_at dksX4_removeTest_4 3 rfl rfl)
theorem dX4_removeTest_98 : decode cX4_removeTest 98 = .ok (.iconst 2, 1) := dk_5 (dk_at dksX4_removeTest_4 5 rfl rfl)
theorem dX4_removeTest_99 : decode cX4_removeTest 99 = .ok (.aload_n 0, 1) := dk_42 (dk_at dksX4_removeTest_4 6 rfl rfl)
theorem dX4_removeTest_100 : decode cX4_removeTest 100 = .ok (.getfield 9, 3) := dk_180 0 9 (dk_at dksX4_removeTest_4 7 rfl rfl)
theorem dX4_removeTest_103 : decode cX4_removeTest 103 = .ok (.iconst 3, 1) := dk_6 (dk_at dksX4_removeTest_4 10 rfl rfl)
theorem dX4_removeTest_104 : decode cX4_removeTest 104 = .ok (.iaload, 1) := dk_46 (dk_at dksX4_removeTest_4 11 rfl rfl)
theorem dX4_removeTest_105 : decode cX4_removeTest 105 = .ok (.imul, 1) := dk_104 (dk_at dksX4_removeTest_4 12 rfl rfl)
theorem dX4_removeTest_106 : decode cX4_removeTest 106 = .ok (.iadd, 1) := dk_96 (dk_at dksX4_removeTest_4 13 rfl rfl)
theorem dX4_removeTest_107 : decode cX4_removeTest 107 = .ok (.iconst 1, 1) := dk_4 (dk_at dksX4_removeTest_4 14 rfl rfl)
theorem dX4_removeTest_108 : decode cX4_removeTest 108 = .ok (.iadd, 1) := dk_96 (dk_at dksX4_removeTest_4 15 rfl rfl)
theorem dX4_removeTest_109 : decode cX4_removeTest 109 = .ok (.iaload, 1) := dk_46 (dk_at dksX4_removeTest_4 16 rfl rfl)
theorem dX4_removeTest_110 : decode cX4_removeTest 110 = .ok (.iastore, 1) := dk_79 (dk_at dksX4_removeTest_4 17 rfl rfl)
theorem dX4_removeTest_111 : decode cX4_removeTest 111 = .ok (.iload_n 3, 1) := dk_29 (dk_at dksX4_removeTest_4 18 rfl rfl)
theorem dX4_removeTest_112 : decode cX4_removeTest 112 = .ok (.ireturn, 1) := dk_172 (dk_at dksX4_removeTest_4 19 rfl rfl)
abbrev cX4_testCount : ByteArray := prog_10_method_12_code
def yX4_testCount : MethodName := ⟨RX4, "testCount", "()I"⟩
def dkwX4_testCount_0 : List UInt8 := [42, 3, 181, 0, 31, 42, 180, 0, 9, 6, 46, 172]
abbrev dktX4_testCount_0 : List UInt8 := dkwX4_testCount_0 ++ []
theorem dksX4_testCount_0 : cX4_testCount.data.toList.drop 0 = dktX4_testCount_0 := by decide +kernel
theorem dX4_testCount_0 : decode cX4_testCount 0 = .ok (.aload_n 0, 1) := dk_42 (dk_at dksX4_testCount_0 0 rfl rfl)
theorem dX4_testCount_1 : decode cX4_testCount 1 = .ok (.iconst 0, 1) := dk_3 (dk_at dksX4_testCount_0 1 rfl rfl)
theorem dX4_testCount_2 : decode cX4_testCount 2 = .ok (.putfield 31, 3) := dk_181 0 31 (dk_at dksX4_testCount_0 2 rfl rfl)
theorem dX4_testCount_5 : decode cX4_testCount 5 = .ok (.aload_n 0, 1) := dk_42 (dk_at dksX4_testCount_0 5 rfl rfl)
theorem dX4_testCount_6 : decode cX4_testCount 6 = .ok (.getfield 9, 3) := dk_180 0 9 (dk_at dksX4_testCount_0 6 rfl rfl)
theorem dX4_testCount_9 : decode cX4_testCount 9 = .ok (.iconst 3, 1) := dk_6 (dk_at dksX4_testCount_0 9 rfl rfl)
theorem dX4_testCount_10 : decode cX4_testCount 10 = .ok (.iaload, 1) := dk_46 (dk_at dksX4_testCount_0 10 rfl rfl)
theorem dX4_testCount_11 : decode cX4_testCount 11 = .ok (.ireturn, 1) := dk_172 (dk_at dksX4_testCount_0 11 rfl rfl)
abbrev cX4_thresholdOn : ByteArray := prog_10_method_14_code
def yX4_thresholdOn : MethodName := ⟨RX4, "thresholdOn", "(I)I"⟩
def dkwX4_thresholdOn_1 : List UInt8 := [3, 167, 0, 8, 42, 27, 182, 0, 69, 172]
abbrev dktX4_thresholdOn_1 : List UInt8 := dkwX4_thresholdOn_1 ++ []
def dkwX4_thresholdOn_0 : List UInt8 := [42, 27, 3, 17, 0, 199, 184, 0, 47, 154, 0, 7, 4, 167, 0, 4, 3, 4, 182, 0, 51, 153, 0, 7]
abbrev dktX4_thresholdOn_0 : List UInt8 := dkwX4_thresholdOn_0 ++ dktX4_thresholdOn_1
theorem dksX4_thresholdOn_0 : cX4_thresholdOn.data.toList.drop 0 = dktX4_thresholdOn_0 := by decide +kernel
theorem dksX4_thresholdOn_1 : cX4_thresholdOn.data.toList.drop 24 = dktX4_thresholdOn_1 := dk_seg dksX4_thresholdOn_0 24 rfl rfl
theorem dX4_thresholdOn_0 : decode cX4_thresholdOn 0 = .ok (.aload_n 0, 1) := dk_42 (dk_at dksX4_thresholdOn_0 0 rfl rfl)
theorem dX4_thresholdOn_1 : decode cX4_thresholdOn 1 = .ok (.iload_n 1, 1) := dk_27 (dk_at dksX4_thresholdOn_0 1 rfl rfl)
theorem dX4_thresholdOn_2 : decode cX4_thresholdOn 2 = .ok (.iconst 0, 1) := dk_3 (dk_at dksX4_thresholdOn_0 2 rfl rfl)
theorem dX4_thresholdOn_3 : decode cX4_thresholdOn 3 = .ok (.sipush 199, 3) := dk_17 0 199 (dk_at dksX4_thresholdOn_0 3 rfl rfl)
theorem dX4_thresholdOn_6 : decode cX4_thresholdOn 6 = .ok (.invokestatic 47, 3) := dk_184 0 47 (dk_at dksX4_thresholdOn_0 6 rfl rfl)
theorem dX4_thresholdOn_9 : decode cX4_thresholdOn 9 = .ok (.ifCond .ne 7, 3) := dk_154 0 7 (dk_at dksX4_thresholdOn_0 9 rfl rfl)
theorem dX4_thresholdOn_12 : decode cX4_thresholdOn 12 = .ok (.iconst 1, 1) := dk_4 (dk_at dksX4_thresholdOn_0 12 rfl rfl)
theorem dX4_thresholdOn_13 : decode cX4_thresholdOn 13 = .ok (.goto 4, 3) := dk_167 0 4 (dk_at dksX4_thresholdOn_0 13 rfl rfl)
theorem dX4_thresholdOn_16 : decode cX4_thresholdOn 16 = .ok (.iconst 0, 1) := dk_3 (dk_at dksX4_thresholdOn_0 16 rfl rfl)
theorem dX4_thresholdOn_17 : decode cX4_thresholdOn 17 = .ok (.iconst 1, 1) := dk_4 (dk_at dksX4_thresholdOn_0 17 rfl rfl)
theorem dX4_thresholdOn_18 : decode cX4_thresholdOn 18 = .ok (.invokevirtual 51, 3) := dk_182 0 51 (dk_at dksX4_thresholdOn_0 18 rfl rfl)
theorem dX4_thresholdOn_21 : decode cX4_thresholdOn 21 = .ok (.ifCond .eq 7, 3) := dk_153 0 7 (dk_at dksX4_thresholdOn_0 21 rfl rfl)
theorem dX4_thresholdOn_24 : decode cX4_thresholdOn 24 = .ok (.iconst 0, 1) := dk_3 (dk_at dksX4_thresholdOn_1 0 rfl rfl)
theorem dX4_thresholdOn_25 : decode cX4_thresholdOn 25 = .ok (.goto 8, 3) := dk_167 0 8 (dk_at dksX4_thresholdOn_1 1 rfl rfl)
theorem dX4_thresholdOn_28 : decode cX4_thresholdOn 28 = .ok (.aload_n 0, 1) := dk_42 (dk_at dksX4_thresholdOn_1 4 rfl rfl)
theorem dX4_thresholdOn_29 : decode cX4_thresholdOn 29 = .ok (.iload_n 1, 1) := dk_27 (dk_at dksX4_thresholdOn_1 5 rfl rfl)
theorem dX4_thresholdOn_30 : decode cX4_thresholdOn 30 = .ok (.invokevirtual 69, 3) := dk_182 0 69 (dk_at dksX4_thresholdOn_1 6 rfl rfl)
theorem dX4_thresholdOn_33 : decode cX4_thresholdOn 33 = .ok (.ireturn, 1) := dk_172 (dk_at dksX4_thresholdOn_1 9 rfl rfl)
abbrev cX4_setBound : ByteArray := prog_10_method_15_code
def yX4_setBound : MethodName := ⟨RX4, "setBound", "(II)I"⟩
def dkwX4_setBound_4 : List UInt8 := [180, 0, 9, 16, 8, 27, 96, 46, 62, 42, 180, 0, 9, 16, 8, 27, 96, 28, 79, 29, 172]
abbrev dktX4_setBound_4 : List UInt8 := dkwX4_setBound_4 ++ []
def dkwX4_setBound_3 : List UInt8 := [28, 163, 0, 7, 4, 167, 0, 4, 3, 5, 182, 0, 51, 153, 0, 5, 3, 172, 42, 182, 0, 55, 42]
abbrev dktX4_setBound_3 : List UInt8 := dkwX4_setBound_3 ++ dktX4_setBound_4
def dkwX4_setBound_2 : List UInt8 := [96, 4, 100, 46, 28, 162, 0, 23, 27, 8, 162, 0, 22, 42, 180, 0, 9, 16, 8, 27, 96, 4, 96, 46]
abbrev dktX4_setBound_2 : List UInt8 := dkwX4_setBound_2 ++ dktX4_setBound_3
def dkwX4_setBound_1 : List UInt8 := [167, 0, 4, 3, 4, 182, 0, 51, 154, 0, 56, 42, 27, 5, 164, 0, 18, 42, 180, 0, 9, 16, 8, 27]
abbrev dktX4_setBound_1 : List UInt8 := dkwX4_setBound_1 ++ dktX4_setBound_2
def dkwX4_setBound_0 : List UInt8 := [42, 27, 5, 8, 184, 0, 47, 153, 0, 14, 28, 4, 17, 1, 44, 184, 0, 47, 154, 0, 7, 4]
abbrev dktX4_setBound_0 : List UInt8 := dkwX4_setBound_0 ++ dktX4_setBound_1
theorem dksX4_setBound_0 : cX4_setBound.data.toList.drop 0 = dktX4_setBound_0 := by decide +kernel
theorem dksX4_setBound_1 : cX4_setBound.data.toList.drop 22 = dktX4_setBound_1 := dk_seg dksX4_setBound_0 22 rfl rfl
theorem dksX4_setBound_2 : cX4_setBound.data.toList.drop 46 = dktX4_setBound_2 := dk_seg dksX4_setBound_1 24 rfl rfl
theorem dksX4_setBound_3 : cX4_setBound.data.toList.drop 70 = dktX4_setBound_3 := dk_seg dksX4_setBound_2 24 rfl rfl
theorem dksX4_setBound_4 : cX4_setBound.data.toList.drop 93 = dktX4_setBound_4 := dk_seg dksX4_setBound_3 23 rfl rfl
theorem dX4_setBound_0 : decode cX4_setBound 0 = .ok (.aload_n 0, 1) := dk_42 (dk_at dksX4_setBound_0 0 rfl rfl)
theorem dX4_setBound_1 : decode cX4_setBound 1 = .ok (.iload_n 1, 1) := dk_27 (dk_at dksX4_setBound_0 1 rfl rfl)
theorem dX4_setBound_2 : decode cX4_setBound 2 = .ok (.iconst 2, 1) := dk_5 (dk_at dksX4_setBound_0 2 rfl rfl)
theorem dX4_setBound_3 : decode cX4_setBound 3 = .ok (.iconst 5, 1) := dk_8 (dk_at dksX4_setBound_0 3 rfl rfl)
theorem dX4_setBound_4 : decode cX4_setBound 4 = .ok (.invokestatic 47, 3) := dk_184 0 47 (dk_at dksX4_setBound_0 4 rfl rfl)
theorem dX4_setBound_7 : decode cX4_setBound 7 = .ok (.ifCond .eq 14, 3) := dk_153 0 14 (dk_at dksX4_setBound_0 7 rfl rfl)
theorem dX4_setBound_10 : decode cX4_setBound 10 = .ok (.iload_n 2, 1) := dk_28 (dk_at dksX4_setBound_0 10 rfl rfl)
theorem dX4_setBound_11 : decode cX4_setBound 11 = .ok (.iconst 1, 1) := dk_4 (dk_at dksX4_setBound_0 11 rfl rfl)
theorem dX4_setBound_12 : decode cX4_setBound 12 = .ok (.sipush 300, 3) := dk_17 1 44 (dk_at dksX4_setBound_0 12 rfl rfl)
theorem dX4_setBound_15 : decode cX4_setBound 15 = .ok (.invokestatic 47, 3) := dk_184 0 47 (dk_at dksX4_setBound_0 15 rfl rfl)
theorem dX4_setBound_18 : decode cX4_setBound 18 = .ok (.ifCond .ne 7, 3) := dk_154 0 7 (dk_at dksX4_setBound_0 18 rfl rfl)
theorem dX4_setBound_21 : decode cX4_setBound 21 = .ok (.iconst 1, 1) := dk_4 (dk_at dksX4_setBound_0 21 rfl rfl)
theorem dX4_setBound_22 : decode cX4_setBound 22 = .ok (.goto 4, 3) := dk_167 0 4 (dk_at dksX4_setBound_1 0 rfl rfl)
theorem dX4_setBound_25 : decode cX4_setBound 25 = .ok (.iconst 0, 1) := dk_3 (dk_at dksX4_setBound_1 3 rfl rfl)
theorem dX4_setBound_26 : decode cX4_setBound 26 = .ok (.iconst 1, 1) := dk_4 (dk_at dksX4_setBound_1 4 rfl rfl)
theorem dX4_setBound_27 : decode cX4_setBound 27 = .ok (.invokevirtual 51, 3) := dk_182 0 51 (dk_at dksX4_setBound_1 5 rfl rfl)
theorem dX4_setBound_30 : decode cX4_setBound 30 = .ok (.ifCond .ne 56, 3) := dk_154 0 56 (dk_at dksX4_setBound_1 8 rfl rfl)
theorem dX4_setBound_33 : decode cX4_setBound 33 = .ok (.aload_n 0, 1) := dk_42 (dk_at dksX4_setBound_1 11 rfl rfl)
theorem dX4_setBound_34 : decode cX4_setBound 34 = .ok (.iload_n 1, 1) := dk_27 (dk_at dksX4_setBound_1 12 rfl rfl)
theorem dX4_setBound_35 : decode cX4_setBound 35 = .ok (.iconst 2, 1) := dk_5 (dk_at dksX4_setBound_1 13 rfl rfl)
theorem dX4_setBound_36 : decode cX4_setBound 36 = .ok (.if_icmp .le 18, 3) := dk_164 0 18 (dk_at dksX4_setBound_1 14 rfl rfl)
theorem dX4_setBound_39 : decode cX4_setBound 39 = .ok (.aload_n 0, 1) := dk_42 (dk_at dksX4_setBound_1 17 rfl rfl)
theorem dX4_setBound_40 : decode cX4_setBound 40 = .ok (.getfield 9, 3) := dk_180 0 9 (dk_at dksX4_setBound_1 18 rfl rfl)
theorem dX4_setBound_43 : decode cX4_setBound 43 = .ok (.bipush 8, 2) := dk_16 8 (dk_at dksX4_setBound_1 21 rfl rfl)
theorem dX4_setBound_45 : decode cX4_setBound 45 = .ok (.iload_n 1, 1) := dk_27 (dk_at dksX4_setBound_1 23 rfl rfl)
theorem dX4_setBound_46 : decode cX4_setBound 46 = .ok (.iadd, 1) := dk_96 (dk_at dksX4_setBound_2 0 rfl rfl)
theorem dX4_setBound_47 : decode cX4_setBound 47 = .ok (.iconst 1, 1) := dk_4 (dk_at dksX4_setBound_2 1 rfl rfl)
theorem dX4_setBound_48 : decode cX4_setBound 48 = .ok (.isub, 1) := dk_100 (dk_at dksX4_setBound_2 2 rfl rfl)
theorem dX4_setBound_49 : decode cX4_setBound 49 = .ok (.iaload, 1) := dk_46 (dk_at dksX4_setBound_2 3 rfl rfl)
theorem dX4_setBound_50 : decode cX4_setBound 50 = .ok (.iload_n 2, 1) := dk_28 (dk_at dksX4_setBound_2 4 rfl rfl)
theorem dX4_setBound_51 : decode cX4_setBound 51 = .ok (.if_icmp .ge 23, 3) := dk_162 0 23 (dk_at dksX4_setBound_2 5 rfl rfl)
theorem dX4_setBound_54 : decode cX4_setBound 54 = .ok (.iload_n 1, 1) := dk_27 (dk_at dksX4_setBound_2 8 rfl rfl)
theorem dX4_setBound_55 : decode cX4_setBound 55 = .ok (.iconst 5, 1) := dk_8 (dk_at dksX4_setBound_2 9 rfl rfl)
theorem dX4_setBound_56 : decode cX4_setBound 56 = .ok (.if_icmp .ge 22, 3) := dk_162 0 22 (dk_at dksX4_setBound_2 10 rfl rfl)
theorem dX4_setBound_59 : decode cX4_setBound 59 = .ok (.aload_n 0, 1) := dk_42 (dk_at dksX4_setBound_2 13 rfl rfl)
theorem dX4_setBound_60 : decode cX4_setBound 60 = .ok (.getfield 9, 3) := dk_180 0 9 (dk_at dksX4_setBound_2 14 rfl rfl)
theorem dX4_setBound_63 : decode cX4_setBound 63 = .ok (.bipush 8, 2) := dk_16 8 (dk_at dksX4_setBound_2 17 rfl rfl)
theorem dX4_setBound_65 : decode cX4_setBound 65 = .ok (.iload_n 1, 1) := dk_27 (dk_at dksX4_setBound_2 19 rfl rfl)
theorem dX4_setBound_66 : decode cX4_setBound 66 = .ok (.iadd, 1) := dk_96 (dk_at dksX4_setBound_2 20 rfl rfl)
theorem dX4_setBound_67 : decode cX4_setBound 67 = .ok (.iconst 1, 1) := dk_4 (dk_at dksX4_setBound_2 21 rfl rfl)
theorem dX4_setBound_68 : decode cX4_setBound 68 = .ok (.iadd, 1) := dk_96 (dk_at dksX4_setBound_2 22 rfl rfl)
theorem dX4_setBound_69 : decode cX4_setBound 69 = .ok (.iaload, 1) := dk_46 (dk_at dksX4_setBound_2 23 rfl rfl)
theorem dX4_setBound_70 : decode cX4_setBound 70 = .ok (.iload_n 2, 1) := dk_28 (dk_at dksX4_setBound_3 0 rfl rfl)
theorem dX4_setBound_71 : decode cX4_setBound 71 = .ok (.if_icmp .gt 7, 3) := dk_163 0 7 (dk_at dksX4_setBound_3 1 rfl rfl)
theorem dX4_setBound_74 : decode cX4_setBound 74 = .ok (.iconst 1, 1) := dk_4 (dk_at dksX4_setBound_3 4 rfl rfl)
theorem dX4_setBound_75 : decode cX4_setBound 75 = .ok (.goto 4, 3) := dk_167 0 4 (dk_at dksX4_setBound_3 5 rfl rfl)
theorem dX4_setBound_78 : decode cX4_setBound 78 = .ok (.iconst 0, 1) := dk_3 (dk_at dksX4_setBound_3 8 rfl rfl)
theorem dX4_setBound_79 : decode cX4_setBound 79 = .ok (.iconst 2, 1) := dk_5 (dk_at dksX4_setBound_3 9 rfl rfl)
theorem dX4_setBound_80 : decode cX4_setBound 80 = .ok (.invokevirtual 51, 3) := dk_182 0 51 (dk_at dksX4_setBound_3 10 rfl rfl)
theorem dX4_setBound_83 : decode cX4_setBound 83 = .ok (.ifCond .eq 5, 3) := dk_153 0 5 (dk_at dksX4_setBound_3 13 rfl rfl)
theorem dX4_setBound_86 : decode cX4_setBound 86 = .ok (.iconst 0, 1) := dk_3 (dk_at dksX4_setBound_3 16 rfl rfl)
theorem dX4_setBound_87 : decode cX4_setBound 87 = .ok (.ireturn, 1) := dk_172 (dk_at dksX4_setBound_3 17 rfl rfl)
theorem dX4_setBound_88 : decode cX4_setBound 88 = .ok (.aload_n 0, 1) := dk_42 (dk_at dksX4_setBound_3 18 rfl rfl)
theorem dX4_setBound_89 : decode cX4_setBound 89 = .ok (.invokevirtual 55, 3) := dk_182 0 55 (dk_at dksX4_setBound_3 19 rfl rfl)
theorem dX4_setBound_92 : decode cX4_setBound 92 = .ok (.aload_n 0, 1) := dk_42 (dk_at dksX4_setBound_3 22 rfl rfl)
theorem dX4_setBound_93 : decode cX4_setBound 93 = .ok (.getfield 9, 3) := dk_180 0 9 (dk_at dksX4_setBound_4 0 rfl rfl)
theorem dX4_setBound_96 : decode cX4_setBound 96 = .ok (.bipush 8, 2) := dk_16 8 (dk_at dksX4_setBound_4 3 rfl rfl)
theorem dX4_setBound_98 : decode cX4_setBound 98 = .ok (.iload_n 1, 1) := dk_27 (dk_at dksX4_setBound_4 5 rfl rfl)
theorem dX4_setBound_99 : decode cX4_setBound 99 = .ok (.iadd, 1) := dk_96 (dk_at dksX4_setBound_4 6 rfl rfl)
theorem dX4_setBound_100 : decode cX4_setBound 100 = .ok (.iaload, 1) := dk_46 (dk_at dksX4_setBound_4 7 rfl rfl)
theorem dX4_setBound_101 : decode cX4_setBound 101 = .ok (.istore_n 3, 1) := dk_62 (dk_at dksX4_setBound_4 8 rfl rfl)
theorem dX4_setBound_102 : decode cX4_setBound 102 = .ok (.aload_n 0, 1) := dk_42 (dk_at dksX4_setBound_4 9 rfl rfl)
theorem dX4_setBound_103 : decode cX4_setBound 103 = .ok (.getfield 9, 3) := dk_180 0 9 (dk_at dksX4_setBound_4 10 rfl rfl)
theorem dX4_setBound_106 : decode cX4_setBound 106 = .ok (.bipush 8, 2) := dk_16 8 (dk_at dksX4_setBound_4 13 rfl rfl)
theorem dX4_setBound_108 : decode cX4_setBound 108 = .ok (.iload_n 1, 1) := dk_27 (dk_at dksX4_setBound_4 15 rfl rfl)
theorem dX4_setBound_109 : decode cX4_setBound 109 = .ok (.iadd, 1) := dk_96 (dk_at dksX4_setBound_4 16 rfl rfl)
theorem dX4_setBound_110 : decode cX4_setBound 110 = .ok (.iload_n 2, 1) := dk_28 (dk_at dksX4_setBound_4 17 rfl rfl)
theorem dX4_setBound_111 : decode cX4_setBound 111 = .ok (.iastore, 1) := dk_79 (dk_at dksX4_setBound_4 18 rfl rfl)
theorem dX4_setBound_112 : decode cX4_setBound 112 = .ok (.iload_n 3, 1) := dk_29 (dk_at dksX4_setBound_4 19 rfl rfl)
theorem dX4_setBound_113 : decode cX4_setBound 113 = .ok (.ireturn, 1) := dk_172 (dk_at dksX4_setBound_4 20 rfl rfl)
abbrev cX4_boundOf : ByteArray := prog_10_method_16_code
def yX4_boundOf : MethodName := ⟨RX4, "boundOf", "(I)I"⟩
def dkwX4_boundOf_1 : List UInt8 := [167, 0, 12, 42, 180, 0, 9, 16, 8, 27, 96, 46, 172]
abbrev dktX4_boundOf_1 : List UInt8 := dkwX4_boundOf_1 ++ []
def dkwX4_boundOf_0 : List UInt8 := [42, 27, 5, 8, 184, 0, 47, 154, 0, 7, 4, 167, 0, 4, 3, 4, 182, 0, 51, 153, 0, 7, 3]
abbrev dktX4_boundOf_0 : List UInt8 := dkwX4_boundOf_0 ++ dktX4_boundOf_1
theorem dksX4_boundOf_0 : cX4_boundOf.data.toList.drop 0 = dktX4_boundOf_0 := by decide +kernel
theorem dksX4_boundOf_1 : cX4_boundOf.data.toList.drop 23 = dktX4_boundOf_1 := dk_seg dksX4_boundOf_0 23 rfl rfl
theorem dX4_boundOf_0 : decode cX4_boundOf 0 = .ok (.aload_n 0, 1) := dk_42 (dk_at dksX4_boundOf_0 0 rfl rfl)
theorem dX4_boundOf_1 : decode cX4_boundOf 1 = .ok (.iload_n 1, 1) := dk_27 (dk_at dksX4_boundOf_0 1 rfl rfl)
theorem dX4_boundOf_2 : decode cX4_boundOf 2 = .ok (.iconst 2, 1) := dk_5 (dk_at dksX4_boundOf_0 2 rfl rfl)
theorem dX4_boundOf_3 : decode cX4_boundOf 3 = .ok (.iconst 5, 1) := dk_8 (dk_at dksX4_boundOf_0 3 rfl rfl)
theorem dX4_boundOf_4 : decode cX4_boundOf 4 = .ok (.invokestatic 47, 3) := dk_184 0 47 (dk_at dksX4_boundOf_0 4 rfl rfl)
theorem dX4_boundOf_7 : decode cX4_boundOf 7 = .ok (.ifCond .ne 7, 3) := dk_154 0 7 (dk_at dksX4_boundOf_0 7 rfl rfl)
theorem dX4_boundOf_10 : decode cX4_boundOf 10 = .ok (.iconst 1, 1) := dk_4 (dk_at dksX4_boundOf_0 10 rfl rfl)
theorem dX4_boundOf_11 : decode cX4_boundOf 11 = .ok (.goto 4, 3) := dk_167 0 4 (dk_at dksX4_boundOf_0 11 rfl rfl)
theorem dX4_boundOf_14 : decode cX4_boundOf 14 = .ok (.iconst 0, 1) := dk_3 (dk_at dksX4_boundOf_0 14 rfl rfl)
theorem dX4_boundOf_15 : decode cX4_boundOf 15 = .ok (.iconst 1, 1) := dk_4 (dk_at dksX4_boundOf_0 15 rfl rfl)
theorem dX4_boundOf_16 : decode cX4_boundOf 16 = .ok (.invokevirtual 51, 3) := dk_182 0 51 (dk_at dksX4_boundOf_0 16 rfl rfl)
theorem dX4_boundOf_19 : decode cX4_boundOf 19 = .ok (.ifCond .eq 7, 3) := dk_153 0 7 (dk_at dksX4_boundOf_0 19 rfl rfl)
theorem dX4_boundOf_22 : decode cX4_boundOf 22 = .ok (.iconst 0, 1) := dk_3 (dk_at dksX4_boundOf_0 22 rfl rfl)
theorem dX4_boundOf_23 : decode cX4_boundOf 23 = .ok (.goto 12, 3) := dk_167 0 12 (dk_at dksX4_boundOf_1 0 rfl rfl)
theorem dX4_boundOf_26 : decode cX4_boundOf 26 = .ok (.aload_n 0, 1) := dk_42 (dk_at dksX4_boundOf_1 3 rfl rfl)
theorem dX4_boundOf_27 : decode cX4_boundOf 27 = .ok (.getfield 9, 3) := dk_180 0 9 (dk_at dksX4_boundOf_1 4 rfl rfl)
theorem dX4_boundOf_30 : decode cX4_boundOf 30 = .ok (.bipush 8, 2) := dk_16 8 (dk_at dksX4_boundOf_1 7 rfl rfl)
theorem dX4_boundOf_32 : decode cX4_boundOf 32 = .ok (.iload_n 1, 1) := dk_27 (dk_at dksX4_boundOf_1 9 rfl rfl)
theorem dX4_boundOf_33 : decode cX4_boundOf 33 = .ok (.iadd, 1) := dk_96 (dk_at dksX4_boundOf_1 10 rfl rfl)
theorem dX4_boundOf_34 : decode cX4_boundOf 34 = .ok (.iaload, 1) := dk_46 (dk_at dksX4_boundOf_1 11 rfl rfl)
theorem dX4_boundOf_35 : decode cX4_boundOf 35 = .ok (.ireturn, 1) := dk_172 (dk_at dksX4_boundOf_1 12 rfl rfl)
abbrev cX4_setWeight : ByteArray := prog_10_method_17_code
def yX4_setWeight : MethodName := ⟨RX4, "setWeight", "(II)I"⟩
def dkwX4_setWeight_2 : List UInt8 := [42, 180, 0, 9, 16, 14, 27, 96, 28, 79, 29, 172]
abbrev dktX4_setWeight_2 : List UInt8 := dkwX4_setWeight_2 ++ []
def dkwX4_setWeight_1 : List UInt8 := [3, 4, 182, 0, 51, 153, 0, 5, 3, 172, 42, 182, 0, 55, 42, 180, 0, 9, 16, 14, 27, 96, 46, 62]
abbrev dktX4_setWeight_1 : List UInt8 := dkwX4_setWeight_1 ++ dktX4_setWeight_2
def dkwX4_setWeight_0 : List UInt8 := [42, 27, 4, 8, 184, 0, 47, 153, 0, 13, 28, 3, 16, 100, 184, 0, 47, 154, 0, 7, 4, 167, 0, 4]
abbrev dktX4_setWeight_0 : List UInt8 := dkwX4_setWeight_0 ++ dktX4_setWeight_1
theorem dksX4_setWeight_0 : cX4_setWeight.data.toList.drop 0 = dktX4_setWeight_0 := by decide +kernel
theorem dksX4_setWeight_1 : cX4_setWeight.data.toList.drop 24 = dktX4_setWeight_1 := dk_seg dksX4_setWeight_0 24 rfl rfl
theorem dksX4_setWeight_2 : cX4_setWeight.data.toList.drop 48 = dktX4_setWeight_2 := dk_seg dksX4_setWeight_1 24 rfl rfl
theorem dX4_setWeight_0 : decode cX4_setWeight 0 = .ok (.aload_n 0, 1) := dk_42 (dk_at dksX4_setWeight_0 0 rfl rfl)
theorem dX4_setWeight_1 : decode cX4_setWeight 1 = .ok (.iload_n 1, 1) := dk_27 (dk_at dksX4_setWeight_0 1 rfl rfl)
theorem dX4_setWeight_2 : decode cX4_setWeight 2 = .ok (.iconst 1, 1) := dk_4 (dk_at dksX4_setWeight_0 2 rfl rfl)
theorem dX4_setWeight_3 : decode cX4_setWeight 3 = .ok (.iconst 5, 1) := dk_8 (dk_at dksX4_setWeight_0 3 rfl rfl)
theorem dX4_setWeight_4 : decode cX4_setWeight 4 = .ok (.invokestatic 47, 3) := dk_184 0 47 (dk_at dksX4_setWeight_0 4 rfl rfl)
theorem dX4_setWeight_7 : decode cX4_setWeight 7 = .ok (.ifCond .eq 13, 3) := dk_153 0 13 (dk_at dksX4_setWeight_0 7 rfl rfl)
theorem dX4_setWeight_10 : decode cX4_setWeight 10 = .ok (.iload_n 2, 1) := dk_28 (dk_at dksX4_setWeight_0 10 rfl rfl)
theorem dX4_setWeight_11 : decode cX4_setWeight 11 = .ok (.iconst 0, 1) := dk_3 (dk_at dksX4_setWeight_0 11 rfl rfl)
theorem dX4_setWeight_12 : decode cX4_setWeight 12 = .ok (.bipush 100, 2) := dk_16 100 (dk_at dksX4_setWeight_0 12 rfl rfl)
theorem dX4_setWeight_14 : decode cX4_setWeight 14 = .ok (.invokestatic 47, 3) := dk_184 0 47 (dk_at dksX4_setWeight_0 14 rfl rfl)
theorem dX4_setWeight_17 : decode cX4_setWeight 17 = .ok (.ifCond .ne 7, 3) := dk_154 0 7 (dk_at dksX4_setWeight_0 17 rfl rfl)
theorem dX4_setWeight_20 : decode cX4_setWeight 20 = .ok (.iconst 1, 1) := dk_4 (dk_at dksX4_setWeight_0 20 rfl rfl)
theorem dX4_setWeight_21 : decode cX4_setWeight 21 = .ok (.goto 4, 3) := dk_167 0 4 (dk_at dksX4_setWeight_0 21 rfl rfl)
theorem dX4_setWeight_24 : decode cX4_setWeight 24 = .ok (.iconst 0, 1) := dk_3 (dk_at dksX4_setWeight_1 0 rfl rfl)
theorem dX4_setWeight_25 : decode cX4_setWeight 25 = .ok (.iconst 1, 1) := dk_4 (dk_at dksX4_setWeight_1 1 rfl rfl)
theorem dX4_setWeight_26 : decode cX4_setWeight 26 = .ok (.invokevirtual 51, 3) := dk_182 0 51 (dk_at dksX4_setWeight_1 2 rfl rfl)
theorem dX4_setWeight_29 : decode cX4_setWeight 29 = .ok (.ifCond .eq 5, 3) := dk_153 0 5 (dk_at dksX4_setWeight_1 5 rfl rfl)
theorem dX4_setWeight_32 : decode cX4_setWeight 32 = .ok (.iconst 0, 1) := dk_3 (dk_at dksX4_setWeight_1 8 rfl rfl)
theorem dX4_setWeight_33 : decode cX4_setWeight 33 = .ok (.ireturn, 1) := dk_172 (dk_at dksX4_setWeight_1 9 rfl rfl)
theorem dX4_setWeight_34 : decode cX4_setWeight 34 = .ok (.aload_n 0, 1) := dk_42 (dk_at dksX4_setWeight_1 10 rfl rfl)
theorem dX4_setWeight_35 : decode cX4_setWeight 35 = .ok (.invokevirtual 55, 3) := dk_182 0 55 (dk_at dksX4_setWeight_1 11 rfl rfl)
theorem dX4_setWeight_38 : decode cX4_setWeight 38 = .ok (.aload_n 0, 1) := dk_42 (dk_at dksX4_setWeight_1 14 rfl rfl)
theorem dX4_setWeight_39 : decode cX4_setWeight 39 = .ok (.getfield 9, 3) := dk_180 0 9 (dk_at dksX4_setWeight_1 15 rfl rfl)
theorem dX4_setWeight_42 : decode cX4_setWeight 42 = .ok (.bipush 14, 2) := dk_16 14 (dk_at dksX4_setWeight_1 18 rfl rfl)
theorem dX4_setWeight_44 : decode cX4_setWeight 44 = .ok (.iload_n 1, 1) := dk_27 (dk_at dksX4_setWeight_1 20 rfl rfl)
theorem dX4_setWeight_45 : decode cX4_setWeight 45 = .ok (.iadd, 1) := dk_96 (dk_at dksX4_setWeight_1 21 rfl rfl)
theorem dX4_setWeight_46 : decode cX4_setWeight 46 = .ok (.iaload, 1) := dk_46 (dk_at dksX4_setWeight_1 22 rfl rfl)
theorem dX4_setWeight_47 : decode cX4_setWeight 47 = .ok (.istore_n 3, 1) := dk_62 (dk_at dksX4_setWeight_1 23 rfl rfl)
theorem dX4_setWeight_48 : decode cX4_setWeight 48 = .ok (.aload_n 0, 1) := dk_42 (dk_at dksX4_setWeight_2 0 rfl rfl)
theorem dX4_setWeight_49 : decode cX4_setWeight 49 = .ok (.getfield 9, 3) := dk_180 0 9 (dk_at dksX4_setWeight_2 1 rfl rfl)
theorem dX4_setWeight_52 : decode cX4_setWeight 52 = .ok (.bipush 14, 2) := dk_16 14 (dk_at dksX4_setWeight_2 4 rfl rfl)
theorem dX4_setWeight_54 : decode cX4_setWeight 54 = .ok (.iload_n 1, 1) := dk_27 (dk_at dksX4_setWeight_2 6 rfl rfl)
theorem dX4_setWeight_55 : decode cX4_setWeight 55 = .ok (.iadd, 1) := dk_96 (dk_at dksX4_setWeight_2 7 rfl rfl)
theorem dX4_setWeight_56 : decode cX4_setWeight 56 = .ok (.iload_n 2, 1) := dk_28 (dk_at dksX4_setWeight_2 8 rfl rfl)
theorem dX4_setWeight_57 : decode cX4_setWeight 57 = .ok (.iastore, 1) := dk_79 (dk_at dksX4_setWeight_2 9 rfl rfl)
theorem dX4_setWeight_58 : decode cX4_setWeight 58 = .ok (.iload_n 3, 1) := dk_29 (dk_at dksX4_setWeight_2 10 rfl rfl)
theorem dX4_setWeight_59 : decode cX4_setWeight 59 = .ok (.ireturn, 1) := dk_172 (dk_at dksX4_setWeight_2 11 rfl rfl)
abbrev cX4_weightOf : ByteArray := prog_10_method_18_code
def yX4_weightOf : MethodName := ⟨RX4, "weightOf", "(I)I"⟩
def dkwX4_weightOf_1 : List UInt8 := [167, 0, 12, 42, 180, 0, 9, 16, 14, 27, 96, 46, 172]
abbrev dktX4_weightOf_1 : List UInt8 := dkwX4_weightOf_1 ++ []
def dkwX4_weightOf_0 : List UInt8 := [42, 27, 4, 8, 184, 0, 47, 154, 0, 7, 4, 167, 0, 4, 3, 4, 182, 0, 51, 153, 0, 7, 3]
abbrev dktX4_weightOf_0 : List UInt8 := dkwX4_weightOf_0 ++ dktX4_weightOf_1
theorem dksX4_weightOf_0 : cX4_weightOf.data.toList.drop 0 = dktX4_weightOf_0 := by decide +kernel
theorem dksX4_weightOf_1 : cX4_weightOf.data.toList.drop 23 = dktX4_weightOf_1 := dk_seg dksX4_weightOf_0 23 rfl rfl
theorem dX4_weightOf_0 : decode cX4_weightOf 0 = .ok (.aload_n 0, 1) := dk_42 (dk_at dksX4_weightOf_0 0 rfl rfl)
theorem dX4_weightOf_1 : decode cX4_weightOf 1 = .ok (.iload_n 1, 1) := dk_27 (dk_at dksX4_weightOf_0 1 rfl rfl)
theorem dX4_weightOf_2 : decode cX4_weightOf 2 = .ok (.iconst 1, 1) := dk_4 (dk_at dksX4_weightOf_0 2 rfl rfl)
theorem dX4_weightOf_3 : decode cX4_weightOf 3 = .ok (.iconst 5, 1) := dk_8 (dk_at dksX4_weightOf_0 3 rfl rfl)
theorem dX4_weightOf_4 : decode cX4_weightOf 4 = .ok (.invokestatic 47, 3) := dk_184 0 47 (dk_at dksX4_weightOf_0 4 rfl rfl)
theorem dX4_weightOf_7 : decode cX4_weightOf 7 = .ok (.ifCond .ne 7, 3) := dk_154 0 7 (dk_at dksX4_weightOf_0 7 rfl rfl)
theorem dX4_weightOf_10 : decode cX4_weightOf 10 = .ok (.iconst 1, 1) := dk_4 (dk_at dksX4_weightOf_0 10 rfl rfl)
theorem dX4_weightOf_11 : decode cX4_weightOf 11 = .ok (.goto 4, 3) := dk_167 0 4 (dk_at dksX4_weightOf_0 11 rfl rfl)
theorem dX4_weightOf_14 : decode cX4_weightOf 14 = .ok (.iconst 0, 1) := dk_3 (dk_at dksX4_weightOf_0 14 rfl rfl)
theorem dX4_weightOf_15 : decode cX4_weightOf 15 = .ok (.iconst 1, 1) := dk_4 (dk_at dksX4_weightOf_0 15 rfl rfl)
theorem dX4_weightOf_16 : decode cX4_weightOf 16 = .ok (.invokevirtual 51, 3) := dk_182 0 51 (dk_at dksX4_weightOf_0 16 rfl rfl)
theorem dX4_weightOf_19 : decode cX4_weightOf 19 = .ok (.ifCond .eq 7, 3) := dk_153 0 7 (dk_at dksX4_weightOf_0 19 rfl rfl)
theorem dX4_weightOf_22 : decode cX4_weightOf 22 = .ok (.iconst 0, 1) := dk_3 (dk_at dksX4_weightOf_0 22 rfl rfl)
theorem dX4_weightOf_23 : decode cX4_weightOf 23 = .ok (.goto 12, 3) := dk_167 0 12 (dk_at dksX4_weightOf_1 0 rfl rfl)
theorem dX4_weightOf_26 : decode cX4_weightOf 26 = .ok (.aload_n 0, 1) := dk_42 (dk_at dksX4_weightOf_1 3 rfl rfl)
theorem dX4_weightOf_27 : decode cX4_weightOf 27 = .ok (.getfield 9, 3) := dk_180 0 9 (dk_at dksX4_weightOf_1 4 rfl rfl)
theorem dX4_weightOf_30 : decode cX4_weightOf 30 = .ok (.bipush 14, 2) := dk_16 14 (dk_at dksX4_weightOf_1 7 rfl rfl)
theorem dX4_weightOf_32 : decode cX4_weightOf 32 = .ok (.iload_n 1, 1) := dk_27 (dk_at dksX4_weightOf_1 9 rfl rfl)
theorem dX4_weightOf_33 : decode cX4_weightOf 33 = .ok (.iadd, 1) := dk_96 (dk_at dksX4_weightOf_1 10 rfl rfl)
theorem dX4_weightOf_34 : decode cX4_weightOf 34 = .ok (.iaload, 1) := dk_46 (dk_at dksX4_weightOf_1 11 rfl rfl)
theorem dX4_weightOf_35 : decode cX4_weightOf 35 = .ok (.ireturn, 1) := dk_172 (dk_at dksX4_weightOf_1 12 rfl rfl)
abbrev cX4_zoneOf : ByteArray := prog_10_method_20_code
def yX4_zoneOf : MethodName := ⟨RX4, "zoneOf", "(II)I"⟩
def dkwX4_zoneOf_1 : List UInt8 := [167, 0, 4, 3, 4, 182, 0, 51, 153, 0, 7, 3, 167, 0, 9, 42, 27, 28, 182, 0, 72, 172]
abbrev dktX4_zoneOf_1 : List UInt8 := dkwX4_zoneOf_1 ++ []
def dkwX4_zoneOf_0 : List UInt8 := [42, 27, 3, 17, 0, 199, 184, 0, 47, 153, 0, 14, 28, 3, 17, 1, 244, 184, 0, 47, 154, 0, 7, 4]
abbrev dktX4_zoneOf_0 : List UInt8 := dkwX4_zoneOf_0 ++ dktX4_zoneOf_1
theorem dksX4_zoneOf_0 : cX4_zoneOf.data.toList.drop 0 = dktX4_zoneOf_0 := by decide +kernel
theorem dksX4_zoneOf_1 : cX4_zoneOf.data.toList.drop 24 = dktX4_zoneOf_1 := dk_seg dksX4_zoneOf_0 24 rfl rfl
theorem dX4_zoneOf_0 : decode cX4_zoneOf 0 = .ok (.aload_n 0, 1) := dk_42 (dk_at dksX4_zoneOf_0 0 rfl rfl)
theorem dX4_zoneOf_1 : decode cX4_zoneOf 1 = .ok (.iload_n 1, 1) := dk_27 (dk_at dksX4_zoneOf_0 1 rfl rfl)
theorem dX4_zoneOf_2 : decode cX4_zoneOf 2 = .ok (.iconst 0, 1) := dk_3 (dk_at dksX4_zoneOf_0 2 rfl rfl)
theorem dX4_zoneOf_3 : decode cX4_zoneOf 3 = .ok (.sipush 199, 3) := dk_17 0 199 (dk_at dksX4_zoneOf_0 3 rfl rfl)
theorem dX4_zoneOf_6 : decode cX4_zoneOf 6 = .ok (.invokestatic 47, 3) := dk_184 0 47 (dk_at dksX4_zoneOf_0 6 rfl rfl)
theorem dX4_zoneOf_9 : decode cX4_zoneOf 9 = .ok (.ifCond .eq 14, 3) := dk_153 0 14 (dk_at dksX4_zoneOf_0 9 rfl rfl)
theorem dX4_zoneOf_12 : decode cX4_zoneOf 12 = .ok (.iload_n 2, 1) := dk_28 (dk_at dksX4_zoneOf_0 12 rfl rfl)
theorem dX4_zoneOf_13 : decode cX4_zoneOf 13 = .ok (.iconst 0, 1) := dk_3 (dk_at dksX4_zoneOf_0 13 rfl rfl)
theorem dX4_zoneOf_14 : decode cX4_zoneOf 14 = .ok (.sipush 500, 3) := dk_17 1 244 (dk_at dksX4_zoneOf_0 14 rfl rfl)
theorem dX4_zoneOf_17 : decode cX4_zoneOf 17 = .ok (.invokestatic 47, 3) := dk_184 0 47 (dk_at dksX4_zoneOf_0 17 rfl rfl)
theorem dX4_zoneOf_20 : decode cX4_zoneOf 20 = .ok (.ifCond .ne 7, 3) := dk_154 0 7 (dk_at dksX4_zoneOf_0 20 rfl rfl)
theorem dX4_zoneOf_23 : decode cX4_zoneOf 23 = .ok (.iconst 1, 1) := dk_4 (dk_at dksX4_zoneOf_0 23 rfl rfl)
theorem dX4_zoneOf_24 : decode cX4_zoneOf 24 = .ok (.goto 4, 3) := dk_167 0 4 (dk_at dksX4_zoneOf_1 0 rfl rfl)
theorem dX4_zoneOf_27 : decode cX4_zoneOf 27 = .ok (.iconst 0, 1) := dk_3 (dk_at dksX4_zoneOf_1 3 rfl rfl)
theorem dX4_zoneOf_28 : decode cX4_zoneOf 28 = .ok (.iconst 1, 1) := dk_4 (dk_at dksX4_zoneOf_1 4 rfl rfl)
theorem dX4_zoneOf_29 : decode cX4_zoneOf 29 = .ok (.invokevirtual 51, 3) := dk_182 0 51 (dk_at dksX4_zoneOf_1 5 rfl rfl)
theorem dX4_zoneOf_32 : decode cX4_zoneOf 32 = .ok (.ifCond .eq 7, 3) := dk_153 0 7 (dk_at dksX4_zoneOf_1 8 rfl rfl)
theorem dX4_zoneOf_35 : decode cX4_zoneOf 35 = .ok (.iconst 0, 1) := dk_3 (dk_at dksX4_zoneOf_1 11 rfl rfl)
theorem dX4_zoneOf_36 : decode cX4_zoneOf 36 = .ok (.goto 9, 3) := dk_167 0 9 (dk_at dksX4_zoneOf_1 12 rfl rfl)
theorem dX4_zoneOf_39 : decode cX4_zoneOf 39 = .ok (.aload_n 0, 1) := dk_42 (dk_at dksX4_zoneOf_1 15 rfl rfl)
theorem dX4_zoneOf_40 : decode cX4_zoneOf 40 = .ok (.iload_n 1, 1) := dk_27 (dk_at dksX4_zoneOf_1 16 rfl rfl)
theorem dX4_zoneOf_41 : decode cX4_zoneOf 41 = .ok (.iload_n 2, 1) := dk_28 (dk_at dksX4_zoneOf_1 17 rfl rfl)
theorem dX4_zoneOf_42 : decode cX4_zoneOf 42 = .ok (.invokevirtual 72, 3) := dk_182 0 72 (dk_at dksX4_zoneOf_1 18 rfl rfl)
theorem dX4_zoneOf_45 : decode cX4_zoneOf 45 = .ok (.ireturn, 1) := dk_172 (dk_at dksX4_zoneOf_1 21 rfl rfl)
abbrev cX4_addSession : ByteArray := prog_10_method_27_code
def yX4_addSession : MethodName := ⟨RX4, "addSession", "(I)I"⟩
def dkwX4_addSession_4 : List UInt8 := [4, 96, 79, 42, 180, 0, 9, 4, 92, 46, 4, 96, 79, 42, 180, 0, 9, 28, 46, 172]
abbrev dktX4_addSession_4 : List UInt8 := dkwX4_addSession_4 ++ []
def dkwX4_addSession_3 : List UInt8 := [180, 0, 9, 28, 4, 96, 27, 79, 42, 180, 0, 9, 28, 5, 96, 3, 79, 42, 180, 0, 9, 5, 92, 46]
abbrev dktX4_addSession_3 : List UInt8 := dkwX4_addSession_3 ++ dktX4_addSession_4
def dkwX4_addSession_2 : List UInt8 := [180, 0, 9, 5, 46, 182, 0, 75, 61, 42, 180, 0, 9, 28, 42, 180, 0, 9, 4, 46, 79, 42]
abbrev dktX4_addSession_2 : List UInt8 := dkwX4_addSession_2 ++ dktX4_addSession_3
def dkwX4_addSession_1 : List UInt8 := [160, 0, 7, 4, 167, 0, 4, 3, 5, 182, 0, 51, 153, 0, 5, 3, 172, 42, 182, 0, 55, 42, 42]
abbrev dktX4_addSession_1 : List UInt8 := dkwX4_addSession_1 ++ dktX4_addSession_2
def dkwX4_addSession_0 : List UInt8 := [42, 42, 27, 182, 0, 58, 4, 182, 0, 51, 154, 0, 27, 42, 42, 180, 0, 9, 5, 46, 16, 40]
abbrev dktX4_addSession_0 : List UInt8 := dkwX4_addSession_0 ++ dktX4_addSession_1
theorem dksX4_addSession_0 : cX4_addSession.data.toList.drop 0 = dktX4_addSession_0 := by decide +kernel
theorem dksX4_addSession_1 : cX4_addSession.data.toList.drop 22 = dktX4_addSession_1 := dk_seg dksX4_addSession_0 22 rfl rfl
theorem dksX4_addSession_2 : cX4_addSession.data.toList.drop 45 = dktX4_addSession_2 := dk_seg dksX4_addSession_1 23 rfl rfl
theorem dksX4_addSession_3 : cX4_addSession.data.toList.drop 67 = dktX4_addSession_3 := dk_seg dksX4_addSession_2 22 rfl rfl
theorem dksX4_addSession_4 : cX4_addSession.data.toList.drop 91 = dktX4_addSession_4 := dk_seg dksX4_addSession_3 24 rfl rfl
theorem dX4_addSession_0 : decode cX4_addSession 0 = .ok (.aload_n 0, 1) := dk_42 (dk_at dksX4_addSession_0 0 rfl rfl)
theorem dX4_addSession_1 : decode cX4_addSession 1 = .ok (.aload_n 0, 1) := dk_42 (dk_at dksX4_addSession_0 1 rfl rfl)
theorem dX4_addSession_2 : decode cX4_addSession 2 = .ok (.iload_n 1, 1) := dk_27 (dk_at dksX4_addSession_0 2 rfl rfl)
theorem dX4_addSession_3 : decode cX4_addSession 3 = .ok (.invokevirtual 58, 3) := dk_182 0 58 (dk_at dksX4_addSession_0 3 rfl rfl)
theorem dX4_addSession_6 : decode cX4_addSession 6 = .ok (.iconst 1, 1) := dk_4 (dk_at dksX4_addSession_0 6 rfl rfl)
theorem dX4_addSession_7 : decode cX4_addSession 7 = .ok (.invokevirtual 51, 3) := dk_182 0 51 (dk_at dksX4_addSession_0 7 rfl rfl)
theorem dX4_addSession_10 : decode cX4_addSession 10 = .ok (.ifCond .ne 27, 3) := dk_154 0 27 (dk_at dksX4_addSession_0 10 rfl rfl)
theorem dX4_addSession_13 : decode cX4_addSession 13 = .ok (.aload_n 0, 1) := dk_42 (dk_at dksX4_addSession_0 13 rfl rfl)
theorem dX4_addSession_14 : decode cX4_addSession 14 = .ok (.aload_n 0, 1) := dk_42 (dk_at dksX4_addSession_0 14 rfl rfl)
theorem dX4_addSession_15 : decode cX4_addSession 15 = .ok (.getfield 9, 3) := dk_180 0 9 (dk_at dksX4_addSession_0 15 rfl rfl)
theorem dX4_addSession_18 : decode cX4_addSession 18 = .ok (.iconst 2, 1) := dk_5 (dk_at dksX4_addSession_0 18 rfl rfl)
theorem dX4_addSession_19 : decode cX4_addSession 19 = .ok (.iaload, 1) := dk_46 (dk_at dksX4_addSession_0 19 rfl rfl)
theorem dX4_addSession_20 : decode cX4_addSession 20 = .ok (.bipush 40, 2) := dk_16 40 (dk_at dksX4_addSession_0 20 rfl rfl)
theorem dX4_addSession_22 : decode cX4_addSession 22 = .ok (.if_icmp .ne 7, 3) := dk_160 0 7 (dk_at dksX4_addSession_1 0 rfl rfl)
theorem dX4_addSession_25 : decode cX4_addSession 25 = .ok (.iconst 1, 1) := dk_4 (dk_at dksX4_addSession_1 3 rfl rfl)
theorem dX4_addSession_26 : decode cX4_addSession 26 = .ok (.goto 4, 3) := dk_167 0 4 (dk_at dksX4_addSession_1 4 rfl rfl)
theorem dX4_addSession_29 : decode cX4_addSession 29 = .ok (.iconst 0, 1) := dk_3 (dk_at dksX4_addSession_1 7 rfl rfl)
theorem dX4_addSession_30 : decode cX4_addSession 30 = .ok (.iconst 2, 1) := dk_5 (dk_at dksX4_addSession_1 8 rfl rfl)
theorem dX4_addSession_31 : decode cX4_addSession 31 = .ok (.invokevirtual 51, 3) := dk_182 0 51 (dk_at dksX4_addSession_1 9 rfl rfl)
theorem dX4_addSession_34 : decode cX4_addSession 34 = .ok (.ifCond .eq 5, 3) := dk_153 0 5 (dk_at dksX4_addSession_1 12 rfl rfl)
theorem dX4_addSession_37 : decode cX4_addSession 37 = .ok (.iconst 0, 1) := dk_3 (dk_at dksX4_addSession_1 15 rfl rfl)
theorem dX4_addSession_38 : decode cX4_addSession 38 = .ok (.ireturn, 1) := dk_172 (dk_at dksX4_addSession_1 16 rfl rfl)
theorem dX4_addSession_39 : decode cX4_addSession 39 = .ok (.aload_n 0, 1) := dk_42 (dk_at dksX4_addSession_1 17 rfl rfl)
theorem dX4_addSession_40 : decode cX4_addSession 40 = .ok (.invokevirtual 55, 3) := dk_182 0 55 (dk_at dksX4_addSession_1 18 rfl rfl)
theorem dX4_addSession_43 : decode cX4_addSession 43 = .ok (.aload_n 0, 1) := dk_42 (dk_at dksX4_addSession_1 21 rfl rfl)
theorem dX4_addSession_44 : decode cX4_addSession 44 = .ok (.aload_n 0, 1) := dk_42 (dk_at dksX4_addSession_1 22 rfl rfl)
theorem dX4_addSession_45 : decode cX4_addSession 45 = .ok (.getfield 9, 3) := dk_180 0 9 (dk_at dksX4_addSession_2 0 rfl rfl)
theorem dX4_addSession_48 : decode cX4_addSession 48 = .ok (.iconst 2, 1) := dk_5 (dk_at dksX4_addSession_2 3 rfl rfl)
theorem dX4_addSession_49 : decode cX4_addSession 49 = .ok (.iaload, 1) := dk_46 (dk_at dksX4_addSession_2 4 rfl rfl)
theorem dX4_addSession_50 : decode cX4_addSession 50 = .ok (.invokevirtual 75, 3) := dk_182 0 75 (dk_at dksX4_addSession_2 5 rfl rfl)
theorem dX4_addSession_53 : decode cX4_addSession 53 = .ok (.istore_n 2, 1) := dk_61 (dk_at dksX4_addSession_2 8 rfl rfl)
theorem dX4_addSession_54 : decode cX4_addSession 54 = .ok (.aload_n 0, 1) := dk_42 (dk_at dksX4_addSession_2 9 rfl rfl)
theorem dX4_addSession_55 : decode cX4_addSession 55 = .ok (.getfield 9, 3) := dk_180 0 9 (dk_at dksX4_addSession_2 10 rfl rfl)
theorem dX4_addSession_58 : decode cX4_addSession 58 = .ok (.iload_n 2, 1) := dk_28 (dk_at dksX4_addSession_2 13 rfl rfl)
theorem dX4_addSession_59 : decode cX4_addSession 59 = .ok (.aload_n 0, 1) := dk_42 (dk_at dksX4_addSession_2 14 rfl rfl)
theorem dX4_addSession_60 : decode cX4_addSession 60 = .ok (.getfield 9, 3) := dk_180 0 9 (dk_at dksX4_addSession_2 15 rfl rfl)
theorem dX4_addSession_63 : decode cX4_addSession 63 = .ok (.iconst 1, 1) := dk_4 (dk_at dksX4_addSession_2 18 rfl rfl)
theorem dX4_addSession_64 : decode cX4_addSession 64 = .ok (.iaload, 1) := dk_46 (dk_at dksX4_addSession_2 19 rfl rfl)
theorem dX4_addSession_65 : decode cX4_addSession 65 = .ok (.iastore, 1) := dk_79 (dk_at dksX4_addSession_2 20 rfl rfl)
theorem dX4_addSession_66 : decode cX4_addSession 66 = .ok (.aload_n 0, 1) := dk_42 (dk_at dksX4_addSession_2 21 rfl rfl)
theorem dX4_addSession_67 : decode cX4_addSession 67 = .ok (.getfield 9, 3) := dk_180 0 9 (dk_at dksX4_addSession_3 0 rfl rfl)
theorem dX4_addSession_70 : decode cX4_addSession 70 = .ok (.iload_n 2, 1) := dk_28 (dk_at dksX4_addSession_3 3 rfl rfl)
theorem dX4_addSession_71 : decode cX4_addSession 71 = .ok (.iconst 1, 1) := dk_4 (dk_at dksX4_addSession_3 4 rfl rfl)
theorem dX4_addSession_72 : decode cX4_addSession 72 = .ok (.iadd, 1) := dk_96 (dk_at dksX4_addSession_3 5 rfl rfl)
theorem dX4_addSession_73 : decode cX4_addSession 73 = .ok (.iload_n 1, 1) := dk_27 (dk_at dksX4_addSession_3 6 rfl rfl)
theorem dX4_addSession_74 : decode cX4_addSession 74 = .ok (.iastore, 1) := dk_79 (dk_at dksX4_addSession_3 7 rfl rfl)
theorem dX4_addSession_75 : decode cX4_addSession 75 = .ok (.aload_n 0, 1) := dk_42 (dk_at dksX4_addSession_3 8 rfl rfl)
theorem dX4_addSession_76 : decode cX4_addSession 76 = .ok (.getfield 9, 3) := dk_180 0 9 (dk_at dksX4_addSession_3 9 rfl rfl)
theorem dX4_addSession_79 : decode cX4_addSession 79 = .ok (.iload_n 2, 1) := dk_28 (dk_at dksX4_addSession_3 12 rfl rfl)
theorem dX4_addSession_80 : decode cX4_addSession 80 = .ok (.iconst 2, 1) := dk_5 (dk_at dksX4_addSession_3 13 rfl rfl)
theorem dX4_addSession_81 : decode cX4_addSession 81 = .ok (.iadd, 1) := dk_96 (dk_at dksX4_addSession_3 14 rfl rfl)
theorem dX4_addSession_82 : decode cX4_addSession 82 = .ok (.iconst 0, 1) := dk_3 (dk_at dksX4_addSession_3 15 rfl rfl)
theorem dX4_addSession_83 : decode cX4_addSession 83 = .ok (.iastore, 1) := dk_79 (dk_at dksX4_addSession_3 16 rfl rfl)
theorem dX4_addSession_84 : decode cX4_addSession 84 = .ok (.aload_n 0, 1) := dk_42 (dk_at dksX4_addSession_3 17 rfl rfl)
theorem dX4_addSession_85 : decode cX4_addSession 85 = .ok (.getfield 9, 3) := dk_180 0 9 (dk_at dksX4_addSession_3 18 rfl rfl)
theorem dX4_addSession_88 : decode cX4_addSession 88 = .ok (.iconst 2, 1) := dk_5 (dk_at dksX4_addSession_3 21 rfl rfl)
theorem dX4_addSession_89 : decode cX4_addSession 89 = .ok (.dup2, 1) := dk_92 (dk_at dksX4_addSession_3 22 rfl rfl)
theorem dX4_addSession_90 : decode cX4_addSession 90 = .ok (.iaload, 1) := dk_46 (dk_at dksX4_addSession_3 23 rfl rfl)
theorem dX4_addSession_91 : decode cX4_addSession 91 = .ok (.iconst 1, 1) := dk_4 (dk_at dksX4_addSession_4 0 rfl rfl)
theorem dX4_addSession_92 : decode cX4_addSession 92 = .ok (.iadd, 1) := dk_96 (dk_at dksX4_addSession_4 1 rfl rfl)
theorem dX4_addSession_93 : decode cX4_addSession 93 = .ok (.iastore, 1) := dk_79 (dk_at dksX4_addSession_4 2 rfl rfl)
theorem dX4_addSession_94 : decode cX4_addSession 94 = .ok (.aload_n 0, 1) := dk_42 (dk_at dksX4_addSession_4 3 rfl rfl)
theorem dX4_addSession_95 : decode cX4_addSession 95 = .ok (.getfield 9, 3) := dk_180 0 9 (dk_at dksX4_addSession_4 4 rfl rfl)
theorem dX4_addSession_98 : decode cX4_addSession 98 = .ok (.iconst 1, 1) := dk_4 (dk_at dksX4_addSession_4 7 rfl rfl)
theorem dX4_addSession_99 : decode cX4_addSession 99 = .ok (.dup2, 1) := dk_92 (dk_at dksX4_addSession_4 8 rfl rfl)
theorem dX4_addSession_100 : decode cX4_addSession 100 = .ok (.iaload, 1) := dk_46 (dk_at dksX4_addSession_4 9 rfl rfl)
theorem dX4_addSession_101 : decode cX4_addSession 101 = .ok (.iconst 1, 1) := dk_4 (dk_at dksX4_addSession_4 10 rfl rfl)
theorem dX4_addSession_102 : decode cX4_addSession 102 = .ok (.iadd, 1) := dk_96 (dk_at dksX4_addSession_4 11 rfl rfl)
theorem dX4_addSession_103 : decode cX4_addSession 103 = .ok (.iastore, 1) := dk_79 (dk_at dksX4_addSession_4 12 rfl rfl)
theorem dX4_addSession_104 : decode cX4_addSession 104 = .ok (.aload_n 0, 1) := dk_42 (dk_at dksX4_addSession_4 13 rfl rfl)
theorem dX4_addSession_105 : decode cX4_addSession 105 = .ok (.getfield 9, 3) := dk_180 0 9 (dk_at dksX4_addSession_4 14 rfl rfl)
theorem dX4_addSession_108 : decode cX4_addSession 108 = .ok (.iload_n 2, 1) := dk_28 (dk_at dksX4_addSession_4 17 rfl rfl)
theorem dX4_addSession_109 : decode cX4_addSession 109 = .ok (.iaload, 1) := dk_46 (dk_at dksX4_addSession_4 18 rfl rfl)
theorem dX4_addSession_110 : decode cX4_addSession 110 = .ok (.ireturn, 1) := dk_172 (dk_at dksX4_addSession_4 19 rfl rfl)
abbrev cX4_addPart : ByteArray := prog_10_method_28_code
def yX4_addPart : MethodName := ⟨RX4, "addPart", "(III)I"⟩
def dkwX4_addPart_8 : List UInt8 := [172]
abbrev dktX4_addPart_8 : List UInt8 := dkwX4_addPart_8 ++ []
def dkwX4_addPart_7 : List UInt8 := [96, 29, 79, 42, 180, 0, 9, 42, 21, 4, 182, 0, 75, 5, 96, 92, 46, 4, 96, 79, 21, 5, 4, 96]
abbrev dktX4_addPart_7 : List UInt8 := dkwX4_addPart_7 ++ dktX4_addPart_8
def dkwX4_addPart_6 : List UInt8 := [6, 96, 21, 5, 96, 28, 79, 42, 180, 0, 9, 42, 21, 4, 182, 0, 75, 6, 96, 16, 8, 96, 21, 5]
abbrev dktX4_addPart_6 : List UInt8 := dkwX4_addPart_6 ++ dktX4_addPart_7
def dkwX4_addPart_5 : List UInt8 := [180, 0, 9, 42, 21, 4, 182, 0, 75, 5, 96, 46, 54, 5, 42, 180, 0, 9, 42, 21, 4, 182, 0, 75]
abbrev dktX4_addPart_5 : List UInt8 := dkwX4_addPart_5 ++ dktX4_addPart_6
def dkwX4_addPart_4 : List UInt8 := [164, 0, 7, 4, 167, 0, 4, 3, 6, 182, 0, 51, 153, 0, 5, 3, 172, 42, 182, 0, 55, 42]
abbrev dktX4_addPart_4 : List UInt8 := dkwX4_addPart_4 ++ dktX4_addPart_5
def dkwX4_addPart_3 : List UInt8 := [182, 0, 75, 5, 96, 46, 16, 8, 159, 0, 17, 42, 21, 4, 182, 0, 87, 28, 96, 17, 0, 240]
abbrev dktX4_addPart_3 : List UInt8 := dkwX4_addPart_3 ++ dktX4_addPart_4
def dkwX4_addPart_2 : List UInt8 := [154, 0, 7, 4, 167, 0, 4, 3, 5, 182, 0, 51, 154, 0, 48, 42, 42, 180, 0, 9, 42, 21, 4]
abbrev dktX4_addPart_2 : List UInt8 := dkwX4_addPart_2 ++ dktX4_addPart_3
def dkwX4_addPart_1 : List UInt8 := [154, 0, 82, 42, 28, 4, 16, 120, 184, 0, 47, 153, 0, 14, 29, 3, 17, 1, 244, 184, 0, 47]
abbrev dktX4_addPart_1 : List UInt8 := dkwX4_addPart_1 ++ dktX4_addPart_2
def dkwX4_addPart_0 : List UInt8 := [42, 27, 182, 0, 84, 54, 4, 42, 21, 4, 156, 0, 7, 4, 167, 0, 4, 3, 4, 182, 0, 51]
abbrev dktX4_addPart_0 : List UInt8 := dkwX4_addPart_0 ++ dktX4_addPart_1
theorem dksX4_addPart_0 : cX4_addPart.data.toList.drop 0 = dktX4_addPart_0 := by decide +kernel
theorem dksX4_addPart_1 : cX4_addPart.data.toList.drop 22 = dktX4_addPart_1 := dk_seg dksX4_addPart_0 22 rfl rfl
theorem dksX4_addPart_2 : cX4_addPart.data.toList.drop 44 = dktX4_addPart_2 := dk_seg dksX4_addPart_1 22 rfl rfl
theorem dksX4_addPart_3 : cX4_addPart.data.toList.drop 67 = dktX4_addPart_3 := dk_seg dksX4_addPart_2 23 rfl rfl
theorem dksX4_addPart_4 : cX4_addPart.data.toList.drop 89 = dktX4_addPart_4 := dk_seg dksX4_addPart_3 22 rfl rfl
theorem dksX4_addPart_5 : cX4_addPart.data.toList.drop 111 = dktX4_addPart_5 := dk_seg dksX4_addPart_4 22 rfl rfl
theorem dksX4_addPart_6 : cX4_addPart.data.toList.drop 135 = dktX4_addPart_6 := dk_seg dksX4_addPart_5 24 rfl rfl
theorem dksX4_addPart_7 : cX4_addPart.data.toList.drop 159 = dktX4_addPart_7 := dk_seg dksX4_addPart_6 24 rfl rfl
theorem dksX4_addPart_8 : cX4_addPart.data.toList.drop 183 = dktX4_addPart_8 := dk_seg dksX4_addPart_7 24 rfl rfl
theorem dX4_addPart_0 : decode cX4_addPart 0 = .ok (.aload_n 0, 1) := dk_42 (dk_at dksX4_addPart_0 0 rfl rfl)
theorem dX4_addPart_1 : decode cX4_addPart 1 = .ok (.iload_n 1, 1) := dk_27 (dk_at dksX4_addPart_0 1 rfl rfl)
theorem dX4_addPart_2 : decode cX4_addPart 2 = .ok (.invokevirtual 84, 3) := dk_182 0 84 (dk_at dksX4_addPart_0 2 rfl rfl)
theorem dX4_addPart_5 : decode cX4_addPart 5 = .ok (.istore 4, 2) := dk_54 4 (dk_at dksX4_addPart_0 5 rfl rfl)
theorem dX4_addPart_7 : decode cX4_addPart 7 = .ok (.aload_n 0, 1) := dk_42 (dk_at dksX4_addPart_0 7 rfl rfl)
theorem dX4_addPart_8 : decode cX4_addPart 8 = .ok (.iload 4, 2) := dk_21 4 (dk_at dksX4_addPart_0 8 rfl rfl)
theorem dX4_addPart_10 : decode cX4_addPart 10 = .ok (.ifCond .ge 7, 3) := dk_156 0 7 (dk_at dksX4_addPart_0 10 rfl rfl)
theorem dX4_addPart_13 : decode cX4_addPart 13 = .ok (.iconst 1, 1) := dk_4 (dk_at dksX4_addPart_0 13 rfl rfl)
theorem dX4_addPart_14 : decode cX4_addPart 14 = .ok (.goto 4, 3) := dk_167 0 4 (dk_at dksX4_addPart_0 14 rfl rfl)
theorem dX4_addPart_17 : decode cX4_addPart 17 = .ok (.iconst 0, 1) := dk_3 (dk_at dksX4_addPart_0 17 rfl rfl)
theorem dX4_addPart_18 : decode cX4_addPart 18 = .ok (.iconst 1, 1) := dk_4 (dk_at dksX4_addPart_0 18 rfl rfl)
theorem dX4_addPart_19 : decode cX4_addPart 19 = .ok (.invokevirtual 51, 3) := dk_182 0 51 (dk_at dksX4_addPart_0 19 rfl rfl)
theorem dX4_addPart_22 : decode cX4_addPart 22 = .ok (.ifCond .ne 82, 3) := dk_154 0 82 (dk_at dksX4_addPart_1 0 rfl rfl)
theorem dX4_addPart_25 : decode cX4_addPart 25 = .ok (.aload_n 0, 1) := dk_42 (dk_at dksX4_addPart_1 3 rfl rfl)
theorem dX4_addPart_26 : decode cX4_addPart 26 = .ok (.iload_n 2, 1) := dk_28 (dk_at dksX4_addPart_1 4 rfl rfl)
theorem dX4_addPart_27 : decode cX4_addPart 27 = .ok (.iconst 1, 1) := dk_4 (dk_at dksX4_addPart_1 5 rfl rfl)
theorem dX4_addPart_28 : decode cX4_addPart 28 = .ok (.bipush 120, 2) := dk_16 120 (dk_at dksX4_addPart_1 6 rfl rfl)
theorem dX4_addPart_30 : decode cX4_addPart 30 = .ok (.invokestatic 47, 3) := dk_184 0 47 (dk_at dksX4_addPart_1 8 rfl rfl)
theorem dX4_addPart_33 : decode cX4_addPart 33 = .ok (.ifCond .eq 14, 3) := dk_153 0 14 (dk_at dksX4_addPart_1 11 rfl rfl)
theorem dX4_addPart_36 : decode cX4_addPart 36 = .ok (.iload_n 3, 1) := dk_29 (dk_at dksX4_addPart_1 14 rfl rfl)
theorem dX4_addPart_37 : decode cX4_addPart 37 = .ok (.iconst 0, 1) := dk_3 (dk_at dksX4_addPart_1 15 rfl rfl)
theorem dX4_addPart_38 : decode cX4_addPart 38 = .ok (.sipush 500, 3) := dk_17 1 244 (dk_at dksX4_addPart_1 16 rfl rfl)
theorem dX4_addPart_41 : decode cX4_addPart 41 = .ok (.invokestatic 47, 3) := dk_184 0 47 (dk_at dksX4_addPart_1 19 rfl rfl)
theorem dX4_addPart_44 : decode cX4_addPart 44 = .ok (.ifCond .ne 7, 3) := dk_154 0 7 (dk_at dksX4_addPart_2 0 rfl rfl)
theorem dX4_addPart_47 : decode cX4_addPart 47 = .ok (.iconst 1, 1) := dk_4 (dk_at dksX4_addPart_2 3 rfl rfl)
theorem dX4_addPart_48 : decode cX4_addPart 48 = .ok (.goto 4, 3) := dk_167 0 4 (dk_at dksX4_addPart_2 4 rfl rfl)
theorem dX4_addPart_51 : decode cX4_addPart 51 = .ok (.iconst 0, 1) := dk_3 (dk_at dksX4_addPart_2 7 rfl rfl)
theorem dX4_addPart_52 : decode cX4_addPart 52 = .ok (.iconst 2, 1) := dk_5 (dk_at dksX4_addPart_2 8 rfl rfl)
theorem dX4_addPart_53 : decode cX4_addPart 53 = .ok (.invokevirtual 51, 3) := dk_182 0 51 (dk_at dksX4_addPart_2 9 rfl rfl)
theorem dX4_addPart_56 : decode cX4_addPart 56 = .ok (.ifCond .ne 48, 3) := dk_154 0 48 (dk_at dksX4_addPart_2 12 rfl rfl)
theorem dX4_addPart_59 : decode cX4_addPart 59 = .ok (.aload_n 0, 1) := dk_42 (dk_at dksX4_addPart_2 15 rfl rfl)
theorem dX4_addPart_60 : decode cX4_addPart 60 = .ok (.aload_n 0, 1) := dk_42 (dk_at dksX4_addPart_2 16 rfl rfl)
theorem dX4_addPart_61 : decode cX4_addPart 61 = .ok (.getfield 9, 3) := dk_180 0 9 (dk_at dksX4_addPart_2 17 rfl rfl)
theorem dX4_addPart_64 : decode cX4_addPart 64 = .ok (.aload_n 0, 1) := dk_42 (dk_at dksX4_addPart_2 20 rfl rfl)
theorem dX4_addPart_65 : decode cX4_addPart 65 = .ok (.iload 4, 2) := dk_21 4 (dk_at dksX4_addPart_2 21 rfl rfl)
theorem dX4_addPart_67 : decode cX4_addPart 67 = .ok (.invokevirtual 75, 3) := dk_182 0 75 (dk_at dksX4_addPart_3 0 rfl rfl)
theorem dX4_addPart_70 : decode cX4_addPart 70 = .ok (.iconst 2, 1) := dk_5 (dk_at dksX4_addPart_3 3 rfl rfl)
theorem dX4_addPart_71 : decode cX4_addPart 71 = .ok (.iadd, 1) := dk_96 (dk_at dksX4_addPart_3 4 rfl rfl)
theorem dX4_addPart_72 : decode cX4_addPart 72 = .ok (.iaload, 1) := dk_46 (dk_at dksX4_addPart_3 5 rfl rfl)
theorem dX4_addPart_73 : decode cX4_addPart 73 = .ok (.bipush 8, 2) := dk_16 8 (dk_at dksX4_addPart_3 6 rfl rfl)
theorem dX4_addPart_75 : decode cX4_addPart 75 = .ok (.if_icmp .eq 17, 3) := dk_159 0 17 (dk_at dksX4_addPart_3 8 rfl rfl)
theorem dX4_addPart_78 : decode cX4_addPart 78 = .ok (.aload_n 0, 1) := dk_42 (dk_at dksX4_addPart_3 11 rfl rfl)
theorem dX4_addPart_79 : decode cX4_addPart 79 = .ok (.iload 4, 2) := dk_21 4 (dk_at dksX4_addPart_3 12 rfl rfl)
theorem dX4_addPart_81 : decode cX4_addPart 81 = .ok (.invokevirtual 87, 3) := dk_182 0 87 (dk_at dksX4_addPart_3 14 rfl rfl)
theorem dX4_addPart_84 : decode cX4_addPart 84 = .ok (.iload_n 2, 1) := dk_28 (dk_at dksX4_addPart_3 17 rfl rfl)
theorem dX4_addPart_85 : decode cX4_addPart 85 = .ok (.iadd, 1) := dk_96 (dk_at dksX4_addPart_3 18 rfl rfl)
theorem dX4_addPart_86 : decode cX4_addPart 86 = .ok (.sipush 240, 3) := dk_17 0 240 (dk_at dksX4_addPart_3 19 rfl rfl)
theorem dX4_addPart_89 : decode cX4_addPart 89 = .ok (.if_icmp .le 7, 3) := dk_164 0 7 (dk_at dksX4_addPart_4 0 rfl rfl)
theorem dX4_addPart_92 : decode cX4_addPart 92 = .ok (.iconst 1, 1) := dk_4 (dk_at dksX4_addPart_4 3 rfl rfl)
theorem dX4_addPart_93 : decode cX4_addPart 93 = .ok (.goto 4, 3) := dk_167 0 4 (dk_at dksX4_addPart_4 4 rfl rfl)
theorem dX4_addPart_96 : decode cX4_addPart 96 = .ok (.iconst 0, 1) := dk_3 (dk_at dksX4_addPart_4 7 rfl rfl)
theorem dX4_addPart_97 : decode cX4_addPart 97 = .ok (.iconst 3, 1) := dk_6 (dk_at dksX4_addPart_4 8 rfl rfl)
theorem dX4_addPart_98 : decode cX4_addPart 98 = .ok (.invokevirtual 51, 3) := dk_182 0 51 (dk_at dksX4_addPart_4 9 rfl rfl)
theorem dX4_addPart_101 : decode cX4_addPart 101 = .ok (.ifCond .eq 5, 3) := dk_153 0 5 (dk_at dksX4_addPart_4 12 rfl rfl)
theorem dX4_addPart_104 : decode cX4_addPart 104 = .ok (.iconst 0, 1) := dk_3 (dk_at dksX4_addPart_4 15 rfl rfl)
theorem dX4_addPart_105 : decode cX4_addPart 105 = .ok (.ireturn, 1) := dk_172 (dk_at dksX4_addPart_4 16 rfl rfl)
theorem dX4_addPart_106 : decode cX4_addPart 106 = .ok (.aload_n 0, 1) := dk_42 (dk_at dksX4_addPart_4 17 rfl rfl)
theorem dX4_addPart_107 : decode cX4_addPart 107 = .ok (.invokevirtual 55, 3) := dk_182 0 55 (dk_at dksX4_addPart_4 18 rfl rfl)
theorem dX4_addPart_110 : decode cX4_addPart 110 = .ok (.aload_n 0, 1) := dk_42 (dk_at dksX4_addPart_4 21 rfl rfl)
theorem dX4_addPart_111 : decode cX4_addPart 111 = .ok (.getfield 9, 3) := dk_180 0 9 (dk_at dksX4_addPart_5 0 rfl rfl)
theorem dX4_addPart_114 : decode cX4_addPart 114 = .ok (.aload_n 0, 1) := dk_42 (dk_at dksX4_addPart_5 3 rfl rfl)
theorem dX4_addPart_115 : decode cX4_addPart 115 = .ok (.iload 4, 2) := dk_21 4 (dk_at dksX4_addPart_5 4 rfl rfl)
theorem dX4_addPart_117 : decode cX4_addPart 117 = .ok (.invokevirtual 75, 3) := dk_182 0 75 (dk_at dksX4_addPart_5 6 rfl rfl)
theorem dX4_addPart_120 : decode cX4_addPart 120 = .ok (.iconst 2, 1) := dk_5 (dk_at dksX4_addPart_5 9 rfl rfl)
theorem dX4_addPart_121 : decode cX4_addPart 121 = .ok (.iadd, 1) := dk_96 (dk_at dksX4_addPart_5 10 rfl rfl)
theorem dX4_addPart_122 : decode cX4_addPart 122 = .ok (.iaload, 1) := dk_46 (dk_at dksX4_addPart_5 11 rfl rfl)
theorem dX4_addPart_123 : decode cX4_addPart 123 = .ok (.istore 5, 2) := dk_54 5 (dk_at dksX4_addPart_5 12 rfl rfl)
theorem dX4_addPart_125 : decode cX4_addPart 125 = .ok (.aload_n 0, 1) := dk_42 (dk_at dksX4_addPart_5 14 rfl rfl)
theorem dX4_addPart_126 : decode cX4_addPart 126 = .ok (.getfield 9, 3) := dk_180 0 9 (dk_at dksX4_addPart_5 15 rfl rfl)
theorem dX4_addPart_129 : decode cX4_addPart 129 = .ok (.aload_n 0, 1) := dk_42 (dk_at dksX4_addPart_5 18 rfl rfl)
theorem dX4_addPart_130 : decode cX4_addPart 130 = .ok (.iload 4, 2) := dk_21 4 (dk_at dksX4_addPart_5 19 rfl rfl)
theorem dX4_addPart_132 : decode cX4_addPart 132 = .ok (.invokevirtual 75, 3) := dk_182 0 75 (dk_at dksX4_addPart_5 21 rfl rfl)
theorem dX4_addPart_135 : decode cX4_addPart 135 = .ok (.iconst 3, 1) := dk_6 (dk_at dksX4_addPart_6 0 rfl rfl)
theorem dX4_addPart_136 : decode cX4_addPart 136 = .ok (.iadd, 1) := dk_96 (dk_at dksX4_addPart_6 1 rfl rfl)
theorem dX4_addPart_137 : decode cX4_addPart 137 = .ok (.iload 5, 2) := dk_21 5 (dk_at dksX4_addPart_6 2 rfl rfl)
theorem dX4_addPart_139 : decode cX4_addPart 139 = .ok (.iadd, 1) := dk_96 (dk_at dksX4_addPart_6 4 rfl rfl)
theorem dX4_addPart_140 : decode cX4_addPart 140 = .ok (.iload_n 2, 1) := dk_28 (dk_at dksX4_addPart_6 5 rfl rfl)
theorem dX4_addPart_141 : decode cX4_addPart 141 = .ok (.iastore, 1) := dk_79 (dk_at dksX4_addPart_6 6 rfl rfl)
theorem dX4_addPart_142 : decode cX4_addPart 142 = .ok (.aload_n 0, 1) := dk_42 (dk_at dksX4_addPart_6 7 rfl rfl)
theorem dX4_addPart_143 : decode cX4_addPart 143 = .ok (.getfield 9, 3) := dk_180 0 9 (dk_at dksX4_addPart_6 8 rfl rfl)
theorem dX4_addPart_146 : decode cX4_addPart 146 = .ok (.aload_n 0, 1) := dk_42 (dk_at dksX4_addPart_6 11 rfl rfl)
theorem dX4_addPart_147 : decode cX4_addPart 147 = .ok (.iload 4, 2) := dk_21 4 (dk_at dksX4_addPart_6 12 rfl rfl)
theorem dX4_addPart_149 : decode cX4_addPart 149 = .ok (.invokevirtual 75, 3) := dk_182 0 75 (dk_at dksX4_addPart_6 14 rfl rfl)
theorem dX4_addPart_152 : decode cX4_addPart 152 = .ok (.iconst 3, 1) := dk_6 (dk_at dksX4_addPart_6 17 rfl rfl)
theorem dX4_addPart_153 : decode cX4_addPart 153 = .ok (.iadd, 1) := dk_96 (dk_at dksX4_addPart_6 18 rfl rfl)
theorem dX4_addPart_154 : decode cX4_addPart 154 = .ok (.bipush 8, 2) := dk_16 8 (dk_at dksX4_addPart_6 19 rfl rfl)
theorem dX4_addPart_156 : decode cX4_addPart 156 = .ok (.iadd, 1) := dk_96 (dk_at dksX4_addPart_6 21 rfl rfl)
theorem dX4_addPart_157 : decode cX4_addPart 157 = .ok (.iload 5, 2) := dk_21 5 (dk_at dksX4_addPart_6 22 rfl rfl)
theorem dX4_addPart_159 : decode cX4_addPart 159 = .ok (.iadd, 1) := dk_96 (dk_at dksX4_addPart_7 0 rfl rfl)
theorem dX4_addPart_160 : decode cX4_addPart 160 = .ok (.iload_n 3, 1) := dk_29 (dk_at dksX4_addPart_7 1 rfl rfl)
theorem dX4_addPart_161 : decode cX4_addPart 161 = .ok (.iastore, 1) := dk_79 (dk_at dksX4_addPart_7 2 rfl rfl)
theorem dX4_addPart_162 : decode cX4_addPart 162 = .ok (.aload_n 0, 1) := dk_42 (dk_at dksX4_addPart_7 3 rfl rfl)
theorem dX4_addPart_163 : decode cX4_addPart 163 = .ok (.getfield 9, 3) := dk_180 0 9 (dk_at dksX4_addPart_7 4 rfl rfl)
theorem dX4_addPart_166 : decode cX4_addPart 166 = .ok (.aload_n 0, 1) := dk_42 (dk_at dksX4_addPart_7 7 rfl rfl)
theorem dX4_addPart_167 : decode cX4_addPart 167 = .ok (.iload 4, 2) := dk_21 4 (dk_at dksX4_addPart_7 8 rfl rfl)
theorem dX4_addPart_169 : decode cX4_addPart 169 = .ok (.invokevirtual 75, 3) := dk_182 0 75 (dk_at dksX4_addPart_7 10 rfl rfl)
theorem dX4_addPart_172 : decode cX4_addPart 172 = .ok (.iconst 2, 1) := dk_5 (dk_at dksX4_addPart_7 13 rfl rfl)
theorem dX4_addPart_173 : decode cX4_addPart 173 = .ok (.iadd, 1) := dk_96 (dk_at dksX4_addPart_7 14 rfl rfl)
theorem dX4_addPart_174 : decode cX4_addPart 174 = .ok (.dup2, 1) := dk_92 (dk_at dksX4_addPart_7 15 rfl rfl)
theorem dX4_addPart_175 : decode cX4_addPart 175 = .ok (.iaload, 1) := dk_46 (dk_at dksX4_addPart_7 16 rfl rfl)
theorem dX4_addPart_176 : decode cX4_addPart 176 = .ok (.iconst 1, 1) := dk_4 (dk_at dksX4_addPart_7 17 rfl rfl)
theorem dX4_addPart_177 : decode cX4_addPart 177 = .ok (.iadd, 1) := dk_96 (dk_at dksX4_addPart_7 18 rfl rfl)
theorem dX4_addPart_178 : decode cX4_addPart 178 = .ok (.iastore, 1) := dk_79 (dk_at dksX4_addPart_7 19 rfl rfl)
theorem dX4_addPart_179 : decode cX4_addPart 179 = .ok (.iload 5, 2) := dk_21 5 (dk_at dksX4_addPart_7 20 rfl rfl)
theorem dX4_addPart_181 : decode cX4_addPart 181 = .ok (.iconst 1, 1) := dk_4 (dk_at dksX4_addPart_7 22 rfl rfl)
theorem dX4_addPart_182 : decode cX4_addPart 182 = .ok (.iadd, 1) := dk_96 (dk_at dksX4_addPart_7 23 rfl rfl)
theorem dX4_addPart_183 : decode cX4_addPart 183 = .ok (.ireturn, 1) := dk_172 (dk_at dksX4_addPart_8 0 rfl rfl)
abbrev cX4_place : ByteArray := prog_10_method_22_code
def yX4_place : MethodName := ⟨RX4, "place", "(I)I"⟩
def dkwX4_place_1 : List UInt8 := [27, 160, 0, 7, 29, 167, 0, 4, 28, 61, 132, 3, 1, 167, 255, 223, 28, 172]
abbrev dktX4_place_1 : List UInt8 := dkwX4_place_1 ++ []
def dkwX4_place_0 : List UInt8 := [2, 61, 3, 62, 29, 42, 180, 0, 9, 5, 46, 162, 0, 29, 42, 180, 0, 9, 42, 29, 182, 0, 75, 46]
abbrev dktX4_place_0 : List UInt8 := dkwX4_place_0 ++ dktX4_place_1
theorem dksX4_place_0 : cX4_place.data.toList.drop 0 = dktX4_place_0 := by decide +kernel
theorem dksX4_place_1 : cX4_place.data.toList.drop 24 = dktX4_place_1 := dk_seg dksX4_place_0 24 rfl rfl
theorem dX4_place_0 : decode cX4_place 0 = .ok (.iconst (-1), 1) := dk_2 (dk_at dksX4_place_0 0 rfl rfl)
theorem dX4_place_1 : decode cX4_place 1 = .ok (.istore_n 2, 1) := dk_61 (dk_at dksX4_place_0 1 rfl rfl)
theorem dX4_place_2 : decode cX4_place 2 = .ok (.iconst 0, 1) := dk_3 (dk_at dksX4_place_0 2 rfl rfl)
theorem dX4_place_3 : decode cX4_place 3 = .ok (.istore_n 3, 1) := dk_62 (dk_at dksX4_place_0 3 rfl rfl)
theorem dX4_place_4 : decode cX4_place 4 = .ok (.iload_n 3, 1) := dk_29 (dk_at dksX4_place_0 4 rfl rfl)
theorem dX4_place_5 : decode cX4_place 5 = .ok (.aload_n 0, 1) := dk_42 (dk_at dksX4_place_0 5 rfl rfl)
theorem dX4_place_6 : decode cX4_place 6 = .ok (.getfield 9, 3) := dk_180 0 9 (dk_at dksX4_place_0 6 rfl rfl)
theorem dX4_place_9 : decode cX4_place 9 = .ok (.iconst 2, 1) := dk_5 (dk_at dksX4_place_0 9 rfl rfl)
theorem dX4_place_10 : decode cX4_place 10 = .ok (.iaload, 1) := dk_46 (dk_at dksX4_place_0 10 rfl rfl)
theorem dX4_place_11 : decode cX4_place 11 = .ok (.if_icmp .ge 29, 3) := dk_162 0 29 (dk_at dksX4_place_0 11 rfl rfl)
theorem dX4_place_14 : decode cX4_place 14 = .ok (.aload_n 0, 1) := dk_42 (dk_at dksX4_place_0 14 rfl rfl)
theorem dX4_place_15 : decode cX4_place 15 = .ok (.getfield 9, 3) := dk_180 0 9 (dk_at dksX4_place_0 15 rfl rfl)
theorem dX4_place_18 : decode cX4_place 18 = .ok (.aload_n 0, 1) := dk_42 (dk_at dksX4_place_0 18 rfl rfl)
theorem dX4_place_19 : decode cX4_place 19 = .ok (.iload_n 3, 1) := dk_29 (dk_at dksX4_place_0 19 rfl rfl)
theorem dX4_place_20 : decode cX4_place 20 = .ok (.invokevirtual 75, 3) := dk_182 0 75 (dk_at dksX4_place_0 20 rfl rfl)
theorem dX4_place_23 : decode cX4_place 23 = .ok (.iaload, 1) := dk_46 (dk_at dksX4_place_0 23 rfl rfl)
theorem dX4_place_24 : decode cX4_place 24 = .ok (.iload_n 1, 1) := dk_27 (dk_at dksX4_place_1 0 rfl rfl)
theorem dX4_place_25 : decode cX4_place 25 = .ok (.if_icmp .ne 7, 3) := dk_160 0 7 (dk_at dksX4_place_1 1 rfl rfl)
theorem dX4_place_28 : decode cX4_place 28 = .ok (.iload_n 3, 1) := dk_29 (dk_at dksX4_place_1 4 rfl rfl)
theorem dX4_place_29 : decode cX4_place 29 = .ok (.goto 4, 3) := dk_167 0 4 (dk_at dksX4_place_1 5 rfl rfl)
theorem dX4_place_32 : decode cX4_place 32 = .ok (.iload_n 2, 1) := dk_28 (dk_at dksX4_place_1 8 rfl rfl)
theorem dX4_place_33 : decode cX4_place 33 = .ok (.istore_n 2, 1) := dk_61 (dk_at dksX4_place_1 9 rfl rfl)
theorem dX4_place_34 : decode cX4_place 34 = .ok (.iinc 3 1, 3) := dk_132 3 1 (dk_at dksX4_place_1 10 rfl rfl)
theorem dX4_place_37 : decode cX4_place 37 = .ok (.goto (-33), 3) := dk_167 255 223 (dk_at dksX4_place_1 13 rfl rfl)
theorem dX4_place_40 : decode cX4_place 40 = .ok (.iload_n 2, 1) := dk_28 (dk_at dksX4_place_1 16 rfl rfl)
theorem dX4_place_41 : decode cX4_place 41 = .ok (.ireturn, 1) := dk_172 (dk_at dksX4_place_1 17 rfl rfl)
abbrev cX4_minutes : ByteArray := prog_10_method_23_code
def yX4_minutes : MethodName := ⟨RX4, "minutes", "(I)I"⟩
def dkwX4_minutes_1 : List UInt8 := [180, 0, 9, 42, 27, 182, 0, 75, 6, 96, 29, 96, 46, 96, 61, 132, 3, 1, 167, 255, 220, 28, 172]
abbrev dktX4_minutes_1 : List UInt8 := dkwX4_minutes_1 ++ []
def dkwX4_minutes_0 : List UInt8 := [3, 61, 3, 62, 29, 42, 180, 0, 9, 42, 27, 182, 0, 75, 5, 96, 46, 162, 0, 26, 28, 42]
abbrev dktX4_minutes_0 : List UInt8 := dkwX4_minutes_0 ++ dktX4_minutes_1
theorem dksX4_minutes_0 : cX4_minutes.data.toList.drop 0 = dktX4_minutes_0 := by decide +kernel
theorem dksX4_minutes_1 : cX4_minutes.data.toList.drop 22 = dktX4_minutes_1 := dk_seg dksX4_minutes_0 22 rfl rfl
theorem dX4_minutes_0 : decode cX4_minutes 0 = .ok (.iconst 0, 1) := dk_3 (dk_at dksX4_minutes_0 0 rfl rfl)
theorem dX4_minutes_1 : decode cX4_minutes 1 = .ok (.istore_n 2, 1) := dk_61 (dk_at dksX4_minutes_0 1 rfl rfl)
theorem dX4_minutes_2 : decode cX4_minutes 2 = .ok (.iconst 0, 1) := dk_3 (dk_at dksX4_minutes_0 2 rfl rfl)
theorem dX4_minutes_3 : decode cX4_minutes 3 = .ok (.istore_n 3, 1) := dk_62 (dk_at dksX4_minutes_0 3 rfl rfl)
theorem dX4_minutes_4 : decode cX4_minutes 4 = .ok (.iload_n 3, 1) := dk_29 (dk_at dksX4_minutes_0 4 rfl rfl)
theorem dX4_minutes_5 : decode cX4_minutes 5 = .ok (.aload_n 0, 1) := dk_42 (dk_at dksX4_minutes_0 5 rfl rfl)
theorem dX4_minutes_6 : decode cX4_minutes 6 = .ok (.getfield 9, 3) := dk_180 0 9 (dk_at dksX4_minutes_0 6 rfl rfl)
theorem dX4_minutes_9 : decode cX4_minutes 9 = .ok (.aload_n 0, 1) := dk_42 (dk_at dksX4_minutes_0 9 rfl rfl)
theorem dX4_minutes_10 : decode cX4_minutes 10 = .ok (.iload_n 1, 1) := dk_27 (dk_at dksX4_minutes_0 10 rfl rfl)
theorem dX4_minutes_11 : decode cX4_minutes 11 = .ok (.invokevirtual 75, 3) := dk_182 0 75 (dk_at dksX4_minutes_0 11 rfl rfl)
theorem dX4_minutes_14 : decode cX4_minutes 14 = .ok (.iconst 2, 1) := dk_5 (dk_at dksX4_minutes_0 14 rfl rfl)
theorem dX4_minutes_15 : decode cX4_minutes 15 = .ok (.iadd, 1) := dk_96 (dk_at dksX4_minutes_0 15 rfl rfl)
theorem dX4_minutes_16 : decode cX4_minutes 16 = .ok (.iaload, 1) := dk_46 (dk_at dksX4_minutes_0 16 rfl rfl)
theorem dX4_minutes_17 : decode cX4_minutes 17 = .ok (.if_icmp .ge 26, 3) := dk_162 0 26 (dk_at dksX4_minutes_0 17 rfl rfl)
theorem dX4_minutes_20 : decode cX4_minutes 20 = .ok (.iload_n 2, 1) := dk_28 (dk_at dksX4_minutes_0 20 rfl rfl)
theorem dX4_minutes_21 : decode cX4_minutes 21 = .ok (.aload_n 0, 1) := dk_42 (dk_at dksX4_minutes_0 21 rfl rfl)
theorem dX4_minutes_22 : decode cX4_minutes 22 = .ok (.getfield 9, 3) := dk_180 0 9 (dk_at dksX4_minutes_1 0 rfl rfl)
theorem dX4_minutes_25 : decode cX4_minutes 25 = .ok (.aload_n 0, 1) := dk_42 (dk_at dksX4_minutes_1 3 rfl rfl)
theorem dX4_minutes_26 : decode cX4_minutes 26 = .ok (.iload_n 1, 1) := dk_27 (dk_at dksX4_minutes_1 4 rfl rfl)
theorem dX4_minutes_27 : decode cX4_minutes 27 = .ok (.invokevirtual 75, 3) := dk_182 0 75 (dk_at dksX4_minutes_1 5 rfl rfl)
theorem dX4_minutes_30 : decode cX4_minutes 30 = .ok (.iconst 3, 1) := dk_6 (dk_at dksX4_minutes_1 8 rfl rfl)
theorem dX4_minutes_31 : decode cX4_minutes 31 = .ok (.iadd, 1) := dk_96 (dk_at dksX4_minutes_1 9 rfl rfl)
theorem dX4_minutes_32 : decode cX4_minutes 32 = .ok (.iload_n 3, 1) := dk_29 (dk_at dksX4_minutes_1 10 rfl rfl)
theorem dX4_minutes_33 : decode cX4_minutes 33 = .ok (.iadd, 1) := dk_96 (dk_at dksX4_minutes_1 11 rfl rfl)
theorem dX4_minutes_34 : decode cX4_minutes 34 = .ok (.iaload, 1) := dk_46 (dk_at dksX4_minutes_1 12 rfl rfl)
theorem dX4_minutes_35 : decode cX4_minutes 35 = .ok (.iadd, 1) := dk_96 (dk_at dksX4_minutes_1 13 rfl rfl)
theorem dX4_minutes_36 : decode cX4_minutes 36 = .ok (.istore_n 2, 1) := dk_61 (dk_at dksX4_minutes_1 14 rfl rfl)
theorem dX4_minutes_37 : decode cX4_minutes 37 = .ok (.iinc 3 1, 3) := dk_132 3 1 (dk_at dksX4_minutes_1 15 rfl rfl)
theorem dX4_minutes_40 : decode cX4_minutes 40 = .ok (.goto (-36), 3) := dk_167 255 220 (dk_at dksX4_minutes_1 18 rfl rfl)
theorem dX4_minutes_43 : decode cX4_minutes 43 = .ok (.iload_n 2, 1) := dk_28 (dk_at dksX4_minutes_1 21 rfl rfl)
theorem dX4_minutes_44 : decode cX4_minutes 44 = .ok (.ireturn, 1) := dk_172 (dk_at dksX4_minutes_1 22 rfl rfl)
abbrev cX4_clearParts : ByteArray := prog_10_method_30_code
def yX4_clearParts : MethodName := ⟨RX4, "clearParts", "(I)I"⟩
def dkwX4_clearParts_2 : List UInt8 := [28, 172]
abbrev dktX4_clearParts_2 : List UInt8 := dkwX4_clearParts_2 ++ []
def dkwX4_clearParts_1 : List UInt8 := [182, 0, 75, 5, 96, 46, 61, 42, 180, 0, 9, 42, 42, 27, 182, 0, 84, 182, 0, 75, 5, 96, 3, 79]
abbrev dktX4_clearParts_1 : List UInt8 := dkwX4_clearParts_1 ++ dktX4_clearParts_2
def dkwX4_clearParts_0 : List UInt8 := [42, 27, 182, 0, 90, 153, 0, 5, 3, 172, 42, 182, 0, 55, 42, 180, 0, 9, 42, 42, 27, 182, 0, 84]
abbrev dktX4_clearParts_0 : List UInt8 := dkwX4_clearParts_0 ++ dktX4_clearParts_1
theorem dksX4_clearParts_0 : cX4_clearParts.data.toList.drop 0 = dktX4_clearParts_0 := by decide +kernel
theorem dksX4_clearParts_1 : cX4_clearParts.data.toList.drop 24 = dktX4_clearParts_1 := dk_seg dksX4_clearParts_0 24 rfl rfl
theorem dksX4_clearParts_2 : cX4_clearParts.data.toList.drop 48 = dktX4_clearParts_2 := dk_seg dksX4_clearParts_1 24 rfl rfl
theorem dX4_clearParts_0 : decode cX4_clearParts 0 = .ok (.aload_n 0, 1) := dk_42 (dk_at dksX4_clearParts_0 0 rfl rfl)
theorem dX4_clearParts_1 : decode cX4_clearParts 1 = .ok (.iload_n 1, 1) := dk_27 (dk_at dksX4_clearParts_0 1 rfl rfl)
theorem dX4_clearParts_2 : decode cX4_clearParts 2 = .ok (.invokevirtual 90, 3) := dk_182 0 90 (dk_at dksX4_clearParts_0 2 rfl rfl)
theorem dX4_clearParts_5 : decode cX4_clearParts 5 = .ok (.ifCond .eq 5, 3) := dk_153 0 5 (dk_at dksX4_clearParts_0 5 rfl rfl)
theorem dX4_clearParts_8 : decode cX4_clearParts 8 = .ok (.iconst 0, 1) := dk_3 (dk_at dksX4_clearParts_0 8 rfl rfl)
theorem dX4_clearParts_9 : decode cX4_clearParts 9 = .ok (.ireturn, 1) := dk_172 (dk_at dksX4_clearParts_0 9 rfl rfl)
theorem dX4_clearParts_10 : decode cX4_clearParts 10 = .ok (.aload_n 0, 1) := dk_42 (dk_at dksX4_clearParts_0 10 rfl rfl)
theorem dX4_clearParts_11 : decode cX4_clearParts 11 = .ok (.invokevirtual 55, 3) := dk_182 0 55 (dk_at dksX4_clearParts_0 11 rfl rfl)
theorem dX4_clearParts_14 : decode cX4_clearParts 14 = .ok (.aload_n 0, 1) := dk_42 (dk_at dksX4_clearParts_0 14 rfl rfl)
theorem dX4_clearParts_15 : decode cX4_clearParts 15 = .ok (.getfield 9, 3) := dk_180 0 9 (dk_at dksX4_clearParts_0 15 rfl rfl)
theorem dX4_clearParts_18 : decode cX4_clearParts 18 = .ok (.aload_n 0, 1) := dk_42 (dk_at dksX4_clearParts_0 18 rfl rfl)
theorem dX4_clearParts_19 : decode cX4_clearParts 19 = .ok (.aload_n 0, 1) := dk_42 (dk_at dksX4_clearParts_0 19 rfl rfl)
theorem dX4_clearParts_20 : decode cX4_clearParts 20 = .ok (.iload_n 1, 1) := dk_27 (dk_at dksX4_clearParts_0 20 rfl rfl)
theorem dX4_clearParts_21 : decode cX4_clearParts 21 = .ok (.invokevirtual 84, 3) := dk_182 0 84 (dk_at dksX4_clearParts_0 21 rfl rfl)
theorem dX4_clearParts_24 : decode cX4_clearParts 24 = .ok (.invokevirtual 75, 3) := dk_182 0 75 (dk_at dksX4_clearParts_1 0 rfl rfl)
theorem dX4_clearParts_27 : decode cX4_clearParts 27 = .ok (.iconst 2, 1) := dk_5 (dk_at dksX4_clearParts_1 3 rfl rfl)
theorem dX4_clearParts_28 : decode cX4_clearParts 28 = .ok (.iadd, 1) := dk_96 (dk_at dksX4_clearParts_1 4 rfl rfl)
theorem dX4_clearParts_29 : decode cX4_clearParts 29 = .ok (.iaload, 1) := dk_46 (dk_at dksX4_clearParts_1 5 rfl rfl)
theorem dX4_clearParts_30 : decode cX4_clearParts 30 = .ok (.istore_n 2, 1) := dk_61 (dk_at dksX4_clearParts_1 6 rfl rfl)
theorem dX4_clearParts_31 : decode cX4_clearParts 31 = .ok (.aload_n 0, 1) := dk_42 (dk_at dksX4_clearParts_1 7 rfl rfl)
theorem dX4_clearParts_32 : decode cX4_clearParts 32 = .ok (.getfield 9, 3) := dk_180 0 9 (dk_at dksX4_clearParts_1 8 rfl rfl)
theorem dX4_clearParts_35 : decode cX4_clearParts 35 = .ok (.aload_n 0, 1) := dk_42 (dk_at dksX4_clearParts_1 11 rfl rfl)
theorem dX4_clearParts_36 : decode cX4_clearParts 36 = .ok (.aload_n 0, 1) := dk_42 (dk_at dksX4_clearParts_1 12 rfl rfl)
theorem dX4_clearParts_37 : decode cX4_clearParts 37 = .ok (.iload_n 1, 1) := dk_27 (dk_at dksX4_clearParts_1 13 rfl rfl)
theorem dX4_clearParts_38 : decode cX4_clearParts 38 = .ok (.invokevirtual 84, 3) := dk_182 0 84 (dk_at dksX4_clearParts_1 14 rfl rfl)
theorem dX4_clearParts_41 : decode cX4_clearParts 41 = .ok (.invokevirtual 75, 3) := dk_182 0 75 (dk_at dksX4_clearParts_1 17 rfl rfl)
theorem dX4_clearParts_44 : decode cX4_clearParts 44 = .ok (.iconst 2, 1) := dk_5 (dk_at dksX4_clearParts_1 20 rfl rfl)
theorem dX4_clearParts_45 : decode cX4_clearParts 45 = .ok (.iadd, 1) := dk_96 (dk_at dksX4_clearParts_1 21 rfl rfl)
theorem dX4_clearParts_46 : decode cX4_clearParts 46 = .ok (.iconst 0, 1) := dk_3 (dk_at dksX4_clearParts_1 22 rfl rfl)
theorem dX4_clearParts_47 : decode cX4_clearParts 47 = .ok (.iastore, 1) := dk_79 (dk_at dksX4_clearParts_1 23 rfl rfl)
theorem dX4_clearParts_48 : decode cX4_clearParts 48 = .ok (.iload_n 2, 1) := dk_28 (dk_at dksX4_clearParts_2 0 rfl rfl)
theorem dX4_clearParts_49 : decode cX4_clearParts 49 = .ok (.ireturn, 1) := dk_172 (dk_at dksX4_clearParts_2 1 rfl rfl)
abbrev cX4_isNoSession : ByteArray := prog_10_method_29_code
def yX4_isNoSession : MethodName := ⟨RX4, "isNoSession", "(I)Z"⟩
def dkwX4_isNoSession_0 : List UInt8 := [42, 42, 27, 182, 0, 84, 156, 0, 7, 4, 167, 0, 4, 3, 4, 182, 0, 51, 172]
abbrev dktX4_isNoSession_0 : List UInt8 := dkwX4_isNoSession_0 ++ []
theorem dksX4_isNoSession_0 : cX4_isNoSession.data.toList.drop 0 = dktX4_isNoSession_0 := by decide +kernel
theorem dX4_isNoSession_0 : decode cX4_isNoSession 0 = .ok (.aload_n 0, 1) := dk_42 (dk_at dksX4_isNoSession_0 0 rfl rfl)
theorem dX4_isNoSession_1 : decode cX4_isNoSession 1 = .ok (.aload_n 0, 1) := dk_42 (dk_at dksX4_isNoSession_0 1 rfl rfl)
theorem dX4_isNoSession_2 : decode cX4_isNoSession 2 = .ok (.iload_n 1, 1) := dk_27 (dk_at dksX4_isNoSession_0 2 rfl rfl)
theorem dX4_isNoSession_3 : decode cX4_isNoSession 3 = .ok (.invokevirtual 84, 3) := dk_182 0 84 (dk_at dksX4_isNoSession_0 3 rfl rfl)
theorem dX4_isNoSession_6 : decode cX4_isNoSession 6 = .ok (.ifCond .ge 7, 3) := dk_156 0 7 (dk_at dksX4_isNoSession_0 6 rfl rfl)
theorem dX4_isNoSession_9 : decode cX4_isNoSession 9 = .ok (.iconst 1, 1) := dk_4 (dk_at dksX4_isNoSession_0 9 rfl rfl)
theorem dX4_isNoSession_10 : decode cX4_isNoSession 10 = .ok (.goto 4, 3) := dk_167 0 4 (dk_at dksX4_isNoSession_0 10 rfl rfl)
theorem dX4_isNoSession_13 : decode cX4_isNoSession 13 = .ok (.iconst 0, 1) := dk_3 (dk_at dksX4_isNoSession_0 13 rfl rfl)
theorem dX4_isNoSession_14 : decode cX4_isNoSession 14 = .ok (.iconst 1, 1) := dk_4 (dk_at dksX4_isNoSession_0 14 rfl rfl)
theorem dX4_isNoSession_15 : decode cX4_isNoSession 15 = .ok (.invokevirtual 51, 3) := dk_182 0 51 (dk_at dksX4_isNoSession_0 15 rfl rfl)
theorem dX4_isNoSession_18 : decode cX4_isNoSession 18 = .ok (.ireturn, 1) := dk_172 (dk_at dksX4_isNoSession_0 18 rfl rfl)
abbrev cX4_moveSession : ByteArray := prog_10_method_31_code
def yX4_moveSession : MethodName := ⟨RX4, "moveSession", "(II)I"⟩
def dkwX4_moveSession_2 : List UInt8 := [42, 42, 27, 182, 0, 84, 182, 0, 75, 4, 96, 28, 79, 29, 172]
abbrev dktX4_moveSession_2 : List UInt8 := dkwX4_moveSession_2 ++ []
def dkwX4_moveSession_1 : List UInt8 := [182, 0, 55, 42, 180, 0, 9, 42, 42, 27, 182, 0, 84, 182, 0, 75, 4, 96, 46, 62, 42, 180, 0, 9]
abbrev dktX4_moveSession_1 : List UInt8 := dkwX4_moveSession_1 ++ dktX4_moveSession_2
def dkwX4_moveSession_0 : List UInt8 := [42, 27, 182, 0, 90, 154, 0, 16, 42, 42, 28, 182, 0, 58, 5, 182, 0, 51, 153, 0, 5, 3, 172, 42]
abbrev dktX4_moveSession_0 : List UInt8 := dkwX4_moveSession_0 ++ dktX4_moveSession_1
theorem dksX4_moveSession_0 : cX4_moveSession.data.toList.drop 0 = dktX4_moveSession_0 := by decide +kernel
theorem dksX4_moveSession_1 : cX4_moveSession.data.toList.drop 24 = dktX4_moveSession_1 := dk_seg dksX4_moveSession_0 24 rfl rfl
theorem dksX4_moveSession_2 : cX4_moveSession.data.toList.drop 48 = dktX4_moveSession_2 := dk_seg dksX4_moveSession_1 24 rfl rfl
theorem dX4_moveSession_0 : decode cX4_moveSession 0 = .ok (.aload_n 0, 1) := dk_42 (dk_at dksX4_moveSession_0 0 rfl rfl)
theorem dX4_moveSession_1 : decode cX4_moveSession 1 = .ok (.iload_n 1, 1) := dk_27 (dk_at dksX4_moveSession_0 1 rfl rfl)
theorem dX4_moveSession_2 : decode cX4_moveSession 2 = .ok (.invokevirtual 90, 3) := dk_182 0 90 (dk_at dksX4_moveSession_0 2 rfl rfl)
theorem dX4_moveSession_5 : decode cX4_moveSession 5 = .ok (.ifCond .ne 16, 3) := dk_154 0 16 (dk_at dksX4_moveSession_0 5 rfl rfl)
theorem dX4_moveSession_8 : decode cX4_moveSession 8 = .ok (.aload_n 0, 1) := dk_42 (dk_at dksX4_moveSession_0 8 rfl rfl)
theorem dX4_moveSession_9 : decode cX4_moveSession 9 = .ok (.aload_n 0, 1) := dk_42 (dk_at dksX4_moveSession_0 9 rfl rfl)
theorem dX4_moveSession_10 : decode cX4_moveSession 10 = .ok (.iload_n 2, 1) := dk_28 (dk_at dksX4_moveSession_0 10 rfl rfl)
theorem dX4_moveSession_11 : decode cX4_moveSession 11 = .ok (.invokevirtual 58, 3) := dk_182 0 58 (dk_at dksX4_moveSession_0 11 rfl rfl)
theorem dX4_moveSession_14 : decode cX4_moveSession 14 = .ok (.iconst 2, 1) := dk_5 (dk_at dksX4_moveSession_0 14 rfl rfl)
theorem dX4_moveSession_15 : decode cX4_moveSession 15 = .ok (.invokevirtual 51, 3) := dk_182 0 51 (dk_at dksX4_moveSession_0 15 rfl rfl)
theorem dX4_moveSession_18 : decode cX4_moveSession 18 = .ok (.ifCond .eq 5, 3) := dk_153 0 5 (dk_at dksX4_moveSession_0 18 rfl rfl)
theorem dX4_moveSession_21 : decode cX4_moveSession 21 = .ok (.iconst 0, 1) := dk_3 (dk_at dksX4_moveSession_0 21 rfl rfl)
theorem dX4_moveSession_22 : decode cX4_moveSession 22 = .ok (.ireturn, 1) := dk_172 (dk_at dksX4_moveSession_0 22 rfl rfl)
theorem dX4_moveSession_23 : decode cX4_moveSession 23 = .ok (.aload_n 0, 1) := dk_42 (dk_at dksX4_moveSession_0 23 rfl rfl)
theorem dX4_moveSession_24 : decode cX4_moveSession 24 = .ok (.invokevirtual 55, 3) := dk_182 0 55 (dk_at dksX4_moveSession_1 0 rfl rfl)
theorem dX4_moveSession_27 : decode cX4_moveSession 27 = .ok (.aload_n 0, 1) := dk_42 (dk_at dksX4_moveSession_1 3 rfl rfl)
theorem dX4_moveSession_28 : decode cX4_moveSession 28 = .ok (.getfield 9, 3) := dk_180 0 9 (dk_at dksX4_moveSession_1 4 rfl rfl)
theorem dX4_moveSession_31 : decode cX4_moveSession 31 = .ok (.aload_n 0, 1) := dk_42 (dk_at dksX4_moveSession_1 7 rfl rfl)
theorem dX4_moveSession_32 : decode cX4_moveSession 32 = .ok (.aload_n 0, 1) := dk_42 (dk_at dksX4_moveSession_1 8 rfl rfl)
theorem dX4_moveSession_33 : decode cX4_moveSession 33 = .ok (.iload_n 1, 1) := dk_27 (dk_at dksX4_moveSession_1 9 rfl rfl)
theorem dX4_moveSession_34 : decode cX4_moveSession 34 = .ok (.invokevirtual 84, 3) := dk_182 0 84 (dk_at dksX4_moveSession_1 10 rfl rfl)
theorem dX4_moveSession_37 : decode cX4_moveSession 37 = .ok (.invokevirtual 75, 3) := dk_182 0 75 (dk_at dksX4_moveSession_1 13 rfl rfl)
theorem dX4_moveSession_40 : decode cX4_moveSession 40 = .ok (.iconst 1, 1) := dk_4 (dk_at dksX4_moveSession_1 16 rfl rfl)
theorem dX4_moveSession_41 : decode cX4_moveSession 41 = .ok (.iadd, 1) := dk_96 (dk_at dksX4_moveSession_1 17 rfl rfl)
theorem dX4_moveSession_42 : decode cX4_moveSession 42 = .ok (.iaload, 1) := dk_46 (dk_at dksX4_moveSession_1 18 rfl rfl)
theorem dX4_moveSession_43 : decode cX4_moveSession 43 = .ok (.istore_n 3, 1) := dk_62 (dk_at dksX4_moveSession_1 19 rfl rfl)
theorem dX4_moveSession_44 : decode cX4_moveSession 44 = .ok (.aload_n 0, 1) := dk_42 (dk_at dksX4_moveSession_1 20 rfl rfl)
theorem dX4_moveSession_45 : decode cX4_moveSession 45 = .ok (.getfield 9, 3) := dk_180 0 9 (dk_at dksX4_moveSession_1 21 rfl rfl)
theorem dX4_moveSession_48 : decode cX4_moveSession 48 = .ok (.aload_n 0, 1) := dk_42 (dk_at dksX4_moveSession_2 0 rfl rfl)
theorem dX4_moveSession_49 : decode cX4_moveSession 49 = .ok (.aload_n 0, 1) := dk_42 (dk_at dksX4_moveSession_2 1 rfl rfl)
theorem dX4_moveSession_50 : decode cX4_moveSession 50 = .ok (.iload_n 1, 1) := dk_27 (dk_at dksX4_moveSession_2 2 rfl rfl)
theorem dX4_moveSession_51 : decode cX4_moveSession 51 = .ok (.invokevirtual 84, 3) := dk_182 0 84 (dk_at dksX4_moveSession_2 3 rfl rfl)
theorem dX4_moveSession_54 : decode cX4_moveSession 54 = .ok (.invokevirtual 75, 3) := dk_182 0 75 (dk_at dksX4_moveSession_2 6 rfl rfl)
theorem dX4_moveSession_57 : decode cX4_moveSession 57 = .ok (.iconst 1, 1) := dk_4 (dk_at dksX4_moveSession_2 9 rfl rfl)
theorem dX4_moveSession_58 : decode cX4_moveSession 58 = .ok (.iadd, 1) := dk_96 (dk_at dksX4_moveSession_2 10 rfl rfl)
theorem dX4_moveSession_59 : decode cX4_moveSession 59 = .ok (.iload_n 2, 1) := dk_28 (dk_at dksX4_moveSession_2 11 rfl rfl)
theorem dX4_moveSession_60 : decode cX4_moveSession 60 = .ok (.iastore, 1) := dk_79 (dk_at dksX4_moveSession_2 12 rfl rfl)
theorem dX4_moveSession_61 : decode cX4_moveSession 61 = .ok (.iload_n 3, 1) := dk_29 (dk_at dksX4_moveSession_2 13 rfl rfl)
theorem dX4_moveSession_62 : decode cX4_moveSession 62 = .ok (.ireturn, 1) := dk_172 (dk_at dksX4_moveSession_2 14 rfl rfl)
abbrev cX4_removeSession : ByteArray := prog_10_method_32_code
def yX4_removeSession : MethodName := ⟨RX4, "removeSession", "(I)I"⟩
def dkwX4_removeSession_3 : List UInt8 := [79, 42, 180, 0, 9, 5, 46, 172]
abbrev dktX4_removeSession_3 : List UInt8 := dkwX4_removeSession_3 ++ []
def dkwX4_removeSession_2 : List UInt8 := [180, 0, 9, 28, 16, 19, 96, 46, 79, 132, 2, 1, 167, 255, 222, 42, 180, 0, 9, 5, 92, 46, 4, 100]
abbrev dktX4_removeSession_2 : List UInt8 := dkwX4_removeSession_2 ++ dktX4_removeSession_3
def dkwX4_removeSession_1 : List UInt8 := [28, 42, 42, 180, 0, 9, 5, 46, 4, 100, 182, 0, 75, 162, 0, 24, 42, 180, 0, 9, 28, 42]
abbrev dktX4_removeSession_1 : List UInt8 := dkwX4_removeSession_1 ++ dktX4_removeSession_2
def dkwX4_removeSession_0 : List UInt8 := [42, 27, 182, 0, 90, 153, 0, 5, 3, 172, 42, 182, 0, 55, 42, 42, 27, 182, 0, 84, 182, 0, 75, 61]
abbrev dktX4_removeSession_0 : List UInt8 := dkwX4_removeSession_0 ++ dktX4_removeSession_1
theorem dksX4_removeSession_0 : cX4_removeSession.data.toList.drop 0 = dktX4_removeSession_0 := by decide +kernel
theorem dksX4_removeSession_1 : cX4_removeSession.data.toList.drop 24 = dktX4_removeSession_1 := dk_seg dksX4_removeSession_0 24 rfl rfl
theorem dksX4_removeSession_2 : cX4_removeSession.data.toList.drop 46 = dktX4_removeSession_2 := dk_seg dksX4_removeSession_1 22 rfl rfl
theorem dksX4_removeSession_3 : cX4_removeSession.data.toList.drop 70 = dktX4_removeSession_3 := dk_seg dksX4_removeSession_2 24 rfl rfl
theorem dX4_removeSession_0 : decode cX4_removeSession 0 = .ok (.aload_n 0, 1) := dk_42 (dk_at dksX4_removeSession_0 0 rfl rfl)
theorem dX4_removeSession_1 : decode cX4_removeSession 1 = .ok (.iload_n 1, 1) := dk_27 (dk_at dksX4_removeSession_0 1 rfl rfl)
theorem dX4_removeSession_2 : decode cX4_removeSession 2 = .ok (.invokevirtual 90, 3) := dk_182 0 90 (dk_at dksX4_removeSession_0 2 rfl rfl)
theorem dX4_removeSession_5 : decode cX4_removeSession 5 = .ok (.ifCond .eq 5, 3) := dk_153 0 5 (dk_at dksX4_removeSession_0 5 rfl rfl)
theorem dX4_removeSession_8 : decode cX4_removeSession 8 = .ok (.iconst 0, 1) := dk_3 (dk_at dksX4_removeSession_0 8 rfl rfl)
theorem dX4_removeSession_9 : decode cX4_removeSession 9 = .ok (.ireturn, 1) := dk_172 (dk_at dksX4_removeSession_0 9 rfl rfl)
theorem dX4_removeSession_10 : decode cX4_removeSession 10 = .ok (.aload_n 0, 1) := dk_42 (dk_at dksX4_removeSession_0 10 rfl rfl)
theorem dX4_removeSession_11 : decode cX4_removeSession 11 = .ok (.invokevirtual 55, 3) := dk_182 0 55 (dk_at dksX4_removeSession_0 11 rfl rfl)
theorem dX4_removeSession_14 : decode cX4_removeSession 14 = .ok (.aload_n 0, 1) := dk_42 (dk_at dksX4_removeSession_0 14 rfl rfl)
theorem dX4_removeSession_15 : decode cX4_removeSession 15 = .ok (.aload_n 0, 1) := dk_42 (dk_at dksX4_removeSession_0 15 rfl rfl)
theorem dX4_removeSession_16 : decode cX4_removeSession 16 = .ok (.iload_n 1, 1) := dk_27 (dk_at dksX4_removeSession_0 16 rfl rfl)
theorem dX4_removeSession_17 : decode cX4_removeSession 17 = .ok (.invokevirtual 84, 3) := dk_182 0 84 (dk_at dksX4_removeSession_0 17 rfl rfl)
theorem dX4_removeSession_20 : decode cX4_removeSession 20 = .ok (.invokevirtual 75, 3) := dk_182 0 75 (dk_at dksX4_removeSession_0 20 rfl rfl)
theorem dX4_removeSession_23 : decode cX4_removeSession 23 = .ok (.istore_n 2, 1) := dk_61 (dk_at dksX4_removeSession_0 23 rfl rfl)
theorem dX4_removeSession_24 : decode cX4_removeSession 24 = .ok (.iload_n 2, 1) := dk_28 (dk_at dksX4_removeSession_1 0 rfl rfl)
theorem dX4_removeSession_25 : decode cX4_removeSession 25 = .ok (.aload_n 0, 1) := dk_42 (dk_at dksX4_removeSession_1 1 rfl rfl)
theorem dX4_removeSession_26 : decode cX4_removeSession 26 = .ok (.aload_n 0, 1) := dk_42 (dk_at dksX4_removeSession_1 2 rfl rfl)
theorem dX4_removeSession_27 : decode cX4_removeSession 27 = .ok (.getfield 9, 3) := dk_180 0 9 (dk_at dksX4_removeSession_1 3 rfl rfl)
theorem dX4_removeSession_30 : decode cX4_removeSession 30 = .ok (.iconst 2, 1) := dk_5 (dk_at dksX4_removeSession_1 6 rfl rfl)
theorem dX4_removeSession_31 : decode cX4_removeSession 31 = .ok (.iaload, 1) := dk_46 (dk_at dksX4_removeSession_1 7 rfl rfl)
theorem dX4_removeSession_32 : decode cX4_removeSession 32 = .ok (.iconst 1, 1) := dk_4 (dk_at dksX4_removeSession_1 8 rfl rfl)
theorem dX4_removeSession_33 : decode cX4_removeSession 33 = .ok (.isub, 1) := dk_100 (dk_at dksX4_removeSession_1 9 rfl rfl)
theorem dX4_removeSession_34 : decode cX4_removeSession 34 = .ok (.invokevirtual 75, 3) := dk_182 0 75 (dk_at dksX4_removeSession_1 10 rfl rfl)
theorem dX4_removeSession_37 : decode cX4_removeSession 37 = .ok (.if_icmp .ge 24, 3) := dk_162 0 24 (dk_at dksX4_removeSession_1 13 rfl rfl)
theorem dX4_removeSession_40 : decode cX4_removeSession 40 = .ok (.aload_n 0, 1) := dk_42 (dk_at dksX4_removeSession_1 16 rfl rfl)
theorem dX4_removeSession_41 : decode cX4_removeSession 41 = .ok (.getfield 9, 3) := dk_180 0 9 (dk_at dksX4_removeSession_1 17 rfl rfl)
theorem dX4_removeSession_44 : decode cX4_removeSession 44 = .ok (.iload_n 2, 1) := dk_28 (dk_at dksX4_removeSession_1 20 rfl rfl)
theorem dX4_removeSession_45 : decode cX4_removeSession 45 = .ok (.aload_n 0, 1) := dk_42 (dk_at dksX4_removeSession_1 21 rfl rfl)
theorem dX4_removeSession_46 : decode cX4_removeSession 46 = .ok (.getfield 9, 3) := dk_180 0 9 (dk_at dksX4_removeSession_2 0 rfl rfl)
theorem dX4_removeSession_49 : decode cX4_removeSession 49 = .ok (.iload_n 2, 1) := dk_28 (dk_at dksX4_removeSession_2 3 rfl rfl)
theorem dX4_removeSession_50 : decode cX4_removeSession 50 = .ok (.bipush 19, 2) := dk_16 19 (dk_at dksX4_removeSession_2 4 rfl rfl)
theorem dX4_removeSession_52 : decode cX4_removeSession 52 = .ok (.iadd, 1) := dk_96 (dk_at dksX4_removeSession_2 6 rfl rfl)
theorem dX4_removeSession_53 : decode cX4_removeSession 53 = .ok (.iaload, 1) := dk_46 (dk_at dksX4_removeSession_2 7 rfl rfl)
theorem dX4_removeSession_54 : decode cX4_removeSession 54 = .ok (.iastore, 1) := dk_79 (dk_at dksX4_removeSession_2 8 rfl rfl)
theorem dX4_removeSession_55 : decode cX4_removeSession 55 = .ok (.iinc 2 1, 3) := dk_132 2 1 (dk_at dksX4_removeSession_2 9 rfl rfl)
theorem dX4_removeSession_58 : decode cX4_removeSession 58 = .ok (.goto (-34), 3) := dk_167 255 222 (dk_at dksX4_removeSession_2 12 rfl rfl)
theorem dX4_removeSession_61 : decode cX4_removeSession 61 = .ok (.aload_n 0, 1) := dk_42 (dk_at dksX4_removeSession_2 15 rfl rfl)
theorem dX4_removeSession_62 : decode cX4_removeSession 62 = .ok (.getfield 9, 3) := dk_180 0 9 (dk_at dksX4_removeSession_2 16 rfl rfl)
theorem dX4_removeSession_65 : decode cX4_removeSession 65 = .ok (.iconst 2, 1) := dk_5 (dk_at dksX4_removeSession_2 19 rfl rfl)
theorem dX4_removeSession_66 : decode cX4_removeSession 66 = .ok (.dup2, 1) := dk_92 (dk_at dksX4_removeSession_2 20 rfl rfl)
theorem dX4_removeSession_67 : decode cX4_removeSession 67 = .ok (.iaload, 1) := dk_46 (dk_at dksX4_removeSession_2 21 rfl rfl)
theorem dX4_removeSession_68 : decode cX4_removeSession 68 = .ok (.iconst 1, 1) := dk_4 (dk_at dksX4_removeSession_2 22 rfl rfl)
theorem dX4_removeSession_69 : decode cX4_removeSession 69 = .ok (.isub, 1) := dk_100 (dk_at dksX4_removeSession_2 23 rfl rfl)
theorem dX4_removeSession_70 : decode cX4_removeSession 70 = .ok (.iastore, 1) := dk_79 (dk_at dksX4_removeSession_3 0 rfl rfl)
theorem dX4_removeSession_71 : decode cX4_removeSession 71 = .ok (.aload_n 0, 1) := dk_42 (dk_at dksX4_removeSession_3 1 rfl rfl)
theorem dX4_removeSession_72 : decode cX4_removeSession 72 = .ok (.getfield 9, 3) := dk_180 0 9 (dk_at dksX4_removeSession_3 2 rfl rfl)
theorem dX4_removeSession_75 : decode cX4_removeSession 75 = .ok (.iconst 2, 1) := dk_5 (dk_at dksX4_removeSession_3 5 rfl rfl)
theorem dX4_removeSession_76 : decode cX4_removeSession 76 = .ok (.iaload, 1) := dk_46 (dk_at dksX4_removeSession_3 6 rfl rfl)
theorem dX4_removeSession_77 : decode cX4_removeSession 77 = .ok (.ireturn, 1) := dk_172 (dk_at dksX4_removeSession_3 7 rfl rfl)
abbrev cX4_sessionCount : ByteArray := prog_10_method_33_code
def yX4_sessionCount : MethodName := ⟨RX4, "sessionCount", "()I"⟩
def dkwX4_sessionCount_0 : List UInt8 := [42, 3, 181, 0, 31, 42, 180, 0, 9, 5, 46, 172]
abbrev dktX4_sessionCount_0 : List UInt8 := dkwX4_sessionCount_0 ++ []
theorem dksX4_sessionCount_0 : cX4_sessionCount.data.toList.drop 0 = dktX4_sessionCount_0 := by decide +kernel
theorem dX4_sessionCount_0 : decode cX4_sessionCount 0 = .ok (.aload_n 0, 1) := dk_42 (dk_at dksX4_sessionCount_0 0 rfl rfl)
theorem dX4_sessionCount_1 : decode cX4_sessionCount 1 = .ok (.iconst 0, 1) := dk_3 (dk_at dksX4_sessionCount_0 1 rfl rfl)
theorem dX4_sessionCount_2 : decode cX4_sessionCount 2 = .ok (.putfield 31, 3) := dk_181 0 31 (dk_at dksX4_sessionCount_0 2 rfl rfl)
theorem dX4_sessionCount_5 : decode cX4_sessionCount 5 = .ok (.aload_n 0, 1) := dk_42 (dk_at dksX4_sessionCount_0 5 rfl rfl)
theorem dX4_sessionCount_6 : decode cX4_sessionCount 6 = .ok (.getfield 9, 3) := dk_180 0 9 (dk_at dksX4_sessionCount_0 6 rfl rfl)
theorem dX4_sessionCount_9 : decode cX4_sessionCount 9 = .ok (.iconst 2, 1) := dk_5 (dk_at dksX4_sessionCount_0 9 rfl rfl)
theorem dX4_sessionCount_10 : decode cX4_sessionCount 10 = .ok (.iaload, 1) := dk_46 (dk_at dksX4_sessionCount_0 10 rfl rfl)
theorem dX4_sessionCount_11 : decode cX4_sessionCount 11 = .ok (.ireturn, 1) := dk_172 (dk_at dksX4_sessionCount_0 11 rfl rfl)
abbrev cX4_sessionAt : ByteArray := prog_10_method_35_code
def yX4_sessionAt : MethodName := ⟨RX4, "sessionAt", "(I)I"⟩
def dkwX4_sessionAt_2 : List UInt8 := [172]
abbrev dktX4_sessionAt_2 : List UInt8 := dkwX4_sessionAt_2 ++ []
def dkwX4_sessionAt_1 : List UInt8 := [182, 0, 51, 153, 0, 7, 3, 167, 0, 17, 42, 180, 0, 9, 42, 42, 27, 182, 0, 93, 182, 0, 75, 46]
abbrev dktX4_sessionAt_1 : List UInt8 := dkwX4_sessionAt_1 ++ dktX4_sessionAt_2
def dkwX4_sessionAt_0 : List UInt8 := [42, 27, 3, 42, 180, 0, 9, 5, 46, 4, 100, 184, 0, 47, 154, 0, 7, 4, 167, 0, 4, 3, 4]
abbrev dktX4_sessionAt_0 : List UInt8 := dkwX4_sessionAt_0 ++ dktX4_sessionAt_1
theorem dksX4_sessionAt_0 : cX4_sessionAt.data.toList.drop 0 = dktX4_sessionAt_0 := by decide +kernel
theorem dksX4_sessionAt_1 : cX4_sessionAt.data.toList.drop 23 = dktX4_sessionAt_1 := dk_seg dksX4_sessionAt_0 23 rfl rfl
theorem dksX4_sessionAt_2 : cX4_sessionAt.data.toList.drop 47 = dktX4_sessionAt_2 := dk_seg dksX4_sessionAt_1 24 rfl rfl
theorem dX4_sessionAt_0 : decode cX4_sessionAt 0 = .ok (.aload_n 0, 1) := dk_42 (dk_at dksX4_sessionAt_0 0 rfl rfl)
theorem dX4_sessionAt_1 : decode cX4_sessionAt 1 = .ok (.iload_n 1, 1) := dk_27 (dk_at dksX4_sessionAt_0 1 rfl rfl)
theorem dX4_sessionAt_2 : decode cX4_sessionAt 2 = .ok (.iconst 0, 1) := dk_3 (dk_at dksX4_sessionAt_0 2 rfl rfl)
theorem dX4_sessionAt_3 : decode cX4_sessionAt 3 = .ok (.aload_n 0, 1) := dk_42 (dk_at dksX4_sessionAt_0 3 rfl rfl)
theorem dX4_sessionAt_4 : decode cX4_sessionAt 4 = .ok (.getfield 9, 3) := dk_180 0 9 (dk_at dksX4_sessionAt_0 4 rfl rfl)
theorem dX4_sessionAt_7 : decode cX4_sessionAt 7 = .ok (.iconst 2, 1) := dk_5 (dk_at dksX4_sessionAt_0 7 rfl rfl)
theorem dX4_sessionAt_8 : decode cX4_sessionAt 8 = .ok (.iaload, 1) := dk_46 (dk_at dksX4_sessionAt_0 8 rfl rfl)
theorem dX4_sessionAt_9 : decode cX4_sessionAt 9 = .ok (.iconst 1, 1) := dk_4 (dk_at dksX4_sessionAt_0 9 rfl rfl)
theorem dX4_sessionAt_10 : decode cX4_sessionAt 10 = .ok (.isub, 1) := dk_100 (dk_at dksX4_sessionAt_0 10 rfl rfl)
theorem dX4_sessionAt_11 : decode cX4_sessionAt 11 = .ok (.invokestatic 47, 3) := dk_184 0 47 (dk_at dksX4_sessionAt_0 11 rfl rfl)
theorem dX4_sessionAt_14 : decode cX4_sessionAt 14 = .ok (.ifCond .ne 7, 3) := dk_154 0 7 (dk_at dksX4_sessionAt_0 14 rfl rfl)
theorem dX4_sessionAt_17 : decode cX4_sessionAt 17 = .ok (.iconst 1, 1) := dk_4 (dk_at dksX4_sessionAt_0 17 rfl rfl)
theorem dX4_sessionAt_18 : decode cX4_sessionAt 18 = .ok (.goto 4, 3) := dk_167 0 4 (dk_at dksX4_sessionAt_0 18 rfl rfl)
theorem dX4_sessionAt_21 : decode cX4_sessionAt 21 = .ok (.iconst 0, 1) := dk_3 (dk_at dksX4_sessionAt_0 21 rfl rfl)
theorem dX4_sessionAt_22 : decode cX4_sessionAt 22 = .ok (.iconst 1, 1) := dk_4 (dk_at dksX4_sessionAt_0 22 rfl rfl)
theorem dX4_sessionAt_23 : decode cX4_sessionAt 23 = .ok (.invokevirtual 51, 3) := dk_182 0 51 (dk_at dksX4_sessionAt_1 0 rfl rfl)
theorem dX4_sessionAt_26 : decode cX4_sessionAt 26 = .ok (.ifCond .eq 7, 3) := dk_153 0 7 (dk_at dksX4_sessionAt_1 3 rfl rfl)
theorem dX4_sessionAt_29 : decode cX4_sessionAt 29 = .ok (.iconst 0, 1) := dk_3 (dk_at dksX4_sessionAt_1 6 rfl rfl)
theorem dX4_sessionAt_30 : decode cX4_sessionAt 30 = .ok (.goto 17, 3) := dk_167 0 17 (dk_at dksX4_sessionAt_1 7 rfl rfl)
theorem dX4_sessionAt_33 : decode cX4_sessionAt 33 = .ok (.aload_n 0, 1) := dk_42 (dk_at dksX4_sessionAt_1 10 rfl rfl)
theorem dX4_sessionAt_34 : decode cX4_sessionAt 34 = .ok (.getfield 9, 3) := dk_180 0 9 (dk_at dksX4_sessionAt_1 11 rfl rfl)
theorem dX4_sessionAt_37 : decode cX4_sessionAt 37 = .ok (.aload_n 0, 1) := dk_42 (dk_at dksX4_sessionAt_1 14 rfl rfl)
theorem dX4_sessionAt_38 : decode cX4_sessionAt 38 = .ok (.aload_n 0, 1) := dk_42 (dk_at dksX4_sessionAt_1 15 rfl rfl)
theorem dX4_sessionAt_39 : decode cX4_sessionAt 39 = .ok (.iload_n 1, 1) := dk_27 (dk_at dksX4_sessionAt_1 16 rfl rfl)
theorem dX4_sessionAt_40 : decode cX4_sessionAt 40 = .ok (.invokevirtual 93, 3) := dk_182 0 93 (dk_at dksX4_sessionAt_1 17 rfl rfl)
theorem dX4_sessionAt_43 : decode cX4_sessionAt 43 = .ok (.invokevirtual 75, 3) := dk_182 0 75 (dk_at dksX4_sessionAt_1 20 rfl rfl)
theorem dX4_sessionAt_46 : decode cX4_sessionAt 46 = .ok (.iaload, 1) := dk_46 (dk_at dksX4_sessionAt_1 23 rfl rfl)
theorem dX4_sessionAt_47 : decode cX4_sessionAt 47 = .ok (.ireturn, 1) := dk_172 (dk_at dksX4_sessionAt_2 0 rfl rfl)
abbrev cX4_ranked : ByteArray := prog_10_method_34_code
def yX4_ranked : MethodName := ⟨RX4, "ranked", "(I)I"⟩
def dkwX4_ranked_5 : List UInt8 := [167, 255, 139, 2, 172]
abbrev dktX4_ranked_5 : List UInt8 := dkwX4_ranked_5 ++ []
def dkwX4_ranked_4 : List UInt8 := [4, 167, 0, 4, 3, 96, 62, 132, 4, 1, 167, 255, 167, 29, 27, 160, 0, 5, 28, 172, 132, 2, 1]
abbrev dktX4_ranked_4 : List UInt8 := dkwX4_ranked_4 ++ dktX4_ranked_5
def dkwX4_ranked_3 : List UInt8 := [42, 180, 0, 9, 42, 21, 4, 182, 0, 75, 46, 42, 180, 0, 9, 42, 28, 182, 0, 75, 46, 162, 0, 7]
abbrev dktX4_ranked_3 : List UInt8 := dkwX4_ranked_3 ++ dktX4_ranked_4
def dkwX4_ranked_2 : List UInt8 := [28, 182, 0, 75, 4, 96, 46, 54, 6, 29, 21, 5, 21, 6, 161, 0, 34, 21, 5, 21, 6, 160, 0, 31]
abbrev dktX4_ranked_2 : List UInt8 := dkwX4_ranked_2 ++ dktX4_ranked_3
def dkwX4_ranked_1 : List UInt8 := [46, 162, 0, 84, 42, 180, 0, 9, 42, 21, 4, 182, 0, 75, 4, 96, 46, 54, 5, 42, 180, 0, 9, 42]
abbrev dktX4_ranked_1 : List UInt8 := dkwX4_ranked_1 ++ dktX4_ranked_2
def dkwX4_ranked_0 : List UInt8 := [3, 61, 28, 42, 180, 0, 9, 5, 46, 162, 0, 113, 3, 62, 3, 54, 4, 21, 4, 42, 180, 0, 9, 5]
abbrev dktX4_ranked_0 : List UInt8 := dkwX4_ranked_0 ++ dktX4_ranked_1
theorem dksX4_ranked_0 : cX4_ranked.data.toList.drop 0 = dktX4_ranked_0 := by decide +kernel
theorem dksX4_ranked_1 : cX4_ranked.data.toList.drop 24 = dktX4_ranked_1 := dk_seg dksX4_ranked_0 24 rfl rfl
theorem dksX4_ranked_2 : cX4_ranked.data.toList.drop 48 = dktX4_ranked_2 := dk_seg dksX4_ranked_1 24 rfl rfl
theorem dksX4_ranked_3 : cX4_ranked.data.toList.drop 72 = dktX4_ranked_3 := dk_seg dksX4_ranked_2 24 rfl rfl
theorem dksX4_ranked_4 : cX4_ranked.data.toList.drop 96 = dktX4_ranked_4 := dk_seg dksX4_ranked_3 24 rfl rfl
theorem dksX4_ranked_5 : cX4_ranked.data.toList.drop 119 = dktX4_ranked_5 := dk_seg dksX4_ranked_4 23 rfl rfl
theorem dX4_ranked_0 : decode cX4_ranked 0 = .ok (.iconst 0, 1) := dk_3 (dk_at dksX4_ranked_0 0 rfl rfl)
theorem dX4_ranked_1 : decode cX4_ranked 1 = .ok (.istore_n 2, 1) := dk_61 (dk_at dksX4_ranked_0 1 rfl rfl)
theorem dX4_ranked_2 : decode cX4_ranked 2 = .ok (.iload_n 2, 1) := dk_28 (dk_at dksX4_ranked_0 2 rfl rfl)
theorem dX4_ranked_3 : decode cX4_ranked 3 = .ok (.aload_n 0, 1) := dk_42 (dk_at dksX4_ranked_0 3 rfl rfl)
theorem dX4_ranked_4 : decode cX4_ranked 4 = .ok (.getfield 9, 3) := dk_180 0 9 (dk_at dksX4_ranked_0 4 rfl rfl)
theorem dX4_ranked_7 : decode cX4_ranked 7 = .ok (.iconst 2, 1) := dk_5 (dk_at dksX4_ranked_0 7 rfl rfl)
theorem dX4_ranked_8 : decode cX4_ranked 8 = .ok (.iaload, 1) := dk_46 (dk_at dksX4_ranked_0 8 rfl rfl)
theorem dX4_ranked_9 : decode cX4_ranked 9 = .ok (.if_icmp .ge 113, 3) := dk_162 0 113 (dk_at dksX4_ranked_0 9 rfl rfl)
theorem dX4_ranked_12 : decode cX4_ranked 12 = .ok (.iconst 0, 1) := dk_3 (dk_at dksX4_ranked_0 12 rfl rfl)
theorem dX4_ranked_13 : decode cX4_ranked 13 = .ok (.istore_n 3, 1) := dk_62 (dk_at dksX4_ranked_0 13 rfl rfl)
theorem dX4_ranked_14 : decode cX4_ranked 14 = .ok (.iconst 0, 1) := dk_3 (dk_at dksX4_ranked_0 14 rfl rfl)
theorem dX4_ranked_15 : decode cX4_ranked 15 = .ok (.istore 4, 2) := dk_54 4 (dk_at dksX4_ranked_0 15 rfl rfl)
theorem dX4_ranked_17 : decode cX4_ranked 17 = .ok (.iload 4, 2) := dk_21 4 (dk_at dksX4_ranked_0 17 rfl rfl)
theorem dX4_ranked_19 : decode cX4_ranked 19 = .ok (.aload_n 0, 1) := dk_42 (dk_at dksX4_ranked_0 19 rfl rfl)
theorem dX4_ranked_20 : decode cX4_ranked 20 = .ok (.getfield 9, 3) := dk_180 0 9 (dk_at dksX4_ranked_0 20 rfl rfl)
theorem dX4_ranked_23 : decode cX4_ranked 23 = .ok (.iconst 2, 1) := dk_5 (dk_at dksX4_ranked_0 23 rfl rfl)
theorem dX4_ranked_24 : decode cX4_ranked 24 = .ok (.iaload, 1) := dk_46 (dk_at dksX4_ranked_1 0 rfl rfl)
theorem dX4_ranked_25 : decode cX4_ranked 25 = .ok (.if_icmp .ge 84, 3) := dk_162 0 84 (dk_at dksX4_ranked_1 1 rfl rfl)
theorem dX4_ranked_28 : decode cX4_ranked 28 = .ok (.aload_n 0, 1) := dk_42 (dk_at dksX4_ranked_1 4 rfl rfl)
theorem dX4_ranked_29 : decode cX4_ranked 29 = .ok (.getfield 9, 3) := dk_180 0 9 (dk_at dksX4_ranked_1 5 rfl rfl)
theorem dX4_ranked_32 : decode cX4_ranked 32 = .ok (.aload_n 0, 1) := dk_42 (dk_at dksX4_ranked_1 8 rfl rfl)
theorem dX4_ranked_33 : decode cX4_ranked 33 = .ok (.iload 4, 2) := dk_21 4 (dk_at dksX4_ranked_1 9 rfl rfl)
theorem dX4_ranked_35 : decode cX4_ranked 35 = .ok (.invokevirtual 75, 3) := dk_182 0 75 (dk_at dksX4_ranked_1 11 rfl rfl)
theorem dX4_ranked_38 : decode cX4_ranked 38 = .ok (.iconst 1, 1) := dk_4 (dk_at dksX4_ranked_1 14 rfl rfl)
theorem dX4_ranked_39 : decode cX4_ranked 39 = .ok (.iadd, 1) := dk_96 (dk_at dksX4_ranked_1 15 rfl rfl)
theorem dX4_ranked_40 : decode cX4_ranked 40 = .ok (.iaload, 1) := dk_46 (dk_at dksX4_ranked_1 16 rfl rfl)
theorem dX4_ranked_41 : decode cX4_ranked 41 = .ok (.istore 5, 2) := dk_54 5 (dk_at dksX4_ranked_1 17 rfl rfl)
theorem dX4_ranked_43 : decode cX4_ranked 43 = .ok (.aload_n 0, 1) := dk_42 (dk_at dksX4_ranked_1 19 rfl rfl)
theorem dX4_ranked_44 : decode cX4_ranked 44 = .ok (.getfield 9, 3) := dk_180 0 9 (dk_at dksX4_ranked_1 20 rfl rfl)
theorem dX4_ranked_47 : decode cX4_ranked 47 = .ok (.aload_n 0, 1) := dk_42 (dk_at dksX4_ranked_1 23 rfl rfl)
theorem dX4_ranked_48 : decode cX4_ranked 48 = .ok (.iload_n 2, 1) := dk_28 (dk_at dksX4_ranked_2 0 rfl rfl)
theorem dX4_ranked_49 : decode cX4_ranked 49 = .ok (.invokevirtual 75, 3) := dk_182 0 75 (dk_at dksX4_ranked_2 1 rfl rfl)
theorem dX4_ranked_52 : decode cX4_ranked 52 = .ok (.iconst 1, 1) := dk_4 (dk_at dksX4_ranked_2 4 rfl rfl)
theorem dX4_ranked_53 : decode cX4_ranked 53 = .ok (.iadd, 1) := dk_96 (dk_at dksX4_ranked_2 5 rfl rfl)
theorem dX4_ranked_54 : decode cX4_ranked 54 = .ok (.iaload, 1) := dk_46 (dk_at dksX4_ranked_2 6 rfl rfl)
theorem dX4_ranked_55 : decode cX4_ranked 55 = .ok (.istore 6, 2) := dk_54 6 (dk_at dksX4_ranked_2 7 rfl rfl)
theorem dX4_ranked_57 : decode cX4_ranked 57 = .ok (.iload_n 3, 1) := dk_29 (dk_at dksX4_ranked_2 9 rfl rfl)
theorem dX4_ranked_58 : decode cX4_ranked 58 = .ok (.iload 5, 2) := dk_21 5 (dk_at dksX4_ranked_2 10 rfl rfl)
theorem dX4_ranked_60 : decode cX4_ranked 60 = .ok (.iload 6, 2) := dk_21 6 (dk_at dksX4_ranked_2 12 rfl rfl)
theorem dX4_ranked_62 : decode cX4_ranked 62 = .ok (.if_icmp .lt 34, 3) := dk_161 0 34 (dk_at dksX4_ranked_2 14 rfl rfl)
theorem dX4_ranked_65 : decode cX4_ranked 65 = .ok (.iload 5, 2) := dk_21 5 (dk_at dksX4_ranked_2 17 rfl rfl)
theorem dX4_ranked_67 : decode cX4_ranked 67 = .ok (.iload 6, 2) := dk_21 6 (dk_at dksX4_ranked_2 19 rfl rfl)
theorem dX4_ranked_69 : decode cX4_ranked 69 = .ok (.if_icmp .ne 31, 3) := dk_160 0 31 (dk_at dksX4_ranked_2 21 rfl rfl)
theorem dX4_ranked_72 : decode cX4_ranked 72 = .ok (.aload_n 0, 1) := dk_42 (dk_at dksX4_ranked_3 0 rfl rfl)
theorem dX4_ranked_73 : decode cX4_ranked 73 = .ok (.getfield 9, 3) := dk_180 0 9 (dk_at dksX4_ranked_3 1 rfl rfl)
theorem dX4_ranked_76 : decode cX4_ranked 76 = .ok (.aload_n 0, 1) := dk_42 (dk_at dksX4_ranked_3 4 rfl rfl)
theorem dX4_ranked_77 : decode cX4_ranked 77 = .ok (.iload 4, 2) := dk_21 4 (dk_at dksX4_ranked_3 5 rfl rfl)
theorem dX4_ranked_79 : decode cX4_ranked 79 = .ok (.invokevirtual 75, 3) := dk_182 0 75 (dk_at dksX4_ranked_3 7 rfl rfl)
theorem dX4_ranked_82 : decode cX4_ranked 82 = .ok (.iaload, 1) := dk_46 (dk_at dksX4_ranked_3 10 rfl rfl)
theorem dX4_ranked_83 : decode cX4_ranked 83 = .ok (.aload_n 0, 1) := dk_42 (dk_at dksX4_ranked_3 11 rfl rfl)
theorem dX4_ranked_84 : decode cX4_ranked 84 = .ok (.getfield 9, 3) := dk_180 0 9 (dk_at dksX4_ranked_3 12 rfl rfl)
theorem dX4_ranked_87 : decode cX4_ranked 87 = .ok (.aload_n 0, 1) := dk_42 (dk_at dksX4_ranked_3 15 rfl rfl)
theorem dX4_ranked_88 : decode cX4_ranked 88 = .ok (.iload_n 2, 1) := dk_28 (dk_at dksX4_ranked_3 16 rfl rfl)
theorem dX4_ranked_89 : decode cX4_ranked 89 = .ok (.invokevirtual 75, 3) := dk_182 0 75 (dk_at dksX4_ranked_3 17 rfl rfl)
theorem dX4_ranked_92 : decode cX4_ranked 92 = .ok (.iaload, 1) := dk_46 (dk_at dksX4_ranked_3 20 rfl rfl)
theorem dX4_ranked_93 : decode cX4_ranked 93 = .ok (.if_icmp .ge 7, 3) := dk_162 0 7 (dk_at dksX4_ranked_3 21 rfl rfl)
theorem dX4_ranked_96 : decode cX4_ranked 96 = .ok (.iconst 1, 1) := dk_4 (dk_at dksX4_ranked_4 0 rfl rfl)
theorem dX4_ranked_97 : decode cX4_ranked 97 = .ok (.goto 4, 3) := dk_167 0 4 (dk_at dksX4_ranked_4 1 rfl rfl)
theorem dX4_ranked_100 : decode cX4_ranked 100 = .ok (.iconst 0, 1) := dk_3 (dk_at dksX4_ranked_4 4 rfl rfl)
theorem dX4_ranked_101 : decode cX4_ranked 101 = .ok (.iadd, 1) := dk_96 (dk_at dksX4_ranked_4 5 rfl rfl)
theorem dX4_ranked_102 : decode cX4_ranked 102 = .ok (.istore_n 3, 1) := dk_62 (dk_at dksX4_ranked_4 6 rfl rfl)
theorem dX4_ranked_103 : decode cX4_ranked 103 = .ok (.iinc 4 1, 3) := dk_132 4 1 (dk_at dksX4_ranked_4 7 rfl rfl)
theorem dX4_ranked_106 : decode cX4_ranked 106 = .ok (.goto (-89), 3) := dk_167 255 167 (dk_at dksX4_ranked_4 10 rfl rfl)
theorem dX4_ranked_109 : decode cX4_ranked 109 = .ok (.iload_n 3, 1) := dk_29 (dk_at dksX4_ranked_4 13 rfl rfl)
theorem dX4_ranked_110 : decode cX4_ranked 110 = .ok (.iload_n 1, 1) := dk_27 (dk_at dksX4_ranked_4 14 rfl rfl)
theorem dX4_ranked_111 : decode cX4_ranked 111 = .ok (.if_icmp .ne 5, 3) := dk_160 0 5 (dk_at dksX4_ranked_4 15 rfl rfl)
theorem dX4_ranked_114 : decode cX4_ranked 114 = .ok (.iload_n 2, 1) := dk_28 (dk_at dksX4_ranked_4 18 rfl rfl)
theorem dX4_ranked_115 : decode cX4_ranked 115 = .ok (.ireturn, 1) := dk_172 (dk_at dksX4_ranked_4 19 rfl rfl)
theorem dX4_ranked_116 : decode cX4_ranked 116 = .ok (.iinc 2 1, 3) := dk_132 2 1 (dk_at dksX4_ranked_4 20 rfl rfl)
theorem dX4_ranked_119 : decode cX4_ranked 119 = .ok (.goto (-117), 3) := dk_167 255 139 (dk_at dksX4_ranked_5 0 rfl rfl)
theorem dX4_ranked_122 : decode cX4_ranked 122 = .ok (.iconst (-1), 1) := dk_2 (dk_at dksX4_ranked_5 3 rfl rfl)
theorem dX4_ranked_123 : decode cX4_ranked 123 = .ok (.ireturn, 1) := dk_172 (dk_at dksX4_ranked_5 4 rfl rfl)
abbrev cX4_dayOf : ByteArray := prog_10_method_36_code
def yX4_dayOf : MethodName := ⟨RX4, "dayOf", "(I)I"⟩
def dkwX4_dayOf_1 : List UInt8 := [182, 0, 75, 4, 96, 46, 172]
abbrev dktX4_dayOf_1 : List UInt8 := dkwX4_dayOf_1 ++ []
def dkwX4_dayOf_0 : List UInt8 := [42, 27, 182, 0, 90, 153, 0, 7, 3, 167, 0, 19, 42, 180, 0, 9, 42, 42, 27, 182, 0, 84]
abbrev dktX4_dayOf_0 : List UInt8 := dkwX4_dayOf_0 ++ dktX4_dayOf_1
theorem dksX4_dayOf_0 : cX4_dayOf.data.toList.drop 0 = dktX4_dayOf_0 := by decide +kernel
theorem dksX4_dayOf_1 : cX4_dayOf.data.toList.drop 22 = dktX4_dayOf_1 := dk_seg dksX4_dayOf_0 22 rfl rfl
theorem dX4_dayOf_0 : decode cX4_dayOf 0 = .ok (.aload_n 0, 1) := dk_42 (dk_at dksX4_dayOf_0 0 rfl rfl)
theorem dX4_dayOf_1 : decode cX4_dayOf 1 = .ok (.iload_n 1, 1) := dk_27 (dk_at dksX4_dayOf_0 1 rfl rfl)
theorem dX4_dayOf_2 : decode cX4_dayOf 2 = .ok (.invokevirtual 90, 3) := dk_182 0 90 (dk_at dksX4_dayOf_0 2 rfl rfl)
theorem dX4_dayOf_5 : decode cX4_dayOf 5 = .ok (.ifCond .eq 7, 3) := dk_153 0 7 (dk_at dksX4_dayOf_0 5 rfl rfl)
theorem dX4_dayOf_8 : decode cX4_dayOf 8 = .ok (.iconst 0, 1) := dk_3 (dk_at dksX4_dayOf_0 8 rfl rfl)
theorem dX4_dayOf_9 : decode cX4_dayOf 9 = .ok (.goto 19, 3) := dk_167 0 19 (dk_at dksX4_dayOf_0 9 rfl rfl)
theorem dX4_dayOf_12 : decode cX4_dayOf 12 = .ok (.aload_n 0, 1) := dk_42 (dk_at dksX4_dayOf_0 12 rfl rfl)
theorem dX4_dayOf_13 : decode cX4_dayOf 13 = .ok (.getfield 9, 3) := dk_180 0 9 (dk_at dksX4_dayOf_0 13 rfl rfl)
theorem dX4_dayOf_16 : decode cX4_dayOf 16 = .ok (.aload_n 0, 1) := dk_42 (dk_at dksX4_dayOf_0 16 rfl rfl)
theorem dX4_dayOf_17 : decode cX4_dayOf 17 = .ok (.aload_n 0, 1) := dk_42 (dk_at dksX4_dayOf_0 17 rfl rfl)
theorem dX4_dayOf_18 : decode cX4_dayOf 18 = .ok (.iload_n 1, 1) := dk_27 (dk_at dksX4_dayOf_0 18 rfl rfl)
theorem dX4_dayOf_19 : decode cX4_dayOf 19 = .ok (.invokevirtual 84, 3) := dk_182 0 84 (dk_at dksX4_dayOf_0 19 rfl rfl)
theorem dX4_dayOf_22 : decode cX4_dayOf 22 = .ok (.invokevirtual 75, 3) := dk_182 0 75 (dk_at dksX4_dayOf_1 0 rfl rfl)
theorem dX4_dayOf_25 : decode cX4_dayOf 25 = .ok (.iconst 1, 1) := dk_4 (dk_at dksX4_dayOf_1 3 rfl rfl)
theorem dX4_dayOf_26 : decode cX4_dayOf 26 = .ok (.iadd, 1) := dk_96 (dk_at dksX4_dayOf_1 4 rfl rfl)
theorem dX4_dayOf_27 : decode cX4_dayOf 27 = .ok (.iaload, 1) := dk_46 (dk_at dksX4_dayOf_1 5 rfl rfl)
theorem dX4_dayOf_28 : decode cX4_dayOf 28 = .ok (.ireturn, 1) := dk_172 (dk_at dksX4_dayOf_1 6 rfl rfl)
abbrev cX4_minutesOf : ByteArray := prog_10_method_37_code
def yX4_minutesOf : MethodName := ⟨RX4, "minutesOf", "(I)I"⟩
def dkwX4_minutesOf_0 : List UInt8 := [42, 27, 182, 0, 90, 153, 0, 7, 3, 167, 0, 12, 42, 42, 27, 182, 0, 84, 182, 0, 87, 172]
abbrev dktX4_minutesOf_0 : List UInt8 := dkwX4_minutesOf_0 ++ []
theorem dksX4_minutesOf_0 : cX4_minutesOf.data.toList.drop 0 = dktX4_minutesOf_0 := by decide +kernel
theorem dX4_minutesOf_0 : decode cX4_minutesOf 0 = .ok (.aload_n 0, 1) := dk_42 (dk_at dksX4_minutesOf_0 0 rfl rfl)
theorem dX4_minutesOf_1 : decode cX4_minutesOf 1 = .ok (.iload_n 1, 1) := dk_27 (dk_at dksX4_minutesOf_0 1 rfl rfl)
theorem dX4_minutesOf_2 : decode cX4_minutesOf 2 = .ok (.invokevirtual 90, 3) := dk_182 0 90 (dk_at dksX4_minutesOf_0 2 rfl rfl)
theorem dX4_minutesOf_5 : decode cX4_minutesOf 5 = .ok (.ifCond .eq 7, 3) := dk_153 0 7 (dk_at dksX4_minutesOf_0 5 rfl rfl)
theorem dX4_minutesOf_8 : decode cX4_minutesOf 8 = .ok (.iconst 0, 1) := dk_3 (dk_at dksX4_minutesOf_0 8 rfl rfl)
theorem dX4_minutesOf_9 : decode cX4_minutesOf 9 = .ok (.goto 12, 3) := dk_167 0 12 (dk_at dksX4_minutesOf_0 9 rfl rfl)
theorem dX4_minutesOf_12 : decode cX4_minutesOf 12 = .ok (.aload_n 0, 1) := dk_42 (dk_at dksX4_minutesOf_0 12 rfl rfl)
theorem dX4_minutesOf_13 : decode cX4_minutesOf 13 = .ok (.aload_n 0, 1) := dk_42 (dk_at dksX4_minutesOf_0 13 rfl rfl)
theorem dX4_minutesOf_14 : decode cX4_minutesOf 14 = .ok (.iload_n 1, 1) := dk_27 (dk_at dksX4_minutesOf_0 14 rfl rfl)
theorem dX4_minutesOf_15 : decode cX4_minutesOf 15 = .ok (.invokevirtual 84, 3) := dk_182 0 84 (dk_at dksX4_minutesOf_0 15 rfl rfl)
theorem dX4_minutesOf_18 : decode cX4_minutesOf 18 = .ok (.invokevirtual 87, 3) := dk_182 0 87 (dk_at dksX4_minutesOf_0 18 rfl rfl)
theorem dX4_minutesOf_21 : decode cX4_minutesOf 21 = .ok (.ireturn, 1) := dk_172 (dk_at dksX4_minutesOf_0 21 rfl rfl)
abbrev cX4_minutesInZone : ByteArray := prog_10_method_38_code
def yX4_minutesInZone : MethodName := ⟨RX4, "minutesInZone", "(II)I"⟩
def dkwX4_minutesInZone_2 : List UInt8 := [180, 0, 24, 28, 46, 172]
abbrev dktX4_minutesInZone_2 : List UInt8 := dkwX4_minutesInZone_2 ++ []
def dkwX4_minutesInZone_1 : List UInt8 := [182, 0, 51, 153, 0, 5, 3, 172, 42, 182, 0, 78, 42, 42, 27, 182, 0, 84, 182, 0, 81, 42]
abbrev dktX4_minutesInZone_1 : List UInt8 := dkwX4_minutesInZone_1 ++ dktX4_minutesInZone_2
def dkwX4_minutesInZone_0 : List UInt8 := [42, 27, 182, 0, 90, 154, 0, 25, 42, 28, 4, 8, 184, 0, 47, 154, 0, 7, 4, 167, 0, 4, 3, 5]
abbrev dktX4_minutesInZone_0 : List UInt8 := dkwX4_minutesInZone_0 ++ dktX4_minutesInZone_1
theorem dksX4_minutesInZone_0 : cX4_minutesInZone.data.toList.drop 0 = dktX4_minutesInZone_0 := by decide +kernel
theorem dksX4_minutesInZone_1 : cX4_minutesInZone.data.toList.drop 24 = dktX4_minutesInZone_1 := dk_seg dksX4_minutesInZone_0 24 rfl rfl
theorem dksX4_minutesInZone_2 : cX4_minutesInZone.data.toList.drop 46 = dktX4_minutesInZone_2 := dk_seg dksX4_minutesInZone_1 22 rfl rfl
theorem dX4_minutesInZone_0 : decode cX4_minutesInZone 0 = .ok (.aload_n 0, 1) := dk_42 (dk_at dksX4_minutesInZone_0 0 rfl rfl)
theorem dX4_minutesInZone_1 : decode cX4_minutesInZone 1 = .ok (.iload_n 1, 1) := dk_27 (dk_at dksX4_minutesInZone_0 1 rfl rfl)
theorem dX4_minutesInZone_2 : decode cX4_minutesInZone 2 = .ok (.invokevirtual 90, 3) := dk_182 0 90 (dk_at dksX4_minutesInZone_0 2 rfl rfl)
theorem dX4_minutesInZone_5 : decode cX4_minutesInZone 5 = .ok (.ifCond .ne 25, 3) := dk_154 0 25 (dk_at dksX4_minutesInZone_0 5 rfl rfl)
theorem dX4_minutesInZone_8 : decode cX4_minutesInZone 8 = .ok (.aload_n 0, 1) := dk_42 (dk_at dksX4_minutesInZone_0 8 rfl rfl)
theorem dX4_minutesInZone_9 : decode cX4_minutesInZone 9 = .ok (.iload_n 2, 1) := dk_28 (dk_at dksX4_minutesInZone_0 9 rfl rfl)
theorem dX4_minutesInZone_10 : decode cX4_minutesInZone 10 = .ok (.iconst 1, 1) := dk_4 (dk_at dksX4_minutesInZone_0 10 rfl rfl)
theorem dX4_minutesInZone_11 : decode cX4_minutesInZone 11 = .ok (.iconst 5, 1) := dk_8 (dk_at dksX4_minutesInZone_0 11 rfl rfl)
theorem dX4_minutesInZone_12 : decode cX4_minutesInZone 12 = .ok (.invokestatic 47, 3) := dk_184 0 47 (dk_at dksX4_minutesInZone_0 12 rfl rfl)
theorem dX4_minutesInZone_15 : decode cX4_minutesInZone 15 = .ok (.ifCond .ne 7, 3) := dk_154 0 7 (dk_at dksX4_minutesInZone_0 15 rfl rfl)
theorem dX4_minutesInZone_18 : decode cX4_minutesInZone 18 = .ok (.iconst 1, 1) := dk_4 (dk_at dksX4_minutesInZone_0 18 rfl rfl)
theorem dX4_minutesInZone_19 : decode cX4_minutesInZone 19 = .ok (.goto 4, 3) := dk_167 0 4 (dk_at dksX4_minutesInZone_0 19 rfl rfl)
theorem dX4_minutesInZone_22 : decode cX4_minutesInZone 22 = .ok (.iconst 0, 1) := dk_3 (dk_at dksX4_minutesInZone_0 22 rfl rfl)
theorem dX4_minutesInZone_23 : decode cX4_minutesInZone 23 = .ok (.iconst 2, 1) := dk_5 (dk_at dksX4_minutesInZone_0 23 rfl rfl)
theorem dX4_minutesInZone_24 : decode cX4_minutesInZone 24 = .ok (.invokevirtual 51, 3) := dk_182 0 51 (dk_at dksX4_minutesInZone_1 0 rfl rfl)
theorem dX4_minutesInZone_27 : decode cX4_minutesInZone 27 = .ok (.ifCond .eq 5, 3) := dk_153 0 5 (dk_at dksX4_minutesInZone_1 3 rfl rfl)
theorem dX4_minutesInZone_30 : decode cX4_minutesInZone 30 = .ok (.iconst 0, 1) := dk_3 (dk_at dksX4_minutesInZone_1 6 rfl rfl)
theorem dX4_minutesInZone_31 : decode cX4_minutesInZone 31 = .ok (.ireturn, 1) := dk_172 (dk_at dksX4_minutesInZone_1 7 rfl rfl)
theorem dX4_minutesInZone_32 : decode cX4_minutesInZone 32 = .ok (.aload_n 0, 1) := dk_42 (dk_at dksX4_minutesInZone_1 8 rfl rfl)
theorem dX4_minutesInZone_33 : decode cX4_minutesInZone 33 = .ok (.invokevirtual 78, 3) := dk_182 0 78 (dk_at dksX4_minutesInZone_1 9 rfl rfl)
theorem dX4_minutesInZone_36 : decode cX4_minutesInZone 36 = .ok (.aload_n 0, 1) := dk_42 (dk_at dksX4_minutesInZone_1 12 rfl rfl)
theorem dX4_minutesInZone_37 : decode cX4_minutesInZone 37 = .ok (.aload_n 0, 1) := dk_42 (dk_at dksX4_minutesInZone_1 13 rfl rfl)
theorem dX4_minutesInZone_38 : decode cX4_minutesInZone 38 = .ok (.iload_n 1, 1) := dk_27 (dk_at dksX4_minutesInZone_1 14 rfl rfl)
theorem dX4_minutesInZone_39 : decode cX4_minutesInZone 39 = .ok (.invokevirtual 84, 3) := dk_182 0 84 (dk_at dksX4_minutesInZone_1 15 rfl rfl)
theorem dX4_minutesInZone_42 : decode cX4_minutesInZone 42 = .ok (.invokevirtual 81, 3) := dk_182 0 81 (dk_at dksX4_minutesInZone_1 18 rfl rfl)
theorem dX4_minutesInZone_45 : decode cX4_minutesInZone 45 = .ok (.aload_n 0, 1) := dk_42 (dk_at dksX4_minutesInZone_1 21 rfl rfl)
theorem dX4_minutesInZone_46 : decode cX4_minutesInZone 46 = .ok (.getfield 24, 3) := dk_180 0 24 (dk_at dksX4_minutesInZone_2 0 rfl rfl)
theorem dX4_minutesInZone_49 : decode cX4_minutesInZone 49 = .ok (.iload_n 2, 1) := dk_28 (dk_at dksX4_minutesInZone_2 3 rfl rfl)
theorem dX4_minutesInZone_50 : decode cX4_minutesInZone 50 = .ok (.iaload, 1) := dk_46 (dk_at dksX4_minutesInZone_2 4 rfl rfl)
theorem dX4_minutesInZone_51 : decode cX4_minutesInZone 51 = .ok (.ireturn, 1) := dk_172 (dk_at dksX4_minutesInZone_2 5 rfl rfl)
abbrev cX4_loadOf : ByteArray := prog_10_method_39_code
def yX4_loadOf : MethodName := ⟨RX4, "loadOf", "(I)I"⟩
def dkwX4_loadOf_0 : List UInt8 := [42, 27, 182, 0, 90, 153, 0, 7, 3, 167, 0, 12, 42, 42, 27, 182, 0, 84, 182, 0, 66, 172]
abbrev dktX4_loadOf_0 : List UInt8 := dkwX4_loadOf_0 ++ []
theorem dksX4_loadOf_0 : cX4_loadOf.data.toList.drop 0 = dktX4_loadOf_0 := by decide +kernel
theorem dX4_loadOf_0 : decode cX4_loadOf 0 = .ok (.aload_n 0, 1) := dk_42 (dk_at dksX4_loadOf_0 0 rfl rfl)
theorem dX4_loadOf_1 : decode cX4_loadOf 1 = .ok (.iload_n 1, 1) := dk_27 (dk_at dksX4_loadOf_0 1 rfl rfl)
theorem dX4_loadOf_2 : decode cX4_loadOf 2 = .ok (.invokevirtual 90, 3) := dk_182 0 90 (dk_at dksX4_loadOf_0 2 rfl rfl)
theorem dX4_loadOf_5 : decode cX4_loadOf 5 = .ok (.ifCond .eq 7, 3) := dk_153 0 7 (dk_at dksX4_loadOf_0 5 rfl rfl)
theorem dX4_loadOf_8 : decode cX4_loadOf 8 = .ok (.iconst 0, 1) := dk_3 (dk_at dksX4_loadOf_0 8 rfl rfl)
theorem dX4_loadOf_9 : decode cX4_loadOf 9 = .ok (.goto 12, 3) := dk_167 0 12 (dk_at dksX4_loadOf_0 9 rfl rfl)
theorem dX4_loadOf_12 : decode cX4_loadOf 12 = .ok (.aload_n 0, 1) := dk_42 (dk_at dksX4_loadOf_0 12 rfl rfl)
theorem dX4_loadOf_13 : decode cX4_loadOf 13 = .ok (.aload_n 0, 1) := dk_42 (dk_at dksX4_loadOf_0 13 rfl rfl)
theorem dX4_loadOf_14 : decode cX4_loadOf 14 = .ok (.iload_n 1, 1) := dk_27 (dk_at dksX4_loadOf_0 14 rfl rfl)
theorem dX4_loadOf_15 : decode cX4_loadOf 15 = .ok (.invokevirtual 84, 3) := dk_182 0 84 (dk_at dksX4_loadOf_0 15 rfl rfl)
theorem dX4_loadOf_18 : decode cX4_loadOf 18 = .ok (.invokevirtual 66, 3) := dk_182 0 66 (dk_at dksX4_loadOf_0 18 rfl rfl)
theorem dX4_loadOf_21 : decode cX4_loadOf 21 = .ok (.ireturn, 1) := dk_172 (dk_at dksX4_loadOf_0 21 rfl rfl)
abbrev cX4_loadOn : ByteArray := prog_10_method_41_code
def yX4_loadOn : MethodName := ⟨RX4, "loadOn", "(I)I"⟩
def dkwX4_loadOn_1 : List UInt8 := [180, 0, 21, 27, 46, 172]
abbrev dktX4_loadOn_1 : List UInt8 := dkwX4_loadOn_1 ++ []
def dkwX4_loadOn_0 : List UInt8 := [42, 182, 0, 96, 42, 42, 27, 182, 0, 58, 4, 182, 0, 51, 153, 0, 7, 3, 167, 0, 9, 42]
abbrev dktX4_loadOn_0 : List UInt8 := dkwX4_loadOn_0 ++ dktX4_loadOn_1
theorem dksX4_loadOn_0 : cX4_loadOn.data.toList.drop 0 = dktX4_loadOn_0 := by decide +kernel
theorem dksX4_loadOn_1 : cX4_loadOn.data.toList.drop 22 = dktX4_loadOn_1 := dk_seg dksX4_loadOn_0 22 rfl rfl
theorem dX4_loadOn_0 : decode cX4_loadOn 0 = .ok (.aload_n 0, 1) := dk_42 (dk_at dksX4_loadOn_0 0 rfl rfl)
theorem dX4_loadOn_1 : decode cX4_loadOn 1 = .ok (.invokevirtual 96, 3) := dk_182 0 96 (dk_at dksX4_loadOn_0 1 rfl rfl)
theorem dX4_loadOn_4 : decode cX4_loadOn 4 = .ok (.aload_n 0, 1) := dk_42 (dk_at dksX4_loadOn_0 4 rfl rfl)
theorem dX4_loadOn_5 : decode cX4_loadOn 5 = .ok (.aload_n 0, 1) := dk_42 (dk_at dksX4_loadOn_0 5 rfl rfl)
theorem dX4_loadOn_6 : decode cX4_loadOn 6 = .ok (.iload_n 1, 1) := dk_27 (dk_at dksX4_loadOn_0 6 rfl rfl)
theorem dX4_loadOn_7 : decode cX4_loadOn 7 = .ok (.invokevirtual 58, 3) := dk_182 0 58 (dk_at dksX4_loadOn_0 7 rfl rfl)
theorem dX4_loadOn_10 : decode cX4_loadOn 10 = .ok (.iconst 1, 1) := dk_4 (dk_at dksX4_loadOn_0 10 rfl rfl)
theorem dX4_loadOn_11 : decode cX4_loadOn 11 = .ok (.invokevirtual 51, 3) := dk_182 0 51 (dk_at dksX4_loadOn_0 11 rfl rfl)
theorem dX4_loadOn_14 : decode cX4_loadOn 14 = .ok (.ifCond .eq 7, 3) := dk_153 0 7 (dk_at dksX4_loadOn_0 14 rfl rfl)
theorem dX4_loadOn_17 : decode cX4_loadOn 17 = .ok (.iconst 0, 1) := dk_3 (dk_at dksX4_loadOn_0 17 rfl rfl)
theorem dX4_loadOn_18 : decode cX4_loadOn 18 = .ok (.goto 9, 3) := dk_167 0 9 (dk_at dksX4_loadOn_0 18 rfl rfl)
theorem dX4_loadOn_21 : decode cX4_loadOn 21 = .ok (.aload_n 0, 1) := dk_42 (dk_at dksX4_loadOn_0 21 rfl rfl)
theorem dX4_loadOn_22 : decode cX4_loadOn 22 = .ok (.getfield 21, 3) := dk_180 0 21 (dk_at dksX4_loadOn_1 0 rfl rfl)
theorem dX4_loadOn_25 : decode cX4_loadOn 25 = .ok (.iload_n 1, 1) := dk_27 (dk_at dksX4_loadOn_1 3 rfl rfl)
theorem dX4_loadOn_26 : decode cX4_loadOn 26 = .ok (.iaload, 1) := dk_46 (dk_at dksX4_loadOn_1 4 rfl rfl)
theorem dX4_loadOn_27 : decode cX4_loadOn 27 = .ok (.ireturn, 1) := dk_172 (dk_at dksX4_loadOn_1 5 rfl rfl)
abbrev cX4_loads : ByteArray := prog_10_method_40_code
def yX4_loads : MethodName := ⟨RX4, "loads", "()V"⟩
def dkwX4_loads_2 : List UInt8 := [96, 46, 92, 46, 42, 27, 182, 0, 66, 96, 79, 132, 1, 1, 167, 255, 218, 177]
abbrev dktX4_loads_2 : List UInt8 := dkwX4_loads_2 ++ []
def dkwX4_loads_1 : List UInt8 := [27, 42, 180, 0, 9, 5, 46, 162, 0, 34, 42, 180, 0, 21, 42, 180, 0, 9, 42, 27, 182, 0, 75, 4]
abbrev dktX4_loads_1 : List UInt8 := dkwX4_loads_1 ++ dktX4_loads_2
def dkwX4_loads_0 : List UInt8 := [3, 60, 27, 17, 0, 199, 163, 0, 16, 42, 180, 0, 21, 27, 3, 79, 132, 1, 1, 167, 255, 239, 3, 60]
abbrev dktX4_loads_0 : List UInt8 := dkwX4_loads_0 ++ dktX4_loads_1
theorem dksX4_loads_0 : cX4_loads.data.toList.drop 0 = dktX4_loads_0 := by decide +kernel
theorem dksX4_loads_1 : cX4_loads.data.toList.drop 24 = dktX4_loads_1 := dk_seg dksX4_loads_0 24 rfl rfl
theorem dksX4_loads_2 : cX4_loads.data.toList.drop 48 = dktX4_loads_2 := dk_seg dksX4_loads_1 24 rfl rfl
theorem dX4_loads_0 : decode cX4_loads 0 = .ok (.iconst 0, 1) := dk_3 (dk_at dksX4_loads_0 0 rfl rfl)
theorem dX4_loads_1 : decode cX4_loads 1 = .ok (.istore_n 1, 1) := dk_60 (dk_at dksX4_loads_0 1 rfl rfl)
theorem dX4_loads_2 : decode cX4_loads 2 = .ok (.iload_n 1, 1) := dk_27 (dk_at dksX4_loads_0 2 rfl rfl)
theorem dX4_loads_3 : decode cX4_loads 3 = .ok (.sipush 199, 3) := dk_17 0 199 (dk_at dksX4_loads_0 3 rfl rfl)
theorem dX4_loads_6 : decode cX4_loads 6 = .ok (.if_icmp .gt 16, 3) := dk_163 0 16 (dk_at dksX4_loads_0 6 rfl rfl)
theorem dX4_loads_9 : decode cX4_loads 9 = .ok (.aload_n 0, 1) := dk_42 (dk_at dksX4_loads_0 9 rfl rfl)
theorem dX4_loads_10 : decode cX4_loads 10 = .ok (.getfield 21, 3) := dk_180 0 21 (dk_at dksX4_loads_0 10 rfl rfl)
theorem dX4_loads_13 : decode cX4_loads 13 = .ok (.iload_n 1, 1) := dk_27 (dk_at dksX4_loads_0 13 rfl rfl)
theorem dX4_loads_14 : decode cX4_loads 14 = .ok (.iconst 0, 1) := dk_3 (dk_at dksX4_loads_0 14 rfl rfl)
theorem dX4_loads_15 : decode cX4_loads 15 = .ok (.iastore, 1) := dk_79 (dk_at dksX4_loads_0 15 rfl rfl)
theorem dX4_loads_16 : decode cX4_loads 16 = .ok (.iinc 1 1, 3) := dk_132 1 1 (dk_at dksX4_loads_0 16 rfl rfl)
theorem dX4_loads_19 : decode cX4_loads 19 = .ok (.goto (-17), 3) := dk_167 255 239 (dk_at dksX4_loads_0 19 rfl rfl)
theorem dX4_loads_22 : decode cX4_loads 22 = .ok (.iconst 0, 1) := dk_3 (dk_at dksX4_loads_0 22 rfl rfl)
theorem dX4_loads_23 : decode cX4_loads 23 = .ok (.istore_n 1, 1) := dk_60 (dk_at dksX4_loads_0 23 rfl rfl)
theorem dX4_loads_24 : decode cX4_loads 24 = .ok (.iload_n 1, 1) := dk_27 (dk_at dksX4_loads_1 0 rfl rfl)
theorem dX4_loads_25 : decode cX4_loads 25 = .ok (.aload_n 0, 1) := dk_42 (dk_at dksX4_loads_1 1 rfl rfl)
theorem dX4_loads_26 : decode cX4_loads 26 = .ok (.getfield 9, 3) := dk_180 0 9 (dk_at dksX4_loads_1 2 rfl rfl)
theorem dX4_loads_29 : decode cX4_loads 29 = .ok (.iconst 2, 1) := dk_5 (dk_at dksX4_loads_1 5 rfl rfl)
theorem dX4_loads_30 : decode cX4_loads 30 = .ok (.iaload, 1) := dk_46 (dk_at dksX4_loads_1 6 rfl rfl)
theorem dX4_loads_31 : decode cX4_loads 31 = .ok (.if_icmp .ge 34, 3) := dk_162 0 34 (dk_at dksX4_loads_1 7 rfl rfl)
theorem dX4_loads_34 : decode cX4_loads 34 = .ok (.aload_n 0, 1) := dk_42 (dk_at dksX4_loads_1 10 rfl rfl)
theorem dX4_loads_35 : decode cX4_loads 35 = .ok (.getfield 21, 3) := dk_180 0 21 (dk_at dksX4_loads_1 11 rfl rfl)
theorem dX4_loads_38 : decode cX4_loads 38 = .ok (.aload_n 0, 1) := dk_42 (dk_at dksX4_loads_1 14 rfl rfl)
theorem dX4_loads_39 : decode cX4_loads 39 = .ok (.getfield 9, 3) := dk_180 0 9 (dk_at dksX4_loads_1 15 rfl rfl)
theorem dX4_loads_42 : decode cX4_loads 42 = .ok (.aload_n 0, 1) := dk_42 (dk_at dksX4_loads_1 18 rfl rfl)
theorem dX4_loads_43 : decode cX4_loads 43 = .ok (.iload_n 1, 1) := dk_27 (dk_at dksX4_loads_1 19 rfl rfl)
theorem dX4_loads_44 : decode cX4_loads 44 = .ok (.invokevirtual 75, 3) := dk_182 0 75 (dk_at dksX4_loads_1 20 rfl rfl)
theorem dX4_loads_47 : decode cX4_loads 47 = .ok (.iconst 1, 1) := dk_4 (dk_at dksX4_loads_1 23 rfl rfl)
theorem dX4_loads_48 : decode cX4_loads 48 = .ok (.iadd, 1) := dk_96 (dk_at dksX4_loads_2 0 rfl rfl)
theorem dX4_loads_49 : decode cX4_loads 49 = .ok (.iaload, 1) := dk_46 (dk_at dksX4_loads_2 1 rfl rfl)
theorem dX4_loads_50 : decode cX4_loads 50 = .ok (.dup2, 1) := dk_92 (dk_at dksX4_loads_2 2 rfl rfl)
theorem dX4_loads_51 : decode cX4_loads 51 = .ok (.iaload, 1) := dk_46 (dk_at dksX4_loads_2 3 rfl rfl)
theorem dX4_loads_52 : decode cX4_loads 52 = .ok (.aload_n 0, 1) := dk_42 (dk_at dksX4_loads_2 4 rfl rfl)
theorem dX4_loads_53 : decode cX4_loads 53 = .ok (.iload_n 1, 1) := dk_27 (dk_at dksX4_loads_2 5 rfl rfl)
theorem dX4_loads_54 : decode cX4_loads 54 = .ok (.invokevirtual 66, 3) := dk_182 0 66 (dk_at dksX4_loads_2 6 rfl rfl)
theorem dX4_loads_57 : decode cX4_loads 57 = .ok (.iadd, 1) := dk_96 (dk_at dksX4_loads_2 9 rfl rfl)
theorem dX4_loads_58 : decode cX4_loads 58 = .ok (.iastore, 1) := dk_79 (dk_at dksX4_loads_2 10 rfl rfl)
theorem dX4_loads_59 : decode cX4_loads 59 = .ok (.iinc 1 1, 3) := dk_132 1 1 (dk_at dksX4_loads_2 11 rfl rfl)
theorem dX4_loads_62 : decode cX4_loads 62 = .ok (.goto (-38), 3) := dk_167 255 218 (dk_at dksX4_loads_2 14 rfl rfl)
theorem dX4_loads_65 : decode cX4_loads 65 = .ok (.return_, 1) := dk_177 (dk_at dksX4_loads_2 17 rfl rfl)
abbrev cX4_zoneShare : ByteArray := prog_10_method_42_code
def yX4_zoneShare : MethodName := ⟨RX4, "zoneShare", "(I)F"⟩
def dkwX4_zoneShare_3 : List UInt8 := [182, 0, 51, 153, 0, 7, 11, 167, 0, 13, 42, 180, 0, 24, 27, 46, 134, 28, 134, 110, 174]
abbrev dktX4_zoneShare_3 : List UInt8 := dkwX4_zoneShare_3 ++ []
def dkwX4_zoneShare_2 : List UInt8 := [167, 0, 4, 3, 4, 182, 0, 51, 154, 0, 20, 42, 28, 154, 0, 7, 4, 167, 0, 4, 3, 5]
abbrev dktX4_zoneShare_2 : List UInt8 := dkwX4_zoneShare_2 ++ dktX4_zoneShare_3
def dkwX4_zoneShare_1 : List UInt8 := [42, 29, 182, 0, 87, 96, 61, 132, 3, 1, 167, 255, 230, 42, 27, 4, 8, 184, 0, 47, 154, 0, 7, 4]
abbrev dktX4_zoneShare_1 : List UInt8 := dkwX4_zoneShare_1 ++ dktX4_zoneShare_2
def dkwX4_zoneShare_0 : List UInt8 := [42, 182, 0, 78, 3, 61, 3, 62, 29, 42, 180, 0, 9, 5, 46, 162, 0, 22, 42, 29, 182, 0, 81, 28]
abbrev dktX4_zoneShare_0 : List UInt8 := dkwX4_zoneShare_0 ++ dktX4_zoneShare_1
theorem dksX4_zoneShare_0 : cX4_zoneShare.data.toList.drop 0 = dktX4_zoneShare_0 := by decide +kernel
theorem dksX4_zoneShare_1 : cX4_zoneShare.data.toList.drop 24 = dktX4_zoneShare_1 := dk_seg dksX4_zoneShare_0 24 rfl rfl
theorem dksX4_zoneShare_2 : cX4_zoneShare.data.toList.drop 48 = dktX4_zoneShare_2 := dk_seg dksX4_zoneShare_1 24 rfl rfl
theorem dksX4_zoneShare_3 : cX4_zoneShare.data.toList.drop 70 = dktX4_zoneShare_3 := dk_seg dksX4_zoneShare_2 22 rfl rfl
theorem dX4_zoneShare_0 : decode cX4_zoneShare 0 = .ok (.aload_n 0, 1) := dk_42 (dk_at dksX4_zoneShare_0 0 rfl rfl)
theorem dX4_zoneShare_1 : decode cX4_zoneShare 1 = .ok (.invokevirtual 78, 3) := dk_182 0 78 (dk_at dksX4_zoneShare_0 1 rfl rfl)
theorem dX4_zoneShare_4 : decode cX4_zoneShare 4 = .ok (.iconst 0, 1) := dk_3 (dk_at dksX4_zoneShare_0 4 rfl rfl)
theorem dX4_zoneShare_5 : decode cX4_zoneShare 5 = .ok (.istore_n 2, 1) := dk_61 (dk_at dksX4_zoneShare_0 5 rfl rfl)
theorem dX4_zoneShare_6 : decode cX4_zoneShare 6 = .ok (.iconst 0, 1) := dk_3 (dk_at dksX4_zoneShare_0 6 rfl rfl)
theorem dX4_zoneShare_7 : decode cX4_zoneShare 7 = .ok (.istore_n 3, 1) := dk_62 (dk_at dksX4_zoneShare_0 7 rfl rfl)
theorem dX4_zoneShare_8 : decode cX4_zoneShare 8 = .ok (.iload_n 3, 1) := dk_29 (dk_at dksX4_zoneShare_0 8 rfl rfl)
theorem dX4_zoneShare_9 : decode cX4_zoneShare 9 = .ok (.aload_n 0, 1) := dk_42 (dk_at dksX4_zoneShare_0 9 rfl rfl)
theorem dX4_zoneShare_10 : decode cX4_zoneShare 10 = .ok (.getfield 9, 3) := dk_180 0 9 (dk_at dksX4_zoneShare_0 10 rfl rfl)
theorem dX4_zoneShare_13 : decode cX4_zoneShare 13 = .ok (.iconst 2, 1) := dk_5 (dk_at dksX4_zoneShare_0 13 rfl rfl)
theorem dX4_zoneShare_14 : decode cX4_zoneShare 14 = .ok (.iaload, 1) := dk_46 (dk_at dksX4_zoneShare_0 14 rfl rfl)
theorem dX4_zoneShare_15 : decode cX4_zoneShare 15 = .ok (.if_icmp .ge 22, 3) := dk_162 0 22 (dk_at dksX4_zoneShare_0 15 rfl rfl)
theorem dX4_zoneShare_18 : decode cX4_zoneShare 18 = .ok (.aload_n 0, 1) := dk_42 (dk_at dksX4_zoneShare_0 18 rfl rfl)
theorem dX4_zoneShare_19 : decode cX4_zoneShare 19 = .ok (.iload_n 3, 1) := dk_29 (dk_at dksX4_zoneShare_0 19 rfl rfl)
theorem dX4_zoneShare_20 : decode cX4_zoneShare 20 = .ok (.invokevirtual 81, 3) := dk_182 0 81 (dk_at dksX4_zoneShare_0 20 rfl rfl)
theorem dX4_zoneShare_23 : decode cX4_zoneShare 23 = .ok (.iload_n 2, 1) := dk_28 (dk_at dksX4_zoneShare_0 23 rfl rfl)
theorem dX4_zoneShare_24 : decode cX4_zoneShare 24 = .ok (.aload_n 0, 1) := dk_42 (dk_at dksX4_zoneShare_1 0 rfl rfl)
theorem dX4_zoneShare_25 : decode cX4_zoneShare 25 = .ok (.iload_n 3, 1) := dk_29 (dk_at dksX4_zoneShare_1 1 rfl rfl)
theorem dX4_zoneShare_26 : decode cX4_zoneShare 26 = .ok (.invokevirtual 87, 3) := dk_182 0 87 (dk_at dksX4_zoneShare_1 2 rfl rfl)
theorem dX4_zoneShare_29 : decode cX4_zoneShare 29 = .ok (.iadd, 1) := dk_96 (dk_at dksX4_zoneShare_1 5 rfl rfl)
theorem dX4_zoneShare_30 : decode cX4_zoneShare 30 = .ok (.istore_n 2, 1) := dk_61 (dk_at dksX4_zoneShare_1 6 rfl rfl)
theorem dX4_zoneShare_31 : decode cX4_zoneShare 31 = .ok (.iinc 3 1, 3) := dk_132 3 1 (dk_at dksX4_zoneShare_1 7 rfl rfl)
theorem dX4_zoneShare_34 : decode cX4_zoneShare 34 = .ok (.goto (-26), 3) := dk_167 255 230 (dk_at dksX4_zoneShare_1 10 rfl rfl)
theorem dX4_zoneShare_37 : decode cX4_zoneShare 37 = .ok (.aload_n 0, 1) := dk_42 (dk_at dksX4_zoneShare_1 13 rfl rfl)
theorem dX4_zoneShare_38 : decode cX4_zoneShare 38 = .ok (.iload_n 1, 1) := dk_27 (dk_at dksX4_zoneShare_1 14 rfl rfl)
theorem dX4_zoneShare_39 : decode cX4_zoneShare 39 = .ok (.iconst 1, 1) := dk_4 (dk_at dksX4_zoneShare_1 15 rfl rfl)
theorem dX4_zoneShare_40 : decode cX4_zoneShare 40 = .ok (.iconst 5, 1) := dk_8 (dk_at dksX4_zoneShare_1 16 rfl rfl)
theorem dX4_zoneShare_41 : decode cX4_zoneShare 41 = .ok (.invokestatic 47, 3) := dk_184 0 47 (dk_at dksX4_zoneShare_1 17 rfl rfl)
theorem dX4_zoneShare_44 : decode cX4_zoneShare 44 = .ok (.ifCond .ne 7, 3) := dk_154 0 7 (dk_at dksX4_zoneShare_1 20 rfl rfl)
theorem dX4_zoneShare_47 : decode cX4_zoneShare 47 = .ok (.iconst 1, 1) := dk_4 (dk_at dksX4_zoneShare_1 23 rfl rfl)
theorem dX4_zoneShare_48 : decode cX4_zoneShare 48 = .ok (.goto 4, 3) := dk_167 0 4 (dk_at dksX4_zoneShare_2 0 rfl rfl)
theorem dX4_zoneShare_51 : decode cX4_zoneShare 51 = .ok (.iconst 0, 1) := dk_3 (dk_at dksX4_zoneShare_2 3 rfl rfl)
theorem dX4_zoneShare_52 : decode cX4_zoneShare 52 = .ok (.iconst 1, 1) := dk_4 (dk_at dksX4_zoneShare_2 4 rfl rfl)
theorem dX4_zoneShare_53 : decode cX4_zoneShare 53 = .ok (.invokevirtual 51, 3) := dk_182 0 51 (dk_at dksX4_zoneShare_2 5 rfl rfl)
theorem dX4_zoneShare_56 : decode cX4_zoneShare 56 = .ok (.ifCond .ne 20, 3) := dk_154 0 20 (dk_at dksX4_zoneShare_2 8 rfl rfl)
theorem dX4_zoneShare_59 : decode cX4_zoneShare 59 = .ok (.aload_n 0, 1) := dk_42 (dk_at dksX4_zoneShare_2 11 rfl rfl)
theorem dX4_zoneShare_60 : decode cX4_zoneShare 60 = .ok (.iload_n 2, 1) := dk_28 (dk_at dksX4_zoneShare_2 12 rfl rfl)
theorem dX4_zoneShare_61 : decode cX4_zoneShare 61 = .ok (.ifCond .ne 7, 3) := dk_154 0 7 (dk_at dksX4_zoneShare_2 13 rfl rfl)
theorem dX4_zoneShare_64 : decode cX4_zoneShare 64 = .ok (.iconst 1, 1) := dk_4 (dk_at dksX4_zoneShare_2 16 rfl rfl)
theorem dX4_zoneShare_65 : decode cX4_zoneShare 65 = .ok (.goto 4, 3) := dk_167 0 4 (dk_at dksX4_zoneShare_2 17 rfl rfl)
theorem dX4_zoneShare_68 : decode cX4_zoneShare 68 = .ok (.iconst 0, 1) := dk_3 (dk_at dksX4_zoneShare_2 20 rfl rfl)
theorem dX4_zoneShare_69 : decode cX4_zoneShare 69 = .ok (.iconst 2, 1) := dk_5 (dk_at dksX4_zoneShare_2 21 rfl rfl)
theorem dX4_zoneShare_70 : decode cX4_zoneShare 70 = .ok (.invokevirtual 51, 3) := dk_182 0 51 (dk_at dksX4_zoneShare_3 0 rfl rfl)
theorem dX4_zoneShare_73 : decode cX4_zoneShare 73 = .ok (.ifCond .eq 7, 3) := dk_153 0 7 (dk_at dksX4_zoneShare_3 3 rfl rfl)
theorem dX4_zoneShare_76 : decode cX4_zoneShare 76 = .ok (.fconst 0, 1) := dk_11 (dk_at dksX4_zoneShare_3 6 rfl rfl)
theorem dX4_zoneShare_77 : decode cX4_zoneShare 77 = .ok (.goto 13, 3) := dk_167 0 13 (dk_at dksX4_zoneShare_3 7 rfl rfl)
theorem dX4_zoneShare_80 : decode cX4_zoneShare 80 = .ok (.aload_n 0, 1) := dk_42 (dk_at dksX4_zoneShare_3 10 rfl rfl)
theorem dX4_zoneShare_81 : decode cX4_zoneShare 81 = .ok (.getfield 24, 3) := dk_180 0 24 (dk_at dksX4_zoneShare_3 11 rfl rfl)
theorem dX4_zoneShare_84 : decode cX4_zoneShare 84 = .ok (.iload_n 1, 1) := dk_27 (dk_at dksX4_zoneShare_3 14 rfl rfl)
theorem dX4_zoneShare_85 : decode cX4_zoneShare 85 = .ok (.iaload, 1) := dk_46 (dk_at dksX4_zoneShare_3 15 rfl rfl)
theorem dX4_zoneShare_86 : decode cX4_zoneShare 86 = .ok (.i2f, 1) := dk_134 (dk_at dksX4_zoneShare_3 16 rfl rfl)
theorem dX4_zoneShare_87 : decode cX4_zoneShare 87 = .ok (.iload_n 2, 1) := dk_28 (dk_at dksX4_zoneShare_3 17 rfl rfl)
theorem dX4_zoneShare_88 : decode cX4_zoneShare 88 = .ok (.i2f, 1) := dk_134 (dk_at dksX4_zoneShare_3 18 rfl rfl)
theorem dX4_zoneShare_89 : decode cX4_zoneShare 89 = .ok (.fdiv, 1) := dk_110 (dk_at dksX4_zoneShare_3 19 rfl rfl)
theorem dX4_zoneShare_90 : decode cX4_zoneShare 90 = .ok (.freturn, 1) := dk_174 (dk_at dksX4_zoneShare_3 20 rfl rfl)
abbrev cX4_meanLoad : ByteArray := prog_10_method_43_code
def yX4_meanLoad : MethodName := ⟨RX4, "meanLoad", "()D"⟩
def dkwX4_meanLoad_2 : List UInt8 := [135, 111, 175]
abbrev dktX4_meanLoad_2 : List UInt8 := dkwX4_meanLoad_2 ++ []
def dkwX4_meanLoad_1 : List UInt8 := [42, 180, 0, 21, 28, 46, 96, 60, 132, 2, 1, 167, 255, 234, 27, 135, 42, 180, 0, 9, 3, 46, 4, 96]
abbrev dktX4_meanLoad_1 : List UInt8 := dkwX4_meanLoad_1 ++ dktX4_meanLoad_2
def dkwX4_meanLoad_0 : List UInt8 := [42, 3, 181, 0, 31, 42, 182, 0, 96, 3, 60, 3, 61, 28, 42, 180, 0, 9, 3, 46, 163, 0, 18, 27]
abbrev dktX4_meanLoad_0 : List UInt8 := dkwX4_meanLoad_0 ++ dktX4_meanLoad_1
theorem dksX4_meanLoad_0 : cX4_meanLoad.data.toList.drop 0 = dktX4_meanLoad_0 := by decide +kernel
theorem dksX4_meanLoad_1 : cX4_meanLoad.data.toList.drop 24 = dktX4_meanLoad_1 := dk_seg dksX4_meanLoad_0 24 rfl rfl
theorem dksX4_meanLoad_2 : cX4_meanLoad.data.toList.drop 48 = dktX4_meanLoad_2 := dk_seg dksX4_meanLoad_1 24 rfl rfl
theorem dX4_meanLoad_0 : decode cX4_meanLoad 0 = .ok (.aload_n 0, 1) := dk_42 (dk_at dksX4_meanLoad_0 0 rfl rfl)
theorem dX4_meanLoad_1 : decode cX4_meanLoad 1 = .ok (.iconst 0, 1) := dk_3 (dk_at dksX4_meanLoad_0 1 rfl rfl)
theorem dX4_meanLoad_2 : decode cX4_meanLoad 2 = .ok (.putfield 31, 3) := dk_181 0 31 (dk_at dksX4_meanLoad_0 2 rfl rfl)
theorem dX4_meanLoad_5 : decode cX4_meanLoad 5 = .ok (.aload_n 0, 1) := dk_42 (dk_at dksX4_meanLoad_0 5 rfl rfl)
theorem dX4_meanLoad_6 : decode cX4_meanLoad 6 = .ok (.invokevirtual 96, 3) := dk_182 0 96 (dk_at dksX4_meanLoad_0 6 rfl rfl)
theorem dX4_meanLoad_9 : decode cX4_meanLoad 9 = .ok (.iconst 0, 1) := dk_3 (dk_at dksX4_meanLoad_0 9 rfl rfl)
theorem dX4_meanLoad_10 : decode cX4_meanLoad 10 = .ok (.istore_n 1, 1) := dk_60 (dk_at dksX4_meanLoad_0 10 rfl rfl)
theorem dX4_meanLoad_11 : decode cX4_meanLoad 11 = .ok (.iconst 0, 1) := dk_3 (dk_at dksX4_meanLoad_0 11 rfl rfl)
theorem dX4_meanLoad_12 : decode cX4_meanLoad 12 = .ok (.istore_n 2, 1) := dk_61 (dk_at dksX4_meanLoad_0 12 rfl rfl)
theorem dX4_meanLoad_13 : decode cX4_meanLoad 13 = .ok (.iload_n 2, 1) := dk_28 (dk_at dksX4_meanLoad_0 13 rfl rfl)
theorem dX4_meanLoad_14 : decode cX4_meanLoad 14 = .ok (.aload_n 0, 1) := dk_42 (dk_at dksX4_meanLoad_0 14 rfl rfl)
theorem dX4_meanLoad_15 : decode cX4_meanLoad 15 = .ok (.getfield 9, 3) := dk_180 0 9 (dk_at dksX4_meanLoad_0 15 rfl rfl)
theorem dX4_meanLoad_18 : decode cX4_meanLoad 18 = .ok (.iconst 0, 1) := dk_3 (dk_at dksX4_meanLoad_0 18 rfl rfl)
theorem dX4_meanLoad_19 : decode cX4_meanLoad 19 = .ok (.iaload, 1) := dk_46 (dk_at dksX4_meanLoad_0 19 rfl rfl)
theorem dX4_meanLoad_20 : decode cX4_meanLoad 20 = .ok (.if_icmp .gt 18, 3) := dk_163 0 18 (dk_at dksX4_meanLoad_0 20 rfl rfl)
theorem dX4_meanLoad_23 : decode cX4_meanLoad 23 = .ok (.iload_n 1, 1) := dk_27 (dk_at dksX4_meanLoad_0 23 rfl rfl)
theorem dX4_meanLoad_24 : decode cX4_meanLoad 24 = .ok (.aload_n 0, 1) := dk_42 (dk_at dksX4_meanLoad_1 0 rfl rfl)
theorem dX4_meanLoad_25 : decode cX4_meanLoad 25 = .ok (.getfield 21, 3) := dk_180 0 21 (dk_at dksX4_meanLoad_1 1 rfl rfl)
theorem dX4_meanLoad_28 : decode cX4_meanLoad 28 = .ok (.iload_n 2, 1) := dk_28 (dk_at dksX4_meanLoad_1 4 rfl rfl)
theorem dX4_meanLoad_29 : decode cX4_meanLoad 29 = .ok (.iaload, 1) := dk_46 (dk_at dksX4_meanLoad_1 5 rfl rfl)
theorem dX4_meanLoad_30 : decode cX4_meanLoad 30 = .ok (.iadd, 1) := dk_96 (dk_at dksX4_meanLoad_1 6 rfl rfl)
theorem dX4_meanLoad_31 : decode cX4_meanLoad 31 = .ok (.istore_n 1, 1) := dk_60 (dk_at dksX4_meanLoad_1 7 rfl rfl)
theorem dX4_meanLoad_32 : decode cX4_meanLoad 32 = .ok (.iinc 2 1, 3) := dk_132 2 1 (dk_at dksX4_meanLoad_1 8 rfl rfl)
theorem dX4_meanLoad_35 : decode cX4_meanLoad 35 = .ok (.goto (-22), 3) := dk_167 255 234 (dk_at dksX4_meanLoad_1 11 rfl rfl)
theorem dX4_meanLoad_38 : decode cX4_meanLoad 38 = .ok (.iload_n 1, 1) := dk_27 (dk_at dksX4_meanLoad_1 14 rfl rfl)
theorem dX4_meanLoad_39 : decode cX4_meanLoad 39 = .ok (.i2d, 1) := dk_135 (dk_at dksX4_meanLoad_1 15 rfl rfl)
theorem dX4_meanLoad_40 : decode cX4_meanLoad 40 = .ok (.aload_n 0, 1) := dk_42 (dk_at dksX4_meanLoad_1 16 rfl rfl)
theorem dX4_meanLoad_41 : decode cX4_meanLoad 41 = .ok (.getfield 9, 3) := dk_180 0 9 (dk_at dksX4_meanLoad_1 17 rfl rfl)
theorem dX4_meanLoad_44 : decode cX4_meanLoad 44 = .ok (.iconst 0, 1) := dk_3 (dk_at dksX4_meanLoad_1 20 rfl rfl)
theorem dX4_meanLoad_45 : decode cX4_meanLoad 45 = .ok (.iaload, 1) := dk_46 (dk_at dksX4_meanLoad_1 21 rfl rfl)
theorem dX4_meanLoad_46 : decode cX4_meanLoad 46 = .ok (.iconst 1, 1) := dk_4 (dk_at dksX4_meanLoad_1 22 rfl rfl)
theorem dX4_meanLoad_47 : decode cX4_meanLoad 47 = .ok (.iadd, 1) := dk_96 (dk_at dksX4_meanLoad_1 23 rfl rfl)
theorem dX4_meanLoad_48 : decode cX4_meanLoad 48 = .ok (.i2d, 1) := dk_135 (dk_at dksX4_meanLoad_2 0 rfl rfl)
theorem dX4_meanLoad_49 : decode cX4_meanLoad 49 = .ok (.ddiv, 1) := dk_111 (dk_at dksX4_meanLoad_2 1 rfl rfl)
theorem dX4_meanLoad_50 : decode cX4_meanLoad 50 = .ok (.dreturn, 1) := dk_175 (dk_at dksX4_meanLoad_2 2 rfl rfl)
abbrev cX4_fitnessOn : ByteArray := prog_10_method_46_code
def yX4_fitnessOn : MethodName := ⟨RX4, "fitnessOn", "(I)I"⟩
def dkwX4_fitnessOn_1 : List UInt8 := [16, 42, 182, 0, 99, 172]
abbrev dktX4_fitnessOn_1 : List UInt8 := dkwX4_fitnessOn_1 ++ []
def dkwX4_fitnessOn_0 : List UInt8 := [42, 182, 0, 96, 42, 42, 27, 182, 0, 58, 4, 182, 0, 51, 153, 0, 7, 3, 167, 0, 10, 42, 27]
abbrev dktX4_fitnessOn_0 : List UInt8 := dkwX4_fitnessOn_0 ++ dktX4_fitnessOn_1
theorem dksX4_fitnessOn_0 : cX4_fitnessOn.data.toList.drop 0 = dktX4_fitnessOn_0 := by decide +kernel
theorem dksX4_fitnessOn_1 : cX4_fitnessOn.data.toList.drop 23 = dktX4_fitnessOn_1 := dk_seg dksX4_fitnessOn_0 23 rfl rfl
theorem dX4_fitnessOn_0 : decode cX4_fitnessOn 0 = .ok (.aload_n 0, 1) := dk_42 (dk_at dksX4_fitnessOn_0 0 rfl rfl)
theorem dX4_fitnessOn_1 : decode cX4_fitnessOn 1 = .ok (.invokevirtual 96, 3) := dk_182 0 96 (dk_at dksX4_fitnessOn_0 1 rfl rfl)
theorem dX4_fitnessOn_4 : decode cX4_fitnessOn 4 = .ok (.aload_n 0, 1) := dk_42 (dk_at dksX4_fitnessOn_0 4 rfl rfl)
theorem dX4_fitnessOn_5 : decode cX4_fitnessOn 5 = .ok (.aload_n 0, 1) := dk_42 (dk_at dksX4_fitnessOn_0 5 rfl rfl)
theorem dX4_fitnessOn_6 : decode cX4_fitnessOn 6 = .ok (.iload_n 1, 1) := dk_27 (dk_at dksX4_fitnessOn_0 6 rfl rfl)
theorem dX4_fitnessOn_7 : decode cX4_fitnessOn 7 = .ok (.invokevirtual 58, 3) := dk_182 0 58 (dk_at dksX4_fitnessOn_0 7 rfl rfl)
theorem dX4_fitnessOn_10 : decode cX4_fitnessOn 10 = .ok (.iconst 1, 1) := dk_4 (dk_at dksX4_fitnessOn_0 10 rfl rfl)
theorem dX4_fitnessOn_11 : decode cX4_fitnessOn 11 = .ok (.invokevirtual 51, 3) := dk_182 0 51 (dk_at dksX4_fitnessOn_0 11 rfl rfl)
theorem dX4_fitnessOn_14 : decode cX4_fitnessOn 14 = .ok (.ifCond .eq 7, 3) := dk_153 0 7 (dk_at dksX4_fitnessOn_0 14 rfl rfl)
theorem dX4_fitnessOn_17 : decode cX4_fitnessOn 17 = .ok (.iconst 0, 1) := dk_3 (dk_at dksX4_fitnessOn_0 17 rfl rfl)
theorem dX4_fitnessOn_18 : decode cX4_fitnessOn 18 = .ok (.goto 10, 3) := dk_167 0 10 (dk_at dksX4_fitnessOn_0 18 rfl rfl)
theorem dX4_fitnessOn_21 : decode cX4_fitnessOn 21 = .ok (.aload_n 0, 1) := dk_42 (dk_at dksX4_fitnessOn_0 21 rfl rfl)
theorem dX4_fitnessOn_22 : decode cX4_fitnessOn 22 = .ok (.iload_n 1, 1) := dk_27 (dk_at dksX4_fitnessOn_0 22 rfl rfl)
theorem dX4_fitnessOn_23 : decode cX4_fitnessOn 23 = .ok (.bipush 42, 2) := dk_16 42 (dk_at dksX4_fitnessOn_1 0 rfl rfl)
theorem dX4_fitnessOn_25 : decode cX4_fitnessOn 25 = .ok (.invokevirtual 99, 3) := dk_182 0 99 (dk_at dksX4_fitnessOn_1 2 rfl rfl)
theorem dX4_fitnessOn_28 : decode cX4_fitnessOn 28 = .ok (.ireturn, 1) := dk_172 (dk_at dksX4_fitnessOn_1 5 rfl rfl)
abbrev cX4_decayed : ByteArray := prog_10_method_44_code
def yX4_decayed : MethodName := ⟨RX4, "decayed", "(II)I"⟩
def dkwX4_decayed_2 : List UInt8 := [172]
abbrev dktX4_decayed_2 : List UInt8 := dkwX4_decayed_2 ++ []
def dkwX4_decayed_1 : List UInt8 := [180, 0, 21, 21, 4, 46, 167, 0, 4, 3, 104, 29, 100, 28, 108, 96, 62, 132, 4, 1, 167, 255, 217, 29]
abbrev dktX4_decayed_1 : List UInt8 := dkwX4_decayed_1 ++ dktX4_decayed_2
def dkwX4_decayed_0 : List UInt8 := [3, 62, 3, 54, 4, 21, 4, 27, 163, 0, 39, 29, 17, 3, 232, 21, 4, 17, 0, 199, 163, 0, 13, 42]
abbrev dktX4_decayed_0 : List UInt8 := dkwX4_decayed_0 ++ dktX4_decayed_1
theorem dksX4_decayed_0 : cX4_decayed.data.toList.drop 0 = dktX4_decayed_0 := by decide +kernel
theorem dksX4_decayed_1 : cX4_decayed.data.toList.drop 24 = dktX4_decayed_1 := dk_seg dksX4_decayed_0 24 rfl rfl
theorem dksX4_decayed_2 : cX4_decayed.data.toList.drop 48 = dktX4_decayed_2 := dk_seg dksX4_decayed_1 24 rfl rfl
theorem dX4_decayed_0 : decode cX4_decayed 0 = .ok (.iconst 0, 1) := dk_3 (dk_at dksX4_decayed_0 0 rfl rfl)
theorem dX4_decayed_1 : decode cX4_decayed 1 = .ok (.istore_n 3, 1) := dk_62 (dk_at dksX4_decayed_0 1 rfl rfl)
theorem dX4_decayed_2 : decode cX4_decayed 2 = .ok (.iconst 0, 1) := dk_3 (dk_at dksX4_decayed_0 2 rfl rfl)
theorem dX4_decayed_3 : decode cX4_decayed 3 = .ok (.istore 4, 2) := dk_54 4 (dk_at dksX4_decayed_0 3 rfl rfl)
theorem dX4_decayed_5 : decode cX4_decayed 5 = .ok (.iload 4, 2) := dk_21 4 (dk_at dksX4_decayed_0 5 rfl rfl)
theorem dX4_decayed_7 : decode cX4_decayed 7 = .ok (.iload_n 1, 1) := dk_27 (dk_at dksX4_decayed_0 7 rfl rfl)
theorem dX4_decayed_8 : decode cX4_decayed 8 = .ok (.if_icmp .gt 39, 3) := dk_163 0 39 (dk_at dksX4_decayed_0 8 rfl rfl)
theorem dX4_decayed_11 : decode cX4_decayed 11 = .ok (.iload_n 3, 1) := dk_29 (dk_at dksX4_decayed_0 11 rfl rfl)
theorem dX4_decayed_12 : decode cX4_decayed 12 = .ok (.sipush 1000, 3) := dk_17 3 232 (dk_at dksX4_decayed_0 12 rfl rfl)
theorem dX4_decayed_15 : decode cX4_decayed 15 = .ok (.iload 4, 2) := dk_21 4 (dk_at dksX4_decayed_0 15 rfl rfl)
theorem dX4_decayed_17 : decode cX4_decayed 17 = .ok (.sipush 199, 3) := dk_17 0 199 (dk_at dksX4_decayed_0 17 rfl rfl)
theorem dX4_decayed_20 : decode cX4_decayed 20 = .ok (.if_icmp .gt 13, 3) := dk_163 0 13 (dk_at dksX4_decayed_0 20 rfl rfl)
theorem dX4_decayed_23 : decode cX4_decayed 23 = .ok (.aload_n 0, 1) := dk_42 (dk_at dksX4_decayed_0 23 rfl rfl)
theorem dX4_decayed_24 : decode cX4_decayed 24 = .ok (.getfield 21, 3) := dk_180 0 21 (dk_at dksX4_decayed_1 0 rfl rfl)
theorem dX4_decayed_27 : decode cX4_decayed 27 = .ok (.iload 4, 2) := dk_21 4 (dk_at dksX4_decayed_1 3 rfl rfl)
theorem dX4_decayed_29 : decode cX4_decayed 29 = .ok (.iaload, 1) := dk_46 (dk_at dksX4_decayed_1 5 rfl rfl)
theorem dX4_decayed_30 : decode cX4_decayed 30 = .ok (.goto 4, 3) := dk_167 0 4 (dk_at dksX4_decayed_1 6 rfl rfl)
theorem dX4_decayed_33 : decode cX4_decayed 33 = .ok (.iconst 0, 1) := dk_3 (dk_at dksX4_decayed_1 9 rfl rfl)
theorem dX4_decayed_34 : decode cX4_decayed 34 = .ok (.imul, 1) := dk_104 (dk_at dksX4_decayed_1 10 rfl rfl)
theorem dX4_decayed_35 : decode cX4_decayed 35 = .ok (.iload_n 3, 1) := dk_29 (dk_at dksX4_decayed_1 11 rfl rfl)
theorem dX4_decayed_36 : decode cX4_decayed 36 = .ok (.isub, 1) := dk_100 (dk_at dksX4_decayed_1 12 rfl rfl)
theorem dX4_decayed_37 : decode cX4_decayed 37 = .ok (.iload_n 2, 1) := dk_28 (dk_at dksX4_decayed_1 13 rfl rfl)
theorem dX4_decayed_38 : decode cX4_decayed 38 = .ok (.idiv, 1) := dk_108 (dk_at dksX4_decayed_1 14 rfl rfl)
theorem dX4_decayed_39 : decode cX4_decayed 39 = .ok (.iadd, 1) := dk_96 (dk_at dksX4_decayed_1 15 rfl rfl)
theorem dX4_decayed_40 : decode cX4_decayed 40 = .ok (.istore_n 3, 1) := dk_62 (dk_at dksX4_decayed_1 16 rfl rfl)
theorem dX4_decayed_41 : decode cX4_decayed 41 = .ok (.iinc 4 1, 3) := dk_132 4 1 (dk_at dksX4_decayed_1 17 rfl rfl)
theorem dX4_decayed_44 : decode cX4_decayed 44 = .ok (.goto (-39), 3) := dk_167 255 217 (dk_at dksX4_decayed_1 20 rfl rfl)
theorem dX4_decayed_47 : decode cX4_decayed 47 = .ok (.iload_n 3, 1) := dk_29 (dk_at dksX4_decayed_1 23 rfl rfl)
theorem dX4_decayed_48 : decode cX4_decayed 48 = .ok (.ireturn, 1) := dk_172 (dk_at dksX4_decayed_2 0 rfl rfl)
abbrev cX4_fitnessFromStart : ByteArray := prog_10_method_47_code
def yX4_fitnessFromStart : MethodName := ⟨RX4, "fitnessFromStart", "(I)I"⟩
def dkwX4_fitnessFromStart_0 : List UInt8 := [42, 27, 182, 0, 102, 172]
abbrev dktX4_fitnessFromStart_0 : List UInt8 := dkwX4_fitnessFromStart_0 ++ []
theorem dksX4_fitnessFromStart_0 : cX4_fitnessFromStart.data.toList.drop 0 = dktX4_fitnessFromStart_0 := by decide +kernel
theorem dX4_fitnessFromStart_0 : decode cX4_fitnessFromStart 0 = .ok (.aload_n 0, 1) := dk_42 (dk_at dksX4_fitnessFromStart_0 0 rfl rfl)
theorem dX4_fitnessFromStart_1 : decode cX4_fitnessFromStart 1 = .ok (.iload_n 1, 1) := dk_27 (dk_at dksX4_fitnessFromStart_0 1 rfl rfl)
theorem dX4_fitnessFromStart_2 : decode cX4_fitnessFromStart 2 = .ok (.invokevirtual 102, 3) := dk_182 0 102 (dk_at dksX4_fitnessFromStart_0 2 rfl rfl)
theorem dX4_fitnessFromStart_5 : decode cX4_fitnessFromStart 5 = .ok (.ireturn, 1) := dk_172 (dk_at dksX4_fitnessFromStart_0 5 rfl rfl)
abbrev cX4_fatigueOn : ByteArray := prog_10_method_48_code
def yX4_fatigueOn : MethodName := ⟨RX4, "fatigueOn", "(I)I"⟩
def dkwX4_fatigueOn_1 : List UInt8 := [16, 7, 182, 0, 99, 172]
abbrev dktX4_fatigueOn_1 : List UInt8 := dkwX4_fatigueOn_1 ++ []
def dkwX4_fatigueOn_0 : List UInt8 := [42, 182, 0, 96, 42, 42, 27, 182, 0, 58, 4, 182, 0, 51, 153, 0, 7, 3, 167, 0, 10, 42, 27]
abbrev dktX4_fatigueOn_0 : List UInt8 := dkwX4_fatigueOn_0 ++ dktX4_fatigueOn_1
theorem dksX4_fatigueOn_0 : cX4_fatigueOn.data.toList.drop 0 = dktX4_fatigueOn_0 := by decide +kernel
theorem dksX4_fatigueOn_1 : cX4_fatigueOn.data.toList.drop 23 = dktX4_fatigueOn_1 := dk_seg dksX4_fatigueOn_0 23 rfl rfl
theorem dX4_fatigueOn_0 : decode cX4_fatigueOn 0 = .ok (.aload_n 0, 1) := dk_42 (dk_at dksX4_fatigueOn_0 0 rfl rfl)
theorem dX4_fatigueOn_1 : decode cX4_fatigueOn 1 = .ok (.invokevirtual 96, 3) := dk_182 0 96 (dk_at dksX4_fatigueOn_0 1 rfl rfl)
theorem dX4_fatigueOn_4 : decode cX4_fatigueOn 4 = .ok (.aload_n 0, 1) := dk_42 (dk_at dksX4_fatigueOn_0 4 rfl rfl)
theorem dX4_fatigueOn_5 : decode cX4_fatigueOn 5 = .ok (.aload_n 0, 1) := dk_42 (dk_at dksX4_fatigueOn_0 5 rfl rfl)
theorem dX4_fatigueOn_6 : decode cX4_fatigueOn 6 = .ok (.iload_n 1, 1) := dk_27 (dk_at dksX4_fatigueOn_0 6 rfl rfl)
theorem dX4_fatigueOn_7 : decode cX4_fatigueOn 7 = .ok (.invokevirtual 58, 3) := dk_182 0 58 (dk_at dksX4_fatigueOn_0 7 rfl rfl)
theorem dX4_fatigueOn_10 : decode cX4_fatigueOn 10 = .ok (.iconst 1, 1) := dk_4 (dk_at dksX4_fatigueOn_0 10 rfl rfl)
theorem dX4_fatigueOn_11 : decode cX4_fatigueOn 11 = .ok (.invokevirtual 51, 3) := dk_182 0 51 (dk_at dksX4_fatigueOn_0 11 rfl rfl)
theorem dX4_fatigueOn_14 : decode cX4_fatigueOn 14 = .ok (.ifCond .eq 7, 3) := dk_153 0 7 (dk_at dksX4_fatigueOn_0 14 rfl rfl)
theorem dX4_fatigueOn_17 : decode cX4_fatigueOn 17 = .ok (.iconst 0, 1) := dk_3 (dk_at dksX4_fatigueOn_0 17 rfl rfl)
theorem dX4_fatigueOn_18 : decode cX4_fatigueOn 18 = .ok (.goto 10, 3) := dk_167 0 10 (dk_at dksX4_fatigueOn_0 18 rfl rfl)
theorem dX4_fatigueOn_21 : decode cX4_fatigueOn 21 = .ok (.aload_n 0, 1) := dk_42 (dk_at dksX4_fatigueOn_0 21 rfl rfl)
theorem dX4_fatigueOn_22 : decode cX4_fatigueOn 22 = .ok (.iload_n 1, 1) := dk_27 (dk_at dksX4_fatigueOn_0 22 rfl rfl)
theorem dX4_fatigueOn_23 : decode cX4_fatigueOn 23 = .ok (.bipush 7, 2) := dk_16 7 (dk_at dksX4_fatigueOn_1 0 rfl rfl)
theorem dX4_fatigueOn_25 : decode cX4_fatigueOn 25 = .ok (.invokevirtual 99, 3) := dk_182 0 99 (dk_at dksX4_fatigueOn_1 2 rfl rfl)
theorem dX4_fatigueOn_28 : decode cX4_fatigueOn 28 = .ok (.ireturn, 1) := dk_172 (dk_at dksX4_fatigueOn_1 5 rfl rfl)
abbrev cX4_fatigueFromStart : ByteArray := prog_10_method_49_code
def yX4_fatigueFromStart : MethodName := ⟨RX4, "fatigueFromStart", "(I)I"⟩
def dkwX4_fatigueFromStart_0 : List UInt8 := [42, 27, 182, 0, 105, 172]
abbrev dktX4_fatigueFromStart_0 : List UInt8 := dkwX4_fatigueFromStart_0 ++ []
theorem dksX4_fatigueFromStart_0 : cX4_fatigueFromStart.data.toList.drop 0 = dktX4_fatigueFromStart_0 := by decide +kernel
theorem dX4_fatigueFromStart_0 : decode cX4_fatigueFromStart 0 = .ok (.aload_n 0, 1) := dk_42 (dk_at dksX4_fatigueFromStart_0 0 rfl rfl)
theorem dX4_fatigueFromStart_1 : decode cX4_fatigueFromStart 1 = .ok (.iload_n 1, 1) := dk_27 (dk_at dksX4_fatigueFromStart_0 1 rfl rfl)
theorem dX4_fatigueFromStart_2 : decode cX4_fatigueFromStart 2 = .ok (.invokevirtual 105, 3) := dk_182 0 105 (dk_at dksX4_fatigueFromStart_0 2 rfl rfl)
theorem dX4_fatigueFromStart_5 : decode cX4_fatigueFromStart 5 = .ok (.ireturn, 1) := dk_172 (dk_at dksX4_fatigueFromStart_0 5 rfl rfl)
abbrev cX4_formOn : ByteArray := prog_10_method_50_code
def yX4_formOn : MethodName := ⟨RX4, "formOn", "(I)I"⟩
def dkwX4_formOn_1 : List UInt8 := [182, 0, 108, 172]
abbrev dktX4_formOn_1 : List UInt8 := dkwX4_formOn_1 ++ []
def dkwX4_formOn_0 : List UInt8 := [42, 182, 0, 96, 42, 42, 27, 182, 0, 58, 4, 182, 0, 51, 153, 0, 7, 3, 167, 0, 8, 42, 27]
abbrev dktX4_formOn_0 : List UInt8 := dkwX4_formOn_0 ++ dktX4_formOn_1
theorem dksX4_formOn_0 : cX4_formOn.data.toList.drop 0 = dktX4_formOn_0 := by decide +kernel
theorem dksX4_formOn_1 : cX4_formOn.data.toList.drop 23 = dktX4_formOn_1 := dk_seg dksX4_formOn_0 23 rfl rfl
theorem dX4_formOn_0 : decode cX4_formOn 0 = .ok (.aload_n 0, 1) := dk_42 (dk_at dksX4_formOn_0 0 rfl rfl)
theorem dX4_formOn_1 : decode cX4_formOn 1 = .ok (.invokevirtual 96, 3) := dk_182 0 96 (dk_at dksX4_formOn_0 1 rfl rfl)
theorem dX4_formOn_4 : decode cX4_formOn 4 = .ok (.aload_n 0, 1) := dk_42 (dk_at dksX4_formOn_0 4 rfl rfl)
theorem dX4_formOn_5 : decode cX4_formOn 5 = .ok (.aload_n 0, 1) := dk_42 (dk_at dksX4_formOn_0 5 rfl rfl)
theorem dX4_formOn_6 : decode cX4_formOn 6 = .ok (.iload_n 1, 1) := dk_27 (dk_at dksX4_formOn_0 6 rfl rfl)
theorem dX4_formOn_7 : decode cX4_formOn 7 = .ok (.invokevirtual 58, 3) := dk_182 0 58 (dk_at dksX4_formOn_0 7 rfl rfl)
theorem dX4_formOn_10 : decode cX4_formOn 10 = .ok (.iconst 1, 1) := dk_4 (dk_at dksX4_formOn_0 10 rfl rfl)
theorem dX4_formOn_11 : decode cX4_formOn 11 = .ok (.invokevirtual 51, 3) := dk_182 0 51 (dk_at dksX4_formOn_0 11 rfl rfl)
theorem dX4_formOn_14 : decode cX4_formOn 14 = .ok (.ifCond .eq 7, 3) := dk_153 0 7 (dk_at dksX4_formOn_0 14 rfl rfl)
theorem dX4_formOn_17 : decode cX4_formOn 17 = .ok (.iconst 0, 1) := dk_3 (dk_at dksX4_formOn_0 17 rfl rfl)
theorem dX4_formOn_18 : decode cX4_formOn 18 = .ok (.goto 8, 3) := dk_167 0 8 (dk_at dksX4_formOn_0 18 rfl rfl)
theorem dX4_formOn_21 : decode cX4_formOn 21 = .ok (.aload_n 0, 1) := dk_42 (dk_at dksX4_formOn_0 21 rfl rfl)
theorem dX4_formOn_22 : decode cX4_formOn 22 = .ok (.iload_n 1, 1) := dk_27 (dk_at dksX4_formOn_0 22 rfl rfl)
theorem dX4_formOn_23 : decode cX4_formOn 23 = .ok (.invokevirtual 108, 3) := dk_182 0 108 (dk_at dksX4_formOn_1 0 rfl rfl)
theorem dX4_formOn_26 : decode cX4_formOn 26 = .ok (.ireturn, 1) := dk_172 (dk_at dksX4_formOn_1 3 rfl rfl)
abbrev cX4_form : ByteArray := prog_10_method_45_code
def yX4_form : MethodName := ⟨RX4, "form", "(I)I"⟩
def dkwX4_form_0 : List UInt8 := [42, 27, 4, 100, 16, 42, 182, 0, 99, 42, 27, 4, 100, 16, 7, 182, 0, 99, 100, 172]
abbrev dktX4_form_0 : List UInt8 := dkwX4_form_0 ++ []
theorem dksX4_form_0 : cX4_form.data.toList.drop 0 = dktX4_form_0 := by decide +kernel
theorem dX4_form_0 : decode cX4_form 0 = .ok (.aload_n 0, 1) := dk_42 (dk_at dksX4_form_0 0 rfl rfl)
theorem dX4_form_1 : decode cX4_form 1 = .ok (.iload_n 1, 1) := dk_27 (dk_at dksX4_form_0 1 rfl rfl)
theorem dX4_form_2 : decode cX4_form 2 = .ok (.iconst 1, 1) := dk_4 (dk_at dksX4_form_0 2 rfl rfl)
theorem dX4_form_3 : decode cX4_form 3 = .ok (.isub, 1) := dk_100 (dk_at dksX4_form_0 3 rfl rfl)
theorem dX4_form_4 : decode cX4_form 4 = .ok (.bipush 42, 2) := dk_16 42 (dk_at dksX4_form_0 4 rfl rfl)
theorem dX4_form_6 : decode cX4_form 6 = .ok (.invokevirtual 99, 3) := dk_182 0 99 (dk_at dksX4_form_0 6 rfl rfl)
theorem dX4_form_9 : decode cX4_form 9 = .ok (.aload_n 0, 1) := dk_42 (dk_at dksX4_form_0 9 rfl rfl)
theorem dX4_form_10 : decode cX4_form 10 = .ok (.iload_n 1, 1) := dk_27 (dk_at dksX4_form_0 10 rfl rfl)
theorem dX4_form_11 : decode cX4_form 11 = .ok (.iconst 1, 1) := dk_4 (dk_at dksX4_form_0 11 rfl rfl)
theorem dX4_form_12 : decode cX4_form 12 = .ok (.isub, 1) := dk_100 (dk_at dksX4_form_0 12 rfl rfl)
theorem dX4_form_13 : decode cX4_form 13 = .ok (.bipush 7, 2) := dk_16 7 (dk_at dksX4_form_0 13 rfl rfl)
theorem dX4_form_15 : decode cX4_form 15 = .ok (.invokevirtual 99, 3) := dk_182 0 99 (dk_at dksX4_form_0 15 rfl rfl)
theorem dX4_form_18 : decode cX4_form 18 = .ok (.isub, 1) := dk_100 (dk_at dksX4_form_0 18 rfl rfl)
theorem dX4_form_19 : decode cX4_form 19 = .ok (.ireturn, 1) := dk_172 (dk_at dksX4_form_0 19 rfl rfl)
abbrev cX4_bestFormDay : ByteArray := prog_10_method_51_code
def yX4_bestFormDay : MethodName := ⟨RX4, "bestFormDay", "()I"⟩
def dkwX4_bestFormDay_2 : List UInt8 := [27, 172]
abbrev dktX4_bestFormDay_2 : List UInt8 := dkwX4_bestFormDay_2 ++ []
def dkwX4_bestFormDay_1 : List UInt8 := [28, 182, 0, 108, 42, 27, 182, 0, 108, 164, 0, 7, 28, 167, 0, 4, 27, 60, 132, 2, 1, 167, 255, 224]
abbrev dktX4_bestFormDay_1 : List UInt8 := dkwX4_bestFormDay_1 ++ dktX4_bestFormDay_2
def dkwX4_bestFormDay_0 : List UInt8 := [42, 3, 181, 0, 31, 42, 182, 0, 96, 3, 60, 4, 61, 28, 42, 180, 0, 9, 3, 46, 163, 0, 28, 42]
abbrev dktX4_bestFormDay_0 : List UInt8 := dkwX4_bestFormDay_0 ++ dktX4_bestFormDay_1
theorem dksX4_bestFormDay_0 : cX4_bestFormDay.data.toList.drop 0 = dktX4_bestFormDay_0 := by decide +kernel
theorem dksX4_bestFormDay_1 : cX4_bestFormDay.data.toList.drop 24 = dktX4_bestFormDay_1 := dk_seg dksX4_bestFormDay_0 24 rfl rfl
theorem dksX4_bestFormDay_2 : cX4_bestFormDay.data.toList.drop 48 = dktX4_bestFormDay_2 := dk_seg dksX4_bestFormDay_1 24 rfl rfl
theorem dX4_bestFormDay_0 : decode cX4_bestFormDay 0 = .ok (.aload_n 0, 1) := dk_42 (dk_at dksX4_bestFormDay_0 0 rfl rfl)
theorem dX4_bestFormDay_1 : decode cX4_bestFormDay 1 = .ok (.iconst 0, 1) := dk_3 (dk_at dksX4_bestFormDay_0 1 rfl rfl)
theorem dX4_bestFormDay_2 : decode cX4_bestFormDay 2 = .ok (.putfield 31, 3) := dk_181 0 31 (dk_at dksX4_bestFormDay_0 2 rfl rfl)
theorem dX4_bestFormDay_5 : decode cX4_bestFormDay 5 = .ok (.aload_n 0, 1) := dk_42 (dk_at dksX4_bestFormDay_0 5 rfl rfl)
theorem dX4_bestFormDay_6 : decode cX4_bestFormDay 6 = .ok (.invokevirtual 96, 3) := dk_182 0 96 (dk_at dksX4_bestFormDay_0 6 rfl rfl)
theorem dX4_bestFormDay_9 : decode cX4_bestFormDay 9 = .ok (.iconst 0, 1) := dk_3 (dk_at dksX4_bestFormDay_0 9 rfl rfl)
theorem dX4_bestFormDay_10 : decode cX4_bestFormDay 10 = .ok (.istore_n 1, 1) := dk_60 (dk_at dksX4_bestFormDay_0 10 rfl rfl)
theorem dX4_bestFormDay_11 : decode cX4_bestFormDay 11 = .ok (.iconst 1, 1) := dk_4 (dk_at dksX4_bestFormDay_0 11 rfl rfl)
theorem dX4_bestFormDay_12 : decode cX4_bestFormDay 12 = .ok (.istore_n 2, 1) := dk_61 (dk_at dksX4_bestFormDay_0 12 rfl rfl)
theorem dX4_bestFormDay_13 : decode cX4_bestFormDay 13 = .ok (.iload_n 2, 1) := dk_28 (dk_at dksX4_bestFormDay_0 13 rfl rfl)
theorem dX4_bestFormDay_14 : decode cX4_bestFormDay 14 = .ok (.aload_n 0, 1) := dk_42 (dk_at dksX4_bestFormDay_0 14 rfl rfl)
theorem dX4_bestFormDay_15 : decode cX4_bestFormDay 15 = .ok (.getfield 9, 3) := dk_180 0 9 (dk_at dksX4_bestFormDay_0 15 rfl rfl)
theorem dX4_bestFormDay_18 : decode cX4_bestFormDay 18 = .ok (.iconst 0, 1) := dk_3 (dk_at dksX4_bestFormDay_0 18 rfl rfl)
theorem dX4_bestFormDay_19 : decode cX4_bestFormDay 19 = .ok (.iaload, 1) := dk_46 (dk_at dksX4_bestFormDay_0 19 rfl rfl)
theorem dX4_bestFormDay_20 : decode cX4_bestFormDay 20 = .ok (.if_icmp .gt 28, 3) := dk_163 0 28 (dk_at dksX4_bestFormDay_0 20 rfl rfl)
theorem dX4_bestFormDay_23 : decode cX4_bestFormDay 23 = .ok (.aload_n 0, 1) := dk_42 (dk_at dksX4_bestFormDay_0 23 rfl rfl)
theorem dX4_bestFormDay_24 : decode cX4_bestFormDay 24 = .ok (.iload_n 2, 1) := dk_28 (dk_at dksX4_bestFormDay_1 0 rfl rfl)
theorem dX4_bestFormDay_25 : decode cX4_bestFormDay 25 = .ok (.invokevirtual 108, 3) := dk_182 0 108 (dk_at dksX4_bestFormDay_1 1 rfl rfl)
theorem dX4_bestFormDay_28 : decode cX4_bestFormDay 28 = .ok (.aload_n 0, 1) := dk_42 (dk_at dksX4_bestFormDay_1 4 rfl rfl)
theorem dX4_bestFormDay_29 : decode cX4_bestFormDay 29 = .ok (.iload_n 1, 1) := dk_27 (dk_at dksX4_bestFormDay_1 5 rfl rfl)
theorem dX4_bestFormDay_30 : decode cX4_bestFormDay 30 = .ok (.invokevirtual 108, 3) := dk_182 0 108 (dk_at dksX4_bestFormDay_1 6 rfl rfl)
theorem dX4_bestFormDay_33 : decode cX4_bestFormDay 33 = .ok (.if_icmp .le 7, 3) := dk_164 0 7 (dk_at dksX4_bestFormDay_1 9 rfl rfl)
theorem dX4_bestFormDay_36 : decode cX4_bestFormDay 36 = .ok (.iload_n 2, 1) := dk_28 (dk_at dksX4_bestFormDay_1 12 rfl rfl)
theorem dX4_bestFormDay_37 : decode cX4_bestFormDay 37 = .ok (.goto 4, 3) := dk_167 0 4 (dk_at dksX4_bestFormDay_1 13 rfl rfl)
theorem dX4_bestFormDay_40 : decode cX4_bestFormDay 40 = .ok (.iload_n 1, 1) := dk_27 (dk_at dksX4_bestFormDay_1 16 rfl rfl)
theorem dX4_bestFormDay_41 : decode cX4_bestFormDay 41 = .ok (.istore_n 1, 1) := dk_60 (dk_at dksX4_bestFormDay_1 17 rfl rfl)
theorem dX4_bestFormDay_42 : decode cX4_bestFormDay 42 = .ok (.iinc 2 1, 3) := dk_132 2 1 (dk_at dksX4_bestFormDay_1 18 rfl rfl)
theorem dX4_bestFormDay_45 : decode cX4_bestFormDay 45 = .ok (.goto (-32), 3) := dk_167 255 224 (dk_at dksX4_bestFormDay_1 21 rfl rfl)
theorem dX4_bestFormDay_48 : decode cX4_bestFormDay 48 = .ok (.iload_n 1, 1) := dk_27 (dk_at dksX4_bestFormDay_2 0 rfl rfl)
theorem dX4_bestFormDay_49 : decode cX4_bestFormDay 49 = .ok (.ireturn, 1) := dk_172 (dk_at dksX4_bestFormDay_2 1 rfl rfl)
abbrev cX4_daysToForm : ByteArray := prog_10_method_52_code
def yX4_daysToForm : MethodName := ⟨RX4, "daysToForm", "(I)I"⟩
def dkwX4_daysToForm_3 : List UInt8 := [156, 0, 7, 4, 167, 0, 4, 3, 5, 182, 0, 51, 153, 0, 7, 3, 167, 0, 4, 28, 172]
abbrev dktX4_daysToForm_3 : List UInt8 := dkwX4_daysToForm_3 ++ []
def dkwX4_daysToForm_2 : List UInt8 := [18, 112, 184, 0, 47, 154, 0, 7, 4, 167, 0, 4, 3, 4, 182, 0, 51, 154, 0, 20, 42, 28]
abbrev dktX4_daysToForm_2 : List UInt8 := dkwX4_daysToForm_2 ++ dktX4_daysToForm_3
def dkwX4_daysToForm_1 : List UInt8 := [182, 0, 108, 27, 161, 0, 7, 29, 167, 0, 4, 28, 61, 132, 3, 255, 167, 255, 227, 42, 27, 18, 111]
abbrev dktX4_daysToForm_1 : List UInt8 := dkwX4_daysToForm_1 ++ dktX4_daysToForm_2
def dkwX4_daysToForm_0 : List UInt8 := [42, 182, 0, 96, 2, 61, 17, 0, 200, 62, 29, 155, 0, 31, 42, 42, 180, 0, 9, 3, 46, 29, 96]
abbrev dktX4_daysToForm_0 : List UInt8 := dkwX4_daysToForm_0 ++ dktX4_daysToForm_1
theorem dksX4_daysToForm_0 : cX4_daysToForm.data.toList.drop 0 = dktX4_daysToForm_0 := by decide +kernel
theorem dksX4_daysToForm_1 : cX4_daysToForm.data.toList.drop 23 = dktX4_daysToForm_1 := dk_seg dksX4_daysToForm_0 23 rfl rfl
theorem dksX4_daysToForm_2 : cX4_daysToForm.data.toList.drop 46 = dktX4_daysToForm_2 := dk_seg dksX4_daysToForm_1 23 rfl rfl
theorem dksX4_daysToForm_3 : cX4_daysToForm.data.toList.drop 68 = dktX4_daysToForm_3 := dk_seg dksX4_daysToForm_2 22 rfl rfl
theorem dX4_daysToForm_0 : decode cX4_daysToForm 0 = .ok (.aload_n 0, 1) := dk_42 (dk_at dksX4_daysToForm_0 0 rfl rfl)
theorem dX4_daysToForm_1 : decode cX4_daysToForm 1 = .ok (.invokevirtual 96, 3) := dk_182 0 96 (dk_at dksX4_daysToForm_0 1 rfl rfl)
theorem dX4_daysToForm_4 : decode cX4_daysToForm 4 = .ok (.iconst (-1), 1) := dk_2 (dk_at dksX4_daysToForm_0 4 rfl rfl)
theorem dX4_daysToForm_5 : decode cX4_daysToForm 5 = .ok (.istore_n 2, 1) := dk_61 (dk_at dksX4_daysToForm_0 5 rfl rfl)
theorem dX4_daysToForm_6 : decode cX4_daysToForm 6 = .ok (.sipush 200, 3) := dk_17 0 200 (dk_at dksX4_daysToForm_0 6 rfl rfl)
theorem dX4_daysToForm_9 : decode cX4_daysToForm 9 = .ok (.istore_n 3, 1) := dk_62 (dk_at dksX4_daysToForm_0 9 rfl rfl)
theorem dX4_daysToForm_10 : decode cX4_daysToForm 10 = .ok (.iload_n 3, 1) := dk_29 (dk_at dksX4_daysToForm_0 10 rfl rfl)
theorem dX4_daysToForm_11 : decode cX4_daysToForm 11 = .ok (.ifCond .lt 31, 3) := dk_155 0 31 (dk_at dksX4_daysToForm_0 11 rfl rfl)
theorem dX4_daysToForm_14 : decode cX4_daysToForm 14 = .ok (.aload_n 0, 1) := dk_42 (dk_at dksX4_daysToForm_0 14 rfl rfl)
theorem dX4_daysToForm_15 : decode cX4_daysToForm 15 = .ok (.aload_n 0, 1) := dk_42 (dk_at dksX4_daysToForm_0 15 rfl rfl)
theorem dX4_daysToForm_16 : decode cX4_daysToForm 16 = .ok (.getfield 9, 3) := dk_180 0 9 (dk_at dksX4_daysToForm_0 16 rfl rfl)
theorem dX4_daysToForm_19 : decode cX4_daysToForm 19 = .ok (.iconst 0, 1) := dk_3 (dk_at dksX4_daysToForm_0 19 rfl rfl)
theorem dX4_daysToForm_20 : decode cX4_daysToForm 20 = .ok (.iaload, 1) := dk_46 (dk_at dksX4_daysToForm_0 20 rfl rfl)
theorem dX4_daysToForm_21 : decode cX4_daysToForm 21 = .ok (.iload_n 3, 1) := dk_29 (dk_at dksX4_daysToForm_0 21 rfl rfl)
theorem dX4_daysToForm_22 : decode cX4_daysToForm 22 = .ok (.iadd, 1) := dk_96 (dk_at dksX4_daysToForm_0 22 rfl rfl)
theorem dX4_daysToForm_23 : decode cX4_daysToForm 23 = .ok (.invokevirtual 108, 3) := dk_182 0 108 (dk_at dksX4_daysToForm_1 0 rfl rfl)
theorem dX4_daysToForm_26 : decode cX4_daysToForm 26 = .ok (.iload_n 1, 1) := dk_27 (dk_at dksX4_daysToForm_1 3 rfl rfl)
theorem dX4_daysToForm_27 : decode cX4_daysToForm 27 = .ok (.if_icmp .lt 7, 3) := dk_161 0 7 (dk_at dksX4_daysToForm_1 4 rfl rfl)
theorem dX4_daysToForm_30 : decode cX4_daysToForm 30 = .ok (.iload_n 3, 1) := dk_29 (dk_at dksX4_daysToForm_1 7 rfl rfl)
theorem dX4_daysToForm_31 : decode cX4_daysToForm 31 = .ok (.goto 4, 3) := dk_167 0 4 (dk_at dksX4_daysToForm_1 8 rfl rfl)
theorem dX4_daysToForm_34 : decode cX4_daysToForm 34 = .ok (.iload_n 2, 1) := dk_28 (dk_at dksX4_daysToForm_1 11 rfl rfl)
theorem dX4_daysToForm_35 : decode cX4_daysToForm 35 = .ok (.istore_n 2, 1) := dk_61 (dk_at dksX4_daysToForm_1 12 rfl rfl)
theorem dX4_daysToForm_36 : decode cX4_daysToForm 36 = .ok (.iinc 3 (-1), 3) := dk_132 3 255 (dk_at dksX4_daysToForm_1 13 rfl rfl)
theorem dX4_daysToForm_39 : decode cX4_daysToForm 39 = .ok (.goto (-29), 3) := dk_167 255 227 (dk_at dksX4_daysToForm_1 16 rfl rfl)
theorem dX4_daysToForm_42 : decode cX4_daysToForm 42 = .ok (.aload_n 0, 1) := dk_42 (dk_at dksX4_daysToForm_1 19 rfl rfl)
theorem dX4_daysToForm_43 : decode cX4_daysToForm 43 = .ok (.iload_n 1, 1) := dk_27 (dk_at dksX4_daysToForm_1 20 rfl rfl)
theorem dX4_daysToForm_44 : decode cX4_daysToForm 44 = .ok (.ldc 111, 2) := dk_18 111 (dk_at dksX4_daysToForm_1 21 rfl rfl)
theorem dX4_daysToForm_46 : decode cX4_daysToForm 46 = .ok (.ldc 112, 2) := dk_18 112 (dk_at dksX4_daysToForm_2 0 rfl rfl)
theorem dX4_daysToForm_48 : decode cX4_daysToForm 48 = .ok (.invokestatic 47, 3) := dk_184 0 47 (dk_at dksX4_daysToForm_2 2 rfl rfl)
theorem dX4_daysToForm_51 : decode cX4_daysToForm 51 = .ok (.ifCond .ne 7, 3) := dk_154 0 7 (dk_at dksX4_daysToForm_2 5 rfl rfl)
theorem dX4_daysToForm_54 : decode cX4_daysToForm 54 = .ok (.iconst 1, 1) := dk_4 (dk_at dksX4_daysToForm_2 8 rfl rfl)
theorem dX4_daysToForm_55 : decode cX4_daysToForm 55 = .ok (.goto 4, 3) := dk_167 0 4 (dk_at dksX4_daysToForm_2 9 rfl rfl)
theorem dX4_daysToForm_58 : decode cX4_daysToForm 58 = .ok (.iconst 0, 1) := dk_3 (dk_at dksX4_daysToForm_2 12 rfl rfl)
theorem dX4_daysToForm_59 : decode cX4_daysToForm 59 = .ok (.iconst 1, 1) := dk_4 (dk_at dksX4_daysToForm_2 13 rfl rfl)
theorem dX4_daysToForm_60 : decode cX4_daysToForm 60 = .ok (.invokevirtual 51, 3) := dk_182 0 51 (dk_at dksX4_daysToForm_2 14 rfl rfl)
theorem dX4_daysToForm_63 : decode cX4_daysToForm 63 = .ok (.ifCond .ne 20, 3) := dk_154 0 20 (dk_at dksX4_daysToForm_2 17 rfl rfl)
theorem dX4_daysToForm_66 : decode cX4_daysToForm 66 = .ok (.aload_n 0, 1) := dk_42 (dk_at dksX4_daysToForm_2 20 rfl rfl)
theorem dX4_daysToForm_67 : decode cX4_daysToForm 67 = .ok (.iload_n 2, 1) := dk_28 (dk_at dksX4_daysToForm_2 21 rfl rfl)
theorem dX4_daysToForm_68 : decode cX4_daysToForm 68 = .ok (.ifCond .ge 7, 3) := dk_156 0 7 (dk_at dksX4_daysToForm_3 0 rfl rfl)
theorem dX4_daysToForm_71 : decode cX4_daysToForm 71 = .ok (.iconst 1, 1) := dk_4 (dk_at dksX4_daysToForm_3 3 rfl rfl)
theorem dX4_daysToForm_72 : decode cX4_daysToForm 72 = .ok (.goto 4, 3) := dk_167 0 4 (dk_at dksX4_daysToForm_3 4 rfl rfl)
theorem dX4_daysToForm_75 : decode cX4_daysToForm 75 = .ok (.iconst 0, 1) := dk_3 (dk_at dksX4_daysToForm_3 7 rfl rfl)
theorem dX4_daysToForm_76 : decode cX4_daysToForm 76 = .ok (.iconst 2, 1) := dk_5 (dk_at dksX4_daysToForm_3 8 rfl rfl)
theorem dX4_daysToForm_77 : decode cX4_daysToForm 77 = .ok (.invokevirtual 51, 3) := dk_182 0 51 (dk_at dksX4_daysToForm_3 9 rfl rfl)
theorem dX4_daysToForm_80 : decode cX4_daysToForm 80 = .ok (.ifCond .eq 7, 3) := dk_153 0 7 (dk_at dksX4_daysToForm_3 12 rfl rfl)
theorem dX4_daysToForm_83 : decode cX4_daysToForm 83 = .ok (.iconst 0, 1) := dk_3 (dk_at dksX4_daysToForm_3 15 rfl rfl)
theorem dX4_daysToForm_84 : decode cX4_daysToForm 84 = .ok (.goto 4, 3) := dk_167 0 4 (dk_at dksX4_daysToForm_3 16 rfl rfl)
theorem dX4_daysToForm_87 : decode cX4_daysToForm 87 = .ok (.iload_n 2, 1) := dk_28 (dk_at dksX4_daysToForm_3 19 rfl rfl)
theorem dX4_daysToForm_88 : decode cX4_daysToForm 88 = .ok (.ireturn, 1) := dk_172 (dk_at dksX4_daysToForm_3 20 rfl rfl)
abbrev cX4_bestDays : ByteArray := prog_10_method_56_code
def yX4_bestDays : MethodName := ⟨RX4, "bestDays", "(I)I"⟩
def dkwX4_bestDays_0 : List UInt8 := [42, 27, 182, 0, 116, 153, 0, 7, 3, 167, 0, 13, 42, 42, 27, 182, 0, 119, 27, 182, 0, 113, 172]
abbrev dktX4_bestDays_0 : List UInt8 := dkwX4_bestDays_0 ++ []
theorem dksX4_bestDays_0 : cX4_bestDays.data.toList.drop 0 = dktX4_bestDays_0 := by decide +kernel
theorem dX4_bestDays_0 : decode cX4_bestDays 0 = .ok (.aload_n 0, 1) := dk_42 (dk_at dksX4_bestDays_0 0 rfl rfl)
theorem dX4_bestDays_1 : decode cX4_bestDays 1 = .ok (.iload_n 1, 1) := dk_27 (dk_at dksX4_bestDays_0 1 rfl rfl)
theorem dX4_bestDays_2 : decode cX4_bestDays 2 = .ok (.invokevirtual 116, 3) := dk_182 0 116 (dk_at dksX4_bestDays_0 2 rfl rfl)
theorem dX4_bestDays_5 : decode cX4_bestDays 5 = .ok (.ifCond .eq 7, 3) := dk_153 0 7 (dk_at dksX4_bestDays_0 5 rfl rfl)
theorem dX4_bestDays_8 : decode cX4_bestDays 8 = .ok (.iconst 0, 1) := dk_3 (dk_at dksX4_bestDays_0 8 rfl rfl)
theorem dX4_bestDays_9 : decode cX4_bestDays 9 = .ok (.goto 13, 3) := dk_167 0 13 (dk_at dksX4_bestDays_0 9 rfl rfl)
theorem dX4_bestDays_12 : decode cX4_bestDays 12 = .ok (.aload_n 0, 1) := dk_42 (dk_at dksX4_bestDays_0 12 rfl rfl)
theorem dX4_bestDays_13 : decode cX4_bestDays 13 = .ok (.aload_n 0, 1) := dk_42 (dk_at dksX4_bestDays_0 13 rfl rfl)
theorem dX4_bestDays_14 : decode cX4_bestDays 14 = .ok (.iload_n 1, 1) := dk_27 (dk_at dksX4_bestDays_0 14 rfl rfl)
theorem dX4_bestDays_15 : decode cX4_bestDays 15 = .ok (.invokevirtual 119, 3) := dk_182 0 119 (dk_at dksX4_bestDays_0 15 rfl rfl)
theorem dX4_bestDays_18 : decode cX4_bestDays 18 = .ok (.iload_n 1, 1) := dk_27 (dk_at dksX4_bestDays_0 18 rfl rfl)
theorem dX4_bestDays_19 : decode cX4_bestDays 19 = .ok (.invokevirtual 113, 3) := dk_182 0 113 (dk_at dksX4_bestDays_0 19 rfl rfl)
theorem dX4_bestDays_22 : decode cX4_bestDays 22 = .ok (.ireturn, 1) := dk_172 (dk_at dksX4_bestDays_0 22 rfl rfl)
abbrev cX4_isNoRow : ByteArray := prog_10_method_54_code
def yX4_isNoRow : MethodName := ⟨RX4, "isNoRow", "(I)Z"⟩
def dkwX4_isNoRow_2 : List UInt8 := [4, 167, 0, 4, 3, 172]
abbrev dktX4_isNoRow_2 : List UInt8 := dkwX4_isNoRow_2 ++ []
def dkwX4_isNoRow_1 : List UInt8 := [42, 180, 0, 9, 3, 46, 27, 4, 100, 162, 0, 7, 4, 167, 0, 4, 3, 5, 182, 0, 51, 153, 0, 7]
abbrev dktX4_isNoRow_1 : List UInt8 := dkwX4_isNoRow_1 ++ dktX4_isNoRow_2
def dkwX4_isNoRow_0 : List UInt8 := [42, 27, 4, 16, 60, 184, 0, 47, 154, 0, 7, 4, 167, 0, 4, 3, 4, 182, 0, 51, 154, 0, 28, 42]
abbrev dktX4_isNoRow_0 : List UInt8 := dkwX4_isNoRow_0 ++ dktX4_isNoRow_1
theorem dksX4_isNoRow_0 : cX4_isNoRow.data.toList.drop 0 = dktX4_isNoRow_0 := by decide +kernel
theorem dksX4_isNoRow_1 : cX4_isNoRow.data.toList.drop 24 = dktX4_isNoRow_1 := dk_seg dksX4_isNoRow_0 24 rfl rfl
theorem dksX4_isNoRow_2 : cX4_isNoRow.data.toList.drop 48 = dktX4_isNoRow_2 := dk_seg dksX4_isNoRow_1 24 rfl rfl
theorem dX4_isNoRow_0 : decode cX4_isNoRow 0 = .ok (.aload_n 0, 1) := dk_42 (dk_at dksX4_isNoRow_0 0 rfl rfl)
theorem dX4_isNoRow_1 : decode cX4_isNoRow 1 = .ok (.iload_n 1, 1) := dk_27 (dk_at dksX4_isNoRow_0 1 rfl rfl)
theorem dX4_isNoRow_2 : decode cX4_isNoRow 2 = .ok (.iconst 1, 1) := dk_4 (dk_at dksX4_isNoRow_0 2 rfl rfl)
theorem dX4_isNoRow_3 : decode cX4_isNoRow 3 = .ok (.bipush 60, 2) := dk_16 60 (dk_at dksX4_isNoRow_0 3 rfl rfl)
theorem dX4_isNoRow_5 : decode cX4_isNoRow 5 = .ok (.invokestatic 47, 3) := dk_184 0 47 (dk_at dksX4_isNoRow_0 5 rfl rfl)
theorem dX4_isNoRow_8 : decode cX4_isNoRow 8 = .ok (.ifCond .ne 7, 3) := dk_154 0 7 (dk_at dksX4_isNoRow_0 8 rfl rfl)
theorem dX4_isNoRow_11 : decode cX4_isNoRow 11 = .ok (.iconst 1, 1) := dk_4 (dk_at dksX4_isNoRow_0 11 rfl rfl)
theorem dX4_isNoRow_12 : decode cX4_isNoRow 12 = .ok (.goto 4, 3) := dk_167 0 4 (dk_at dksX4_isNoRow_0 12 rfl rfl)
theorem dX4_isNoRow_15 : decode cX4_isNoRow 15 = .ok (.iconst 0, 1) := dk_3 (dk_at dksX4_isNoRow_0 15 rfl rfl)
theorem dX4_isNoRow_16 : decode cX4_isNoRow 16 = .ok (.iconst 1, 1) := dk_4 (dk_at dksX4_isNoRow_0 16 rfl rfl)
theorem dX4_isNoRow_17 : decode cX4_isNoRow 17 = .ok (.invokevirtual 51, 3) := dk_182 0 51 (dk_at dksX4_isNoRow_0 17 rfl rfl)
theorem dX4_isNoRow_20 : decode cX4_isNoRow 20 = .ok (.ifCond .ne 28, 3) := dk_154 0 28 (dk_at dksX4_isNoRow_0 20 rfl rfl)
theorem dX4_isNoRow_23 : decode cX4_isNoRow 23 = .ok (.aload_n 0, 1) := dk_42 (dk_at dksX4_isNoRow_0 23 rfl rfl)
theorem dX4_isNoRow_24 : decode cX4_isNoRow 24 = .ok (.aload_n 0, 1) := dk_42 (dk_at dksX4_isNoRow_1 0 rfl rfl)
theorem dX4_isNoRow_25 : decode cX4_isNoRow 25 = .ok (.getfield 9, 3) := dk_180 0 9 (dk_at dksX4_isNoRow_1 1 rfl rfl)
theorem dX4_isNoRow_28 : decode cX4_isNoRow 28 = .ok (.iconst 0, 1) := dk_3 (dk_at dksX4_isNoRow_1 4 rfl rfl)
theorem dX4_isNoRow_29 : decode cX4_isNoRow 29 = .ok (.iaload, 1) := dk_46 (dk_at dksX4_isNoRow_1 5 rfl rfl)
theorem dX4_isNoRow_30 : decode cX4_isNoRow 30 = .ok (.iload_n 1, 1) := dk_27 (dk_at dksX4_isNoRow_1 6 rfl rfl)
theorem dX4_isNoRow_31 : decode cX4_isNoRow 31 = .ok (.iconst 1, 1) := dk_4 (dk_at dksX4_isNoRow_1 7 rfl rfl)
theorem dX4_isNoRow_32 : decode cX4_isNoRow 32 = .ok (.isub, 1) := dk_100 (dk_at dksX4_isNoRow_1 8 rfl rfl)
theorem dX4_isNoRow_33 : decode cX4_isNoRow 33 = .ok (.if_icmp .ge 7, 3) := dk_162 0 7 (dk_at dksX4_isNoRow_1 9 rfl rfl)
theorem dX4_isNoRow_36 : decode cX4_isNoRow 36 = .ok (.iconst 1, 1) := dk_4 (dk_at dksX4_isNoRow_1 12 rfl rfl)
theorem dX4_isNoRow_37 : decode cX4_isNoRow 37 = .ok (.goto 4, 3) := dk_167 0 4 (dk_at dksX4_isNoRow_1 13 rfl rfl)
theorem dX4_isNoRow_40 : decode cX4_isNoRow 40 = .ok (.iconst 0, 1) := dk_3 (dk_at dksX4_isNoRow_1 16 rfl rfl)
theorem dX4_isNoRow_41 : decode cX4_isNoRow 41 = .ok (.iconst 2, 1) := dk_5 (dk_at dksX4_isNoRow_1 17 rfl rfl)
theorem dX4_isNoRow_42 : decode cX4_isNoRow 42 = .ok (.invokevirtual 51, 3) := dk_182 0 51 (dk_at dksX4_isNoRow_1 18 rfl rfl)
theorem dX4_isNoRow_45 : decode cX4_isNoRow 45 = .ok (.ifCond .eq 7, 3) := dk_153 0 7 (dk_at dksX4_isNoRow_1 21 rfl rfl)
theorem dX4_isNoRow_48 : decode cX4_isNoRow 48 = .ok (.iconst 1, 1) := dk_4 (dk_at dksX4_isNoRow_2 0 rfl rfl)
theorem dX4_isNoRow_49 : decode cX4_isNoRow 49 = .ok (.goto 4, 3) := dk_167 0 4 (dk_at dksX4_isNoRow_2 1 rfl rfl)
theorem dX4_isNoRow_52 : decode cX4_isNoRow 52 = .ok (.iconst 0, 1) := dk_3 (dk_at dksX4_isNoRow_2 4 rfl rfl)
theorem dX4_isNoRow_53 : decode cX4_isNoRow 53 = .ok (.ireturn, 1) := dk_172 (dk_at dksX4_isNoRow_2 5 rfl rfl)
abbrev cX4_bestRow : ByteArray := prog_10_method_55_code
def yX4_bestRow : MethodName := ⟨RX4, "bestRow", "(I)I"⟩
def dkwX4_bestRow_2 : List UInt8 := [167, 255, 218, 28, 172]
abbrev dktX4_bestRow_2 : List UInt8 := dkwX4_bestRow_2 ++ []
def dkwX4_bestRow_1 : List UInt8 := [27, 182, 0, 113, 42, 28, 27, 182, 0, 113, 164, 0, 7, 29, 167, 0, 4, 28, 61, 132, 3, 1]
abbrev dktX4_bestRow_1 : List UInt8 := dkwX4_bestRow_1 ++ dktX4_bestRow_2
def dkwX4_bestRow_0 : List UInt8 := [42, 182, 0, 96, 3, 61, 4, 62, 29, 27, 96, 4, 100, 42, 180, 0, 9, 3, 46, 163, 0, 30, 42, 29]
abbrev dktX4_bestRow_0 : List UInt8 := dkwX4_bestRow_0 ++ dktX4_bestRow_1
theorem dksX4_bestRow_0 : cX4_bestRow.data.toList.drop 0 = dktX4_bestRow_0 := by decide +kernel
theorem dksX4_bestRow_1 : cX4_bestRow.data.toList.drop 24 = dktX4_bestRow_1 := dk_seg dksX4_bestRow_0 24 rfl rfl
theorem dksX4_bestRow_2 : cX4_bestRow.data.toList.drop 46 = dktX4_bestRow_2 := dk_seg dksX4_bestRow_1 22 rfl rfl
theorem dX4_bestRow_0 : decode cX4_bestRow 0 = .ok (.aload_n 0, 1) := dk_42 (dk_at dksX4_bestRow_0 0 rfl rfl)
theorem dX4_bestRow_1 : decode cX4_bestRow 1 = .ok (.invokevirtual 96, 3) := dk_182 0 96 (dk_at dksX4_bestRow_0 1 rfl rfl)
theorem dX4_bestRow_4 : decode cX4_bestRow 4 = .ok (.iconst 0, 1) := dk_3 (dk_at dksX4_bestRow_0 4 rfl rfl)
theorem dX4_bestRow_5 : decode cX4_bestRow 5 = .ok (.istore_n 2, 1) := dk_61 (dk_at dksX4_bestRow_0 5 rfl rfl)
theorem dX4_bestRow_6 : decode cX4_bestRow 6 = .ok (.iconst 1, 1) := dk_4 (dk_at dksX4_bestRow_0 6 rfl rfl)
theorem dX4_bestRow_7 : decode cX4_bestRow 7 = .ok (.istore_n 3, 1) := dk_62 (dk_at dksX4_bestRow_0 7 rfl rfl)
theorem dX4_bestRow_8 : decode cX4_bestRow 8 = .ok (.iload_n 3, 1) := dk_29 (dk_at dksX4_bestRow_0 8 rfl rfl)
theorem dX4_bestRow_9 : decode cX4_bestRow 9 = .ok (.iload_n 1, 1) := dk_27 (dk_at dksX4_bestRow_0 9 rfl rfl)
theorem dX4_bestRow_10 : decode cX4_bestRow 10 = .ok (.iadd, 1) := dk_96 (dk_at dksX4_bestRow_0 10 rfl rfl)
theorem dX4_bestRow_11 : decode cX4_bestRow 11 = .ok (.iconst 1, 1) := dk_4 (dk_at dksX4_bestRow_0 11 rfl rfl)
theorem dX4_bestRow_12 : decode cX4_bestRow 12 = .ok (.isub, 1) := dk_100 (dk_at dksX4_bestRow_0 12 rfl rfl)
theorem dX4_bestRow_13 : decode cX4_bestRow 13 = .ok (.aload_n 0, 1) := dk_42 (dk_at dksX4_bestRow_0 13 rfl rfl)
theorem dX4_bestRow_14 : decode cX4_bestRow 14 = .ok (.getfield 9, 3) := dk_180 0 9 (dk_at dksX4_bestRow_0 14 rfl rfl)
theorem dX4_bestRow_17 : decode cX4_bestRow 17 = .ok (.iconst 0, 1) := dk_3 (dk_at dksX4_bestRow_0 17 rfl rfl)
theorem dX4_bestRow_18 : decode cX4_bestRow 18 = .ok (.iaload, 1) := dk_46 (dk_at dksX4_bestRow_0 18 rfl rfl)
theorem dX4_bestRow_19 : decode cX4_bestRow 19 = .ok (.if_icmp .gt 30, 3) := dk_163 0 30 (dk_at dksX4_bestRow_0 19 rfl rfl)
theorem dX4_bestRow_22 : decode cX4_bestRow 22 = .ok (.aload_n 0, 1) := dk_42 (dk_at dksX4_bestRow_0 22 rfl rfl)
theorem dX4_bestRow_23 : decode cX4_bestRow 23 = .ok (.iload_n 3, 1) := dk_29 (dk_at dksX4_bestRow_0 23 rfl rfl)
theorem dX4_bestRow_24 : decode cX4_bestRow 24 = .ok (.iload_n 1, 1) := dk_27 (dk_at dksX4_bestRow_1 0 rfl rfl)
theorem dX4_bestRow_25 : decode cX4_bestRow 25 = .ok (.invokevirtual 113, 3) := dk_182 0 113 (dk_at dksX4_bestRow_1 1 rfl rfl)
theorem dX4_bestRow_28 : decode cX4_bestRow 28 = .ok (.aload_n 0, 1) := dk_42 (dk_at dksX4_bestRow_1 4 rfl rfl)
theorem dX4_bestRow_29 : decode cX4_bestRow 29 = .ok (.iload_n 2, 1) := dk_28 (dk_at dksX4_bestRow_1 5 rfl rfl)
theorem dX4_bestRow_30 : decode cX4_bestRow 30 = .ok (.iload_n 1, 1) := dk_27 (dk_at dksX4_bestRow_1 6 rfl rfl)
theorem dX4_bestRow_31 : decode cX4_bestRow 31 = .ok (.invokevirtual 113, 3) := dk_182 0 113 (dk_at dksX4_bestRow_1 7 rfl rfl)
theorem dX4_bestRow_34 : decode cX4_bestRow 34 = .ok (.if_icmp .le 7, 3) := dk_164 0 7 (dk_at dksX4_bestRow_1 10 rfl rfl)
theorem dX4_bestRow_37 : decode cX4_bestRow 37 = .ok (.iload_n 3, 1) := dk_29 (dk_at dksX4_bestRow_1 13 rfl rfl)
theorem dX4_bestRow_38 : decode cX4_bestRow 38 = .ok (.goto 4, 3) := dk_167 0 4 (dk_at dksX4_bestRow_1 14 rfl rfl)
theorem dX4_bestRow_41 : decode cX4_bestRow 41 = .ok (.iload_n 2, 1) := dk_28 (dk_at dksX4_bestRow_1 17 rfl rfl)
theorem dX4_bestRow_42 : decode cX4_bestRow 42 = .ok (.istore_n 2, 1) := dk_61 (dk_at dksX4_bestRow_1 18 rfl rfl)
theorem dX4_bestRow_43 : decode cX4_bestRow 43 = .ok (.iinc 3 1, 3) := dk_132 3 1 (dk_at dksX4_bestRow_1 19 rfl rfl)
theorem dX4_bestRow_46 : decode cX4_bestRow 46 = .ok (.goto (-38), 3) := dk_167 255 218 (dk_at dksX4_bestRow_2 0 rfl rfl)
theorem dX4_bestRow_49 : decode cX4_bestRow 49 = .ok (.iload_n 2, 1) := dk_28 (dk_at dksX4_bestRow_2 3 rfl rfl)
theorem dX4_bestRow_50 : decode cX4_bestRow 50 = .ok (.ireturn, 1) := dk_172 (dk_at dksX4_bestRow_2 4 rfl rfl)
abbrev cX4_row : ByteArray := prog_10_method_53_code
def yX4_row : MethodName := ⟨RX4, "row", "(II)I"⟩
def dkwX4_row_1 : List UInt8 := [132, 4, 1, 167, 255, 235, 29, 172]
abbrev dktX4_row_1 : List UInt8 := dkwX4_row_1 ++ []
def dkwX4_row_0 : List UInt8 := [3, 62, 27, 54, 4, 21, 4, 27, 28, 96, 162, 0, 19, 29, 42, 180, 0, 21, 21, 4, 46, 96, 62]
abbrev dktX4_row_0 : List UInt8 := dkwX4_row_0 ++ dktX4_row_1
theorem dksX4_row_0 : cX4_row.data.toList.drop 0 = dktX4_row_0 := by decide +kernel
theorem dksX4_row_1 : cX4_row.data.toList.drop 23 = dktX4_row_1 := dk_seg dksX4_row_0 23 rfl rfl
theorem dX4_row_0 : decode cX4_row 0 = .ok (.iconst 0, 1) := dk_3 (dk_at dksX4_row_0 0 rfl rfl)
theorem dX4_row_1 : decode cX4_row 1 = .ok (.istore_n 3, 1) := dk_62 (dk_at dksX4_row_0 1 rfl rfl)
theorem dX4_row_2 : decode cX4_row 2 = .ok (.iload_n 1, 1) := dk_27 (dk_at dksX4_row_0 2 rfl rfl)
theorem dX4_row_3 : decode cX4_row 3 = .ok (.istore 4, 2) := dk_54 4 (dk_at dksX4_row_0 3 rfl rfl)
theorem dX4_row_5 : decode cX4_row 5 = .ok (.iload 4, 2) := dk_21 4 (dk_at dksX4_row_0 5 rfl rfl)
theorem dX4_row_7 : decode cX4_row 7 = .ok (.iload_n 1, 1) := dk_27 (dk_at dksX4_row_0 7 rfl rfl)
theorem dX4_row_8 : decode cX4_row 8 = .ok (.iload_n 2, 1) := dk_28 (dk_at dksX4_row_0 8 rfl rfl)
theorem dX4_row_9 : decode cX4_row 9 = .ok (.iadd, 1) := dk_96 (dk_at dksX4_row_0 9 rfl rfl)
theorem dX4_row_10 : decode cX4_row 10 = .ok (.if_icmp .ge 19, 3) := dk_162 0 19 (dk_at dksX4_row_0 10 rfl rfl)
theorem dX4_row_13 : decode cX4_row 13 = .ok (.iload_n 3, 1) := dk_29 (dk_at dksX4_row_0 13 rfl rfl)
theorem dX4_row_14 : decode cX4_row 14 = .ok (.aload_n 0, 1) := dk_42 (dk_at dksX4_row_0 14 rfl rfl)
theorem dX4_row_15 : decode cX4_row 15 = .ok (.getfield 21, 3) := dk_180 0 21 (dk_at dksX4_row_0 15 rfl rfl)
theorem dX4_row_18 : decode cX4_row 18 = .ok (.iload 4, 2) := dk_21 4 (dk_at dksX4_row_0 18 rfl rfl)
theorem dX4_row_20 : decode cX4_row 20 = .ok (.iaload, 1) := dk_46 (dk_at dksX4_row_0 20 rfl rfl)
theorem dX4_row_21 : decode cX4_row 21 = .ok (.iadd, 1) := dk_96 (dk_at dksX4_row_0 21 rfl rfl)
theorem dX4_row_22 : decode cX4_row 22 = .ok (.istore_n 3, 1) := dk_62 (dk_at dksX4_row_0 22 rfl rfl)
theorem dX4_row_23 : decode cX4_row 23 = .ok (.iinc 4 1, 3) := dk_132 4 1 (dk_at dksX4_row_1 0 rfl rfl)
theorem dX4_row_26 : decode cX4_row 26 = .ok (.goto (-21), 3) := dk_167 255 235 (dk_at dksX4_row_1 3 rfl rfl)
theorem dX4_row_29 : decode cX4_row 29 = .ok (.iload_n 3, 1) := dk_29 (dk_at dksX4_row_1 6 rfl rfl)
theorem dX4_row_30 : decode cX4_row 30 = .ok (.ireturn, 1) := dk_172 (dk_at dksX4_row_1 7 rfl rfl)
abbrev cX4_bestDaysByTrying : ByteArray := prog_10_method_57_code
def yX4_bestDaysByTrying : MethodName := ⟨RX4, "bestDaysByTrying", "(I)I"⟩
def dkwX4_bestDaysByTrying_0 : List UInt8 := [42, 27, 182, 0, 122, 172]
abbrev dktX4_bestDaysByTrying_0 : List UInt8 := dkwX4_bestDaysByTrying_0 ++ []
theorem dksX4_bestDaysByTrying_0 : cX4_bestDaysByTrying.data.toList.drop 0 = dktX4_bestDaysByTrying_0 := by decide +kernel
theorem dX4_bestDaysByTrying_0 : decode cX4_bestDaysByTrying 0 = .ok (.aload_n 0, 1) := dk_42 (dk_at dksX4_bestDaysByTrying_0 0 rfl rfl)
theorem dX4_bestDaysByTrying_1 : decode cX4_bestDaysByTrying 1 = .ok (.iload_n 1, 1) := dk_27 (dk_at dksX4_bestDaysByTrying_0 1 rfl rfl)
theorem dX4_bestDaysByTrying_2 : decode cX4_bestDaysByTrying 2 = .ok (.invokevirtual 122, 3) := dk_182 0 122 (dk_at dksX4_bestDaysByTrying_0 2 rfl rfl)
theorem dX4_bestDaysByTrying_5 : decode cX4_bestDaysByTrying 5 = .ok (.ireturn, 1) := dk_172 (dk_at dksX4_bestDaysByTrying_0 5 rfl rfl)
abbrev cX4_bestDaysStart : ByteArray := prog_10_method_58_code
def yX4_bestDaysStart : MethodName := ⟨RX4, "bestDaysStart", "(I)I"⟩
def dkwX4_bestDaysStart_0 : List UInt8 := [42, 27, 182, 0, 116, 153, 0, 7, 3, 167, 0, 8, 42, 27, 182, 0, 119, 172]
abbrev dktX4_bestDaysStart_0 : List UInt8 := dkwX4_bestDaysStart_0 ++ []
theorem dksX4_bestDaysStart_0 : cX4_bestDaysStart.data.toList.drop 0 = dktX4_bestDaysStart_0 := by decide +kernel
theorem dX4_bestDaysStart_0 : decode cX4_bestDaysStart 0 = .ok (.aload_n 0, 1) := dk_42 (dk_at dksX4_bestDaysStart_0 0 rfl rfl)
theorem dX4_bestDaysStart_1 : decode cX4_bestDaysStart 1 = .ok (.iload_n 1, 1) := dk_27 (dk_at dksX4_bestDaysStart_0 1 rfl rfl)
theorem dX4_bestDaysStart_2 : decode cX4_bestDaysStart 2 = .ok (.invokevirtual 116, 3) := dk_182 0 116 (dk_at dksX4_bestDaysStart_0 2 rfl rfl)
theorem dX4_bestDaysStart_5 : decode cX4_bestDaysStart 5 = .ok (.ifCond .eq 7, 3) := dk_153 0 7 (dk_at dksX4_bestDaysStart_0 5 rfl rfl)
theorem dX4_bestDaysStart_8 : decode cX4_bestDaysStart 8 = .ok (.iconst 0, 1) := dk_3 (dk_at dksX4_bestDaysStart_0 8 rfl rfl)
theorem dX4_bestDaysStart_9 : decode cX4_bestDaysStart 9 = .ok (.goto 8, 3) := dk_167 0 8 (dk_at dksX4_bestDaysStart_0 9 rfl rfl)
theorem dX4_bestDaysStart_12 : decode cX4_bestDaysStart 12 = .ok (.aload_n 0, 1) := dk_42 (dk_at dksX4_bestDaysStart_0 12 rfl rfl)
theorem dX4_bestDaysStart_13 : decode cX4_bestDaysStart 13 = .ok (.iload_n 1, 1) := dk_27 (dk_at dksX4_bestDaysStart_0 13 rfl rfl)
theorem dX4_bestDaysStart_14 : decode cX4_bestDaysStart 14 = .ok (.invokevirtual 119, 3) := dk_182 0 119 (dk_at dksX4_bestDaysStart_0 14 rfl rfl)
theorem dX4_bestDaysStart_17 : decode cX4_bestDaysStart 17 = .ok (.ireturn, 1) := dk_172 (dk_at dksX4_bestDaysStart_0 17 rfl rfl)
abbrev cX4_bestEffort : ByteArray := prog_10_method_63_code
def yX4_bestEffort : MethodName := ⟨RX4, "bestEffort", "(I)I"⟩
def dkwX4_bestEffort_0 : List UInt8 := [42, 27, 182, 0, 137, 153, 0, 7, 3, 167, 0, 13, 42, 42, 27, 182, 0, 134, 27, 182, 0, 131, 172]
abbrev dktX4_bestEffort_0 : List UInt8 := dkwX4_bestEffort_0 ++ []
theorem dksX4_bestEffort_0 : cX4_bestEffort.data.toList.drop 0 = dktX4_bestEffort_0 := by decide +kernel
theorem dX4_bestEffort_0 : decode cX4_bestEffort 0 = .ok (.aload_n 0, 1) := dk_42 (dk_at dksX4_bestEffort_0 0 rfl rfl)
theorem dX4_bestEffort_1 : decode cX4_bestEffort 1 = .ok (.iload_n 1, 1) := dk_27 (dk_at dksX4_bestEffort_0 1 rfl rfl)
theorem dX4_bestEffort_2 : decode cX4_bestEffort 2 = .ok (.invokevirtual 137, 3) := dk_182 0 137 (dk_at dksX4_bestEffort_0 2 rfl rfl)
theorem dX4_bestEffort_5 : decode cX4_bestEffort 5 = .ok (.ifCond .eq 7, 3) := dk_153 0 7 (dk_at dksX4_bestEffort_0 5 rfl rfl)
theorem dX4_bestEffort_8 : decode cX4_bestEffort 8 = .ok (.iconst 0, 1) := dk_3 (dk_at dksX4_bestEffort_0 8 rfl rfl)
theorem dX4_bestEffort_9 : decode cX4_bestEffort 9 = .ok (.goto 13, 3) := dk_167 0 13 (dk_at dksX4_bestEffort_0 9 rfl rfl)
theorem dX4_bestEffort_12 : decode cX4_bestEffort 12 = .ok (.aload_n 0, 1) := dk_42 (dk_at dksX4_bestEffort_0 12 rfl rfl)
theorem dX4_bestEffort_13 : decode cX4_bestEffort 13 = .ok (.aload_n 0, 1) := dk_42 (dk_at dksX4_bestEffort_0 13 rfl rfl)
theorem dX4_bestEffort_14 : decode cX4_bestEffort 14 = .ok (.iload_n 1, 1) := dk_27 (dk_at dksX4_bestEffort_0 14 rfl rfl)
theorem dX4_bestEffort_15 : decode cX4_bestEffort 15 = .ok (.invokevirtual 134, 3) := dk_182 0 134 (dk_at dksX4_bestEffort_0 15 rfl rfl)
theorem dX4_bestEffort_18 : decode cX4_bestEffort 18 = .ok (.iload_n 1, 1) := dk_27 (dk_at dksX4_bestEffort_0 18 rfl rfl)
theorem dX4_bestEffort_19 : decode cX4_bestEffort 19 = .ok (.invokevirtual 131, 3) := dk_182 0 131 (dk_at dksX4_bestEffort_0 19 rfl rfl)
theorem dX4_bestEffort_22 : decode cX4_bestEffort 22 = .ok (.ireturn, 1) := dk_172 (dk_at dksX4_bestEffort_0 22 rfl rfl)
abbrev cX4_isNoEffort : ByteArray := prog_10_method_62_code
def yX4_isNoEffort : MethodName := ⟨RX4, "isNoEffort", "(I)Z"⟩
def dkwX4_isNoEffort_2 : List UInt8 := [167, 0, 4, 3, 172]
abbrev dktX4_isNoEffort_2 : List UInt8 := dkwX4_isNoEffort_2 ++ []
def dkwX4_isNoEffort_1 : List UInt8 := [42, 42, 27, 182, 0, 134, 156, 0, 7, 4, 167, 0, 4, 3, 5, 182, 0, 51, 153, 0, 7, 4]
abbrev dktX4_isNoEffort_1 : List UInt8 := dkwX4_isNoEffort_1 ++ dktX4_isNoEffort_2
def dkwX4_isNoEffort_0 : List UInt8 := [42, 27, 4, 17, 0, 240, 184, 0, 47, 154, 0, 7, 4, 167, 0, 4, 3, 4, 182, 0, 51, 154, 0, 24]
abbrev dktX4_isNoEffort_0 : List UInt8 := dkwX4_isNoEffort_0 ++ dktX4_isNoEffort_1
theorem dksX4_isNoEffort_0 : cX4_isNoEffort.data.toList.drop 0 = dktX4_isNoEffort_0 := by decide +kernel
theorem dksX4_isNoEffort_1 : cX4_isNoEffort.data.toList.drop 24 = dktX4_isNoEffort_1 := dk_seg dksX4_isNoEffort_0 24 rfl rfl
theorem dksX4_isNoEffort_2 : cX4_isNoEffort.data.toList.drop 46 = dktX4_isNoEffort_2 := dk_seg dksX4_isNoEffort_1 22 rfl rfl
theorem dX4_isNoEffort_0 : decode cX4_isNoEffort 0 = .ok (.aload_n 0, 1) := dk_42 (dk_at dksX4_isNoEffort_0 0 rfl rfl)
theorem dX4_isNoEffort_1 : decode cX4_isNoEffort 1 = .ok (.iload_n 1, 1) := dk_27 (dk_at dksX4_isNoEffort_0 1 rfl rfl)
theorem dX4_isNoEffort_2 : decode cX4_isNoEffort 2 = .ok (.iconst 1, 1) := dk_4 (dk_at dksX4_isNoEffort_0 2 rfl rfl)
theorem dX4_isNoEffort_3 : decode cX4_isNoEffort 3 = .ok (.sipush 240, 3) := dk_17 0 240 (dk_at dksX4_isNoEffort_0 3 rfl rfl)
theorem dX4_isNoEffort_6 : decode cX4_isNoEffort 6 = .ok (.invokestatic 47, 3) := dk_184 0 47 (dk_at dksX4_isNoEffort_0 6 rfl rfl)
theorem dX4_isNoEffort_9 : decode cX4_isNoEffort 9 = .ok (.ifCond .ne 7, 3) := dk_154 0 7 (dk_at dksX4_isNoEffort_0 9 rfl rfl)
theorem dX4_isNoEffort_12 : decode cX4_isNoEffort 12 = .ok (.iconst 1, 1) := dk_4 (dk_at dksX4_isNoEffort_0 12 rfl rfl)
theorem dX4_isNoEffort_13 : decode cX4_isNoEffort 13 = .ok (.goto 4, 3) := dk_167 0 4 (dk_at dksX4_isNoEffort_0 13 rfl rfl)
theorem dX4_isNoEffort_16 : decode cX4_isNoEffort 16 = .ok (.iconst 0, 1) := dk_3 (dk_at dksX4_isNoEffort_0 16 rfl rfl)
theorem dX4_isNoEffort_17 : decode cX4_isNoEffort 17 = .ok (.iconst 1, 1) := dk_4 (dk_at dksX4_isNoEffort_0 17 rfl rfl)
theorem dX4_isNoEffort_18 : decode cX4_isNoEffort 18 = .ok (.invokevirtual 51, 3) := dk_182 0 51 (dk_at dksX4_isNoEffort_0 18 rfl rfl)
theorem dX4_isNoEffort_21 : decode cX4_isNoEffort 21 = .ok (.ifCond .ne 24, 3) := dk_154 0 24 (dk_at dksX4_isNoEffort_0 21 rfl rfl)
theorem dX4_isNoEffort_24 : decode cX4_isNoEffort 24 = .ok (.aload_n 0, 1) := dk_42 (dk_at dksX4_isNoEffort_1 0 rfl rfl)
theorem dX4_isNoEffort_25 : decode cX4_isNoEffort 25 = .ok (.aload_n 0, 1) := dk_42 (dk_at dksX4_isNoEffort_1 1 rfl rfl)
theorem dX4_isNoEffort_26 : decode cX4_isNoEffort 26 = .ok (.iload_n 1, 1) := dk_27 (dk_at dksX4_isNoEffort_1 2 rfl rfl)
theorem dX4_isNoEffort_27 : decode cX4_isNoEffort 27 = .ok (.invokevirtual 134, 3) := dk_182 0 134 (dk_at dksX4_isNoEffort_1 3 rfl rfl)
theorem dX4_isNoEffort_30 : decode cX4_isNoEffort 30 = .ok (.ifCond .ge 7, 3) := dk_156 0 7 (dk_at dksX4_isNoEffort_1 6 rfl rfl)
theorem dX4_isNoEffort_33 : decode cX4_isNoEffort 33 = .ok (.iconst 1, 1) := dk_4 (dk_at dksX4_isNoEffort_1 9 rfl rfl)
theorem dX4_isNoEffort_34 : decode cX4_isNoEffort 34 = .ok (.goto 4, 3) := dk_167 0 4 (dk_at dksX4_isNoEffort_1 10 rfl rfl)
theorem dX4_isNoEffort_37 : decode cX4_isNoEffort 37 = .ok (.iconst 0, 1) := dk_3 (dk_at dksX4_isNoEffort_1 13 rfl rfl)
theorem dX4_isNoEffort_38 : decode cX4_isNoEffort 38 = .ok (.iconst 2, 1) := dk_5 (dk_at dksX4_isNoEffort_1 14 rfl rfl)
theorem dX4_isNoEffort_39 : decode cX4_isNoEffort 39 = .ok (.invokevirtual 51, 3) := dk_182 0 51 (dk_at dksX4_isNoEffort_1 15 rfl rfl)
theorem dX4_isNoEffort_42 : decode cX4_isNoEffort 42 = .ok (.ifCond .eq 7, 3) := dk_153 0 7 (dk_at dksX4_isNoEffort_1 18 rfl rfl)
theorem dX4_isNoEffort_45 : decode cX4_isNoEffort 45 = .ok (.iconst 1, 1) := dk_4 (dk_at dksX4_isNoEffort_1 21 rfl rfl)
theorem dX4_isNoEffort_46 : decode cX4_isNoEffort 46 = .ok (.goto 4, 3) := dk_167 0 4 (dk_at dksX4_isNoEffort_2 0 rfl rfl)
theorem dX4_isNoEffort_49 : decode cX4_isNoEffort 49 = .ok (.iconst 0, 1) := dk_3 (dk_at dksX4_isNoEffort_2 3 rfl rfl)
theorem dX4_isNoEffort_50 : decode cX4_isNoEffort 50 = .ok (.ireturn, 1) := dk_172 (dk_at dksX4_isNoEffort_2 4 rfl rfl)
abbrev cX4_strongest : ByteArray := prog_10_method_61_code
def yX4_strongest : MethodName := ⟨RX4, "strongest", "(I)I"⟩
def dkwX4_strongest_2 : List UInt8 := [164, 0, 8, 21, 4, 167, 0, 4, 28, 61, 132, 3, 1, 167, 255, 200, 28, 172]
abbrev dktX4_strongest_2 : List UInt8 := dkwX4_strongest_2 ++ []
def dkwX4_strongest_1 : List UInt8 := [27, 182, 0, 131, 54, 5, 21, 5, 155, 0, 23, 28, 155, 0, 14, 21, 5, 42, 28, 27, 182, 0, 131]
abbrev dktX4_strongest_1 : List UInt8 := dkwX4_strongest_1 ++ dktX4_strongest_2
def dkwX4_strongest_0 : List UInt8 := [2, 61, 3, 62, 29, 42, 180, 0, 9, 5, 46, 162, 0, 52, 42, 29, 182, 0, 93, 54, 4, 42, 21, 4]
abbrev dktX4_strongest_0 : List UInt8 := dkwX4_strongest_0 ++ dktX4_strongest_1
theorem dksX4_strongest_0 : cX4_strongest.data.toList.drop 0 = dktX4_strongest_0 := by decide +kernel
theorem dksX4_strongest_1 : cX4_strongest.data.toList.drop 24 = dktX4_strongest_1 := dk_seg dksX4_strongest_0 24 rfl rfl
theorem dksX4_strongest_2 : cX4_strongest.data.toList.drop 47 = dktX4_strongest_2 := dk_seg dksX4_strongest_1 23 rfl rfl
theorem dX4_strongest_0 : decode cX4_strongest 0 = .ok (.iconst (-1), 1) := dk_2 (dk_at dksX4_strongest_0 0 rfl rfl)
theorem dX4_strongest_1 : decode cX4_strongest 1 = .ok (.istore_n 2, 1) := dk_61 (dk_at dksX4_strongest_0 1 rfl rfl)
theorem dX4_strongest_2 : decode cX4_strongest 2 = .ok (.iconst 0, 1) := dk_3 (dk_at dksX4_strongest_0 2 rfl rfl)
theorem dX4_strongest_3 : decode cX4_strongest 3 = .ok (.istore_n 3, 1) := dk_62 (dk_at dksX4_strongest_0 3 rfl rfl)
theorem dX4_strongest_4 : decode cX4_strongest 4 = .ok (.iload_n 3, 1) := dk_29 (dk_at dksX4_strongest_0 4 rfl rfl)
theorem dX4_strongest_5 : decode cX4_strongest 5 = .ok (.aload_n 0, 1) := dk_42 (dk_at dksX4_strongest_0 5 rfl rfl)
theorem dX4_strongest_6 : decode cX4_strongest 6 = .ok (.getfield 9, 3) := dk_180 0 9 (dk_at dksX4_strongest_0 6 rfl rfl)
theorem dX4_strongest_9 : decode cX4_strongest 9 = .ok (.iconst 2, 1) := dk_5 (dk_at dksX4_strongest_0 9 rfl rfl)
theorem dX4_strongest_10 : decode cX4_strongest 10 = .ok (.iaload, 1) := dk_46 (dk_at dksX4_strongest_0 10 rfl rfl)
theorem dX4_strongest_11 : decode cX4_strongest 11 = .ok (.if_icmp .ge 52, 3) := dk_162 0 52 (dk_at dksX4_strongest_0 11 rfl rfl)
theorem dX4_strongest_14 : decode cX4_strongest 14 = .ok (.aload_n 0, 1) := dk_42 (dk_at dksX4_strongest_0 14 rfl rfl)
theorem dX4_strongest_15 : decode cX4_strongest 15 = .ok (.iload_n 3, 1) := dk_29 (dk_at dksX4_strongest_0 15 rfl rfl)
theorem dX4_strongest_16 : decode cX4_strongest 16 = .ok (.invokevirtual 93, 3) := dk_182 0 93 (dk_at dksX4_strongest_0 16 rfl rfl)
theorem dX4_strongest_19 : decode cX4_strongest 19 = .ok (.istore 4, 2) := dk_54 4 (dk_at dksX4_strongest_0 19 rfl rfl)
theorem dX4_strongest_21 : decode cX4_strongest 21 = .ok (.aload_n 0, 1) := dk_42 (dk_at dksX4_strongest_0 21 rfl rfl)
theorem dX4_strongest_22 : decode cX4_strongest 22 = .ok (.iload 4, 2) := dk_21 4 (dk_at dksX4_strongest_0 22 rfl rfl)
theorem dX4_strongest_24 : decode cX4_strongest 24 = .ok (.iload_n 1, 1) := dk_27 (dk_at dksX4_strongest_1 0 rfl rfl)
theorem dX4_strongest_25 : decode cX4_strongest 25 = .ok (.invokevirtual 131, 3) := dk_182 0 131 (dk_at dksX4_strongest_1 1 rfl rfl)
theorem dX4_strongest_28 : decode cX4_strongest 28 = .ok (.istore 5, 2) := dk_54 5 (dk_at dksX4_strongest_1 4 rfl rfl)
theorem dX4_strongest_30 : decode cX4_strongest 30 = .ok (.iload 5, 2) := dk_21 5 (dk_at dksX4_strongest_1 6 rfl rfl)
theorem dX4_strongest_32 : decode cX4_strongest 32 = .ok (.ifCond .lt 23, 3) := dk_155 0 23 (dk_at dksX4_strongest_1 8 rfl rfl)
theorem dX4_strongest_35 : decode cX4_strongest 35 = .ok (.iload_n 2, 1) := dk_28 (dk_at dksX4_strongest_1 11 rfl rfl)
theorem dX4_strongest_36 : decode cX4_strongest 36 = .ok (.ifCond .lt 14, 3) := dk_155 0 14 (dk_at dksX4_strongest_1 12 rfl rfl)
theorem dX4_strongest_39 : decode cX4_strongest 39 = .ok (.iload 5, 2) := dk_21 5 (dk_at dksX4_strongest_1 15 rfl rfl)
theorem dX4_strongest_41 : decode cX4_strongest 41 = .ok (.aload_n 0, 1) := dk_42 (dk_at dksX4_strongest_1 17 rfl rfl)
theorem dX4_strongest_42 : decode cX4_strongest 42 = .ok (.iload_n 2, 1) := dk_28 (dk_at dksX4_strongest_1 18 rfl rfl)
theorem dX4_strongest_43 : decode cX4_strongest 43 = .ok (.iload_n 1, 1) := dk_27 (dk_at dksX4_strongest_1 19 rfl rfl)
theorem dX4_strongest_44 : decode cX4_strongest 44 = .ok (.invokevirtual 131, 3) := dk_182 0 131 (dk_at dksX4_strongest_1 20 rfl rfl)
theorem dX4_strongest_47 : decode cX4_strongest 47 = .ok (.if_icmp .le 8, 3) := dk_164 0 8 (dk_at dksX4_strongest_2 0 rfl rfl)
theorem dX4_strongest_50 : decode cX4_strongest 50 = .ok (.iload 4, 2) := dk_21 4 (dk_at dksX4_strongest_2 3 rfl rfl)
theorem dX4_strongest_52 : decode cX4_strongest 52 = .ok (.goto 4, 3) := dk_167 0 4 (dk_at dksX4_strongest_2 5 rfl rfl)
theorem dX4_strongest_55 : decode cX4_strongest 55 = .ok (.iload_n 2, 1) := dk_28 (dk_at dksX4_strongest_2 8 rfl rfl)
theorem dX4_strongest_56 : decode cX4_strongest 56 = .ok (.istore_n 2, 1) := dk_61 (dk_at dksX4_strongest_2 9 rfl rfl)
theorem dX4_strongest_57 : decode cX4_strongest 57 = .ok (.iinc 3 1, 3) := dk_132 3 1 (dk_at dksX4_strongest_2 10 rfl rfl)
theorem dX4_strongest_60 : decode cX4_strongest 60 = .ok (.goto (-56), 3) := dk_167 255 200 (dk_at dksX4_strongest_2 13 rfl rfl)
theorem dX4_strongest_63 : decode cX4_strongest 63 = .ok (.iload_n 2, 1) := dk_28 (dk_at dksX4_strongest_2 16 rfl rfl)
theorem dX4_strongest_64 : decode cX4_strongest 64 = .ok (.ireturn, 1) := dk_172 (dk_at dksX4_strongest_2 17 rfl rfl)
abbrev cX4_effort : ByteArray := prog_10_method_60_code
def yX4_effort : MethodName := ⟨RX4, "effort", "(II)I"⟩
def dkwX4_effort_3 : List UInt8 := [167, 0, 5, 21, 4, 54, 4, 132, 6, 1, 167, 255, 193, 21, 4, 172]
abbrev dktX4_effort_3 : List UInt8 := dkwX4_effort_3 ++ []
def dkwX4_effort_2 : List UInt8 := [182, 0, 125, 100, 96, 54, 5, 21, 6, 28, 4, 100, 161, 0, 13, 21, 4, 21, 5, 184, 0, 128]
abbrev dktX4_effort_2 : List UInt8 := dkwX4_effort_2 ++ dktX4_effort_3
def dkwX4_effort_1 : List UInt8 := [27, 21, 6, 182, 0, 125, 21, 6, 28, 162, 0, 7, 3, 167, 0, 12, 42, 27, 21, 6, 28, 100]
abbrev dktX4_effort_1 : List UInt8 := dkwX4_effort_1 ++ dktX4_effort_2
def dkwX4_effort_0 : List UInt8 := [42, 27, 182, 0, 87, 62, 2, 54, 4, 3, 54, 5, 3, 54, 6, 21, 6, 29, 162, 0, 63, 21, 5, 42]
abbrev dktX4_effort_0 : List UInt8 := dkwX4_effort_0 ++ dktX4_effort_1
theorem dksX4_effort_0 : cX4_effort.data.toList.drop 0 = dktX4_effort_0 := by decide +kernel
theorem dksX4_effort_1 : cX4_effort.data.toList.drop 24 = dktX4_effort_1 := dk_seg dksX4_effort_0 24 rfl rfl
theorem dksX4_effort_2 : cX4_effort.data.toList.drop 46 = dktX4_effort_2 := dk_seg dksX4_effort_1 22 rfl rfl
theorem dksX4_effort_3 : cX4_effort.data.toList.drop 68 = dktX4_effort_3 := dk_seg dksX4_effort_2 22 rfl rfl
theorem dX4_effort_0 : decode cX4_effort 0 = .ok (.aload_n 0, 1) := dk_42 (dk_at dksX4_effort_0 0 rfl rfl)
theorem dX4_effort_1 : decode cX4_effort 1 = .ok (.iload_n 1, 1) := dk_27 (dk_at dksX4_effort_0 1 rfl rfl)
theorem dX4_effort_2 : decode cX4_effort 2 = .ok (.invokevirtual 87, 3) := dk_182 0 87 (dk_at dksX4_effort_0 2 rfl rfl)
theorem dX4_effort_5 : decode cX4_effort 5 = .ok (.istore_n 3, 1) := dk_62 (dk_at dksX4_effort_0 5 rfl rfl)
theorem dX4_effort_6 : decode cX4_effort 6 = .ok (.iconst (-1), 1) := dk_2 (dk_at dksX4_effort_0 6 rfl rfl)
theorem dX4_effort_7 : decode cX4_effort 7 = .ok (.istore 4, 2) := dk_54 4 (dk_at dksX4_effort_0 7 rfl rfl)
theorem dX4_effort_9 : decode cX4_effort 9 = .ok (.iconst 0, 1) := dk_3 (dk_at dksX4_effort_0 9 rfl rfl)
theorem dX4_effort_10 : decode cX4_effort 10 = .ok (.istore 5, 2) := dk_54 5 (dk_at dksX4_effort_0 10 rfl rfl)
theorem dX4_effort_12 : decode cX4_effort 12 = .ok (.iconst 0, 1) := dk_3 (dk_at dksX4_effort_0 12 rfl rfl)
theorem dX4_effort_13 : decode cX4_effort 13 = .ok (.istore 6, 2) := dk_54 6 (dk_at dksX4_effort_0 13 rfl rfl)
theorem dX4_effort_15 : decode cX4_effort 15 = .ok (.iload 6, 2) := dk_21 6 (dk_at dksX4_effort_0 15 rfl rfl)
theorem dX4_effort_17 : decode cX4_effort 17 = .ok (.iload_n 3, 1) := dk_29 (dk_at dksX4_effort_0 17 rfl rfl)
theorem dX4_effort_18 : decode cX4_effort 18 = .ok (.if_icmp .ge 63, 3) := dk_162 0 63 (dk_at dksX4_effort_0 18 rfl rfl)
theorem dX4_effort_21 : decode cX4_effort 21 = .ok (.iload 5, 2) := dk_21 5 (dk_at dksX4_effort_0 21 rfl rfl)
theorem dX4_effort_23 : decode cX4_effort 23 = .ok (.aload_n 0, 1) := dk_42 (dk_at dksX4_effort_0 23 rfl rfl)
theorem dX4_effort_24 : decode cX4_effort 24 = .ok (.iload_n 1, 1) := dk_27 (dk_at dksX4_effort_1 0 rfl rfl)
theorem dX4_effort_25 : decode cX4_effort 25 = .ok (.iload 6, 2) := dk_21 6 (dk_at dksX4_effort_1 1 rfl rfl)
theorem dX4_effort_27 : decode cX4_effort 27 = .ok (.invokevirtual 125, 3) := dk_182 0 125 (dk_at dksX4_effort_1 3 rfl rfl)
theorem dX4_effort_30 : decode cX4_effort 30 = .ok (.iload 6, 2) := dk_21 6 (dk_at dksX4_effort_1 6 rfl rfl)
theorem dX4_effort_32 : decode cX4_effort 32 = .ok (.iload_n 2, 1) := dk_28 (dk_at dksX4_effort_1 8 rfl rfl)
theorem dX4_effort_33 : decode cX4_effort 33 = .ok (.if_icmp .ge 7, 3) := dk_162 0 7 (dk_at dksX4_effort_1 9 rfl rfl)
theorem dX4_effort_36 : decode cX4_effort 36 = .ok (.iconst 0, 1) := dk_3 (dk_at dksX4_effort_1 12 rfl rfl)
theorem dX4_effort_37 : decode cX4_effort 37 = .ok (.goto 12, 3) := dk_167 0 12 (dk_at dksX4_effort_1 13 rfl rfl)
theorem dX4_effort_40 : decode cX4_effort 40 = .ok (.aload_n 0, 1) := dk_42 (dk_at dksX4_effort_1 16 rfl rfl)
theorem dX4_effort_41 : decode cX4_effort 41 = .ok (.iload_n 1, 1) := dk_27 (dk_at dksX4_effort_1 17 rfl rfl)
theorem dX4_effort_42 : decode cX4_effort 42 = .ok (.iload 6, 2) := dk_21 6 (dk_at dksX4_effort_1 18 rfl rfl)
theorem dX4_effort_44 : decode cX4_effort 44 = .ok (.iload_n 2, 1) := dk_28 (dk_at dksX4_effort_1 20 rfl rfl)
theorem dX4_effort_45 : decode cX4_effort 45 = .ok (.isub, 1) := dk_100 (dk_at dksX4_effort_1 21 rfl rfl)
theorem dX4_effort_46 : decode cX4_effort 46 = .ok (.invokevirtual 125, 3) := dk_182 0 125 (dk_at dksX4_effort_2 0 rfl rfl)
theorem dX4_effort_49 : decode cX4_effort 49 = .ok (.isub, 1) := dk_100 (dk_at dksX4_effort_2 3 rfl rfl)
theorem dX4_effort_50 : decode cX4_effort 50 = .ok (.iadd, 1) := dk_96 (dk_at dksX4_effort_2 4 rfl rfl)
theorem dX4_effort_51 : decode cX4_effort 51 = .ok (.istore 5, 2) := dk_54 5 (dk_at dksX4_effort_2 5 rfl rfl)
theorem dX4_effort_53 : decode cX4_effort 53 = .ok (.iload 6, 2) := dk_21 6 (dk_at dksX4_effort_2 7 rfl rfl)
theorem dX4_effort_55 : decode cX4_effort 55 = .ok (.iload_n 2, 1) := dk_28 (dk_at dksX4_effort_2 9 rfl rfl)
theorem dX4_effort_56 : decode cX4_effort 56 = .ok (.iconst 1, 1) := dk_4 (dk_at dksX4_effort_2 10 rfl rfl)
theorem dX4_effort_57 : decode cX4_effort 57 = .ok (.isub, 1) := dk_100 (dk_at dksX4_effort_2 11 rfl rfl)
theorem dX4_effort_58 : decode cX4_effort 58 = .ok (.if_icmp .lt 13, 3) := dk_161 0 13 (dk_at dksX4_effort_2 12 rfl rfl)
theorem dX4_effort_61 : decode cX4_effort 61 = .ok (.iload 4, 2) := dk_21 4 (dk_at dksX4_effort_2 15 rfl rfl)
theorem dX4_effort_63 : decode cX4_effort 63 = .ok (.iload 5, 2) := dk_21 5 (dk_at dksX4_effort_2 17 rfl rfl)
theorem dX4_effort_65 : decode cX4_effort 65 = .ok (.invokestatic 128, 3) := dk_184 0 128 (dk_at dksX4_effort_2 19 rfl rfl)
theorem dX4_effort_68 : decode cX4_effort 68 = .ok (.goto 5, 3) := dk_167 0 5 (dk_at dksX4_effort_3 0 rfl rfl)
theorem dX4_effort_71 : decode cX4_effort 71 = .ok (.iload 4, 2) := dk_21 4 (dk_at dksX4_effort_3 3 rfl rfl)
theorem dX4_effort_73 : decode cX4_effort 73 = .ok (.istore 4, 2) := dk_54 4 (dk_at dksX4_effort_3 5 rfl rfl)
theorem dX4_effort_75 : decode cX4_effort 75 = .ok (.iinc 6 1, 3) := dk_132 6 1 (dk_at dksX4_effort_3 7 rfl rfl)
theorem dX4_effort_78 : decode cX4_effort 78 = .ok (.goto (-63), 3) := dk_167 255 193 (dk_at dksX4_effort_3 10 rfl rfl)
theorem dX4_effort_81 : decode cX4_effort 81 = .ok (.iload 4, 2) := dk_21 4 (dk_at dksX4_effort_3 13 rfl rfl)
theorem dX4_effort_83 : decode cX4_effort 83 = .ok (.ireturn, 1) := dk_172 (dk_at dksX4_effort_3 15 rfl rfl)
abbrev cX4_intensity : ByteArray := prog_10_method_59_code
def yX4_intensity : MethodName := ⟨RX4, "intensity", "(II)I"⟩
def dkwX4_intensity_2 : List UInt8 := [42, 180, 0, 9, 42, 27, 182, 0, 75, 6, 96, 16, 8, 96, 21, 4, 96, 46, 172]
abbrev dktX4_intensity_2 : List UInt8 := dkwX4_intensity_2 ++ []
def dkwX4_intensity_1 : List UInt8 := [29, 42, 180, 0, 9, 42, 27, 182, 0, 75, 6, 96, 21, 4, 96, 46, 100, 62, 132, 4, 1, 167, 255, 216]
abbrev dktX4_intensity_1 : List UInt8 := dkwX4_intensity_1 ++ dktX4_intensity_2
def dkwX4_intensity_0 : List UInt8 := [28, 62, 3, 54, 4, 29, 42, 180, 0, 9, 42, 27, 182, 0, 75, 6, 96, 21, 4, 96, 46, 161, 0, 27]
abbrev dktX4_intensity_0 : List UInt8 := dkwX4_intensity_0 ++ dktX4_intensity_1
theorem dksX4_intensity_0 : cX4_intensity.data.toList.drop 0 = dktX4_intensity_0 := by decide +kernel
theorem dksX4_intensity_1 : cX4_intensity.data.toList.drop 24 = dktX4_intensity_1 := dk_seg dksX4_intensity_0 24 rfl rfl
theorem dksX4_intensity_2 : cX4_intensity.data.toList.drop 48 = dktX4_intensity_2 := dk_seg dksX4_intensity_1 24 rfl rfl
theorem dX4_intensity_0 : decode cX4_intensity 0 = .ok (.iload_n 2, 1) := dk_28 (dk_at dksX4_intensity_0 0 rfl rfl)
theorem dX4_intensity_1 : decode cX4_intensity 1 = .ok (.istore_n 3, 1) := dk_62 (dk_at dksX4_intensity_0 1 rfl rfl)
theorem dX4_intensity_2 : decode cX4_intensity 2 = .ok (.iconst 0, 1) := dk_3 (dk_at dksX4_intensity_0 2 rfl rfl)
theorem dX4_intensity_3 : decode cX4_intensity 3 = .ok (.istore 4, 2) := dk_54 4 (dk_at dksX4_intensity_0 3 rfl rfl)
theorem dX4_intensity_5 : decode cX4_intensity 5 = .ok (.iload_n 3, 1) := dk_29 (dk_at dksX4_intensity_0 5 rfl rfl)
theorem dX4_intensity_6 : decode cX4_intensity 6 = .ok (.aload_n 0, 1) := dk_42 (dk_at dksX4_intensity_0 6 rfl rfl)
theorem dX4_intensity_7 : decode cX4_intensity 7 = .ok (.getfield 9, 3) := dk_180 0 9 (dk_at dksX4_intensity_0 7 rfl rfl)
theorem dX4_intensity_10 : decode cX4_intensity 10 = .ok (.aload_n 0, 1) := dk_42 (dk_at dksX4_intensity_0 10 rfl rfl)
theorem dX4_intensity_11 : decode cX4_intensity 11 = .ok (.iload_n 1, 1) := dk_27 (dk_at dksX4_intensity_0 11 rfl rfl)
theorem dX4_intensity_12 : decode cX4_intensity 12 = .ok (.invokevirtual 75, 3) := dk_182 0 75 (dk_at dksX4_intensity_0 12 rfl rfl)
theorem dX4_intensity_15 : decode cX4_intensity 15 = .ok (.iconst 3, 1) := dk_6 (dk_at dksX4_intensity_0 15 rfl rfl)
theorem dX4_intensity_16 : decode cX4_intensity 16 = .ok (.iadd, 1) := dk_96 (dk_at dksX4_intensity_0 16 rfl rfl)
theorem dX4_intensity_17 : decode cX4_intensity 17 = .ok (.iload 4, 2) := dk_21 4 (dk_at dksX4_intensity_0 17 rfl rfl)
theorem dX4_intensity_19 : decode cX4_intensity 19 = .ok (.iadd, 1) := dk_96 (dk_at dksX4_intensity_0 19 rfl rfl)
theorem dX4_intensity_20 : decode cX4_intensity 20 = .ok (.iaload, 1) := dk_46 (dk_at dksX4_intensity_0 20 rfl rfl)
theorem dX4_intensity_21 : decode cX4_intensity 21 = .ok (.if_icmp .lt 27, 3) := dk_161 0 27 (dk_at dksX4_intensity_0 21 rfl rfl)
theorem dX4_intensity_24 : decode cX4_intensity 24 = .ok (.iload_n 3, 1) := dk_29 (dk_at dksX4_intensity_1 0 rfl rfl)
theorem dX4_intensity_25 : decode cX4_intensity 25 = .ok (.aload_n 0, 1) := dk_42 (dk_at dksX4_intensity_1 1 rfl rfl)
theorem dX4_intensity_26 : decode cX4_intensity 26 = .ok (.getfield 9, 3) := dk_180 0 9 (dk_at dksX4_intensity_1 2 rfl rfl)
theorem dX4_intensity_29 : decode cX4_intensity 29 = .ok (.aload_n 0, 1) := dk_42 (dk_at dksX4_intensity_1 5 rfl rfl)
theorem dX4_intensity_30 : decode cX4_intensity 30 = .ok (.iload_n 1, 1) := dk_27 (dk_at dksX4_intensity_1 6 rfl rfl)
theorem dX4_intensity_31 : decode cX4_intensity 31 = .ok (.invokevirtual 75, 3) := dk_182 0 75 (dk_at dksX4_intensity_1 7 rfl rfl)
theorem dX4_intensity_34 : decode cX4_intensity 34 = .ok (.iconst 3, 1) := dk_6 (dk_at dksX4_intensity_1 10 rfl rfl)
theorem dX4_intensity_35 : decode cX4_intensity 35 = .ok (.iadd, 1) := dk_96 (dk_at dksX4_intensity_1 11 rfl rfl)
theorem dX4_intensity_36 : decode cX4_intensity 36 = .ok (.iload 4, 2) := dk_21 4 (dk_at dksX4_intensity_1 12 rfl rfl)
theorem dX4_intensity_38 : decode cX4_intensity 38 = .ok (.iadd, 1) := dk_96 (dk_at dksX4_intensity_1 14 rfl rfl)
theorem dX4_intensity_39 : decode cX4_intensity 39 = .ok (.iaload, 1) := dk_46 (dk_at dksX4_intensity_1 15 rfl rfl)
theorem dX4_intensity_40 : decode cX4_intensity 40 = .ok (.isub, 1) := dk_100 (dk_at dksX4_intensity_1 16 rfl rfl)
theorem dX4_intensity_41 : decode cX4_intensity 41 = .ok (.istore_n 3, 1) := dk_62 (dk_at dksX4_intensity_1 17 rfl rfl)
theorem dX4_intensity_42 : decode cX4_intensity 42 = .ok (.iinc 4 1, 3) := dk_132 4 1 (dk_at dksX4_intensity_1 18 rfl rfl)
theorem dX4_intensity_45 : decode cX4_intensity 45 = .ok (.goto (-40), 3) := dk_167 255 216 (dk_at dksX4_intensity_1 21 rfl rfl)
theorem dX4_intensity_48 : decode cX4_intensity 48 = .ok (.aload_n 0, 1) := dk_42 (dk_at dksX4_intensity_2 0 rfl rfl)
theorem dX4_intensity_49 : decode cX4_intensity 49 = .ok (.getfield 9, 3) := dk_180 0 9 (dk_at dksX4_intensity_2 1 rfl rfl)
theorem dX4_intensity_52 : decode cX4_intensity 52 = .ok (.aload_n 0, 1) := dk_42 (dk_at dksX4_intensity_2 4 rfl rfl)
theorem dX4_intensity_53 : decode cX4_intensity 53 = .ok (.iload_n 1, 1) := dk_27 (dk_at dksX4_intensity_2 5 rfl rfl)
theorem dX4_intensity_54 : decode cX4_intensity 54 = .ok (.invokevirtual 75, 3) := dk_182 0 75 (dk_at dksX4_intensity_2 6 rfl rfl)
theorem dX4_intensity_57 : decode cX4_intensity 57 = .ok (.iconst 3, 1) := dk_6 (dk_at dksX4_intensity_2 9 rfl rfl)
theorem dX4_intensity_58 : decode cX4_intensity 58 = .ok (.iadd, 1) := dk_96 (dk_at dksX4_intensity_2 10 rfl rfl)
theorem dX4_intensity_59 : decode cX4_intensity 59 = .ok (.bipush 8, 2) := dk_16 8 (dk_at dksX4_intensity_2 11 rfl rfl)
theorem dX4_intensity_61 : decode cX4_intensity 61 = .ok (.iadd, 1) := dk_96 (dk_at dksX4_intensity_2 13 rfl rfl)
theorem dX4_intensity_62 : decode cX4_intensity 62 = .ok (.iload 4, 2) := dk_21 4 (dk_at dksX4_intensity_2 14 rfl rfl)
theorem dX4_intensity_64 : decode cX4_intensity 64 = .ok (.iadd, 1) := dk_96 (dk_at dksX4_intensity_2 16 rfl rfl)
theorem dX4_intensity_65 : decode cX4_intensity 65 = .ok (.iaload, 1) := dk_46 (dk_at dksX4_intensity_2 17 rfl rfl)
theorem dX4_intensity_66 : decode cX4_intensity 66 = .ok (.ireturn, 1) := dk_172 (dk_at dksX4_intensity_2 18 rfl rfl)
abbrev cX4_bestEffortByTrying : ByteArray := prog_10_method_64_code
def yX4_bestEffortByTrying : MethodName := ⟨RX4, "bestEffortByTrying", "(I)I"⟩
def dkwX4_bestEffortByTrying_0 : List UInt8 := [42, 27, 182, 0, 140, 172]
abbrev dktX4_bestEffortByTrying_0 : List UInt8 := dkwX4_bestEffortByTrying_0 ++ []
theorem dksX4_bestEffortByTrying_0 : cX4_bestEffortByTrying.data.toList.drop 0 = dktX4_bestEffortByTrying_0 := by decide +kernel
theorem dX4_bestEffortByTrying_0 : decode cX4_bestEffortByTrying 0 = .ok (.aload_n 0, 1) := dk_42 (dk_at dksX4_bestEffortByTrying_0 0 rfl rfl)
theorem dX4_bestEffortByTrying_1 : decode cX4_bestEffortByTrying 1 = .ok (.iload_n 1, 1) := dk_27 (dk_at dksX4_bestEffortByTrying_0 1 rfl rfl)
theorem dX4_bestEffortByTrying_2 : decode cX4_bestEffortByTrying 2 = .ok (.invokevirtual 140, 3) := dk_182 0 140 (dk_at dksX4_bestEffortByTrying_0 2 rfl rfl)
theorem dX4_bestEffortByTrying_5 : decode cX4_bestEffortByTrying 5 = .ok (.ireturn, 1) := dk_172 (dk_at dksX4_bestEffortByTrying_0 5 rfl rfl)
abbrev cX4_bestEffortSession : ByteArray := prog_10_method_65_code
def yX4_bestEffortSession : MethodName := ⟨RX4, "bestEffortSession", "(I)I"⟩
def dkwX4_bestEffortSession_1 : List UInt8 := [182, 0, 75, 46, 172]
abbrev dktX4_bestEffortSession_1 : List UInt8 := dkwX4_bestEffortSession_1 ++ []
def dkwX4_bestEffortSession_0 : List UInt8 := [42, 27, 182, 0, 137, 153, 0, 7, 3, 167, 0, 17, 42, 180, 0, 9, 42, 42, 27, 182, 0, 134]
abbrev dktX4_bestEffortSession_0 : List UInt8 := dkwX4_bestEffortSession_0 ++ dktX4_bestEffortSession_1
theorem dksX4_bestEffortSession_0 : cX4_bestEffortSession.data.toList.drop 0 = dktX4_bestEffortSession_0 := by decide +kernel
theorem dksX4_bestEffortSession_1 : cX4_bestEffortSession.data.toList.drop 22 = dktX4_bestEffortSession_1 := dk_seg dksX4_bestEffortSession_0 22 rfl rfl
theorem dX4_bestEffortSession_0 : decode cX4_bestEffortSession 0 = .ok (.aload_n 0, 1) := dk_42 (dk_at dksX4_bestEffortSession_0 0 rfl rfl)
theorem dX4_bestEffortSession_1 : decode cX4_bestEffortSession 1 = .ok (.iload_n 1, 1) := dk_27 (dk_at dksX4_bestEffortSession_0 1 rfl rfl)
theorem dX4_bestEffortSession_2 : decode cX4_bestEffortSession 2 = .ok (.invokevirtual 137, 3) := dk_182 0 137 (dk_at dksX4_bestEffortSession_0 2 rfl rfl)
theorem dX4_bestEffortSession_5 : decode cX4_bestEffortSession 5 = .ok (.ifCond .eq 7, 3) := dk_153 0 7 (dk_at dksX4_bestEffortSession_0 5 rfl rfl)
theorem dX4_bestEffortSession_8 : decode cX4_bestEffortSession 8 = .ok (.iconst 0, 1) := dk_3 (dk_at dksX4_bestEffortSession_0 8 rfl rfl)
theorem dX4_bestEffortSession_9 : decode cX4_bestEffortSession 9 = .ok (.goto 17, 3) := dk_167 0 17 (dk_at dksX4_bestEffortSession_0 9 rfl rfl)
theorem dX4_bestEffortSession_12 : decode cX4_bestEffortSession 12 = .ok (.aload_n 0, 1) := dk_42 (dk_at dksX4_bestEffortSession_0 12 rfl rfl)
theorem dX4_bestEffortSession_13 : decode cX4_bestEffortSession 13 = .ok (.getfield 9, 3) := dk_180 0 9 (dk_at dksX4_bestEffortSession_0 13 rfl rfl)
theorem dX4_bestEffortSession_16 : decode cX4_bestEffortSession 16 = .ok (.aload_n 0, 1) := dk_42 (dk_at dksX4_bestEffortSession_0 16 rfl rfl)
theorem dX4_bestEffortSession_17 : decode cX4_bestEffortSession 17 = .ok (.aload_n 0, 1) := dk_42 (dk_at dksX4_bestEffortSession_0 17 rfl rfl)
theorem dX4_bestEffortSession_18 : decode cX4_bestEffortSession 18 = .ok (.iload_n 1, 1) := dk_27 (dk_at dksX4_bestEffortSession_0 18 rfl rfl)
theorem dX4_bestEffortSession_19 : decode cX4_bestEffortSession 19 = .ok (.invokevirtual 134, 3) := dk_182 0 134 (dk_at dksX4_bestEffortSession_0 19 rfl rfl)
theorem dX4_bestEffortSession_22 : decode cX4_bestEffortSession 22 = .ok (.invokevirtual 75, 3) := dk_182 0 75 (dk_at dksX4_bestEffortSession_1 0 rfl rfl)
theorem dX4_bestEffortSession_25 : decode cX4_bestEffortSession 25 = .ok (.iaload, 1) := dk_46 (dk_at dksX4_bestEffortSession_1 3 rfl rfl)
theorem dX4_bestEffortSession_26 : decode cX4_bestEffortSession 26 = .ok (.ireturn, 1) := dk_172 (dk_at dksX4_bestEffortSession_1 4 rfl rfl)
abbrev cX4_startPlan : ByteArray := prog_10_method_66_code
def yX4_startPlan : MethodName := ⟨RX4, "startPlan", "()I"⟩
def dkwX4_startPlan_2 : List UInt8 := [3, 46, 79, 42, 180, 0, 9, 16, 6, 3, 79, 27, 172]
abbrev dktX4_startPlan_2 : List UInt8 := dkwX4_startPlan_2 ++ []
def dkwX4_startPlan_1 : List UInt8 := [16, 6, 46, 167, 0, 4, 3, 60, 42, 180, 0, 9, 7, 4, 79, 42, 180, 0, 9, 8, 42, 180, 0, 9]
abbrev dktX4_startPlan_1 : List UInt8 := dkwX4_startPlan_1 ++ dktX4_startPlan_2
def dkwX4_startPlan_0 : List UInt8 := [42, 3, 181, 0, 31, 42, 182, 0, 55, 42, 180, 0, 9, 7, 46, 4, 160, 0, 13, 42, 180, 0, 9]
abbrev dktX4_startPlan_0 : List UInt8 := dkwX4_startPlan_0 ++ dktX4_startPlan_1
theorem dksX4_startPlan_0 : cX4_startPlan.data.toList.drop 0 = dktX4_startPlan_0 := by decide +kernel
theorem dksX4_startPlan_1 : cX4_startPlan.data.toList.drop 23 = dktX4_startPlan_1 := dk_seg dksX4_startPlan_0 23 rfl rfl
theorem dksX4_startPlan_2 : cX4_startPlan.data.toList.drop 47 = dktX4_startPlan_2 := dk_seg dksX4_startPlan_1 24 rfl rfl
theorem dX4_startPlan_0 : decode cX4_startPlan 0 = .ok (.aload_n 0, 1) := dk_42 (dk_at dksX4_startPlan_0 0 rfl rfl)
theorem dX4_startPlan_1 : decode cX4_startPlan 1 = .ok (.iconst 0, 1) := dk_3 (dk_at dksX4_startPlan_0 1 rfl rfl)
theorem dX4_startPlan_2 : decode cX4_startPlan 2 = .ok (.putfield 31, 3) := dk_181 0 31 (dk_at dksX4_startPlan_0 2 rfl rfl)
theorem dX4_startPlan_5 : decode cX4_startPlan 5 = .ok (.aload_n 0, 1) := dk_42 (dk_at dksX4_startPlan_0 5 rfl rfl)
theorem dX4_startPlan_6 : decode cX4_startPlan 6 = .ok (.invokevirtual 55, 3) := dk_182 0 55 (dk_at dksX4_startPlan_0 6 rfl rfl)
theorem dX4_startPlan_9 : decode cX4_startPlan 9 = .ok (.aload_n 0, 1) := dk_42 (dk_at dksX4_startPlan_0 9 rfl rfl)
theorem dX4_startPlan_10 : decode cX4_startPlan 10 = .ok (.getfield 9, 3) := dk_180 0 9 (dk_at dksX4_startPlan_0 10 rfl rfl)
theorem dX4_startPlan_13 : decode cX4_startPlan 13 = .ok (.iconst 4, 1) := dk_7 (dk_at dksX4_startPlan_0 13 rfl rfl)
theorem dX4_startPlan_14 : decode cX4_startPlan 14 = .ok (.iaload, 1) := dk_46 (dk_at dksX4_startPlan_0 14 rfl rfl)
theorem dX4_startPlan_15 : decode cX4_startPlan 15 = .ok (.iconst 1, 1) := dk_4 (dk_at dksX4_startPlan_0 15 rfl rfl)
theorem dX4_startPlan_16 : decode cX4_startPlan 16 = .ok (.if_icmp .ne 13, 3) := dk_160 0 13 (dk_at dksX4_startPlan_0 16 rfl rfl)
theorem dX4_startPlan_19 : decode cX4_startPlan 19 = .ok (.aload_n 0, 1) := dk_42 (dk_at dksX4_startPlan_0 19 rfl rfl)
theorem dX4_startPlan_20 : decode cX4_startPlan 20 = .ok (.getfield 9, 3) := dk_180 0 9 (dk_at dksX4_startPlan_0 20 rfl rfl)
theorem dX4_startPlan_23 : decode cX4_startPlan 23 = .ok (.bipush 6, 2) := dk_16 6 (dk_at dksX4_startPlan_1 0 rfl rfl)
theorem dX4_startPlan_25 : decode cX4_startPlan 25 = .ok (.iaload, 1) := dk_46 (dk_at dksX4_startPlan_1 2 rfl rfl)
theorem dX4_startPlan_26 : decode cX4_startPlan 26 = .ok (.goto 4, 3) := dk_167 0 4 (dk_at dksX4_startPlan_1 3 rfl rfl)
theorem dX4_startPlan_29 : decode cX4_startPlan 29 = .ok (.iconst 0, 1) := dk_3 (dk_at dksX4_startPlan_1 6 rfl rfl)
theorem dX4_startPlan_30 : decode cX4_startPlan 30 = .ok (.istore_n 1, 1) := dk_60 (dk_at dksX4_startPlan_1 7 rfl rfl)
theorem dX4_startPlan_31 : decode cX4_startPlan 31 = .ok (.aload_n 0, 1) := dk_42 (dk_at dksX4_startPlan_1 8 rfl rfl)
theorem dX4_startPlan_32 : decode cX4_startPlan 32 = .ok (.getfield 9, 3) := dk_180 0 9 (dk_at dksX4_startPlan_1 9 rfl rfl)
theorem dX4_startPlan_35 : decode cX4_startPlan 35 = .ok (.iconst 4, 1) := dk_7 (dk_at dksX4_startPlan_1 12 rfl rfl)
theorem dX4_startPlan_36 : decode cX4_startPlan 36 = .ok (.iconst 1, 1) := dk_4 (dk_at dksX4_startPlan_1 13 rfl rfl)
theorem dX4_startPlan_37 : decode cX4_startPlan 37 = .ok (.iastore, 1) := dk_79 (dk_at dksX4_startPlan_1 14 rfl rfl)
theorem dX4_startPlan_38 : decode cX4_startPlan 38 = .ok (.aload_n 0, 1) := dk_42 (dk_at dksX4_startPlan_1 15 rfl rfl)
theorem dX4_startPlan_39 : decode cX4_startPlan 39 = .ok (.getfield 9, 3) := dk_180 0 9 (dk_at dksX4_startPlan_1 16 rfl rfl)
theorem dX4_startPlan_42 : decode cX4_startPlan 42 = .ok (.iconst 5, 1) := dk_8 (dk_at dksX4_startPlan_1 19 rfl rfl)
theorem dX4_startPlan_43 : decode cX4_startPlan 43 = .ok (.aload_n 0, 1) := dk_42 (dk_at dksX4_startPlan_1 20 rfl rfl)
theorem dX4_startPlan_44 : decode cX4_startPlan 44 = .ok (.getfield 9, 3) := dk_180 0 9 (dk_at dksX4_startPlan_1 21 rfl rfl)
theorem dX4_startPlan_47 : decode cX4_startPlan 47 = .ok (.iconst 0, 1) := dk_3 (dk_at dksX4_startPlan_2 0 rfl rfl)
theorem dX4_startPlan_48 : decode cX4_startPlan 48 = .ok (.iaload, 1) := dk_46 (dk_at dksX4_startPlan_2 1 rfl rfl)
theorem dX4_startPlan_49 : decode cX4_startPlan 49 = .ok (.iastore, 1) := dk_79 (dk_at dksX4_startPlan_2 2 rfl rfl)
theorem dX4_startPlan_50 : decode cX4_startPlan 50 = .ok (.aload_n 0, 1) := dk_42 (dk_at dksX4_startPlan_2 3 rfl rfl)
theorem dX4_startPlan_51 : decode cX4_startPlan 51 = .ok (.getfield 9, 3) := dk_180 0 9 (dk_at dksX4_startPlan_2 4 rfl rfl)
theorem dX4_startPlan_54 : decode cX4_startPlan 54 = .ok (.bipush 6, 2) := dk_16 6 (dk_at dksX4_startPlan_2 7 rfl rfl)
theorem dX4_startPlan_56 : decode cX4_startPlan 56 = .ok (.iconst 0, 1) := dk_3 (dk_at dksX4_startPlan_2 9 rfl rfl)
theorem dX4_startPlan_57 : decode cX4_startPlan 57 = .ok (.iastore, 1) := dk_79 (dk_at dksX4_startPlan_2 10 rfl rfl)
theorem dX4_startPlan_58 : decode cX4_startPlan 58 = .ok (.iload_n 1, 1) := dk_27 (dk_at dksX4_startPlan_2 11 rfl rfl)
theorem dX4_startPlan_59 : decode cX4_startPlan 59 = .ok (.ireturn, 1) := dk_172 (dk_at dksX4_startPlan_2 12 rfl rfl)
abbrev cX4_addTarget : ByteArray := prog_10_method_67_code
def yX4_addTarget : MethodName := ⟨RX4, "addTarget", "(I)I"⟩
def dkwX4_addTarget_4 : List UInt8 := [79, 42, 180, 0, 9, 16, 6, 92, 46, 4, 96, 79, 42, 180, 0, 9, 16, 6, 46, 172]
abbrev dktX4_addTarget_4 : List UInt8 := dkwX4_addTarget_4 ++ []
def dkwX4_addTarget_3 : List UInt8 := [153, 0, 5, 3, 172, 42, 182, 0, 55, 42, 180, 0, 9, 16, 40, 42, 180, 0, 9, 16, 6, 46, 96, 27]
abbrev dktX4_addTarget_3 : List UInt8 := dkwX4_addTarget_3 ++ dktX4_addTarget_4
def dkwX4_addTarget_2 : List UInt8 := [160, 0, 15, 42, 180, 0, 9, 16, 6, 46, 16, 28, 160, 0, 7, 4, 167, 0, 4, 3, 5, 182, 0, 51]
abbrev dktX4_addTarget_2 : List UInt8 := dkwX4_addTarget_2 ++ dktX4_addTarget_3
def dkwX4_addTarget_1 : List UInt8 := [42, 42, 180, 0, 9, 7, 46, 153, 0, 30, 42, 180, 0, 9, 8, 46, 42, 180, 0, 9, 3, 46]
abbrev dktX4_addTarget_1 : List UInt8 := dkwX4_addTarget_1 ++ dktX4_addTarget_2
def dkwX4_addTarget_0 : List UInt8 := [42, 27, 3, 17, 78, 32, 184, 0, 47, 154, 0, 7, 4, 167, 0, 4, 3, 4, 182, 0, 51, 154, 0, 52]
abbrev dktX4_addTarget_0 : List UInt8 := dkwX4_addTarget_0 ++ dktX4_addTarget_1
theorem dksX4_addTarget_0 : cX4_addTarget.data.toList.drop 0 = dktX4_addTarget_0 := by decide +kernel
theorem dksX4_addTarget_1 : cX4_addTarget.data.toList.drop 24 = dktX4_addTarget_1 := dk_seg dksX4_addTarget_0 24 rfl rfl
theorem dksX4_addTarget_2 : cX4_addTarget.data.toList.drop 46 = dktX4_addTarget_2 := dk_seg dksX4_addTarget_1 22 rfl rfl
theorem dksX4_addTarget_3 : cX4_addTarget.data.toList.drop 70 = dktX4_addTarget_3 := dk_seg dksX4_addTarget_2 24 rfl rfl
theorem dksX4_addTarget_4 : cX4_addTarget.data.toList.drop 94 = dktX4_addTarget_4 := dk_seg dksX4_addTarget_3 24 rfl rfl
theorem dX4_addTarget_0 : decode cX4_addTarget 0 = .ok (.aload_n 0, 1) := dk_42 (dk_at dksX4_addTarget_0 0 rfl rfl)
theorem dX4_addTarget_1 : decode cX4_addTarget 1 = .ok (.iload_n 1, 1) := dk_27 (dk_at dksX4_addTarget_0 1 rfl rfl)
theorem dX4_addTarget_2 : decode cX4_addTarget 2 = .ok (.iconst 0, 1) := dk_3 (dk_at dksX4_addTarget_0 2 rfl rfl)
theorem dX4_addTarget_3 : decode cX4_addTarget 3 = .ok (.sipush 20000, 3) := dk_17 78 32 (dk_at dksX4_addTarget_0 3 rfl rfl)
theorem dX4_addTarget_6 : decode cX4_addTarget 6 = .ok (.invokestatic 47, 3) := dk_184 0 47 (dk_at dksX4_addTarget_0 6 rfl rfl)
theorem dX4_addTarget_9 : decode cX4_addTarget 9 = .ok (.ifCond .ne 7, 3) := dk_154 0 7 (dk_at dksX4_addTarget_0 9 rfl rfl)
theorem dX4_addTarget_12 : decode cX4_addTarget 12 = .ok (.iconst 1, 1) := dk_4 (dk_at dksX4_addTarget_0 12 rfl rfl)
theorem dX4_addTarget_13 : decode cX4_addTarget 13 = .ok (.goto 4, 3) := dk_167 0 4 (dk_at dksX4_addTarget_0 13 rfl rfl)
theorem dX4_addTarget_16 : decode cX4_addTarget 16 = .ok (.iconst 0, 1) := dk_3 (dk_at dksX4_addTarget_0 16 rfl rfl)
theorem dX4_addTarget_17 : decode cX4_addTarget 17 = .ok (.iconst 1, 1) := dk_4 (dk_at dksX4_addTarget_0 17 rfl rfl)
theorem dX4_addTarget_18 : decode cX4_addTarget 18 = .ok (.invokevirtual 51, 3) := dk_182 0 51 (dk_at dksX4_addTarget_0 18 rfl rfl)
theorem dX4_addTarget_21 : decode cX4_addTarget 21 = .ok (.ifCond .ne 52, 3) := dk_154 0 52 (dk_at dksX4_addTarget_0 21 rfl rfl)
theorem dX4_addTarget_24 : decode cX4_addTarget 24 = .ok (.aload_n 0, 1) := dk_42 (dk_at dksX4_addTarget_1 0 rfl rfl)
theorem dX4_addTarget_25 : decode cX4_addTarget 25 = .ok (.aload_n 0, 1) := dk_42 (dk_at dksX4_addTarget_1 1 rfl rfl)
theorem dX4_addTarget_26 : decode cX4_addTarget 26 = .ok (.getfield 9, 3) := dk_180 0 9 (dk_at dksX4_addTarget_1 2 rfl rfl)
theorem dX4_addTarget_29 : decode cX4_addTarget 29 = .ok (.iconst 4, 1) := dk_7 (dk_at dksX4_addTarget_1 5 rfl rfl)
theorem dX4_addTarget_30 : decode cX4_addTarget 30 = .ok (.iaload, 1) := dk_46 (dk_at dksX4_addTarget_1 6 rfl rfl)
theorem dX4_addTarget_31 : decode cX4_addTarget 31 = .ok (.ifCond .eq 30, 3) := dk_153 0 30 (dk_at dksX4_addTarget_1 7 rfl rfl)
theorem dX4_addTarget_34 : decode cX4_addTarget 34 = .ok (.aload_n 0, 1) := dk_42 (dk_at dksX4_addTarget_1 10 rfl rfl)
theorem dX4_addTarget_35 : decode cX4_addTarget 35 = .ok (.getfield 9, 3) := dk_180 0 9 (dk_at dksX4_addTarget_1 11 rfl rfl)
theorem dX4_addTarget_38 : decode cX4_addTarget 38 = .ok (.iconst 5, 1) := dk_8 (dk_at dksX4_addTarget_1 14 rfl rfl)
theorem dX4_addTarget_39 : decode cX4_addTarget 39 = .ok (.iaload, 1) := dk_46 (dk_at dksX4_addTarget_1 15 rfl rfl)
theorem dX4_addTarget_40 : decode cX4_addTarget 40 = .ok (.aload_n 0, 1) := dk_42 (dk_at dksX4_addTarget_1 16 rfl rfl)
theorem dX4_addTarget_41 : decode cX4_addTarget 41 = .ok (.getfield 9, 3) := dk_180 0 9 (dk_at dksX4_addTarget_1 17 rfl rfl)
theorem dX4_addTarget_44 : decode cX4_addTarget 44 = .ok (.iconst 0, 1) := dk_3 (dk_at dksX4_addTarget_1 20 rfl rfl)
theorem dX4_addTarget_45 : decode cX4_addTarget 45 = .ok (.iaload, 1) := dk_46 (dk_at dksX4_addTarget_1 21 rfl rfl)
theorem dX4_addTarget_46 : decode cX4_addTarget 46 = .ok (.if_icmp .ne 15, 3) := dk_160 0 15 (dk_at dksX4_addTarget_2 0 rfl rfl)
theorem dX4_addTarget_49 : decode cX4_addTarget 49 = .ok (.aload_n 0, 1) := dk_42 (dk_at dksX4_addTarget_2 3 rfl rfl)
theorem dX4_addTarget_50 : decode cX4_addTarget 50 = .ok (.getfield 9, 3) := dk_180 0 9 (dk_at dksX4_addTarget_2 4 rfl rfl)
theorem dX4_addTarget_53 : decode cX4_addTarget 53 = .ok (.bipush 6, 2) := dk_16 6 (dk_at dksX4_addTarget_2 7 rfl rfl)
theorem dX4_addTarget_55 : decode cX4_addTarget 55 = .ok (.iaload, 1) := dk_46 (dk_at dksX4_addTarget_2 9 rfl rfl)
theorem dX4_addTarget_56 : decode cX4_addTarget 56 = .ok (.bipush 28, 2) := dk_16 28 (dk_at dksX4_addTarget_2 10 rfl rfl)
theorem dX4_addTarget_58 : decode cX4_addTarget 58 = .ok (.if_icmp .ne 7, 3) := dk_160 0 7 (dk_at dksX4_addTarget_2 12 rfl rfl)
theorem dX4_addTarget_61 : decode cX4_addTarget 61 = .ok (.iconst 1, 1) := dk_4 (dk_at dksX4_addTarget_2 15 rfl rfl)
theorem dX4_addTarget_62 : decode cX4_addTarget 62 = .ok (.goto 4, 3) := dk_167 0 4 (dk_at dksX4_addTarget_2 16 rfl rfl)
theorem dX4_addTarget_65 : decode cX4_addTarget 65 = .ok (.iconst 0, 1) := dk_3 (dk_at dksX4_addTarget_2 19 rfl rfl)
theorem dX4_addTarget_66 : decode cX4_addTarget 66 = .ok (.iconst 2, 1) := dk_5 (dk_at dksX4_addTarget_2 20 rfl rfl)
theorem dX4_addTarget_67 : decode cX4_addTarget 67 = .ok (.invokevirtual 51, 3) := dk_182 0 51 (dk_at dksX4_addTarget_2 21 rfl rfl)
theorem dX4_addTarget_70 : decode cX4_addTarget 70 = .ok (.ifCond .eq 5, 3) := dk_153 0 5 (dk_at dksX4_addTarget_3 0 rfl rfl)
theorem dX4_addTarget_73 : decode cX4_addTarget 73 = .ok (.iconst 0, 1) := dk_3 (dk_at dksX4_addTarget_3 3 rfl rfl)
theorem dX4_addTarget_74 : decode cX4_addTarget 74 = .ok (.ireturn, 1) := dk_172 (dk_at dksX4_addTarget_3 4 rfl rfl)
theorem dX4_addTarget_75 : decode cX4_addTarget 75 = .ok (.aload_n 0, 1) := dk_42 (dk_at dksX4_addTarget_3 5 rfl rfl)
theorem dX4_addTarget_76 : decode cX4_addTarget 76 = .ok (.invokevirtual 55, 3) := dk_182 0 55 (dk_at dksX4_addTarget_3 6 rfl rfl)
theorem dX4_addTarget_79 : decode cX4_addTarget 79 = .ok (.aload_n 0, 1) := dk_42 (dk_at dksX4_addTarget_3 9 rfl rfl)
theorem dX4_addTarget_80 : decode cX4_addTarget 80 = .ok (.getfield 9, 3) := dk_180 0 9 (dk_at dksX4_addTarget_3 10 rfl rfl)
theorem dX4_addTarget_83 : decode cX4_addTarget 83 = .ok (.bipush 40, 2) := dk_16 40 (dk_at dksX4_addTarget_3 13 rfl rfl)
theorem dX4_addTarget_85 : decode cX4_addTarget 85 = .ok (.aload_n 0, 1) := dk_42 (dk_at dksX4_addTarget_3 15 rfl rfl)
theorem dX4_addTarget_86 : decode cX4_addTarget 86 = .ok (.getfield 9, 3) := dk_180 0 9 (dk_at dksX4_addTarget_3 16 rfl rfl)
theorem dX4_addTarget_89 : decode cX4_addTarget 89 = .ok (.bipush 6, 2) := dk_16 6 (dk_at dksX4_addTarget_3 19 rfl rfl)
theorem dX4_addTarget_91 : decode cX4_addTarget 91 = .ok (.iaload, 1) := dk_46 (dk_at dksX4_addTarget_3 21 rfl rfl)
theorem dX4_addTarget_92 : decode cX4_addTarget 92 = .ok (.iadd, 1) := dk_96 (dk_at dksX4_addTarget_3 22 rfl rfl)
theorem dX4_addTarget_93 : decode cX4_addTarget 93 = .ok (.iload_n 1, 1) := dk_27 (dk_at dksX4_addTarget_3 23 rfl rfl)
theorem dX4_addTarget_94 : decode cX4_addTarget 94 = .ok (.iastore, 1) := dk_79 (dk_at dksX4_addTarget_4 0 rfl rfl)
theorem dX4_addTarget_95 : decode cX4_addTarget 95 = .ok (.aload_n 0, 1) := dk_42 (dk_at dksX4_addTarget_4 1 rfl rfl)
theorem dX4_addTarget_96 : decode cX4_addTarget 96 = .ok (.getfield 9, 3) := dk_180 0 9 (dk_at dksX4_addTarget_4 2 rfl rfl)
theorem dX4_addTarget_99 : decode cX4_addTarget 99 = .ok (.bipush 6, 2) := dk_16 6 (dk_at dksX4_addTarget_4 5 rfl rfl)
theorem dX4_addTarget_101 : decode cX4_addTarget 101 = .ok (.dup2, 1) := dk_92 (dk_at dksX4_addTarget_4 7 rfl rfl)
theorem dX4_addTarget_102 : decode cX4_addTarget 102 = .ok (.iaload, 1) := dk_46 (dk_at dksX4_addTarget_4 8 rfl rfl)
theorem dX4_addTarget_103 : decode cX4_addTarget 103 = .ok (.iconst 1, 1) := dk_4 (dk_at dksX4_addTarget_4 9 rfl rfl)
theorem dX4_addTarget_104 : decode cX4_addTarget 104 = .ok (.iadd, 1) := dk_96 (dk_at dksX4_addTarget_4 10 rfl rfl)
theorem dX4_addTarget_105 : decode cX4_addTarget 105 = .ok (.iastore, 1) := dk_79 (dk_at dksX4_addTarget_4 11 rfl rfl)
theorem dX4_addTarget_106 : decode cX4_addTarget 106 = .ok (.aload_n 0, 1) := dk_42 (dk_at dksX4_addTarget_4 12 rfl rfl)
theorem dX4_addTarget_107 : decode cX4_addTarget 107 = .ok (.getfield 9, 3) := dk_180 0 9 (dk_at dksX4_addTarget_4 13 rfl rfl)
theorem dX4_addTarget_110 : decode cX4_addTarget 110 = .ok (.bipush 6, 2) := dk_16 6 (dk_at dksX4_addTarget_4 16 rfl rfl)
theorem dX4_addTarget_112 : decode cX4_addTarget 112 = .ok (.iaload, 1) := dk_46 (dk_at dksX4_addTarget_4 18 rfl rfl)
theorem dX4_addTarget_113 : decode cX4_addTarget 113 = .ok (.ireturn, 1) := dk_172 (dk_at dksX4_addTarget_4 19 rfl rfl)
abbrev cX4_targetAt : ByteArray := prog_10_method_68_code
def yX4_targetAt : MethodName := ⟨RX4, "targetAt", "(I)I"⟩
def dkwX4_targetAt_2 : List UInt8 := [16, 40, 27, 96, 46, 172]
abbrev dktX4_targetAt_2 : List UInt8 := dkwX4_targetAt_2 ++ []
def dkwX4_targetAt_1 : List UInt8 := [154, 0, 7, 4, 167, 0, 4, 3, 4, 182, 0, 51, 153, 0, 7, 3, 167, 0, 12, 42, 180, 0, 9]
abbrev dktX4_targetAt_1 : List UInt8 := dkwX4_targetAt_1 ++ dktX4_targetAt_2
def dkwX4_targetAt_0 : List UInt8 := [42, 42, 180, 0, 9, 7, 46, 153, 0, 20, 27, 3, 42, 180, 0, 9, 16, 6, 46, 4, 100, 184, 0, 47]
abbrev dktX4_targetAt_0 : List UInt8 := dkwX4_targetAt_0 ++ dktX4_targetAt_1
theorem dksX4_targetAt_0 : cX4_targetAt.data.toList.drop 0 = dktX4_targetAt_0 := by decide +kernel
theorem dksX4_targetAt_1 : cX4_targetAt.data.toList.drop 24 = dktX4_targetAt_1 := dk_seg dksX4_targetAt_0 24 rfl rfl
theorem dksX4_targetAt_2 : cX4_targetAt.data.toList.drop 47 = dktX4_targetAt_2 := dk_seg dksX4_targetAt_1 23 rfl rfl
theorem dX4_targetAt_0 : decode cX4_targetAt 0 = .ok (.aload_n 0, 1) := dk_42 (dk_at dksX4_targetAt_0 0 rfl rfl)
theorem dX4_targetAt_1 : decode cX4_targetAt 1 = .ok (.aload_n 0, 1) := dk_42 (dk_at dksX4_targetAt_0 1 rfl rfl)
theorem dX4_targetAt_2 : decode cX4_targetAt 2 = .ok (.getfield 9, 3) := dk_180 0 9 (dk_at dksX4_targetAt_0 2 rfl rfl)
theorem dX4_targetAt_5 : decode cX4_targetAt 5 = .ok (.iconst 4, 1) := dk_7 (dk_at dksX4_targetAt_0 5 rfl rfl)
theorem dX4_targetAt_6 : decode cX4_targetAt 6 = .ok (.iaload, 1) := dk_46 (dk_at dksX4_targetAt_0 6 rfl rfl)
theorem dX4_targetAt_7 : decode cX4_targetAt 7 = .ok (.ifCond .eq 20, 3) := dk_153 0 20 (dk_at dksX4_targetAt_0 7 rfl rfl)
theorem dX4_targetAt_10 : decode cX4_targetAt 10 = .ok (.iload_n 1, 1) := dk_27 (dk_at dksX4_targetAt_0 10 rfl rfl)
theorem dX4_targetAt_11 : decode cX4_targetAt 11 = .ok (.iconst 0, 1) := dk_3 (dk_at dksX4_targetAt_0 11 rfl rfl)
theorem dX4_targetAt_12 : decode cX4_targetAt 12 = .ok (.aload_n 0, 1) := dk_42 (dk_at dksX4_targetAt_0 12 rfl rfl)
theorem dX4_targetAt_13 : decode cX4_targetAt 13 = .ok (.getfield 9, 3) := dk_180 0 9 (dk_at dksX4_targetAt_0 13 rfl rfl)
theorem dX4_targetAt_16 : decode cX4_targetAt 16 = .ok (.bipush 6, 2) := dk_16 6 (dk_at dksX4_targetAt_0 16 rfl rfl)
theorem dX4_targetAt_18 : decode cX4_targetAt 18 = .ok (.iaload, 1) := dk_46 (dk_at dksX4_targetAt_0 18 rfl rfl)
theorem dX4_targetAt_19 : decode cX4_targetAt 19 = .ok (.iconst 1, 1) := dk_4 (dk_at dksX4_targetAt_0 19 rfl rfl)
theorem dX4_targetAt_20 : decode cX4_targetAt 20 = .ok (.isub, 1) := dk_100 (dk_at dksX4_targetAt_0 20 rfl rfl)
theorem dX4_targetAt_21 : decode cX4_targetAt 21 = .ok (.invokestatic 47, 3) := dk_184 0 47 (dk_at dksX4_targetAt_0 21 rfl rfl)
theorem dX4_targetAt_24 : decode cX4_targetAt 24 = .ok (.ifCond .ne 7, 3) := dk_154 0 7 (dk_at dksX4_targetAt_1 0 rfl rfl)
theorem dX4_targetAt_27 : decode cX4_targetAt 27 = .ok (.iconst 1, 1) := dk_4 (dk_at dksX4_targetAt_1 3 rfl rfl)
theorem dX4_targetAt_28 : decode cX4_targetAt 28 = .ok (.goto 4, 3) := dk_167 0 4 (dk_at dksX4_targetAt_1 4 rfl rfl)
theorem dX4_targetAt_31 : decode cX4_targetAt 31 = .ok (.iconst 0, 1) := dk_3 (dk_at dksX4_targetAt_1 7 rfl rfl)
theorem dX4_targetAt_32 : decode cX4_targetAt 32 = .ok (.iconst 1, 1) := dk_4 (dk_at dksX4_targetAt_1 8 rfl rfl)
theorem dX4_targetAt_33 : decode cX4_targetAt 33 = .ok (.invokevirtual 51, 3) := dk_182 0 51 (dk_at dksX4_targetAt_1 9 rfl rfl)
theorem dX4_targetAt_36 : decode cX4_targetAt 36 = .ok (.ifCond .eq 7, 3) := dk_153 0 7 (dk_at dksX4_targetAt_1 12 rfl rfl)
theorem dX4_targetAt_39 : decode cX4_targetAt 39 = .ok (.iconst 0, 1) := dk_3 (dk_at dksX4_targetAt_1 15 rfl rfl)
theorem dX4_targetAt_40 : decode cX4_targetAt 40 = .ok (.goto 12, 3) := dk_167 0 12 (dk_at dksX4_targetAt_1 16 rfl rfl)
theorem dX4_targetAt_43 : decode cX4_targetAt 43 = .ok (.aload_n 0, 1) := dk_42 (dk_at dksX4_targetAt_1 19 rfl rfl)
theorem dX4_targetAt_44 : decode cX4_targetAt 44 = .ok (.getfield 9, 3) := dk_180 0 9 (dk_at dksX4_targetAt_1 20 rfl rfl)
theorem dX4_targetAt_47 : decode cX4_targetAt 47 = .ok (.bipush 40, 2) := dk_16 40 (dk_at dksX4_targetAt_2 0 rfl rfl)
theorem dX4_targetAt_49 : decode cX4_targetAt 49 = .ok (.iload_n 1, 1) := dk_27 (dk_at dksX4_targetAt_2 2 rfl rfl)
theorem dX4_targetAt_50 : decode cX4_targetAt 50 = .ok (.iadd, 1) := dk_96 (dk_at dksX4_targetAt_2 3 rfl rfl)
theorem dX4_targetAt_51 : decode cX4_targetAt 51 = .ok (.iaload, 1) := dk_46 (dk_at dksX4_targetAt_2 4 rfl rfl)
theorem dX4_targetAt_52 : decode cX4_targetAt 52 = .ok (.ireturn, 1) := dk_172 (dk_at dksX4_targetAt_2 5 rfl rfl)
abbrev cX4_dueEntry : ByteArray := prog_10_method_70_code
def yX4_dueEntry : MethodName := ⟨RX4, "dueEntry", "()I"⟩
def dkwX4_dueEntry_1 : List UInt8 := [42, 180, 0, 143, 172]
abbrev dktX4_dueEntry_1 : List UInt8 := dkwX4_dueEntry_1 ++ []
def dkwX4_dueEntry_0 : List UInt8 := [42, 42, 182, 0, 152, 154, 0, 7, 4, 167, 0, 4, 3, 4, 182, 0, 51, 153, 0, 7, 3, 167, 0, 7]
abbrev dktX4_dueEntry_0 : List UInt8 := dkwX4_dueEntry_0 ++ dktX4_dueEntry_1
theorem dksX4_dueEntry_0 : cX4_dueEntry.data.toList.drop 0 = dktX4_dueEntry_0 := by decide +kernel
theorem dksX4_dueEntry_1 : cX4_dueEntry.data.toList.drop 24 = dktX4_dueEntry_1 := dk_seg dksX4_dueEntry_0 24 rfl rfl
theorem dX4_dueEntry_0 : decode cX4_dueEntry 0 = .ok (.aload_n 0, 1) := dk_42 (dk_at dksX4_dueEntry_0 0 rfl rfl)
theorem dX4_dueEntry_1 : decode cX4_dueEntry 1 = .ok (.aload_n 0, 1) := dk_42 (dk_at dksX4_dueEntry_0 1 rfl rfl)
theorem dX4_dueEntry_2 : decode cX4_dueEntry 2 = .ok (.invokevirtual 152, 3) := dk_182 0 152 (dk_at dksX4_dueEntry_0 2 rfl rfl)
theorem dX4_dueEntry_5 : decode cX4_dueEntry 5 = .ok (.ifCond .ne 7, 3) := dk_154 0 7 (dk_at dksX4_dueEntry_0 5 rfl rfl)
theorem dX4_dueEntry_8 : decode cX4_dueEntry 8 = .ok (.iconst 1, 1) := dk_4 (dk_at dksX4_dueEntry_0 8 rfl rfl)
theorem dX4_dueEntry_9 : decode cX4_dueEntry 9 = .ok (.goto 4, 3) := dk_167 0 4 (dk_at dksX4_dueEntry_0 9 rfl rfl)
theorem dX4_dueEntry_12 : decode cX4_dueEntry 12 = .ok (.iconst 0, 1) := dk_3 (dk_at dksX4_dueEntry_0 12 rfl rfl)
theorem dX4_dueEntry_13 : decode cX4_dueEntry 13 = .ok (.iconst 1, 1) := dk_4 (dk_at dksX4_dueEntry_0 13 rfl rfl)
theorem dX4_dueEntry_14 : decode cX4_dueEntry 14 = .ok (.invokevirtual 51, 3) := dk_182 0 51 (dk_at dksX4_dueEntry_0 14 rfl rfl)
theorem dX4_dueEntry_17 : decode cX4_dueEntry 17 = .ok (.ifCond .eq 7, 3) := dk_153 0 7 (dk_at dksX4_dueEntry_0 17 rfl rfl)
theorem dX4_dueEntry_20 : decode cX4_dueEntry 20 = .ok (.iconst 0, 1) := dk_3 (dk_at dksX4_dueEntry_0 20 rfl rfl)
theorem dX4_dueEntry_21 : decode cX4_dueEntry 21 = .ok (.goto 7, 3) := dk_167 0 7 (dk_at dksX4_dueEntry_0 21 rfl rfl)
theorem dX4_dueEntry_24 : decode cX4_dueEntry 24 = .ok (.aload_n 0, 1) := dk_42 (dk_at dksX4_dueEntry_1 0 rfl rfl)
theorem dX4_dueEntry_25 : decode cX4_dueEntry 25 = .ok (.getfield 143, 3) := dk_180 0 143 (dk_at dksX4_dueEntry_1 1 rfl rfl)
theorem dX4_dueEntry_28 : decode cX4_dueEntry 28 = .ok (.ireturn, 1) := dk_172 (dk_at dksX4_dueEntry_1 4 rfl rfl)
abbrev cX4_goes : ByteArray := prog_10_method_69_code
def yX4_goes : MethodName := ⟨RX4, "goes", "()Z"⟩
def dkwX4_goes_8 : List UInt8 := [180, 0, 9, 16, 6, 46, 162, 0, 7, 4, 167, 0, 4, 3, 172]
abbrev dktX4_goes_8 : List UInt8 := dkwX4_goes_8 ++ []
def dkwX4_goes_7 : List UInt8 := [6, 112, 60, 132, 2, 1, 167, 255, 114, 42, 180, 0, 9, 7, 46, 4, 160, 0, 21, 42, 180, 0, 143, 42]
abbrev dktX4_goes_7 : List UInt8 := dkwX4_goes_7 ++ dktX4_goes_8
def dkwX4_goes_6 : List UInt8 := [42, 89, 180, 0, 143, 29, 153, 0, 8, 27, 6, 160, 0, 7, 4, 167, 0, 4, 3, 96, 181, 0, 143, 27]
abbrev dktX4_goes_6 : List UInt8 := dkwX4_goes_6 ++ dktX4_goes_7
def dkwX4_goes_5 : List UInt8 := [3, 96, 181, 0, 146, 42, 89, 180, 0, 149, 27, 6, 160, 0, 7, 4, 167, 0, 4, 3, 96, 181, 0, 149]
abbrev dktX4_goes_5 : List UInt8 := dkwX4_goes_5 ++ dktX4_goes_6
def dkwX4_goes_4 : List UInt8 := [153, 0, 9, 27, 4, 96, 167, 0, 4, 3, 60, 42, 89, 180, 0, 146, 29, 153, 0, 7, 4, 167, 0, 4]
abbrev dktX4_goes_4 : List UInt8 := dkwX4_goes_4 ++ dktX4_goes_5
def dkwX4_goes_3 : List UInt8 := [104, 42, 180, 0, 9, 16, 40, 42, 180, 0, 143, 96, 46, 162, 0, 7, 4, 167, 0, 4, 3, 62, 29]
abbrev dktX4_goes_3 : List UInt8 := dkwX4_goes_3 ++ dktX4_goes_4
def dkwX4_goes_2 : List UInt8 := [162, 0, 128, 42, 180, 0, 143, 42, 180, 0, 9, 16, 6, 46, 162, 0, 114, 5, 42, 180, 0, 21, 28, 46]
abbrev dktX4_goes_2 : List UInt8 := dkwX4_goes_2 ++ dktX4_goes_3
def dkwX4_goes_1 : List UInt8 := [180, 0, 9, 8, 46, 61, 42, 180, 0, 9, 7, 46, 4, 160, 0, 138, 28, 42, 180, 0, 9, 3, 46]
abbrev dktX4_goes_1 : List UInt8 := dkwX4_goes_1 ++ dktX4_goes_2
def dkwX4_goes_0 : List UInt8 := [42, 182, 0, 96, 42, 3, 181, 0, 143, 42, 3, 181, 0, 146, 42, 3, 181, 0, 149, 3, 60, 42]
abbrev dktX4_goes_0 : List UInt8 := dkwX4_goes_0 ++ dktX4_goes_1
theorem dksX4_goes_0 : cX4_goes.data.toList.drop 0 = dktX4_goes_0 := by decide +kernel
theorem dksX4_goes_1 : cX4_goes.data.toList.drop 22 = dktX4_goes_1 := dk_seg dksX4_goes_0 22 rfl rfl
theorem dksX4_goes_2 : cX4_goes.data.toList.drop 45 = dktX4_goes_2 := dk_seg dksX4_goes_1 23 rfl rfl
theorem dksX4_goes_3 : cX4_goes.data.toList.drop 69 = dktX4_goes_3 := dk_seg dksX4_goes_2 24 rfl rfl
theorem dksX4_goes_4 : cX4_goes.data.toList.drop 92 = dktX4_goes_4 := dk_seg dksX4_goes_3 23 rfl rfl
theorem dksX4_goes_5 : cX4_goes.data.toList.drop 116 = dktX4_goes_5 := dk_seg dksX4_goes_4 24 rfl rfl
theorem dksX4_goes_6 : cX4_goes.data.toList.drop 140 = dktX4_goes_6 := dk_seg dksX4_goes_5 24 rfl rfl
theorem dksX4_goes_7 : cX4_goes.data.toList.drop 164 = dktX4_goes_7 := dk_seg dksX4_goes_6 24 rfl rfl
theorem dksX4_goes_8 : cX4_goes.data.toList.drop 188 = dktX4_goes_8 := dk_seg dksX4_goes_7 24 rfl rfl
theorem dX4_goes_0 : decode cX4_goes 0 = .ok (.aload_n 0, 1) := dk_42 (dk_at dksX4_goes_0 0 rfl rfl)
theorem dX4_goes_1 : decode cX4_goes 1 = .ok (.invokevirtual 96, 3) := dk_182 0 96 (dk_at dksX4_goes_0 1 rfl rfl)
theorem dX4_goes_4 : decode cX4_goes 4 = .ok (.aload_n 0, 1) := dk_42 (dk_at dksX4_goes_0 4 rfl rfl)
theorem dX4_goes_5 : decode cX4_goes 5 = .ok (.iconst 0, 1) := dk_3 (dk_at dksX4_goes_0 5 rfl rfl)
theorem dX4_goes_6 : decode cX4_goes 6 = .ok (.putfield 143, 3) := dk_181 0 143 (dk_at dksX4_goes_0 6 rfl rfl)
theorem dX4_goes_9 : decode cX4_goes 9 = .ok (.aload_n 0, 1) := dk_42 (dk_at dksX4_goes_0 9 rfl rfl)
theorem dX4_goes_10 : decode cX4_goes 10 = .ok (.iconst 0, 1) := dk_3 (dk_at dksX4_goes_0 10 rfl rfl)
theorem dX4_goes_11 : decode cX4_goes 11 = .ok (.putfield 146, 3) := dk_181 0 146 (dk_at dksX4_goes_0 11 rfl rfl)
theorem dX4_goes_14 : decode cX4_goes 14 = .ok (.aload_n 0, 1) := dk_42 (dk_at dksX4_goes_0 14 rfl rfl)
theorem dX4_goes_15 : decode cX4_goes 15 = .ok (.iconst 0, 1) := dk_3 (dk_at dksX4_goes_0 15 rfl rfl)
theorem dX4_goes_16 : decode cX4_goes 16 = .ok (.putfield 149, 3) := dk_181 0 149 (dk_at dksX4_goes_0 16 rfl rfl)
theorem dX4_goes_19 : decode cX4_goes 19 = .ok (.iconst 0, 1) := dk_3 (dk_at dksX4_goes_0 19 rfl rfl)
theorem dX4_goes_20 : decode cX4_goes 20 = .ok (.istore_n 1, 1) := dk_60 (dk_at dksX4_goes_0 20 rfl rfl)
theorem dX4_goes_21 : decode cX4_goes 21 = .ok (.aload_n 0, 1) := dk_42 (dk_at dksX4_goes_0 21 rfl rfl)
theorem dX4_goes_22 : decode cX4_goes 22 = .ok (.getfield 9, 3) := dk_180 0 9 (dk_at dksX4_goes_1 0 rfl rfl)
theorem dX4_goes_25 : decode cX4_goes 25 = .ok (.iconst 5, 1) := dk_8 (dk_at dksX4_goes_1 3 rfl rfl)
theorem dX4_goes_26 : decode cX4_goes 26 = .ok (.iaload, 1) := dk_46 (dk_at dksX4_goes_1 4 rfl rfl)
theorem dX4_goes_27 : decode cX4_goes 27 = .ok (.istore_n 2, 1) := dk_61 (dk_at dksX4_goes_1 5 rfl rfl)
theorem dX4_goes_28 : decode cX4_goes 28 = .ok (.aload_n 0, 1) := dk_42 (dk_at dksX4_goes_1 6 rfl rfl)
theorem dX4_goes_29 : decode cX4_goes 29 = .ok (.getfield 9, 3) := dk_180 0 9 (dk_at dksX4_goes_1 7 rfl rfl)
theorem dX4_goes_32 : decode cX4_goes 32 = .ok (.iconst 4, 1) := dk_7 (dk_at dksX4_goes_1 10 rfl rfl)
theorem dX4_goes_33 : decode cX4_goes 33 = .ok (.iaload, 1) := dk_46 (dk_at dksX4_goes_1 11 rfl rfl)
theorem dX4_goes_34 : decode cX4_goes 34 = .ok (.iconst 1, 1) := dk_4 (dk_at dksX4_goes_1 12 rfl rfl)
theorem dX4_goes_35 : decode cX4_goes 35 = .ok (.if_icmp .ne 138, 3) := dk_160 0 138 (dk_at dksX4_goes_1 13 rfl rfl)
theorem dX4_goes_38 : decode cX4_goes 38 = .ok (.iload_n 2, 1) := dk_28 (dk_at dksX4_goes_1 16 rfl rfl)
theorem dX4_goes_39 : decode cX4_goes 39 = .ok (.aload_n 0, 1) := dk_42 (dk_at dksX4_goes_1 17 rfl rfl)
theorem dX4_goes_40 : decode cX4_goes 40 = .ok (.getfield 9, 3) := dk_180 0 9 (dk_at dksX4_goes_1 18 rfl rfl)
theorem dX4_goes_43 : decode cX4_goes 43 = .ok (.iconst 0, 1) := dk_3 (dk_at dksX4_goes_1 21 rfl rfl)
theorem dX4_goes_44 : decode cX4_goes 44 = .ok (.iaload, 1) := dk_46 (dk_at dksX4_goes_1 22 rfl rfl)
theorem dX4_goes_45 : decode cX4_goes 45 = .ok (.if_icmp .ge 128, 3) := dk_162 0 128 (dk_at dksX4_goes_2 0 rfl rfl)
theorem dX4_goes_48 : decode cX4_goes 48 = .ok (.aload_n 0, 1) := dk_42 (dk_at dksX4_goes_2 3 rfl rfl)
theorem dX4_goes_49 : decode cX4_goes 49 = .ok (.getfield 143, 3) := dk_180 0 143 (dk_at dksX4_goes_2 4 rfl rfl)
theorem dX4_goes_52 : decode cX4_goes 52 = .ok (.aload_n 0, 1) := dk_42 (dk_at dksX4_goes_2 7 rfl rfl)
theorem dX4_goes_53 : decode cX4_goes 53 = .ok (.getfield 9, 3) := dk_180 0 9 (dk_at dksX4_goes_2 8 rfl rfl)
theorem dX4_goes_56 : decode cX4_goes 56 = .ok (.bipush 6, 2) := dk_16 6 (dk_at dksX4_goes_2 11 rfl rfl)
theorem dX4_goes_58 : decode cX4_goes 58 = .ok (.iaload, 1) := dk_46 (dk_at dksX4_goes_2 13 rfl rfl)
theorem dX4_goes_59 : decode cX4_goes 59 = .ok (.if_icmp .ge 114, 3) := dk_162 0 114 (dk_at dksX4_goes_2 14 rfl rfl)
theorem dX4_goes_62 : decode cX4_goes 62 = .ok (.iconst 2, 1) := dk_5 (dk_at dksX4_goes_2 17 rfl rfl)
theorem dX4_goes_63 : decode cX4_goes 63 = .ok (.aload_n 0, 1) := dk_42 (dk_at dksX4_goes_2 18 rfl rfl)
theorem dX4_goes_64 : decode cX4_goes 64 = .ok (.getfield 21, 3) := dk_180 0 21 (dk_at dksX4_goes_2 19 rfl rfl)
theorem dX4_goes_67 : decode cX4_goes 67 = .ok (.iload_n 2, 1) := dk_28 (dk_at dksX4_goes_2 22 rfl rfl)
theorem dX4_goes_68 : decode cX4_goes 68 = .ok (.iaload, 1) := dk_46 (dk_at dksX4_goes_2 23 rfl rfl)
theorem dX4_goes_69 : decode cX4_goes 69 = .ok (.imul, 1) := dk_104 (dk_at dksX4_goes_3 0 rfl rfl)
theorem dX4_goes_70 : decode cX4_goes 70 = .ok (.aload_n 0, 1) := dk_42 (dk_at dksX4_goes_3 1 rfl rfl)
theorem dX4_goes_71 : decode cX4_goes 71 = .ok (.getfield 9, 3) := dk_180 0 9 (dk_at dksX4_goes_3 2 rfl rfl)
theorem dX4_goes_74 : decode cX4_goes 74 = .ok (.bipush 40, 2) := dk_16 40 (dk_at dksX4_goes_3 5 rfl rfl)
theorem dX4_goes_76 : decode cX4_goes 76 = .ok (.aload_n 0, 1) := dk_42 (dk_at dksX4_goes_3 7 rfl rfl)
theorem dX4_goes_77 : decode cX4_goes 77 = .ok (.getfield 143, 3) := dk_180 0 143 (dk_at dksX4_goes_3 8 rfl rfl)
theorem dX4_goes_80 : decode cX4_goes 80 = .ok (.iadd, 1) := dk_96 (dk_at dksX4_goes_3 11 rfl rfl)
theorem dX4_goes_81 : decode cX4_goes 81 = .ok (.iaload, 1) := dk_46 (dk_at dksX4_goes_3 12 rfl rfl)
theorem dX4_goes_82 : decode cX4_goes 82 = .ok (.if_icmp .ge 7, 3) := dk_162 0 7 (dk_at dksX4_goes_3 13 rfl rfl)
theorem dX4_goes_85 : decode cX4_goes 85 = .ok (.iconst 1, 1) := dk_4 (dk_at dksX4_goes_3 16 rfl rfl)
theorem dX4_goes_86 : decode cX4_goes 86 = .ok (.goto 4, 3) := dk_167 0 4 (dk_at dksX4_goes_3 17 rfl rfl)
theorem dX4_goes_89 : decode cX4_goes 89 = .ok (.iconst 0, 1) := dk_3 (dk_at dksX4_goes_3 20 rfl rfl)
theorem dX4_goes_90 : decode cX4_goes 90 = .ok (.istore_n 3, 1) := dk_62 (dk_at dksX4_goes_3 21 rfl rfl)
theorem dX4_goes_91 : decode cX4_goes 91 = .ok (.iload_n 3, 1) := dk_29 (dk_at dksX4_goes_3 22 rfl rfl)
theorem dX4_goes_92 : decode cX4_goes 92 = .ok (.ifCond .eq 9, 3) := dk_153 0 9 (dk_at dksX4_goes_4 0 rfl rfl)
theorem dX4_goes_95 : decode cX4_goes 95 = .ok (.iload_n 1, 1) := dk_27 (dk_at dksX4_goes_4 3 rfl rfl)
theorem dX4_goes_96 : decode cX4_goes 96 = .ok (.iconst 1, 1) := dk_4 (dk_at dksX4_goes_4 4 rfl rfl)
theorem dX4_goes_97 : decode cX4_goes 97 = .ok (.iadd, 1) := dk_96 (dk_at dksX4_goes_4 5 rfl rfl)
theorem dX4_goes_98 : decode cX4_goes 98 = .ok (.goto 4, 3) := dk_167 0 4 (dk_at dksX4_goes_4 6 rfl rfl)
theorem dX4_goes_101 : decode cX4_goes 101 = .ok (.iconst 0, 1) := dk_3 (dk_at dksX4_goes_4 9 rfl rfl)
theorem dX4_goes_102 : decode cX4_goes 102 = .ok (.istore_n 1, 1) := dk_60 (dk_at dksX4_goes_4 10 rfl rfl)
theorem dX4_goes_103 : decode cX4_goes 103 = .ok (.aload_n 0, 1) := dk_42 (dk_at dksX4_goes_4 11 rfl rfl)
theorem dX4_goes_104 : decode cX4_goes 104 = .ok (.dup, 1) := dk_89 (dk_at dksX4_goes_4 12 rfl rfl)
theorem dX4_goes_105 : decode cX4_goes 105 = .ok (.getfield 146, 3) := dk_180 0 146 (dk_at dksX4_goes_4 13 rfl rfl)
theorem dX4_goes_108 : decode cX4_goes 108 = .ok (.iload_n 3, 1) := dk_29 (dk_at dksX4_goes_4 16 rfl rfl)
theorem dX4_goes_109 : decode cX4_goes 109 = .ok (.ifCond .eq 7, 3) := dk_153 0 7 (dk_at dksX4_goes_4 17 rfl rfl)
theorem dX4_goes_112 : decode cX4_goes 112 = .ok (.iconst 1, 1) := dk_4 (dk_at dksX4_goes_4 20 rfl rfl)
theorem dX4_goes_113 : decode cX4_goes 113 = .ok (.goto 4, 3) := dk_167 0 4 (dk_at dksX4_goes_4 21 rfl rfl)
theorem dX4_goes_116 : decode cX4_goes 116 = .ok (.iconst 0, 1) := dk_3 (dk_at dksX4_goes_5 0 rfl rfl)
theorem dX4_goes_117 : decode cX4_goes 117 = .ok (.iadd, 1) := dk_96 (dk_at dksX4_goes_5 1 rfl rfl)
theorem dX4_goes_118 : decode cX4_goes 118 = .ok (.putfield 146, 3) := dk_181 0 146 (dk_at dksX4_goes_5 2 rfl rfl)
theorem dX4_goes_121 : decode cX4_goes 121 = .ok (.aload_n 0, 1) := dk_42 (dk_at dksX4_goes_5 5 rfl rfl)
theorem dX4_goes_122 : decode cX4_goes 122 = .ok (.dup, 1) := dk_89 (dk_at dksX4_goes_5 6 rfl rfl)
theorem dX4_goes_123 : decode cX4_goes 123 = .ok (.getfield 149, 3) := dk_180 0 149 (dk_at dksX4_goes_5 7 rfl rfl)
theorem dX4_goes_126 : decode cX4_goes 126 = .ok (.iload_n 1, 1) := dk_27 (dk_at dksX4_goes_5 10 rfl rfl)
theorem dX4_goes_127 : decode cX4_goes 127 = .ok (.iconst 3, 1) := dk_6 (dk_at dksX4_goes_5 11 rfl rfl)
theorem dX4_goes_128 : decode cX4_goes 128 = .ok (.if_icmp .ne 7, 3) := dk_160 0 7 (dk_at dksX4_goes_5 12 rfl rfl)
theorem dX4_goes_131 : decode cX4_goes 131 = .ok (.iconst 1, 1) := dk_4 (dk_at dksX4_goes_5 15 rfl rfl)
theorem dX4_goes_132 : decode cX4_goes 132 = .ok (.goto 4, 3) := dk_167 0 4 (dk_at dksX4_goes_5 16 rfl rfl)
theorem dX4_goes_135 : decode cX4_goes 135 = .ok (.iconst 0, 1) := dk_3 (dk_at dksX4_goes_5 19 rfl rfl)
theorem dX4_goes_136 : decode cX4_goes 136 = .ok (.iadd, 1) := dk_96 (dk_at dksX4_goes_5 20 rfl rfl)
theorem dX4_goes_137 : decode cX4_goes 137 = .ok (.putfield 149, 3) := dk_181 0 149 (dk_at dksX4_goes_5 21 rfl rfl)
theorem dX4_goes_140 : decode cX4_goes 140 = .ok (.aload_n 0, 1) := dk_42 (dk_at dksX4_goes_6 0 rfl rfl)
theorem dX4_goes_141 : decode cX4_goes 141 = .ok (.dup, 1) := dk_89 (dk_at dksX4_goes_6 1 rfl rfl)
theorem dX4_goes_142 : decode cX4_goes 142 = .ok (.getfield 143, 3) := dk_180 0 143 (dk_at dksX4_goes_6 2 rfl rfl)
theorem dX4_goes_145 : decode cX4_goes 145 = .ok (.iload_n 3, 1) := dk_29 (dk_at dksX4_goes_6 5 rfl rfl)
theorem dX4_goes_146 : decode cX4_goes 146 = .ok (.ifCond .eq 8, 3) := dk_153 0 8 (dk_at dksX4_goes_6 6 rfl rfl)
theorem dX4_goes_149 : decode cX4_goes 149 = .ok (.iload_n 1, 1) := dk_27 (dk_at dksX4_goes_6 9 rfl rfl)
theorem dX4_goes_150 : decode cX4_goes 150 = .ok (.iconst 3, 1) := dk_6 (dk_at dksX4_goes_6 10 rfl rfl)
theorem dX4_goes_151 : decode cX4_goes 151 = .ok (.if_icmp .ne 7, 3) := dk_160 0 7 (dk_at dksX4_goes_6 11 rfl rfl)
theorem dX4_goes_154 : decode cX4_goes 154 = .ok (.iconst 1, 1) := dk_4 (dk_at dksX4_goes_6 14 rfl rfl)
theorem dX4_goes_155 : decode cX4_goes 155 = .ok (.goto 4, 3) := dk_167 0 4 (dk_at dksX4_goes_6 15 rfl rfl)
theorem dX4_goes_158 : decode cX4_goes 158 = .ok (.iconst 0, 1) := dk_3 (dk_at dksX4_goes_6 18 rfl rfl)
theorem dX4_goes_159 : decode cX4_goes 159 = .ok (.iadd, 1) := dk_96 (dk_at dksX4_goes_6 19 rfl rfl)
theorem dX4_goes_160 : decode cX4_goes 160 = .ok (.putfield 143, 3) := dk_181 0 143 (dk_at dksX4_goes_6 20 rfl rfl)
theorem dX4_goes_163 : decode cX4_goes 163 = .ok (.iload_n 1, 1) := dk_27 (dk_at dksX4_goes_6 23 rfl rfl)
theorem dX4_goes_164 : decode cX4_goes 164 = .ok (.iconst 3, 1) := dk_6 (dk_at dksX4_goes_7 0 rfl rfl)
theorem dX4_goes_165 : decode cX4_goes 165 = .ok (.irem, 1) := dk_112 (dk_at dksX4_goes_7 1 rfl rfl)
theorem dX4_goes_166 : decode cX4_goes 166 = .ok (.istore_n 1, 1) := dk_60 (dk_at dksX4_goes_7 2 rfl rfl)
theorem dX4_goes_167 : decode cX4_goes 167 = .ok (.iinc 2 1, 3) := dk_132 2 1 (dk_at dksX4_goes_7 3 rfl rfl)
theorem dX4_goes_170 : decode cX4_goes 170 = .ok (.goto (-142), 3) := dk_167 255 114 (dk_at dksX4_goes_7 6 rfl rfl)
theorem dX4_goes_173 : decode cX4_goes 173 = .ok (.aload_n 0, 1) := dk_42 (dk_at dksX4_goes_7 9 rfl rfl)
theorem dX4_goes_174 : decode cX4_goes 174 = .ok (.getfield 9, 3) := dk_180 0 9 (dk_at dksX4_goes_7 10 rfl rfl)
theorem dX4_goes_177 : decode cX4_goes 177 = .ok (.iconst 4, 1) := dk_7 (dk_at dksX4_goes_7 13 rfl rfl)
theorem dX4_goes_178 : decode cX4_goes 178 = .ok (.iaload, 1) := dk_46 (dk_at dksX4_goes_7 14 rfl rfl)
theorem dX4_goes_179 : decode cX4_goes 179 = .ok (.iconst 1, 1) := dk_4 (dk_at dksX4_goes_7 15 rfl rfl)
theorem dX4_goes_180 : decode cX4_goes 180 = .ok (.if_icmp .ne 21, 3) := dk_160 0 21 (dk_at dksX4_goes_7 16 rfl rfl)
theorem dX4_goes_183 : decode cX4_goes 183 = .ok (.aload_n 0, 1) := dk_42 (dk_at dksX4_goes_7 19 rfl rfl)
theorem dX4_goes_184 : decode cX4_goes 184 = .ok (.getfield 143, 3) := dk_180 0 143 (dk_at dksX4_goes_7 20 rfl rfl)
theorem dX4_goes_187 : decode cX4_goes 187 = .ok (.aload_n 0, 1) := dk_42 (dk_at dksX4_goes_7 23 rfl rfl)
theorem dX4_goes_188 : decode cX4_goes 188 = .ok (.getfield 9, 3) := dk_180 0 9 (dk_at dksX4_goes_8 0 rfl rfl)
theorem dX4_goes_191 : decode cX4_goes 191 = .ok (.bipush 6, 2) := dk_16 6 (dk_at dksX4_goes_8 3 rfl rfl)
theorem dX4_goes_193 : decode cX4_goes 193 = .ok (.iaload, 1) := dk_46 (dk_at dksX4_goes_8 5 rfl rfl)
theorem dX4_goes_194 : decode cX4_goes 194 = .ok (.if_icmp .ge 7, 3) := dk_162 0 7 (dk_at dksX4_goes_8 6 rfl rfl)
theorem dX4_goes_197 : decode cX4_goes 197 = .ok (.iconst 1, 1) := dk_4 (dk_at dksX4_goes_8 9 rfl rfl)
theorem dX4_goes_198 : decode cX4_goes 198 = .ok (.goto 4, 3) := dk_167 0 4 (dk_at dksX4_goes_8 10 rfl rfl)
theorem dX4_goes_201 : decode cX4_goes 201 = .ok (.iconst 0, 1) := dk_3 (dk_at dksX4_goes_8 13 rfl rfl)
theorem dX4_goes_202 : decode cX4_goes 202 = .ok (.ireturn, 1) := dk_172 (dk_at dksX4_goes_8 14 rfl rfl)
abbrev cX4_missedDays : ByteArray := prog_10_method_71_code
def yX4_missedDays : MethodName := ⟨RX4, "missedDays", "()I"⟩
def dkwX4_missedDays_0 : List UInt8 := [42, 3, 181, 0, 31, 42, 182, 0, 152, 60, 42, 180, 0, 146, 172]
abbrev dktX4_missedDays_0 : List UInt8 := dkwX4_missedDays_0 ++ []
theorem dksX4_missedDays_0 : cX4_missedDays.data.toList.drop 0 = dktX4_missedDays_0 := by decide +kernel
theorem dX4_missedDays_0 : decode cX4_missedDays 0 = .ok (.aload_n 0, 1) := dk_42 (dk_at dksX4_missedDays_0 0 rfl rfl)
theorem dX4_missedDays_1 : decode cX4_missedDays 1 = .ok (.iconst 0, 1) := dk_3 (dk_at dksX4_missedDays_0 1 rfl rfl)
theorem dX4_missedDays_2 : decode cX4_missedDays 2 = .ok (.putfield 31, 3) := dk_181 0 31 (dk_at dksX4_missedDays_0 2 rfl rfl)
theorem dX4_missedDays_5 : decode cX4_missedDays 5 = .ok (.aload_n 0, 1) := dk_42 (dk_at dksX4_missedDays_0 5 rfl rfl)
theorem dX4_missedDays_6 : decode cX4_missedDays 6 = .ok (.invokevirtual 152, 3) := dk_182 0 152 (dk_at dksX4_missedDays_0 6 rfl rfl)
theorem dX4_missedDays_9 : decode cX4_missedDays 9 = .ok (.istore_n 1, 1) := dk_60 (dk_at dksX4_missedDays_0 9 rfl rfl)
theorem dX4_missedDays_10 : decode cX4_missedDays 10 = .ok (.aload_n 0, 1) := dk_42 (dk_at dksX4_missedDays_0 10 rfl rfl)
theorem dX4_missedDays_11 : decode cX4_missedDays 11 = .ok (.getfield 146, 3) := dk_180 0 146 (dk_at dksX4_missedDays_0 11 rfl rfl)
theorem dX4_missedDays_14 : decode cX4_missedDays 14 = .ok (.ireturn, 1) := dk_172 (dk_at dksX4_missedDays_0 14 rfl rfl)
abbrev cX4_droppedEntries : ByteArray := prog_10_method_72_code
def yX4_droppedEntries : MethodName := ⟨RX4, "droppedEntries", "()I"⟩
def dkwX4_droppedEntries_0 : List UInt8 := [42, 3, 181, 0, 31, 42, 182, 0, 152, 60, 42, 180, 0, 149, 172]
abbrev dktX4_droppedEntries_0 : List UInt8 := dkwX4_droppedEntries_0 ++ []
theorem dksX4_droppedEntries_0 : cX4_droppedEntries.data.toList.drop 0 = dktX4_droppedEntries_0 := by decide +kernel
theorem dX4_droppedEntries_0 : decode cX4_droppedEntries 0 = .ok (.aload_n 0, 1) := dk_42 (dk_at dksX4_droppedEntries_0 0 rfl rfl)
theorem dX4_droppedEntries_1 : decode cX4_droppedEntries 1 = .ok (.iconst 0, 1) := dk_3 (dk_at dksX4_droppedEntries_0 1 rfl rfl)
theorem dX4_droppedEntries_2 : decode cX4_droppedEntries 2 = .ok (.putfield 31, 3) := dk_181 0 31 (dk_at dksX4_droppedEntries_0 2 rfl rfl)
theorem dX4_droppedEntries_5 : decode cX4_droppedEntries 5 = .ok (.aload_n 0, 1) := dk_42 (dk_at dksX4_droppedEntries_0 5 rfl rfl)
theorem dX4_droppedEntries_6 : decode cX4_droppedEntries 6 = .ok (.invokevirtual 152, 3) := dk_182 0 152 (dk_at dksX4_droppedEntries_0 6 rfl rfl)
theorem dX4_droppedEntries_9 : decode cX4_droppedEntries 9 = .ok (.istore_n 1, 1) := dk_60 (dk_at dksX4_droppedEntries_0 9 rfl rfl)
theorem dX4_droppedEntries_10 : decode cX4_droppedEntries 10 = .ok (.aload_n 0, 1) := dk_42 (dk_at dksX4_droppedEntries_0 10 rfl rfl)
theorem dX4_droppedEntries_11 : decode cX4_droppedEntries 11 = .ok (.getfield 149, 3) := dk_180 0 149 (dk_at dksX4_droppedEntries_0 11 rfl rfl)
theorem dX4_droppedEntries_14 : decode cX4_droppedEntries 14 = .ok (.ireturn, 1) := dk_172 (dk_at dksX4_droppedEntries_0 14 rfl rfl)
abbrev cX4_planEnd : ByteArray := prog_10_method_73_code
def yX4_planEnd : MethodName := ⟨RX4, "planEnd", "()I"⟩
def dkwX4_planEnd_1 : List UInt8 := [42, 180, 0, 9, 3, 46, 42, 180, 0, 9, 16, 6, 46, 96, 4, 100, 42, 180, 0, 143, 100, 172]
abbrev dktX4_planEnd_1 : List UInt8 := dkwX4_planEnd_1 ++ []
def dkwX4_planEnd_0 : List UInt8 := [42, 42, 182, 0, 152, 154, 0, 7, 4, 167, 0, 4, 3, 4, 182, 0, 51, 153, 0, 7, 3, 167, 0, 24]
abbrev dktX4_planEnd_0 : List UInt8 := dkwX4_planEnd_0 ++ dktX4_planEnd_1
theorem dksX4_planEnd_0 : cX4_planEnd.data.toList.drop 0 = dktX4_planEnd_0 := by decide +kernel
theorem dksX4_planEnd_1 : cX4_planEnd.data.toList.drop 24 = dktX4_planEnd_1 := dk_seg dksX4_planEnd_0 24 rfl rfl
theorem dX4_planEnd_0 : decode cX4_planEnd 0 = .ok (.aload_n 0, 1) := dk_42 (dk_at dksX4_planEnd_0 0 rfl rfl)
theorem dX4_planEnd_1 : decode cX4_planEnd 1 = .ok (.aload_n 0, 1) := dk_42 (dk_at dksX4_planEnd_0 1 rfl rfl)
theorem dX4_planEnd_2 : decode cX4_planEnd 2 = .ok (.invokevirtual 152, 3) := dk_182 0 152 (dk_at dksX4_planEnd_0 2 rfl rfl)
theorem dX4_planEnd_5 : decode cX4_planEnd 5 = .ok (.ifCond .ne 7, 3) := dk_154 0 7 (dk_at dksX4_planEnd_0 5 rfl rfl)
theorem dX4_planEnd_8 : decode cX4_planEnd 8 = .ok (.iconst 1, 1) := dk_4 (dk_at dksX4_planEnd_0 8 rfl rfl)
theorem dX4_planEnd_9 : decode cX4_planEnd 9 = .ok (.goto 4, 3) := dk_167 0 4 (dk_at dksX4_planEnd_0 9 rfl rfl)
theorem dX4_planEnd_12 : decode cX4_planEnd 12 = .ok (.iconst 0, 1) := dk_3 (dk_at dksX4_planEnd_0 12 rfl rfl)
theorem dX4_planEnd_13 : decode cX4_planEnd 13 = .ok (.iconst 1, 1) := dk_4 (dk_at dksX4_planEnd_0 13 rfl rfl)
theorem dX4_planEnd_14 : decode cX4_planEnd 14 = .ok (.invokevirtual 51, 3) := dk_182 0 51 (dk_at dksX4_planEnd_0 14 rfl rfl)
theorem dX4_planEnd_17 : decode cX4_planEnd 17 = .ok (.ifCond .eq 7, 3) := dk_153 0 7 (dk_at dksX4_planEnd_0 17 rfl rfl)
theorem dX4_planEnd_20 : decode cX4_planEnd 20 = .ok (.iconst 0, 1) := dk_3 (dk_at dksX4_planEnd_0 20 rfl rfl)
theorem dX4_planEnd_21 : decode cX4_planEnd 21 = .ok (.goto 24, 3) := dk_167 0 24 (dk_at dksX4_planEnd_0 21 rfl rfl)
theorem dX4_planEnd_24 : decode cX4_planEnd 24 = .ok (.aload_n 0, 1) := dk_42 (dk_at dksX4_planEnd_1 0 rfl rfl)
theorem dX4_planEnd_25 : decode cX4_planEnd 25 = .ok (.getfield 9, 3) := dk_180 0 9 (dk_at dksX4_planEnd_1 1 rfl rfl)
theorem dX4_planEnd_28 : decode cX4_planEnd 28 = .ok (.iconst 0, 1) := dk_3 (dk_at dksX4_planEnd_1 4 rfl rfl)
theorem dX4_planEnd_29 : decode cX4_planEnd 29 = .ok (.iaload, 1) := dk_46 (dk_at dksX4_planEnd_1 5 rfl rfl)
theorem dX4_planEnd_30 : decode cX4_planEnd 30 = .ok (.aload_n 0, 1) := dk_42 (dk_at dksX4_planEnd_1 6 rfl rfl)
theorem dX4_planEnd_31 : decode cX4_planEnd 31 = .ok (.getfield 9, 3) := dk_180 0 9 (dk_at dksX4_planEnd_1 7 rfl rfl)
theorem dX4_planEnd_34 : decode cX4_planEnd 34 = .ok (.bipush 6, 2) := dk_16 6 (dk_at dksX4_planEnd_1 10 rfl rfl)
theorem dX4_planEnd_36 : decode cX4_planEnd 36 = .ok (.iaload, 1) := dk_46 (dk_at dksX4_planEnd_1 12 rfl rfl)
theorem dX4_planEnd_37 : decode cX4_planEnd 37 = .ok (.iadd, 1) := dk_96 (dk_at dksX4_planEnd_1 13 rfl rfl)
theorem dX4_planEnd_38 : decode cX4_planEnd 38 = .ok (.iconst 1, 1) := dk_4 (dk_at dksX4_planEnd_1 14 rfl rfl)
theorem dX4_planEnd_39 : decode cX4_planEnd 39 = .ok (.isub, 1) := dk_100 (dk_at dksX4_planEnd_1 15 rfl rfl)
theorem dX4_planEnd_40 : decode cX4_planEnd 40 = .ok (.aload_n 0, 1) := dk_42 (dk_at dksX4_planEnd_1 16 rfl rfl)
theorem dX4_planEnd_41 : decode cX4_planEnd 41 = .ok (.getfield 143, 3) := dk_180 0 143 (dk_at dksX4_planEnd_1 17 rfl rfl)
theorem dX4_planEnd_44 : decode cX4_planEnd 44 = .ok (.isub, 1) := dk_100 (dk_at dksX4_planEnd_1 20 rfl rfl)
theorem dX4_planEnd_45 : decode cX4_planEnd 45 = .ok (.ireturn, 1) := dk_172 (dk_at dksX4_planEnd_1 21 rfl rfl)
abbrev cX4_isPlanOver : ByteArray := prog_10_method_74_code
def yX4_isPlanOver : MethodName := ⟨RX4, "isPlanOver", "()Z"⟩
def dkwX4_isPlanOver_1 : List UInt8 := [167, 0, 4, 3, 172]
abbrev dktX4_isPlanOver_1 : List UInt8 := dkwX4_isPlanOver_1 ++ []
def dkwX4_isPlanOver_0 : List UInt8 := [42, 3, 181, 0, 31, 42, 182, 0, 152, 154, 0, 17, 42, 180, 0, 9, 7, 46, 4, 160, 0, 7, 4]
abbrev dktX4_isPlanOver_0 : List UInt8 := dkwX4_isPlanOver_0 ++ dktX4_isPlanOver_1
theorem dksX4_isPlanOver_0 : cX4_isPlanOver.data.toList.drop 0 = dktX4_isPlanOver_0 := by decide +kernel
theorem dksX4_isPlanOver_1 : cX4_isPlanOver.data.toList.drop 23 = dktX4_isPlanOver_1 := dk_seg dksX4_isPlanOver_0 23 rfl rfl
theorem dX4_isPlanOver_0 : decode cX4_isPlanOver 0 = .ok (.aload_n 0, 1) := dk_42 (dk_at dksX4_isPlanOver_0 0 rfl rfl)
theorem dX4_isPlanOver_1 : decode cX4_isPlanOver 1 = .ok (.iconst 0, 1) := dk_3 (dk_at dksX4_isPlanOver_0 1 rfl rfl)
theorem dX4_isPlanOver_2 : decode cX4_isPlanOver 2 = .ok (.putfield 31, 3) := dk_181 0 31 (dk_at dksX4_isPlanOver_0 2 rfl rfl)
theorem dX4_isPlanOver_5 : decode cX4_isPlanOver 5 = .ok (.aload_n 0, 1) := dk_42 (dk_at dksX4_isPlanOver_0 5 rfl rfl)
theorem dX4_isPlanOver_6 : decode cX4_isPlanOver 6 = .ok (.invokevirtual 152, 3) := dk_182 0 152 (dk_at dksX4_isPlanOver_0 6 rfl rfl)
theorem dX4_isPlanOver_9 : decode cX4_isPlanOver 9 = .ok (.ifCond .ne 17, 3) := dk_154 0 17 (dk_at dksX4_isPlanOver_0 9 rfl rfl)
theorem dX4_isPlanOver_12 : decode cX4_isPlanOver 12 = .ok (.aload_n 0, 1) := dk_42 (dk_at dksX4_isPlanOver_0 12 rfl rfl)
theorem dX4_isPlanOver_13 : decode cX4_isPlanOver 13 = .ok (.getfield 9, 3) := dk_180 0 9 (dk_at dksX4_isPlanOver_0 13 rfl rfl)
theorem dX4_isPlanOver_16 : decode cX4_isPlanOver 16 = .ok (.iconst 4, 1) := dk_7 (dk_at dksX4_isPlanOver_0 16 rfl rfl)
theorem dX4_isPlanOver_17 : decode cX4_isPlanOver 17 = .ok (.iaload, 1) := dk_46 (dk_at dksX4_isPlanOver_0 17 rfl rfl)
theorem dX4_isPlanOver_18 : decode cX4_isPlanOver 18 = .ok (.iconst 1, 1) := dk_4 (dk_at dksX4_isPlanOver_0 18 rfl rfl)
theorem dX4_isPlanOver_19 : decode cX4_isPlanOver 19 = .ok (.if_icmp .ne 7, 3) := dk_160 0 7 (dk_at dksX4_isPlanOver_0 19 rfl rfl)
theorem dX4_isPlanOver_22 : decode cX4_isPlanOver 22 = .ok (.iconst 1, 1) := dk_4 (dk_at dksX4_isPlanOver_0 22 rfl rfl)
theorem dX4_isPlanOver_23 : decode cX4_isPlanOver 23 = .ok (.goto 4, 3) := dk_167 0 4 (dk_at dksX4_isPlanOver_1 0 rfl rfl)
theorem dX4_isPlanOver_26 : decode cX4_isPlanOver 26 = .ok (.iconst 0, 1) := dk_3 (dk_at dksX4_isPlanOver_1 3 rfl rfl)
theorem dX4_isPlanOver_27 : decode cX4_isPlanOver 27 = .ok (.ireturn, 1) := dk_172 (dk_at dksX4_isPlanOver_1 4 rfl rfl)
abbrev cX4_writeWeek : ByteArray := prog_10_method_76_code
def yX4_writeWeek : MethodName := ⟨RX4, "writeWeek", "(I)I"⟩
def dkwX4_writeWeek_2 : List UInt8 := [182, 0, 156, 85, 132, 2, 1, 167, 255, 220, 42, 16, 13, 181, 0, 160, 16, 13, 172]
abbrev dktX4_writeWeek_2 : List UInt8 := dkwX4_writeWeek_2 ++ []
def dkwX4_writeWeek_1 : List UInt8 := [180, 0, 27, 28, 28, 5, 112, 4, 160, 0, 8, 16, 32, 167, 0, 12, 42, 27, 28, 5, 108, 96]
abbrev dktX4_writeWeek_1 : List UInt8 := dkwX4_writeWeek_1 ++ dktX4_writeWeek_2
def dkwX4_writeWeek_0 : List UInt8 := [42, 42, 27, 182, 0, 58, 4, 182, 0, 51, 153, 0, 5, 3, 172, 3, 61, 28, 16, 13, 162, 0, 36, 42]
abbrev dktX4_writeWeek_0 : List UInt8 := dkwX4_writeWeek_0 ++ dktX4_writeWeek_1
theorem dksX4_writeWeek_0 : cX4_writeWeek.data.toList.drop 0 = dktX4_writeWeek_0 := by decide +kernel
theorem dksX4_writeWeek_1 : cX4_writeWeek.data.toList.drop 24 = dktX4_writeWeek_1 := dk_seg dksX4_writeWeek_0 24 rfl rfl
theorem dksX4_writeWeek_2 : cX4_writeWeek.data.toList.drop 46 = dktX4_writeWeek_2 := dk_seg dksX4_writeWeek_1 22 rfl rfl
theorem dX4_writeWeek_0 : decode cX4_writeWeek 0 = .ok (.aload_n 0, 1) := dk_42 (dk_at dksX4_writeWeek_0 0 rfl rfl)
theorem dX4_writeWeek_1 : decode cX4_writeWeek 1 = .ok (.aload_n 0, 1) := dk_42 (dk_at dksX4_writeWeek_0 1 rfl rfl)
theorem dX4_writeWeek_2 : decode cX4_writeWeek 2 = .ok (.iload_n 1, 1) := dk_27 (dk_at dksX4_writeWeek_0 2 rfl rfl)
theorem dX4_writeWeek_3 : decode cX4_writeWeek 3 = .ok (.invokevirtual 58, 3) := dk_182 0 58 (dk_at dksX4_writeWeek_0 3 rfl rfl)
theorem dX4_writeWeek_6 : decode cX4_writeWeek 6 = .ok (.iconst 1, 1) := dk_4 (dk_at dksX4_writeWeek_0 6 rfl rfl)
theorem dX4_writeWeek_7 : decode cX4_writeWeek 7 = .ok (.invokevirtual 51, 3) := dk_182 0 51 (dk_at dksX4_writeWeek_0 7 rfl rfl)
theorem dX4_writeWeek_10 : decode cX4_writeWeek 10 = .ok (.ifCond .eq 5, 3) := dk_153 0 5 (dk_at dksX4_writeWeek_0 10 rfl rfl)
theorem dX4_writeWeek_13 : decode cX4_writeWeek 13 = .ok (.iconst 0, 1) := dk_3 (dk_at dksX4_writeWeek_0 13 rfl rfl)
theorem dX4_writeWeek_14 : decode cX4_writeWeek 14 = .ok (.ireturn, 1) := dk_172 (dk_at dksX4_writeWeek_0 14 rfl rfl)
theorem dX4_writeWeek_15 : decode cX4_writeWeek 15 = .ok (.iconst 0, 1) := dk_3 (dk_at dksX4_writeWeek_0 15 rfl rfl)
theorem dX4_writeWeek_16 : decode cX4_writeWeek 16 = .ok (.istore_n 2, 1) := dk_61 (dk_at dksX4_writeWeek_0 16 rfl rfl)
theorem dX4_writeWeek_17 : decode cX4_writeWeek 17 = .ok (.iload_n 2, 1) := dk_28 (dk_at dksX4_writeWeek_0 17 rfl rfl)
theorem dX4_writeWeek_18 : decode cX4_writeWeek 18 = .ok (.bipush 13, 2) := dk_16 13 (dk_at dksX4_writeWeek_0 18 rfl rfl)
theorem dX4_writeWeek_20 : decode cX4_writeWeek 20 = .ok (.if_icmp .ge 36, 3) := dk_162 0 36 (dk_at dksX4_writeWeek_0 20 rfl rfl)
theorem dX4_writeWeek_23 : decode cX4_writeWeek 23 = .ok (.aload_n 0, 1) := dk_42 (dk_at dksX4_writeWeek_0 23 rfl rfl)
theorem dX4_writeWeek_24 : decode cX4_writeWeek 24 = .ok (.getfield 27, 3) := dk_180 0 27 (dk_at dksX4_writeWeek_1 0 rfl rfl)
theorem dX4_writeWeek_27 : decode cX4_writeWeek 27 = .ok (.iload_n 2, 1) := dk_28 (dk_at dksX4_writeWeek_1 3 rfl rfl)
theorem dX4_writeWeek_28 : decode cX4_writeWeek 28 = .ok (.iload_n 2, 1) := dk_28 (dk_at dksX4_writeWeek_1 4 rfl rfl)
theorem dX4_writeWeek_29 : decode cX4_writeWeek 29 = .ok (.iconst 2, 1) := dk_5 (dk_at dksX4_writeWeek_1 5 rfl rfl)
theorem dX4_writeWeek_30 : decode cX4_writeWeek 30 = .ok (.irem, 1) := dk_112 (dk_at dksX4_writeWeek_1 6 rfl rfl)
theorem dX4_writeWeek_31 : decode cX4_writeWeek 31 = .ok (.iconst 1, 1) := dk_4 (dk_at dksX4_writeWeek_1 7 rfl rfl)
theorem dX4_writeWeek_32 : decode cX4_writeWeek 32 = .ok (.if_icmp .ne 8, 3) := dk_160 0 8 (dk_at dksX4_writeWeek_1 8 rfl rfl)
theorem dX4_writeWeek_35 : decode cX4_writeWeek 35 = .ok (.bipush 32, 2) := dk_16 32 (dk_at dksX4_writeWeek_1 11 rfl rfl)
theorem dX4_writeWeek_37 : decode cX4_writeWeek 37 = .ok (.goto 12, 3) := dk_167 0 12 (dk_at dksX4_writeWeek_1 13 rfl rfl)
theorem dX4_writeWeek_40 : decode cX4_writeWeek 40 = .ok (.aload_n 0, 1) := dk_42 (dk_at dksX4_writeWeek_1 16 rfl rfl)
theorem dX4_writeWeek_41 : decode cX4_writeWeek 41 = .ok (.iload_n 1, 1) := dk_27 (dk_at dksX4_writeWeek_1 17 rfl rfl)
theorem dX4_writeWeek_42 : decode cX4_writeWeek 42 = .ok (.iload_n 2, 1) := dk_28 (dk_at dksX4_writeWeek_1 18 rfl rfl)
theorem dX4_writeWeek_43 : decode cX4_writeWeek 43 = .ok (.iconst 2, 1) := dk_5 (dk_at dksX4_writeWeek_1 19 rfl rfl)
theorem dX4_writeWeek_44 : decode cX4_writeWeek 44 = .ok (.idiv, 1) := dk_108 (dk_at dksX4_writeWeek_1 20 rfl rfl)
theorem dX4_writeWeek_45 : decode cX4_writeWeek 45 = .ok (.iadd, 1) := dk_96 (dk_at dksX4_writeWeek_1 21 rfl rfl)
theorem dX4_writeWeek_46 : decode cX4_writeWeek 46 = .ok (.invokevirtual 156, 3) := dk_182 0 156 (dk_at dksX4_writeWeek_2 0 rfl rfl)
theorem dX4_writeWeek_49 : decode cX4_writeWeek 49 = .ok (.castore, 1) := dk_85 (dk_at dksX4_writeWeek_2 3 rfl rfl)
theorem dX4_writeWeek_50 : decode cX4_writeWeek 50 = .ok (.iinc 2 1, 3) := dk_132 2 1 (dk_at dksX4_writeWeek_2 4 rfl rfl)
theorem dX4_writeWeek_53 : decode cX4_writeWeek 53 = .ok (.goto (-36), 3) := dk_167 255 220 (dk_at dksX4_writeWeek_2 7 rfl rfl)
theorem dX4_writeWeek_56 : decode cX4_writeWeek 56 = .ok (.aload_n 0, 1) := dk_42 (dk_at dksX4_writeWeek_2 10 rfl rfl)
theorem dX4_writeWeek_57 : decode cX4_writeWeek 57 = .ok (.bipush 13, 2) := dk_16 13 (dk_at dksX4_writeWeek_2 11 rfl rfl)
theorem dX4_writeWeek_59 : decode cX4_writeWeek 59 = .ok (.putfield 160, 3) := dk_181 0 160 (dk_at dksX4_writeWeek_2 13 rfl rfl)
theorem dX4_writeWeek_62 : decode cX4_writeWeek 62 = .ok (.bipush 13, 2) := dk_16 13 (dk_at dksX4_writeWeek_2 16 rfl rfl)
theorem dX4_writeWeek_64 : decode cX4_writeWeek 64 = .ok (.ireturn, 1) := dk_172 (dk_at dksX4_writeWeek_2 18 rfl rfl)
abbrev cX4_told : ByteArray := prog_10_method_75_code
def yX4_told : MethodName := ⟨RX4, "told", "(I)C"⟩
def dkwX4_told_6 : List UInt8 := [29, 154, 0, 8, 16, 48, 167, 0, 9, 16, 48, 21, 4, 96, 146, 172]
abbrev dktX4_told_6 : List UInt8 := dkwX4_told_6 ++ []
def dkwX4_told_5 : List UInt8 := [27, 42, 180, 0, 9, 3, 46, 164, 0, 8, 16, 45, 167, 0, 27, 28, 154, 0, 8, 16, 46, 167, 0, 18]
abbrev dktX4_told_5 : List UInt8 := dkwX4_told_5 ++ dktX4_told_6
def dkwX4_told_4 : List UInt8 := [180, 0, 24, 21, 4, 46, 164, 0, 8, 21, 5, 167, 0, 5, 21, 4, 54, 4, 132, 5, 1, 167, 255, 221]
abbrev dktX4_told_4 : List UInt8 := dkwX4_told_4 ++ dktX4_told_5
def dkwX4_told_3 : List UInt8 := [167, 255, 200, 4, 54, 4, 5, 54, 5, 21, 5, 8, 163, 0, 35, 42, 180, 0, 24, 21, 5, 46, 42]
abbrev dktX4_told_3 : List UInt8 := dkwX4_told_3 ++ dktX4_told_4
def dkwX4_told_2 : List UInt8 := [182, 0, 81, 29, 42, 180, 0, 9, 42, 21, 4, 182, 0, 75, 5, 96, 46, 96, 62, 132, 4, 1]
abbrev dktX4_told_2 : List UInt8 := dkwX4_told_2 ++ dktX4_told_3
def dkwX4_told_1 : List UInt8 := [180, 0, 9, 42, 21, 4, 182, 0, 75, 4, 96, 46, 27, 160, 0, 28, 132, 2, 1, 42, 21, 4]
abbrev dktX4_told_1 : List UInt8 := dkwX4_told_1 ++ dktX4_told_2
def dkwX4_told_0 : List UInt8 := [42, 182, 0, 78, 3, 61, 3, 62, 3, 54, 4, 21, 4, 42, 180, 0, 9, 5, 46, 162, 0, 51, 42]
abbrev dktX4_told_0 : List UInt8 := dkwX4_told_0 ++ dktX4_told_1
theorem dksX4_told_0 : cX4_told.data.toList.drop 0 = dktX4_told_0 := by decide +kernel
theorem dksX4_told_1 : cX4_told.data.toList.drop 23 = dktX4_told_1 := dk_seg dksX4_told_0 23 rfl rfl
theorem dksX4_told_2 : cX4_told.data.toList.drop 45 = dktX4_told_2 := dk_seg dksX4_told_1 22 rfl rfl
theorem dksX4_told_3 : cX4_told.data.toList.drop 67 = dktX4_told_3 := dk_seg dksX4_told_2 22 rfl rfl
theorem dksX4_told_4 : cX4_told.data.toList.drop 90 = dktX4_told_4 := dk_seg dksX4_told_3 23 rfl rfl
theorem dksX4_told_5 : cX4_told.data.toList.drop 114 = dktX4_told_5 := dk_seg dksX4_told_4 24 rfl rfl
theorem dksX4_told_6 : cX4_told.data.toList.drop 138 = dktX4_told_6 := dk_seg dksX4_told_5 24 rfl rfl
theorem dX4_told_0 : decode cX4_told 0 = .ok (.aload_n 0, 1) := dk_42 (dk_at dksX4_told_0 0 rfl rfl)
theorem dX4_told_1 : decode cX4_told 1 = .ok (.invokevirtual 78, 3) := dk_182 0 78 (dk_at dksX4_told_0 1 rfl rfl)
theorem dX4_told_4 : decode cX4_told 4 = .ok (.iconst 0, 1) := dk_3 (dk_at dksX4_told_0 4 rfl rfl)
theorem dX4_told_5 : decode cX4_told 5 = .ok (.istore_n 2, 1) := dk_61 (dk_at dksX4_told_0 5 rfl rfl)
theorem dX4_told_6 : decode cX4_told 6 = .ok (.iconst 0, 1) := dk_3 (dk_at dksX4_told_0 6 rfl rfl)
theorem dX4_told_7 : decode cX4_told 7 = .ok (.istore_n 3, 1) := dk_62 (dk_at dksX4_told_0 7 rfl rfl)
theorem dX4_told_8 : decode cX4_told 8 = .ok (.iconst 0, 1) := dk_3 (dk_at dksX4_told_0 8 rfl rfl)
theorem dX4_told_9 : decode cX4_told 9 = .ok (.istore 4, 2) := dk_54 4 (dk_at dksX4_told_0 9 rfl rfl)
theorem dX4_told_11 : decode cX4_told 11 = .ok (.iload 4, 2) := dk_21 4 (dk_at dksX4_told_0 11 rfl rfl)
theorem dX4_told_13 : decode cX4_told 13 = .ok (.aload_n 0, 1) := dk_42 (dk_at dksX4_told_0 13 rfl rfl)
theorem dX4_told_14 : decode cX4_told 14 = .ok (.getfield 9, 3) := dk_180 0 9 (dk_at dksX4_told_0 14 rfl rfl)
theorem dX4_told_17 : decode cX4_told 17 = .ok (.iconst 2, 1) := dk_5 (dk_at dksX4_told_0 17 rfl rfl)
theorem dX4_told_18 : decode cX4_told 18 = .ok (.iaload, 1) := dk_46 (dk_at dksX4_told_0 18 rfl rfl)
theorem dX4_told_19 : decode cX4_told 19 = .ok (.if_icmp .ge 51, 3) := dk_162 0 51 (dk_at dksX4_told_0 19 rfl rfl)
theorem dX4_told_22 : decode cX4_told 22 = .ok (.aload_n 0, 1) := dk_42 (dk_at dksX4_told_0 22 rfl rfl)
theorem dX4_told_23 : decode cX4_told 23 = .ok (.getfield 9, 3) := dk_180 0 9 (dk_at dksX4_told_1 0 rfl rfl)
theorem dX4_told_26 : decode cX4_told 26 = .ok (.aload_n 0, 1) := dk_42 (dk_at dksX4_told_1 3 rfl rfl)
theorem dX4_told_27 : decode cX4_told 27 = .ok (.iload 4, 2) := dk_21 4 (dk_at dksX4_told_1 4 rfl rfl)
theorem dX4_told_29 : decode cX4_told 29 = .ok (.invokevirtual 75, 3) := dk_182 0 75 (dk_at dksX4_told_1 6 rfl rfl)
theorem dX4_told_32 : decode cX4_told 32 = .ok (.iconst 1, 1) := dk_4 (dk_at dksX4_told_1 9 rfl rfl)
theorem dX4_told_33 : decode cX4_told 33 = .ok (.iadd, 1) := dk_96 (dk_at dksX4_told_1 10 rfl rfl)
theorem dX4_told_34 : decode cX4_told 34 = .ok (.iaload, 1) := dk_46 (dk_at dksX4_told_1 11 rfl rfl)
theorem dX4_told_35 : decode cX4_told 35 = .ok (.iload_n 1, 1) := dk_27 (dk_at dksX4_told_1 12 rfl rfl)
theorem dX4_told_36 : decode cX4_told 36 = .ok (.if_icmp .ne 28, 3) := dk_160 0 28 (dk_at dksX4_told_1 13 rfl rfl)
theorem dX4_told_39 : decode cX4_told 39 = .ok (.iinc 2 1, 3) := dk_132 2 1 (dk_at dksX4_told_1 16 rfl rfl)
theorem dX4_told_42 : decode cX4_told 42 = .ok (.aload_n 0, 1) := dk_42 (dk_at dksX4_told_1 19 rfl rfl)
theorem dX4_told_43 : decode cX4_told 43 = .ok (.iload 4, 2) := dk_21 4 (dk_at dksX4_told_1 20 rfl rfl)
theorem dX4_told_45 : decode cX4_told 45 = .ok (.invokevirtual 81, 3) := dk_182 0 81 (dk_at dksX4_told_2 0 rfl rfl)
theorem dX4_told_48 : decode cX4_told 48 = .ok (.iload_n 3, 1) := dk_29 (dk_at dksX4_told_2 3 rfl rfl)
theorem dX4_told_49 : decode cX4_told 49 = .ok (.aload_n 0, 1) := dk_42 (dk_at dksX4_told_2 4 rfl rfl)
theorem dX4_told_50 : decode cX4_told 50 = .ok (.getfield 9, 3) := dk_180 0 9 (dk_at dksX4_told_2 5 rfl rfl)
theorem dX4_told_53 : decode cX4_told 53 = .ok (.aload_n 0, 1) := dk_42 (dk_at dksX4_told_2 8 rfl rfl)
theorem dX4_told_54 : decode cX4_told 54 = .ok (.iload 4, 2) := dk_21 4 (dk_at dksX4_told_2 9 rfl rfl)
theorem dX4_told_56 : decode cX4_told 56 = .ok (.invokevirtual 75, 3) := dk_182 0 75 (dk_at dksX4_told_2 11 rfl rfl)
theorem dX4_told_59 : decode cX4_told 59 = .ok (.iconst 2, 1) := dk_5 (dk_at dksX4_told_2 14 rfl rfl)
theorem dX4_told_60 : decode cX4_told 60 = .ok (.iadd, 1) := dk_96 (dk_at dksX4_told_2 15 rfl rfl)
theorem dX4_told_61 : decode cX4_told 61 = .ok (.iaload, 1) := dk_46 (dk_at dksX4_told_2 16 rfl rfl)
theorem dX4_told_62 : decode cX4_told 62 = .ok (.iadd, 1) := dk_96 (dk_at dksX4_told_2 17 rfl rfl)
theorem dX4_told_63 : decode cX4_told 63 = .ok (.istore_n 3, 1) := dk_62 (dk_at dksX4_told_2 18 rfl rfl)
theorem dX4_told_64 : decode cX4_told 64 = .ok (.iinc 4 1, 3) := dk_132 4 1 (dk_at dksX4_told_2 19 rfl rfl)
theorem dX4_told_67 : decode cX4_told 67 = .ok (.goto (-56), 3) := dk_167 255 200 (dk_at dksX4_told_3 0 rfl rfl)
theorem dX4_told_70 : decode cX4_told 70 = .ok (.iconst 1, 1) := dk_4 (dk_at dksX4_told_3 3 rfl rfl)
theorem dX4_told_71 : decode cX4_told 71 = .ok (.istore 4, 2) := dk_54 4 (dk_at dksX4_told_3 4 rfl rfl)
theorem dX4_told_73 : decode cX4_told 73 = .ok (.iconst 2, 1) := dk_5 (dk_at dksX4_told_3 6 rfl rfl)
theorem dX4_told_74 : decode cX4_told 74 = .ok (.istore 5, 2) := dk_54 5 (dk_at dksX4_told_3 7 rfl rfl)
theorem dX4_told_76 : decode cX4_told 76 = .ok (.iload 5, 2) := dk_21 5 (dk_at dksX4_told_3 9 rfl rfl)
theorem dX4_told_78 : decode cX4_told 78 = .ok (.iconst 5, 1) := dk_8 (dk_at dksX4_told_3 11 rfl rfl)
theorem dX4_told_79 : decode cX4_told 79 = .ok (.if_icmp .gt 35, 3) := dk_163 0 35 (dk_at dksX4_told_3 12 rfl rfl)
theorem dX4_told_82 : decode cX4_told 82 = .ok (.aload_n 0, 1) := dk_42 (dk_at dksX4_told_3 15 rfl rfl)
theorem dX4_told_83 : decode cX4_told 83 = .ok (.getfield 24, 3) := dk_180 0 24 (dk_at dksX4_told_3 16 rfl rfl)
theorem dX4_told_86 : decode cX4_told 86 = .ok (.iload 5, 2) := dk_21 5 (dk_at dksX4_told_3 19 rfl rfl)
theorem dX4_told_88 : decode cX4_told 88 = .ok (.iaload, 1) := dk_46 (dk_at dksX4_told_3 21 rfl rfl)
theorem dX4_told_89 : decode cX4_told 89 = .ok (.aload_n 0, 1) := dk_42 (dk_at dksX4_told_3 22 rfl rfl)
theorem dX4_told_90 : decode cX4_told 90 = .ok (.getfield 24, 3) := dk_180 0 24 (dk_at dksX4_told_4 0 rfl rfl)
theorem dX4_told_93 : decode cX4_told 93 = .ok (.iload 4, 2) := dk_21 4 (dk_at dksX4_told_4 3 rfl rfl)
theorem dX4_told_95 : decode cX4_told 95 = .ok (.iaload, 1) := dk_46 (dk_at dksX4_told_4 5 rfl rfl)
theorem dX4_told_96 : decode cX4_told 96 = .ok (.if_icmp .le 8, 3) := dk_164 0 8 (dk_at dksX4_told_4 6 rfl rfl)
theorem dX4_told_99 : decode cX4_told 99 = .ok (.iload 5, 2) := dk_21 5 (dk_at dksX4_told_4 9 rfl rfl)
theorem dX4_told_101 : decode cX4_told 101 = .ok (.goto 5, 3) := dk_167 0 5 (dk_at dksX4_told_4 11 rfl rfl)
theorem dX4_told_104 : decode cX4_told 104 = .ok (.iload 4, 2) := dk_21 4 (dk_at dksX4_told_4 14 rfl rfl)
theorem dX4_told_106 : decode cX4_told 106 = .ok (.istore 4, 2) := dk_54 4 (dk_at dksX4_told_4 16 rfl rfl)
theorem dX4_told_108 : decode cX4_told 108 = .ok (.iinc 5 1, 3) := dk_132 5 1 (dk_at dksX4_told_4 18 rfl rfl)
theorem dX4_told_111 : decode cX4_told 111 = .ok (.goto (-35), 3) := dk_167 255 221 (dk_at dksX4_told_4 21 rfl rfl)
theorem dX4_told_114 : decode cX4_told 114 = .ok (.iload_n 1, 1) := dk_27 (dk_at dksX4_told_5 0 rfl rfl)
theorem dX4_told_115 : decode cX4_told 115 = .ok (.aload_n 0, 1) := dk_42 (dk_at dksX4_told_5 1 rfl rfl)
theorem dX4_told_116 : decode cX4_told 116 = .ok (.getfield 9, 3) := dk_180 0 9 (dk_at dksX4_told_5 2 rfl rfl)
theorem dX4_told_119 : decode cX4_told 119 = .ok (.iconst 0, 1) := dk_3 (dk_at dksX4_told_5 5 rfl rfl)
theorem dX4_told_120 : decode cX4_told 120 = .ok (.iaload, 1) := dk_46 (dk_at dksX4_told_5 6 rfl rfl)
theorem dX4_told_121 : decode cX4_told 121 = .ok (.if_icmp .le 8, 3) := dk_164 0 8 (dk_at dksX4_told_5 7 rfl rfl)
theorem dX4_told_124 : decode cX4_told 124 = .ok (.bipush 45, 2) := dk_16 45 (dk_at dksX4_told_5 10 rfl rfl)
theorem dX4_told_126 : decode cX4_told 126 = .ok (.goto 27, 3) := dk_167 0 27 (dk_at dksX4_told_5 12 rfl rfl)
theorem dX4_told_129 : decode cX4_told 129 = .ok (.iload_n 2, 1) := dk_28 (dk_at dksX4_told_5 15 rfl rfl)
theorem dX4_told_130 : decode cX4_told 130 = .ok (.ifCond .ne 8, 3) := dk_154 0 8 (dk_at dksX4_told_5 16 rfl rfl)
theorem dX4_told_133 : decode cX4_told 133 = .ok (.bipush 46, 2) := dk_16 46 (dk_at dksX4_told_5 19 rfl rfl)
theorem dX4_told_135 : decode cX4_told 135 = .ok (.goto 18, 3) := dk_167 0 18 (dk_at dksX4_told_5 21 rfl rfl)
theorem dX4_told_138 : decode cX4_told 138 = .ok (.iload_n 3, 1) := dk_29 (dk_at dksX4_told_6 0 rfl rfl)
theorem dX4_told_139 : decode cX4_told 139 = .ok (.ifCond .ne 8, 3) := dk_154 0 8 (dk_at dksX4_told_6 1 rfl rfl)
theorem dX4_told_142 : decode cX4_told 142 = .ok (.bipush 48, 2) := dk_16 48 (dk_at dksX4_told_6 4 rfl rfl)
theorem dX4_told_144 : decode cX4_told 144 = .ok (.goto 9, 3) := dk_167 0 9 (dk_at dksX4_told_6 6 rfl rfl)
theorem dX4_told_147 : decode cX4_told 147 = .ok (.bipush 48, 2) := dk_16 48 (dk_at dksX4_told_6 9 rfl rfl)
theorem dX4_told_149 : decode cX4_told 149 = .ok (.iload 4, 2) := dk_21 4 (dk_at dksX4_told_6 11 rfl rfl)
theorem dX4_told_151 : decode cX4_told 151 = .ok (.iadd, 1) := dk_96 (dk_at dksX4_told_6 13 rfl rfl)
theorem dX4_told_152 : decode cX4_told 152 = .ok (.i2c, 1) := dk_146 (dk_at dksX4_told_6 14 rfl rfl)
theorem dX4_told_153 : decode cX4_told 153 = .ok (.ireturn, 1) := dk_172 (dk_at dksX4_told_6 15 rfl rfl)
abbrev cX4_lineAt : ByteArray := prog_10_method_77_code
def yX4_lineAt : MethodName := ⟨RX4, "lineAt", "(I)C"⟩
def dkwX4_lineAt_1 : List UInt8 := [153, 0, 8, 16, 45, 167, 0, 9, 42, 180, 0, 27, 27, 52, 172]
abbrev dktX4_lineAt_1 : List UInt8 := dkwX4_lineAt_1 ++ []
def dkwX4_lineAt_0 : List UInt8 := [42, 27, 3, 42, 180, 0, 160, 4, 100, 184, 0, 47, 154, 0, 7, 4, 167, 0, 4, 3, 4, 182, 0, 51]
abbrev dktX4_lineAt_0 : List UInt8 := dkwX4_lineAt_0 ++ dktX4_lineAt_1
theorem dksX4_lineAt_0 : cX4_lineAt.data.toList.drop 0 = dktX4_lineAt_0 := by decide +kernel
theorem dksX4_lineAt_1 : cX4_lineAt.data.toList.drop 24 = dktX4_lineAt_1 := dk_seg dksX4_lineAt_0 24 rfl rfl
theorem dX4_lineAt_0 : decode cX4_lineAt 0 = .ok (.aload_n 0, 1) := dk_42 (dk_at dksX4_lineAt_0 0 rfl rfl)
theorem dX4_lineAt_1 : decode cX4_lineAt 1 = .ok (.iload_n 1, 1) := dk_27 (dk_at dksX4_lineAt_0 1 rfl rfl)
theorem dX4_lineAt_2 : decode cX4_lineAt 2 = .ok (.iconst 0, 1) := dk_3 (dk_at dksX4_lineAt_0 2 rfl rfl)
theorem dX4_lineAt_3 : decode cX4_lineAt 3 = .ok (.aload_n 0, 1) := dk_42 (dk_at dksX4_lineAt_0 3 rfl rfl)
theorem dX4_lineAt_4 : decode cX4_lineAt 4 = .ok (.getfield 160, 3) := dk_180 0 160 (dk_at dksX4_lineAt_0 4 rfl rfl)
theorem dX4_lineAt_7 : decode cX4_lineAt 7 = .ok (.iconst 1, 1) := dk_4 (dk_at dksX4_lineAt_0 7 rfl rfl)
theorem dX4_lineAt_8 : decode cX4_lineAt 8 = .ok (.isub, 1) := dk_100 (dk_at dksX4_lineAt_0 8 rfl rfl)
theorem dX4_lineAt_9 : decode cX4_lineAt 9 = .ok (.invokestatic 47, 3) := dk_184 0 47 (dk_at dksX4_lineAt_0 9 rfl rfl)
theorem dX4_lineAt_12 : decode cX4_lineAt 12 = .ok (.ifCond .ne 7, 3) := dk_154 0 7 (dk_at dksX4_lineAt_0 12 rfl rfl)
theorem dX4_lineAt_15 : decode cX4_lineAt 15 = .ok (.iconst 1, 1) := dk_4 (dk_at dksX4_lineAt_0 15 rfl rfl)
theorem dX4_lineAt_16 : decode cX4_lineAt 16 = .ok (.goto 4, 3) := dk_167 0 4 (dk_at dksX4_lineAt_0 16 rfl rfl)
theorem dX4_lineAt_19 : decode cX4_lineAt 19 = .ok (.iconst 0, 1) := dk_3 (dk_at dksX4_lineAt_0 19 rfl rfl)
theorem dX4_lineAt_20 : decode cX4_lineAt 20 = .ok (.iconst 1, 1) := dk_4 (dk_at dksX4_lineAt_0 20 rfl rfl)
theorem dX4_lineAt_21 : decode cX4_lineAt 21 = .ok (.invokevirtual 51, 3) := dk_182 0 51 (dk_at dksX4_lineAt_0 21 rfl rfl)
theorem dX4_lineAt_24 : decode cX4_lineAt 24 = .ok (.ifCond .eq 8, 3) := dk_153 0 8 (dk_at dksX4_lineAt_1 0 rfl rfl)
theorem dX4_lineAt_27 : decode cX4_lineAt 27 = .ok (.bipush 45, 2) := dk_16 45 (dk_at dksX4_lineAt_1 3 rfl rfl)
theorem dX4_lineAt_29 : decode cX4_lineAt 29 = .ok (.goto 9, 3) := dk_167 0 9 (dk_at dksX4_lineAt_1 5 rfl rfl)
theorem dX4_lineAt_32 : decode cX4_lineAt 32 = .ok (.aload_n 0, 1) := dk_42 (dk_at dksX4_lineAt_1 8 rfl rfl)
theorem dX4_lineAt_33 : decode cX4_lineAt 33 = .ok (.getfield 27, 3) := dk_180 0 27 (dk_at dksX4_lineAt_1 9 rfl rfl)
theorem dX4_lineAt_36 : decode cX4_lineAt 36 = .ok (.iload_n 1, 1) := dk_27 (dk_at dksX4_lineAt_1 12 rfl rfl)
theorem dX4_lineAt_37 : decode cX4_lineAt 37 = .ok (.caload, 1) := dk_52 (dk_at dksX4_lineAt_1 13 rfl rfl)
theorem dX4_lineAt_38 : decode cX4_lineAt 38 = .ok (.ireturn, 1) := dk_172 (dk_at dksX4_lineAt_1 14 rfl rfl)
abbrev cX4_undo : ByteArray := prog_10_method_78_code
def yX4_undo : MethodName := ⟨RX4, "undo", "()I"⟩
def dkwX4_undo_3 : List UInt8 := [180, 0, 38, 4, 100, 181, 0, 38, 42, 180, 0, 38, 172]
abbrev dktX4_undo_3 : List UInt8 := dkwX4_undo_3 ++ []
def dkwX4_undo_2 : List UInt8 := [132, 1, 1, 167, 255, 229, 42, 42, 180, 0, 35, 16, 6, 96, 4, 100, 16, 6, 112, 181, 0, 35, 42, 89]
abbrev dktX4_undo_2 : List UInt8 := dkwX4_undo_2 ++ dktX4_undo_3
def dkwX4_undo_1 : List UInt8 := [27, 17, 3, 62, 162, 0, 26, 42, 180, 0, 9, 27, 42, 180, 0, 15, 42, 180, 0, 35, 50, 27, 46, 79]
abbrev dktX4_undo_1 : List UInt8 := dkwX4_undo_1 ++ dktX4_undo_2
def dkwX4_undo_0 : List UInt8 := [42, 42, 180, 0, 38, 154, 0, 7, 4, 167, 0, 4, 3, 4, 182, 0, 51, 153, 0, 5, 3, 172, 3, 60]
abbrev dktX4_undo_0 : List UInt8 := dkwX4_undo_0 ++ dktX4_undo_1
theorem dksX4_undo_0 : cX4_undo.data.toList.drop 0 = dktX4_undo_0 := by decide +kernel
theorem dksX4_undo_1 : cX4_undo.data.toList.drop 24 = dktX4_undo_1 := dk_seg dksX4_undo_0 24 rfl rfl
theorem dksX4_undo_2 : cX4_undo.data.toList.drop 48 = dktX4_undo_2 := dk_seg dksX4_undo_1 24 rfl rfl
theorem dksX4_undo_3 : cX4_undo.data.toList.drop 72 = dktX4_undo_3 := dk_seg dksX4_undo_2 24 rfl rfl
theorem dX4_undo_0 : decode cX4_undo 0 = .ok (.aload_n 0, 1) := dk_42 (dk_at dksX4_undo_0 0 rfl rfl)
theorem dX4_undo_1 : decode cX4_undo 1 = .ok (.aload_n 0, 1) := dk_42 (dk_at dksX4_undo_0 1 rfl rfl)
theorem dX4_undo_2 : decode cX4_undo 2 = .ok (.getfield 38, 3) := dk_180 0 38 (dk_at dksX4_undo_0 2 rfl rfl)
theorem dX4_undo_5 : decode cX4_undo 5 = .ok (.ifCond .ne 7, 3) := dk_154 0 7 (dk_at dksX4_undo_0 5 rfl rfl)
theorem dX4_undo_8 : decode cX4_undo 8 = .ok (.iconst 1, 1) := dk_4 (dk_at dksX4_undo_0 8 rfl rfl)
theorem dX4_undo_9 : decode cX4_undo 9 = .ok (.goto 4, 3) := dk_167 0 4 (dk_at dksX4_undo_0 9 rfl rfl)
theorem dX4_undo_12 : decode cX4_undo 12 = .ok (.iconst 0, 1) := dk_3 (dk_at dksX4_undo_0 12 rfl rfl)
theorem dX4_undo_13 : decode cX4_undo 13 = .ok (.iconst 1, 1) := dk_4 (dk_at dksX4_undo_0 13 rfl rfl)
theorem dX4_undo_14 : decode cX4_undo 14 = .ok (.invokevirtual 51, 3) := dk_182 0 51 (dk_at dksX4_undo_0 14 rfl rfl)
theorem dX4_undo_17 : decode cX4_undo 17 = .ok (.ifCond .eq 5, 3) := dk_153 0 5 (dk_at dksX4_undo_0 17 rfl rfl)
theorem dX4_undo_20 : decode cX4_undo 20 = .ok (.iconst 0, 1) := dk_3 (dk_at dksX4_undo_0 20 rfl rfl)
theorem dX4_undo_21 : decode cX4_undo 21 = .ok (.ireturn, 1) := dk_172 (dk_at dksX4_undo_0 21 rfl rfl)
theorem dX4_undo_22 : decode cX4_undo 22 = .ok (.iconst 0, 1) := dk_3 (dk_at dksX4_undo_0 22 rfl rfl)
theorem dX4_undo_23 : decode cX4_undo 23 = .ok (.istore_n 1, 1) := dk_60 (dk_at dksX4_undo_0 23 rfl rfl)
theorem dX4_undo_24 : decode cX4_undo 24 = .ok (.iload_n 1, 1) := dk_27 (dk_at dksX4_undo_1 0 rfl rfl)
theorem dX4_undo_25 : decode cX4_undo 25 = .ok (.sipush 830, 3) := dk_17 3 62 (dk_at dksX4_undo_1 1 rfl rfl)
theorem dX4_undo_28 : decode cX4_undo 28 = .ok (.if_icmp .ge 26, 3) := dk_162 0 26 (dk_at dksX4_undo_1 4 rfl rfl)
theorem dX4_undo_31 : decode cX4_undo 31 = .ok (.aload_n 0, 1) := dk_42 (dk_at dksX4_undo_1 7 rfl rfl)
theorem dX4_undo_32 : decode cX4_undo 32 = .ok (.getfield 9, 3) := dk_180 0 9 (dk_at dksX4_undo_1 8 rfl rfl)
theorem dX4_undo_35 : decode cX4_undo 35 = .ok (.iload_n 1, 1) := dk_27 (dk_at dksX4_undo_1 11 rfl rfl)
theorem dX4_undo_36 : decode cX4_undo 36 = .ok (.aload_n 0, 1) := dk_42 (dk_at dksX4_undo_1 12 rfl rfl)
theorem dX4_undo_37 : decode cX4_undo 37 = .ok (.getfield 15, 3) := dk_180 0 15 (dk_at dksX4_undo_1 13 rfl rfl)
theorem dX4_undo_40 : decode cX4_undo 40 = .ok (.aload_n 0, 1) := dk_42 (dk_at dksX4_undo_1 16 rfl rfl)
theorem dX4_undo_41 : decode cX4_undo 41 = .ok (.getfield 35, 3) := dk_180 0 35 (dk_at dksX4_undo_1 17 rfl rfl)
theorem dX4_undo_44 : decode cX4_undo 44 = .ok (.aaload, 1) := dk_50 (dk_at dksX4_undo_1 20 rfl rfl)
theorem dX4_undo_45 : decode cX4_undo 45 = .ok (.iload_n 1, 1) := dk_27 (dk_at dksX4_undo_1 21 rfl rfl)
theorem dX4_undo_46 : decode cX4_undo 46 = .ok (.iaload, 1) := dk_46 (dk_at dksX4_undo_1 22 rfl rfl)
theorem dX4_undo_47 : decode cX4_undo 47 = .ok (.iastore, 1) := dk_79 (dk_at dksX4_undo_1 23 rfl rfl)
theorem dX4_undo_48 : decode cX4_undo 48 = .ok (.iinc 1 1, 3) := dk_132 1 1 (dk_at dksX4_undo_2 0 rfl rfl)
theorem dX4_undo_51 : decode cX4_undo 51 = .ok (.goto (-27), 3) := dk_167 255 229 (dk_at dksX4_undo_2 3 rfl rfl)
theorem dX4_undo_54 : decode cX4_undo 54 = .ok (.aload_n 0, 1) := dk_42 (dk_at dksX4_undo_2 6 rfl rfl)
theorem dX4_undo_55 : decode cX4_undo 55 = .ok (.aload_n 0, 1) := dk_42 (dk_at dksX4_undo_2 7 rfl rfl)
theorem dX4_undo_56 : decode cX4_undo 56 = .ok (.getfield 35, 3) := dk_180 0 35 (dk_at dksX4_undo_2 8 rfl rfl)
theorem dX4_undo_59 : decode cX4_undo 59 = .ok (.bipush 6, 2) := dk_16 6 (dk_at dksX4_undo_2 11 rfl rfl)
theorem dX4_undo_61 : decode cX4_undo 61 = .ok (.iadd, 1) := dk_96 (dk_at dksX4_undo_2 13 rfl rfl)
theorem dX4_undo_62 : decode cX4_undo 62 = .ok (.iconst 1, 1) := dk_4 (dk_at dksX4_undo_2 14 rfl rfl)
theorem dX4_undo_63 : decode cX4_undo 63 = .ok (.isub, 1) := dk_100 (dk_at dksX4_undo_2 15 rfl rfl)
theorem dX4_undo_64 : decode cX4_undo 64 = .ok (.bipush 6, 2) := dk_16 6 (dk_at dksX4_undo_2 16 rfl rfl)
theorem dX4_undo_66 : decode cX4_undo 66 = .ok (.irem, 1) := dk_112 (dk_at dksX4_undo_2 18 rfl rfl)
theorem dX4_undo_67 : decode cX4_undo 67 = .ok (.putfield 35, 3) := dk_181 0 35 (dk_at dksX4_undo_2 19 rfl rfl)
theorem dX4_undo_70 : decode cX4_undo 70 = .ok (.aload_n 0, 1) := dk_42 (dk_at dksX4_undo_2 22 rfl rfl)
theorem dX4_undo_71 : decode cX4_undo 71 = .ok (.dup, 1) := dk_89 (dk_at dksX4_undo_2 23 rfl rfl)
theorem dX4_undo_72 : decode cX4_undo 72 = .ok (.getfield 38, 3) := dk_180 0 38 (dk_at dksX4_undo_3 0 rfl rfl)
theorem dX4_undo_75 : decode cX4_undo 75 = .ok (.iconst 1, 1) := dk_4 (dk_at dksX4_undo_3 3 rfl rfl)
theorem dX4_undo_76 : decode cX4_undo 76 = .ok (.isub, 1) := dk_100 (dk_at dksX4_undo_3 4 rfl rfl)
theorem dX4_undo_77 : decode cX4_undo 77 = .ok (.putfield 38, 3) := dk_181 0 38 (dk_at dksX4_undo_3 5 rfl rfl)
theorem dX4_undo_80 : decode cX4_undo 80 = .ok (.aload_n 0, 1) := dk_42 (dk_at dksX4_undo_3 8 rfl rfl)
theorem dX4_undo_81 : decode cX4_undo 81 = .ok (.getfield 38, 3) := dk_180 0 38 (dk_at dksX4_undo_3 9 rfl rfl)
theorem dX4_undo_84 : decode cX4_undo 84 = .ok (.ireturn, 1) := dk_172 (dk_at dksX4_undo_3 12 rfl rfl)
abbrev cX4_save : ByteArray := prog_10_method_79_code
def yX4_save : MethodName := ⟨RX4, "save", "()I"⟩
def dkwX4_save_1 : List UInt8 := [46, 79, 132, 1, 1, 167, 255, 234, 42, 4, 181, 0, 163, 42, 180, 0, 9, 5, 46, 172]
abbrev dktX4_save_1 : List UInt8 := dkwX4_save_1 ++ []
def dkwX4_save_0 : List UInt8 := [42, 3, 181, 0, 31, 3, 60, 27, 17, 3, 62, 162, 0, 21, 42, 180, 0, 18, 27, 42, 180, 0, 9, 27]
abbrev dktX4_save_0 : List UInt8 := dkwX4_save_0 ++ dktX4_save_1
theorem dksX4_save_0 : cX4_save.data.toList.drop 0 = dktX4_save_0 := by decide +kernel
theorem dksX4_save_1 : cX4_save.data.toList.drop 24 = dktX4_save_1 := dk_seg dksX4_save_0 24 rfl rfl
theorem dX4_save_0 : decode cX4_save 0 = .ok (.aload_n 0, 1) := dk_42 (dk_at dksX4_save_0 0 rfl rfl)
theorem dX4_save_1 : decode cX4_save 1 = .ok (.iconst 0, 1) := dk_3 (dk_at dksX4_save_0 1 rfl rfl)
theorem dX4_save_2 : decode cX4_save 2 = .ok (.putfield 31, 3) := dk_181 0 31 (dk_at dksX4_save_0 2 rfl rfl)
theorem dX4_save_5 : decode cX4_save 5 = .ok (.iconst 0, 1) := dk_3 (dk_at dksX4_save_0 5 rfl rfl)
theorem dX4_save_6 : decode cX4_save 6 = .ok (.istore_n 1, 1) := dk_60 (dk_at dksX4_save_0 6 rfl rfl)
theorem dX4_save_7 : decode cX4_save 7 = .ok (.iload_n 1, 1) := dk_27 (dk_at dksX4_save_0 7 rfl rfl)
theorem dX4_save_8 : decode cX4_save 8 = .ok (.sipush 830, 3) := dk_17 3 62 (dk_at dksX4_save_0 8 rfl rfl)
theorem dX4_save_11 : decode cX4_save 11 = .ok (.if_icmp .ge 21, 3) := dk_162 0 21 (dk_at dksX4_save_0 11 rfl rfl)
theorem dX4_save_14 : decode cX4_save 14 = .ok (.aload_n 0, 1) := dk_42 (dk_at dksX4_save_0 14 rfl rfl)
theorem dX4_save_15 : decode cX4_save 15 = .ok (.getfield 18, 3) := dk_180 0 18 (dk_at dksX4_save_0 15 rfl rfl)
theorem dX4_save_18 : decode cX4_save 18 = .ok (.iload_n 1, 1) := dk_27 (dk_at dksX4_save_0 18 rfl rfl)
theorem dX4_save_19 : decode cX4_save 19 = .ok (.aload_n 0, 1) := dk_42 (dk_at dksX4_save_0 19 rfl rfl)
theorem dX4_save_20 : decode cX4_save 20 = .ok (.getfield 9, 3) := dk_180 0 9 (dk_at dksX4_save_0 20 rfl rfl)
theorem dX4_save_23 : decode cX4_save 23 = .ok (.iload_n 1, 1) := dk_27 (dk_at dksX4_save_0 23 rfl rfl)
theorem dX4_save_24 : decode cX4_save 24 = .ok (.iaload, 1) := dk_46 (dk_at dksX4_save_1 0 rfl rfl)
theorem dX4_save_25 : decode cX4_save 25 = .ok (.iastore, 1) := dk_79 (dk_at dksX4_save_1 1 rfl rfl)
theorem dX4_save_26 : decode cX4_save 26 = .ok (.iinc 1 1, 3) := dk_132 1 1 (dk_at dksX4_save_1 2 rfl rfl)
theorem dX4_save_29 : decode cX4_save 29 = .ok (.goto (-22), 3) := dk_167 255 234 (dk_at dksX4_save_1 5 rfl rfl)
theorem dX4_save_32 : decode cX4_save 32 = .ok (.aload_n 0, 1) := dk_42 (dk_at dksX4_save_1 8 rfl rfl)
theorem dX4_save_33 : decode cX4_save 33 = .ok (.iconst 1, 1) := dk_4 (dk_at dksX4_save_1 9 rfl rfl)
theorem dX4_save_34 : decode cX4_save 34 = .ok (.putfield 163, 3) := dk_181 0 163 (dk_at dksX4_save_1 10 rfl rfl)
theorem dX4_save_37 : decode cX4_save 37 = .ok (.aload_n 0, 1) := dk_42 (dk_at dksX4_save_1 13 rfl rfl)
theorem dX4_save_38 : decode cX4_save 38 = .ok (.getfield 9, 3) := dk_180 0 9 (dk_at dksX4_save_1 14 rfl rfl)
theorem dX4_save_41 : decode cX4_save 41 = .ok (.iconst 2, 1) := dk_5 (dk_at dksX4_save_1 17 rfl rfl)
theorem dX4_save_42 : decode cX4_save 42 = .ok (.iaload, 1) := dk_46 (dk_at dksX4_save_1 18 rfl rfl)
theorem dX4_save_43 : decode cX4_save 43 = .ok (.ireturn, 1) := dk_172 (dk_at dksX4_save_1 19 rfl rfl)
abbrev cX4_restore : ByteArray := prog_10_method_80_code
def yX4_restore : MethodName := ⟨RX4, "restore", "()I"⟩
def dkwX4_restore_2 : List UInt8 := [167, 255, 234, 42, 3, 181, 0, 38, 42, 180, 0, 9, 5, 46, 172]
abbrev dktX4_restore_2 : List UInt8 := dkwX4_restore_2 ++ []
def dkwX4_restore_1 : List UInt8 := [27, 17, 3, 62, 162, 0, 21, 42, 180, 0, 9, 27, 42, 180, 0, 18, 27, 46, 79, 132, 1, 1]
abbrev dktX4_restore_1 : List UInt8 := dkwX4_restore_1 ++ dktX4_restore_2
def dkwX4_restore_0 : List UInt8 := [42, 42, 180, 0, 163, 154, 0, 7, 4, 167, 0, 4, 3, 4, 182, 0, 51, 153, 0, 5, 3, 172, 3, 60]
abbrev dktX4_restore_0 : List UInt8 := dkwX4_restore_0 ++ dktX4_restore_1
theorem dksX4_restore_0 : cX4_restore.data.toList.drop 0 = dktX4_restore_0 := by decide +kernel
theorem dksX4_restore_1 : cX4_restore.data.toList.drop 24 = dktX4_restore_1 := dk_seg dksX4_restore_0 24 rfl rfl
theorem dksX4_restore_2 : cX4_restore.data.toList.drop 46 = dktX4_restore_2 := dk_seg dksX4_restore_1 22 rfl rfl
theorem dX4_restore_0 : decode cX4_restore 0 = .ok (.aload_n 0, 1) := dk_42 (dk_at dksX4_restore_0 0 rfl rfl)
theorem dX4_restore_1 : decode cX4_restore 1 = .ok (.aload_n 0, 1) := dk_42 (dk_at dksX4_restore_0 1 rfl rfl)
theorem dX4_restore_2 : decode cX4_restore 2 = .ok (.getfield 163, 3) := dk_180 0 163 (dk_at dksX4_restore_0 2 rfl rfl)
theorem dX4_restore_5 : decode cX4_restore 5 = .ok (.ifCond .ne 7, 3) := dk_154 0 7 (dk_at dksX4_restore_0 5 rfl rfl)
theorem dX4_restore_8 : decode cX4_restore 8 = .ok (.iconst 1, 1) := dk_4 (dk_at dksX4_restore_0 8 rfl rfl)
theorem dX4_restore_9 : decode cX4_restore 9 = .ok (.goto 4, 3) := dk_167 0 4 (dk_at dksX4_restore_0 9 rfl rfl)
theorem dX4_restore_12 : decode cX4_restore 12 = .ok (.iconst 0, 1) := dk_3 (dk_at dksX4_restore_0 12 rfl rfl)
theorem dX4_restore_13 : decode cX4_restore 13 = .ok (.iconst 1, 1) := dk_4 (dk_at dksX4_restore_0 13 rfl rfl)
theorem dX4_restore_14 : decode cX4_restore 14 = .ok (.invokevirtual 51, 3) := dk_182 0 51 (dk_at dksX4_restore_0 14 rfl rfl)
theorem dX4_restore_17 : decode cX4_restore 17 = .ok (.ifCond .eq 5, 3) := dk_153 0 5 (dk_at dksX4_restore_0 17 rfl rfl)
theorem dX4_restore_20 : decode cX4_restore 20 = .ok (.iconst 0, 1) := dk_3 (dk_at dksX4_restore_0 20 rfl rfl)
theorem dX4_restore_21 : decode cX4_restore 21 = .ok (.ireturn, 1) := dk_172 (dk_at dksX4_restore_0 21 rfl rfl)
theorem dX4_restore_22 : decode cX4_restore 22 = .ok (.iconst 0, 1) := dk_3 (dk_at dksX4_restore_0 22 rfl rfl)
theorem dX4_restore_23 : decode cX4_restore 23 = .ok (.istore_n 1, 1) := dk_60 (dk_at dksX4_restore_0 23 rfl rfl)
theorem dX4_restore_24 : decode cX4_restore 24 = .ok (.iload_n 1, 1) := dk_27 (dk_at dksX4_restore_1 0 rfl rfl)
theorem dX4_restore_25 : decode cX4_restore 25 = .ok (.sipush 830, 3) := dk_17 3 62 (dk_at dksX4_restore_1 1 rfl rfl)
theorem dX4_restore_28 : decode cX4_restore 28 = .ok (.if_icmp .ge 21, 3) := dk_162 0 21 (dk_at dksX4_restore_1 4 rfl rfl)
theorem dX4_restore_31 : decode cX4_restore 31 = .ok (.aload_n 0, 1) := dk_42 (dk_at dksX4_restore_1 7 rfl rfl)
theorem dX4_restore_32 : decode cX4_restore 32 = .ok (.getfield 9, 3) := dk_180 0 9 (dk_at dksX4_restore_1 8 rfl rfl)
theorem dX4_restore_35 : decode cX4_restore 35 = .ok (.iload_n 1, 1) := dk_27 (dk_at dksX4_restore_1 11 rfl rfl)
theorem dX4_restore_36 : decode cX4_restore 36 = .ok (.aload_n 0, 1) := dk_42 (dk_at dksX4_restore_1 12 rfl rfl)
theorem dX4_restore_37 : decode cX4_restore 37 = .ok (.getfield 18, 3) := dk_180 0 18 (dk_at dksX4_restore_1 13 rfl rfl)
theorem dX4_restore_40 : decode cX4_restore 40 = .ok (.iload_n 1, 1) := dk_27 (dk_at dksX4_restore_1 16 rfl rfl)
theorem dX4_restore_41 : decode cX4_restore 41 = .ok (.iaload, 1) := dk_46 (dk_at dksX4_restore_1 17 rfl rfl)
theorem dX4_restore_42 : decode cX4_restore 42 = .ok (.iastore, 1) := dk_79 (dk_at dksX4_restore_1 18 rfl rfl)
theorem dX4_restore_43 : decode cX4_restore 43 = .ok (.iinc 1 1, 3) := dk_132 1 1 (dk_at dksX4_restore_1 19 rfl rfl)
theorem dX4_restore_46 : decode cX4_restore 46 = .ok (.goto (-22), 3) := dk_167 255 234 (dk_at dksX4_restore_2 0 rfl rfl)
theorem dX4_restore_49 : decode cX4_restore 49 = .ok (.aload_n 0, 1) := dk_42 (dk_at dksX4_restore_2 3 rfl rfl)
theorem dX4_restore_50 : decode cX4_restore 50 = .ok (.iconst 0, 1) := dk_3 (dk_at dksX4_restore_2 4 rfl rfl)
theorem dX4_restore_51 : decode cX4_restore 51 = .ok (.putfield 38, 3) := dk_181 0 38 (dk_at dksX4_restore_2 5 rfl rfl)
theorem dX4_restore_54 : decode cX4_restore 54 = .ok (.aload_n 0, 1) := dk_42 (dk_at dksX4_restore_2 8 rfl rfl)
theorem dX4_restore_55 : decode cX4_restore 55 = .ok (.getfield 9, 3) := dk_180 0 9 (dk_at dksX4_restore_2 9 rfl rfl)
theorem dX4_restore_58 : decode cX4_restore 58 = .ok (.iconst 2, 1) := dk_5 (dk_at dksX4_restore_2 12 rfl rfl)
theorem dX4_restore_59 : decode cX4_restore 59 = .ok (.iaload, 1) := dk_46 (dk_at dksX4_restore_2 13 rfl rfl)
theorem dX4_restore_60 : decode cX4_restore 60 = .ok (.ireturn, 1) := dk_172 (dk_at dksX4_restore_2 14 rfl rfl)
theorem q58 : (Jvm.Cond.initialized "TrainingDiaryModel") ∈ lw_all := lw_g (lw_at lw_m1 12 rfl) rfl
theorem q524 : (Jvm.Cond.selects "TrainingDiaryModel" ({ cls := "java/lang/Object", name := "getClass", desc := "()Ljava/lang/Class;" } : Jvm.MethodName) ({ cls := "java/lang/Object", name := "getClass", desc := "()Ljava/lang/Class;" } : Jvm.MethodName)) ∈ lw_all := lw_g (lw_at lw_m2 238 rfl) rfl
theorem q1589 : (Jvm.Cond.instantiable "TrainingDiaryModel" (14 : Nat)) ∈ lw_all := lw_g (lw_at lw_m7 103 rfl) rfl
theorem q1591 : (Jvm.Cond.instanceMethod ({ cls := "TrainingDiaryModel", name := "<init>", desc := "()V" } : Jvm.MethodName)) ∈ lw_all := lw_g (lw_at lw_m7 105 rfl) rfl
theorem q1592 : (Jvm.Cond.code ({ cls := "TrainingDiaryModel", name := "<init>", desc := "()V" } : Jvm.MethodName) prog_10_method_1_code (2 : Nat) (Option.none : Option Jvm.ClassFile.FieldType)) ∈ lw_all := lw_g (lw_at lw_m7 106 rfl) rfl
theorem q1593 : (Jvm.Cond.methodLink "TrainingDiaryModel" (3 : Nat) ({ cls := "java/lang/Object", name := "<init>", desc := "()V" } : Jvm.MethodName)) ∈ lw_all := lw_g (lw_at lw_m7 107 rfl) rfl
theorem q1594 : (Jvm.Cond.classLink "TrainingDiaryModel" (13 : Nat) "[[I") ∈ lw_all := lw_g (lw_at lw_m7 108 rfl) rfl
theorem q1596 : (Jvm.Cond.fieldLink "TrainingDiaryModel" (9 : Nat) "TrainingDiaryModel" "s" "[I") ∈ lw_all := lw_g (lw_at lw_m7 110 rfl) rfl
theorem q1597 : (Jvm.Cond.fieldLink "TrainingDiaryModel" (15 : Nat) "TrainingDiaryModel" "old" "[[I") ∈ lw_all := lw_g (lw_at lw_m7 111 rfl) rfl
theorem q1598 : (Jvm.Cond.fieldLink "TrainingDiaryModel" (18 : Nat) "TrainingDiaryModel" "snapshot" "[I") ∈ lw_all := lw_g (lw_at lw_m7 112 rfl) rfl
theorem q1599 : (Jvm.Cond.fieldLink "TrainingDiaryModel" (21 : Nat) "TrainingDiaryModel" "load" "[I") ∈ lw_all := lw_g (lw_at lw_m7 113 rfl) rfl
theorem q1600 : (Jvm.Cond.fieldLink "TrainingDiaryModel" (24 : Nat) "TrainingDiaryModel" "zones" "[I") ∈ lw_all := lw_g (lw_at lw_m7 114 rfl) rfl
theorem q1601 : (Jvm.Cond.fieldLink "TrainingDiaryModel" (27 : Nat) "TrainingDiaryModel" "line" "[C") ∈ lw_all := lw_g (lw_at lw_m7 115 rfl) rfl
theorem q1602 : (Jvm.Cond.fieldLink "TrainingDiaryModel" (38 : Nat) "TrainingDiaryModel" "undoable" "I") ∈ lw_all := lw_g (lw_at lw_m7 116 rfl) rfl
theorem q1603 : (Jvm.Cond.fieldLink "TrainingDiaryModel" (35 : Nat) "TrainingDiaryModel" "top" "I") ∈ lw_all := lw_g (lw_at lw_m7 117 rfl) rfl
theorem q1604 : (Jvm.Cond.fieldLink "TrainingDiaryModel" (160 : Nat) "TrainingDiaryModel" "written" "I") ∈ lw_all := lw_g (lw_at lw_m7 118 rfl) rfl
theorem q1605 : (Jvm.Cond.fieldLink "TrainingDiaryModel" (143 : Nat) "TrainingDiaryModel" "due" "I") ∈ lw_all := lw_g (lw_at lw_m7 119 rfl) rfl
theorem q1606 : (Jvm.Cond.fieldLink "TrainingDiaryModel" (146 : Nat) "TrainingDiaryModel" "missed" "I") ∈ lw_all := lw_g (lw_at lw_m7 120 rfl) rfl
theorem q1607 : (Jvm.Cond.fieldLink "TrainingDiaryModel" (149 : Nat) "TrainingDiaryModel" "dropped" "I") ∈ lw_all := lw_g (lw_at lw_m7 121 rfl) rfl
theorem q1608 : (Jvm.Cond.fieldLink "TrainingDiaryModel" (31 : Nat) "TrainingDiaryModel" "thrown" "I") ∈ lw_all := lw_g (lw_at lw_m7 122 rfl) rfl
theorem q1609 : (Jvm.Cond.fieldLink "TrainingDiaryModel" (163 : Nat) "TrainingDiaryModel" "isSaved" "Z") ∈ lw_all := lw_g (lw_at lw_m7 123 rfl) rfl
theorem q1610 : (Jvm.Cond.lays "TrainingDiaryModel" "TrainingDiaryModel" "s" "[I") ∈ lw_all := lw_g (lw_at lw_m7 124 rfl) rfl
theorem q1611 : (Jvm.Cond.soleField "TrainingDiaryModel" "s") ∈ lw_all := lw_g (lw_at lw_m7 125 rfl) rfl
theorem q1612 : (Jvm.Cond.laysFinal "TrainingDiaryModel" "TrainingDiaryModel" "old" "[[I") ∈ lw_all := lw_g (lw_at lw_m7 126 rfl) rfl
theorem q1613 : (Jvm.Cond.soleField "TrainingDiaryModel" "old") ∈ lw_all := lw_g (lw_at lw_m7 127 rfl) rfl
theorem q1614 : (Jvm.Cond.laysFinal "TrainingDiaryModel" "TrainingDiaryModel" "snapshot" "[I") ∈ lw_all := lw_g (lw_at lw_m7 128 rfl) rfl
theorem q1615 : (Jvm.Cond.soleField "TrainingDiaryModel" "snapshot") ∈ lw_all := lw_g (lw_at lw_m7 129 rfl) rfl
theorem q1616 : (Jvm.Cond.laysFinal "TrainingDiaryModel" "TrainingDiaryModel" "load" "[I") ∈ lw_all := lw_g (lw_at lw_m7 130 rfl) rfl
theorem q1617 : (Jvm.Cond.soleField "TrainingDiaryModel" "load") ∈ lw_all := lw_g (lw_at lw_m7 131 rfl) rfl
theorem q1618 : (Jvm.Cond.laysFinal "TrainingDiaryModel" "TrainingDiaryModel" "zones" "[I") ∈ lw_all := lw_g (lw_at lw_m7 132 rfl) rfl
theorem q1619 : (Jvm.Cond.soleField "TrainingDiaryModel" "zones") ∈ lw_all := lw_g (lw_at lw_m7 133 rfl) rfl
theorem q1620 : (Jvm.Cond.laysFinal "TrainingDiaryModel" "TrainingDiaryModel" "line" "[C") ∈ lw_all := lw_g (lw_at lw_m7 134 rfl) rfl
theorem q1621 : (Jvm.Cond.soleField "TrainingDiaryModel" "line") ∈ lw_all := lw_g (lw_at lw_m7 135 rfl) rfl
theorem q1622 : (Jvm.Cond.lays "TrainingDiaryModel" "TrainingDiaryModel" "undoable" "I") ∈ lw_all := lw_g (lw_at lw_m7 136 rfl) rfl
theorem q1623 : (Jvm.Cond.soleField "TrainingDiaryModel" "undoable") ∈ lw_all := lw_g (lw_at lw_m7 137 rfl) rfl
theorem q1624 : (Jvm.Cond.lays "TrainingDiaryModel" "TrainingDiaryModel" "top" "I") ∈ lw_all := lw_g (lw_at lw_m7 138 rfl) rfl
theorem q1625 : (Jvm.Cond.soleField "TrainingDiaryModel" "top") ∈ lw_all := lw_g (lw_at lw_m7 139 rfl) rfl
theorem q1626 : (Jvm.Cond.lays "TrainingDiaryModel" "TrainingDiaryModel" "written" "I") ∈ lw_all := lw_g (lw_at lw_m7 140 rfl) rfl
theorem q1627 : (Jvm.Cond.soleField "TrainingDiaryModel" "written") ∈ lw_all := lw_g (lw_at lw_m7 141 rfl) rfl
theorem q1628 : (Jvm.Cond.lays "TrainingDiaryModel" "TrainingDiaryModel" "due" "I") ∈ lw_all := lw_g (lw_at lw_m7 142 rfl) rfl
theorem q1629 : (Jvm.Cond.soleField "TrainingDiaryModel" "due") ∈ lw_all := lw_g (lw_at lw_m7 143 rfl) rfl
theorem q1630 : (Jvm.Cond.lays "TrainingDiaryModel" "TrainingDiaryModel" "missed" "I") ∈ lw_all := lw_g (lw_at lw_m7 144 rfl) rfl
theorem q1631 : (Jvm.Cond.soleField "TrainingDiaryModel" "missed") ∈ lw_all := lw_g (lw_at lw_m7 145 rfl) rfl
theorem q1632 : (Jvm.Cond.lays "TrainingDiaryModel" "TrainingDiaryModel" "dropped" "I") ∈ lw_all := lw_g (lw_at lw_m7 146 rfl) rfl
theorem q1633 : (Jvm.Cond.soleField "TrainingDiaryModel" "dropped") ∈ lw_all := lw_g (lw_at lw_m7 147 rfl) rfl
theorem q1634 : (Jvm.Cond.lays "TrainingDiaryModel" "TrainingDiaryModel" "thrown" "I") ∈ lw_all := lw_g (lw_at lw_m7 148 rfl) rfl
theorem q1635 : (Jvm.Cond.soleField "TrainingDiaryModel" "thrown") ∈ lw_all := lw_g (lw_at lw_m7 149 rfl) rfl
theorem q1636 : (Jvm.Cond.lays "TrainingDiaryModel" "TrainingDiaryModel" "isSaved" "Z") ∈ lw_all := lw_g (lw_at lw_m7 150 rfl) rfl
theorem q1637 : (Jvm.Cond.soleField "TrainingDiaryModel" "isSaved") ∈ lw_all := lw_g (lw_at lw_m7 151 rfl) rfl
theorem q1638 : (Jvm.Cond.superclass "TrainingDiaryModel" "java/lang/Object") ∈ lw_all := lw_g (lw_at lw_m7 152 rfl) rfl
theorem q1640 : (Jvm.Cond.instanceMethod ({ cls := "TrainingDiaryModel", name := "thrown", desc := "()I" } : Jvm.MethodName)) ∈ lw_all := lw_g (lw_at lw_m7 154 rfl) rfl
theorem q1641 : (Jvm.Cond.selects "TrainingDiaryModel" ({ cls := "TrainingDiaryModel", name := "thrown", desc := "()I" } : Jvm.MethodName) ({ cls := "TrainingDiaryModel", name := "thrown", desc := "()I" } : Jvm.MethodName)) ∈ lw_all := lw_g (lw_at lw_m7 155 rfl) rfl
theorem q1642 : (Jvm.Cond.code ({ cls := "TrainingDiaryModel", name := "thrown", desc := "()I" } : Jvm.MethodName) prog_10_method_2_code (1 : Nat) (Option.some Jvm.ClassFile.FieldType.int)) ∈ lw_all := lw_g (lw_at lw_m7 156 rfl) rfl
theorem q1644 : (Jvm.Cond.instanceMethod ({ cls := "TrainingDiaryModel", name := "pass", desc := "(I)I" } : Jvm.MethodName)) ∈ lw_all := lw_g (lw_at lw_m7 158 rfl) rfl
theorem q1645 : (Jvm.Cond.selects "TrainingDiaryModel" ({ cls := "TrainingDiaryModel", name := "pass", desc := "(I)I" } : Jvm.MethodName) ({ cls := "TrainingDiaryModel", name := "pass", desc := "(I)I" } : Jvm.MethodName)) ∈ lw_all := lw_g (lw_at lw_m7 159 rfl) rfl
theorem q1646 : (Jvm.Cond.code ({ cls := "TrainingDiaryModel", name := "pass", desc := "(I)I" } : Jvm.MethodName) prog_10_method_7_code (2 : Nat) (Option.some Jvm.ClassFile.FieldType.int)) ∈ lw_all := lw_g (lw_at lw_m7 160 rfl) rfl
theorem q1647 : (Jvm.Cond.methodLink "TrainingDiaryModel" (47 : Nat) ({ cls := "TrainingDiaryModel", name := "isIn", desc := "(III)Z" } : Jvm.MethodName)) ∈ lw_all := lw_g (lw_at lw_m7 161 rfl) rfl
theorem q1648 : (Jvm.Cond.static ({ cls := "TrainingDiaryModel", name := "isIn", desc := "(III)Z" } : Jvm.MethodName)) ∈ lw_all := lw_g (lw_at lw_m7 162 rfl) rfl
theorem q1649 : (Jvm.Cond.code ({ cls := "TrainingDiaryModel", name := "isIn", desc := "(III)Z" } : Jvm.MethodName) prog_10_method_3_code (3 : Nat) (Option.some Jvm.ClassFile.FieldType.boolean)) ∈ lw_all := lw_g (lw_at lw_m7 163 rfl) rfl
theorem q1650 : (Jvm.Cond.methodLink "TrainingDiaryModel" (51 : Nat) ({ cls := "TrainingDiaryModel", name := "isThrown", desc := "(ZI)Z" } : Jvm.MethodName)) ∈ lw_all := lw_g (lw_at lw_m7 164 rfl) rfl
theorem q1651 : (Jvm.Cond.privateMethod ({ cls := "TrainingDiaryModel", name := "isThrown", desc := "(ZI)Z" } : Jvm.MethodName)) ∈ lw_tbl := lw_at lw_m7 165 rfl
theorem q1652 : (Jvm.Cond.instanceMethod ({ cls := "TrainingDiaryModel", name := "isThrown", desc := "(ZI)Z" } : Jvm.MethodName)) ∈ lw_all := lw_g (lw_at lw_m7 166 rfl) rfl
theorem q1653 : (Jvm.Cond.code ({ cls := "TrainingDiaryModel", name := "isThrown", desc := "(ZI)Z" } : Jvm.MethodName) prog_10_method_4_code (3 : Nat) (Option.some Jvm.ClassFile.FieldType.boolean)) ∈ lw_all := lw_g (lw_at lw_m7 167 rfl) rfl
theorem q1654 : (Jvm.Cond.methodLink "TrainingDiaryModel" (55 : Nat) ({ cls := "TrainingDiaryModel", name := "keeps", desc := "()V" } : Jvm.MethodName)) ∈ lw_all := lw_g (lw_at lw_m7 168 rfl) rfl
theorem q1655 : (Jvm.Cond.privateMethod ({ cls := "TrainingDiaryModel", name := "keeps", desc := "()V" } : Jvm.MethodName)) ∈ lw_tbl := lw_at lw_m7 169 rfl
theorem q1656 : (Jvm.Cond.instanceMethod ({ cls := "TrainingDiaryModel", name := "keeps", desc := "()V" } : Jvm.MethodName)) ∈ lw_all := lw_g (lw_at lw_m7 170 rfl) rfl
theorem q1657 : (Jvm.Cond.code ({ cls := "TrainingDiaryModel", name := "keeps", desc := "()V" } : Jvm.MethodName) prog_10_method_5_code (2 : Nat) (Option.none : Option Jvm.ClassFile.FieldType)) ∈ lw_all := lw_g (lw_at lw_m7 171 rfl) rfl
theorem q1658 : (Jvm.Cond.methodLink "TrainingDiaryModel" (41 : Nat) ({ cls := "java/lang/Math", name := "min", desc := "(II)I" } : Jvm.MethodName)) ∈ lw_all := lw_g (lw_at lw_m7 172 rfl) rfl
theorem q1660 : (Jvm.Cond.instanceMethod ({ cls := "TrainingDiaryModel", name := "today", desc := "()I" } : Jvm.MethodName)) ∈ lw_all := lw_g (lw_at lw_m7 174 rfl) rfl
theorem q1661 : (Jvm.Cond.selects "TrainingDiaryModel" ({ cls := "TrainingDiaryModel", name := "today", desc := "()I" } : Jvm.MethodName) ({ cls := "TrainingDiaryModel", name := "today", desc := "()I" } : Jvm.MethodName)) ∈ lw_all := lw_g (lw_at lw_m7 175 rfl) rfl
theorem q1662 : (Jvm.Cond.code ({ cls := "TrainingDiaryModel", name := "today", desc := "()I" } : Jvm.MethodName) prog_10_method_8_code (1 : Nat) (Option.some Jvm.ClassFile.FieldType.int)) ∈ lw_all := lw_g (lw_at lw_m7 176 rfl) rfl
theorem q1664 : (Jvm.Cond.instanceMethod ({ cls := "TrainingDiaryModel", name := "addTest", desc := "(II)I" } : Jvm.MethodName)) ∈ lw_all := lw_g (lw_at lw_m7 178 rfl) rfl
theorem q1665 : (Jvm.Cond.selects "TrainingDiaryModel" ({ cls := "TrainingDiaryModel", name := "addTest", desc := "(II)I" } : Jvm.MethodName) ({ cls := "TrainingDiaryModel", name := "addTest", desc := "(II)I" } : Jvm.MethodName)) ∈ lw_all := lw_g (lw_at lw_m7 179 rfl) rfl
theorem q1666 : (Jvm.Cond.code ({ cls := "TrainingDiaryModel", name := "addTest", desc := "(II)I" } : Jvm.MethodName) prog_10_method_10_code (7 : Nat) (Option.some Jvm.ClassFile.FieldType.int)) ∈ lw_all := lw_g (lw_at lw_m7 180 rfl) rfl
theorem q1667 : (Jvm.Cond.methodLink "TrainingDiaryModel" (58 : Nat) ({ cls := "TrainingDiaryModel", name := "isNoDay", desc := "(I)Z" } : Jvm.MethodName)) ∈ lw_all := lw_g (lw_at lw_m7 181 rfl) rfl
theorem q1668 : (Jvm.Cond.privateMethod ({ cls := "TrainingDiaryModel", name := "isNoDay", desc := "(I)Z" } : Jvm.MethodName)) ∈ lw_tbl := lw_at lw_m7 182 rfl
theorem q1669 : (Jvm.Cond.instanceMethod ({ cls := "TrainingDiaryModel", name := "isNoDay", desc := "(I)Z" } : Jvm.MethodName)) ∈ lw_all := lw_g (lw_at lw_m7 183 rfl) rfl
theorem q1670 : (Jvm.Cond.code ({ cls := "TrainingDiaryModel", name := "isNoDay", desc := "(I)Z" } : Jvm.MethodName) prog_10_method_6_code (2 : Nat) (Option.some Jvm.ClassFile.FieldType.boolean)) ∈ lw_all := lw_g (lw_at lw_m7 184 rfl) rfl
theorem q1671 : (Jvm.Cond.methodLink "TrainingDiaryModel" (62 : Nat) ({ cls := "TrainingDiaryModel", name := "testOn", desc := "(I)I" } : Jvm.MethodName)) ∈ lw_all := lw_g (lw_at lw_m7 185 rfl) rfl
theorem q1672 : (Jvm.Cond.privateMethod ({ cls := "TrainingDiaryModel", name := "testOn", desc := "(I)I" } : Jvm.MethodName)) ∈ lw_tbl := lw_at lw_m7 186 rfl
theorem q1673 : (Jvm.Cond.instanceMethod ({ cls := "TrainingDiaryModel", name := "testOn", desc := "(I)I" } : Jvm.MethodName)) ∈ lw_all := lw_g (lw_at lw_m7 187 rfl) rfl
theorem q1674 : (Jvm.Cond.code ({ cls := "TrainingDiaryModel", name := "testOn", desc := "(I)I" } : Jvm.MethodName) prog_10_method_9_code (4 : Nat) (Option.some Jvm.ClassFile.FieldType.int)) ∈ lw_all := lw_g (lw_at lw_m7 188 rfl) rfl
theorem q1675 : (Jvm.Cond.methodLink "TrainingDiaryModel" (66 : Nat) ({ cls := "TrainingDiaryModel", name := "loadAt", desc := "(I)I" } : Jvm.MethodName)) ∈ lw_all := lw_g (lw_at lw_m7 189 rfl) rfl
theorem q1676 : (Jvm.Cond.privateMethod ({ cls := "TrainingDiaryModel", name := "loadAt", desc := "(I)I" } : Jvm.MethodName)) ∈ lw_tbl := lw_at lw_m7 190 rfl
theorem q1677 : (Jvm.Cond.instanceMethod ({ cls := "TrainingDiaryModel", name := "loadAt", desc := "(I)I" } : Jvm.MethodName)) ∈ lw_all := lw_g (lw_at lw_m7 191 rfl) rfl
theorem q1678 : (Jvm.Cond.code ({ cls := "TrainingDiaryModel", name := "loadAt", desc := "(I)I" } : Jvm.MethodName) prog_10_method_26_code (4 : Nat) (Option.some Jvm.ClassFile.FieldType.int)) ∈ lw_all := lw_g (lw_at lw_m7 192 rfl) rfl
theorem q1679 : (Jvm.Cond.methodLink "TrainingDiaryModel" (78 : Nat) ({ cls := "TrainingDiaryModel", name := "noZones", desc := "()V" } : Jvm.MethodName)) ∈ lw_all := lw_g (lw_at lw_m7 193 rfl) rfl
theorem q1680 : (Jvm.Cond.privateMethod ({ cls := "TrainingDiaryModel", name := "noZones", desc := "()V" } : Jvm.MethodName)) ∈ lw_tbl := lw_at lw_m7 194 rfl
theorem q1681 : (Jvm.Cond.instanceMethod ({ cls := "TrainingDiaryModel", name := "noZones", desc := "()V" } : Jvm.MethodName)) ∈ lw_all := lw_g (lw_at lw_m7 195 rfl) rfl
theorem q1682 : (Jvm.Cond.code ({ cls := "TrainingDiaryModel", name := "noZones", desc := "()V" } : Jvm.MethodName) prog_10_method_25_code (2 : Nat) (Option.none : Option Jvm.ClassFile.FieldType)) ∈ lw_all := lw_g (lw_at lw_m7 196 rfl) rfl
theorem q1683 : (Jvm.Cond.methodLink "TrainingDiaryModel" (81 : Nat) ({ cls := "TrainingDiaryModel", name := "zones", desc := "(I)V" } : Jvm.MethodName)) ∈ lw_all := lw_g (lw_at lw_m7 197 rfl) rfl
theorem q1684 : (Jvm.Cond.privateMethod ({ cls := "TrainingDiaryModel", name := "zones", desc := "(I)V" } : Jvm.MethodName)) ∈ lw_tbl := lw_at lw_m7 198 rfl
theorem q1685 : (Jvm.Cond.instanceMethod ({ cls := "TrainingDiaryModel", name := "zones", desc := "(I)V" } : Jvm.MethodName)) ∈ lw_all := lw_g (lw_at lw_m7 199 rfl) rfl
theorem q1686 : (Jvm.Cond.code ({ cls := "TrainingDiaryModel", name := "zones", desc := "(I)V" } : Jvm.MethodName) prog_10_method_24_code (3 : Nat) (Option.none : Option Jvm.ClassFile.FieldType)) ∈ lw_all := lw_g (lw_at lw_m7 200 rfl) rfl
theorem q1687 : (Jvm.Cond.methodLink "TrainingDiaryModel" (75 : Nat) ({ cls := "TrainingDiaryModel", name := "at", desc := "(I)I" } : Jvm.MethodName)) ∈ lw_all := lw_g (lw_at lw_m7 201 rfl) rfl
theorem q1688 : (Jvm.Cond.privateMethod ({ cls := "TrainingDiaryModel", name := "at", desc := "(I)I" } : Jvm.MethodName)) ∈ lw_tbl := lw_at lw_m7 202 rfl
theorem q1689 : (Jvm.Cond.instanceMethod ({ cls := "TrainingDiaryModel", name := "at", desc := "(I)I" } : Jvm.MethodName)) ∈ lw_all := lw_g (lw_at lw_m7 203 rfl) rfl
theorem q1690 : (Jvm.Cond.code ({ cls := "TrainingDiaryModel", name := "at", desc := "(I)I" } : Jvm.MethodName) prog_10_method_21_code (2 : Nat) (Option.some Jvm.ClassFile.FieldType.int)) ∈ lw_all := lw_g (lw_at lw_m7 204 rfl) rfl
theorem q1691 : (Jvm.Cond.methodLink "TrainingDiaryModel" (72 : Nat) ({ cls := "TrainingDiaryModel", name := "zone", desc := "(II)I" } : Jvm.MethodName)) ∈ lw_all := lw_g (lw_at lw_m7 205 rfl) rfl
theorem q1692 : (Jvm.Cond.privateMethod ({ cls := "TrainingDiaryModel", name := "zone", desc := "(II)I" } : Jvm.MethodName)) ∈ lw_tbl := lw_at lw_m7 206 rfl
theorem q1693 : (Jvm.Cond.instanceMethod ({ cls := "TrainingDiaryModel", name := "zone", desc := "(II)I" } : Jvm.MethodName)) ∈ lw_all := lw_g (lw_at lw_m7 207 rfl) rfl
theorem q1694 : (Jvm.Cond.code ({ cls := "TrainingDiaryModel", name := "zone", desc := "(II)I" } : Jvm.MethodName) prog_10_method_19_code (6 : Nat) (Option.some Jvm.ClassFile.FieldType.int)) ∈ lw_all := lw_g (lw_at lw_m7 208 rfl) rfl
theorem q1695 : (Jvm.Cond.methodLink "TrainingDiaryModel" (69 : Nat) ({ cls := "TrainingDiaryModel", name := "threshold", desc := "(I)I" } : Jvm.MethodName)) ∈ lw_all := lw_g (lw_at lw_m7 209 rfl) rfl
theorem q1696 : (Jvm.Cond.privateMethod ({ cls := "TrainingDiaryModel", name := "threshold", desc := "(I)I" } : Jvm.MethodName)) ∈ lw_tbl := lw_at lw_m7 210 rfl
theorem q1697 : (Jvm.Cond.instanceMethod ({ cls := "TrainingDiaryModel", name := "threshold", desc := "(I)I" } : Jvm.MethodName)) ∈ lw_all := lw_g (lw_at lw_m7 211 rfl) rfl
theorem q1698 : (Jvm.Cond.code ({ cls := "TrainingDiaryModel", name := "threshold", desc := "(I)I" } : Jvm.MethodName) prog_10_method_13_code (5 : Nat) (Option.some Jvm.ClassFile.FieldType.int)) ∈ lw_all := lw_g (lw_at lw_m7 212 rfl) rfl
theorem q1700 : (Jvm.Cond.instanceMethod ({ cls := "TrainingDiaryModel", name := "removeTest", desc := "(I)I" } : Jvm.MethodName)) ∈ lw_all := lw_g (lw_at lw_m7 214 rfl) rfl
theorem q1701 : (Jvm.Cond.selects "TrainingDiaryModel" ({ cls := "TrainingDiaryModel", name := "removeTest", desc := "(I)I" } : Jvm.MethodName) ({ cls := "TrainingDiaryModel", name := "removeTest", desc := "(I)I" } : Jvm.MethodName)) ∈ lw_all := lw_g (lw_at lw_m7 215 rfl) rfl
theorem q1702 : (Jvm.Cond.code ({ cls := "TrainingDiaryModel", name := "removeTest", desc := "(I)I" } : Jvm.MethodName) prog_10_method_11_code (4 : Nat) (Option.some Jvm.ClassFile.FieldType.int)) ∈ lw_all := lw_g (lw_at lw_m7 216 rfl) rfl
theorem q1704 : (Jvm.Cond.instanceMethod ({ cls := "TrainingDiaryModel", name := "testCount", desc := "()I" } : Jvm.MethodName)) ∈ lw_all := lw_g (lw_at lw_m7 218 rfl) rfl
theorem q1705 : (Jvm.Cond.selects "TrainingDiaryModel" ({ cls := "TrainingDiaryModel", name := "testCount", desc := "()I" } : Jvm.MethodName) ({ cls := "TrainingDiaryModel", name := "testCount", desc := "()I" } : Jvm.MethodName)) ∈ lw_all := lw_g (lw_at lw_m7 219 rfl) rfl
theorem q1706 : (Jvm.Cond.code ({ cls := "TrainingDiaryModel", name := "testCount", desc := "()I" } : Jvm.MethodName) prog_10_method_12_code (1 : Nat) (Option.some Jvm.ClassFile.FieldType.int)) ∈ lw_all := lw_g (lw_at lw_m7 220 rfl) rfl
theorem q1708 : (Jvm.Cond.instanceMethod ({ cls := "TrainingDiaryModel", name := "thresholdOn", desc := "(I)I" } : Jvm.MethodName)) ∈ lw_all := lw_g (lw_at lw_m7 222 rfl) rfl
theorem q1709 : (Jvm.Cond.selects "TrainingDiaryModel" ({ cls := "TrainingDiaryModel", name := "thresholdOn", desc := "(I)I" } : Jvm.MethodName) ({ cls := "TrainingDiaryModel", name := "thresholdOn", desc := "(I)I" } : Jvm.MethodName)) ∈ lw_all := lw_g (lw_at lw_m7 223 rfl) rfl
theorem q1710 : (Jvm.Cond.code ({ cls := "TrainingDiaryModel", name := "thresholdOn", desc := "(I)I" } : Jvm.MethodName) prog_10_method_14_code (2 : Nat) (Option.some Jvm.ClassFile.FieldType.int)) ∈ lw_all := lw_g (lw_at lw_m7 224 rfl) rfl
theorem q1712 : (Jvm.Cond.instanceMethod ({ cls := "TrainingDiaryModel", name := "setBound", desc := "(II)I" } : Jvm.MethodName)) ∈ lw_all := lw_g (lw_at lw_m7 226 rfl) rfl
theorem q1713 : (Jvm.Cond.selects "TrainingDiaryModel" ({ cls := "TrainingDiaryModel", name := "setBound", desc := "(II)I" } : Jvm.MethodName) ({ cls := "TrainingDiaryModel", name := "setBound", desc := "(II)I" } : Jvm.MethodName)) ∈ lw_all := lw_g (lw_at lw_m7 227 rfl) rfl
theorem q1714 : (Jvm.Cond.code ({ cls := "TrainingDiaryModel", name := "setBound", desc := "(II)I" } : Jvm.MethodName) prog_10_method_15_code (4 : Nat) (Option.some Jvm.ClassFile.FieldType.int)) ∈ lw_all := lw_g (lw_at lw_m7 228 rfl) rfl
theorem q1716 : (Jvm.Cond.instanceMethod ({ cls := "TrainingDiaryModel", name := "boundOf", desc := "(I)I" } : Jvm.MethodName)) ∈ lw_all := lw_g (lw_at lw_m7 230 rfl) rfl
theorem q1717 : (Jvm.Cond.selects "TrainingDiaryModel" ({ cls := "TrainingDiaryModel", name := "boundOf", desc := "(I)I" } : Jvm.MethodName) ({ cls := "TrainingDiaryModel", name := "boundOf", desc := "(I)I" } : Jvm.MethodName)) ∈ lw_all := lw_g (lw_at lw_m7 231 rfl) rfl
theorem q1718 : (Jvm.Cond.code ({ cls := "TrainingDiaryModel", name := "boundOf", desc := "(I)I" } : Jvm.MethodName) prog_10_method_16_code (2 : Nat) (Option.some Jvm.ClassFile.FieldType.int)) ∈ lw_all := lw_g (lw_at lw_m7 232 rfl) rfl
theorem q1720 : (Jvm.Cond.instanceMethod ({ cls := "TrainingDiaryModel", name := "setWeight", desc := "(II)I" } : Jvm.MethodName)) ∈ lw_all := lw_g (lw_at lw_m7 234 rfl) rfl
theorem q1721 : (Jvm.Cond.selects "TrainingDiaryModel" ({ cls := "TrainingDiaryModel", name := "setWeight", desc := "(II)I" } : Jvm.MethodName) ({ cls := "TrainingDiaryModel", name := "setWeight", desc := "(II)I" } : Jvm.MethodName)) ∈ lw_all := lw_g (lw_at lw_m7 235 rfl) rfl
theorem q1722 : (Jvm.Cond.code ({ cls := "TrainingDiaryModel", name := "setWeight", desc := "(II)I" } : Jvm.MethodName) prog_10_method_17_code (4 : Nat) (Option.some Jvm.ClassFile.FieldType.int)) ∈ lw_all := lw_g (lw_at lw_m7 236 rfl) rfl
theorem q1724 : (Jvm.Cond.instanceMethod ({ cls := "TrainingDiaryModel", name := "weightOf", desc := "(I)I" } : Jvm.MethodName)) ∈ lw_all := lw_g (lw_at lw_m7 238 rfl) rfl
theorem q1725 : (Jvm.Cond.selects "TrainingDiaryModel" ({ cls := "TrainingDiaryModel", name := "weightOf", desc := "(I)I" } : Jvm.MethodName) ({ cls := "TrainingDiaryModel", name := "weightOf", desc := "(I)I" } : Jvm.MethodName)) ∈ lw_all := lw_g (lw_at lw_m7 239 rfl) rfl
theorem q1726 : (Jvm.Cond.code ({ cls := "TrainingDiaryModel", name := "weightOf", desc := "(I)I" } : Jvm.MethodName) prog_10_method_18_code (2 : Nat) (Option.some Jvm.ClassFile.FieldType.int)) ∈ lw_all := lw_g (lw_at lw_m8 0 rfl) rfl
theorem q1728 : (Jvm.Cond.instanceMethod ({ cls := "TrainingDiaryModel", name := "zoneOf", desc := "(II)I" } : Jvm.MethodName)) ∈ lw_all := lw_g (lw_at lw_m8 2 rfl) rfl
theorem q1729 : (Jvm.Cond.selects "TrainingDiaryModel" ({ cls := "TrainingDiaryModel", name := "zoneOf", desc := "(II)I" } : Jvm.MethodName) ({ cls := "TrainingDiaryModel", name := "zoneOf", desc := "(II)I" } : Jvm.MethodName)) ∈ lw_all := lw_g (lw_at lw_m8 3 rfl) rfl
theorem q1730 : (Jvm.Cond.code ({ cls := "TrainingDiaryModel", name := "zoneOf", desc := "(II)I" } : Jvm.MethodName) prog_10_method_20_code (3 : Nat) (Option.some Jvm.ClassFile.FieldType.int)) ∈ lw_all := lw_g (lw_at lw_m8 4 rfl) rfl
theorem q1732 : (Jvm.Cond.instanceMethod ({ cls := "TrainingDiaryModel", name := "addSession", desc := "(I)I" } : Jvm.MethodName)) ∈ lw_all := lw_g (lw_at lw_m8 6 rfl) rfl
theorem q1733 : (Jvm.Cond.selects "TrainingDiaryModel" ({ cls := "TrainingDiaryModel", name := "addSession", desc := "(I)I" } : Jvm.MethodName) ({ cls := "TrainingDiaryModel", name := "addSession", desc := "(I)I" } : Jvm.MethodName)) ∈ lw_all := lw_g (lw_at lw_m8 7 rfl) rfl
theorem q1734 : (Jvm.Cond.code ({ cls := "TrainingDiaryModel", name := "addSession", desc := "(I)I" } : Jvm.MethodName) prog_10_method_27_code (3 : Nat) (Option.some Jvm.ClassFile.FieldType.int)) ∈ lw_all := lw_g (lw_at lw_m8 8 rfl) rfl
theorem q1736 : (Jvm.Cond.instanceMethod ({ cls := "TrainingDiaryModel", name := "addPart", desc := "(III)I" } : Jvm.MethodName)) ∈ lw_all := lw_g (lw_at lw_m8 10 rfl) rfl
theorem q1737 : (Jvm.Cond.selects "TrainingDiaryModel" ({ cls := "TrainingDiaryModel", name := "addPart", desc := "(III)I" } : Jvm.MethodName) ({ cls := "TrainingDiaryModel", name := "addPart", desc := "(III)I" } : Jvm.MethodName)) ∈ lw_all := lw_g (lw_at lw_m8 11 rfl) rfl
theorem q1738 : (Jvm.Cond.code ({ cls := "TrainingDiaryModel", name := "addPart", desc := "(III)I" } : Jvm.MethodName) prog_10_method_28_code (6 : Nat) (Option.some Jvm.ClassFile.FieldType.int)) ∈ lw_all := lw_g (lw_at lw_m8 12 rfl) rfl
theorem q1739 : (Jvm.Cond.methodLink "TrainingDiaryModel" (84 : Nat) ({ cls := "TrainingDiaryModel", name := "place", desc := "(I)I" } : Jvm.MethodName)) ∈ lw_all := lw_g (lw_at lw_m8 13 rfl) rfl
theorem q1740 : (Jvm.Cond.privateMethod ({ cls := "TrainingDiaryModel", name := "place", desc := "(I)I" } : Jvm.MethodName)) ∈ lw_tbl := lw_at lw_m8 14 rfl
theorem q1741 : (Jvm.Cond.instanceMethod ({ cls := "TrainingDiaryModel", name := "place", desc := "(I)I" } : Jvm.MethodName)) ∈ lw_all := lw_g (lw_at lw_m8 15 rfl) rfl
theorem q1742 : (Jvm.Cond.code ({ cls := "TrainingDiaryModel", name := "place", desc := "(I)I" } : Jvm.MethodName) prog_10_method_22_code (4 : Nat) (Option.some Jvm.ClassFile.FieldType.int)) ∈ lw_all := lw_g (lw_at lw_m8 16 rfl) rfl
theorem q1743 : (Jvm.Cond.methodLink "TrainingDiaryModel" (87 : Nat) ({ cls := "TrainingDiaryModel", name := "minutes", desc := "(I)I" } : Jvm.MethodName)) ∈ lw_all := lw_g (lw_at lw_m8 17 rfl) rfl
theorem q1744 : (Jvm.Cond.privateMethod ({ cls := "TrainingDiaryModel", name := "minutes", desc := "(I)I" } : Jvm.MethodName)) ∈ lw_tbl := lw_at lw_m8 18 rfl
theorem q1745 : (Jvm.Cond.instanceMethod ({ cls := "TrainingDiaryModel", name := "minutes", desc := "(I)I" } : Jvm.MethodName)) ∈ lw_all := lw_g (lw_at lw_m8 19 rfl) rfl
theorem q1746 : (Jvm.Cond.code ({ cls := "TrainingDiaryModel", name := "minutes", desc := "(I)I" } : Jvm.MethodName) prog_10_method_23_code (4 : Nat) (Option.some Jvm.ClassFile.FieldType.int)) ∈ lw_all := lw_g (lw_at lw_m8 20 rfl) rfl
theorem q1748 : (Jvm.Cond.instanceMethod ({ cls := "TrainingDiaryModel", name := "clearParts", desc := "(I)I" } : Jvm.MethodName)) ∈ lw_all := lw_g (lw_at lw_m8 22 rfl) rfl
theorem q1749 : (Jvm.Cond.selects "TrainingDiaryModel" ({ cls := "TrainingDiaryModel", name := "clearParts", desc := "(I)I" } : Jvm.MethodName) ({ cls := "TrainingDiaryModel", name := "clearParts", desc := "(I)I" } : Jvm.MethodName)) ∈ lw_all := lw_g (lw_at lw_m8 23 rfl) rfl
theorem q1750 : (Jvm.Cond.code ({ cls := "TrainingDiaryModel", name := "clearParts", desc := "(I)I" } : Jvm.MethodName) prog_10_method_30_code (3 : Nat) (Option.some Jvm.ClassFile.FieldType.int)) ∈ lw_all := lw_g (lw_at lw_m8 24 rfl) rfl
theorem q1751 : (Jvm.Cond.methodLink "TrainingDiaryModel" (90 : Nat) ({ cls := "TrainingDiaryModel", name := "isNoSession", desc := "(I)Z" } : Jvm.MethodName)) ∈ lw_all := lw_g (lw_at lw_m8 25 rfl) rfl
theorem q1752 : (Jvm.Cond.privateMethod ({ cls := "TrainingDiaryModel", name := "isNoSession", desc := "(I)Z" } : Jvm.MethodName)) ∈ lw_tbl := lw_at lw_m8 26 rfl
theorem q1753 : (Jvm.Cond.instanceMethod ({ cls := "TrainingDiaryModel", name := "isNoSession", desc := "(I)Z" } : Jvm.MethodName)) ∈ lw_all := lw_g (lw_at lw_m8 27 rfl) rfl
theorem q1754 : (Jvm.Cond.code ({ cls := "TrainingDiaryModel", name := "isNoSession", desc := "(I)Z" } : Jvm.MethodName) prog_10_method_29_code (2 : Nat) (Option.some Jvm.ClassFile.FieldType.boolean)) ∈ lw_all := lw_g (lw_at lw_m8 28 rfl) rfl
theorem q1756 : (Jvm.Cond.instanceMethod ({ cls := "TrainingDiaryModel", name := "moveSession", desc := "(II)I" } : Jvm.MethodName)) ∈ lw_all := lw_g (lw_at lw_m8 30 rfl) rfl
theorem q1757 : (Jvm.Cond.selects "TrainingDiaryModel" ({ cls := "TrainingDiaryModel", name := "moveSession", desc := "(II)I" } : Jvm.MethodName) ({ cls := "TrainingDiaryModel", name := "moveSession", desc := "(II)I" } : Jvm.MethodName)) ∈ lw_all := lw_g (lw_at lw_m8 31 rfl) rfl
theorem q1758 : (Jvm.Cond.code ({ cls := "TrainingDiaryModel", name := "moveSession", desc := "(II)I" } : Jvm.MethodName) prog_10_method_31_code (4 : Nat) (Option.some Jvm.ClassFile.FieldType.int)) ∈ lw_all := lw_g (lw_at lw_m8 32 rfl) rfl
theorem q1760 : (Jvm.Cond.instanceMethod ({ cls := "TrainingDiaryModel", name := "removeSession", desc := "(I)I" } : Jvm.MethodName)) ∈ lw_all := lw_g (lw_at lw_m8 34 rfl) rfl
theorem q1761 : (Jvm.Cond.selects "TrainingDiaryModel" ({ cls := "TrainingDiaryModel", name := "removeSession", desc := "(I)I" } : Jvm.MethodName) ({ cls := "TrainingDiaryModel", name := "removeSession", desc := "(I)I" } : Jvm.MethodName)) ∈ lw_all := lw_g (lw_at lw_m8 35 rfl) rfl
theorem q1762 : (Jvm.Cond.code ({ cls := "TrainingDiaryModel", name := "removeSession", desc := "(I)I" } : Jvm.MethodName) prog_10_method_32_code (3 : Nat) (Option.some Jvm.ClassFile.FieldType.int)) ∈ lw_all := lw_g (lw_at lw_m8 36 rfl) rfl
theorem q1764 : (Jvm.Cond.instanceMethod ({ cls := "TrainingDiaryModel", name := "sessionCount", desc := "()I" } : Jvm.MethodName)) ∈ lw_all := lw_g (lw_at lw_m8 38 rfl) rfl
theorem q1765 : (Jvm.Cond.selects "TrainingDiaryModel" ({ cls := "TrainingDiaryModel", name := "sessionCount", desc := "()I" } : Jvm.MethodName) ({ cls := "TrainingDiaryModel", name := "sessionCount", desc := "()I" } : Jvm.MethodName)) ∈ lw_all := lw_g (lw_at lw_m8 39 rfl) rfl
theorem q1766 : (Jvm.Cond.code ({ cls := "TrainingDiaryModel", name := "sessionCount", desc := "()I" } : Jvm.MethodName) prog_10_method_33_code (1 : Nat) (Option.some Jvm.ClassFile.FieldType.int)) ∈ lw_all := lw_g (lw_at lw_m8 40 rfl) rfl
theorem q1768 : (Jvm.Cond.instanceMethod ({ cls := "TrainingDiaryModel", name := "sessionAt", desc := "(I)I" } : Jvm.MethodName)) ∈ lw_all := lw_g (lw_at lw_m8 42 rfl) rfl
theorem q1769 : (Jvm.Cond.selects "TrainingDiaryModel" ({ cls := "TrainingDiaryModel", name := "sessionAt", desc := "(I)I" } : Jvm.MethodName) ({ cls := "TrainingDiaryModel", name := "sessionAt", desc := "(I)I" } : Jvm.MethodName)) ∈ lw_all := lw_g (lw_at lw_m8 43 rfl) rfl
theorem q1770 : (Jvm.Cond.code ({ cls := "TrainingDiaryModel", name := "sessionAt", desc := "(I)I" } : Jvm.MethodName) prog_10_method_35_code (2 : Nat) (Option.some Jvm.ClassFile.FieldType.int)) ∈ lw_all := lw_g (lw_at lw_m8 44 rfl) rfl
theorem q1771 : (Jvm.Cond.methodLink "TrainingDiaryModel" (93 : Nat) ({ cls := "TrainingDiaryModel", name := "ranked", desc := "(I)I" } : Jvm.MethodName)) ∈ lw_all := lw_g (lw_at lw_m8 45 rfl) rfl
theorem q1772 : (Jvm.Cond.privateMethod ({ cls := "TrainingDiaryModel", name := "ranked", desc := "(I)I" } : Jvm.MethodName)) ∈ lw_tbl := lw_at lw_m8 46 rfl
theorem q1773 : (Jvm.Cond.instanceMethod ({ cls := "TrainingDiaryModel", name := "ranked", desc := "(I)I" } : Jvm.MethodName)) ∈ lw_all := lw_g (lw_at lw_m8 47 rfl) rfl
theorem q1774 : (Jvm.Cond.code ({ cls := "TrainingDiaryModel", name := "ranked", desc := "(I)I" } : Jvm.MethodName) prog_10_method_34_code (7 : Nat) (Option.some Jvm.ClassFile.FieldType.int)) ∈ lw_all := lw_g (lw_at lw_m8 48 rfl) rfl
theorem q1776 : (Jvm.Cond.instanceMethod ({ cls := "TrainingDiaryModel", name := "dayOf", desc := "(I)I" } : Jvm.MethodName)) ∈ lw_all := lw_g (lw_at lw_m8 50 rfl) rfl
theorem q1777 : (Jvm.Cond.selects "TrainingDiaryModel" ({ cls := "TrainingDiaryModel", name := "dayOf", desc := "(I)I" } : Jvm.MethodName) ({ cls := "TrainingDiaryModel", name := "dayOf", desc := "(I)I" } : Jvm.MethodName)) ∈ lw_all := lw_g (lw_at lw_m8 51 rfl) rfl
theorem q1778 : (Jvm.Cond.code ({ cls := "TrainingDiaryModel", name := "dayOf", desc := "(I)I" } : Jvm.MethodName) prog_10_method_36_code (2 : Nat) (Option.some Jvm.ClassFile.FieldType.int)) ∈ lw_all := lw_g (lw_at lw_m8 52 rfl) rfl
theorem q1780 : (Jvm.Cond.instanceMethod ({ cls := "TrainingDiaryModel", name := "minutesOf", desc := "(I)I" } : Jvm.MethodName)) ∈ lw_all := lw_g (lw_at lw_m8 54 rfl) rfl
theorem q1781 : (Jvm.Cond.selects "TrainingDiaryModel" ({ cls := "TrainingDiaryModel", name := "minutesOf", desc := "(I)I" } : Jvm.MethodName) ({ cls := "TrainingDiaryModel", name := "minutesOf", desc := "(I)I" } : Jvm.MethodName)) ∈ lw_all := lw_g (lw_at lw_m8 55 rfl) rfl
theorem q1782 : (Jvm.Cond.code ({ cls := "TrainingDiaryModel", name := "minutesOf", desc := "(I)I" } : Jvm.MethodName) prog_10_method_37_code (2 : Nat) (Option.some Jvm.ClassFile.FieldType.int)) ∈ lw_all := lw_g (lw_at lw_m8 56 rfl) rfl
theorem q1784 : (Jvm.Cond.instanceMethod ({ cls := "TrainingDiaryModel", name := "minutesInZone", desc := "(II)I" } : Jvm.MethodName)) ∈ lw_all := lw_g (lw_at lw_m8 58 rfl) rfl
theorem q1785 : (Jvm.Cond.selects "TrainingDiaryModel" ({ cls := "TrainingDiaryModel", name := "minutesInZone", desc := "(II)I" } : Jvm.MethodName) ({ cls := "TrainingDiaryModel", name := "minutesInZone", desc := "(II)I" } : Jvm.MethodName)) ∈ lw_all := lw_g (lw_at lw_m8 59 rfl) rfl
theorem q1786 : (Jvm.Cond.code ({ cls := "TrainingDiaryModel", name := "minutesInZone", desc := "(II)I" } : Jvm.MethodName) prog_10_method_38_code (3 : Nat) (Option.some Jvm.ClassFile.FieldType.int)) ∈ lw_all := lw_g (lw_at lw_m8 60 rfl) rfl
theorem q1788 : (Jvm.Cond.instanceMethod ({ cls := "TrainingDiaryModel", name := "loadOf", desc := "(I)I" } : Jvm.MethodName)) ∈ lw_all := lw_g (lw_at lw_m8 62 rfl) rfl
theorem q1789 : (Jvm.Cond.selects "TrainingDiaryModel" ({ cls := "TrainingDiaryModel", name := "loadOf", desc := "(I)I" } : Jvm.MethodName) ({ cls := "TrainingDiaryModel", name := "loadOf", desc := "(I)I" } : Jvm.MethodName)) ∈ lw_all := lw_g (lw_at lw_m8 63 rfl) rfl
theorem q1790 : (Jvm.Cond.code ({ cls := "TrainingDiaryModel", name := "loadOf", desc := "(I)I" } : Jvm.MethodName) prog_10_method_39_code (2 : Nat) (Option.some Jvm.ClassFile.FieldType.int)) ∈ lw_all := lw_g (lw_at lw_m8 64 rfl) rfl
theorem q1792 : (Jvm.Cond.instanceMethod ({ cls := "TrainingDiaryModel", name := "loadOn", desc := "(I)I" } : Jvm.MethodName)) ∈ lw_all := lw_g (lw_at lw_m8 66 rfl) rfl
theorem q1793 : (Jvm.Cond.selects "TrainingDiaryModel" ({ cls := "TrainingDiaryModel", name := "loadOn", desc := "(I)I" } : Jvm.MethodName) ({ cls := "TrainingDiaryModel", name := "loadOn", desc := "(I)I" } : Jvm.MethodName)) ∈ lw_all := lw_g (lw_at lw_m8 67 rfl) rfl
theorem q1794 : (Jvm.Cond.code ({ cls := "TrainingDiaryModel", name := "loadOn", desc := "(I)I" } : Jvm.MethodName) prog_10_method_41_code (2 : Nat) (Option.some Jvm.ClassFile.FieldType.int)) ∈ lw_all := lw_g (lw_at lw_m8 68 rfl) rfl
theorem q1795 : (Jvm.Cond.methodLink "TrainingDiaryModel" (96 : Nat) ({ cls := "TrainingDiaryModel", name := "loads", desc := "()V" } : Jvm.MethodName)) ∈ lw_all := lw_g (lw_at lw_m8 69 rfl) rfl
theorem q1796 : (Jvm.Cond.privateMethod ({ cls := "TrainingDiaryModel", name := "loads", desc := "()V" } : Jvm.MethodName)) ∈ lw_tbl := lw_at lw_m8 70 rfl
theorem q1797 : (Jvm.Cond.instanceMethod ({ cls := "TrainingDiaryModel", name := "loads", desc := "()V" } : Jvm.MethodName)) ∈ lw_all := lw_g (lw_at lw_m8 71 rfl) rfl
theorem q1798 : (Jvm.Cond.code ({ cls := "TrainingDiaryModel", name := "loads", desc := "()V" } : Jvm.MethodName) prog_10_method_40_code (2 : Nat) (Option.none : Option Jvm.ClassFile.FieldType)) ∈ lw_all := lw_g (lw_at lw_m8 72 rfl) rfl
theorem q1800 : (Jvm.Cond.instanceMethod ({ cls := "TrainingDiaryModel", name := "zoneShare", desc := "(I)F" } : Jvm.MethodName)) ∈ lw_all := lw_g (lw_at lw_m8 74 rfl) rfl
theorem q1801 : (Jvm.Cond.selects "TrainingDiaryModel" ({ cls := "TrainingDiaryModel", name := "zoneShare", desc := "(I)F" } : Jvm.MethodName) ({ cls := "TrainingDiaryModel", name := "zoneShare", desc := "(I)F" } : Jvm.MethodName)) ∈ lw_all := lw_g (lw_at lw_m8 75 rfl) rfl
theorem q1802 : (Jvm.Cond.code ({ cls := "TrainingDiaryModel", name := "zoneShare", desc := "(I)F" } : Jvm.MethodName) prog_10_method_42_code (4 : Nat) (Option.some Jvm.ClassFile.FieldType.float)) ∈ lw_all := lw_g (lw_at lw_m8 76 rfl) rfl
theorem q1804 : (Jvm.Cond.instanceMethod ({ cls := "TrainingDiaryModel", name := "meanLoad", desc := "()D" } : Jvm.MethodName)) ∈ lw_all := lw_g (lw_at lw_m8 78 rfl) rfl
theorem q1805 : (Jvm.Cond.selects "TrainingDiaryModel" ({ cls := "TrainingDiaryModel", name := "meanLoad", desc := "()D" } : Jvm.MethodName) ({ cls := "TrainingDiaryModel", name := "meanLoad", desc := "()D" } : Jvm.MethodName)) ∈ lw_all := lw_g (lw_at lw_m8 79 rfl) rfl
theorem q1806 : (Jvm.Cond.code ({ cls := "TrainingDiaryModel", name := "meanLoad", desc := "()D" } : Jvm.MethodName) prog_10_method_43_code (3 : Nat) (Option.some Jvm.ClassFile.FieldType.double)) ∈ lw_all := lw_g (lw_at lw_m8 80 rfl) rfl
theorem q1808 : (Jvm.Cond.instanceMethod ({ cls := "TrainingDiaryModel", name := "fitnessOn", desc := "(I)I" } : Jvm.MethodName)) ∈ lw_all := lw_g (lw_at lw_m8 82 rfl) rfl
theorem q1809 : (Jvm.Cond.selects "TrainingDiaryModel" ({ cls := "TrainingDiaryModel", name := "fitnessOn", desc := "(I)I" } : Jvm.MethodName) ({ cls := "TrainingDiaryModel", name := "fitnessOn", desc := "(I)I" } : Jvm.MethodName)) ∈ lw_all := lw_g (lw_at lw_m8 83 rfl) rfl
theorem q1810 : (Jvm.Cond.code ({ cls := "TrainingDiaryModel", name := "fitnessOn", desc := "(I)I" } : Jvm.MethodName) prog_10_method_46_code (2 : Nat) (Option.some Jvm.ClassFile.FieldType.int)) ∈ lw_all := lw_g (lw_at lw_m8 84 rfl) rfl
theorem q1811 : (Jvm.Cond.methodLink "TrainingDiaryModel" (99 : Nat) ({ cls := "TrainingDiaryModel", name := "decayed", desc := "(II)I" } : Jvm.MethodName)) ∈ lw_all := lw_g (lw_at lw_m8 85 rfl) rfl
theorem q1812 : (Jvm.Cond.privateMethod ({ cls := "TrainingDiaryModel", name := "decayed", desc := "(II)I" } : Jvm.MethodName)) ∈ lw_tbl := lw_at lw_m8 86 rfl
theorem q1813 : (Jvm.Cond.instanceMethod ({ cls := "TrainingDiaryModel", name := "decayed", desc := "(II)I" } : Jvm.MethodName)) ∈ lw_all := lw_g (lw_at lw_m8 87 rfl) rfl
theorem q1814 : (Jvm.Cond.code ({ cls := "TrainingDiaryModel", name := "decayed", desc := "(II)I" } : Jvm.MethodName) prog_10_method_44_code (5 : Nat) (Option.some Jvm.ClassFile.FieldType.int)) ∈ lw_all := lw_g (lw_at lw_m8 88 rfl) rfl
theorem q1816 : (Jvm.Cond.instanceMethod ({ cls := "TrainingDiaryModel", name := "fitnessFromStart", desc := "(I)I" } : Jvm.MethodName)) ∈ lw_all := lw_g (lw_at lw_m8 90 rfl) rfl
theorem q1817 : (Jvm.Cond.selects "TrainingDiaryModel" ({ cls := "TrainingDiaryModel", name := "fitnessFromStart", desc := "(I)I" } : Jvm.MethodName) ({ cls := "TrainingDiaryModel", name := "fitnessFromStart", desc := "(I)I" } : Jvm.MethodName)) ∈ lw_all := lw_g (lw_at lw_m8 91 rfl) rfl
theorem q1818 : (Jvm.Cond.code ({ cls := "TrainingDiaryModel", name := "fitnessFromStart", desc := "(I)I" } : Jvm.MethodName) prog_10_method_47_code (2 : Nat) (Option.some Jvm.ClassFile.FieldType.int)) ∈ lw_all := lw_g (lw_at lw_m8 92 rfl) rfl
theorem q1819 : (Jvm.Cond.methodLink "TrainingDiaryModel" (102 : Nat) ({ cls := "TrainingDiaryModel", name := "fitnessOn", desc := "(I)I" } : Jvm.MethodName)) ∈ lw_all := lw_g (lw_at lw_m8 93 rfl) rfl
theorem q1821 : (Jvm.Cond.instanceMethod ({ cls := "TrainingDiaryModel", name := "fatigueOn", desc := "(I)I" } : Jvm.MethodName)) ∈ lw_all := lw_g (lw_at lw_m8 95 rfl) rfl
theorem q1822 : (Jvm.Cond.selects "TrainingDiaryModel" ({ cls := "TrainingDiaryModel", name := "fatigueOn", desc := "(I)I" } : Jvm.MethodName) ({ cls := "TrainingDiaryModel", name := "fatigueOn", desc := "(I)I" } : Jvm.MethodName)) ∈ lw_all := lw_g (lw_at lw_m8 96 rfl) rfl
theorem q1823 : (Jvm.Cond.code ({ cls := "TrainingDiaryModel", name := "fatigueOn", desc := "(I)I" } : Jvm.MethodName) prog_10_method_48_code (2 : Nat) (Option.some Jvm.ClassFile.FieldType.int)) ∈ lw_all := lw_g (lw_at lw_m8 97 rfl) rfl
theorem q1825 : (Jvm.Cond.instanceMethod ({ cls := "TrainingDiaryModel", name := "fatigueFromStart", desc := "(I)I" } : Jvm.MethodName)) ∈ lw_all := lw_g (lw_at lw_m8 99 rfl) rfl
theorem q1826 : (Jvm.Cond.selects "TrainingDiaryModel" ({ cls := "TrainingDiaryModel", name := "fatigueFromStart", desc := "(I)I" } : Jvm.MethodName) ({ cls := "TrainingDiaryModel", name := "fatigueFromStart", desc := "(I)I" } : Jvm.MethodName)) ∈ lw_all := lw_g (lw_at lw_m8 100 rfl) rfl
theorem q1827 : (Jvm.Cond.code ({ cls := "TrainingDiaryModel", name := "fatigueFromStart", desc := "(I)I" } : Jvm.MethodName) prog_10_method_49_code (2 : Nat) (Option.some Jvm.ClassFile.FieldType.int)) ∈ lw_all := lw_g (lw_at lw_m8 101 rfl) rfl
theorem q1828 : (Jvm.Cond.methodLink "TrainingDiaryModel" (105 : Nat) ({ cls := "TrainingDiaryModel", name := "fatigueOn", desc := "(I)I" } : Jvm.MethodName)) ∈ lw_all := lw_g (lw_at lw_m8 102 rfl) rfl
theorem q1830 : (Jvm.Cond.instanceMethod ({ cls := "TrainingDiaryModel", name := "formOn", desc := "(I)I" } : Jvm.MethodName)) ∈ lw_all := lw_g (lw_at lw_m8 104 rfl) rfl
theorem q1831 : (Jvm.Cond.selects "TrainingDiaryModel" ({ cls := "TrainingDiaryModel", name := "formOn", desc := "(I)I" } : Jvm.MethodName) ({ cls := "TrainingDiaryModel", name := "formOn", desc := "(I)I" } : Jvm.MethodName)) ∈ lw_all := lw_g (lw_at lw_m8 105 rfl) rfl
theorem q1832 : (Jvm.Cond.code ({ cls := "TrainingDiaryModel", name := "formOn", desc := "(I)I" } : Jvm.MethodName) prog_10_method_50_code (2 : Nat) (Option.some Jvm.ClassFile.FieldType.int)) ∈ lw_all := lw_g (lw_at lw_m8 106 rfl) rfl
theorem q1833 : (Jvm.Cond.methodLink "TrainingDiaryModel" (108 : Nat) ({ cls := "TrainingDiaryModel", name := "form", desc := "(I)I" } : Jvm.MethodName)) ∈ lw_all := lw_g (lw_at lw_m8 107 rfl) rfl
theorem q1834 : (Jvm.Cond.privateMethod ({ cls := "TrainingDiaryModel", name := "form", desc := "(I)I" } : Jvm.MethodName)) ∈ lw_tbl := lw_at lw_m8 108 rfl
theorem q1835 : (Jvm.Cond.instanceMethod ({ cls := "TrainingDiaryModel", name := "form", desc := "(I)I" } : Jvm.MethodName)) ∈ lw_all := lw_g (lw_at lw_m8 109 rfl) rfl
theorem q1836 : (Jvm.Cond.code ({ cls := "TrainingDiaryModel", name := "form", desc := "(I)I" } : Jvm.MethodName) prog_10_method_45_code (2 : Nat) (Option.some Jvm.ClassFile.FieldType.int)) ∈ lw_all := lw_g (lw_at lw_m8 110 rfl) rfl
theorem q1838 : (Jvm.Cond.instanceMethod ({ cls := "TrainingDiaryModel", name := "bestFormDay", desc := "()I" } : Jvm.MethodName)) ∈ lw_all := lw_g (lw_at lw_m8 112 rfl) rfl
theorem q1839 : (Jvm.Cond.selects "TrainingDiaryModel" ({ cls := "TrainingDiaryModel", name := "bestFormDay", desc := "()I" } : Jvm.MethodName) ({ cls := "TrainingDiaryModel", name := "bestFormDay", desc := "()I" } : Jvm.MethodName)) ∈ lw_all := lw_g (lw_at lw_m8 113 rfl) rfl
theorem q1840 : (Jvm.Cond.code ({ cls := "TrainingDiaryModel", name := "bestFormDay", desc := "()I" } : Jvm.MethodName) prog_10_method_51_code (3 : Nat) (Option.some Jvm.ClassFile.FieldType.int)) ∈ lw_all := lw_g (lw_at lw_m8 114 rfl) rfl
theorem q1842 : (Jvm.Cond.instanceMethod ({ cls := "TrainingDiaryModel", name := "daysToForm", desc := "(I)I" } : Jvm.MethodName)) ∈ lw_all := lw_g (lw_at lw_m8 116 rfl) rfl
theorem q1843 : (Jvm.Cond.selects "TrainingDiaryModel" ({ cls := "TrainingDiaryModel", name := "daysToForm", desc := "(I)I" } : Jvm.MethodName) ({ cls := "TrainingDiaryModel", name := "daysToForm", desc := "(I)I" } : Jvm.MethodName)) ∈ lw_all := lw_g (lw_at lw_m8 117 rfl) rfl
theorem q1844 : (Jvm.Cond.code ({ cls := "TrainingDiaryModel", name := "daysToForm", desc := "(I)I" } : Jvm.MethodName) prog_10_method_52_code (4 : Nat) (Option.some Jvm.ClassFile.FieldType.int)) ∈ lw_all := lw_g (lw_at lw_m8 118 rfl) rfl
theorem q1845 : (Jvm.Cond.constant "TrainingDiaryModel" (111 : Nat) (-100000 : Int32)) ∈ lw_all := lw_g (lw_at lw_m8 119 rfl) rfl
theorem q1846 : (Jvm.Cond.constant "TrainingDiaryModel" (112 : Nat) (100000 : Int32)) ∈ lw_all := lw_g (lw_at lw_m8 120 rfl) rfl
theorem q1848 : (Jvm.Cond.instanceMethod ({ cls := "TrainingDiaryModel", name := "bestDays", desc := "(I)I" } : Jvm.MethodName)) ∈ lw_all := lw_g (lw_at lw_m8 122 rfl) rfl
theorem q1849 : (Jvm.Cond.selects "TrainingDiaryModel" ({ cls := "TrainingDiaryModel", name := "bestDays", desc := "(I)I" } : Jvm.MethodName) ({ cls := "TrainingDiaryModel", name := "bestDays", desc := "(I)I" } : Jvm.MethodName)) ∈ lw_all := lw_g (lw_at lw_m8 123 rfl) rfl
theorem q1850 : (Jvm.Cond.code ({ cls := "TrainingDiaryModel", name := "bestDays", desc := "(I)I" } : Jvm.MethodName) prog_10_method_56_code (2 : Nat) (Option.some Jvm.ClassFile.FieldType.int)) ∈ lw_all := lw_g (lw_at lw_m8 124 rfl) rfl
theorem q1851 : (Jvm.Cond.methodLink "TrainingDiaryModel" (116 : Nat) ({ cls := "TrainingDiaryModel", name := "isNoRow", desc := "(I)Z" } : Jvm.MethodName)) ∈ lw_all := lw_g (lw_at lw_m8 125 rfl) rfl
theorem q1852 : (Jvm.Cond.privateMethod ({ cls := "TrainingDiaryModel", name := "isNoRow", desc := "(I)Z" } : Jvm.MethodName)) ∈ lw_tbl := lw_at lw_m8 126 rfl
theorem q1853 : (Jvm.Cond.instanceMethod ({ cls := "TrainingDiaryModel", name := "isNoRow", desc := "(I)Z" } : Jvm.MethodName)) ∈ lw_all := lw_g (lw_at lw_m8 127 rfl) rfl
theorem q1854 : (Jvm.Cond.code ({ cls := "TrainingDiaryModel", name := "isNoRow", desc := "(I)Z" } : Jvm.MethodName) prog_10_method_54_code (2 : Nat) (Option.some Jvm.ClassFile.FieldType.boolean)) ∈ lw_all := lw_g (lw_at lw_m8 128 rfl) rfl
theorem q1855 : (Jvm.Cond.methodLink "TrainingDiaryModel" (119 : Nat) ({ cls := "TrainingDiaryModel", name := "bestRow", desc := "(I)I" } : Jvm.MethodName)) ∈ lw_all := lw_g (lw_at lw_m8 129 rfl) rfl
theorem q1856 : (Jvm.Cond.privateMethod ({ cls := "TrainingDiaryModel", name := "bestRow", desc := "(I)I" } : Jvm.MethodName)) ∈ lw_tbl := lw_at lw_m8 130 rfl
theorem q1857 : (Jvm.Cond.instanceMethod ({ cls := "TrainingDiaryModel", name := "bestRow", desc := "(I)I" } : Jvm.MethodName)) ∈ lw_all := lw_g (lw_at lw_m8 131 rfl) rfl
theorem q1858 : (Jvm.Cond.code ({ cls := "TrainingDiaryModel", name := "bestRow", desc := "(I)I" } : Jvm.MethodName) prog_10_method_55_code (4 : Nat) (Option.some Jvm.ClassFile.FieldType.int)) ∈ lw_all := lw_g (lw_at lw_m8 132 rfl) rfl
theorem q1859 : (Jvm.Cond.methodLink "TrainingDiaryModel" (113 : Nat) ({ cls := "TrainingDiaryModel", name := "row", desc := "(II)I" } : Jvm.MethodName)) ∈ lw_all := lw_g (lw_at lw_m8 133 rfl) rfl
theorem q1860 : (Jvm.Cond.privateMethod ({ cls := "TrainingDiaryModel", name := "row", desc := "(II)I" } : Jvm.MethodName)) ∈ lw_tbl := lw_at lw_m8 134 rfl
theorem q1861 : (Jvm.Cond.instanceMethod ({ cls := "TrainingDiaryModel", name := "row", desc := "(II)I" } : Jvm.MethodName)) ∈ lw_all := lw_g (lw_at lw_m8 135 rfl) rfl
theorem q1862 : (Jvm.Cond.code ({ cls := "TrainingDiaryModel", name := "row", desc := "(II)I" } : Jvm.MethodName) prog_10_method_53_code (5 : Nat) (Option.some Jvm.ClassFile.FieldType.int)) ∈ lw_all := lw_g (lw_at lw_m8 136 rfl) rfl
theorem q1864 : (Jvm.Cond.instanceMethod ({ cls := "TrainingDiaryModel", name := "bestDaysByTrying", desc := "(I)I" } : Jvm.MethodName)) ∈ lw_all := lw_g (lw_at lw_m8 138 rfl) rfl
theorem q1865 : (Jvm.Cond.selects "TrainingDiaryModel" ({ cls := "TrainingDiaryModel", name := "bestDaysByTrying", desc := "(I)I" } : Jvm.MethodName) ({ cls := "TrainingDiaryModel", name := "bestDaysByTrying", desc := "(I)I" } : Jvm.MethodName)) ∈ lw_all := lw_g (lw_at lw_m8 139 rfl) rfl
theorem q1866 : (Jvm.Cond.code ({ cls := "TrainingDiaryModel", name := "bestDaysByTrying", desc := "(I)I" } : Jvm.MethodName) prog_10_method_57_code (2 : Nat) (Option.some Jvm.ClassFile.FieldType.int)) ∈ lw_all := lw_g (lw_at lw_m8 140 rfl) rfl
theorem q1867 : (Jvm.Cond.methodLink "TrainingDiaryModel" (122 : Nat) ({ cls := "TrainingDiaryModel", name := "bestDays", desc := "(I)I" } : Jvm.MethodName)) ∈ lw_all := lw_g (lw_at lw_m8 141 rfl) rfl
theorem q1869 : (Jvm.Cond.instanceMethod ({ cls := "TrainingDiaryModel", name := "bestDaysStart", desc := "(I)I" } : Jvm.MethodName)) ∈ lw_all := lw_g (lw_at lw_m8 143 rfl) rfl
theorem q1870 : (Jvm.Cond.selects "TrainingDiaryModel" ({ cls := "TrainingDiaryModel", name := "bestDaysStart", desc := "(I)I" } : Jvm.MethodName) ({ cls := "TrainingDiaryModel", name := "bestDaysStart", desc := "(I)I" } : Jvm.MethodName)) ∈ lw_all := lw_g (lw_at lw_m8 144 rfl) rfl
theorem q1871 : (Jvm.Cond.code ({ cls := "TrainingDiaryModel", name := "bestDaysStart", desc := "(I)I" } : Jvm.MethodName) prog_10_method_58_code (2 : Nat) (Option.some Jvm.ClassFile.FieldType.int)) ∈ lw_all := lw_g (lw_at lw_m8 145 rfl) rfl
theorem q1873 : (Jvm.Cond.instanceMethod ({ cls := "TrainingDiaryModel", name := "bestEffort", desc := "(I)I" } : Jvm.MethodName)) ∈ lw_all := lw_g (lw_at lw_m8 147 rfl) rfl
theorem q1874 : (Jvm.Cond.selects "TrainingDiaryModel" ({ cls := "TrainingDiaryModel", name := "bestEffort", desc := "(I)I" } : Jvm.MethodName) ({ cls := "TrainingDiaryModel", name := "bestEffort", desc := "(I)I" } : Jvm.MethodName)) ∈ lw_all := lw_g (lw_at lw_m8 148 rfl) rfl
theorem q1875 : (Jvm.Cond.code ({ cls := "TrainingDiaryModel", name := "bestEffort", desc := "(I)I" } : Jvm.MethodName) prog_10_method_63_code (2 : Nat) (Option.some Jvm.ClassFile.FieldType.int)) ∈ lw_all := lw_g (lw_at lw_m8 149 rfl) rfl
theorem q1876 : (Jvm.Cond.methodLink "TrainingDiaryModel" (137 : Nat) ({ cls := "TrainingDiaryModel", name := "isNoEffort", desc := "(I)Z" } : Jvm.MethodName)) ∈ lw_all := lw_g (lw_at lw_m8 150 rfl) rfl
theorem q1877 : (Jvm.Cond.privateMethod ({ cls := "TrainingDiaryModel", name := "isNoEffort", desc := "(I)Z" } : Jvm.MethodName)) ∈ lw_tbl := lw_at lw_m8 151 rfl
theorem q1878 : (Jvm.Cond.instanceMethod ({ cls := "TrainingDiaryModel", name := "isNoEffort", desc := "(I)Z" } : Jvm.MethodName)) ∈ lw_all := lw_g (lw_at lw_m8 152 rfl) rfl
theorem q1879 : (Jvm.Cond.code ({ cls := "TrainingDiaryModel", name := "isNoEffort", desc := "(I)Z" } : Jvm.MethodName) prog_10_method_62_code (2 : Nat) (Option.some Jvm.ClassFile.FieldType.boolean)) ∈ lw_all := lw_g (lw_at lw_m8 153 rfl) rfl
theorem q1880 : (Jvm.Cond.methodLink "TrainingDiaryModel" (134 : Nat) ({ cls := "TrainingDiaryModel", name := "strongest", desc := "(I)I" } : Jvm.MethodName)) ∈ lw_all := lw_g (lw_at lw_m8 154 rfl) rfl
theorem q1881 : (Jvm.Cond.privateMethod ({ cls := "TrainingDiaryModel", name := "strongest", desc := "(I)I" } : Jvm.MethodName)) ∈ lw_tbl := lw_at lw_m8 155 rfl
theorem q1882 : (Jvm.Cond.instanceMethod ({ cls := "TrainingDiaryModel", name := "strongest", desc := "(I)I" } : Jvm.MethodName)) ∈ lw_all := lw_g (lw_at lw_m8 156 rfl) rfl
theorem q1883 : (Jvm.Cond.code ({ cls := "TrainingDiaryModel", name := "strongest", desc := "(I)I" } : Jvm.MethodName) prog_10_method_61_code (6 : Nat) (Option.some Jvm.ClassFile.FieldType.int)) ∈ lw_all := lw_g (lw_at lw_m8 157 rfl) rfl
theorem q1884 : (Jvm.Cond.methodLink "TrainingDiaryModel" (131 : Nat) ({ cls := "TrainingDiaryModel", name := "effort", desc := "(II)I" } : Jvm.MethodName)) ∈ lw_all := lw_g (lw_at lw_m8 158 rfl) rfl
theorem q1885 : (Jvm.Cond.privateMethod ({ cls := "TrainingDiaryModel", name := "effort", desc := "(II)I" } : Jvm.MethodName)) ∈ lw_tbl := lw_at lw_m8 159 rfl
theorem q1886 : (Jvm.Cond.instanceMethod ({ cls := "TrainingDiaryModel", name := "effort", desc := "(II)I" } : Jvm.MethodName)) ∈ lw_all := lw_g (lw_at lw_m8 160 rfl) rfl
theorem q1887 : (Jvm.Cond.code ({ cls := "TrainingDiaryModel", name := "effort", desc := "(II)I" } : Jvm.MethodName) prog_10_method_60_code (7 : Nat) (Option.some Jvm.ClassFile.FieldType.int)) ∈ lw_all := lw_g (lw_at lw_m8 161 rfl) rfl
theorem q1888 : (Jvm.Cond.methodLink "TrainingDiaryModel" (125 : Nat) ({ cls := "TrainingDiaryModel", name := "intensity", desc := "(II)I" } : Jvm.MethodName)) ∈ lw_all := lw_g (lw_at lw_m8 162 rfl) rfl
theorem q1889 : (Jvm.Cond.privateMethod ({ cls := "TrainingDiaryModel", name := "intensity", desc := "(II)I" } : Jvm.MethodName)) ∈ lw_tbl := lw_at lw_m8 163 rfl
theorem q1890 : (Jvm.Cond.instanceMethod ({ cls := "TrainingDiaryModel", name := "intensity", desc := "(II)I" } : Jvm.MethodName)) ∈ lw_all := lw_g (lw_at lw_m8 164 rfl) rfl
theorem q1891 : (Jvm.Cond.code ({ cls := "TrainingDiaryModel", name := "intensity", desc := "(II)I" } : Jvm.MethodName) prog_10_method_59_code (5 : Nat) (Option.some Jvm.ClassFile.FieldType.int)) ∈ lw_all := lw_g (lw_at lw_m8 165 rfl) rfl
theorem q1892 : (Jvm.Cond.methodLink "TrainingDiaryModel" (128 : Nat) ({ cls := "java/lang/Math", name := "max", desc := "(II)I" } : Jvm.MethodName)) ∈ lw_all := lw_g (lw_at lw_m8 166 rfl) rfl
theorem q1894 : (Jvm.Cond.instanceMethod ({ cls := "TrainingDiaryModel", name := "bestEffortByTrying", desc := "(I)I" } : Jvm.MethodName)) ∈ lw_all := lw_g (lw_at lw_m8 168 rfl) rfl
theorem q1895 : (Jvm.Cond.selects "TrainingDiaryModel" ({ cls := "TrainingDiaryModel", name := "bestEffortByTrying", desc := "(I)I" } : Jvm.MethodName) ({ cls := "TrainingDiaryModel", name := "bestEffortByTrying", desc := "(I)I" } : Jvm.MethodName)) ∈ lw_all := lw_g (lw_at lw_m8 169 rfl) rfl
theorem q1896 : (Jvm.Cond.code ({ cls := "TrainingDiaryModel", name := "bestEffortByTrying", desc := "(I)I" } : Jvm.MethodName) prog_10_method_64_code (2 : Nat) (Option.some Jvm.ClassFile.FieldType.int)) ∈ lw_all := lw_g (lw_at lw_m8 170 rfl) rfl
theorem q1897 : (Jvm.Cond.methodLink "TrainingDiaryModel" (140 : Nat) ({ cls := "TrainingDiaryModel", name := "bestEffort", desc := "(I)I" } : Jvm.MethodName)) ∈ lw_all := lw_g (lw_at lw_m8 171 rfl) rfl
theorem q1899 : (Jvm.Cond.instanceMethod ({ cls := "TrainingDiaryModel", name := "bestEffortSession", desc := "(I)I" } : Jvm.MethodName)) ∈ lw_all := lw_g (lw_at lw_m8 173 rfl) rfl
theorem q1900 : (Jvm.Cond.selects "TrainingDiaryModel" ({ cls := "TrainingDiaryModel", name := "bestEffortSession", desc := "(I)I" } : Jvm.MethodName) ({ cls := "TrainingDiaryModel", name := "bestEffortSession", desc := "(I)I" } : Jvm.MethodName)) ∈ lw_all := lw_g (lw_at lw_m8 174 rfl) rfl
theorem q1901 : (Jvm.Cond.code ({ cls := "TrainingDiaryModel", name := "bestEffortSession", desc := "(I)I" } : Jvm.MethodName) prog_10_method_65_code (2 : Nat) (Option.some Jvm.ClassFile.FieldType.int)) ∈ lw_all := lw_g (lw_at lw_m8 175 rfl) rfl
theorem q1903 : (Jvm.Cond.instanceMethod ({ cls := "TrainingDiaryModel", name := "startPlan", desc := "()I" } : Jvm.MethodName)) ∈ lw_all := lw_g (lw_at lw_m8 177 rfl) rfl
theorem q1904 : (Jvm.Cond.selects "TrainingDiaryModel" ({ cls := "TrainingDiaryModel", name := "startPlan", desc := "()I" } : Jvm.MethodName) ({ cls := "TrainingDiaryModel", name := "startPlan", desc := "()I" } : Jvm.MethodName)) ∈ lw_all := lw_g (lw_at lw_m8 178 rfl) rfl
theorem q1905 : (Jvm.Cond.code ({ cls := "TrainingDiaryModel", name := "startPlan", desc := "()I" } : Jvm.MethodName) prog_10_method_66_code (2 : Nat) (Option.some Jvm.ClassFile.FieldType.int)) ∈ lw_all := lw_g (lw_at lw_m8 179 rfl) rfl
theorem q1907 : (Jvm.Cond.instanceMethod ({ cls := "TrainingDiaryModel", name := "addTarget", desc := "(I)I" } : Jvm.MethodName)) ∈ lw_all := lw_g (lw_at lw_m8 181 rfl) rfl
theorem q1908 : (Jvm.Cond.selects "TrainingDiaryModel" ({ cls := "TrainingDiaryModel", name := "addTarget", desc := "(I)I" } : Jvm.MethodName) ({ cls := "TrainingDiaryModel", name := "addTarget", desc := "(I)I" } : Jvm.MethodName)) ∈ lw_all := lw_g (lw_at lw_m8 182 rfl) rfl
theorem q1909 : (Jvm.Cond.code ({ cls := "TrainingDiaryModel", name := "addTarget", desc := "(I)I" } : Jvm.MethodName) prog_10_method_67_code (2 : Nat) (Option.some Jvm.ClassFile.FieldType.int)) ∈ lw_all := lw_g (lw_at lw_m8 183 rfl) rfl
theorem q1911 : (Jvm.Cond.instanceMethod ({ cls := "TrainingDiaryModel", name := "targetAt", desc := "(I)I" } : Jvm.MethodName)) ∈ lw_all := lw_g (lw_at lw_m8 185 rfl) rfl
theorem q1912 : (Jvm.Cond.selects "TrainingDiaryModel" ({ cls := "TrainingDiaryModel", name := "targetAt", desc := "(I)I" } : Jvm.MethodName) ({ cls := "TrainingDiaryModel", name := "targetAt", desc := "(I)I" } : Jvm.MethodName)) ∈ lw_all := lw_g (lw_at lw_m8 186 rfl) rfl
theorem q1913 : (Jvm.Cond.code ({ cls := "TrainingDiaryModel", name := "targetAt", desc := "(I)I" } : Jvm.MethodName) prog_10_method_68_code (2 : Nat) (Option.some Jvm.ClassFile.FieldType.int)) ∈ lw_all := lw_g (lw_at lw_m8 187 rfl) rfl
theorem q1915 : (Jvm.Cond.instanceMethod ({ cls := "TrainingDiaryModel", name := "dueEntry", desc := "()I" } : Jvm.MethodName)) ∈ lw_all := lw_g (lw_at lw_m8 189 rfl) rfl
theorem q1916 : (Jvm.Cond.selects "TrainingDiaryModel" ({ cls := "TrainingDiaryModel", name := "dueEntry", desc := "()I" } : Jvm.MethodName) ({ cls := "TrainingDiaryModel", name := "dueEntry", desc := "()I" } : Jvm.MethodName)) ∈ lw_all := lw_g (lw_at lw_m8 190 rfl) rfl
theorem q1917 : (Jvm.Cond.code ({ cls := "TrainingDiaryModel", name := "dueEntry", desc := "()I" } : Jvm.MethodName) prog_10_method_70_code (1 : Nat) (Option.some Jvm.ClassFile.FieldType.int)) ∈ lw_all := lw_g (lw_at lw_m8 191 rfl) rfl
theorem q1918 : (Jvm.Cond.methodLink "TrainingDiaryModel" (152 : Nat) ({ cls := "TrainingDiaryModel", name := "goes", desc := "()Z" } : Jvm.MethodName)) ∈ lw_all := lw_g (lw_at lw_m8 192 rfl) rfl
theorem q1919 : (Jvm.Cond.privateMethod ({ cls := "TrainingDiaryModel", name := "goes", desc := "()Z" } : Jvm.MethodName)) ∈ lw_tbl := lw_at lw_m8 193 rfl
theorem q1920 : (Jvm.Cond.instanceMethod ({ cls := "TrainingDiaryModel", name := "goes", desc := "()Z" } : Jvm.MethodName)) ∈ lw_all := lw_g (lw_at lw_m8 194 rfl) rfl
theorem q1921 : (Jvm.Cond.code ({ cls := "TrainingDiaryModel", name := "goes", desc := "()Z" } : Jvm.MethodName) prog_10_method_69_code (4 : Nat) (Option.some Jvm.ClassFile.FieldType.boolean)) ∈ lw_all := lw_g (lw_at lw_m8 195 rfl) rfl
theorem q1923 : (Jvm.Cond.instanceMethod ({ cls := "TrainingDiaryModel", name := "missedDays", desc := "()I" } : Jvm.MethodName)) ∈ lw_all := lw_g (lw_at lw_m8 197 rfl) rfl
theorem q1924 : (Jvm.Cond.selects "TrainingDiaryModel" ({ cls := "TrainingDiaryModel", name := "missedDays", desc := "()I" } : Jvm.MethodName) ({ cls := "TrainingDiaryModel", name := "missedDays", desc := "()I" } : Jvm.MethodName)) ∈ lw_all := lw_g (lw_at lw_m8 198 rfl) rfl
theorem q1925 : (Jvm.Cond.code ({ cls := "TrainingDiaryModel", name := "missedDays", desc := "()I" } : Jvm.MethodName) prog_10_method_71_code (2 : Nat) (Option.some Jvm.ClassFile.FieldType.int)) ∈ lw_all := lw_g (lw_at lw_m8 199 rfl) rfl
theorem q1927 : (Jvm.Cond.instanceMethod ({ cls := "TrainingDiaryModel", name := "droppedEntries", desc := "()I" } : Jvm.MethodName)) ∈ lw_all := lw_g (lw_at lw_m8 201 rfl) rfl
theorem q1928 : (Jvm.Cond.selects "TrainingDiaryModel" ({ cls := "TrainingDiaryModel", name := "droppedEntries", desc := "()I" } : Jvm.MethodName) ({ cls := "TrainingDiaryModel", name := "droppedEntries", desc := "()I" } : Jvm.MethodName)) ∈ lw_all := lw_g (lw_at lw_m8 202 rfl) rfl
theorem q1929 : (Jvm.Cond.code ({ cls := "TrainingDiaryModel", name := "droppedEntries", desc := "()I" } : Jvm.MethodName) prog_10_method_72_code (2 : Nat) (Option.some Jvm.ClassFile.FieldType.int)) ∈ lw_all := lw_g (lw_at lw_m8 203 rfl) rfl
theorem q1931 : (Jvm.Cond.instanceMethod ({ cls := "TrainingDiaryModel", name := "planEnd", desc := "()I" } : Jvm.MethodName)) ∈ lw_all := lw_g (lw_at lw_m8 205 rfl) rfl
theorem q1932 : (Jvm.Cond.selects "TrainingDiaryModel" ({ cls := "TrainingDiaryModel", name := "planEnd", desc := "()I" } : Jvm.MethodName) ({ cls := "TrainingDiaryModel", name := "planEnd", desc := "()I" } : Jvm.MethodName)) ∈ lw_all := lw_g (lw_at lw_m8 206 rfl) rfl
theorem q1933 : (Jvm.Cond.code ({ cls := "TrainingDiaryModel", name := "planEnd", desc := "()I" } : Jvm.MethodName) prog_10_method_73_code (1 : Nat) (Option.some Jvm.ClassFile.FieldType.int)) ∈ lw_all := lw_g (lw_at lw_m8 207 rfl) rfl
theorem q1935 : (Jvm.Cond.instanceMethod ({ cls := "TrainingDiaryModel", name := "isPlanOver", desc := "()Z" } : Jvm.MethodName)) ∈ lw_all := lw_g (lw_at lw_m8 209 rfl) rfl
theorem q1936 : (Jvm.Cond.selects "TrainingDiaryModel" ({ cls := "TrainingDiaryModel", name := "isPlanOver", desc := "()Z" } : Jvm.MethodName) ({ cls := "TrainingDiaryModel", name := "isPlanOver", desc := "()Z" } : Jvm.MethodName)) ∈ lw_all := lw_g (lw_at lw_m8 210 rfl) rfl
theorem q1937 : (Jvm.Cond.code ({ cls := "TrainingDiaryModel", name := "isPlanOver", desc := "()Z" } : Jvm.MethodName) prog_10_method_74_code (1 : Nat) (Option.some Jvm.ClassFile.FieldType.boolean)) ∈ lw_all := lw_g (lw_at lw_m8 211 rfl) rfl
theorem q1939 : (Jvm.Cond.instanceMethod ({ cls := "TrainingDiaryModel", name := "writeWeek", desc := "(I)I" } : Jvm.MethodName)) ∈ lw_all := lw_g (lw_at lw_m8 213 rfl) rfl
theorem q1940 : (Jvm.Cond.selects "TrainingDiaryModel" ({ cls := "TrainingDiaryModel", name := "writeWeek", desc := "(I)I" } : Jvm.MethodName) ({ cls := "TrainingDiaryModel", name := "writeWeek", desc := "(I)I" } : Jvm.MethodName)) ∈ lw_all := lw_g (lw_at lw_m8 214 rfl) rfl
theorem q1941 : (Jvm.Cond.code ({ cls := "TrainingDiaryModel", name := "writeWeek", desc := "(I)I" } : Jvm.MethodName) prog_10_method_76_code (3 : Nat) (Option.some Jvm.ClassFile.FieldType.int)) ∈ lw_all := lw_g (lw_at lw_m8 215 rfl) rfl
theorem q1942 : (Jvm.Cond.methodLink "TrainingDiaryModel" (156 : Nat) ({ cls := "TrainingDiaryModel", name := "told", desc := "(I)C" } : Jvm.MethodName)) ∈ lw_all := lw_g (lw_at lw_m8 216 rfl) rfl
theorem q1943 : (Jvm.Cond.privateMethod ({ cls := "TrainingDiaryModel", name := "told", desc := "(I)C" } : Jvm.MethodName)) ∈ lw_tbl := lw_at lw_m8 217 rfl
theorem q1944 : (Jvm.Cond.instanceMethod ({ cls := "TrainingDiaryModel", name := "told", desc := "(I)C" } : Jvm.MethodName)) ∈ lw_all := lw_g (lw_at lw_m8 218 rfl) rfl
theorem q1945 : (Jvm.Cond.code ({ cls := "TrainingDiaryModel", name := "told", desc := "(I)C" } : Jvm.MethodName) prog_10_method_75_code (6 : Nat) (Option.some Jvm.ClassFile.FieldType.char)) ∈ lw_all := lw_g (lw_at lw_m8 219 rfl) rfl
theorem q1947 : (Jvm.Cond.instanceMethod ({ cls := "TrainingDiaryModel", name := "lineAt", desc := "(I)C" } : Jvm.MethodName)) ∈ lw_all := lw_g (lw_at lw_m8 221 rfl) rfl
theorem q1948 : (Jvm.Cond.selects "TrainingDiaryModel" ({ cls := "TrainingDiaryModel", name := "lineAt", desc := "(I)C" } : Jvm.MethodName) ({ cls := "TrainingDiaryModel", name := "lineAt", desc := "(I)C" } : Jvm.MethodName)) ∈ lw_all := lw_g (lw_at lw_m8 222 rfl) rfl
theorem q1949 : (Jvm.Cond.code ({ cls := "TrainingDiaryModel", name := "lineAt", desc := "(I)C" } : Jvm.MethodName) prog_10_method_77_code (2 : Nat) (Option.some Jvm.ClassFile.FieldType.char)) ∈ lw_all := lw_g (lw_at lw_m8 223 rfl) rfl
theorem q1951 : (Jvm.Cond.instanceMethod ({ cls := "TrainingDiaryModel", name := "undo", desc := "()I" } : Jvm.MethodName)) ∈ lw_all := lw_g (lw_at lw_m8 225 rfl) rfl
theorem q1952 : (Jvm.Cond.selects "TrainingDiaryModel" ({ cls := "TrainingDiaryModel", name := "undo", desc := "()I" } : Jvm.MethodName) ({ cls := "TrainingDiaryModel", name := "undo", desc := "()I" } : Jvm.MethodName)) ∈ lw_all := lw_g (lw_at lw_m8 226 rfl) rfl
theorem q1953 : (Jvm.Cond.code ({ cls := "TrainingDiaryModel", name := "undo", desc := "()I" } : Jvm.MethodName) prog_10_method_78_code (2 : Nat) (Option.some Jvm.ClassFile.FieldType.int)) ∈ lw_all := lw_g (lw_at lw_m8 227 rfl) rfl
theorem q1955 : (Jvm.Cond.instanceMethod ({ cls := "TrainingDiaryModel", name := "save", desc := "()I" } : Jvm.MethodName)) ∈ lw_all := lw_g (lw_at lw_m8 229 rfl) rfl
theorem q1956 : (Jvm.Cond.selects "TrainingDiaryModel" ({ cls := "TrainingDiaryModel", name := "save", desc := "()I" } : Jvm.MethodName) ({ cls := "TrainingDiaryModel", name := "save", desc := "()I" } : Jvm.MethodName)) ∈ lw_all := lw_g (lw_at lw_m8 230 rfl) rfl
theorem q1957 : (Jvm.Cond.code ({ cls := "TrainingDiaryModel", name := "save", desc := "()I" } : Jvm.MethodName) prog_10_method_79_code (2 : Nat) (Option.some Jvm.ClassFile.FieldType.int)) ∈ lw_all := lw_g (lw_at lw_m8 231 rfl) rfl
theorem q1959 : (Jvm.Cond.instanceMethod ({ cls := "TrainingDiaryModel", name := "restore", desc := "()I" } : Jvm.MethodName)) ∈ lw_all := lw_g (lw_at lw_m8 233 rfl) rfl
theorem q1960 : (Jvm.Cond.selects "TrainingDiaryModel" ({ cls := "TrainingDiaryModel", name := "restore", desc := "()I" } : Jvm.MethodName) ({ cls := "TrainingDiaryModel", name := "restore", desc := "()I" } : Jvm.MethodName)) ∈ lw_all := lw_g (lw_at lw_m8 234 rfl) rfl
theorem q1961 : (Jvm.Cond.code ({ cls := "TrainingDiaryModel", name := "restore", desc := "()I" } : Jvm.MethodName) prog_10_method_80_code (2 : Nat) (Option.some Jvm.ClassFile.FieldType.int)) ∈ lw_all := lw_g (lw_at lw_m8 235 rfl) rfl
theorem q1992 : (Jvm.Cond.castable "TrainingDiaryModel" "java/lang/Object") ∈ lw_tbl := lw_at lw_m9 26 rfl
theorem in_X4 : ∀ w ∈ wsX40, w ∈ lw_all := lw_in wsX40 [1610, 1612, 1614, 1616, 1618, 1620, 1622, 1624, 1626, 1628, 1630, 1632, 1634, 1636] (by decide +kernel) (by decide +kernel)
