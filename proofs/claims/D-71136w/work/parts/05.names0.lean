/-! BattleBench -/
set_option maxRecDepth 100000
def RX0 : String := "BattleBench"
def TX0 : u_T := fun k => match k with
  | 0 => ("BattleBench", "kinds", "[LBattleBench$Plain;", true)
  | 1 => ("BattleBench", "now", "LBattleBench$Bench;", true)
  | 2 => ("BattleBench", "fault", "LBattleBench$Fault;", true)
  | 3 => ("BattleBench", "tape", "[C", true)
  | 4 => ("BattleBench", "taped", "I", false)
  | 5 => ("BattleBench", "reads", "I", false)
  | 6 => ("BattleBench", "got", "LBattleBench$Bench;", true)
  | 7 => ("BattleBench", "failing", "[I", true)
  | 8 => ("BattleBench", "past", "[LBattleBench$Bench;", true)
  | 9 => ("BattleBench", "undoMany", "I", false)
  | 10 => ("BattleBench", "aside", "LBattleBench$Bench;", true)
  | 11 => ("BattleBench", "best", "[I", true)
  | 12 => ("BattleBench", "tried", "LBattleBench$Bench;", true)
  | 13 => ("BattleBench", "kept", "LBattleBench$Bench;", true)
  | 14 => ("BattleBench", "keptPast", "[LBattleBench$Bench;", true)
  | 15 => ("BattleBench", "keptMany", "I", false)
  | 16 => ("BattleBench", "isKept", "Z", false)
  | _ => ("BattleBench", "sheets", "[LBattleBench$Sheet;", true)
def tyX0 : Nat → FieldType := fun k => match k with
  | 0 => .array (.object "BattleBench$Plain")
  | 1 => .object "BattleBench$Bench"
  | 2 => .object "BattleBench$Fault"
  | 3 => .array .char
  | 4 => .int
  | 5 => .int
  | 6 => .object "BattleBench$Bench"
  | 7 => .array .int
  | 8 => .array (.object "BattleBench$Bench")
  | 9 => .int
  | 10 => .object "BattleBench$Bench"
  | 11 => .array .int
  | 12 => .object "BattleBench$Bench"
  | 13 => .object "BattleBench$Bench"
  | 14 => .array (.object "BattleBench$Bench")
  | 15 => .int
  | 16 => .boolean
  | _ => .array (.object "BattleBench$Sheet")
abbrev wsX00 : List Cond := u_ws RX0 TX0 18
set_option maxRecDepth 100000 in
theorem nmX0 : ∀ a, a < 18 → ∀ b, b < 18 → a ≠ b → (TX0 a).2.1 ≠ (TX0 b).2.1 := by decide +kernel
set_option maxRecDepth 100000 in
theorem tyX0_ok : ∀ k, k < 18 → parseFieldDescriptor (TX0 k).2.2.1 = some (tyX0 k) := by decide +kernel
abbrev cX0_init : ByteArray := prog_1_method_3_code
def yX0_init : MethodName := ⟨RX0, "<init>", "()V"⟩
def dkwX0_init_10 : List UInt8 := [89, 183, 0, 30, 83, 132, 1, 1, 167, 255, 221, 42, 180, 0, 31, 4, 181, 0, 79, 177]
abbrev dktX0_init_10 : List UInt8 := dkwX0_init_10 ++ []
def dkwX0_init_9 : List UInt8 := [162, 0, 35, 42, 180, 0, 53, 27, 187, 0, 28, 89, 183, 0, 30, 83, 42, 180, 0, 69, 27, 187, 0, 28]
abbrev dktX0_init_9 : List UInt8 := dkwX0_init_9 ++ dktX0_init_10
def dkwX0_init_8 : List UInt8 := [180, 0, 74, 27, 187, 0, 72, 89, 183, 0, 78, 83, 132, 1, 1, 167, 255, 235, 3, 60, 27, 16, 8]
abbrev dktX0_init_8 : List UInt8 := dkwX0_init_8 ++ dktX0_init_9
def dkwX0_init_7 : List UInt8 := [189, 0, 28, 181, 0, 69, 42, 7, 189, 0, 72, 181, 0, 74, 3, 60, 27, 7, 162, 0, 22, 42]
abbrev dktX0_init_7 : List UInt8 := dkwX0_init_7 ++ dktX0_init_8
def dkwX0_init_6 : List UInt8 := [187, 0, 28, 89, 183, 0, 30, 181, 0, 63, 42, 187, 0, 28, 89, 183, 0, 30, 181, 0, 66, 42, 16, 8]
abbrev dktX0_init_6 : List UInt8 := dkwX0_init_6 ++ dktX0_init_7
def dkwX0_init_5 : List UInt8 := [181, 0, 53, 42, 187, 0, 28, 89, 183, 0, 30, 181, 0, 57, 42, 16, 6, 188, 10, 181, 0, 60, 42]
abbrev dktX0_init_5 : List UInt8 := dkwX0_init_5 ++ dktX0_init_6
def dkwX0_init_4 : List UInt8 := [187, 0, 28, 89, 183, 0, 30, 181, 0, 46, 42, 16, 6, 188, 10, 181, 0, 49, 42, 16, 8, 189, 0, 28]
abbrev dktX0_init_4 : List UInt8 := dkwX0_init_4 ++ dktX0_init_5
def dkwX0_init_3 : List UInt8 := [181, 0, 31, 42, 187, 0, 35, 89, 183, 0, 37, 181, 0, 38, 42, 16, 70, 188, 5, 181, 0, 42, 42]
abbrev dktX0_init_3 : List UInt8 := dkwX0_init_3 ++ dktX0_init_4
def dkwX0_init_2 : List UInt8 := [83, 89, 7, 187, 0, 19, 89, 183, 0, 21, 83, 181, 0, 22, 42, 187, 0, 28, 89, 183, 0, 30]
abbrev dktX0_init_2 : List UInt8 := dkwX0_init_2 ++ dktX0_init_3
def dkwX0_init_1 : List UInt8 := [89, 183, 0, 12, 83, 89, 5, 187, 0, 13, 89, 183, 0, 15, 83, 89, 6, 187, 0, 16, 89, 183, 0, 18]
abbrev dktX0_init_1 : List UInt8 := dkwX0_init_1 ++ dktX0_init_2
def dkwX0_init_0 : List UInt8 := [42, 183, 0, 1, 42, 8, 189, 0, 7, 89, 3, 187, 0, 7, 89, 183, 0, 9, 83, 89, 4, 187, 0, 10]
abbrev dktX0_init_0 : List UInt8 := dkwX0_init_0 ++ dktX0_init_1
theorem dksX0_init_0 : cX0_init.data.toList.drop 0 = dktX0_init_0 := by decide +kernel
theorem dksX0_init_1 : cX0_init.data.toList.drop 24 = dktX0_init_1 := dk_seg dksX0_init_0 24 rfl rfl
theorem dksX0_init_2 : cX0_init.data.toList.drop 48 = dktX0_init_2 := dk_seg dksX0_init_1 24 rfl rfl
theorem dksX0_init_3 : cX0_init.data.toList.drop 70 = dktX0_init_3 := dk_seg dksX0_init_2 22 rfl rfl
theorem dksX0_init_4 : cX0_init.data.toList.drop 93 = dktX0_init_4 := dk_seg dksX0_init_3 23 rfl rfl
theorem dksX0_init_5 : cX0_init.data.toList.drop 117 = dktX0_init_5 := dk_seg dksX0_init_4 24 rfl rfl
theorem dksX0_init_6 : cX0_init.data.toList.drop 140 = dktX0_init_6 := dk_seg dksX0_init_5 23 rfl rfl
theorem dksX0_init_7 : cX0_init.data.toList.drop 164 = dktX0_init_7 := dk_seg dksX0_init_6 24 rfl rfl
theorem dksX0_init_8 : cX0_init.data.toList.drop 186 = dktX0_init_8 := dk_seg dksX0_init_7 22 rfl rfl
theorem dksX0_init_9 : cX0_init.data.toList.drop 209 = dktX0_init_9 := dk_seg dksX0_init_8 23 rfl rfl
theorem dksX0_init_10 : cX0_init.data.toList.drop 233 = dktX0_init_10 := dk_seg dksX0_init_9 24 rfl rfl
theorem dX0_init_0 : decode cX0_init 0 = .ok (.aload_n 0, 1) := dk_42 (dk_at dksX0_init_0 0 rfl rfl)
theorem dX0_init_1 : decode cX0_init 1 = .ok (.invokespecial 1, 3) := dk_183 0 1 (dk_at dksX0_init_0 1 rfl rfl)
theorem dX0_init_4 : decode cX0_init 4 = .ok (.aload_n 0, 1) := dk_42 (dk_at dksX0_init_0 4 rfl rfl)
theorem dX0_init_5 : decode cX0_init 5 = .ok (.iconst 5, 1) := dk_8 (dk_at dksX0_init_0 5 rfl rfl)
theorem dX0_init_6 : decode cX0_init 6 = .ok (.anewarray 7, 3) := dk_189 0 7 (dk_at dksX0_init_0 6 rfl rfl)
theorem dX0_init_9 : decode cX0_init 9 = .ok (.dup, 1) := dk_89 (dk_at dksX0_init_0 9 rfl rfl)
theorem dX0_init_10 : decode cX0_init 10 = .ok (.iconst 0, 1) := dk_3 (dk_at dksX0_init_0 10 rfl rfl)
theorem dX0_init_11 : decode cX0_init 11 = .ok (.new 7, 3) := dk_187 0 7 (dk_at dksX0_init_0 11 rfl rfl)
theorem dX0_init_14 : decode cX0_init 14 = .ok (.dup, 1) := dk_89 (dk_at dksX0_init_0 14 rfl rfl)
theorem dX0_init_15 : decode cX0_init 15 = .ok (.invokespecial 9, 3) := dk_183 0 9 (dk_at dksX0_init_0 15 rfl rfl)
theorem dX0_init_18 : decode cX0_init 18 = .ok (.aastore, 1) := dk_83 (dk_at dksX0_init_0 18 rfl rfl)
theorem dX0_init_19 : decode cX0_init 19 = .ok (.dup, 1) := dk_89 (dk_at dksX0_init_0 19 rfl rfl)
theorem dX0_init_20 : decode cX0_init 20 = .ok (.iconst 1, 1) := dk_4 (dk_at dksX0_init_0 20 rfl rfl)
theorem dX0_init_21 : decode cX0_init 21 = .ok (.new 10, 3) := dk_187 0 10 (dk_at dksX0_init_0 21 rfl rfl)
theorem dX0_init_24 : decode cX0_init 24 = .ok (.dup, 1) := dk_89 (dk_at dksX0_init_1 0 rfl rfl)
theorem dX0_init_25 : decode cX0_init 25 = .ok (.invokespecial 12, 3) := dk_183 0 12 (dk_at dksX0_init_1 1 rfl rfl)
theorem dX0_init_28 : decode cX0_init 28 = .ok (.aastore, 1) := dk_83 (dk_at dksX0_init_1 4 rfl rfl)
theorem dX0_init_29 : decode cX0_init 29 = .ok (.dup, 1) := dk_89 (dk_at dksX0_init_1 5 rfl rfl)
theorem dX0_init_30 : decode cX0_init 30 = .ok (.iconst 2, 1) := dk_5 (dk_at dksX0_init_1 6 rfl rfl)
theorem dX0_init_31 : decode cX0_init 31 = .ok (.new 13, 3) := dk_187 0 13 (dk_at dksX0_init_1 7 rfl rfl)
theorem dX0_init_34 : decode cX0_init 34 = .ok (.dup, 1) := dk_89 (dk_at dksX0_init_1 10 rfl rfl)
theorem dX0_init_35 : decode cX0_init 35 = .ok (.invokespecial 15, 3) := dk_183 0 15 (dk_at dksX0_init_1 11 rfl rfl)
theorem dX0_init_38 : decode cX0_init 38 = .ok (.aastore, 1) := dk_83 (dk_at dksX0_init_1 14 rfl rfl)
theorem dX0_init_39 : decode cX0_init 39 = .ok (.dup, 1) := dk_89 (dk_at dksX0_init_1 15 rfl rfl)
theorem dX0_init_40 : decode cX0_init 40 = .ok (.iconst 3, 1) := dk_6 (dk_at dksX0_init_1 16 rfl rfl)
theorem dX0_init_41 : decode cX0_init 41 = .ok (.new 16, 3) := dk_187 0 16 (dk_at dksX0_init_1 17 rfl rfl)
theorem dX0_init_44 : decode cX0_init 44 = .ok (.dup, 1) := dk_89 (dk_at dksX0_init_1 20 rfl rfl)
theorem dX0_init_45 : decode cX0_init 45 = .ok (.invokespecial 18, 3) := dk_183 0 18 (dk_at dksX0_init_1 21 rfl rfl)
theorem dX0_init_48 : decode cX0_init 48 = .ok (.aastore, 1) := dk_83 (dk_at dksX0_init_2 0 rfl rfl)
theorem dX0_init_49 : decode cX0_init 49 = .ok (.dup, 1) := dk_89 (dk_at dksX0_init_2 1 rfl rfl)
theorem dX0_init_50 : decode cX0_init 50 = .ok (.iconst 4, 1) := dk_7 (dk_at dksX0_init_2 2 rfl rfl)
theorem dX0_init_51 : decode cX0_init 51 = .ok (.new 19, 3) := dk_187 0 19 (dk_at dksX0_init_2 3 rfl rfl)
theorem dX0_init_54 : decode cX0_init 54 = .ok (.dup, 1) := dk_89 (dk_at dksX0_init_2 6 rfl rfl)
theorem dX0_init_55 : decode cX0_init 55 = .ok (.invokespecial 21, 3) := dk_183 0 21 (dk_at dksX0_init_2 7 rfl rfl)
theorem dX0_init_58 : decode cX0_init 58 = .ok (.aastore, 1) := dk_83 (dk_at dksX0_init_2 10 rfl rfl)
theorem dX0_init_59 : decode cX0_init 59 = .ok (.putfield 22, 3) := dk_181 0 22 (dk_at dksX0_init_2 11 rfl rfl)
theorem dX0_init_62 : decode cX0_init 62 = .ok (.aload_n 0, 1) := dk_42 (dk_at dksX0_init_2 14 rfl rfl)
theorem dX0_init_63 : decode cX0_init 63 = .ok (.new 28, 3) := dk_187 0 28 (dk_at dksX0_init_2 15 rfl rfl)
theorem dX0_init_66 : decode cX0_init 66 = .ok (.dup, 1) := dk_89 (dk_at dksX0_init_2 18 rfl rfl)
theorem dX0_init_67 : decode cX0_init 67 = .ok (.invokespecial 30, 3) := dk_183 0 30 (dk_at dksX0_init_2 19 rfl rfl)
theorem dX0_init_70 : decode cX0_init 70 = .ok (.putfield 31, 3) := dk_181 0 31 (dk_at dksX0_init_3 0 rfl rfl)
theorem dX0_init_73 : decode cX0_init 73 = .ok (.aload_n 0, 1) := dk_42 (dk_at dksX0_init_3 3 rfl rfl)
theorem dX0_init_74 : decode cX0_init 74 = .ok (.new 35, 3) := dk_187 0 35 (dk_at dksX0_init_3 4 rfl rfl)
theorem dX0_init_77 : decode cX0_init 77 = .ok (.dup, 1) := dk_89 (dk_at dksX0_init_3 7 rfl rfl)
theorem dX0_init_78 : decode cX0_init 78 = .ok (.invokespecial 37, 3) := dk_183 0 37 (dk_at dksX0_init_3 8 rfl rfl)
theorem dX0_init_81 : decode cX0_init 81 = .ok (.putfield 38, 3) := dk_181 0 38 (dk_at dksX0_init_3 11 rfl rfl)
theorem dX0_init_84 : decode cX0_init 84 = .ok (.aload_n 0, 1) := dk_42 (dk_at dksX0_init_3 14 rfl rfl)
theorem dX0_init_85 : decode cX0_init 85 = .ok (.bipush 70, 2) := dk_16 70 (dk_at dksX0_init_3 15 rfl rfl)
theorem dX0_init_87 : decode cX0_init 87 = .ok (.newarray .char, 2) := dk_188_5 (dk_at dksX0_init_3 17 rfl rfl)
theorem dX0_init_89 : decode cX0_init 89 = .ok (.putfield 42, 3) := dk_181 0 42 (dk_at dksX0_init_3 19 rfl rfl)
theorem dX0_init_92 : decode cX0_init 92 = .ok (.aload_n 0, 1) := dk_42 (dk_at dksX0_init_3 22 rfl rfl)
theorem dX0_init_93 : decode cX0_init 93 = .ok (.new 28, 3) := dk_187 0 28 (dk_at dksX0_init_4 0 rfl rfl)
theorem dX0_init_96 : decode cX0_init 96 = .ok (.dup, 1) := dk_89 (dk_at dksX0_init_4 3 rfl rfl)
theorem dX0_init_97 : decode cX0_init 97 = .ok (.invokespecial 30, 3) := dk_183 0 30 (dk_at dksX0_init_4 4 rfl rfl)
theorem dX0_init_100 : decode cX0_init 100 = .ok (.putfield 46, 3) := dk_181 0 46 (dk_at dksX0_init_4 7 rfl rfl)
theorem dX0_init_103 : decode cX0_init 103 = .ok (.aload_n 0, 1) := dk_42 (dk_at dksX0_init_4 10 rfl rfl)
theorem dX0_init_104 : decode cX0_init 104 = .ok (.bipush 6, 2) := dk_16 6 (dk_at dksX0_init_4 11 rfl rfl)
theorem dX0_init_106 : decode cX0_init 106 = .ok (.newarray .int, 2) := dk_188_10 (dk_at dksX0_init_4 13 rfl rfl)
theorem dX0_init_108 : decode cX0_init 108 = .ok (.putfield 49, 3) := dk_181 0 49 (dk_at dksX0_init_4 15 rfl rfl)
theorem dX0_init_111 : decode cX0_init 111 = .ok (.aload_n 0, 1) := dk_42 (dk_at dksX0_init_4 18 rfl rfl)
theorem dX0_init_112 : decode cX0_init 112 = .ok (.bipush 8, 2) := dk_16 8 (dk_at dksX0_init_4 19 rfl rfl)
theorem dX0_init_114 : decode cX0_init 114 = .ok (.anewarray 28, 3) := dk_189 0 28 (dk_at dksX0_init_4 21 rfl rfl)
theorem dX0_init_117 : decode cX0_init 117 = .ok (.putfield 53, 3) := dk_181 0 53 (dk_at dksX0_init_5 0 rfl rfl)
theorem dX0_init_120 : decode cX0_init 120 = .ok (.aload_n 0, 1) := dk_42 (dk_at dksX0_init_5 3 rfl rfl)
theorem dX0_init_121 : decode cX0_init 121 = .ok (.new 28, 3) := dk_187 0 28 (dk_at dksX0_init_5 4 rfl rfl)
theorem dX0_init_124 : decode cX0_init 124 = .ok (.dup, 1) := dk_89 (dk_at dksX0_init_5 7 rfl rfl)
theorem dX0_init_125 : decode cX0_init 125 = .ok (.invokespecial 30, 3) := dk_183 0 30 (dk_at dksX0_init_5 8 rfl rfl)
theorem dX0_init_128 : decode cX0_init 128 = .ok (.putfield 57, 3) := dk_181 0 57 (dk_at dksX0_init_5 11 rfl rfl)
theorem dX0_init_131 : decode cX0_init 131 = .ok (.aload_n 0, 1) := dk_42 (dk_at dksX0_init_5 14 rfl rfl)
theorem dX0_init_132 : decode cX0_init 132 = .ok (.bipush 6, 2) := dk_16 6 (dk_at dksX0_init_5 15 rfl rfl)
theorem dX0_init_134 : decode cX0_init 134 = .ok (.newarray .int, 2) := dk_188_10 (dk_at dksX0_init_5 17 rfl rfl)
theorem dX0_init_136 : decode cX0_init 136 = .ok (.putfield 60, 3) := dk_181 0 60 (dk_at dksX0_init_5 19 rfl rfl)
theorem dX0_init_139 : decode cX0_init 139 = .ok (.aload_n 0, 1) := dk_42 (dk_at dksX0_init_5 22 rfl rfl)
theorem dX0_init_140 : decode cX0_init 140 = .ok (.new 28, 3) := dk_187 0 28 (dk_at dksX0_init_6 0 rfl rfl)
theorem dX0_init_143 : decode cX0_init 143 = .ok (.dup, 1) := dk_89 (dk_at dksX0_init_6 3 rfl rfl)
theorem dX0_init_144 : decode cX0_init 144 = .ok (.invokespecial 30, 3) := dk_183 0 30 (dk_at dksX0_init_6 4 rfl rfl)
theorem dX0_init_147 : decode cX0_init 147 = .ok (.putfield 63, 3) := dk_181 0 63 (dk_at dksX0_init_6 7 rfl rfl)
theorem dX0_init_150 : decode cX0_init 150 = .ok (.aload_n 0, 1) := dk_42 (dk_at dksX0_init_6 10 rfl rfl)
theorem dX0_init_151 : decode cX0_init 151 = .ok (.new 28, 3) := dk_187 0 28 (dk_at dksX0_init_6 11 rfl rfl)
theorem dX0_init_154 : decode cX0_init 154 = .ok (.dup, 1) := dk_89 (dk_at dksX0_init_6 14 rfl rfl)
theorem dX0_init_155 : decode cX0_init 155 = .ok (.invokespecial 30, 3) := dk_183 0 30 (dk_at dksX0_init_6 15 rfl rfl)
theorem dX0_init_158 : decode cX0_init 158 = .ok (.putfield 66, 3) := dk_181 0 66 (dk_at dksX0_init_6 18 rfl rfl)
theorem dX0_init_161 : decode cX0_init 161 = .ok (.aload_n 0, 1) := dk_42 (dk_at dksX0_init_6 21 rfl rfl)
theorem dX0_init_162 : decode cX0_init 162 = .ok (.bipush 8, 2) := dk_16 8 (dk_at dksX0_init_6 22 rfl rfl)
theorem dX0_init_164 : decode cX0_init 164 = .ok (.anewarray 28, 3) := dk_189 0 28 (dk_at dksX0_init_7 0 rfl rfl)
theorem dX0_init_167 : decode cX0_init 167 = .ok (.putfield 69, 3) := dk_181 0 69 (dk_at dksX0_init_7 3 rfl rfl)
theorem dX0_init_170 : decode cX0_init 170 = .ok (.aload_n 0, 1) := dk_42 (dk_at dksX0_init_7 6 rfl rfl)
theorem dX0_init_171 : decode cX0_init 171 = .ok (.iconst 4, 1) := dk_7 (dk_at dksX0_init_7 7 rfl rfl)
theorem dX0_init_172 : decode cX0_init 172 = .ok (.anewarray 72, 3) := dk_189 0 72 (dk_at dksX0_init_7 8 rfl rfl)
theorem dX0_init_175 : decode cX0_init 175 = .ok (.putfield 74, 3) := dk_181 0 74 (dk_at dksX0_init_7 11 rfl rfl)
theorem dX0_init_178 : decode cX0_init 178 = .ok (.iconst 0, 1) := dk_3 (dk_at dksX0_init_7 14 rfl rfl)
theorem dX0_init_179 : decode cX0_init 179 = .ok (.istore_n 1, 1) := dk_60 (dk_at dksX0_init_7 15 rfl rfl)
theorem dX0_init_180 : decode cX0_init 180 = .ok (.iload_n 1, 1) := dk_27 (dk_at dksX0_init_7 16 rfl rfl)
theorem dX0_init_181 : decode cX0_init 181 = .ok (.iconst 4, 1) := dk_7 (dk_at dksX0_init_7 17 rfl rfl)
theorem dX0_init_182 : decode cX0_init 182 = .ok (.if_icmp .ge 22, 3) := dk_162 0 22 (dk_at dksX0_init_7 18 rfl rfl)
theorem dX0_init_185 : decode cX0_init 185 = .ok (.aload_n 0, 1) := dk_42 (dk_at dksX0_init_7 21 rfl rfl)
theorem dX0_init_186 : decode cX0_init 186 = .ok (.getfield 74, 3) := dk_180 0 74 (dk_at dksX0_init_8 0 rfl rfl)
theorem dX0_init_189 : decode cX0_init 189 = .ok (.iload_n 1, 1) := dk_27 (dk_at dksX0_init_8 3 rfl rfl)
theorem dX0_init_190 : decode cX0_init 190 = .ok (.new 72, 3) := dk_187 0 72 (dk_at dksX0_init_8 4 rfl rfl)
theorem dX0_init_193 : decode cX0_init 193 = .ok (.dup, 1) := dk_89 (dk_at dksX0_init_8 7 rfl rfl)
theorem dX0_init_194 : decode cX0_init 194 = .ok (.invokespecial 78, 3) := dk_183 0 78 (dk_at dksX0_init_8 8 rfl rfl)
theorem dX0_init_197 : decode cX0_init 197 = .ok (.aastore, 1) := dk_83 (dk_at dksX0_init_8 11 rfl rfl)
theorem dX0_init_198 : decode cX0_init 198 = .ok (.iinc 1 1, 3) := dk_132 1 1 (dk_at dksX0_init_8 12 rfl rfl)
theorem dX0_init_201 : decode cX0_init 201 = .ok (.goto (-21), 3) := dk_167 255 235 (dk_at dksX0_init_8 15 rfl rfl)
theorem dX0_init_204 : decode cX0_init 204 = .ok (.iconst 0, 1) := dk_3 (dk_at dksX0_init_8 18 rfl rfl)
theorem dX0_init_205 : decode cX0_init 205 = .ok (.istore_n 1, 1) := dk_60 (dk_at dksX0_init_8 19 rfl rfl)
theorem dX0_init_206 : decode cX0_init 206 = .ok (.iload_n 1, 1) := dk_27 (dk_at dksX0_init_8 20 rfl rfl)
theorem dX0_init_207 : decode cX0_init 207 = .ok (.bipush 8, 2) := dk_16 8 (dk_at dksX0_init_8 21 rfl rfl)
theorem dX0_init_209 : decode cX0_init 209 = .ok (.if_icmp .ge 35, 3) := dk_162 0 35 (dk_at dksX0_init_9 0 rfl rfl)
theorem dX0_init_212 : decode cX0_init 212 = .ok (.aload_n 0, 1) := dk_42 (dk_at dksX0_init_9 3 rfl rfl)
theorem dX0_init_213 : decode cX0_init 213 = .ok (.getfield 53, 3) := dk_180 0 53 (dk_at dksX0_init_9 4 rfl rfl)
theorem dX0_init_216 : decode cX0_init 216 = .ok (.iload_n 1, 1) := dk_27 (dk_at dksX0_init_9 7 rfl rfl)
theorem dX0_init_217 : decode cX0_init 217 = .ok (.new 28, 3) := dk_187 0 28 (dk_at dksX0_init_9 8 rfl rfl)
theorem dX0_init_220 : decode cX0_init 220 = .ok (.dup, 1) := dk_89 (dk_at dksX0_init_9 11 rfl rfl)
theorem dX0_init_221 : decode cX0_init 221 = .ok (.invokespecial 30, 3) := dk_183 0 30 (dk_at dksX0_init_9 12 rfl rfl)
theorem dX0_init_224 : decode cX0_init 224 = .ok (.aastore, 1) := dk_83 (dk_at dksX0_init_9 15 rfl rfl)
theorem dX0_init_225 : decode cX0_init 225 = .ok (.aload_n 0, 1) := dk_42 (dk_at dksX0_init_9 16 rfl rfl)
theorem dX0_init_226 : decode cX0_init 226 = .ok (.getfield 69, 3) := dk_180 0 69 (dk_at dksX0_init_9 17 rfl rfl)
theorem dX0_init_229 : decode cX0_init 229 = .ok (.iload_n 1, 1) := dk_27 (dk_at dksX0_init_9 20 rfl rfl)
theorem dX0_init_230 : decode cX0_init 230 = .ok (.new 28, 3) := dk_187 0 28 (dk_at dksX0_init_9 21 rfl rfl)
theorem dX0_init_233 : decode cX0_init 233 = .ok (.dup, 1) := dk_89 (dk_at dksX0_init_10 0 rfl rfl)
theorem dX0_init_234 : decode cX0_init 234 = .ok (.invokespecial 30, 3) := dk_183 0 30 (dk_at dksX0_init_10 1 rfl rfl)
theorem dX0_init_237 : decode cX0_init 237 = .ok (.aastore, 1) := dk_83 (dk_at dksX0_init_10 4 rfl rfl)
theorem dX0_init_238 : decode cX0_init 238 = .ok (.iinc 1 1, 3) := dk_132 1 1 (dk_at dksX0_init_10 5 rfl rfl)
theorem dX0_init_241 : decode cX0_init 241 = .ok (.goto (-35), 3) := dk_167 255 221 (dk_at dksX0_init_10 8 rfl rfl)
theorem dX0_init_244 : decode cX0_init 244 = .ok (.aload_n 0, 1) := dk_42 (dk_at dksX0_init_10 11 rfl rfl)
theorem dX0_init_245 : decode cX0_init 245 = .ok (.getfield 31, 3) := dk_180 0 31 (dk_at dksX0_init_10 12 rfl rfl)
theorem dX0_init_248 : decode cX0_init 248 = .ok (.iconst 1, 1) := dk_4 (dk_at dksX0_init_10 15 rfl rfl)
theorem dX0_init_249 : decode cX0_init 249 = .ok (.putfield 79, 3) := dk_181 0 79 (dk_at dksX0_init_10 16 rfl rfl)
theorem dX0_init_252 : decode cX0_init 252 = .ok (.return_, 1) := dk_177 (dk_at dksX0_init_10 19 rfl rfl)
abbrev cX0_man : ByteArray := prog_1_method_7_code
def yX0_man : MethodName := ⟨RX0, "man", "(II)I"⟩
def dkwX0_man_5 : List UInt8 := [27, 28, 182, 0, 103, 42, 3, 181, 0, 107, 42, 180, 0, 31, 180, 0, 83, 4, 100, 172]
abbrev dktX0_man_5 : List UInt8 := dkwX0_man_5 ++ []
def dkwX0_man_4 : List UInt8 := [180, 0, 83, 104, 29, 96, 42, 180, 0, 31, 180, 0, 83, 79, 132, 3, 1, 167, 255, 222, 42, 180, 0, 31]
abbrev dktX0_man_4 : List UInt8 := dkwX0_man_4 ++ dktX0_man_5
def dkwX0_man_3 : List UInt8 := [167, 255, 227, 3, 62, 29, 6, 162, 0, 35, 42, 180, 0, 31, 180, 0, 100, 6, 42, 180, 0, 31]
abbrev dktX0_man_3 : List UInt8 := dkwX0_man_3 ++ dktX0_man_4
def dkwX0_man_2 : List UInt8 := [42, 180, 0, 31, 29, 42, 180, 0, 31, 180, 0, 83, 182, 0, 96, 155, 0, 6, 16, 254, 172, 132, 3, 1]
abbrev dktX0_man_2 : List UInt8 := dkwX0_man_2 ++ dktX0_man_3
def dkwX0_man_1 : List UInt8 := [2, 172, 42, 180, 0, 31, 180, 0, 83, 16, 6, 160, 0, 6, 16, 253, 172, 3, 62, 29, 6, 162, 0, 30]
abbrev dktX0_man_1 : List UInt8 := dkwX0_man_1 ++ dktX0_man_2
def dkwX0_man_0 : List UInt8 := [27, 133, 9, 20, 0, 92, 184, 0, 86, 153, 0, 15, 28, 133, 10, 20, 0, 94, 184, 0, 86, 154, 0, 5]
abbrev dktX0_man_0 : List UInt8 := dkwX0_man_0 ++ dktX0_man_1
theorem dksX0_man_0 : cX0_man.data.toList.drop 0 = dktX0_man_0 := by decide +kernel
theorem dksX0_man_1 : cX0_man.data.toList.drop 24 = dktX0_man_1 := dk_seg dksX0_man_0 24 rfl rfl
theorem dksX0_man_2 : cX0_man.data.toList.drop 48 = dktX0_man_2 := dk_seg dksX0_man_1 24 rfl rfl
theorem dksX0_man_3 : cX0_man.data.toList.drop 72 = dktX0_man_3 := dk_seg dksX0_man_2 24 rfl rfl
theorem dksX0_man_4 : cX0_man.data.toList.drop 94 = dktX0_man_4 := dk_seg dksX0_man_3 22 rfl rfl
theorem dksX0_man_5 : cX0_man.data.toList.drop 118 = dktX0_man_5 := dk_seg dksX0_man_4 24 rfl rfl
theorem dX0_man_0 : decode cX0_man 0 = .ok (.iload_n 1, 1) := dk_27 (dk_at dksX0_man_0 0 rfl rfl)
theorem dX0_man_1 : decode cX0_man 1 = .ok (.i2l, 1) := dk_133 (dk_at dksX0_man_0 1 rfl rfl)
theorem dX0_man_2 : decode cX0_man 2 = .ok (.lconst 0, 1) := dk_9 (dk_at dksX0_man_0 2 rfl rfl)
theorem dX0_man_3 : decode cX0_man 3 = .ok (.ldc2_w 92, 3) := dk_20 0 92 (dk_at dksX0_man_0 3 rfl rfl)
theorem dX0_man_6 : decode cX0_man 6 = .ok (.invokestatic 86, 3) := dk_184 0 86 (dk_at dksX0_man_0 6 rfl rfl)
theorem dX0_man_9 : decode cX0_man 9 = .ok (.ifCond .eq 15, 3) := dk_153 0 15 (dk_at dksX0_man_0 9 rfl rfl)
theorem dX0_man_12 : decode cX0_man 12 = .ok (.iload_n 2, 1) := dk_28 (dk_at dksX0_man_0 12 rfl rfl)
theorem dX0_man_13 : decode cX0_man 13 = .ok (.i2l, 1) := dk_133 (dk_at dksX0_man_0 13 rfl rfl)
theorem dX0_man_14 : decode cX0_man 14 = .ok (.lconst 1, 1) := dk_10 (dk_at dksX0_man_0 14 rfl rfl)
theorem dX0_man_15 : decode cX0_man 15 = .ok (.ldc2_w 94, 3) := dk_20 0 94 (dk_at dksX0_man_0 15 rfl rfl)
theorem dX0_man_18 : decode cX0_man 18 = .ok (.invokestatic 86, 3) := dk_184 0 86 (dk_at dksX0_man_0 18 rfl rfl)
theorem dX0_man_21 : decode cX0_man 21 = .ok (.ifCond .ne 5, 3) := dk_154 0 5 (dk_at dksX0_man_0 21 rfl rfl)
theorem dX0_man_24 : decode cX0_man 24 = .ok (.iconst (-1), 1) := dk_2 (dk_at dksX0_man_1 0 rfl rfl)
theorem dX0_man_25 : decode cX0_man 25 = .ok (.ireturn, 1) := dk_172 (dk_at dksX0_man_1 1 rfl rfl)
theorem dX0_man_26 : decode cX0_man 26 = .ok (.aload_n 0, 1) := dk_42 (dk_at dksX0_man_1 2 rfl rfl)
theorem dX0_man_27 : decode cX0_man 27 = .ok (.getfield 31, 3) := dk_180 0 31 (dk_at dksX0_man_1 3 rfl rfl)
theorem dX0_man_30 : decode cX0_man 30 = .ok (.getfield 83, 3) := dk_180 0 83 (dk_at dksX0_man_1 6 rfl rfl)
theorem dX0_man_33 : decode cX0_man 33 = .ok (.bipush 6, 2) := dk_16 6 (dk_at dksX0_man_1 9 rfl rfl)
theorem dX0_man_35 : decode cX0_man 35 = .ok (.if_icmp .ne 6, 3) := dk_160 0 6 (dk_at dksX0_man_1 11 rfl rfl)
theorem dX0_man_38 : decode cX0_man 38 = .ok (.bipush (-3), 2) := dk_16 253 (dk_at dksX0_man_1 14 rfl rfl)
theorem dX0_man_40 : decode cX0_man 40 = .ok (.ireturn, 1) := dk_172 (dk_at dksX0_man_1 16 rfl rfl)
theorem dX0_man_41 : decode cX0_man 41 = .ok (.iconst 0, 1) := dk_3 (dk_at dksX0_man_1 17 rfl rfl)
theorem dX0_man_42 : decode cX0_man 42 = .ok (.istore_n 3, 1) := dk_62 (dk_at dksX0_man_1 18 rfl rfl)
theorem dX0_man_43 : decode cX0_man 43 = .ok (.iload_n 3, 1) := dk_29 (dk_at dksX0_man_1 19 rfl rfl)
theorem dX0_man_44 : decode cX0_man 44 = .ok (.iconst 3, 1) := dk_6 (dk_at dksX0_man_1 20 rfl rfl)
theorem dX0_man_45 : decode cX0_man 45 = .ok (.if_icmp .ge 30, 3) := dk_162 0 30 (dk_at dksX0_man_1 21 rfl rfl)
theorem dX0_man_48 : decode cX0_man 48 = .ok (.aload_n 0, 1) := dk_42 (dk_at dksX0_man_2 0 rfl rfl)
theorem dX0_man_49 : decode cX0_man 49 = .ok (.getfield 31, 3) := dk_180 0 31 (dk_at dksX0_man_2 1 rfl rfl)
theorem dX0_man_52 : decode cX0_man 52 = .ok (.iload_n 3, 1) := dk_29 (dk_at dksX0_man_2 4 rfl rfl)
theorem dX0_man_53 : decode cX0_man 53 = .ok (.aload_n 0, 1) := dk_42 (dk_at dksX0_man_2 5 rfl rfl)
theorem dX0_man_54 : decode cX0_man 54 = .ok (.getfield 31, 3) := dk_180 0 31 (dk_at dksX0_man_2 6 rfl rfl)
theorem dX0_man_57 : decode cX0_man 57 = .ok (.getfield 83, 3) := dk_180 0 83 (dk_at dksX0_man_2 9 rfl rfl)
theorem dX0_man_60 : decode cX0_man 60 = .ok (.invokevirtual 96, 3) := dk_182 0 96 (dk_at dksX0_man_2 12 rfl rfl)
theorem dX0_man_63 : decode cX0_man 63 = .ok (.ifCond .lt 6, 3) := dk_155 0 6 (dk_at dksX0_man_2 15 rfl rfl)
theorem dX0_man_66 : decode cX0_man 66 = .ok (.bipush (-2), 2) := dk_16 254 (dk_at dksX0_man_2 18 rfl rfl)
theorem dX0_man_68 : decode cX0_man 68 = .ok (.ireturn, 1) := dk_172 (dk_at dksX0_man_2 20 rfl rfl)
theorem dX0_man_69 : decode cX0_man 69 = .ok (.iinc 3 1, 3) := dk_132 3 1 (dk_at dksX0_man_2 21 rfl rfl)
theorem dX0_man_72 : decode cX0_man 72 = .ok (.goto (-29), 3) := dk_167 255 227 (dk_at dksX0_man_3 0 rfl rfl)
theorem dX0_man_75 : decode cX0_man 75 = .ok (.iconst 0, 1) := dk_3 (dk_at dksX0_man_3 3 rfl rfl)
theorem dX0_man_76 : decode cX0_man 76 = .ok (.istore_n 3, 1) := dk_62 (dk_at dksX0_man_3 4 rfl rfl)
theorem dX0_man_77 : decode cX0_man 77 = .ok (.iload_n 3, 1) := dk_29 (dk_at dksX0_man_3 5 rfl rfl)
theorem dX0_man_78 : decode cX0_man 78 = .ok (.iconst 3, 1) := dk_6 (dk_at dksX0_man_3 6 rfl rfl)
theorem dX0_man_79 : decode cX0_man 79 = .ok (.if_icmp .ge 35, 3) := dk_162 0 35 (dk_at dksX0_man_3 7 rfl rfl)
theorem dX0_man_82 : decode cX0_man 82 = .ok (.aload_n 0, 1) := dk_42 (dk_at dksX0_man_3 10 rfl rfl)
theorem dX0_man_83 : decode cX0_man 83 = .ok (.getfield 31, 3) := dk_180 0 31 (dk_at dksX0_man_3 11 rfl rfl)
theorem dX0_man_86 : decode cX0_man 86 = .ok (.getfield 100, 3) := dk_180 0 100 (dk_at dksX0_man_3 14 rfl rfl)
theorem dX0_man_89 : decode cX0_man 89 = .ok (.iconst 3, 1) := dk_6 (dk_at dksX0_man_3 17 rfl rfl)
theorem dX0_man_90 : decode cX0_man 90 = .ok (.aload_n 0, 1) := dk_42 (dk_at dksX0_man_3 18 rfl rfl)
theorem dX0_man_91 : decode cX0_man 91 = .ok (.getfield 31, 3) := dk_180 0 31 (dk_at dksX0_man_3 19 rfl rfl)
theorem dX0_man_94 : decode cX0_man 94 = .ok (.getfield 83, 3) := dk_180 0 83 (dk_at dksX0_man_4 0 rfl rfl)
theorem dX0_man_97 : decode cX0_man 97 = .ok (.imul, 1) := dk_104 (dk_at dksX0_man_4 3 rfl rfl)
theorem dX0_man_98 : decode cX0_man 98 = .ok (.iload_n 3, 1) := dk_29 (dk_at dksX0_man_4 4 rfl rfl)
theorem dX0_man_99 : decode cX0_man 99 = .ok (.iadd, 1) := dk_96 (dk_at dksX0_man_4 5 rfl rfl)
theorem dX0_man_100 : decode cX0_man 100 = .ok (.aload_n 0, 1) := dk_42 (dk_at dksX0_man_4 6 rfl rfl)
theorem dX0_man_101 : decode cX0_man 101 = .ok (.getfield 31, 3) := dk_180 0 31 (dk_at dksX0_man_4 7 rfl rfl)
theorem dX0_man_104 : decode cX0_man 104 = .ok (.getfield 83, 3) := dk_180 0 83 (dk_at dksX0_man_4 10 rfl rfl)
theorem dX0_man_107 : decode cX0_man 107 = .ok (.iastore, 1) := dk_79 (dk_at dksX0_man_4 13 rfl rfl)
theorem dX0_man_108 : decode cX0_man 108 = .ok (.iinc 3 1, 3) := dk_132 3 1 (dk_at dksX0_man_4 14 rfl rfl)
theorem dX0_man_111 : decode cX0_man 111 = .ok (.goto (-34), 3) := dk_167 255 222 (dk_at dksX0_man_4 17 rfl rfl)
theorem dX0_man_114 : decode cX0_man 114 = .ok (.aload_n 0, 1) := dk_42 (dk_at dksX0_man_4 20 rfl rfl)
theorem dX0_man_115 : decode cX0_man 115 = .ok (.getfield 31, 3) := dk_180 0 31 (dk_at dksX0_man_4 21 rfl rfl)
theorem dX0_man_118 : decode cX0_man 118 = .ok (.iload_n 1, 1) := dk_27 (dk_at dksX0_man_5 0 rfl rfl)
theorem dX0_man_119 : decode cX0_man 119 = .ok (.iload_n 2, 1) := dk_28 (dk_at dksX0_man_5 1 rfl rfl)
theorem dX0_man_120 : decode cX0_man 120 = .ok (.invokevirtual 103, 3) := dk_182 0 103 (dk_at dksX0_man_5 2 rfl rfl)
theorem dX0_man_123 : decode cX0_man 123 = .ok (.aload_n 0, 1) := dk_42 (dk_at dksX0_man_5 5 rfl rfl)
theorem dX0_man_124 : decode cX0_man 124 = .ok (.iconst 0, 1) := dk_3 (dk_at dksX0_man_5 6 rfl rfl)
theorem dX0_man_125 : decode cX0_man 125 = .ok (.putfield 107, 3) := dk_181 0 107 (dk_at dksX0_man_5 7 rfl rfl)
theorem dX0_man_128 : decode cX0_man 128 = .ok (.aload_n 0, 1) := dk_42 (dk_at dksX0_man_5 10 rfl rfl)
theorem dX0_man_129 : decode cX0_man 129 = .ok (.getfield 31, 3) := dk_180 0 31 (dk_at dksX0_man_5 11 rfl rfl)
theorem dX0_man_132 : decode cX0_man 132 = .ok (.getfield 83, 3) := dk_180 0 83 (dk_at dksX0_man_5 14 rfl rfl)
theorem dX0_man_135 : decode cX0_man 135 = .ok (.iconst 1, 1) := dk_4 (dk_at dksX0_man_5 17 rfl rfl)
theorem dX0_man_136 : decode cX0_man 136 = .ok (.isub, 1) := dk_100 (dk_at dksX0_man_5 18 rfl rfl)
theorem dX0_man_137 : decode cX0_man 137 = .ok (.ireturn, 1) := dk_172 (dk_at dksX0_man_5 19 rfl rfl)
abbrev cX0_isIn : ByteArray := prog_1_method_1_code
def yX0_isIn : MethodName := ⟨RX0, "isIn", "(JJJ)Z"⟩
def dkwX0_isIn_0 : List UInt8 := [30, 32, 148, 155, 0, 14, 30, 22, 4, 148, 157, 0, 7, 4, 167, 0, 4, 3, 172]
abbrev dktX0_isIn_0 : List UInt8 := dkwX0_isIn_0 ++ []
theorem dksX0_isIn_0 : cX0_isIn.data.toList.drop 0 = dktX0_isIn_0 := by decide +kernel
theorem dX0_isIn_0 : decode cX0_isIn 0 = .ok (.lload_n 0, 1) := dk_30 (dk_at dksX0_isIn_0 0 rfl rfl)
theorem dX0_isIn_1 : decode cX0_isIn 1 = .ok (.lload_n 2, 1) := dk_32 (dk_at dksX0_isIn_0 1 rfl rfl)
theorem dX0_isIn_2 : decode cX0_isIn 2 = .ok (.lcmp, 1) := dk_148 (dk_at dksX0_isIn_0 2 rfl rfl)
theorem dX0_isIn_3 : decode cX0_isIn 3 = .ok (.ifCond .lt 14, 3) := dk_155 0 14 (dk_at dksX0_isIn_0 3 rfl rfl)
theorem dX0_isIn_6 : decode cX0_isIn 6 = .ok (.lload_n 0, 1) := dk_30 (dk_at dksX0_isIn_0 6 rfl rfl)
theorem dX0_isIn_7 : decode cX0_isIn 7 = .ok (.lload 4, 2) := dk_22 4 (dk_at dksX0_isIn_0 7 rfl rfl)
theorem dX0_isIn_9 : decode cX0_isIn 9 = .ok (.lcmp, 1) := dk_148 (dk_at dksX0_isIn_0 9 rfl rfl)
theorem dX0_isIn_10 : decode cX0_isIn 10 = .ok (.ifCond .gt 7, 3) := dk_157 0 7 (dk_at dksX0_isIn_0 10 rfl rfl)
theorem dX0_isIn_13 : decode cX0_isIn 13 = .ok (.iconst 1, 1) := dk_4 (dk_at dksX0_isIn_0 13 rfl rfl)
theorem dX0_isIn_14 : decode cX0_isIn 14 = .ok (.goto 4, 3) := dk_167 0 4 (dk_at dksX0_isIn_0 14 rfl rfl)
theorem dX0_isIn_17 : decode cX0_isIn 17 = .ok (.iconst 0, 1) := dk_3 (dk_at dksX0_isIn_0 17 rfl rfl)
theorem dX0_isIn_18 : decode cX0_isIn 18 = .ok (.ireturn, 1) := dk_172 (dk_at dksX0_isIn_0 18 rfl rfl)
abbrev cX0_stood : ByteArray := prog_1_method_8_code
def yX0_stood : MethodName := ⟨RX0, "stood", "(III)I"⟩
def dkwX0_stood_2 : List UInt8 := [27, 28, 182, 0, 119, 54, 4, 42, 180, 0, 31, 180, 0, 100, 6, 27, 104, 28, 96, 29, 79, 21, 4, 172]
abbrev dktX0_stood_2 : List UInt8 := dkwX0_stood_2 ++ []
def dkwX0_stood_1 : List UInt8 := [154, 0, 5, 2, 172, 42, 180, 0, 31, 28, 29, 182, 0, 96, 155, 0, 6, 16, 254, 172, 42, 180, 0, 31]
abbrev dktX0_stood_1 : List UInt8 := dkwX0_stood_1 ++ dktX0_stood_2
def dkwX0_stood_0 : List UInt8 := [42, 27, 182, 0, 110, 153, 0, 22, 28, 184, 0, 114, 153, 0, 15, 29, 133, 9, 20, 0, 117, 184, 0, 86]
abbrev dktX0_stood_0 : List UInt8 := dkwX0_stood_0 ++ dktX0_stood_1
theorem dksX0_stood_0 : cX0_stood.data.toList.drop 0 = dktX0_stood_0 := by decide +kernel
theorem dksX0_stood_1 : cX0_stood.data.toList.drop 24 = dktX0_stood_1 := dk_seg dksX0_stood_0 24 rfl rfl
theorem dksX0_stood_2 : cX0_stood.data.toList.drop 48 = dktX0_stood_2 := dk_seg dksX0_stood_1 24 rfl rfl
theorem dX0_stood_0 : decode cX0_stood 0 = .ok (.aload_n 0, 1) := dk_42 (dk_at dksX0_stood_0 0 rfl rfl)
theorem dX0_stood_1 : decode cX0_stood 1 = .ok (.iload_n 1, 1) := dk_27 (dk_at dksX0_stood_0 1 rfl rfl)
theorem dX0_stood_2 : decode cX0_stood 2 = .ok (.invokevirtual 110, 3) := dk_182 0 110 (dk_at dksX0_stood_0 2 rfl rfl)
theorem dX0_stood_5 : decode cX0_stood 5 = .ok (.ifCond .eq 22, 3) := dk_153 0 22 (dk_at dksX0_stood_0 5 rfl rfl)
theorem dX0_stood_8 : decode cX0_stood 8 = .ok (.iload_n 2, 1) := dk_28 (dk_at dksX0_stood_0 8 rfl rfl)
theorem dX0_stood_9 : decode cX0_stood 9 = .ok (.invokestatic 114, 3) := dk_184 0 114 (dk_at dksX0_stood_0 9 rfl rfl)
theorem dX0_stood_12 : decode cX0_stood 12 = .ok (.ifCond .eq 15, 3) := dk_153 0 15 (dk_at dksX0_stood_0 12 rfl rfl)
theorem dX0_stood_15 : decode cX0_stood 15 = .ok (.iload_n 3, 1) := dk_29 (dk_at dksX0_stood_0 15 rfl rfl)
theorem dX0_stood_16 : decode cX0_stood 16 = .ok (.i2l, 1) := dk_133 (dk_at dksX0_stood_0 16 rfl rfl)
theorem dX0_stood_17 : decode cX0_stood 17 = .ok (.lconst 0, 1) := dk_9 (dk_at dksX0_stood_0 17 rfl rfl)
theorem dX0_stood_18 : decode cX0_stood 18 = .ok (.ldc2_w 117, 3) := dk_20 0 117 (dk_at dksX0_stood_0 18 rfl rfl)
theorem dX0_stood_21 : decode cX0_stood 21 = .ok (.invokestatic 86, 3) := dk_184 0 86 (dk_at dksX0_stood_0 21 rfl rfl)
theorem dX0_stood_24 : decode cX0_stood 24 = .ok (.ifCond .ne 5, 3) := dk_154 0 5 (dk_at dksX0_stood_1 0 rfl rfl)
theorem dX0_stood_27 : decode cX0_stood 27 = .ok (.iconst (-1), 1) := dk_2 (dk_at dksX0_stood_1 3 rfl rfl)
theorem dX0_stood_28 : decode cX0_stood 28 = .ok (.ireturn, 1) := dk_172 (dk_at dksX0_stood_1 4 rfl rfl)
theorem dX0_stood_29 : decode cX0_stood 29 = .ok (.aload_n 0, 1) := dk_42 (dk_at dksX0_stood_1 5 rfl rfl)
theorem dX0_stood_30 : decode cX0_stood 30 = .ok (.getfield 31, 3) := dk_180 0 31 (dk_at dksX0_stood_1 6 rfl rfl)
theorem dX0_stood_33 : decode cX0_stood 33 = .ok (.iload_n 2, 1) := dk_28 (dk_at dksX0_stood_1 9 rfl rfl)
theorem dX0_stood_34 : decode cX0_stood 34 = .ok (.iload_n 3, 1) := dk_29 (dk_at dksX0_stood_1 10 rfl rfl)
theorem dX0_stood_35 : decode cX0_stood 35 = .ok (.invokevirtual 96, 3) := dk_182 0 96 (dk_at dksX0_stood_1 11 rfl rfl)
theorem dX0_stood_38 : decode cX0_stood 38 = .ok (.ifCond .lt 6, 3) := dk_155 0 6 (dk_at dksX0_stood_1 14 rfl rfl)
theorem dX0_stood_41 : decode cX0_stood 41 = .ok (.bipush (-2), 2) := dk_16 254 (dk_at dksX0_stood_1 17 rfl rfl)
theorem dX0_stood_43 : decode cX0_stood 43 = .ok (.ireturn, 1) := dk_172 (dk_at dksX0_stood_1 19 rfl rfl)
theorem dX0_stood_44 : decode cX0_stood 44 = .ok (.aload_n 0, 1) := dk_42 (dk_at dksX0_stood_1 20 rfl rfl)
theorem dX0_stood_45 : decode cX0_stood 45 = .ok (.getfield 31, 3) := dk_180 0 31 (dk_at dksX0_stood_1 21 rfl rfl)
theorem dX0_stood_48 : decode cX0_stood 48 = .ok (.iload_n 1, 1) := dk_27 (dk_at dksX0_stood_2 0 rfl rfl)
theorem dX0_stood_49 : decode cX0_stood 49 = .ok (.iload_n 2, 1) := dk_28 (dk_at dksX0_stood_2 1 rfl rfl)
theorem dX0_stood_50 : decode cX0_stood 50 = .ok (.invokevirtual 119, 3) := dk_182 0 119 (dk_at dksX0_stood_2 2 rfl rfl)
theorem dX0_stood_53 : decode cX0_stood 53 = .ok (.istore 4, 2) := dk_54 4 (dk_at dksX0_stood_2 5 rfl rfl)
theorem dX0_stood_55 : decode cX0_stood 55 = .ok (.aload_n 0, 1) := dk_42 (dk_at dksX0_stood_2 7 rfl rfl)
theorem dX0_stood_56 : decode cX0_stood 56 = .ok (.getfield 31, 3) := dk_180 0 31 (dk_at dksX0_stood_2 8 rfl rfl)
theorem dX0_stood_59 : decode cX0_stood 59 = .ok (.getfield 100, 3) := dk_180 0 100 (dk_at dksX0_stood_2 11 rfl rfl)
theorem dX0_stood_62 : decode cX0_stood 62 = .ok (.iconst 3, 1) := dk_6 (dk_at dksX0_stood_2 14 rfl rfl)
theorem dX0_stood_63 : decode cX0_stood 63 = .ok (.iload_n 1, 1) := dk_27 (dk_at dksX0_stood_2 15 rfl rfl)
theorem dX0_stood_64 : decode cX0_stood 64 = .ok (.imul, 1) := dk_104 (dk_at dksX0_stood_2 16 rfl rfl)
theorem dX0_stood_65 : decode cX0_stood 65 = .ok (.iload_n 2, 1) := dk_28 (dk_at dksX0_stood_2 17 rfl rfl)
theorem dX0_stood_66 : decode cX0_stood 66 = .ok (.iadd, 1) := dk_96 (dk_at dksX0_stood_2 18 rfl rfl)
theorem dX0_stood_67 : decode cX0_stood 67 = .ok (.iload_n 3, 1) := dk_29 (dk_at dksX0_stood_2 19 rfl rfl)
theorem dX0_stood_68 : decode cX0_stood 68 = .ok (.iastore, 1) := dk_79 (dk_at dksX0_stood_2 20 rfl rfl)
theorem dX0_stood_69 : decode cX0_stood 69 = .ok (.iload 4, 2) := dk_21 4 (dk_at dksX0_stood_2 21 rfl rfl)
theorem dX0_stood_71 : decode cX0_stood 71 = .ok (.ireturn, 1) := dk_172 (dk_at dksX0_stood_2 23 rfl rfl)
abbrev cX0_isMan : ByteArray := prog_1_method_4_code
def yX0_isMan : MethodName := ⟨RX0, "isMan", "(I)Z"⟩
def dkwX0_isMan_0 : List UInt8 := [27, 133, 9, 42, 180, 0, 31, 180, 0, 83, 4, 100, 133, 184, 0, 86, 172]
abbrev dktX0_isMan_0 : List UInt8 := dkwX0_isMan_0 ++ []
theorem dksX0_isMan_0 : cX0_isMan.data.toList.drop 0 = dktX0_isMan_0 := by decide +kernel
theorem dX0_isMan_0 : decode cX0_isMan 0 = .ok (.iload_n 1, 1) := dk_27 (dk_at dksX0_isMan_0 0 rfl rfl)
theorem dX0_isMan_1 : decode cX0_isMan 1 = .ok (.i2l, 1) := dk_133 (dk_at dksX0_isMan_0 1 rfl rfl)
theorem dX0_isMan_2 : decode cX0_isMan 2 = .ok (.lconst 0, 1) := dk_9 (dk_at dksX0_isMan_0 2 rfl rfl)
theorem dX0_isMan_3 : decode cX0_isMan 3 = .ok (.aload_n 0, 1) := dk_42 (dk_at dksX0_isMan_0 3 rfl rfl)
theorem dX0_isMan_4 : decode cX0_isMan 4 = .ok (.getfield 31, 3) := dk_180 0 31 (dk_at dksX0_isMan_0 4 rfl rfl)
theorem dX0_isMan_7 : decode cX0_isMan 7 = .ok (.getfield 83, 3) := dk_180 0 83 (dk_at dksX0_isMan_0 7 rfl rfl)
theorem dX0_isMan_10 : decode cX0_isMan 10 = .ok (.iconst 1, 1) := dk_4 (dk_at dksX0_isMan_0 10 rfl rfl)
theorem dX0_isMan_11 : decode cX0_isMan 11 = .ok (.isub, 1) := dk_100 (dk_at dksX0_isMan_0 11 rfl rfl)
theorem dX0_isMan_12 : decode cX0_isMan 12 = .ok (.i2l, 1) := dk_133 (dk_at dksX0_isMan_0 12 rfl rfl)
theorem dX0_isMan_13 : decode cX0_isMan 13 = .ok (.invokestatic 86, 3) := dk_184 0 86 (dk_at dksX0_isMan_0 13 rfl rfl)
theorem dX0_isMan_16 : decode cX0_isMan 16 = .ok (.ireturn, 1) := dk_172 (dk_at dksX0_isMan_0 16 rfl rfl)
abbrev cX0_isHour : ByteArray := prog_1_method_5_code
def yX0_isHour : MethodName := ⟨RX0, "isHour", "(I)Z"⟩
def dkwX0_isHour_0 : List UInt8 := [26, 133, 9, 20, 0, 90, 184, 0, 86, 172]
abbrev dktX0_isHour_0 : List UInt8 := dkwX0_isHour_0 ++ []
theorem dksX0_isHour_0 : cX0_isHour.data.toList.drop 0 = dktX0_isHour_0 := by decide +kernel
theorem dX0_isHour_0 : decode cX0_isHour 0 = .ok (.iload_n 0, 1) := dk_26 (dk_at dksX0_isHour_0 0 rfl rfl)
theorem dX0_isHour_1 : decode cX0_isHour 1 = .ok (.i2l, 1) := dk_133 (dk_at dksX0_isHour_0 1 rfl rfl)
theorem dX0_isHour_2 : decode cX0_isHour 2 = .ok (.lconst 0, 1) := dk_9 (dk_at dksX0_isHour_0 2 rfl rfl)
theorem dX0_isHour_3 : decode cX0_isHour 3 = .ok (.ldc2_w 90, 3) := dk_20 0 90 (dk_at dksX0_isHour_0 3 rfl rfl)
theorem dX0_isHour_6 : decode cX0_isHour 6 = .ok (.invokestatic 86, 3) := dk_184 0 86 (dk_at dksX0_isHour_0 6 rfl rfl)
theorem dX0_isHour_9 : decode cX0_isHour 9 = .ok (.ireturn, 1) := dk_172 (dk_at dksX0_isHour_0 9 rfl rfl)
abbrev cX0_of : ByteArray := prog_1_method_10_code
def yX0_of : MethodName := ⟨RX0, "of", "(II)I"⟩
def dkwX0_of_4 : List UInt8 := [182, 0, 136, 172, 42, 180, 0, 31, 27, 182, 0, 139, 172, 42, 27, 182, 0, 142, 172, 2, 172]
abbrev dktX0_of_4 : List UInt8 := dkwX0_of_4 ++ []
def dkwX0_of_3 : List UInt8 := [27, 182, 0, 122, 172, 42, 180, 0, 31, 27, 28, 6, 100, 182, 0, 119, 172, 42, 180, 0, 31, 27]
abbrev dktX0_of_3 : List UInt8 := dkwX0_of_3 ++ dktX0_of_4
def dkwX0_of_2 : List UInt8 := [42, 180, 0, 31, 180, 0, 126, 27, 46, 172, 42, 180, 0, 31, 180, 0, 133, 27, 46, 172, 42, 180, 0, 31]
abbrev dktX0_of_2 : List UInt8 := dkwX0_of_2 ++ dktX0_of_3
def dkwX0_of_1 : List UInt8 := [170, 0, 0, 0, 114, 0, 0, 0, 0, 0, 0, 0, 8, 0, 0, 0, 49, 0, 0, 0, 59, 0, 0, 0, 69, 0, 0, 0, 78, 0, 0, 0, 78, 0, 0, 0, 78, 0, 0, 0, 90, 0, 0, 0, 99, 0, 0, 0, 108]
abbrev dktX0_of_1 : List UInt8 := dkwX0_of_1 ++ dktX0_of_2
def dkwX0_of_0 : List UInt8 := [42, 27, 182, 0, 110, 154, 0, 5, 2, 172, 28]
abbrev dktX0_of_0 : List UInt8 := dkwX0_of_0 ++ dktX0_of_1
theorem dksX0_of_0 : cX0_of.data.toList.drop 0 = dktX0_of_0 := by decide +kernel
theorem dksX0_of_1 : cX0_of.data.toList.drop 11 = dktX0_of_1 := dk_seg dksX0_of_0 11 rfl rfl
theorem dksX0_of_2 : cX0_of.data.toList.drop 60 = dktX0_of_2 := dk_seg dksX0_of_1 49 rfl rfl
theorem dksX0_of_3 : cX0_of.data.toList.drop 84 = dktX0_of_3 := dk_seg dksX0_of_2 24 rfl rfl
theorem dksX0_of_4 : cX0_of.data.toList.drop 106 = dktX0_of_4 := dk_seg dksX0_of_3 22 rfl rfl
theorem dX0_of_0 : decode cX0_of 0 = .ok (.aload_n 0, 1) := dk_42 (dk_at dksX0_of_0 0 rfl rfl)
theorem dX0_of_1 : decode cX0_of 1 = .ok (.iload_n 1, 1) := dk_27 (dk_at dksX0_of_0 1 rfl rfl)
theorem dX0_of_2 : decode cX0_of 2 = .ok (.invokevirtual 110, 3) := dk_182 0 110 (dk_at dksX0_of_0 2 rfl rfl)
theorem dX0_of_5 : decode cX0_of 5 = .ok (.ifCond .ne 5, 3) := dk_154 0 5 (dk_at dksX0_of_0 5 rfl rfl)
theorem dX0_of_8 : decode cX0_of 8 = .ok (.iconst (-1), 1) := dk_2 (dk_at dksX0_of_0 8 rfl rfl)
theorem dX0_of_9 : decode cX0_of 9 = .ok (.ireturn, 1) := dk_172 (dk_at dksX0_of_0 9 rfl rfl)
theorem dX0_of_10 : decode cX0_of 10 = .ok (.iload_n 2, 1) := dk_28 (dk_at dksX0_of_0 10 rfl rfl)
theorem dX0_of_11 : decode cX0_of 11 = .ok (.tableswitch 114 0 8 #[49, 59, 69, 78, 78, 78, 90, 99, 108], 49) := by decide +kernel
theorem dX0_of_60 : decode cX0_of 60 = .ok (.aload_n 0, 1) := dk_42 (dk_at dksX0_of_2 0 rfl rfl)
theorem dX0_of_61 : decode cX0_of 61 = .ok (.getfield 31, 3) := dk_180 0 31 (dk_at dksX0_of_2 1 rfl rfl)
theorem dX0_of_64 : decode cX0_of 64 = .ok (.getfield 126, 3) := dk_180 0 126 (dk_at dksX0_of_2 4 rfl rfl)
theorem dX0_of_67 : decode cX0_of 67 = .ok (.iload_n 1, 1) := dk_27 (dk_at dksX0_of_2 7 rfl rfl)
theorem dX0_of_68 : decode cX0_of 68 = .ok (.iaload, 1) := dk_46 (dk_at dksX0_of_2 8 rfl rfl)
theorem dX0_of_69 : decode cX0_of 69 = .ok (.ireturn, 1) := dk_172 (dk_at dksX0_of_2 9 rfl rfl)
theorem dX0_of_70 : decode cX0_of 70 = .ok (.aload_n 0, 1) := dk_42 (dk_at dksX0_of_2 10 rfl rfl)
theorem dX0_of_71 : decode cX0_of 71 = .ok (.getfield 31, 3) := dk_180 0 31 (dk_at dksX0_of_2 11 rfl rfl)
theorem dX0_of_74 : decode cX0_of 74 = .ok (.getfield 133, 3) := dk_180 0 133 (dk_at dksX0_of_2 14 rfl rfl)
theorem dX0_of_77 : decode cX0_of 77 = .ok (.iload_n 1, 1) := dk_27 (dk_at dksX0_of_2 17 rfl rfl)
theorem dX0_of_78 : decode cX0_of 78 = .ok (.iaload, 1) := dk_46 (dk_at dksX0_of_2 18 rfl rfl)
theorem dX0_of_79 : decode cX0_of 79 = .ok (.ireturn, 1) := dk_172 (dk_at dksX0_of_2 19 rfl rfl)
theorem dX0_of_80 : decode cX0_of 80 = .ok (.aload_n 0, 1) := dk_42 (dk_at dksX0_of_2 20 rfl rfl)
theorem dX0_of_81 : decode cX0_of 81 = .ok (.getfield 31, 3) := dk_180 0 31 (dk_at dksX0_of_2 21 rfl rfl)
theorem dX0_of_84 : decode cX0_of 84 = .ok (.iload_n 1, 1) := dk_27 (dk_at dksX0_of_3 0 rfl rfl)
theorem dX0_of_85 : decode cX0_of 85 = .ok (.invokevirtual 122, 3) := dk_182 0 122 (dk_at dksX0_of_3 1 rfl rfl)
theorem dX0_of_88 : decode cX0_of 88 = .ok (.ireturn, 1) := dk_172 (dk_at dksX0_of_3 4 rfl rfl)
theorem dX0_of_89 : decode cX0_of 89 = .ok (.aload_n 0, 1) := dk_42 (dk_at dksX0_of_3 5 rfl rfl)
theorem dX0_of_90 : decode cX0_of 90 = .ok (.getfield 31, 3) := dk_180 0 31 (dk_at dksX0_of_3 6 rfl rfl)
theorem dX0_of_93 : decode cX0_of 93 = .ok (.iload_n 1, 1) := dk_27 (dk_at dksX0_of_3 9 rfl rfl)
theorem dX0_of_94 : decode cX0_of 94 = .ok (.iload_n 2, 1) := dk_28 (dk_at dksX0_of_3 10 rfl rfl)
theorem dX0_of_95 : decode cX0_of 95 = .ok (.iconst 3, 1) := dk_6 (dk_at dksX0_of_3 11 rfl rfl)
theorem dX0_of_96 : decode cX0_of 96 = .ok (.isub, 1) := dk_100 (dk_at dksX0_of_3 12 rfl rfl)
theorem dX0_of_97 : decode cX0_of 97 = .ok (.invokevirtual 119, 3) := dk_182 0 119 (dk_at dksX0_of_3 13 rfl rfl)
theorem dX0_of_100 : decode cX0_of 100 = .ok (.ireturn, 1) := dk_172 (dk_at dksX0_of_3 16 rfl rfl)
theorem dX0_of_101 : decode cX0_of 101 = .ok (.aload_n 0, 1) := dk_42 (dk_at dksX0_of_3 17 rfl rfl)
theorem dX0_of_102 : decode cX0_of 102 = .ok (.getfield 31, 3) := dk_180 0 31 (dk_at dksX0_of_3 18 rfl rfl)
theorem dX0_of_105 : decode cX0_of 105 = .ok (.iload_n 1, 1) := dk_27 (dk_at dksX0_of_3 21 rfl rfl)
theorem dX0_of_106 : decode cX0_of 106 = .ok (.invokevirtual 136, 3) := dk_182 0 136 (dk_at dksX0_of_4 0 rfl rfl)
theorem dX0_of_109 : decode cX0_of 109 = .ok (.ireturn, 1) := dk_172 (dk_at dksX0_of_4 3 rfl rfl)
theorem dX0_of_110 : decode cX0_of 110 = .ok (.aload_n 0, 1) := dk_42 (dk_at dksX0_of_4 4 rfl rfl)
theorem dX0_of_111 : decode cX0_of 111 = .ok (.getfield 31, 3) := dk_180 0 31 (dk_at dksX0_of_4 5 rfl rfl)
theorem dX0_of_114 : decode cX0_of 114 = .ok (.iload_n 1, 1) := dk_27 (dk_at dksX0_of_4 8 rfl rfl)
theorem dX0_of_115 : decode cX0_of 115 = .ok (.invokevirtual 139, 3) := dk_182 0 139 (dk_at dksX0_of_4 9 rfl rfl)
theorem dX0_of_118 : decode cX0_of 118 = .ok (.ireturn, 1) := dk_172 (dk_at dksX0_of_4 12 rfl rfl)
theorem dX0_of_119 : decode cX0_of 119 = .ok (.aload_n 0, 1) := dk_42 (dk_at dksX0_of_4 13 rfl rfl)
theorem dX0_of_120 : decode cX0_of 120 = .ok (.iload_n 1, 1) := dk_27 (dk_at dksX0_of_4 14 rfl rfl)
theorem dX0_of_121 : decode cX0_of 121 = .ok (.invokevirtual 142, 3) := dk_182 0 142 (dk_at dksX0_of_4 15 rfl rfl)
theorem dX0_of_124 : decode cX0_of 124 = .ok (.ireturn, 1) := dk_172 (dk_at dksX0_of_4 18 rfl rfl)
theorem dX0_of_125 : decode cX0_of 125 = .ok (.iconst (-1), 1) := dk_2 (dk_at dksX0_of_4 19 rfl rfl)
theorem dX0_of_126 : decode cX0_of 126 = .ok (.ireturn, 1) := dk_172 (dk_at dksX0_of_4 20 rfl rfl)
abbrev cX0_failsOf : ByteArray := prog_1_method_9_code
def yX0_failsOf : MethodName := ⟨RX0, "failsOf", "(I)I"⟩
def dkwX0_failsOf_1 : List UInt8 := [180, 0, 126, 27, 46, 50, 42, 180, 0, 31, 27, 182, 0, 129, 172]
abbrev dktX0_failsOf_1 : List UInt8 := dkwX0_failsOf_1 ++ []
def dkwX0_failsOf_0 : List UInt8 := [42, 180, 0, 31, 27, 182, 0, 122, 156, 0, 7, 3, 167, 0, 25, 42, 180, 0, 22, 42, 180, 0, 31]
abbrev dktX0_failsOf_0 : List UInt8 := dkwX0_failsOf_0 ++ dktX0_failsOf_1
theorem dksX0_failsOf_0 : cX0_failsOf.data.toList.drop 0 = dktX0_failsOf_0 := by decide +kernel
theorem dksX0_failsOf_1 : cX0_failsOf.data.toList.drop 23 = dktX0_failsOf_1 := dk_seg dksX0_failsOf_0 23 rfl rfl
theorem dX0_failsOf_0 : decode cX0_failsOf 0 = .ok (.aload_n 0, 1) := dk_42 (dk_at dksX0_failsOf_0 0 rfl rfl)
theorem dX0_failsOf_1 : decode cX0_failsOf 1 = .ok (.getfield 31, 3) := dk_180 0 31 (dk_at dksX0_failsOf_0 1 rfl rfl)
theorem dX0_failsOf_4 : decode cX0_failsOf 4 = .ok (.iload_n 1, 1) := dk_27 (dk_at dksX0_failsOf_0 4 rfl rfl)
theorem dX0_failsOf_5 : decode cX0_failsOf 5 = .ok (.invokevirtual 122, 3) := dk_182 0 122 (dk_at dksX0_failsOf_0 5 rfl rfl)
theorem dX0_failsOf_8 : decode cX0_failsOf 8 = .ok (.ifCond .ge 7, 3) := dk_156 0 7 (dk_at dksX0_failsOf_0 8 rfl rfl)
theorem dX0_failsOf_11 : decode cX0_failsOf 11 = .ok (.iconst 0, 1) := dk_3 (dk_at dksX0_failsOf_0 11 rfl rfl)
theorem dX0_failsOf_12 : decode cX0_failsOf 12 = .ok (.goto 25, 3) := dk_167 0 25 (dk_at dksX0_failsOf_0 12 rfl rfl)
theorem dX0_failsOf_15 : decode cX0_failsOf 15 = .ok (.aload_n 0, 1) := dk_42 (dk_at dksX0_failsOf_0 15 rfl rfl)
theorem dX0_failsOf_16 : decode cX0_failsOf 16 = .ok (.getfield 22, 3) := dk_180 0 22 (dk_at dksX0_failsOf_0 16 rfl rfl)
theorem dX0_failsOf_19 : decode cX0_failsOf 19 = .ok (.aload_n 0, 1) := dk_42 (dk_at dksX0_failsOf_0 19 rfl rfl)
theorem dX0_failsOf_20 : decode cX0_failsOf 20 = .ok (.getfield 31, 3) := dk_180 0 31 (dk_at dksX0_failsOf_0 20 rfl rfl)
theorem dX0_failsOf_23 : decode cX0_failsOf 23 = .ok (.getfield 126, 3) := dk_180 0 126 (dk_at dksX0_failsOf_1 0 rfl rfl)
theorem dX0_failsOf_26 : decode cX0_failsOf 26 = .ok (.iload_n 1, 1) := dk_27 (dk_at dksX0_failsOf_1 3 rfl rfl)
theorem dX0_failsOf_27 : decode cX0_failsOf 27 = .ok (.iaload, 1) := dk_46 (dk_at dksX0_failsOf_1 4 rfl rfl)
theorem dX0_failsOf_28 : decode cX0_failsOf 28 = .ok (.aaload, 1) := dk_50 (dk_at dksX0_failsOf_1 5 rfl rfl)
theorem dX0_failsOf_29 : decode cX0_failsOf 29 = .ok (.aload_n 0, 1) := dk_42 (dk_at dksX0_failsOf_1 6 rfl rfl)
theorem dX0_failsOf_30 : decode cX0_failsOf 30 = .ok (.getfield 31, 3) := dk_180 0 31 (dk_at dksX0_failsOf_1 7 rfl rfl)
theorem dX0_failsOf_33 : decode cX0_failsOf 33 = .ok (.iload_n 1, 1) := dk_27 (dk_at dksX0_failsOf_1 10 rfl rfl)
theorem dX0_failsOf_34 : decode cX0_failsOf 34 = .ok (.invokevirtual 129, 3) := dk_182 0 129 (dk_at dksX0_failsOf_1 11 rfl rfl)
theorem dX0_failsOf_37 : decode cX0_failsOf 37 = .ok (.ireturn, 1) := dk_172 (dk_at dksX0_failsOf_1 14 rfl rfl)
abbrev cX0_seat : ByteArray := prog_1_method_11_code
def yX0_seat : MethodName := ⟨RX0, "seat", "(I)I"⟩
def dkwX0_seat_1 : List UInt8 := [180, 0, 148, 27, 46, 167, 0, 5, 16, 252, 172]
abbrev dktX0_seat_1 : List UInt8 := dkwX0_seat_1 ++ []
def dkwX0_seat_0 : List UInt8 := [27, 156, 0, 7, 2, 167, 0, 28, 27, 42, 180, 0, 31, 180, 0, 145, 162, 0, 15, 42, 180, 0, 31]
abbrev dktX0_seat_0 : List UInt8 := dkwX0_seat_0 ++ dktX0_seat_1
theorem dksX0_seat_0 : cX0_seat.data.toList.drop 0 = dktX0_seat_0 := by decide +kernel
theorem dksX0_seat_1 : cX0_seat.data.toList.drop 23 = dktX0_seat_1 := dk_seg dksX0_seat_0 23 rfl rfl
theorem dX0_seat_0 : decode cX0_seat 0 = .ok (.iload_n 1, 1) := dk_27 (dk_at dksX0_seat_0 0 rfl rfl)
theorem dX0_seat_1 : decode cX0_seat 1 = .ok (.ifCond .ge 7, 3) := dk_156 0 7 (dk_at dksX0_seat_0 1 rfl rfl)
theorem dX0_seat_4 : decode cX0_seat 4 = .ok (.iconst (-1), 1) := dk_2 (dk_at dksX0_seat_0 4 rfl rfl)
theorem dX0_seat_5 : decode cX0_seat 5 = .ok (.goto 28, 3) := dk_167 0 28 (dk_at dksX0_seat_0 5 rfl rfl)
theorem dX0_seat_8 : decode cX0_seat 8 = .ok (.iload_n 1, 1) := dk_27 (dk_at dksX0_seat_0 8 rfl rfl)
theorem dX0_seat_9 : decode cX0_seat 9 = .ok (.aload_n 0, 1) := dk_42 (dk_at dksX0_seat_0 9 rfl rfl)
theorem dX0_seat_10 : decode cX0_seat 10 = .ok (.getfield 31, 3) := dk_180 0 31 (dk_at dksX0_seat_0 10 rfl rfl)
theorem dX0_seat_13 : decode cX0_seat 13 = .ok (.getfield 145, 3) := dk_180 0 145 (dk_at dksX0_seat_0 13 rfl rfl)
theorem dX0_seat_16 : decode cX0_seat 16 = .ok (.if_icmp .ge 15, 3) := dk_162 0 15 (dk_at dksX0_seat_0 16 rfl rfl)
theorem dX0_seat_19 : decode cX0_seat 19 = .ok (.aload_n 0, 1) := dk_42 (dk_at dksX0_seat_0 19 rfl rfl)
theorem dX0_seat_20 : decode cX0_seat 20 = .ok (.getfield 31, 3) := dk_180 0 31 (dk_at dksX0_seat_0 20 rfl rfl)
theorem dX0_seat_23 : decode cX0_seat 23 = .ok (.getfield 148, 3) := dk_180 0 148 (dk_at dksX0_seat_1 0 rfl rfl)
theorem dX0_seat_26 : decode cX0_seat 26 = .ok (.iload_n 1, 1) := dk_27 (dk_at dksX0_seat_1 3 rfl rfl)
theorem dX0_seat_27 : decode cX0_seat 27 = .ok (.iaload, 1) := dk_46 (dk_at dksX0_seat_1 4 rfl rfl)
theorem dX0_seat_28 : decode cX0_seat 28 = .ok (.goto 5, 3) := dk_167 0 5 (dk_at dksX0_seat_1 5 rfl rfl)
theorem dX0_seat_31 : decode cX0_seat 31 = .ok (.bipush (-4), 2) := dk_16 252 (dk_at dksX0_seat_1 8 rfl rfl)
theorem dX0_seat_33 : decode cX0_seat 33 = .ok (.ireturn, 1) := dk_172 (dk_at dksX0_seat_1 10 rfl rfl)
abbrev cX0_type : ByteArray := prog_1_method_12_code
def yX0_type : MethodName := ⟨RX0, "type", "(I)I"⟩
def dkwX0_type_2 : List UInt8 := [181, 0, 155, 42, 180, 0, 155, 172]
abbrev dktX0_type_2 : List UInt8 := dkwX0_type_2 ++ []
def dkwX0_type_1 : List UInt8 := [160, 0, 6, 16, 253, 172, 42, 180, 0, 42, 42, 180, 0, 155, 27, 146, 85, 42, 89, 180, 0, 155, 4, 96]
abbrev dktX0_type_1 : List UInt8 := dkwX0_type_1 ++ dktX0_type_2
def dkwX0_type_0 : List UInt8 := [27, 133, 20, 0, 151, 20, 0, 153, 184, 0, 86, 154, 0, 5, 2, 172, 42, 180, 0, 155, 16, 70]
abbrev dktX0_type_0 : List UInt8 := dkwX0_type_0 ++ dktX0_type_1
theorem dksX0_type_0 : cX0_type.data.toList.drop 0 = dktX0_type_0 := by decide +kernel
theorem dksX0_type_1 : cX0_type.data.toList.drop 22 = dktX0_type_1 := dk_seg dksX0_type_0 22 rfl rfl
theorem dksX0_type_2 : cX0_type.data.toList.drop 46 = dktX0_type_2 := dk_seg dksX0_type_1 24 rfl rfl
theorem dX0_type_0 : decode cX0_type 0 = .ok (.iload_n 1, 1) := dk_27 (dk_at dksX0_type_0 0 rfl rfl)
theorem dX0_type_1 : decode cX0_type 1 = .ok (.i2l, 1) := dk_133 (dk_at dksX0_type_0 1 rfl rfl)
theorem dX0_type_2 : decode cX0_type 2 = .ok (.ldc2_w 151, 3) := dk_20 0 151 (dk_at dksX0_type_0 2 rfl rfl)
theorem dX0_type_5 : decode cX0_type 5 = .ok (.ldc2_w 153, 3) := dk_20 0 153 (dk_at dksX0_type_0 5 rfl rfl)
theorem dX0_type_8 : decode cX0_type 8 = .ok (.invokestatic 86, 3) := dk_184 0 86 (dk_at dksX0_type_0 8 rfl rfl)
theorem dX0_type_11 : decode cX0_type 11 = .ok (.ifCond .ne 5, 3) := dk_154 0 5 (dk_at dksX0_type_0 11 rfl rfl)
theorem dX0_type_14 : decode cX0_type 14 = .ok (.iconst (-1), 1) := dk_2 (dk_at dksX0_type_0 14 rfl rfl)
theorem dX0_type_15 : decode cX0_type 15 = .ok (.ireturn, 1) := dk_172 (dk_at dksX0_type_0 15 rfl rfl)
theorem dX0_type_16 : decode cX0_type 16 = .ok (.aload_n 0, 1) := dk_42 (dk_at dksX0_type_0 16 rfl rfl)
theorem dX0_type_17 : decode cX0_type 17 = .ok (.getfield 155, 3) := dk_180 0 155 (dk_at dksX0_type_0 17 rfl rfl)
theorem dX0_type_20 : decode cX0_type 20 = .ok (.bipush 70, 2) := dk_16 70 (dk_at dksX0_type_0 20 rfl rfl)
theorem dX0_type_22 : decode cX0_type 22 = .ok (.if_icmp .ne 6, 3) := dk_160 0 6 (dk_at dksX0_type_1 0 rfl rfl)
theorem dX0_type_25 : decode cX0_type 25 = .ok (.bipush (-3), 2) := dk_16 253 (dk_at dksX0_type_1 3 rfl rfl)
theorem dX0_type_27 : decode cX0_type 27 = .ok (.ireturn, 1) := dk_172 (dk_at dksX0_type_1 5 rfl rfl)
theorem dX0_type_28 : decode cX0_type 28 = .ok (.aload_n 0, 1) := dk_42 (dk_at dksX0_type_1 6 rfl rfl)
theorem dX0_type_29 : decode cX0_type 29 = .ok (.getfield 42, 3) := dk_180 0 42 (dk_at dksX0_type_1 7 rfl rfl)
theorem dX0_type_32 : decode cX0_type 32 = .ok (.aload_n 0, 1) := dk_42 (dk_at dksX0_type_1 10 rfl rfl)
theorem dX0_type_33 : decode cX0_type 33 = .ok (.getfield 155, 3) := dk_180 0 155 (dk_at dksX0_type_1 11 rfl rfl)
theorem dX0_type_36 : decode cX0_type 36 = .ok (.iload_n 1, 1) := dk_27 (dk_at dksX0_type_1 14 rfl rfl)
theorem dX0_type_37 : decode cX0_type 37 = .ok (.i2c, 1) := dk_146 (dk_at dksX0_type_1 15 rfl rfl)
theorem dX0_type_38 : decode cX0_type 38 = .ok (.castore, 1) := dk_85 (dk_at dksX0_type_1 16 rfl rfl)
theorem dX0_type_39 : decode cX0_type 39 = .ok (.aload_n 0, 1) := dk_42 (dk_at dksX0_type_1 17 rfl rfl)
theorem dX0_type_40 : decode cX0_type 40 = .ok (.dup, 1) := dk_89 (dk_at dksX0_type_1 18 rfl rfl)
theorem dX0_type_41 : decode cX0_type 41 = .ok (.getfield 155, 3) := dk_180 0 155 (dk_at dksX0_type_1 19 rfl rfl)
theorem dX0_type_44 : decode cX0_type 44 = .ok (.iconst 1, 1) := dk_4 (dk_at dksX0_type_1 22 rfl rfl)
theorem dX0_type_45 : decode cX0_type 45 = .ok (.iadd, 1) := dk_96 (dk_at dksX0_type_1 23 rfl rfl)
theorem dX0_type_46 : decode cX0_type 46 = .ok (.putfield 155, 3) := dk_181 0 155 (dk_at dksX0_type_2 0 rfl rfl)
theorem dX0_type_49 : decode cX0_type 49 = .ok (.aload_n 0, 1) := dk_42 (dk_at dksX0_type_2 3 rfl rfl)
theorem dX0_type_50 : decode cX0_type 50 = .ok (.getfield 155, 3) := dk_180 0 155 (dk_at dksX0_type_2 4 rfl rfl)
theorem dX0_type_53 : decode cX0_type 53 = .ok (.ireturn, 1) := dk_172 (dk_at dksX0_type_2 7 rfl rfl)
abbrev cX0_read : ByteArray := prog_1_method_22_code
def yX0_read : MethodName := ⟨RX0, "read", "()I"⟩
def dkwX0_read_2 : List UInt8 := [180, 0, 83, 172]
abbrev dktX0_read_2 : List UInt8 := dkwX0_read_2 ++ []
def dkwX0_read_1 : List UInt8 := [181, 0, 155, 42, 180, 0, 31, 42, 180, 0, 46, 182, 0, 193, 42, 3, 181, 0, 107, 42, 180, 0, 31]
abbrev dktX0_read_1 : List UInt8 := dkwX0_read_1 ++ dktX0_read_2
def dkwX0_read_0 : List UInt8 := [42, 182, 0, 203, 167, 0, 17, 76, 42, 3, 181, 0, 155, 16, 236, 43, 180, 0, 165, 100, 172, 42, 3]
abbrev dktX0_read_0 : List UInt8 := dkwX0_read_0 ++ dktX0_read_1
theorem dksX0_read_0 : cX0_read.data.toList.drop 0 = dktX0_read_0 := by decide +kernel
theorem dksX0_read_1 : cX0_read.data.toList.drop 23 = dktX0_read_1 := dk_seg dksX0_read_0 23 rfl rfl
theorem dksX0_read_2 : cX0_read.data.toList.drop 46 = dktX0_read_2 := dk_seg dksX0_read_1 23 rfl rfl
theorem dX0_read_0 : decode cX0_read 0 = .ok (.aload_n 0, 1) := dk_42 (dk_at dksX0_read_0 0 rfl rfl)
theorem dX0_read_1 : decode cX0_read 1 = .ok (.invokevirtual 203, 3) := dk_182 0 203 (dk_at dksX0_read_0 1 rfl rfl)
theorem dX0_read_4 : decode cX0_read 4 = .ok (.goto 17, 3) := dk_167 0 17 (dk_at dksX0_read_0 4 rfl rfl)
theorem dX0_read_7 : decode cX0_read 7 = .ok (.astore_n 1, 1) := dk_76 (dk_at dksX0_read_0 7 rfl rfl)
theorem dX0_read_8 : decode cX0_read 8 = .ok (.aload_n 0, 1) := dk_42 (dk_at dksX0_read_0 8 rfl rfl)
theorem dX0_read_9 : decode cX0_read 9 = .ok (.iconst 0, 1) := dk_3 (dk_at dksX0_read_0 9 rfl rfl)
theorem dX0_read_10 : decode cX0_read 10 = .ok (.putfield 155, 3) := dk_181 0 155 (dk_at dksX0_read_0 10 rfl rfl)
theorem dX0_read_13 : decode cX0_read 13 = .ok (.bipush (-20), 2) := dk_16 236 (dk_at dksX0_read_0 13 rfl rfl)
theorem dX0_read_15 : decode cX0_read 15 = .ok (.aload_n 1, 1) := dk_43 (dk_at dksX0_read_0 15 rfl rfl)
theorem dX0_read_16 : decode cX0_read 16 = .ok (.getfield 165, 3) := dk_180 0 165 (dk_at dksX0_read_0 16 rfl rfl)
theorem dX0_read_19 : decode cX0_read 19 = .ok (.isub, 1) := dk_100 (dk_at dksX0_read_0 19 rfl rfl)
theorem dX0_read_20 : decode cX0_read 20 = .ok (.ireturn, 1) := dk_172 (dk_at dksX0_read_0 20 rfl rfl)
theorem dX0_read_21 : decode cX0_read 21 = .ok (.aload_n 0, 1) := dk_42 (dk_at dksX0_read_0 21 rfl rfl)
theorem dX0_read_22 : decode cX0_read 22 = .ok (.iconst 0, 1) := dk_3 (dk_at dksX0_read_0 22 rfl rfl)
theorem dX0_read_23 : decode cX0_read 23 = .ok (.putfield 155, 3) := dk_181 0 155 (dk_at dksX0_read_1 0 rfl rfl)
theorem dX0_read_26 : decode cX0_read 26 = .ok (.aload_n 0, 1) := dk_42 (dk_at dksX0_read_1 3 rfl rfl)
theorem dX0_read_27 : decode cX0_read 27 = .ok (.getfield 31, 3) := dk_180 0 31 (dk_at dksX0_read_1 4 rfl rfl)
theorem dX0_read_30 : decode cX0_read 30 = .ok (.aload_n 0, 1) := dk_42 (dk_at dksX0_read_1 7 rfl rfl)
theorem dX0_read_31 : decode cX0_read 31 = .ok (.getfield 46, 3) := dk_180 0 46 (dk_at dksX0_read_1 8 rfl rfl)
theorem dX0_read_34 : decode cX0_read 34 = .ok (.invokevirtual 193, 3) := dk_182 0 193 (dk_at dksX0_read_1 11 rfl rfl)
theorem dX0_read_37 : decode cX0_read 37 = .ok (.aload_n 0, 1) := dk_42 (dk_at dksX0_read_1 14 rfl rfl)
theorem dX0_read_38 : decode cX0_read 38 = .ok (.iconst 0, 1) := dk_3 (dk_at dksX0_read_1 15 rfl rfl)
theorem dX0_read_39 : decode cX0_read 39 = .ok (.putfield 107, 3) := dk_181 0 107 (dk_at dksX0_read_1 16 rfl rfl)
theorem dX0_read_42 : decode cX0_read 42 = .ok (.aload_n 0, 1) := dk_42 (dk_at dksX0_read_1 19 rfl rfl)
theorem dX0_read_43 : decode cX0_read 43 = .ok (.getfield 31, 3) := dk_180 0 31 (dk_at dksX0_read_1 20 rfl rfl)
theorem dX0_read_46 : decode cX0_read 46 = .ok (.getfield 83, 3) := dk_180 0 83 (dk_at dksX0_read_2 0 rfl rfl)
theorem dX0_read_49 : decode cX0_read 49 = .ok (.ireturn, 1) := dk_172 (dk_at dksX0_read_2 3 rfl rfl)
abbrev cX0_readBench : ByteArray := prog_1_method_21_code
def yX0_readBench : MethodName := ⟨RX0, "readBench", "()V"⟩
def dkwX0_readBench_2 : List UInt8 := [42, 182, 0, 200, 167, 255, 231, 42, 182, 0, 161, 155, 0, 8, 42, 182, 0, 172, 191, 177]
abbrev dktX0_readBench_2 : List UInt8 := dkwX0_readBench_2 ++ []
def dkwX0_readBench_1 : List UInt8 := [182, 0, 200, 42, 180, 0, 46, 180, 0, 83, 16, 6, 162, 0, 19, 42, 16, 44, 182, 0, 186, 153, 0, 10]
abbrev dktX0_readBench_1 : List UInt8 := dkwX0_readBench_1 ++ dktX0_readBench_2
def dkwX0_readBench_0 : List UInt8 := [42, 3, 181, 0, 158, 42, 180, 0, 46, 42, 180, 0, 31, 182, 0, 193, 42, 180, 0, 46, 182, 0, 197, 42]
abbrev dktX0_readBench_0 : List UInt8 := dkwX0_readBench_0 ++ dktX0_readBench_1
theorem dksX0_readBench_0 : cX0_readBench.data.toList.drop 0 = dktX0_readBench_0 := by decide +kernel
theorem dksX0_readBench_1 : cX0_readBench.data.toList.drop 24 = dktX0_readBench_1 := dk_seg dksX0_readBench_0 24 rfl rfl
theorem dksX0_readBench_2 : cX0_readBench.data.toList.drop 48 = dktX0_readBench_2 := dk_seg dksX0_readBench_1 24 rfl rfl
theorem dX0_readBench_0 : decode cX0_readBench 0 = .ok (.aload_n 0, 1) := dk_42 (dk_at dksX0_readBench_0 0 rfl rfl)
theorem dX0_readBench_1 : decode cX0_readBench 1 = .ok (.iconst 0, 1) := dk_3 (dk_at dksX0_readBench_0 1 rfl rfl)
theorem dX0_readBench_2 : decode cX0_readBench 2 = .ok (.putfield 158, 3) := dk_181 0 158 (dk_at dksX0_readBench_0 2 rfl rfl)
theorem dX0_readBench_5 : decode cX0_readBench 5 = .ok (.aload_n 0, 1) := dk_42 (dk_at dksX0_readBench_0 5 rfl rfl)
theorem dX0_readBench_6 : decode cX0_readBench 6 = .ok (.getfield 46, 3) := dk_180 0 46 (dk_at dksX0_readBench_0 6 rfl rfl)
theorem dX0_readBench_9 : decode cX0_readBench 9 = .ok (.aload_n 0, 1) := dk_42 (dk_at dksX0_readBench_0 9 rfl rfl)
theorem dX0_readBench_10 : decode cX0_readBench 10 = .ok (.getfield 31, 3) := dk_180 0 31 (dk_at dksX0_readBench_0 10 rfl rfl)
theorem dX0_readBench_13 : decode cX0_readBench 13 = .ok (.invokevirtual 193, 3) := dk_182 0 193 (dk_at dksX0_readBench_0 13 rfl rfl)
theorem dX0_readBench_16 : decode cX0_readBench 16 = .ok (.aload_n 0, 1) := dk_42 (dk_at dksX0_readBench_0 16 rfl rfl)
theorem dX0_readBench_17 : decode cX0_readBench 17 = .ok (.getfield 46, 3) := dk_180 0 46 (dk_at dksX0_readBench_0 17 rfl rfl)
theorem dX0_readBench_20 : decode cX0_readBench 20 = .ok (.invokevirtual 197, 3) := dk_182 0 197 (dk_at dksX0_readBench_0 20 rfl rfl)
theorem dX0_readBench_23 : decode cX0_readBench 23 = .ok (.aload_n 0, 1) := dk_42 (dk_at dksX0_readBench_0 23 rfl rfl)
theorem dX0_readBench_24 : decode cX0_readBench 24 = .ok (.invokevirtual 200, 3) := dk_182 0 200 (dk_at dksX0_readBench_1 0 rfl rfl)
theorem dX0_readBench_27 : decode cX0_readBench 27 = .ok (.aload_n 0, 1) := dk_42 (dk_at dksX0_readBench_1 3 rfl rfl)
theorem dX0_readBench_28 : decode cX0_readBench 28 = .ok (.getfield 46, 3) := dk_180 0 46 (dk_at dksX0_readBench_1 4 rfl rfl)
theorem dX0_readBench_31 : decode cX0_readBench 31 = .ok (.getfield 83, 3) := dk_180 0 83 (dk_at dksX0_readBench_1 7 rfl rfl)
theorem dX0_readBench_34 : decode cX0_readBench 34 = .ok (.bipush 6, 2) := dk_16 6 (dk_at dksX0_readBench_1 10 rfl rfl)
theorem dX0_readBench_36 : decode cX0_readBench 36 = .ok (.if_icmp .ge 19, 3) := dk_162 0 19 (dk_at dksX0_readBench_1 12 rfl rfl)
theorem dX0_readBench_39 : decode cX0_readBench 39 = .ok (.aload_n 0, 1) := dk_42 (dk_at dksX0_readBench_1 15 rfl rfl)
theorem dX0_readBench_40 : decode cX0_readBench 40 = .ok (.bipush 44, 2) := dk_16 44 (dk_at dksX0_readBench_1 16 rfl rfl)
theorem dX0_readBench_42 : decode cX0_readBench 42 = .ok (.invokevirtual 186, 3) := dk_182 0 186 (dk_at dksX0_readBench_1 18 rfl rfl)
theorem dX0_readBench_45 : decode cX0_readBench 45 = .ok (.ifCond .eq 10, 3) := dk_153 0 10 (dk_at dksX0_readBench_1 21 rfl rfl)
theorem dX0_readBench_48 : decode cX0_readBench 48 = .ok (.aload_n 0, 1) := dk_42 (dk_at dksX0_readBench_2 0 rfl rfl)
theorem dX0_readBench_49 : decode cX0_readBench 49 = .ok (.invokevirtual 200, 3) := dk_182 0 200 (dk_at dksX0_readBench_2 1 rfl rfl)
theorem dX0_readBench_52 : decode cX0_readBench 52 = .ok (.goto (-25), 3) := dk_167 255 231 (dk_at dksX0_readBench_2 4 rfl rfl)
theorem dX0_readBench_55 : decode cX0_readBench 55 = .ok (.aload_n 0, 1) := dk_42 (dk_at dksX0_readBench_2 7 rfl rfl)
theorem dX0_readBench_56 : decode cX0_readBench 56 = .ok (.invokevirtual 161, 3) := dk_182 0 161 (dk_at dksX0_readBench_2 8 rfl rfl)
theorem dX0_readBench_59 : decode cX0_readBench 59 = .ok (.ifCond .lt 8, 3) := dk_155 0 8 (dk_at dksX0_readBench_2 11 rfl rfl)
theorem dX0_readBench_62 : decode cX0_readBench 62 = .ok (.aload_n 0, 1) := dk_42 (dk_at dksX0_readBench_2 14 rfl rfl)
theorem dX0_readBench_63 : decode cX0_readBench 63 = .ok (.invokevirtual 172, 3) := dk_182 0 172 (dk_at dksX0_readBench_2 15 rfl rfl)
theorem dX0_readBench_66 : decode cX0_readBench 66 = .ok (.athrow, 1) := dk_191 (dk_at dksX0_readBench_2 18 rfl rfl)
theorem dX0_readBench_67 : decode cX0_readBench 67 = .ok (.return_, 1) := dk_177 (dk_at dksX0_readBench_2 19 rfl rfl)
abbrev cX0_readMan : ByteArray := prog_1_method_20_code
def yX0_readMan : MethodName := ⟨RX0, "readMan", "()V"⟩
def dkwX0_readMan_5 : List UInt8 := [180, 0, 83, 79, 132, 5, 1, 167, 255, 181, 42, 180, 0, 46, 27, 29, 182, 0, 103, 177]
abbrev dktX0_readMan_5 : List UInt8 := dkwX0_readMan_5 ++ []
def dkwX0_readMan_4 : List UInt8 := [180, 0, 46, 180, 0, 100, 6, 42, 180, 0, 46, 180, 0, 83, 104, 21, 5, 96, 42, 180, 0, 46]
abbrev dktX0_readMan_4 : List UInt8 := dkwX0_readMan_4 ++ dktX0_readMan_5
def dkwX0_readMan_3 : List UInt8 := [21, 5, 42, 180, 0, 46, 180, 0, 83, 182, 0, 96, 155, 0, 9, 42, 28, 182, 0, 176, 191, 42]
abbrev dktX0_readMan_3 : List UInt8 := dkwX0_readMan_3 ++ dktX0_readMan_4
def dkwX0_readMan_2 : List UInt8 := [21, 5, 6, 162, 0, 75, 21, 4, 153, 0, 12, 42, 21, 5, 182, 0, 189, 167, 0, 55, 42, 180, 0, 46]
abbrev dktX0_readMan_2 : List UInt8 := dkwX0_readMan_2 ++ dktX0_readMan_3
def dkwX0_readMan_1 : List UInt8 := [180, 0, 158, 4, 96, 181, 0, 158, 42, 182, 0, 183, 62, 42, 16, 46, 182, 0, 186, 54, 4, 3, 54, 5]
abbrev dktX0_readMan_1 : List UInt8 := dkwX0_readMan_1 ++ dktX0_readMan_2
def dkwX0_readMan_0 : List UInt8 := [42, 182, 0, 161, 184, 0, 180, 60, 27, 156, 0, 8, 42, 182, 0, 172, 191, 42, 180, 0, 158, 61, 42, 89]
abbrev dktX0_readMan_0 : List UInt8 := dkwX0_readMan_0 ++ dktX0_readMan_1
theorem dksX0_readMan_0 : cX0_readMan.data.toList.drop 0 = dktX0_readMan_0 := by decide +kernel
theorem dksX0_readMan_1 : cX0_readMan.data.toList.drop 24 = dktX0_readMan_1 := dk_seg dksX0_readMan_0 24 rfl rfl
theorem dksX0_readMan_2 : cX0_readMan.data.toList.drop 48 = dktX0_readMan_2 := dk_seg dksX0_readMan_1 24 rfl rfl
theorem dksX0_readMan_3 : cX0_readMan.data.toList.drop 72 = dktX0_readMan_3 := dk_seg dksX0_readMan_2 24 rfl rfl
theorem dksX0_readMan_4 : cX0_readMan.data.toList.drop 94 = dktX0_readMan_4 := dk_seg dksX0_readMan_3 22 rfl rfl
theorem dksX0_readMan_5 : cX0_readMan.data.toList.drop 116 = dktX0_readMan_5 := dk_seg dksX0_readMan_4 22 rfl rfl
theorem dX0_readMan_0 : decode cX0_readMan 0 = .ok (.aload_n 0, 1) := dk_42 (dk_at dksX0_readMan_0 0 rfl rfl)
theorem dX0_readMan_1 : decode cX0_readMan 1 = .ok (.invokevirtual 161, 3) := dk_182 0 161 (dk_at dksX0_readMan_0 1 rfl rfl)
theorem dX0_readMan_4 : decode cX0_readMan 4 = .ok (.invokestatic 180, 3) := dk_184 0 180 (dk_at dksX0_readMan_0 4 rfl rfl)
theorem dX0_readMan_7 : decode cX0_readMan 7 = .ok (.istore_n 1, 1) := dk_60 (dk_at dksX0_readMan_0 7 rfl rfl)
theorem dX0_readMan_8 : decode cX0_readMan 8 = .ok (.iload_n 1, 1) := dk_27 (dk_at dksX0_readMan_0 8 rfl rfl)
theorem dX0_readMan_9 : decode cX0_readMan 9 = .ok (.ifCond .ge 8, 3) := dk_156 0 8 (dk_at dksX0_readMan_0 9 rfl rfl)
theorem dX0_readMan_12 : decode cX0_readMan 12 = .ok (.aload_n 0, 1) := dk_42 (dk_at dksX0_readMan_0 12 rfl rfl)
theorem dX0_readMan_13 : decode cX0_readMan 13 = .ok (.invokevirtual 172, 3) := dk_182 0 172 (dk_at dksX0_readMan_0 13 rfl rfl)
theorem dX0_readMan_16 : decode cX0_readMan 16 = .ok (.athrow, 1) := dk_191 (dk_at dksX0_readMan_0 16 rfl rfl)
theorem dX0_readMan_17 : decode cX0_readMan 17 = .ok (.aload_n 0, 1) := dk_42 (dk_at dksX0_readMan_0 17 rfl rfl)
theorem dX0_readMan_18 : decode cX0_readMan 18 = .ok (.getfield 158, 3) := dk_180 0 158 (dk_at dksX0_readMan_0 18 rfl rfl)
theorem dX0_readMan_21 : decode cX0_readMan 21 = .ok (.istore_n 2, 1) := dk_61 (dk_at dksX0_readMan_0 21 rfl rfl)
theorem dX0_readMan_22 : decode cX0_readMan 22 = .ok (.aload_n 0, 1) := dk_42 (dk_at dksX0_readMan_0 22 rfl rfl)
theorem dX0_readMan_23 : decode cX0_readMan 23 = .ok (.dup, 1) := dk_89 (dk_at dksX0_readMan_0 23 rfl rfl)
theorem dX0_readMan_24 : decode cX0_readMan 24 = .ok (.getfield 158, 3) := dk_180 0 158 (dk_at dksX0_readMan_1 0 rfl rfl)
theorem dX0_readMan_27 : decode cX0_readMan 27 = .ok (.iconst 1, 1) := dk_4 (dk_at dksX0_readMan_1 3 rfl rfl)
theorem dX0_readMan_28 : decode cX0_readMan 28 = .ok (.iadd, 1) := dk_96 (dk_at dksX0_readMan_1 4 rfl rfl)
theorem dX0_readMan_29 : decode cX0_readMan 29 = .ok (.putfield 158, 3) := dk_181 0 158 (dk_at dksX0_readMan_1 5 rfl rfl)
theorem dX0_readMan_32 : decode cX0_readMan 32 = .ok (.aload_n 0, 1) := dk_42 (dk_at dksX0_readMan_1 8 rfl rfl)
theorem dX0_readMan_33 : decode cX0_readMan 33 = .ok (.invokevirtual 183, 3) := dk_182 0 183 (dk_at dksX0_readMan_1 9 rfl rfl)
theorem dX0_readMan_36 : decode cX0_readMan 36 = .ok (.istore_n 3, 1) := dk_62 (dk_at dksX0_readMan_1 12 rfl rfl)
theorem dX0_readMan_37 : decode cX0_readMan 37 = .ok (.aload_n 0, 1) := dk_42 (dk_at dksX0_readMan_1 13 rfl rfl)
theorem dX0_readMan_38 : decode cX0_readMan 38 = .ok (.bipush 46, 2) := dk_16 46 (dk_at dksX0_readMan_1 14 rfl rfl)
theorem dX0_readMan_40 : decode cX0_readMan 40 = .ok (.invokevirtual 186, 3) := dk_182 0 186 (dk_at dksX0_readMan_1 16 rfl rfl)
theorem dX0_readMan_43 : decode cX0_readMan 43 = .ok (.istore 4, 2) := dk_54 4 (dk_at dksX0_readMan_1 19 rfl rfl)
theorem dX0_readMan_45 : decode cX0_readMan 45 = .ok (.iconst 0, 1) := dk_3 (dk_at dksX0_readMan_1 21 rfl rfl)
theorem dX0_readMan_46 : decode cX0_readMan 46 = .ok (.istore 5, 2) := dk_54 5 (dk_at dksX0_readMan_1 22 rfl rfl)
theorem dX0_readMan_48 : decode cX0_readMan 48 = .ok (.iload 5, 2) := dk_21 5 (dk_at dksX0_readMan_2 0 rfl rfl)
theorem dX0_readMan_50 : decode cX0_readMan 50 = .ok (.iconst 3, 1) := dk_6 (dk_at dksX0_readMan_2 2 rfl rfl)
theorem dX0_readMan_51 : decode cX0_readMan 51 = .ok (.if_icmp .ge 75, 3) := dk_162 0 75 (dk_at dksX0_readMan_2 3 rfl rfl)
theorem dX0_readMan_54 : decode cX0_readMan 54 = .ok (.iload 4, 2) := dk_21 4 (dk_at dksX0_readMan_2 6 rfl rfl)
theorem dX0_readMan_56 : decode cX0_readMan 56 = .ok (.ifCond .eq 12, 3) := dk_153 0 12 (dk_at dksX0_readMan_2 8 rfl rfl)
theorem dX0_readMan_59 : decode cX0_readMan 59 = .ok (.aload_n 0, 1) := dk_42 (dk_at dksX0_readMan_2 11 rfl rfl)
theorem dX0_readMan_60 : decode cX0_readMan 60 = .ok (.iload 5, 2) := dk_21 5 (dk_at dksX0_readMan_2 12 rfl rfl)
theorem dX0_readMan_62 : decode cX0_readMan 62 = .ok (.invokevirtual 189, 3) := dk_182 0 189 (dk_at dksX0_readMan_2 14 rfl rfl)
theorem dX0_readMan_65 : decode cX0_readMan 65 = .ok (.goto 55, 3) := dk_167 0 55 (dk_at dksX0_readMan_2 17 rfl rfl)
theorem dX0_readMan_68 : decode cX0_readMan 68 = .ok (.aload_n 0, 1) := dk_42 (dk_at dksX0_readMan_2 20 rfl rfl)
theorem dX0_readMan_69 : decode cX0_readMan 69 = .ok (.getfield 46, 3) := dk_180 0 46 (dk_at dksX0_readMan_2 21 rfl rfl)
theorem dX0_readMan_72 : decode cX0_readMan 72 = .ok (.iload 5, 2) := dk_21 5 (dk_at dksX0_readMan_3 0 rfl rfl)
theorem dX0_readMan_74 : decode cX0_readMan 74 = .ok (.aload_n 0, 1) := dk_42 (dk_at dksX0_readMan_3 2 rfl rfl)
theorem dX0_readMan_75 : decode cX0_readMan 75 = .ok (.getfield 46, 3) := dk_180 0 46 (dk_at dksX0_readMan_3 3 rfl rfl)
theorem dX0_readMan_78 : decode cX0_readMan 78 = .ok (.getfield 83, 3) := dk_180 0 83 (dk_at dksX0_readMan_3 6 rfl rfl)
theorem dX0_readMan_81 : decode cX0_readMan 81 = .ok (.invokevirtual 96, 3) := dk_182 0 96 (dk_at dksX0_readMan_3 9 rfl rfl)
theorem dX0_readMan_84 : decode cX0_readMan 84 = .ok (.ifCond .lt 9, 3) := dk_155 0 9 (dk_at dksX0_readMan_3 12 rfl rfl)
theorem dX0_readMan_87 : decode cX0_readMan 87 = .ok (.aload_n 0, 1) := dk_42 (dk_at dksX0_readMan_3 15 rfl rfl)
theorem dX0_readMan_88 : decode cX0_readMan 88 = .ok (.iload_n 2, 1) := dk_28 (dk_at dksX0_readMan_3 16 rfl rfl)
theorem dX0_readMan_89 : decode cX0_readMan 89 = .ok (.invokevirtual 176, 3) := dk_182 0 176 (dk_at dksX0_readMan_3 17 rfl rfl)
theorem dX0_readMan_92 : decode cX0_readMan 92 = .ok (.athrow, 1) := dk_191 (dk_at dksX0_readMan_3 20 rfl rfl)
theorem dX0_readMan_93 : decode cX0_readMan 93 = .ok (.aload_n 0, 1) := dk_42 (dk_at dksX0_readMan_3 21 rfl rfl)
theorem dX0_readMan_94 : decode cX0_readMan 94 = .ok (.getfield 46, 3) := dk_180 0 46 (dk_at dksX0_readMan_4 0 rfl rfl)
theorem dX0_readMan_97 : decode cX0_readMan 97 = .ok (.getfield 100, 3) := dk_180 0 100 (dk_at dksX0_readMan_4 3 rfl rfl)
theorem dX0_readMan_100 : decode cX0_readMan 100 = .ok (.iconst 3, 1) := dk_6 (dk_at dksX0_readMan_4 6 rfl rfl)
theorem dX0_readMan_101 : decode cX0_readMan 101 = .ok (.aload_n 0, 1) := dk_42 (dk_at dksX0_readMan_4 7 rfl rfl)
theorem dX0_readMan_102 : decode cX0_readMan 102 = .ok (.getfield 46, 3) := dk_180 0 46 (dk_at dksX0_readMan_4 8 rfl rfl)
theorem dX0_readMan_105 : decode cX0_readMan 105 = .ok (.getfield 83, 3) := dk_180 0 83 (dk_at dksX0_readMan_4 11 rfl rfl)
theorem dX0_readMan_108 : decode cX0_readMan 108 = .ok (.imul, 1) := dk_104 (dk_at dksX0_readMan_4 14 rfl rfl)
theorem dX0_readMan_109 : decode cX0_readMan 109 = .ok (.iload 5, 2) := dk_21 5 (dk_at dksX0_readMan_4 15 rfl rfl)
theorem dX0_readMan_111 : decode cX0_readMan 111 = .ok (.iadd, 1) := dk_96 (dk_at dksX0_readMan_4 17 rfl rfl)
theorem dX0_readMan_112 : decode cX0_readMan 112 = .ok (.aload_n 0, 1) := dk_42 (dk_at dksX0_readMan_4 18 rfl rfl)
theorem dX0_readMan_113 : decode cX0_readMan 113 = .ok (.getfield 46, 3) := dk_180 0 46 (dk_at dksX0_readMan_4 19 rfl rfl)
theorem dX0_readMan_116 : decode cX0_readMan 116 = .ok (.getfield 83, 3) := dk_180 0 83 (dk_at dksX0_readMan_5 0 rfl rfl)
theorem dX0_readMan_119 : decode cX0_readMan 119 = .ok (.iastore, 1) := dk_79 (dk_at dksX0_readMan_5 3 rfl rfl)
theorem dX0_readMan_120 : decode cX0_readMan 120 = .ok (.iinc 5 1, 3) := dk_132 5 1 (dk_at dksX0_readMan_5 4 rfl rfl)
theorem dX0_readMan_123 : decode cX0_readMan 123 = .ok (.goto (-75), 3) := dk_167 255 181 (dk_at dksX0_readMan_5 7 rfl rfl)
theorem dX0_readMan_126 : decode cX0_readMan 126 = .ok (.aload_n 0, 1) := dk_42 (dk_at dksX0_readMan_5 10 rfl rfl)
theorem dX0_readMan_127 : decode cX0_readMan 127 = .ok (.getfield 46, 3) := dk_180 0 46 (dk_at dksX0_readMan_5 11 rfl rfl)
theorem dX0_readMan_130 : decode cX0_readMan 130 = .ok (.iload_n 1, 1) := dk_27 (dk_at dksX0_readMan_5 14 rfl rfl)
theorem dX0_readMan_131 : decode cX0_readMan 131 = .ok (.iload_n 3, 1) := dk_29 (dk_at dksX0_readMan_5 15 rfl rfl)
theorem dX0_readMan_132 : decode cX0_readMan 132 = .ok (.invokevirtual 103, 3) := dk_182 0 103 (dk_at dksX0_readMan_5 16 rfl rfl)
theorem dX0_readMan_135 : decode cX0_readMan 135 = .ok (.return_, 1) := dk_177 (dk_at dksX0_readMan_5 19 rfl rfl)
abbrev cX0_nextLetter : ByteArray := prog_1_method_13_code
def yX0_nextLetter : MethodName := ⟨RX0, "nextLetter", "()I"⟩
def dkwX0_nextLetter_2 : List UInt8 := [162, 0, 15, 42, 180, 0, 42, 42, 180, 0, 158, 52, 167, 0, 4, 2, 172]
abbrev dktX0_nextLetter_2 : List UInt8 := dkwX0_nextLetter_2 ++ []
def dkwX0_nextLetter_1 : List UInt8 := [160, 0, 16, 42, 89, 180, 0, 158, 4, 96, 181, 0, 158, 167, 255, 221, 42, 180, 0, 158, 42, 180, 0, 155]
abbrev dktX0_nextLetter_1 : List UInt8 := dkwX0_nextLetter_1 ++ dktX0_nextLetter_2
def dkwX0_nextLetter_0 : List UInt8 := [42, 180, 0, 158, 42, 180, 0, 155, 162, 0, 30, 42, 180, 0, 42, 42, 180, 0, 158, 52, 16, 32]
abbrev dktX0_nextLetter_0 : List UInt8 := dkwX0_nextLetter_0 ++ dktX0_nextLetter_1
theorem dksX0_nextLetter_0 : cX0_nextLetter.data.toList.drop 0 = dktX0_nextLetter_0 := by decide +kernel
theorem dksX0_nextLetter_1 : cX0_nextLetter.data.toList.drop 22 = dktX0_nextLetter_1 := dk_seg dksX0_nextLetter_0 22 rfl rfl
theorem dksX0_nextLetter_2 : cX0_nextLetter.data.toList.drop 46 = dktX0_nextLetter_2 := dk_seg dksX0_nextLetter_1 24 rfl rfl
theorem dX0_nextLetter_0 : decode cX0_nextLetter 0 = .ok (.aload_n 0, 1) := dk_42 (dk_at dksX0_nextLetter_0 0 rfl rfl)
theorem dX0_nextLetter_1 : decode cX0_nextLetter 1 = .ok (.getfield 158, 3) := dk_180 0 158 (dk_at dksX0_nextLetter_0 1 rfl rfl)
theorem dX0_nextLetter_4 : decode cX0_nextLetter 4 = .ok (.aload_n 0, 1) := dk_42 (dk_at dksX0_nextLetter_0 4 rfl rfl)
theorem dX0_nextLetter_5 : decode cX0_nextLetter 5 = .ok (.getfield 155, 3) := dk_180 0 155 (dk_at dksX0_nextLetter_0 5 rfl rfl)
theorem dX0_nextLetter_8 : decode cX0_nextLetter 8 = .ok (.if_icmp .ge 30, 3) := dk_162 0 30 (dk_at dksX0_nextLetter_0 8 rfl rfl)
theorem dX0_nextLetter_11 : decode cX0_nextLetter 11 = .ok (.aload_n 0, 1) := dk_42 (dk_at dksX0_nextLetter_0 11 rfl rfl)
theorem dX0_nextLetter_12 : decode cX0_nextLetter 12 = .ok (.getfield 42, 3) := dk_180 0 42 (dk_at dksX0_nextLetter_0 12 rfl rfl)
theorem dX0_nextLetter_15 : decode cX0_nextLetter 15 = .ok (.aload_n 0, 1) := dk_42 (dk_at dksX0_nextLetter_0 15 rfl rfl)
theorem dX0_nextLetter_16 : decode cX0_nextLetter 16 = .ok (.getfield 158, 3) := dk_180 0 158 (dk_at dksX0_nextLetter_0 16 rfl rfl)
theorem dX0_nextLetter_19 : decode cX0_nextLetter 19 = .ok (.caload, 1) := dk_52 (dk_at dksX0_nextLetter_0 19 rfl rfl)
theorem dX0_nextLetter_20 : decode cX0_nextLetter 20 = .ok (.bipush 32, 2) := dk_16 32 (dk_at dksX0_nextLetter_0 20 rfl rfl)
theorem dX0_nextLetter_22 : decode cX0_nextLetter 22 = .ok (.if_icmp .ne 16, 3) := dk_160 0 16 (dk_at dksX0_nextLetter_1 0 rfl rfl)
theorem dX0_nextLetter_25 : decode cX0_nextLetter 25 = .ok (.aload_n 0, 1) := dk_42 (dk_at dksX0_nextLetter_1 3 rfl rfl)
theorem dX0_nextLetter_26 : decode cX0_nextLetter 26 = .ok (.dup, 1) := dk_89 (dk_at dksX0_nextLetter_1 4 rfl rfl)
theorem dX0_nextLetter_27 : decode cX0_nextLetter 27 = .ok (.getfield 158, 3) := dk_180 0 158 (dk_at dksX0_nextLetter_1 5 rfl rfl)
theorem dX0_nextLetter_30 : decode cX0_nextLetter 30 = .ok (.iconst 1, 1) := dk_4 (dk_at dksX0_nextLetter_1 8 rfl rfl)
theorem dX0_nextLetter_31 : decode cX0_nextLetter 31 = .ok (.iadd, 1) := dk_96 (dk_at dksX0_nextLetter_1 9 rfl rfl)
theorem dX0_nextLetter_32 : decode cX0_nextLetter 32 = .ok (.putfield 158, 3) := dk_181 0 158 (dk_at dksX0_nextLetter_1 10 rfl rfl)
theorem dX0_nextLetter_35 : decode cX0_nextLetter 35 = .ok (.goto (-35), 3) := dk_167 255 221 (dk_at dksX0_nextLetter_1 13 rfl rfl)
theorem dX0_nextLetter_38 : decode cX0_nextLetter 38 = .ok (.aload_n 0, 1) := dk_42 (dk_at dksX0_nextLetter_1 16 rfl rfl)
theorem dX0_nextLetter_39 : decode cX0_nextLetter 39 = .ok (.getfield 158, 3) := dk_180 0 158 (dk_at dksX0_nextLetter_1 17 rfl rfl)
theorem dX0_nextLetter_42 : decode cX0_nextLetter 42 = .ok (.aload_n 0, 1) := dk_42 (dk_at dksX0_nextLetter_1 20 rfl rfl)
theorem dX0_nextLetter_43 : decode cX0_nextLetter 43 = .ok (.getfield 155, 3) := dk_180 0 155 (dk_at dksX0_nextLetter_1 21 rfl rfl)
theorem dX0_nextLetter_46 : decode cX0_nextLetter 46 = .ok (.if_icmp .ge 15, 3) := dk_162 0 15 (dk_at dksX0_nextLetter_2 0 rfl rfl)
theorem dX0_nextLetter_49 : decode cX0_nextLetter 49 = .ok (.aload_n 0, 1) := dk_42 (dk_at dksX0_nextLetter_2 3 rfl rfl)
theorem dX0_nextLetter_50 : decode cX0_nextLetter 50 = .ok (.getfield 42, 3) := dk_180 0 42 (dk_at dksX0_nextLetter_2 4 rfl rfl)
theorem dX0_nextLetter_53 : decode cX0_nextLetter 53 = .ok (.aload_n 0, 1) := dk_42 (dk_at dksX0_nextLetter_2 7 rfl rfl)
theorem dX0_nextLetter_54 : decode cX0_nextLetter 54 = .ok (.getfield 158, 3) := dk_180 0 158 (dk_at dksX0_nextLetter_2 8 rfl rfl)
theorem dX0_nextLetter_57 : decode cX0_nextLetter 57 = .ok (.caload, 1) := dk_52 (dk_at dksX0_nextLetter_2 11 rfl rfl)
theorem dX0_nextLetter_58 : decode cX0_nextLetter 58 = .ok (.goto 4, 3) := dk_167 0 4 (dk_at dksX0_nextLetter_2 12 rfl rfl)
theorem dX0_nextLetter_61 : decode cX0_nextLetter 61 = .ok (.iconst (-1), 1) := dk_2 (dk_at dksX0_nextLetter_2 15 rfl rfl)
theorem dX0_nextLetter_62 : decode cX0_nextLetter 62 = .ok (.ireturn, 1) := dk_172 (dk_at dksX0_nextLetter_2 16 rfl rfl)
abbrev cX0_kindBy : ByteArray := prog_1_method_18_code
def yX0_kindBy : MethodName := ⟨RX0, "kindBy", "(I)I"⟩
def dkwX0_kindBy_2 : List UInt8 := [167, 0, 5, 16, 252, 172]
abbrev dktX0_kindBy_2 : List UInt8 := dkwX0_kindBy_2 ++ []
def dkwX0_kindBy_1 : List UInt8 := [160, 0, 7, 5, 167, 0, 25, 26, 16, 100, 160, 0, 7, 6, 167, 0, 15, 26, 16, 114, 160, 0, 7, 7]
abbrev dktX0_kindBy_1 : List UInt8 := dkwX0_kindBy_1 ++ dktX0_kindBy_2
def dkwX0_kindBy_0 : List UInt8 := [26, 16, 112, 160, 0, 7, 3, 167, 0, 45, 26, 16, 104, 160, 0, 7, 4, 167, 0, 35, 26, 16, 117]
abbrev dktX0_kindBy_0 : List UInt8 := dkwX0_kindBy_0 ++ dktX0_kindBy_1
theorem dksX0_kindBy_0 : cX0_kindBy.data.toList.drop 0 = dktX0_kindBy_0 := by decide +kernel
theorem dksX0_kindBy_1 : cX0_kindBy.data.toList.drop 23 = dktX0_kindBy_1 := dk_seg dksX0_kindBy_0 23 rfl rfl
theorem dksX0_kindBy_2 : cX0_kindBy.data.toList.drop 47 = dktX0_kindBy_2 := dk_seg dksX0_kindBy_1 24 rfl rfl
theorem dX0_kindBy_0 : decode cX0_kindBy 0 = .ok (.iload_n 0, 1) := dk_26 (dk_at dksX0_kindBy_0 0 rfl rfl)
theorem dX0_kindBy_1 : decode cX0_kindBy 1 = .ok (.bipush 112, 2) := dk_16 112 (dk_at dksX0_kindBy_0 1 rfl rfl)
theorem dX0_kindBy_3 : decode cX0_kindBy 3 = .ok (.if_icmp .ne 7, 3) := dk_160 0 7 (dk_at dksX0_kindBy_0 3 rfl rfl)
theorem dX0_kindBy_6 : decode cX0_kindBy 6 = .ok (.iconst 0, 1) := dk_3 (dk_at dksX0_kindBy_0 6 rfl rfl)
theorem dX0_kindBy_7 : decode cX0_kindBy 7 = .ok (.goto 45, 3) := dk_167 0 45 (dk_at dksX0_kindBy_0 7 rfl rfl)
theorem dX0_kindBy_10 : decode cX0_kindBy 10 = .ok (.iload_n 0, 1) := dk_26 (dk_at dksX0_kindBy_0 10 rfl rfl)
theorem dX0_kindBy_11 : decode cX0_kindBy 11 = .ok (.bipush 104, 2) := dk_16 104 (dk_at dksX0_kindBy_0 11 rfl rfl)
theorem dX0_kindBy_13 : decode cX0_kindBy 13 = .ok (.if_icmp .ne 7, 3) := dk_160 0 7 (dk_at dksX0_kindBy_0 13 rfl rfl)
theorem dX0_kindBy_16 : decode cX0_kindBy 16 = .ok (.iconst 1, 1) := dk_4 (dk_at dksX0_kindBy_0 16 rfl rfl)
theorem dX0_kindBy_17 : decode cX0_kindBy 17 = .ok (.goto 35, 3) := dk_167 0 35 (dk_at dksX0_kindBy_0 17 rfl rfl)
theorem dX0_kindBy_20 : decode cX0_kindBy 20 = .ok (.iload_n 0, 1) := dk_26 (dk_at dksX0_kindBy_0 20 rfl rfl)
theorem dX0_kindBy_21 : decode cX0_kindBy 21 = .ok (.bipush 117, 2) := dk_16 117 (dk_at dksX0_kindBy_0 21 rfl rfl)
theorem dX0_kindBy_23 : decode cX0_kindBy 23 = .ok (.if_icmp .ne 7, 3) := dk_160 0 7 (dk_at dksX0_kindBy_1 0 rfl rfl)
theorem dX0_kindBy_26 : decode cX0_kindBy 26 = .ok (.iconst 2, 1) := dk_5 (dk_at dksX0_kindBy_1 3 rfl rfl)
theorem dX0_kindBy_27 : decode cX0_kindBy 27 = .ok (.goto 25, 3) := dk_167 0 25 (dk_at dksX0_kindBy_1 4 rfl rfl)
theorem dX0_kindBy_30 : decode cX0_kindBy 30 = .ok (.iload_n 0, 1) := dk_26 (dk_at dksX0_kindBy_1 7 rfl rfl)
theorem dX0_kindBy_31 : decode cX0_kindBy 31 = .ok (.bipush 100, 2) := dk_16 100 (dk_at dksX0_kindBy_1 8 rfl rfl)
theorem dX0_kindBy_33 : decode cX0_kindBy 33 = .ok (.if_icmp .ne 7, 3) := dk_160 0 7 (dk_at dksX0_kindBy_1 10 rfl rfl)
theorem dX0_kindBy_36 : decode cX0_kindBy 36 = .ok (.iconst 3, 1) := dk_6 (dk_at dksX0_kindBy_1 13 rfl rfl)
theorem dX0_kindBy_37 : decode cX0_kindBy 37 = .ok (.goto 15, 3) := dk_167 0 15 (dk_at dksX0_kindBy_1 14 rfl rfl)
theorem dX0_kindBy_40 : decode cX0_kindBy 40 = .ok (.iload_n 0, 1) := dk_26 (dk_at dksX0_kindBy_1 17 rfl rfl)
theorem dX0_kindBy_41 : decode cX0_kindBy 41 = .ok (.bipush 114, 2) := dk_16 114 (dk_at dksX0_kindBy_1 18 rfl rfl)
theorem dX0_kindBy_43 : decode cX0_kindBy 43 = .ok (.if_icmp .ne 7, 3) := dk_160 0 7 (dk_at dksX0_kindBy_1 20 rfl rfl)
theorem dX0_kindBy_46 : decode cX0_kindBy 46 = .ok (.iconst 4, 1) := dk_7 (dk_at dksX0_kindBy_1 23 rfl rfl)
theorem dX0_kindBy_47 : decode cX0_kindBy 47 = .ok (.goto 5, 3) := dk_167 0 5 (dk_at dksX0_kindBy_2 0 rfl rfl)
theorem dX0_kindBy_50 : decode cX0_kindBy 50 = .ok (.bipush (-4), 2) := dk_16 252 (dk_at dksX0_kindBy_2 3 rfl rfl)
theorem dX0_kindBy_52 : decode cX0_kindBy 52 = .ok (.ireturn, 1) := dk_172 (dk_at dksX0_kindBy_2 5 rfl rfl)
abbrev cX0_wrong : ByteArray := prog_1_method_14_code
def yX0_wrong : MethodName := ⟨RX0, "wrong", "()LBattleBench$Fault;"⟩
def dkwX0_wrong_0 : List UInt8 := [42, 182, 0, 161, 87, 42, 180, 0, 38, 42, 180, 0, 158, 181, 0, 165, 42, 180, 0, 38, 176]
abbrev dktX0_wrong_0 : List UInt8 := dkwX0_wrong_0 ++ []
theorem dksX0_wrong_0 : cX0_wrong.data.toList.drop 0 = dktX0_wrong_0 := by decide +kernel
theorem dX0_wrong_0 : decode cX0_wrong 0 = .ok (.aload_n 0, 1) := dk_42 (dk_at dksX0_wrong_0 0 rfl rfl)
theorem dX0_wrong_1 : decode cX0_wrong 1 = .ok (.invokevirtual 161, 3) := dk_182 0 161 (dk_at dksX0_wrong_0 1 rfl rfl)
theorem dX0_wrong_4 : decode cX0_wrong 4 = .ok (.pop, 1) := dk_87 (dk_at dksX0_wrong_0 4 rfl rfl)
theorem dX0_wrong_5 : decode cX0_wrong 5 = .ok (.aload_n 0, 1) := dk_42 (dk_at dksX0_wrong_0 5 rfl rfl)
theorem dX0_wrong_6 : decode cX0_wrong 6 = .ok (.getfield 38, 3) := dk_180 0 38 (dk_at dksX0_wrong_0 6 rfl rfl)
theorem dX0_wrong_9 : decode cX0_wrong 9 = .ok (.aload_n 0, 1) := dk_42 (dk_at dksX0_wrong_0 9 rfl rfl)
theorem dX0_wrong_10 : decode cX0_wrong 10 = .ok (.getfield 158, 3) := dk_180 0 158 (dk_at dksX0_wrong_0 10 rfl rfl)
theorem dX0_wrong_13 : decode cX0_wrong 13 = .ok (.putfield 165, 3) := dk_181 0 165 (dk_at dksX0_wrong_0 13 rfl rfl)
theorem dX0_wrong_16 : decode cX0_wrong 16 = .ok (.aload_n 0, 1) := dk_42 (dk_at dksX0_wrong_0 16 rfl rfl)
theorem dX0_wrong_17 : decode cX0_wrong 17 = .ok (.getfield 38, 3) := dk_180 0 38 (dk_at dksX0_wrong_0 17 rfl rfl)
theorem dX0_wrong_20 : decode cX0_wrong 20 = .ok (.areturn, 1) := dk_176 (dk_at dksX0_wrong_0 20 rfl rfl)
abbrev cX0_readLife : ByteArray := prog_1_method_17_code
def yX0_readLife : MethodName := ⟨RX0, "readLife", "()I"⟩
def dkwX0_readLife_5 : List UInt8 := [27, 182, 0, 176, 191, 28, 172]
abbrev dktX0_readLife_5 : List UInt8 := dkwX0_readLife_5 ++ []
def dkwX0_readLife_4 : List UInt8 := [180, 0, 158, 4, 96, 181, 0, 158, 167, 255, 185, 28, 133, 10, 20, 0, 94, 184, 0, 86, 154, 0, 9, 42]
abbrev dktX0_readLife_4 : List UInt8 := dkwX0_readLife_4 ++ dktX0_readLife_5
def dkwX0_readLife_3 : List UInt8 := [153, 0, 34, 16, 10, 28, 104, 42, 180, 0, 42, 42, 180, 0, 158, 52, 96, 16, 48, 100, 61, 42, 89]
abbrev dktX0_readLife_3 : List UInt8 := dkwX0_readLife_3 ++ dktX0_readLife_4
def dkwX0_readLife_2 : List UInt8 := [162, 0, 56, 42, 180, 0, 42, 42, 180, 0, 158, 52, 133, 20, 0, 168, 20, 0, 170, 184, 0, 86]
abbrev dktX0_readLife_2 : List UInt8 := dkwX0_readLife_2 ++ dktX0_readLife_3
def dkwX0_readLife_1 : List UInt8 := [180, 0, 158, 60, 3, 61, 42, 180, 0, 158, 42, 180, 0, 155, 162, 0, 66, 42, 180, 0, 158, 27, 5, 96]
abbrev dktX0_readLife_1 : List UInt8 := dkwX0_readLife_1 ++ dktX0_readLife_2
def dkwX0_readLife_0 : List UInt8 := [42, 182, 0, 161, 133, 20, 0, 168, 20, 0, 170, 184, 0, 86, 154, 0, 8, 42, 182, 0, 172, 191, 42]
abbrev dktX0_readLife_0 : List UInt8 := dkwX0_readLife_0 ++ dktX0_readLife_1
theorem dksX0_readLife_0 : cX0_readLife.data.toList.drop 0 = dktX0_readLife_0 := by decide +kernel
theorem dksX0_readLife_1 : cX0_readLife.data.toList.drop 23 = dktX0_readLife_1 := dk_seg dksX0_readLife_0 23 rfl rfl
theorem dksX0_readLife_2 : cX0_readLife.data.toList.drop 47 = dktX0_readLife_2 := dk_seg dksX0_readLife_1 24 rfl rfl
theorem dksX0_readLife_3 : cX0_readLife.data.toList.drop 69 = dktX0_readLife_3 := dk_seg dksX0_readLife_2 22 rfl rfl
theorem dksX0_readLife_4 : cX0_readLife.data.toList.drop 92 = dktX0_readLife_4 := dk_seg dksX0_readLife_3 23 rfl rfl
theorem dksX0_readLife_5 : cX0_readLife.data.toList.drop 116 = dktX0_readLife_5 := dk_seg dksX0_readLife_4 24 rfl rfl
theorem dX0_readLife_0 : decode cX0_readLife 0 = .ok (.aload_n 0, 1) := dk_42 (dk_at dksX0_readLife_0 0 rfl rfl)
theorem dX0_readLife_1 : decode cX0_readLife 1 = .ok (.invokevirtual 161, 3) := dk_182 0 161 (dk_at dksX0_readLife_0 1 rfl rfl)
theorem dX0_readLife_4 : decode cX0_readLife 4 = .ok (.i2l, 1) := dk_133 (dk_at dksX0_readLife_0 4 rfl rfl)
theorem dX0_readLife_5 : decode cX0_readLife 5 = .ok (.ldc2_w 168, 3) := dk_20 0 168 (dk_at dksX0_readLife_0 5 rfl rfl)
theorem dX0_readLife_8 : decode cX0_readLife 8 = .ok (.ldc2_w 170, 3) := dk_20 0 170 (dk_at dksX0_readLife_0 8 rfl rfl)
theorem dX0_readLife_11 : decode cX0_readLife 11 = .ok (.invokestatic 86, 3) := dk_184 0 86 (dk_at dksX0_readLife_0 11 rfl rfl)
theorem dX0_readLife_14 : decode cX0_readLife 14 = .ok (.ifCond .ne 8, 3) := dk_154 0 8 (dk_at dksX0_readLife_0 14 rfl rfl)
theorem dX0_readLife_17 : decode cX0_readLife 17 = .ok (.aload_n 0, 1) := dk_42 (dk_at dksX0_readLife_0 17 rfl rfl)
theorem dX0_readLife_18 : decode cX0_readLife 18 = .ok (.invokevirtual 172, 3) := dk_182 0 172 (dk_at dksX0_readLife_0 18 rfl rfl)
theorem dX0_readLife_21 : decode cX0_readLife 21 = .ok (.athrow, 1) := dk_191 (dk_at dksX0_readLife_0 21 rfl rfl)
theorem dX0_readLife_22 : decode cX0_readLife 22 = .ok (.aload_n 0, 1) := dk_42 (dk_at dksX0_readLife_0 22 rfl rfl)
theorem dX0_readLife_23 : decode cX0_readLife 23 = .ok (.getfield 158, 3) := dk_180 0 158 (dk_at dksX0_readLife_1 0 rfl rfl)
theorem dX0_readLife_26 : decode cX0_readLife 26 = .ok (.istore_n 1, 1) := dk_60 (dk_at dksX0_readLife_1 3 rfl rfl)
theorem dX0_readLife_27 : decode cX0_readLife 27 = .ok (.iconst 0, 1) := dk_3 (dk_at dksX0_readLife_1 4 rfl rfl)
theorem dX0_readLife_28 : decode cX0_readLife 28 = .ok (.istore_n 2, 1) := dk_61 (dk_at dksX0_readLife_1 5 rfl rfl)
theorem dX0_readLife_29 : decode cX0_readLife 29 = .ok (.aload_n 0, 1) := dk_42 (dk_at dksX0_readLife_1 6 rfl rfl)
theorem dX0_readLife_30 : decode cX0_readLife 30 = .ok (.getfield 158, 3) := dk_180 0 158 (dk_at dksX0_readLife_1 7 rfl rfl)
theorem dX0_readLife_33 : decode cX0_readLife 33 = .ok (.aload_n 0, 1) := dk_42 (dk_at dksX0_readLife_1 10 rfl rfl)
theorem dX0_readLife_34 : decode cX0_readLife 34 = .ok (.getfield 155, 3) := dk_180 0 155 (dk_at dksX0_readLife_1 11 rfl rfl)
theorem dX0_readLife_37 : decode cX0_readLife 37 = .ok (.if_icmp .ge 66, 3) := dk_162 0 66 (dk_at dksX0_readLife_1 14 rfl rfl)
theorem dX0_readLife_40 : decode cX0_readLife 40 = .ok (.aload_n 0, 1) := dk_42 (dk_at dksX0_readLife_1 17 rfl rfl)
theorem dX0_readLife_41 : decode cX0_readLife 41 = .ok (.getfield 158, 3) := dk_180 0 158 (dk_at dksX0_readLife_1 18 rfl rfl)
theorem dX0_readLife_44 : decode cX0_readLife 44 = .ok (.iload_n 1, 1) := dk_27 (dk_at dksX0_readLife_1 21 rfl rfl)
theorem dX0_readLife_45 : decode cX0_readLife 45 = .ok (.iconst 2, 1) := dk_5 (dk_at dksX0_readLife_1 22 rfl rfl)
theorem dX0_readLife_46 : decode cX0_readLife 46 = .ok (.iadd, 1) := dk_96 (dk_at dksX0_readLife_1 23 rfl rfl)
theorem dX0_readLife_47 : decode cX0_readLife 47 = .ok (.if_icmp .ge 56, 3) := dk_162 0 56 (dk_at dksX0_readLife_2 0 rfl rfl)
theorem dX0_readLife_50 : decode cX0_readLife 50 = .ok (.aload_n 0, 1) := dk_42 (dk_at dksX0_readLife_2 3 rfl rfl)
theorem dX0_readLife_51 : decode cX0_readLife 51 = .ok (.getfield 42, 3) := dk_180 0 42 (dk_at dksX0_readLife_2 4 rfl rfl)
theorem dX0_readLife_54 : decode cX0_readLife 54 = .ok (.aload_n 0, 1) := dk_42 (dk_at dksX0_readLife_2 7 rfl rfl)
theorem dX0_readLife_55 : decode cX0_readLife 55 = .ok (.getfield 158, 3) := dk_180 0 158 (dk_at dksX0_readLife_2 8 rfl rfl)
theorem dX0_readLife_58 : decode cX0_readLife 58 = .ok (.caload, 1) := dk_52 (dk_at dksX0_readLife_2 11 rfl rfl)
theorem dX0_readLife_59 : decode cX0_readLife 59 = .ok (.i2l, 1) := dk_133 (dk_at dksX0_readLife_2 12 rfl rfl)
theorem dX0_readLife_60 : decode cX0_readLife 60 = .ok (.ldc2_w 168, 3) := dk_20 0 168 (dk_at dksX0_readLife_2 13 rfl rfl)
theorem dX0_readLife_63 : decode cX0_readLife 63 = .ok (.ldc2_w 170, 3) := dk_20 0 170 (dk_at dksX0_readLife_2 16 rfl rfl)
theorem dX0_readLife_66 : decode cX0_readLife 66 = .ok (.invokestatic 86, 3) := dk_184 0 86 (dk_at dksX0_readLife_2 19 rfl rfl)
theorem dX0_readLife_69 : decode cX0_readLife 69 = .ok (.ifCond .eq 34, 3) := dk_153 0 34 (dk_at dksX0_readLife_3 0 rfl rfl)
theorem dX0_readLife_72 : decode cX0_readLife 72 = .ok (.bipush 10, 2) := dk_16 10 (dk_at dksX0_readLife_3 3 rfl rfl)
theorem dX0_readLife_74 : decode cX0_readLife 74 = .ok (.iload_n 2, 1) := dk_28 (dk_at dksX0_readLife_3 5 rfl rfl)
theorem dX0_readLife_75 : decode cX0_readLife 75 = .ok (.imul, 1) := dk_104 (dk_at dksX0_readLife_3 6 rfl rfl)
theorem dX0_readLife_76 : decode cX0_readLife 76 = .ok (.aload_n 0, 1) := dk_42 (dk_at dksX0_readLife_3 7 rfl rfl)
theorem dX0_readLife_77 : decode cX0_readLife 77 = .ok (.getfield 42, 3) := dk_180 0 42 (dk_at dksX0_readLife_3 8 rfl rfl)
theorem dX0_readLife_80 : decode cX0_readLife 80 = .ok (.aload_n 0, 1) := dk_42 (dk_at dksX0_readLife_3 11 rfl rfl)
theorem dX0_readLife_81 : decode cX0_readLife 81 = .ok (.getfield 158, 3) := dk_180 0 158 (dk_at dksX0_readLife_3 12 rfl rfl)
theorem dX0_readLife_84 : decode cX0_readLife 84 = .ok (.caload, 1) := dk_52 (dk_at dksX0_readLife_3 15 rfl rfl)
theorem dX0_readLife_85 : decode cX0_readLife 85 = .ok (.iadd, 1) := dk_96 (dk_at dksX0_readLife_3 16 rfl rfl)
theorem dX0_readLife_86 : decode cX0_readLife 86 = .ok (.bipush 48, 2) := dk_16 48 (dk_at dksX0_readLife_3 17 rfl rfl)
theorem dX0_readLife_88 : decode cX0_readLife 88 = .ok (.isub, 1) := dk_100 (dk_at dksX0_readLife_3 19 rfl rfl)
theorem dX0_readLife_89 : decode cX0_readLife 89 = .ok (.istore_n 2, 1) := dk_61 (dk_at dksX0_readLife_3 20 rfl rfl)
theorem dX0_readLife_90 : decode cX0_readLife 90 = .ok (.aload_n 0, 1) := dk_42 (dk_at dksX0_readLife_3 21 rfl rfl)
theorem dX0_readLife_91 : decode cX0_readLife 91 = .ok (.dup, 1) := dk_89 (dk_at dksX0_readLife_3 22 rfl rfl)
theorem dX0_readLife_92 : decode cX0_readLife 92 = .ok (.getfield 158, 3) := dk_180 0 158 (dk_at dksX0_readLife_4 0 rfl rfl)
theorem dX0_readLife_95 : decode cX0_readLife 95 = .ok (.iconst 1, 1) := dk_4 (dk_at dksX0_readLife_4 3 rfl rfl)
theorem dX0_readLife_96 : decode cX0_readLife 96 = .ok (.iadd, 1) := dk_96 (dk_at dksX0_readLife_4 4 rfl rfl)
theorem dX0_readLife_97 : decode cX0_readLife 97 = .ok (.putfield 158, 3) := dk_181 0 158 (dk_at dksX0_readLife_4 5 rfl rfl)
theorem dX0_readLife_100 : decode cX0_readLife 100 = .ok (.goto (-71), 3) := dk_167 255 185 (dk_at dksX0_readLife_4 8 rfl rfl)
theorem dX0_readLife_103 : decode cX0_readLife 103 = .ok (.iload_n 2, 1) := dk_28 (dk_at dksX0_readLife_4 11 rfl rfl)
theorem dX0_readLife_104 : decode cX0_readLife 104 = .ok (.i2l, 1) := dk_133 (dk_at dksX0_readLife_4 12 rfl rfl)
theorem dX0_readLife_105 : decode cX0_readLife 105 = .ok (.lconst 1, 1) := dk_10 (dk_at dksX0_readLife_4 13 rfl rfl)
theorem dX0_readLife_106 : decode cX0_readLife 106 = .ok (.ldc2_w 94, 3) := dk_20 0 94 (dk_at dksX0_readLife_4 14 rfl rfl)
theorem dX0_readLife_109 : decode cX0_readLife 109 = .ok (.invokestatic 86, 3) := dk_184 0 86 (dk_at dksX0_readLife_4 17 rfl rfl)
theorem dX0_readLife_112 : decode cX0_readLife 112 = .ok (.ifCond .ne 9, 3) := dk_154 0 9 (dk_at dksX0_readLife_4 20 rfl rfl)
theorem dX0_readLife_115 : decode cX0_readLife 115 = .ok (.aload_n 0, 1) := dk_42 (dk_at dksX0_readLife_4 23 rfl rfl)
theorem dX0_readLife_116 : decode cX0_readLife 116 = .ok (.iload_n 1, 1) := dk_27 (dk_at dksX0_readLife_5 0 rfl rfl)
theorem dX0_readLife_117 : decode cX0_readLife 117 = .ok (.invokevirtual 176, 3) := dk_182 0 176 (dk_at dksX0_readLife_5 1 rfl rfl)
theorem dX0_readLife_120 : decode cX0_readLife 120 = .ok (.athrow, 1) := dk_191 (dk_at dksX0_readLife_5 4 rfl rfl)
theorem dX0_readLife_121 : decode cX0_readLife 121 = .ok (.iload_n 2, 1) := dk_28 (dk_at dksX0_readLife_5 5 rfl rfl)
theorem dX0_readLife_122 : decode cX0_readLife 122 = .ok (.ireturn, 1) := dk_172 (dk_at dksX0_readLife_5 6 rfl rfl)
abbrev cX0_wrongAt : ByteArray := prog_1_method_15_code
def yX0_wrongAt : MethodName := ⟨RX0, "wrongAt", "(I)LBattleBench$Fault;"⟩
def dkwX0_wrongAt_0 : List UInt8 := [42, 180, 0, 38, 27, 181, 0, 165, 42, 180, 0, 38, 176]
abbrev dktX0_wrongAt_0 : List UInt8 := dkwX0_wrongAt_0 ++ []
theorem dksX0_wrongAt_0 : cX0_wrongAt.data.toList.drop 0 = dktX0_wrongAt_0 := by decide +kernel
theorem dX0_wrongAt_0 : decode cX0_wrongAt 0 = .ok (.aload_n 0, 1) := dk_42 (dk_at dksX0_wrongAt_0 0 rfl rfl)
theorem dX0_wrongAt_1 : decode cX0_wrongAt 1 = .ok (.getfield 38, 3) := dk_180 0 38 (dk_at dksX0_wrongAt_0 1 rfl rfl)
theorem dX0_wrongAt_4 : decode cX0_wrongAt 4 = .ok (.iload_n 1, 1) := dk_27 (dk_at dksX0_wrongAt_0 4 rfl rfl)
theorem dX0_wrongAt_5 : decode cX0_wrongAt 5 = .ok (.putfield 165, 3) := dk_181 0 165 (dk_at dksX0_wrongAt_0 5 rfl rfl)
theorem dX0_wrongAt_8 : decode cX0_wrongAt 8 = .ok (.aload_n 0, 1) := dk_42 (dk_at dksX0_wrongAt_0 8 rfl rfl)
theorem dX0_wrongAt_9 : decode cX0_wrongAt 9 = .ok (.getfield 38, 3) := dk_180 0 38 (dk_at dksX0_wrongAt_0 9 rfl rfl)
theorem dX0_wrongAt_12 : decode cX0_wrongAt 12 = .ok (.areturn, 1) := dk_176 (dk_at dksX0_wrongAt_0 12 rfl rfl)
abbrev cX0_isSign : ByteArray := prog_1_method_16_code
def yX0_isSign : MethodName := ⟨RX0, "isSign", "(I)Z"⟩
def dkwX0_isSign_0 : List UInt8 := [42, 182, 0, 161, 27, 159, 0, 5, 3, 172, 42, 89, 180, 0, 158, 4, 96, 181, 0, 158, 4, 172]
abbrev dktX0_isSign_0 : List UInt8 := dkwX0_isSign_0 ++ []
theorem dksX0_isSign_0 : cX0_isSign.data.toList.drop 0 = dktX0_isSign_0 := by decide +kernel
theorem dX0_isSign_0 : decode cX0_isSign 0 = .ok (.aload_n 0, 1) := dk_42 (dk_at dksX0_isSign_0 0 rfl rfl)
theorem dX0_isSign_1 : decode cX0_isSign 1 = .ok (.invokevirtual 161, 3) := dk_182 0 161 (dk_at dksX0_isSign_0 1 rfl rfl)
theorem dX0_isSign_4 : decode cX0_isSign 4 = .ok (.iload_n 1, 1) := dk_27 (dk_at dksX0_isSign_0 4 rfl rfl)
theorem dX0_isSign_5 : decode cX0_isSign 5 = .ok (.if_icmp .eq 5, 3) := dk_159 0 5 (dk_at dksX0_isSign_0 5 rfl rfl)
theorem dX0_isSign_8 : decode cX0_isSign 8 = .ok (.iconst 0, 1) := dk_3 (dk_at dksX0_isSign_0 8 rfl rfl)
theorem dX0_isSign_9 : decode cX0_isSign 9 = .ok (.ireturn, 1) := dk_172 (dk_at dksX0_isSign_0 9 rfl rfl)
theorem dX0_isSign_10 : decode cX0_isSign 10 = .ok (.aload_n 0, 1) := dk_42 (dk_at dksX0_isSign_0 10 rfl rfl)
theorem dX0_isSign_11 : decode cX0_isSign 11 = .ok (.dup, 1) := dk_89 (dk_at dksX0_isSign_0 11 rfl rfl)
theorem dX0_isSign_12 : decode cX0_isSign 12 = .ok (.getfield 158, 3) := dk_180 0 158 (dk_at dksX0_isSign_0 12 rfl rfl)
theorem dX0_isSign_15 : decode cX0_isSign 15 = .ok (.iconst 1, 1) := dk_4 (dk_at dksX0_isSign_0 15 rfl rfl)
theorem dX0_isSign_16 : decode cX0_isSign 16 = .ok (.iadd, 1) := dk_96 (dk_at dksX0_isSign_0 16 rfl rfl)
theorem dX0_isSign_17 : decode cX0_isSign 17 = .ok (.putfield 158, 3) := dk_181 0 158 (dk_at dksX0_isSign_0 17 rfl rfl)
theorem dX0_isSign_20 : decode cX0_isSign 20 = .ok (.iconst 1, 1) := dk_4 (dk_at dksX0_isSign_0 20 rfl rfl)
theorem dX0_isSign_21 : decode cX0_isSign 21 = .ok (.ireturn, 1) := dk_172 (dk_at dksX0_isSign_0 21 rfl rfl)
abbrev cX0_readPlace : ByteArray := prog_1_method_19_code
def yX0_readPlace : MethodName := ⟨RX0, "readPlace", "(I)V"⟩
def dkwX0_readPlace_2 : List UInt8 := [180, 0, 46, 180, 0, 100, 6, 42, 180, 0, 46, 180, 0, 83, 104, 27, 96, 28, 79, 177]
abbrev dktX0_readPlace_2 : List UInt8 := dkwX0_readPlace_2 ++ []
def dkwX0_readPlace_1 : List UInt8 := [27, 28, 182, 0, 96, 155, 0, 8, 42, 182, 0, 172, 191, 42, 89, 180, 0, 158, 4, 96, 181, 0, 158, 42]
abbrev dktX0_readPlace_1 : List UInt8 := dkwX0_readPlace_1 ++ dktX0_readPlace_2
def dkwX0_readPlace_0 : List UInt8 := [42, 182, 0, 161, 16, 48, 100, 61, 28, 133, 9, 20, 0, 117, 184, 0, 86, 153, 0, 15, 42, 180, 0, 46]
abbrev dktX0_readPlace_0 : List UInt8 := dkwX0_readPlace_0 ++ dktX0_readPlace_1
theorem dksX0_readPlace_0 : cX0_readPlace.data.toList.drop 0 = dktX0_readPlace_0 := by decide +kernel
theorem dksX0_readPlace_1 : cX0_readPlace.data.toList.drop 24 = dktX0_readPlace_1 := dk_seg dksX0_readPlace_0 24 rfl rfl
theorem dksX0_readPlace_2 : cX0_readPlace.data.toList.drop 48 = dktX0_readPlace_2 := dk_seg dksX0_readPlace_1 24 rfl rfl
theorem dX0_readPlace_0 : decode cX0_readPlace 0 = .ok (.aload_n 0, 1) := dk_42 (dk_at dksX0_readPlace_0 0 rfl rfl)
theorem dX0_readPlace_1 : decode cX0_readPlace 1 = .ok (.invokevirtual 161, 3) := dk_182 0 161 (dk_at dksX0_readPlace_0 1 rfl rfl)
theorem dX0_readPlace_4 : decode cX0_readPlace 4 = .ok (.bipush 48, 2) := dk_16 48 (dk_at dksX0_readPlace_0 4 rfl rfl)
theorem dX0_readPlace_6 : decode cX0_readPlace 6 = .ok (.isub, 1) := dk_100 (dk_at dksX0_readPlace_0 6 rfl rfl)
theorem dX0_readPlace_7 : decode cX0_readPlace 7 = .ok (.istore_n 2, 1) := dk_61 (dk_at dksX0_readPlace_0 7 rfl rfl)
theorem dX0_readPlace_8 : decode cX0_readPlace 8 = .ok (.iload_n 2, 1) := dk_28 (dk_at dksX0_readPlace_0 8 rfl rfl)
theorem dX0_readPlace_9 : decode cX0_readPlace 9 = .ok (.i2l, 1) := dk_133 (dk_at dksX0_readPlace_0 9 rfl rfl)
theorem dX0_readPlace_10 : decode cX0_readPlace 10 = .ok (.lconst 0, 1) := dk_9 (dk_at dksX0_readPlace_0 10 rfl rfl)
theorem dX0_readPlace_11 : decode cX0_readPlace 11 = .ok (.ldc2_w 117, 3) := dk_20 0 117 (dk_at dksX0_readPlace_0 11 rfl rfl)
theorem dX0_readPlace_14 : decode cX0_readPlace 14 = .ok (.invokestatic 86, 3) := dk_184 0 86 (dk_at dksX0_readPlace_0 14 rfl rfl)
theorem dX0_readPlace_17 : decode cX0_readPlace 17 = .ok (.ifCond .eq 15, 3) := dk_153 0 15 (dk_at dksX0_readPlace_0 17 rfl rfl)
theorem dX0_readPlace_20 : decode cX0_readPlace 20 = .ok (.aload_n 0, 1) := dk_42 (dk_at dksX0_readPlace_0 20 rfl rfl)
theorem dX0_readPlace_21 : decode cX0_readPlace 21 = .ok (.getfield 46, 3) := dk_180 0 46 (dk_at dksX0_readPlace_0 21 rfl rfl)
theorem dX0_readPlace_24 : decode cX0_readPlace 24 = .ok (.iload_n 1, 1) := dk_27 (dk_at dksX0_readPlace_1 0 rfl rfl)
theorem dX0_readPlace_25 : decode cX0_readPlace 25 = .ok (.iload_n 2, 1) := dk_28 (dk_at dksX0_readPlace_1 1 rfl rfl)
theorem dX0_readPlace_26 : decode cX0_readPlace 26 = .ok (.invokevirtual 96, 3) := dk_182 0 96 (dk_at dksX0_readPlace_1 2 rfl rfl)
theorem dX0_readPlace_29 : decode cX0_readPlace 29 = .ok (.ifCond .lt 8, 3) := dk_155 0 8 (dk_at dksX0_readPlace_1 5 rfl rfl)
theorem dX0_readPlace_32 : decode cX0_readPlace 32 = .ok (.aload_n 0, 1) := dk_42 (dk_at dksX0_readPlace_1 8 rfl rfl)
theorem dX0_readPlace_33 : decode cX0_readPlace 33 = .ok (.invokevirtual 172, 3) := dk_182 0 172 (dk_at dksX0_readPlace_1 9 rfl rfl)
theorem dX0_readPlace_36 : decode cX0_readPlace 36 = .ok (.athrow, 1) := dk_191 (dk_at dksX0_readPlace_1 12 rfl rfl)
theorem dX0_readPlace_37 : decode cX0_readPlace 37 = .ok (.aload_n 0, 1) := dk_42 (dk_at dksX0_readPlace_1 13 rfl rfl)
theorem dX0_readPlace_38 : decode cX0_readPlace 38 = .ok (.dup, 1) := dk_89 (dk_at dksX0_readPlace_1 14 rfl rfl)
theorem dX0_readPlace_39 : decode cX0_readPlace 39 = .ok (.getfield 158, 3) := dk_180 0 158 (dk_at dksX0_readPlace_1 15 rfl rfl)
theorem dX0_readPlace_42 : decode cX0_readPlace 42 = .ok (.iconst 1, 1) := dk_4 (dk_at dksX0_readPlace_1 18 rfl rfl)
theorem dX0_readPlace_43 : decode cX0_readPlace 43 = .ok (.iadd, 1) := dk_96 (dk_at dksX0_readPlace_1 19 rfl rfl)
theorem dX0_readPlace_44 : decode cX0_readPlace 44 = .ok (.putfield 158, 3) := dk_181 0 158 (dk_at dksX0_readPlace_1 20 rfl rfl)
theorem dX0_readPlace_47 : decode cX0_readPlace 47 = .ok (.aload_n 0, 1) := dk_42 (dk_at dksX0_readPlace_1 23 rfl rfl)
theorem dX0_readPlace_48 : decode cX0_readPlace 48 = .ok (.getfield 46, 3) := dk_180 0 46 (dk_at dksX0_readPlace_2 0 rfl rfl)
theorem dX0_readPlace_51 : decode cX0_readPlace 51 = .ok (.getfield 100, 3) := dk_180 0 100 (dk_at dksX0_readPlace_2 3 rfl rfl)
theorem dX0_readPlace_54 : decode cX0_readPlace 54 = .ok (.iconst 3, 1) := dk_6 (dk_at dksX0_readPlace_2 6 rfl rfl)
theorem dX0_readPlace_55 : decode cX0_readPlace 55 = .ok (.aload_n 0, 1) := dk_42 (dk_at dksX0_readPlace_2 7 rfl rfl)
theorem dX0_readPlace_56 : decode cX0_readPlace 56 = .ok (.getfield 46, 3) := dk_180 0 46 (dk_at dksX0_readPlace_2 8 rfl rfl)
theorem dX0_readPlace_59 : decode cX0_readPlace 59 = .ok (.getfield 83, 3) := dk_180 0 83 (dk_at dksX0_readPlace_2 11 rfl rfl)
theorem dX0_readPlace_62 : decode cX0_readPlace 62 = .ok (.imul, 1) := dk_104 (dk_at dksX0_readPlace_2 14 rfl rfl)
theorem dX0_readPlace_63 : decode cX0_readPlace 63 = .ok (.iload_n 1, 1) := dk_27 (dk_at dksX0_readPlace_2 15 rfl rfl)
theorem dX0_readPlace_64 : decode cX0_readPlace 64 = .ok (.iadd, 1) := dk_96 (dk_at dksX0_readPlace_2 16 rfl rfl)
theorem dX0_readPlace_65 : decode cX0_readPlace 65 = .ok (.iload_n 2, 1) := dk_28 (dk_at dksX0_readPlace_2 17 rfl rfl)
theorem dX0_readPlace_66 : decode cX0_readPlace 66 = .ok (.iastore, 1) := dk_79 (dk_at dksX0_readPlace_2 18 rfl rfl)
theorem dX0_readPlace_67 : decode cX0_readPlace 67 = .ok (.return_, 1) := dk_177 (dk_at dksX0_readPlace_2 19 rfl rfl)
abbrev cX0_count : ByteArray := prog_1_method_25_code
def yX0_count : MethodName := ⟨RX0, "count", "(I)I"⟩
def dkwX0_count_4 : List UInt8 := [172]
abbrev dktX0_count_4 : List UInt8 := dkwX0_count_4 ++ []
def dkwX0_count_3 : List UInt8 := [42, 180, 0, 31, 182, 0, 213, 172, 42, 182, 0, 216, 172, 42, 182, 0, 219, 172, 42, 180, 0, 107, 172, 2]
abbrev dktX0_count_3 : List UInt8 := dkwX0_count_3 ++ dktX0_count_4
def dkwX0_count_2 : List UInt8 := [42, 180, 0, 31, 180, 0, 83, 172, 42, 180, 0, 31, 180, 0, 145, 172, 42, 180, 0, 31, 180, 0, 210, 172]
abbrev dktX0_count_2 : List UInt8 := dkwX0_count_2 ++ dktX0_count_3
def dkwX0_count_1 : List UInt8 := [170, 0, 0, 0, 0, 0, 90, 0, 0, 0, 0, 0, 0, 0, 6, 0, 0, 0, 43, 0, 0, 0, 51, 0, 0, 0, 59, 0, 0, 0, 67, 0, 0, 0, 75, 0, 0, 0, 80, 0, 0, 0, 85]
abbrev dktX0_count_1 : List UInt8 := dkwX0_count_1 ++ dktX0_count_2
def dkwX0_count_0 : List UInt8 := [27]
abbrev dktX0_count_0 : List UInt8 := dkwX0_count_0 ++ dktX0_count_1
theorem dksX0_count_0 : cX0_count.data.toList.drop 0 = dktX0_count_0 := by decide +kernel
theorem dksX0_count_1 : cX0_count.data.toList.drop 1 = dktX0_count_1 := dk_seg dksX0_count_0 1 rfl rfl
theorem dksX0_count_2 : cX0_count.data.toList.drop 44 = dktX0_count_2 := dk_seg dksX0_count_1 43 rfl rfl
theorem dksX0_count_3 : cX0_count.data.toList.drop 68 = dktX0_count_3 := dk_seg dksX0_count_2 24 rfl rfl
theorem dksX0_count_4 : cX0_count.data.toList.drop 92 = dktX0_count_4 := dk_seg dksX0_count_3 24 rfl rfl
theorem dX0_count_0 : decode cX0_count 0 = .ok (.iload_n 1, 1) := dk_27 (dk_at dksX0_count_0 0 rfl rfl)
theorem dX0_count_1 : decode cX0_count 1 = .ok (.tableswitch 90 0 6 #[43, 51, 59, 67, 75, 80, 85], 43) := by decide +kernel
theorem dX0_count_44 : decode cX0_count 44 = .ok (.aload_n 0, 1) := dk_42 (dk_at dksX0_count_2 0 rfl rfl)
theorem dX0_count_45 : decode cX0_count 45 = .ok (.getfield 31, 3) := dk_180 0 31 (dk_at dksX0_count_2 1 rfl rfl)
theorem dX0_count_48 : decode cX0_count 48 = .ok (.getfield 83, 3) := dk_180 0 83 (dk_at dksX0_count_2 4 rfl rfl)
theorem dX0_count_51 : decode cX0_count 51 = .ok (.ireturn, 1) := dk_172 (dk_at dksX0_count_2 7 rfl rfl)
theorem dX0_count_52 : decode cX0_count 52 = .ok (.aload_n 0, 1) := dk_42 (dk_at dksX0_count_2 8 rfl rfl)
theorem dX0_count_53 : decode cX0_count 53 = .ok (.getfield 31, 3) := dk_180 0 31 (dk_at dksX0_count_2 9 rfl rfl)
theorem dX0_count_56 : decode cX0_count 56 = .ok (.getfield 145, 3) := dk_180 0 145 (dk_at dksX0_count_2 12 rfl rfl)
theorem dX0_count_59 : decode cX0_count 59 = .ok (.ireturn, 1) := dk_172 (dk_at dksX0_count_2 15 rfl rfl)
theorem dX0_count_60 : decode cX0_count 60 = .ok (.aload_n 0, 1) := dk_42 (dk_at dksX0_count_2 16 rfl rfl)
theorem dX0_count_61 : decode cX0_count 61 = .ok (.getfield 31, 3) := dk_180 0 31 (dk_at dksX0_count_2 17 rfl rfl)
theorem dX0_count_64 : decode cX0_count 64 = .ok (.getfield 210, 3) := dk_180 0 210 (dk_at dksX0_count_2 20 rfl rfl)
theorem dX0_count_67 : decode cX0_count 67 = .ok (.ireturn, 1) := dk_172 (dk_at dksX0_count_2 23 rfl rfl)
theorem dX0_count_68 : decode cX0_count 68 = .ok (.aload_n 0, 1) := dk_42 (dk_at dksX0_count_3 0 rfl rfl)
theorem dX0_count_69 : decode cX0_count 69 = .ok (.getfield 31, 3) := dk_180 0 31 (dk_at dksX0_count_3 1 rfl rfl)
theorem dX0_count_72 : decode cX0_count 72 = .ok (.invokevirtual 213, 3) := dk_182 0 213 (dk_at dksX0_count_3 4 rfl rfl)
theorem dX0_count_75 : decode cX0_count 75 = .ok (.ireturn, 1) := dk_172 (dk_at dksX0_count_3 7 rfl rfl)
theorem dX0_count_76 : decode cX0_count 76 = .ok (.aload_n 0, 1) := dk_42 (dk_at dksX0_count_3 8 rfl rfl)
theorem dX0_count_77 : decode cX0_count 77 = .ok (.invokevirtual 216, 3) := dk_182 0 216 (dk_at dksX0_count_3 9 rfl rfl)
theorem dX0_count_80 : decode cX0_count 80 = .ok (.ireturn, 1) := dk_172 (dk_at dksX0_count_3 12 rfl rfl)
theorem dX0_count_81 : decode cX0_count 81 = .ok (.aload_n 0, 1) := dk_42 (dk_at dksX0_count_3 13 rfl rfl)
theorem dX0_count_82 : decode cX0_count 82 = .ok (.invokevirtual 219, 3) := dk_182 0 219 (dk_at dksX0_count_3 14 rfl rfl)
theorem dX0_count_85 : decode cX0_count 85 = .ok (.ireturn, 1) := dk_172 (dk_at dksX0_count_3 17 rfl rfl)
theorem dX0_count_86 : decode cX0_count 86 = .ok (.aload_n 0, 1) := dk_42 (dk_at dksX0_count_3 18 rfl rfl)
theorem dX0_count_87 : decode cX0_count 87 = .ok (.getfield 107, 3) := dk_180 0 107 (dk_at dksX0_count_3 19 rfl rfl)
theorem dX0_count_90 : decode cX0_count 90 = .ok (.ireturn, 1) := dk_172 (dk_at dksX0_count_3 22 rfl rfl)
theorem dX0_count_91 : decode cX0_count 91 = .ok (.iconst (-1), 1) := dk_2 (dk_at dksX0_count_3 23 rfl rfl)
theorem dX0_count_92 : decode cX0_count 92 = .ok (.ireturn, 1) := dk_172 (dk_at dksX0_count_4 0 rfl rfl)
abbrev cX0_allLife : ByteArray := prog_1_method_23_code
def yX0_allLife : MethodName := ⟨RX0, "allLife", "()I"⟩
def dkwX0_allLife_1 : List UInt8 := [46, 96, 60, 132, 2, 1, 167, 255, 230, 27, 172]
abbrev dktX0_allLife_1 : List UInt8 := dkwX0_allLife_1 ++ []
def dkwX0_allLife_0 : List UInt8 := [3, 60, 3, 61, 28, 42, 180, 0, 31, 180, 0, 83, 162, 0, 21, 27, 42, 180, 0, 31, 180, 0, 133, 28]
abbrev dktX0_allLife_0 : List UInt8 := dkwX0_allLife_0 ++ dktX0_allLife_1
theorem dksX0_allLife_0 : cX0_allLife.data.toList.drop 0 = dktX0_allLife_0 := by decide +kernel
theorem dksX0_allLife_1 : cX0_allLife.data.toList.drop 24 = dktX0_allLife_1 := dk_seg dksX0_allLife_0 24 rfl rfl
theorem dX0_allLife_0 : decode cX0_allLife 0 = .ok (.iconst 0, 1) := dk_3 (dk_at dksX0_allLife_0 0 rfl rfl)
theorem dX0_allLife_1 : decode cX0_allLife 1 = .ok (.istore_n 1, 1) := dk_60 (dk_at dksX0_allLife_0 1 rfl rfl)
theorem dX0_allLife_2 : decode cX0_allLife 2 = .ok (.iconst 0, 1) := dk_3 (dk_at dksX0_allLife_0 2 rfl rfl)
theorem dX0_allLife_3 : decode cX0_allLife 3 = .ok (.istore_n 2, 1) := dk_61 (dk_at dksX0_allLife_0 3 rfl rfl)
theorem dX0_allLife_4 : decode cX0_allLife 4 = .ok (.iload_n 2, 1) := dk_28 (dk_at dksX0_allLife_0 4 rfl rfl)
theorem dX0_allLife_5 : decode cX0_allLife 5 = .ok (.aload_n 0, 1) := dk_42 (dk_at dksX0_allLife_0 5 rfl rfl)
theorem dX0_allLife_6 : decode cX0_allLife 6 = .ok (.getfield 31, 3) := dk_180 0 31 (dk_at dksX0_allLife_0 6 rfl rfl)
theorem dX0_allLife_9 : decode cX0_allLife 9 = .ok (.getfield 83, 3) := dk_180 0 83 (dk_at dksX0_allLife_0 9 rfl rfl)
theorem dX0_allLife_12 : decode cX0_allLife 12 = .ok (.if_icmp .ge 21, 3) := dk_162 0 21 (dk_at dksX0_allLife_0 12 rfl rfl)
theorem dX0_allLife_15 : decode cX0_allLife 15 = .ok (.iload_n 1, 1) := dk_27 (dk_at dksX0_allLife_0 15 rfl rfl)
theorem dX0_allLife_16 : decode cX0_allLife 16 = .ok (.aload_n 0, 1) := dk_42 (dk_at dksX0_allLife_0 16 rfl rfl)
theorem dX0_allLife_17 : decode cX0_allLife 17 = .ok (.getfield 31, 3) := dk_180 0 31 (dk_at dksX0_allLife_0 17 rfl rfl)
theorem dX0_allLife_20 : decode cX0_allLife 20 = .ok (.getfield 133, 3) := dk_180 0 133 (dk_at dksX0_allLife_0 20 rfl rfl)
theorem dX0_allLife_23 : decode cX0_allLife 23 = .ok (.iload_n 2, 1) := dk_28 (dk_at dksX0_allLife_0 23 rfl rfl)
theorem dX0_allLife_24 : decode cX0_allLife 24 = .ok (.iaload, 1) := dk_46 (dk_at dksX0_allLife_1 0 rfl rfl)
theorem dX0_allLife_25 : decode cX0_allLife 25 = .ok (.iadd, 1) := dk_96 (dk_at dksX0_allLife_1 1 rfl rfl)
theorem dX0_allLife_26 : decode cX0_allLife 26 = .ok (.istore_n 1, 1) := dk_60 (dk_at dksX0_allLife_1 2 rfl rfl)
theorem dX0_allLife_27 : decode cX0_allLife 27 = .ok (.iinc 2 1, 3) := dk_132 2 1 (dk_at dksX0_allLife_1 3 rfl rfl)
theorem dX0_allLife_30 : decode cX0_allLife 30 = .ok (.goto (-26), 3) := dk_167 255 230 (dk_at dksX0_allLife_1 6 rfl rfl)
theorem dX0_allLife_33 : decode cX0_allLife 33 = .ok (.iload_n 1, 1) := dk_27 (dk_at dksX0_allLife_1 9 rfl rfl)
theorem dX0_allLife_34 : decode cX0_allLife 34 = .ok (.ireturn, 1) := dk_172 (dk_at dksX0_allLife_1 10 rfl rfl)
abbrev cX0_wrongMany : ByteArray := prog_1_method_24_code
def yX0_wrongMany : MethodName := ⟨RX0, "wrongMany", "()I"⟩
def dkwX0_wrongMany_2 : List UInt8 := [167, 0, 4, 4, 96, 60, 132, 2, 1, 167, 255, 204, 27, 172]
abbrev dktX0_wrongMany_2 : List UInt8 := dkwX0_wrongMany_2 ++ []
def dkwX0_wrongMany_1 : List UInt8 := [180, 0, 148, 28, 4, 100, 46, 42, 180, 0, 31, 180, 0, 148, 28, 46, 182, 0, 206, 153, 0, 7, 3]
abbrev dktX0_wrongMany_1 : List UInt8 := dkwX0_wrongMany_1 ++ dktX0_wrongMany_2
def dkwX0_wrongMany_0 : List UInt8 := [3, 60, 4, 61, 28, 42, 180, 0, 31, 180, 0, 145, 162, 0, 47, 27, 42, 180, 0, 31, 42, 180, 0, 31]
abbrev dktX0_wrongMany_0 : List UInt8 := dkwX0_wrongMany_0 ++ dktX0_wrongMany_1
theorem dksX0_wrongMany_0 : cX0_wrongMany.data.toList.drop 0 = dktX0_wrongMany_0 := by decide +kernel
theorem dksX0_wrongMany_1 : cX0_wrongMany.data.toList.drop 24 = dktX0_wrongMany_1 := dk_seg dksX0_wrongMany_0 24 rfl rfl
theorem dksX0_wrongMany_2 : cX0_wrongMany.data.toList.drop 47 = dktX0_wrongMany_2 := dk_seg dksX0_wrongMany_1 23 rfl rfl
theorem dX0_wrongMany_0 : decode cX0_wrongMany 0 = .ok (.iconst 0, 1) := dk_3 (dk_at dksX0_wrongMany_0 0 rfl rfl)
theorem dX0_wrongMany_1 : decode cX0_wrongMany 1 = .ok (.istore_n 1, 1) := dk_60 (dk_at dksX0_wrongMany_0 1 rfl rfl)
theorem dX0_wrongMany_2 : decode cX0_wrongMany 2 = .ok (.iconst 1, 1) := dk_4 (dk_at dksX0_wrongMany_0 2 rfl rfl)
theorem dX0_wrongMany_3 : decode cX0_wrongMany 3 = .ok (.istore_n 2, 1) := dk_61 (dk_at dksX0_wrongMany_0 3 rfl rfl)
theorem dX0_wrongMany_4 : decode cX0_wrongMany 4 = .ok (.iload_n 2, 1) := dk_28 (dk_at dksX0_wrongMany_0 4 rfl rfl)
theorem dX0_wrongMany_5 : decode cX0_wrongMany 5 = .ok (.aload_n 0, 1) := dk_42 (dk_at dksX0_wrongMany_0 5 rfl rfl)
theorem dX0_wrongMany_6 : decode cX0_wrongMany 6 = .ok (.getfield 31, 3) := dk_180 0 31 (dk_at dksX0_wrongMany_0 6 rfl rfl)
theorem dX0_wrongMany_9 : decode cX0_wrongMany 9 = .ok (.getfield 145, 3) := dk_180 0 145 (dk_at dksX0_wrongMany_0 9 rfl rfl)
theorem dX0_wrongMany_12 : decode cX0_wrongMany 12 = .ok (.if_icmp .ge 47, 3) := dk_162 0 47 (dk_at dksX0_wrongMany_0 12 rfl rfl)
theorem dX0_wrongMany_15 : decode cX0_wrongMany 15 = .ok (.iload_n 1, 1) := dk_27 (dk_at dksX0_wrongMany_0 15 rfl rfl)
theorem dX0_wrongMany_16 : decode cX0_wrongMany 16 = .ok (.aload_n 0, 1) := dk_42 (dk_at dksX0_wrongMany_0 16 rfl rfl)
theorem dX0_wrongMany_17 : decode cX0_wrongMany 17 = .ok (.getfield 31, 3) := dk_180 0 31 (dk_at dksX0_wrongMany_0 17 rfl rfl)
theorem dX0_wrongMany_20 : decode cX0_wrongMany 20 = .ok (.aload_n 0, 1) := dk_42 (dk_at dksX0_wrongMany_0 20 rfl rfl)
theorem dX0_wrongMany_21 : decode cX0_wrongMany 21 = .ok (.getfield 31, 3) := dk_180 0 31 (dk_at dksX0_wrongMany_0 21 rfl rfl)
theorem dX0_wrongMany_24 : decode cX0_wrongMany 24 = .ok (.getfield 148, 3) := dk_180 0 148 (dk_at dksX0_wrongMany_1 0 rfl rfl)
theorem dX0_wrongMany_27 : decode cX0_wrongMany 27 = .ok (.iload_n 2, 1) := dk_28 (dk_at dksX0_wrongMany_1 3 rfl rfl)
theorem dX0_wrongMany_28 : decode cX0_wrongMany 28 = .ok (.iconst 1, 1) := dk_4 (dk_at dksX0_wrongMany_1 4 rfl rfl)
theorem dX0_wrongMany_29 : decode cX0_wrongMany 29 = .ok (.isub, 1) := dk_100 (dk_at dksX0_wrongMany_1 5 rfl rfl)
theorem dX0_wrongMany_30 : decode cX0_wrongMany 30 = .ok (.iaload, 1) := dk_46 (dk_at dksX0_wrongMany_1 6 rfl rfl)
theorem dX0_wrongMany_31 : decode cX0_wrongMany 31 = .ok (.aload_n 0, 1) := dk_42 (dk_at dksX0_wrongMany_1 7 rfl rfl)
theorem dX0_wrongMany_32 : decode cX0_wrongMany 32 = .ok (.getfield 31, 3) := dk_180 0 31 (dk_at dksX0_wrongMany_1 8 rfl rfl)
theorem dX0_wrongMany_35 : decode cX0_wrongMany 35 = .ok (.getfield 148, 3) := dk_180 0 148 (dk_at dksX0_wrongMany_1 11 rfl rfl)
theorem dX0_wrongMany_38 : decode cX0_wrongMany 38 = .ok (.iload_n 2, 1) := dk_28 (dk_at dksX0_wrongMany_1 14 rfl rfl)
theorem dX0_wrongMany_39 : decode cX0_wrongMany 39 = .ok (.iaload, 1) := dk_46 (dk_at dksX0_wrongMany_1 15 rfl rfl)
theorem dX0_wrongMany_40 : decode cX0_wrongMany 40 = .ok (.invokevirtual 206, 3) := dk_182 0 206 (dk_at dksX0_wrongMany_1 16 rfl rfl)
theorem dX0_wrongMany_43 : decode cX0_wrongMany 43 = .ok (.ifCond .eq 7, 3) := dk_153 0 7 (dk_at dksX0_wrongMany_1 19 rfl rfl)
theorem dX0_wrongMany_46 : decode cX0_wrongMany 46 = .ok (.iconst 0, 1) := dk_3 (dk_at dksX0_wrongMany_1 22 rfl rfl)
theorem dX0_wrongMany_47 : decode cX0_wrongMany 47 = .ok (.goto 4, 3) := dk_167 0 4 (dk_at dksX0_wrongMany_2 0 rfl rfl)
theorem dX0_wrongMany_50 : decode cX0_wrongMany 50 = .ok (.iconst 1, 1) := dk_4 (dk_at dksX0_wrongMany_2 3 rfl rfl)
theorem dX0_wrongMany_51 : decode cX0_wrongMany 51 = .ok (.iadd, 1) := dk_96 (dk_at dksX0_wrongMany_2 4 rfl rfl)
theorem dX0_wrongMany_52 : decode cX0_wrongMany 52 = .ok (.istore_n 1, 1) := dk_60 (dk_at dksX0_wrongMany_2 5 rfl rfl)
theorem dX0_wrongMany_53 : decode cX0_wrongMany 53 = .ok (.iinc 2 1, 3) := dk_132 2 1 (dk_at dksX0_wrongMany_2 6 rfl rfl)
theorem dX0_wrongMany_56 : decode cX0_wrongMany 56 = .ok (.goto (-52), 3) := dk_167 255 204 (dk_at dksX0_wrongMany_2 9 rfl rfl)
theorem dX0_wrongMany_59 : decode cX0_wrongMany 59 = .ok (.iload_n 1, 1) := dk_27 (dk_at dksX0_wrongMany_2 12 rfl rfl)
theorem dX0_wrongMany_60 : decode cX0_wrongMany 60 = .ok (.ireturn, 1) := dk_172 (dk_at dksX0_wrongMany_2 13 rfl rfl)
abbrev cX0_years : ByteArray := prog_1_method_29_code
def yX0_years : MethodName := ⟨RX0, "years", "(I)I"⟩
def dkwX0_years_1 : List UInt8 := [182, 0, 247, 132, 3, 1, 167, 255, 240, 42, 180, 0, 31, 182, 0, 213, 172]
abbrev dktX0_years_1 : List UInt8 := dkwX0_years_1 ++ []
def dkwX0_years_0 : List UInt8 := [42, 27, 182, 0, 241, 61, 28, 156, 0, 5, 28, 172, 3, 62, 29, 27, 162, 0, 17, 42, 182, 0, 244, 42]
abbrev dktX0_years_0 : List UInt8 := dkwX0_years_0 ++ dktX0_years_1
theorem dksX0_years_0 : cX0_years.data.toList.drop 0 = dktX0_years_0 := by decide +kernel
theorem dksX0_years_1 : cX0_years.data.toList.drop 24 = dktX0_years_1 := dk_seg dksX0_years_0 24 rfl rfl
theorem dX0_years_0 : decode cX0_years 0 = .ok (.aload_n 0, 1) := dk_42 (dk_at dksX0_years_0 0 rfl rfl)
theorem dX0_years_1 : decode cX0_years 1 = .ok (.iload_n 1, 1) := dk_27 (dk_at dksX0_years_0 1 rfl rfl)
theorem dX0_years_2 : decode cX0_years 2 = .ok (.invokevirtual 241, 3) := dk_182 0 241 (dk_at dksX0_years_0 2 rfl rfl)
theorem dX0_years_5 : decode cX0_years 5 = .ok (.istore_n 2, 1) := dk_61 (dk_at dksX0_years_0 5 rfl rfl)
theorem dX0_years_6 : decode cX0_years 6 = .ok (.iload_n 2, 1) := dk_28 (dk_at dksX0_years_0 6 rfl rfl)
theorem dX0_years_7 : decode cX0_years 7 = .ok (.ifCond .ge 5, 3) := dk_156 0 5 (dk_at dksX0_years_0 7 rfl rfl)
theorem dX0_years_10 : decode cX0_years 10 = .ok (.iload_n 2, 1) := dk_28 (dk_at dksX0_years_0 10 rfl rfl)
theorem dX0_years_11 : decode cX0_years 11 = .ok (.ireturn, 1) := dk_172 (dk_at dksX0_years_0 11 rfl rfl)
theorem dX0_years_12 : decode cX0_years 12 = .ok (.iconst 0, 1) := dk_3 (dk_at dksX0_years_0 12 rfl rfl)
theorem dX0_years_13 : decode cX0_years 13 = .ok (.istore_n 3, 1) := dk_62 (dk_at dksX0_years_0 13 rfl rfl)
theorem dX0_years_14 : decode cX0_years 14 = .ok (.iload_n 3, 1) := dk_29 (dk_at dksX0_years_0 14 rfl rfl)
theorem dX0_years_15 : decode cX0_years 15 = .ok (.iload_n 1, 1) := dk_27 (dk_at dksX0_years_0 15 rfl rfl)
theorem dX0_years_16 : decode cX0_years 16 = .ok (.if_icmp .ge 17, 3) := dk_162 0 17 (dk_at dksX0_years_0 16 rfl rfl)
theorem dX0_years_19 : decode cX0_years 19 = .ok (.aload_n 0, 1) := dk_42 (dk_at dksX0_years_0 19 rfl rfl)
theorem dX0_years_20 : decode cX0_years 20 = .ok (.invokevirtual 244, 3) := dk_182 0 244 (dk_at dksX0_years_0 20 rfl rfl)
theorem dX0_years_23 : decode cX0_years 23 = .ok (.aload_n 0, 1) := dk_42 (dk_at dksX0_years_0 23 rfl rfl)
theorem dX0_years_24 : decode cX0_years 24 = .ok (.invokevirtual 247, 3) := dk_182 0 247 (dk_at dksX0_years_1 0 rfl rfl)
theorem dX0_years_27 : decode cX0_years 27 = .ok (.iinc 3 1, 3) := dk_132 3 1 (dk_at dksX0_years_1 3 rfl rfl)
theorem dX0_years_30 : decode cX0_years 30 = .ok (.goto (-16), 3) := dk_167 255 240 (dk_at dksX0_years_1 6 rfl rfl)
theorem dX0_years_33 : decode cX0_years 33 = .ok (.aload_n 0, 1) := dk_42 (dk_at dksX0_years_1 9 rfl rfl)
theorem dX0_years_34 : decode cX0_years 34 = .ok (.getfield 31, 3) := dk_180 0 31 (dk_at dksX0_years_1 10 rfl rfl)
theorem dX0_years_37 : decode cX0_years 37 = .ok (.invokevirtual 213, 3) := dk_182 0 213 (dk_at dksX0_years_1 13 rfl rfl)
theorem dX0_years_40 : decode cX0_years 40 = .ok (.ireturn, 1) := dk_172 (dk_at dksX0_years_1 16 rfl rfl)
abbrev cX0_lacksTime : ByteArray := prog_1_method_28_code
def yX0_lacksTime : MethodName := ⟨RX0, "lacksTime", "(I)I"⟩
def dkwX0_lacksTime_1 : List UInt8 := [96, 17, 39, 15, 164, 0, 8, 16, 253, 167, 0, 4, 3, 172]
abbrev dktX0_lacksTime_1 : List UInt8 := dkwX0_lacksTime_1 ++ []
def dkwX0_lacksTime_0 : List UInt8 := [27, 133, 10, 20, 0, 239, 184, 0, 86, 154, 0, 7, 2, 167, 0, 24, 42, 180, 0, 31, 180, 0, 210, 27]
abbrev dktX0_lacksTime_0 : List UInt8 := dkwX0_lacksTime_0 ++ dktX0_lacksTime_1
theorem dksX0_lacksTime_0 : cX0_lacksTime.data.toList.drop 0 = dktX0_lacksTime_0 := by decide +kernel
theorem dksX0_lacksTime_1 : cX0_lacksTime.data.toList.drop 24 = dktX0_lacksTime_1 := dk_seg dksX0_lacksTime_0 24 rfl rfl
theorem dX0_lacksTime_0 : decode cX0_lacksTime 0 = .ok (.iload_n 1, 1) := dk_27 (dk_at dksX0_lacksTime_0 0 rfl rfl)
theorem dX0_lacksTime_1 : decode cX0_lacksTime 1 = .ok (.i2l, 1) := dk_133 (dk_at dksX0_lacksTime_0 1 rfl rfl)
theorem dX0_lacksTime_2 : decode cX0_lacksTime 2 = .ok (.lconst 1, 1) := dk_10 (dk_at dksX0_lacksTime_0 2 rfl rfl)
theorem dX0_lacksTime_3 : decode cX0_lacksTime 3 = .ok (.ldc2_w 239, 3) := dk_20 0 239 (dk_at dksX0_lacksTime_0 3 rfl rfl)
theorem dX0_lacksTime_6 : decode cX0_lacksTime 6 = .ok (.invokestatic 86, 3) := dk_184 0 86 (dk_at dksX0_lacksTime_0 6 rfl rfl)
theorem dX0_lacksTime_9 : decode cX0_lacksTime 9 = .ok (.ifCond .ne 7, 3) := dk_154 0 7 (dk_at dksX0_lacksTime_0 9 rfl rfl)
theorem dX0_lacksTime_12 : decode cX0_lacksTime 12 = .ok (.iconst (-1), 1) := dk_2 (dk_at dksX0_lacksTime_0 12 rfl rfl)
theorem dX0_lacksTime_13 : decode cX0_lacksTime 13 = .ok (.goto 24, 3) := dk_167 0 24 (dk_at dksX0_lacksTime_0 13 rfl rfl)
theorem dX0_lacksTime_16 : decode cX0_lacksTime 16 = .ok (.aload_n 0, 1) := dk_42 (dk_at dksX0_lacksTime_0 16 rfl rfl)
theorem dX0_lacksTime_17 : decode cX0_lacksTime 17 = .ok (.getfield 31, 3) := dk_180 0 31 (dk_at dksX0_lacksTime_0 17 rfl rfl)
theorem dX0_lacksTime_20 : decode cX0_lacksTime 20 = .ok (.getfield 210, 3) := dk_180 0 210 (dk_at dksX0_lacksTime_0 20 rfl rfl)
theorem dX0_lacksTime_23 : decode cX0_lacksTime 23 = .ok (.iload_n 1, 1) := dk_27 (dk_at dksX0_lacksTime_0 23 rfl rfl)
theorem dX0_lacksTime_24 : decode cX0_lacksTime 24 = .ok (.iadd, 1) := dk_96 (dk_at dksX0_lacksTime_1 0 rfl rfl)
theorem dX0_lacksTime_25 : decode cX0_lacksTime 25 = .ok (.sipush 9999, 3) := dk_17 39 15 (dk_at dksX0_lacksTime_1 1 rfl rfl)
theorem dX0_lacksTime_28 : decode cX0_lacksTime 28 = .ok (.if_icmp .le 8, 3) := dk_164 0 8 (dk_at dksX0_lacksTime_1 4 rfl rfl)
theorem dX0_lacksTime_31 : decode cX0_lacksTime 31 = .ok (.bipush (-3), 2) := dk_16 253 (dk_at dksX0_lacksTime_1 7 rfl rfl)
theorem dX0_lacksTime_33 : decode cX0_lacksTime 33 = .ok (.goto 4, 3) := dk_167 0 4 (dk_at dksX0_lacksTime_1 9 rfl rfl)
theorem dX0_lacksTime_36 : decode cX0_lacksTime 36 = .ok (.iconst 0, 1) := dk_3 (dk_at dksX0_lacksTime_1 12 rfl rfl)
theorem dX0_lacksTime_37 : decode cX0_lacksTime 37 = .ok (.ireturn, 1) := dk_172 (dk_at dksX0_lacksTime_1 13 rfl rfl)
abbrev cX0_note : ByteArray := prog_1_method_27_code
def yX0_note : MethodName := ⟨RX0, "note", "()V"⟩
def dkwX0_note_3 : List UInt8 := [4, 96, 181, 0, 107, 177]
abbrev dktX0_note_3 : List UInt8 := dkwX0_note_3 ++ []
def dkwX0_note_2 : List UInt8 := [181, 0, 107, 42, 180, 0, 53, 42, 180, 0, 107, 50, 42, 180, 0, 31, 182, 0, 236, 42, 89, 180, 0, 107]
abbrev dktX0_note_2 : List UInt8 := dkwX0_note_2 ++ dktX0_note_3
def dkwX0_note_1 : List UInt8 := [180, 0, 53, 3, 16, 7, 184, 0, 230, 42, 180, 0, 53, 16, 7, 43, 83, 42, 89, 180, 0, 107, 4, 100]
abbrev dktX0_note_1 : List UInt8 := dkwX0_note_1 ++ dktX0_note_2
def dkwX0_note_0 : List UInt8 := [42, 180, 0, 107, 16, 8, 160, 0, 43, 42, 180, 0, 53, 3, 50, 76, 42, 180, 0, 53, 4, 42]
abbrev dktX0_note_0 : List UInt8 := dkwX0_note_0 ++ dktX0_note_1
theorem dksX0_note_0 : cX0_note.data.toList.drop 0 = dktX0_note_0 := by decide +kernel
theorem dksX0_note_1 : cX0_note.data.toList.drop 22 = dktX0_note_1 := dk_seg dksX0_note_0 22 rfl rfl
theorem dksX0_note_2 : cX0_note.data.toList.drop 46 = dktX0_note_2 := dk_seg dksX0_note_1 24 rfl rfl
theorem dksX0_note_3 : cX0_note.data.toList.drop 70 = dktX0_note_3 := dk_seg dksX0_note_2 24 rfl rfl
theorem dX0_note_0 : decode cX0_note 0 = .ok (.aload_n 0, 1) := dk_42 (dk_at dksX0_note_0 0 rfl rfl)
theorem dX0_note_1 : decode cX0_note 1 = .ok (.getfield 107, 3) := dk_180 0 107 (dk_at dksX0_note_0 1 rfl rfl)
theorem dX0_note_4 : decode cX0_note 4 = .ok (.bipush 8, 2) := dk_16 8 (dk_at dksX0_note_0 4 rfl rfl)
theorem dX0_note_6 : decode cX0_note 6 = .ok (.if_icmp .ne 43, 3) := dk_160 0 43 (dk_at dksX0_note_0 6 rfl rfl)
theorem dX0_note_9 : decode cX0_note 9 = .ok (.aload_n 0, 1) := dk_42 (dk_at dksX0_note_0 9 rfl rfl)
theorem dX0_note_10 : decode cX0_note 10 = .ok (.getfield 53, 3) := dk_180 0 53 (dk_at dksX0_note_0 10 rfl rfl)
theorem dX0_note_13 : decode cX0_note 13 = .ok (.iconst 0, 1) := dk_3 (dk_at dksX0_note_0 13 rfl rfl)
theorem dX0_note_14 : decode cX0_note 14 = .ok (.aaload, 1) := dk_50 (dk_at dksX0_note_0 14 rfl rfl)
theorem dX0_note_15 : decode cX0_note 15 = .ok (.astore_n 1, 1) := dk_76 (dk_at dksX0_note_0 15 rfl rfl)
theorem dX0_note_16 : decode cX0_note 16 = .ok (.aload_n 0, 1) := dk_42 (dk_at dksX0_note_0 16 rfl rfl)
theorem dX0_note_17 : decode cX0_note 17 = .ok (.getfield 53, 3) := dk_180 0 53 (dk_at dksX0_note_0 17 rfl rfl)
theorem dX0_note_20 : decode cX0_note 20 = .ok (.iconst 1, 1) := dk_4 (dk_at dksX0_note_0 20 rfl rfl)
theorem dX0_note_21 : decode cX0_note 21 = .ok (.aload_n 0, 1) := dk_42 (dk_at dksX0_note_0 21 rfl rfl)
theorem dX0_note_22 : decode cX0_note 22 = .ok (.getfield 53, 3) := dk_180 0 53 (dk_at dksX0_note_1 0 rfl rfl)
theorem dX0_note_25 : decode cX0_note 25 = .ok (.iconst 0, 1) := dk_3 (dk_at dksX0_note_1 3 rfl rfl)
theorem dX0_note_26 : decode cX0_note 26 = .ok (.bipush 7, 2) := dk_16 7 (dk_at dksX0_note_1 4 rfl rfl)
theorem dX0_note_28 : decode cX0_note 28 = .ok (.invokestatic 230, 3) := dk_184 0 230 (dk_at dksX0_note_1 6 rfl rfl)
theorem dX0_note_31 : decode cX0_note 31 = .ok (.aload_n 0, 1) := dk_42 (dk_at dksX0_note_1 9 rfl rfl)
theorem dX0_note_32 : decode cX0_note 32 = .ok (.getfield 53, 3) := dk_180 0 53 (dk_at dksX0_note_1 10 rfl rfl)
theorem dX0_note_35 : decode cX0_note 35 = .ok (.bipush 7, 2) := dk_16 7 (dk_at dksX0_note_1 13 rfl rfl)
theorem dX0_note_37 : decode cX0_note 37 = .ok (.aload_n 1, 1) := dk_43 (dk_at dksX0_note_1 15 rfl rfl)
theorem dX0_note_38 : decode cX0_note 38 = .ok (.aastore, 1) := dk_83 (dk_at dksX0_note_1 16 rfl rfl)
theorem dX0_note_39 : decode cX0_note 39 = .ok (.aload_n 0, 1) := dk_42 (dk_at dksX0_note_1 17 rfl rfl)
theorem dX0_note_40 : decode cX0_note 40 = .ok (.dup, 1) := dk_89 (dk_at dksX0_note_1 18 rfl rfl)
theorem dX0_note_41 : decode cX0_note 41 = .ok (.getfield 107, 3) := dk_180 0 107 (dk_at dksX0_note_1 19 rfl rfl)
theorem dX0_note_44 : decode cX0_note 44 = .ok (.iconst 1, 1) := dk_4 (dk_at dksX0_note_1 22 rfl rfl)
theorem dX0_note_45 : decode cX0_note 45 = .ok (.isub, 1) := dk_100 (dk_at dksX0_note_1 23 rfl rfl)
theorem dX0_note_46 : decode cX0_note 46 = .ok (.putfield 107, 3) := dk_181 0 107 (dk_at dksX0_note_2 0 rfl rfl)
theorem dX0_note_49 : decode cX0_note 49 = .ok (.aload_n 0, 1) := dk_42 (dk_at dksX0_note_2 3 rfl rfl)
theorem dX0_note_50 : decode cX0_note 50 = .ok (.getfield 53, 3) := dk_180 0 53 (dk_at dksX0_note_2 4 rfl rfl)
theorem dX0_note_53 : decode cX0_note 53 = .ok (.aload_n 0, 1) := dk_42 (dk_at dksX0_note_2 7 rfl rfl)
theorem dX0_note_54 : decode cX0_note 54 = .ok (.getfield 107, 3) := dk_180 0 107 (dk_at dksX0_note_2 8 rfl rfl)
theorem dX0_note_57 : decode cX0_note 57 = .ok (.aaload, 1) := dk_50 (dk_at dksX0_note_2 11 rfl rfl)
theorem dX0_note_58 : decode cX0_note 58 = .ok (.aload_n 0, 1) := dk_42 (dk_at dksX0_note_2 12 rfl rfl)
theorem dX0_note_59 : decode cX0_note 59 = .ok (.getfield 31, 3) := dk_180 0 31 (dk_at dksX0_note_2 13 rfl rfl)
theorem dX0_note_62 : decode cX0_note 62 = .ok (.invokevirtual 236, 3) := dk_182 0 236 (dk_at dksX0_note_2 16 rfl rfl)
theorem dX0_note_65 : decode cX0_note 65 = .ok (.aload_n 0, 1) := dk_42 (dk_at dksX0_note_2 19 rfl rfl)
theorem dX0_note_66 : decode cX0_note 66 = .ok (.dup, 1) := dk_89 (dk_at dksX0_note_2 20 rfl rfl)
theorem dX0_note_67 : decode cX0_note 67 = .ok (.getfield 107, 3) := dk_180 0 107 (dk_at dksX0_note_2 21 rfl rfl)
theorem dX0_note_70 : decode cX0_note 70 = .ok (.iconst 1, 1) := dk_4 (dk_at dksX0_note_3 0 rfl rfl)
theorem dX0_note_71 : decode cX0_note 71 = .ok (.iadd, 1) := dk_96 (dk_at dksX0_note_3 1 rfl rfl)
theorem dX0_note_72 : decode cX0_note 72 = .ok (.putfield 107, 3) := dk_181 0 107 (dk_at dksX0_note_3 2 rfl rfl)
theorem dX0_note_75 : decode cX0_note 75 = .ok (.return_, 1) := dk_177 (dk_at dksX0_note_3 5 rfl rfl)
abbrev cX0_oneYear : ByteArray := prog_1_method_26_code
def yX0_oneYear : MethodName := ⟨RX0, "oneYear", "()V"⟩
def dkwX0_oneYear_4 : List UInt8 := [181, 0, 210, 177]
abbrev dktX0_oneYear_4 : List UInt8 := dkwX0_oneYear_4 ++ []
def dkwX0_oneYear_3 : List UInt8 := [79, 132, 1, 1, 167, 255, 213, 42, 180, 0, 31, 182, 0, 227, 42, 180, 0, 31, 89, 180, 0, 210, 4, 96]
abbrev dktX0_oneYear_3 : List UInt8 := dkwX0_oneYear_3 ++ dktX0_oneYear_4
def dkwX0_oneYear_2 : List UInt8 := [180, 0, 133, 27, 3, 42, 180, 0, 31, 180, 0, 133, 27, 46, 42, 180, 0, 49, 27, 46, 100, 184, 0, 222]
abbrev dktX0_oneYear_2 : List UInt8 := dkwX0_oneYear_2 ++ dktX0_oneYear_3
def dkwX0_oneYear_1 : List UInt8 := [132, 1, 1, 167, 255, 231, 3, 60, 27, 42, 180, 0, 31, 180, 0, 83, 162, 0, 38, 42, 180, 0, 31]
abbrev dktX0_oneYear_1 : List UInt8 := dkwX0_oneYear_1 ++ dktX0_oneYear_2
def dkwX0_oneYear_0 : List UInt8 := [3, 60, 27, 42, 180, 0, 31, 180, 0, 83, 162, 0, 20, 42, 180, 0, 49, 27, 42, 27, 182, 0, 142, 79]
abbrev dktX0_oneYear_0 : List UInt8 := dkwX0_oneYear_0 ++ dktX0_oneYear_1
theorem dksX0_oneYear_0 : cX0_oneYear.data.toList.drop 0 = dktX0_oneYear_0 := by decide +kernel
theorem dksX0_oneYear_1 : cX0_oneYear.data.toList.drop 24 = dktX0_oneYear_1 := dk_seg dksX0_oneYear_0 24 rfl rfl
theorem dksX0_oneYear_2 : cX0_oneYear.data.toList.drop 47 = dktX0_oneYear_2 := dk_seg dksX0_oneYear_1 23 rfl rfl
theorem dksX0_oneYear_3 : cX0_oneYear.data.toList.drop 71 = dktX0_oneYear_3 := dk_seg dksX0_oneYear_2 24 rfl rfl
theorem dksX0_oneYear_4 : cX0_oneYear.data.toList.drop 95 = dktX0_oneYear_4 := dk_seg dksX0_oneYear_3 24 rfl rfl
theorem dX0_oneYear_0 : decode cX0_oneYear 0 = .ok (.iconst 0, 1) := dk_3 (dk_at dksX0_oneYear_0 0 rfl rfl)
theorem dX0_oneYear_1 : decode cX0_oneYear 1 = .ok (.istore_n 1, 1) := dk_60 (dk_at dksX0_oneYear_0 1 rfl rfl)
theorem dX0_oneYear_2 : decode cX0_oneYear 2 = .ok (.iload_n 1, 1) := dk_27 (dk_at dksX0_oneYear_0 2 rfl rfl)
theorem dX0_oneYear_3 : decode cX0_oneYear 3 = .ok (.aload_n 0, 1) := dk_42 (dk_at dksX0_oneYear_0 3 rfl rfl)
theorem dX0_oneYear_4 : decode cX0_oneYear 4 = .ok (.getfield 31, 3) := dk_180 0 31 (dk_at dksX0_oneYear_0 4 rfl rfl)
theorem dX0_oneYear_7 : decode cX0_oneYear 7 = .ok (.getfield 83, 3) := dk_180 0 83 (dk_at dksX0_oneYear_0 7 rfl rfl)
theorem dX0_oneYear_10 : decode cX0_oneYear 10 = .ok (.if_icmp .ge 20, 3) := dk_162 0 20 (dk_at dksX0_oneYear_0 10 rfl rfl)
theorem dX0_oneYear_13 : decode cX0_oneYear 13 = .ok (.aload_n 0, 1) := dk_42 (dk_at dksX0_oneYear_0 13 rfl rfl)
theorem dX0_oneYear_14 : decode cX0_oneYear 14 = .ok (.getfield 49, 3) := dk_180 0 49 (dk_at dksX0_oneYear_0 14 rfl rfl)
theorem dX0_oneYear_17 : decode cX0_oneYear 17 = .ok (.iload_n 1, 1) := dk_27 (dk_at dksX0_oneYear_0 17 rfl rfl)
theorem dX0_oneYear_18 : decode cX0_oneYear 18 = .ok (.aload_n 0, 1) := dk_42 (dk_at dksX0_oneYear_0 18 rfl rfl)
theorem dX0_oneYear_19 : decode cX0_oneYear 19 = .ok (.iload_n 1, 1) := dk_27 (dk_at dksX0_oneYear_0 19 rfl rfl)
theorem dX0_oneYear_20 : decode cX0_oneYear 20 = .ok (.invokevirtual 142, 3) := dk_182 0 142 (dk_at dksX0_oneYear_0 20 rfl rfl)
theorem dX0_oneYear_23 : decode cX0_oneYear 23 = .ok (.iastore, 1) := dk_79 (dk_at dksX0_oneYear_0 23 rfl rfl)
theorem dX0_oneYear_24 : decode cX0_oneYear 24 = .ok (.iinc 1 1, 3) := dk_132 1 1 (dk_at dksX0_oneYear_1 0 rfl rfl)
theorem dX0_oneYear_27 : decode cX0_oneYear 27 = .ok (.goto (-25), 3) := dk_167 255 231 (dk_at dksX0_oneYear_1 3 rfl rfl)
theorem dX0_oneYear_30 : decode cX0_oneYear 30 = .ok (.iconst 0, 1) := dk_3 (dk_at dksX0_oneYear_1 6 rfl rfl)
theorem dX0_oneYear_31 : decode cX0_oneYear 31 = .ok (.istore_n 1, 1) := dk_60 (dk_at dksX0_oneYear_1 7 rfl rfl)
theorem dX0_oneYear_32 : decode cX0_oneYear 32 = .ok (.iload_n 1, 1) := dk_27 (dk_at dksX0_oneYear_1 8 rfl rfl)
theorem dX0_oneYear_33 : decode cX0_oneYear 33 = .ok (.aload_n 0, 1) := dk_42 (dk_at dksX0_oneYear_1 9 rfl rfl)
theorem dX0_oneYear_34 : decode cX0_oneYear 34 = .ok (.getfield 31, 3) := dk_180 0 31 (dk_at dksX0_oneYear_1 10 rfl rfl)
theorem dX0_oneYear_37 : decode cX0_oneYear 37 = .ok (.getfield 83, 3) := dk_180 0 83 (dk_at dksX0_oneYear_1 13 rfl rfl)
theorem dX0_oneYear_40 : decode cX0_oneYear 40 = .ok (.if_icmp .ge 38, 3) := dk_162 0 38 (dk_at dksX0_oneYear_1 16 rfl rfl)
theorem dX0_oneYear_43 : decode cX0_oneYear 43 = .ok (.aload_n 0, 1) := dk_42 (dk_at dksX0_oneYear_1 19 rfl rfl)
theorem dX0_oneYear_44 : decode cX0_oneYear 44 = .ok (.getfield 31, 3) := dk_180 0 31 (dk_at dksX0_oneYear_1 20 rfl rfl)
theorem dX0_oneYear_47 : decode cX0_oneYear 47 = .ok (.getfield 133, 3) := dk_180 0 133 (dk_at dksX0_oneYear_2 0 rfl rfl)
theorem dX0_oneYear_50 : decode cX0_oneYear 50 = .ok (.iload_n 1, 1) := dk_27 (dk_at dksX0_oneYear_2 3 rfl rfl)
theorem dX0_oneYear_51 : decode cX0_oneYear 51 = .ok (.iconst 0, 1) := dk_3 (dk_at dksX0_oneYear_2 4 rfl rfl)
theorem dX0_oneYear_52 : decode cX0_oneYear 52 = .ok (.aload_n 0, 1) := dk_42 (dk_at dksX0_oneYear_2 5 rfl rfl)
theorem dX0_oneYear_53 : decode cX0_oneYear 53 = .ok (.getfield 31, 3) := dk_180 0 31 (dk_at dksX0_oneYear_2 6 rfl rfl)
theorem dX0_oneYear_56 : decode cX0_oneYear 56 = .ok (.getfield 133, 3) := dk_180 0 133 (dk_at dksX0_oneYear_2 9 rfl rfl)
theorem dX0_oneYear_59 : decode cX0_oneYear 59 = .ok (.iload_n 1, 1) := dk_27 (dk_at dksX0_oneYear_2 12 rfl rfl)
theorem dX0_oneYear_60 : decode cX0_oneYear 60 = .ok (.iaload, 1) := dk_46 (dk_at dksX0_oneYear_2 13 rfl rfl)
theorem dX0_oneYear_61 : decode cX0_oneYear 61 = .ok (.aload_n 0, 1) := dk_42 (dk_at dksX0_oneYear_2 14 rfl rfl)
theorem dX0_oneYear_62 : decode cX0_oneYear 62 = .ok (.getfield 49, 3) := dk_180 0 49 (dk_at dksX0_oneYear_2 15 rfl rfl)
theorem dX0_oneYear_65 : decode cX0_oneYear 65 = .ok (.iload_n 1, 1) := dk_27 (dk_at dksX0_oneYear_2 18 rfl rfl)
theorem dX0_oneYear_66 : decode cX0_oneYear 66 = .ok (.iaload, 1) := dk_46 (dk_at dksX0_oneYear_2 19 rfl rfl)
theorem dX0_oneYear_67 : decode cX0_oneYear 67 = .ok (.isub, 1) := dk_100 (dk_at dksX0_oneYear_2 20 rfl rfl)
theorem dX0_oneYear_68 : decode cX0_oneYear 68 = .ok (.invokestatic 222, 3) := dk_184 0 222 (dk_at dksX0_oneYear_2 21 rfl rfl)
theorem dX0_oneYear_71 : decode cX0_oneYear 71 = .ok (.iastore, 1) := dk_79 (dk_at dksX0_oneYear_3 0 rfl rfl)
theorem dX0_oneYear_72 : decode cX0_oneYear 72 = .ok (.iinc 1 1, 3) := dk_132 1 1 (dk_at dksX0_oneYear_3 1 rfl rfl)
theorem dX0_oneYear_75 : decode cX0_oneYear 75 = .ok (.goto (-43), 3) := dk_167 255 213 (dk_at dksX0_oneYear_3 4 rfl rfl)
theorem dX0_oneYear_78 : decode cX0_oneYear 78 = .ok (.aload_n 0, 1) := dk_42 (dk_at dksX0_oneYear_3 7 rfl rfl)
theorem dX0_oneYear_79 : decode cX0_oneYear 79 = .ok (.getfield 31, 3) := dk_180 0 31 (dk_at dksX0_oneYear_3 8 rfl rfl)
theorem dX0_oneYear_82 : decode cX0_oneYear 82 = .ok (.invokevirtual 227, 3) := dk_182 0 227 (dk_at dksX0_oneYear_3 11 rfl rfl)
theorem dX0_oneYear_85 : decode cX0_oneYear 85 = .ok (.aload_n 0, 1) := dk_42 (dk_at dksX0_oneYear_3 14 rfl rfl)
theorem dX0_oneYear_86 : decode cX0_oneYear 86 = .ok (.getfield 31, 3) := dk_180 0 31 (dk_at dksX0_oneYear_3 15 rfl rfl)
theorem dX0_oneYear_89 : decode cX0_oneYear 89 = .ok (.dup, 1) := dk_89 (dk_at dksX0_oneYear_3 18 rfl rfl)
theorem dX0_oneYear_90 : decode cX0_oneYear 90 = .ok (.getfield 210, 3) := dk_180 0 210 (dk_at dksX0_oneYear_3 19 rfl rfl)
theorem dX0_oneYear_93 : decode cX0_oneYear 93 = .ok (.iconst 1, 1) := dk_4 (dk_at dksX0_oneYear_3 22 rfl rfl)
theorem dX0_oneYear_94 : decode cX0_oneYear 94 = .ok (.iadd, 1) := dk_96 (dk_at dksX0_oneYear_3 23 rfl rfl)
theorem dX0_oneYear_95 : decode cX0_oneYear 95 = .ok (.putfield 210, 3) := dk_181 0 210 (dk_at dksX0_oneYear_4 0 rfl rfl)
theorem dX0_oneYear_98 : decode cX0_oneYear 98 = .ok (.return_, 1) := dk_177 (dk_at dksX0_oneYear_4 3 rfl rfl)
abbrev cX0_move : ByteArray := prog_1_method_30_code
def yX0_move : MethodName := ⟨RX0, "move", "(I)I"⟩
def dkwX0_move_1 : List UInt8 := [182, 0, 244, 42, 180, 0, 31, 27, 182, 0, 250, 42, 180, 0, 31, 180, 0, 148, 27, 46, 172]
abbrev dktX0_move_1 : List UInt8 := dkwX0_move_1 ++ []
def dkwX0_move_0 : List UInt8 := [27, 133, 9, 42, 180, 0, 31, 180, 0, 145, 5, 100, 133, 184, 0, 86, 154, 0, 5, 2, 172, 42]
abbrev dktX0_move_0 : List UInt8 := dkwX0_move_0 ++ dktX0_move_1
theorem dksX0_move_0 : cX0_move.data.toList.drop 0 = dktX0_move_0 := by decide +kernel
theorem dksX0_move_1 : cX0_move.data.toList.drop 22 = dktX0_move_1 := dk_seg dksX0_move_0 22 rfl rfl
theorem dX0_move_0 : decode cX0_move 0 = .ok (.iload_n 1, 1) := dk_27 (dk_at dksX0_move_0 0 rfl rfl)
theorem dX0_move_1 : decode cX0_move 1 = .ok (.i2l, 1) := dk_133 (dk_at dksX0_move_0 1 rfl rfl)
theorem dX0_move_2 : decode cX0_move 2 = .ok (.lconst 0, 1) := dk_9 (dk_at dksX0_move_0 2 rfl rfl)
theorem dX0_move_3 : decode cX0_move 3 = .ok (.aload_n 0, 1) := dk_42 (dk_at dksX0_move_0 3 rfl rfl)
theorem dX0_move_4 : decode cX0_move 4 = .ok (.getfield 31, 3) := dk_180 0 31 (dk_at dksX0_move_0 4 rfl rfl)
theorem dX0_move_7 : decode cX0_move 7 = .ok (.getfield 145, 3) := dk_180 0 145 (dk_at dksX0_move_0 7 rfl rfl)
theorem dX0_move_10 : decode cX0_move 10 = .ok (.iconst 2, 1) := dk_5 (dk_at dksX0_move_0 10 rfl rfl)
theorem dX0_move_11 : decode cX0_move 11 = .ok (.isub, 1) := dk_100 (dk_at dksX0_move_0 11 rfl rfl)
theorem dX0_move_12 : decode cX0_move 12 = .ok (.i2l, 1) := dk_133 (dk_at dksX0_move_0 12 rfl rfl)
theorem dX0_move_13 : decode cX0_move 13 = .ok (.invokestatic 86, 3) := dk_184 0 86 (dk_at dksX0_move_0 13 rfl rfl)
theorem dX0_move_16 : decode cX0_move 16 = .ok (.ifCond .ne 5, 3) := dk_154 0 5 (dk_at dksX0_move_0 16 rfl rfl)
theorem dX0_move_19 : decode cX0_move 19 = .ok (.iconst (-1), 1) := dk_2 (dk_at dksX0_move_0 19 rfl rfl)
theorem dX0_move_20 : decode cX0_move 20 = .ok (.ireturn, 1) := dk_172 (dk_at dksX0_move_0 20 rfl rfl)
theorem dX0_move_21 : decode cX0_move 21 = .ok (.aload_n 0, 1) := dk_42 (dk_at dksX0_move_0 21 rfl rfl)
theorem dX0_move_22 : decode cX0_move 22 = .ok (.invokevirtual 244, 3) := dk_182 0 244 (dk_at dksX0_move_1 0 rfl rfl)
theorem dX0_move_25 : decode cX0_move 25 = .ok (.aload_n 0, 1) := dk_42 (dk_at dksX0_move_1 3 rfl rfl)
theorem dX0_move_26 : decode cX0_move 26 = .ok (.getfield 31, 3) := dk_180 0 31 (dk_at dksX0_move_1 4 rfl rfl)
theorem dX0_move_29 : decode cX0_move 29 = .ok (.iload_n 1, 1) := dk_27 (dk_at dksX0_move_1 7 rfl rfl)
theorem dX0_move_30 : decode cX0_move 30 = .ok (.invokevirtual 250, 3) := dk_182 0 250 (dk_at dksX0_move_1 8 rfl rfl)
theorem dX0_move_33 : decode cX0_move 33 = .ok (.aload_n 0, 1) := dk_42 (dk_at dksX0_move_1 11 rfl rfl)
theorem dX0_move_34 : decode cX0_move 34 = .ok (.getfield 31, 3) := dk_180 0 31 (dk_at dksX0_move_1 12 rfl rfl)
theorem dX0_move_37 : decode cX0_move 37 = .ok (.getfield 148, 3) := dk_180 0 148 (dk_at dksX0_move_1 15 rfl rfl)
theorem dX0_move_40 : decode cX0_move 40 = .ok (.iload_n 1, 1) := dk_27 (dk_at dksX0_move_1 18 rfl rfl)
theorem dX0_move_41 : decode cX0_move 41 = .ok (.iaload, 1) := dk_46 (dk_at dksX0_move_1 19 rfl rfl)
theorem dX0_move_42 : decode cX0_move 42 = .ok (.ireturn, 1) := dk_172 (dk_at dksX0_move_1 20 rfl rfl)
abbrev cX0_nurse : ByteArray := prog_1_method_31_code
def yX0_nurse : MethodName := ⟨RX0, "nurse", "(II)I"⟩
def dkwX0_nurse_3 : List UInt8 := [180, 0, 133, 27, 46, 172]
abbrev dktX0_nurse_3 : List UInt8 := dkwX0_nurse_3 ++ []
def dkwX0_nurse_2 : List UInt8 := [27, 16, 60, 42, 180, 0, 31, 180, 0, 133, 27, 46, 28, 96, 184, 0, 253, 79, 42, 180, 0, 31]
abbrev dktX0_nurse_2 : List UInt8 := dkwX0_nurse_2 ++ dktX0_nurse_3
def dkwX0_nurse_1 : List UInt8 := [180, 0, 31, 27, 182, 0, 122, 156, 0, 6, 16, 254, 172, 42, 182, 0, 244, 42, 180, 0, 31, 180, 0, 133]
abbrev dktX0_nurse_1 : List UInt8 := dkwX0_nurse_1 ++ dktX0_nurse_2
def dkwX0_nurse_0 : List UInt8 := [42, 27, 182, 0, 110, 153, 0, 15, 28, 133, 10, 20, 0, 94, 184, 0, 86, 154, 0, 5, 2, 172, 42]
abbrev dktX0_nurse_0 : List UInt8 := dkwX0_nurse_0 ++ dktX0_nurse_1
theorem dksX0_nurse_0 : cX0_nurse.data.toList.drop 0 = dktX0_nurse_0 := by decide +kernel
theorem dksX0_nurse_1 : cX0_nurse.data.toList.drop 23 = dktX0_nurse_1 := dk_seg dksX0_nurse_0 23 rfl rfl
theorem dksX0_nurse_2 : cX0_nurse.data.toList.drop 47 = dktX0_nurse_2 := dk_seg dksX0_nurse_1 24 rfl rfl
theorem dksX0_nurse_3 : cX0_nurse.data.toList.drop 69 = dktX0_nurse_3 := dk_seg dksX0_nurse_2 22 rfl rfl
theorem dX0_nurse_0 : decode cX0_nurse 0 = .ok (.aload_n 0, 1) := dk_42 (dk_at dksX0_nurse_0 0 rfl rfl)
theorem dX0_nurse_1 : decode cX0_nurse 1 = .ok (.iload_n 1, 1) := dk_27 (dk_at dksX0_nurse_0 1 rfl rfl)
theorem dX0_nurse_2 : decode cX0_nurse 2 = .ok (.invokevirtual 110, 3) := dk_182 0 110 (dk_at dksX0_nurse_0 2 rfl rfl)
theorem dX0_nurse_5 : decode cX0_nurse 5 = .ok (.ifCond .eq 15, 3) := dk_153 0 15 (dk_at dksX0_nurse_0 5 rfl rfl)
theorem dX0_nurse_8 : decode cX0_nurse 8 = .ok (.iload_n 2, 1) := dk_28 (dk_at dksX0_nurse_0 8 rfl rfl)
theorem dX0_nurse_9 : decode cX0_nurse 9 = .ok (.i2l, 1) := dk_133 (dk_at dksX0_nurse_0 9 rfl rfl)
theorem dX0_nurse_10 : decode cX0_nurse 10 = .ok (.lconst 1, 1) := dk_10 (dk_at dksX0_nurse_0 10 rfl rfl)
theorem dX0_nurse_11 : decode cX0_nurse 11 = .ok (.ldc2_w 94, 3) := dk_20 0 94 (dk_at dksX0_nurse_0 11 rfl rfl)
theorem dX0_nurse_14 : decode cX0_nurse 14 = .ok (.invokestatic 86, 3) := dk_184 0 86 (dk_at dksX0_nurse_0 14 rfl rfl)
theorem dX0_nurse_17 : decode cX0_nurse 17 = .ok (.ifCond .ne 5, 3) := dk_154 0 5 (dk_at dksX0_nurse_0 17 rfl rfl)
theorem dX0_nurse_20 : decode cX0_nurse 20 = .ok (.iconst (-1), 1) := dk_2 (dk_at dksX0_nurse_0 20 rfl rfl)
theorem dX0_nurse_21 : decode cX0_nurse 21 = .ok (.ireturn, 1) := dk_172 (dk_at dksX0_nurse_0 21 rfl rfl)
theorem dX0_nurse_22 : decode cX0_nurse 22 = .ok (.aload_n 0, 1) := dk_42 (dk_at dksX0_nurse_0 22 rfl rfl)
theorem dX0_nurse_23 : decode cX0_nurse 23 = .ok (.getfield 31, 3) := dk_180 0 31 (dk_at dksX0_nurse_1 0 rfl rfl)
theorem dX0_nurse_26 : decode cX0_nurse 26 = .ok (.iload_n 1, 1) := dk_27 (dk_at dksX0_nurse_1 3 rfl rfl)
theorem dX0_nurse_27 : decode cX0_nurse 27 = .ok (.invokevirtual 122, 3) := dk_182 0 122 (dk_at dksX0_nurse_1 4 rfl rfl)
theorem dX0_nurse_30 : decode cX0_nurse 30 = .ok (.ifCond .ge 6, 3) := dk_156 0 6 (dk_at dksX0_nurse_1 7 rfl rfl)
theorem dX0_nurse_33 : decode cX0_nurse 33 = .ok (.bipush (-2), 2) := dk_16 254 (dk_at dksX0_nurse_1 10 rfl rfl)
theorem dX0_nurse_35 : decode cX0_nurse 35 = .ok (.ireturn, 1) := dk_172 (dk_at dksX0_nurse_1 12 rfl rfl)
theorem dX0_nurse_36 : decode cX0_nurse 36 = .ok (.aload_n 0, 1) := dk_42 (dk_at dksX0_nurse_1 13 rfl rfl)
theorem dX0_nurse_37 : decode cX0_nurse 37 = .ok (.invokevirtual 244, 3) := dk_182 0 244 (dk_at dksX0_nurse_1 14 rfl rfl)
theorem dX0_nurse_40 : decode cX0_nurse 40 = .ok (.aload_n 0, 1) := dk_42 (dk_at dksX0_nurse_1 17 rfl rfl)
theorem dX0_nurse_41 : decode cX0_nurse 41 = .ok (.getfield 31, 3) := dk_180 0 31 (dk_at dksX0_nurse_1 18 rfl rfl)
theorem dX0_nurse_44 : decode cX0_nurse 44 = .ok (.getfield 133, 3) := dk_180 0 133 (dk_at dksX0_nurse_1 21 rfl rfl)
theorem dX0_nurse_47 : decode cX0_nurse 47 = .ok (.iload_n 1, 1) := dk_27 (dk_at dksX0_nurse_2 0 rfl rfl)
theorem dX0_nurse_48 : decode cX0_nurse 48 = .ok (.bipush 60, 2) := dk_16 60 (dk_at dksX0_nurse_2 1 rfl rfl)
theorem dX0_nurse_50 : decode cX0_nurse 50 = .ok (.aload_n 0, 1) := dk_42 (dk_at dksX0_nurse_2 3 rfl rfl)
theorem dX0_nurse_51 : decode cX0_nurse 51 = .ok (.getfield 31, 3) := dk_180 0 31 (dk_at dksX0_nurse_2 4 rfl rfl)
theorem dX0_nurse_54 : decode cX0_nurse 54 = .ok (.getfield 133, 3) := dk_180 0 133 (dk_at dksX0_nurse_2 7 rfl rfl)
theorem dX0_nurse_57 : decode cX0_nurse 57 = .ok (.iload_n 1, 1) := dk_27 (dk_at dksX0_nurse_2 10 rfl rfl)
theorem dX0_nurse_58 : decode cX0_nurse 58 = .ok (.iaload, 1) := dk_46 (dk_at dksX0_nurse_2 11 rfl rfl)
theorem dX0_nurse_59 : decode cX0_nurse 59 = .ok (.iload_n 2, 1) := dk_28 (dk_at dksX0_nurse_2 12 rfl rfl)
theorem dX0_nurse_60 : decode cX0_nurse 60 = .ok (.iadd, 1) := dk_96 (dk_at dksX0_nurse_2 13 rfl rfl)
theorem dX0_nurse_61 : decode cX0_nurse 61 = .ok (.invokestatic 253, 3) := dk_184 0 253 (dk_at dksX0_nurse_2 14 rfl rfl)
theorem dX0_nurse_64 : decode cX0_nurse 64 = .ok (.iastore, 1) := dk_79 (dk_at dksX0_nurse_2 17 rfl rfl)
theorem dX0_nurse_65 : decode cX0_nurse 65 = .ok (.aload_n 0, 1) := dk_42 (dk_at dksX0_nurse_2 18 rfl rfl)
theorem dX0_nurse_66 : decode cX0_nurse 66 = .ok (.getfield 31, 3) := dk_180 0 31 (dk_at dksX0_nurse_2 19 rfl rfl)
theorem dX0_nurse_69 : decode cX0_nurse 69 = .ok (.getfield 133, 3) := dk_180 0 133 (dk_at dksX0_nurse_3 0 rfl rfl)
theorem dX0_nurse_72 : decode cX0_nurse 72 = .ok (.iload_n 1, 1) := dk_27 (dk_at dksX0_nurse_3 3 rfl rfl)
theorem dX0_nurse_73 : decode cX0_nurse 73 = .ok (.iaload, 1) := dk_46 (dk_at dksX0_nurse_3 4 rfl rfl)
theorem dX0_nurse_74 : decode cX0_nurse 74 = .ok (.ireturn, 1) := dk_172 (dk_at dksX0_nurse_3 5 rfl rfl)
abbrev cX0_drift : ByteArray := prog_1_method_32_code
def yX0_drift : MethodName := ⟨RX0, "drift", "(I)I"⟩
def dkwX0_drift_4 : List UInt8 := [132, 3, 1, 167, 255, 173, 42, 180, 0, 31, 182, 0, 213, 172]
abbrev dktX0_drift_4 : List UInt8 := dkwX0_drift_4 ++ []
def dkwX0_drift_3 : List UInt8 := [180, 0, 79, 19, 1, 6, 108, 42, 180, 0, 31, 180, 0, 145, 4, 100, 112, 182, 0, 250, 42, 182, 0, 247]
abbrev dktX0_drift_3 : List UInt8 := dkwX0_drift_3 ++ dktX0_drift_4
def dkwX0_drift_2 : List UInt8 := [181, 0, 79, 42, 180, 0, 31, 180, 0, 145, 4, 164, 0, 31, 42, 180, 0, 31, 42, 180, 0, 31]
abbrev dktX0_drift_2 : List UInt8 := dkwX0_drift_2 ++ dktX0_drift_3
def dkwX0_drift_1 : List UInt8 := [180, 0, 31, 42, 180, 0, 31, 180, 0, 79, 133, 20, 1, 0, 105, 20, 1, 2, 97, 20, 1, 4, 127, 136]
abbrev dktX0_drift_1 : List UInt8 := dkwX0_drift_1 ++ dktX0_drift_2
def dkwX0_drift_0 : List UInt8 := [42, 27, 182, 0, 241, 61, 28, 156, 0, 5, 28, 172, 3, 62, 29, 27, 162, 0, 84, 42, 182, 0, 244, 42]
abbrev dktX0_drift_0 : List UInt8 := dkwX0_drift_0 ++ dktX0_drift_1
theorem dksX0_drift_0 : cX0_drift.data.toList.drop 0 = dktX0_drift_0 := by decide +kernel
theorem dksX0_drift_1 : cX0_drift.data.toList.drop 24 = dktX0_drift_1 := dk_seg dksX0_drift_0 24 rfl rfl
theorem dksX0_drift_2 : cX0_drift.data.toList.drop 48 = dktX0_drift_2 := dk_seg dksX0_drift_1 24 rfl rfl
theorem dksX0_drift_3 : cX0_drift.data.toList.drop 70 = dktX0_drift_3 := dk_seg dksX0_drift_2 22 rfl rfl
theorem dksX0_drift_4 : cX0_drift.data.toList.drop 94 = dktX0_drift_4 := dk_seg dksX0_drift_3 24 rfl rfl
theorem dX0_drift_0 : decode cX0_drift 0 = .ok (.aload_n 0, 1) := dk_42 (dk_at dksX0_drift_0 0 rfl rfl)
theorem dX0_drift_1 : decode cX0_drift 1 = .ok (.iload_n 1, 1) := dk_27 (dk_at dksX0_drift_0 1 rfl rfl)
theorem dX0_drift_2 : decode cX0_drift 2 = .ok (.invokevirtual 241, 3) := dk_182 0 241 (dk_at dksX0_drift_0 2 rfl rfl)
theorem dX0_drift_5 : decode cX0_drift 5 = .ok (.istore_n 2, 1) := dk_61 (dk_at dksX0_drift_0 5 rfl rfl)
theorem dX0_drift_6 : decode cX0_drift 6 = .ok (.iload_n 2, 1) := dk_28 (dk_at dksX0_drift_0 6 rfl rfl)
theorem dX0_drift_7 : decode cX0_drift 7 = .ok (.ifCond .ge 5, 3) := dk_156 0 5 (dk_at dksX0_drift_0 7 rfl rfl)
theorem dX0_drift_10 : decode cX0_drift 10 = .ok (.iload_n 2, 1) := dk_28 (dk_at dksX0_drift_0 10 rfl rfl)
theorem dX0_drift_11 : decode cX0_drift 11 = .ok (.ireturn, 1) := dk_172 (dk_at dksX0_drift_0 11 rfl rfl)
theorem dX0_drift_12 : decode cX0_drift 12 = .ok (.iconst 0, 1) := dk_3 (dk_at dksX0_drift_0 12 rfl rfl)
theorem dX0_drift_13 : decode cX0_drift 13 = .ok (.istore_n 3, 1) := dk_62 (dk_at dksX0_drift_0 13 rfl rfl)
theorem dX0_drift_14 : decode cX0_drift 14 = .ok (.iload_n 3, 1) := dk_29 (dk_at dksX0_drift_0 14 rfl rfl)
theorem dX0_drift_15 : decode cX0_drift 15 = .ok (.iload_n 1, 1) := dk_27 (dk_at dksX0_drift_0 15 rfl rfl)
theorem dX0_drift_16 : decode cX0_drift 16 = .ok (.if_icmp .ge 84, 3) := dk_162 0 84 (dk_at dksX0_drift_0 16 rfl rfl)
theorem dX0_drift_19 : decode cX0_drift 19 = .ok (.aload_n 0, 1) := dk_42 (dk_at dksX0_drift_0 19 rfl rfl)
theorem dX0_drift_20 : decode cX0_drift 20 = .ok (.invokevirtual 244, 3) := dk_182 0 244 (dk_at dksX0_drift_0 20 rfl rfl)
theorem dX0_drift_23 : decode cX0_drift 23 = .ok (.aload_n 0, 1) := dk_42 (dk_at dksX0_drift_0 23 rfl rfl)
theorem dX0_drift_24 : decode cX0_drift 24 = .ok (.getfield 31, 3) := dk_180 0 31 (dk_at dksX0_drift_1 0 rfl rfl)
theorem dX0_drift_27 : decode cX0_drift 27 = .ok (.aload_n 0, 1) := dk_42 (dk_at dksX0_drift_1 3 rfl rfl)
theorem dX0_drift_28 : decode cX0_drift 28 = .ok (.getfield 31, 3) := dk_180 0 31 (dk_at dksX0_drift_1 4 rfl rfl)
theorem dX0_drift_31 : decode cX0_drift 31 = .ok (.getfield 79, 3) := dk_180 0 79 (dk_at dksX0_drift_1 7 rfl rfl)
theorem dX0_drift_34 : decode cX0_drift 34 = .ok (.i2l, 1) := dk_133 (dk_at dksX0_drift_1 10 rfl rfl)
theorem dX0_drift_35 : decode cX0_drift 35 = .ok (.ldc2_w 256, 3) := dk_20 1 0 (dk_at dksX0_drift_1 11 rfl rfl)
theorem dX0_drift_38 : decode cX0_drift 38 = .ok (.lmul, 1) := dk_105 (dk_at dksX0_drift_1 14 rfl rfl)
theorem dX0_drift_39 : decode cX0_drift 39 = .ok (.ldc2_w 258, 3) := dk_20 1 2 (dk_at dksX0_drift_1 15 rfl rfl)
theorem dX0_drift_42 : decode cX0_drift 42 = .ok (.ladd, 1) := dk_97 (dk_at dksX0_drift_1 18 rfl rfl)
theorem dX0_drift_43 : decode cX0_drift 43 = .ok (.ldc2_w 260, 3) := dk_20 1 4 (dk_at dksX0_drift_1 19 rfl rfl)
theorem dX0_drift_46 : decode cX0_drift 46 = .ok (.land, 1) := dk_127 (dk_at dksX0_drift_1 22 rfl rfl)
theorem dX0_drift_47 : decode cX0_drift 47 = .ok (.l2i, 1) := dk_136 (dk_at dksX0_drift_1 23 rfl rfl)
theorem dX0_drift_48 : decode cX0_drift 48 = .ok (.putfield 79, 3) := dk_181 0 79 (dk_at dksX0_drift_2 0 rfl rfl)
theorem dX0_drift_51 : decode cX0_drift 51 = .ok (.aload_n 0, 1) := dk_42 (dk_at dksX0_drift_2 3 rfl rfl)
theorem dX0_drift_52 : decode cX0_drift 52 = .ok (.getfield 31, 3) := dk_180 0 31 (dk_at dksX0_drift_2 4 rfl rfl)
theorem dX0_drift_55 : decode cX0_drift 55 = .ok (.getfield 145, 3) := dk_180 0 145 (dk_at dksX0_drift_2 7 rfl rfl)
theorem dX0_drift_58 : decode cX0_drift 58 = .ok (.iconst 1, 1) := dk_4 (dk_at dksX0_drift_2 10 rfl rfl)
theorem dX0_drift_59 : decode cX0_drift 59 = .ok (.if_icmp .le 31, 3) := dk_164 0 31 (dk_at dksX0_drift_2 11 rfl rfl)
theorem dX0_drift_62 : decode cX0_drift 62 = .ok (.aload_n 0, 1) := dk_42 (dk_at dksX0_drift_2 14 rfl rfl)
theorem dX0_drift_63 : decode cX0_drift 63 = .ok (.getfield 31, 3) := dk_180 0 31 (dk_at dksX0_drift_2 15 rfl rfl)
theorem dX0_drift_66 : decode cX0_drift 66 = .ok (.aload_n 0, 1) := dk_42 (dk_at dksX0_drift_2 18 rfl rfl)
theorem dX0_drift_67 : decode cX0_drift 67 = .ok (.getfield 31, 3) := dk_180 0 31 (dk_at dksX0_drift_2 19 rfl rfl)
theorem dX0_drift_70 : decode cX0_drift 70 = .ok (.getfield 79, 3) := dk_180 0 79 (dk_at dksX0_drift_3 0 rfl rfl)
theorem dX0_drift_73 : decode cX0_drift 73 = .ok (.ldc_w 262, 3) := dk_19 1 6 (dk_at dksX0_drift_3 3 rfl rfl)
theorem dX0_drift_76 : decode cX0_drift 76 = .ok (.idiv, 1) := dk_108 (dk_at dksX0_drift_3 6 rfl rfl)
theorem dX0_drift_77 : decode cX0_drift 77 = .ok (.aload_n 0, 1) := dk_42 (dk_at dksX0_drift_3 7 rfl rfl)
theorem dX0_drift_78 : decode cX0_drift 78 = .ok (.getfield 31, 3) := dk_180 0 31 (dk_at dksX0_drift_3 8 rfl rfl)
theorem dX0_drift_81 : decode cX0_drift 81 = .ok (.getfield 145, 3) := dk_180 0 145 (dk_at dksX0_drift_3 11 rfl rfl)
theorem dX0_drift_84 : decode cX0_drift 84 = .ok (.iconst 1, 1) := dk_4 (dk_at dksX0_drift_3 14 rfl rfl)
theorem dX0_drift_85 : decode cX0_drift 85 = .ok (.isub, 1) := dk_100 (dk_at dksX0_drift_3 15 rfl rfl)
theorem dX0_drift_86 : decode cX0_drift 86 = .ok (.irem, 1) := dk_112 (dk_at dksX0_drift_3 16 rfl rfl)
theorem dX0_drift_87 : decode cX0_drift 87 = .ok (.invokevirtual 250, 3) := dk_182 0 250 (dk_at dksX0_drift_3 17 rfl rfl)
theorem dX0_drift_90 : decode cX0_drift 90 = .ok (.aload_n 0, 1) := dk_42 (dk_at dksX0_drift_3 20 rfl rfl)
theorem dX0_drift_91 : decode cX0_drift 91 = .ok (.invokevirtual 247, 3) := dk_182 0 247 (dk_at dksX0_drift_3 21 rfl rfl)
theorem dX0_drift_94 : decode cX0_drift 94 = .ok (.iinc 3 1, 3) := dk_132 3 1 (dk_at dksX0_drift_4 0 rfl rfl)
theorem dX0_drift_97 : decode cX0_drift 97 = .ok (.goto (-83), 3) := dk_167 255 173 (dk_at dksX0_drift_4 3 rfl rfl)
theorem dX0_drift_100 : decode cX0_drift 100 = .ok (.aload_n 0, 1) := dk_42 (dk_at dksX0_drift_4 6 rfl rfl)
theorem dX0_drift_101 : decode cX0_drift 101 = .ok (.getfield 31, 3) := dk_180 0 31 (dk_at dksX0_drift_4 7 rfl rfl)
theorem dX0_drift_104 : decode cX0_drift 104 = .ok (.invokevirtual 213, 3) := dk_182 0 213 (dk_at dksX0_drift_4 10 rfl rfl)
theorem dX0_drift_107 : decode cX0_drift 107 = .ok (.ireturn, 1) := dk_172 (dk_at dksX0_drift_4 13 rfl rfl)
abbrev cX0_undo : ByteArray := prog_1_method_33_code
def yX0_undo : MethodName := ⟨RX0, "undo", "()I"⟩
def dkwX0_undo_1 : List UInt8 := [42, 180, 0, 53, 42, 180, 0, 107, 50, 182, 0, 236, 42, 180, 0, 107, 172]
abbrev dktX0_undo_1 : List UInt8 := dkwX0_undo_1 ++ []
def dkwX0_undo_0 : List UInt8 := [42, 180, 0, 107, 154, 0, 6, 16, 252, 172, 42, 89, 180, 0, 107, 4, 100, 181, 0, 107, 42, 180, 0, 31]
abbrev dktX0_undo_0 : List UInt8 := dkwX0_undo_0 ++ dktX0_undo_1
theorem dksX0_undo_0 : cX0_undo.data.toList.drop 0 = dktX0_undo_0 := by decide +kernel
theorem dksX0_undo_1 : cX0_undo.data.toList.drop 24 = dktX0_undo_1 := dk_seg dksX0_undo_0 24 rfl rfl
theorem dX0_undo_0 : decode cX0_undo 0 = .ok (.aload_n 0, 1) := dk_42 (dk_at dksX0_undo_0 0 rfl rfl)
theorem dX0_undo_1 : decode cX0_undo 1 = .ok (.getfield 107, 3) := dk_180 0 107 (dk_at dksX0_undo_0 1 rfl rfl)
theorem dX0_undo_4 : decode cX0_undo 4 = .ok (.ifCond .ne 6, 3) := dk_154 0 6 (dk_at dksX0_undo_0 4 rfl rfl)
theorem dX0_undo_7 : decode cX0_undo 7 = .ok (.bipush (-4), 2) := dk_16 252 (dk_at dksX0_undo_0 7 rfl rfl)
theorem dX0_undo_9 : decode cX0_undo 9 = .ok (.ireturn, 1) := dk_172 (dk_at dksX0_undo_0 9 rfl rfl)
theorem dX0_undo_10 : decode cX0_undo 10 = .ok (.aload_n 0, 1) := dk_42 (dk_at dksX0_undo_0 10 rfl rfl)
theorem dX0_undo_11 : decode cX0_undo 11 = .ok (.dup, 1) := dk_89 (dk_at dksX0_undo_0 11 rfl rfl)
theorem dX0_undo_12 : decode cX0_undo 12 = .ok (.getfield 107, 3) := dk_180 0 107 (dk_at dksX0_undo_0 12 rfl rfl)
theorem dX0_undo_15 : decode cX0_undo 15 = .ok (.iconst 1, 1) := dk_4 (dk_at dksX0_undo_0 15 rfl rfl)
theorem dX0_undo_16 : decode cX0_undo 16 = .ok (.isub, 1) := dk_100 (dk_at dksX0_undo_0 16 rfl rfl)
theorem dX0_undo_17 : decode cX0_undo 17 = .ok (.putfield 107, 3) := dk_181 0 107 (dk_at dksX0_undo_0 17 rfl rfl)
theorem dX0_undo_20 : decode cX0_undo 20 = .ok (.aload_n 0, 1) := dk_42 (dk_at dksX0_undo_0 20 rfl rfl)
theorem dX0_undo_21 : decode cX0_undo 21 = .ok (.getfield 31, 3) := dk_180 0 31 (dk_at dksX0_undo_0 21 rfl rfl)
theorem dX0_undo_24 : decode cX0_undo 24 = .ok (.aload_n 0, 1) := dk_42 (dk_at dksX0_undo_1 0 rfl rfl)
theorem dX0_undo_25 : decode cX0_undo 25 = .ok (.getfield 53, 3) := dk_180 0 53 (dk_at dksX0_undo_1 1 rfl rfl)
theorem dX0_undo_28 : decode cX0_undo 28 = .ok (.aload_n 0, 1) := dk_42 (dk_at dksX0_undo_1 4 rfl rfl)
theorem dX0_undo_29 : decode cX0_undo 29 = .ok (.getfield 107, 3) := dk_180 0 107 (dk_at dksX0_undo_1 5 rfl rfl)
theorem dX0_undo_32 : decode cX0_undo 32 = .ok (.aaload, 1) := dk_50 (dk_at dksX0_undo_1 8 rfl rfl)
theorem dX0_undo_33 : decode cX0_undo 33 = .ok (.invokevirtual 236, 3) := dk_182 0 236 (dk_at dksX0_undo_1 9 rfl rfl)
theorem dX0_undo_36 : decode cX0_undo 36 = .ok (.aload_n 0, 1) := dk_42 (dk_at dksX0_undo_1 12 rfl rfl)
theorem dX0_undo_37 : decode cX0_undo 37 = .ok (.getfield 107, 3) := dk_180 0 107 (dk_at dksX0_undo_1 13 rfl rfl)
theorem dX0_undo_40 : decode cX0_undo 40 = .ok (.ireturn, 1) := dk_172 (dk_at dksX0_undo_1 16 rfl rfl)
abbrev cX0_seed : ByteArray := prog_1_method_34_code
def yX0_seed : MethodName := ⟨RX0, "seed", "(I)I"⟩
def dkwX0_seed_0 : List UInt8 := [27, 156, 0, 5, 2, 172, 42, 180, 0, 31, 180, 0, 79, 61, 42, 180, 0, 31, 27, 181, 0, 79, 28, 172]
abbrev dktX0_seed_0 : List UInt8 := dkwX0_seed_0 ++ []
theorem dksX0_seed_0 : cX0_seed.data.toList.drop 0 = dktX0_seed_0 := by decide +kernel
theorem dX0_seed_0 : decode cX0_seed 0 = .ok (.iload_n 1, 1) := dk_27 (dk_at dksX0_seed_0 0 rfl rfl)
theorem dX0_seed_1 : decode cX0_seed 1 = .ok (.ifCond .ge 5, 3) := dk_156 0 5 (dk_at dksX0_seed_0 1 rfl rfl)
theorem dX0_seed_4 : decode cX0_seed 4 = .ok (.iconst (-1), 1) := dk_2 (dk_at dksX0_seed_0 4 rfl rfl)
theorem dX0_seed_5 : decode cX0_seed 5 = .ok (.ireturn, 1) := dk_172 (dk_at dksX0_seed_0 5 rfl rfl)
theorem dX0_seed_6 : decode cX0_seed 6 = .ok (.aload_n 0, 1) := dk_42 (dk_at dksX0_seed_0 6 rfl rfl)
theorem dX0_seed_7 : decode cX0_seed 7 = .ok (.getfield 31, 3) := dk_180 0 31 (dk_at dksX0_seed_0 7 rfl rfl)
theorem dX0_seed_10 : decode cX0_seed 10 = .ok (.getfield 79, 3) := dk_180 0 79 (dk_at dksX0_seed_0 10 rfl rfl)
theorem dX0_seed_13 : decode cX0_seed 13 = .ok (.istore_n 2, 1) := dk_61 (dk_at dksX0_seed_0 13 rfl rfl)
theorem dX0_seed_14 : decode cX0_seed 14 = .ok (.aload_n 0, 1) := dk_42 (dk_at dksX0_seed_0 14 rfl rfl)
theorem dX0_seed_15 : decode cX0_seed 15 = .ok (.getfield 31, 3) := dk_180 0 31 (dk_at dksX0_seed_0 15 rfl rfl)
theorem dX0_seed_18 : decode cX0_seed 18 = .ok (.iload_n 1, 1) := dk_27 (dk_at dksX0_seed_0 18 rfl rfl)
theorem dX0_seed_19 : decode cX0_seed 19 = .ok (.putfield 79, 3) := dk_181 0 79 (dk_at dksX0_seed_0 19 rfl rfl)
theorem dX0_seed_22 : decode cX0_seed 22 = .ok (.iload_n 2, 1) := dk_28 (dk_at dksX0_seed_0 22 rfl rfl)
theorem dX0_seed_23 : decode cX0_seed 23 = .ok (.ireturn, 1) := dk_172 (dk_at dksX0_seed_0 23 rfl rfl)
abbrev cX0_ahead : ByteArray := prog_1_method_37_code
def yX0_ahead : MethodName := ⟨RX0, "ahead", "(II)I"⟩
def dkwX0_ahead_2 : List UInt8 := [180, 0, 31, 42, 180, 0, 57, 182, 0, 193, 29, 172]
abbrev dktX0_ahead_2 : List UInt8 := dkwX0_ahead_2 ++ []
def dkwX0_ahead_1 : List UInt8 := [180, 0, 31, 182, 0, 193, 42, 28, 182, 1, 10, 42, 180, 0, 31, 180, 0, 133, 27, 46, 62, 42]
abbrev dktX0_ahead_1 : List UInt8 := dkwX0_ahead_1 ++ dktX0_ahead_2
def dkwX0_ahead_0 : List UInt8 := [42, 27, 182, 0, 110, 153, 0, 10, 28, 184, 1, 7, 154, 0, 5, 2, 172, 42, 180, 0, 57, 42]
abbrev dktX0_ahead_0 : List UInt8 := dkwX0_ahead_0 ++ dktX0_ahead_1
theorem dksX0_ahead_0 : cX0_ahead.data.toList.drop 0 = dktX0_ahead_0 := by decide +kernel
theorem dksX0_ahead_1 : cX0_ahead.data.toList.drop 22 = dktX0_ahead_1 := dk_seg dksX0_ahead_0 22 rfl rfl
theorem dksX0_ahead_2 : cX0_ahead.data.toList.drop 44 = dktX0_ahead_2 := dk_seg dksX0_ahead_1 22 rfl rfl
theorem dX0_ahead_0 : decode cX0_ahead 0 = .ok (.aload_n 0, 1) := dk_42 (dk_at dksX0_ahead_0 0 rfl rfl)
theorem dX0_ahead_1 : decode cX0_ahead 1 = .ok (.iload_n 1, 1) := dk_27 (dk_at dksX0_ahead_0 1 rfl rfl)
theorem dX0_ahead_2 : decode cX0_ahead 2 = .ok (.invokevirtual 110, 3) := dk_182 0 110 (dk_at dksX0_ahead_0 2 rfl rfl)
theorem dX0_ahead_5 : decode cX0_ahead 5 = .ok (.ifCond .eq 10, 3) := dk_153 0 10 (dk_at dksX0_ahead_0 5 rfl rfl)
theorem dX0_ahead_8 : decode cX0_ahead 8 = .ok (.iload_n 2, 1) := dk_28 (dk_at dksX0_ahead_0 8 rfl rfl)
theorem dX0_ahead_9 : decode cX0_ahead 9 = .ok (.invokestatic 263, 3) := dk_184 1 7 (dk_at dksX0_ahead_0 9 rfl rfl)
theorem dX0_ahead_12 : decode cX0_ahead 12 = .ok (.ifCond .ne 5, 3) := dk_154 0 5 (dk_at dksX0_ahead_0 12 rfl rfl)
theorem dX0_ahead_15 : decode cX0_ahead 15 = .ok (.iconst (-1), 1) := dk_2 (dk_at dksX0_ahead_0 15 rfl rfl)
theorem dX0_ahead_16 : decode cX0_ahead 16 = .ok (.ireturn, 1) := dk_172 (dk_at dksX0_ahead_0 16 rfl rfl)
theorem dX0_ahead_17 : decode cX0_ahead 17 = .ok (.aload_n 0, 1) := dk_42 (dk_at dksX0_ahead_0 17 rfl rfl)
theorem dX0_ahead_18 : decode cX0_ahead 18 = .ok (.getfield 57, 3) := dk_180 0 57 (dk_at dksX0_ahead_0 18 rfl rfl)
theorem dX0_ahead_21 : decode cX0_ahead 21 = .ok (.aload_n 0, 1) := dk_42 (dk_at dksX0_ahead_0 21 rfl rfl)
theorem dX0_ahead_22 : decode cX0_ahead 22 = .ok (.getfield 31, 3) := dk_180 0 31 (dk_at dksX0_ahead_1 0 rfl rfl)
theorem dX0_ahead_25 : decode cX0_ahead 25 = .ok (.invokevirtual 193, 3) := dk_182 0 193 (dk_at dksX0_ahead_1 3 rfl rfl)
theorem dX0_ahead_28 : decode cX0_ahead 28 = .ok (.aload_n 0, 1) := dk_42 (dk_at dksX0_ahead_1 6 rfl rfl)
theorem dX0_ahead_29 : decode cX0_ahead 29 = .ok (.iload_n 2, 1) := dk_28 (dk_at dksX0_ahead_1 7 rfl rfl)
theorem dX0_ahead_30 : decode cX0_ahead 30 = .ok (.invokevirtual 266, 3) := dk_182 1 10 (dk_at dksX0_ahead_1 8 rfl rfl)
theorem dX0_ahead_33 : decode cX0_ahead 33 = .ok (.aload_n 0, 1) := dk_42 (dk_at dksX0_ahead_1 11 rfl rfl)
theorem dX0_ahead_34 : decode cX0_ahead 34 = .ok (.getfield 31, 3) := dk_180 0 31 (dk_at dksX0_ahead_1 12 rfl rfl)
theorem dX0_ahead_37 : decode cX0_ahead 37 = .ok (.getfield 133, 3) := dk_180 0 133 (dk_at dksX0_ahead_1 15 rfl rfl)
theorem dX0_ahead_40 : decode cX0_ahead 40 = .ok (.iload_n 1, 1) := dk_27 (dk_at dksX0_ahead_1 18 rfl rfl)
theorem dX0_ahead_41 : decode cX0_ahead 41 = .ok (.iaload, 1) := dk_46 (dk_at dksX0_ahead_1 19 rfl rfl)
theorem dX0_ahead_42 : decode cX0_ahead 42 = .ok (.istore_n 3, 1) := dk_62 (dk_at dksX0_ahead_1 20 rfl rfl)
theorem dX0_ahead_43 : decode cX0_ahead 43 = .ok (.aload_n 0, 1) := dk_42 (dk_at dksX0_ahead_1 21 rfl rfl)
theorem dX0_ahead_44 : decode cX0_ahead 44 = .ok (.getfield 31, 3) := dk_180 0 31 (dk_at dksX0_ahead_2 0 rfl rfl)
theorem dX0_ahead_47 : decode cX0_ahead 47 = .ok (.aload_n 0, 1) := dk_42 (dk_at dksX0_ahead_2 3 rfl rfl)
theorem dX0_ahead_48 : decode cX0_ahead 48 = .ok (.getfield 57, 3) := dk_180 0 57 (dk_at dksX0_ahead_2 4 rfl rfl)
theorem dX0_ahead_51 : decode cX0_ahead 51 = .ok (.invokevirtual 193, 3) := dk_182 0 193 (dk_at dksX0_ahead_2 7 rfl rfl)
theorem dX0_ahead_54 : decode cX0_ahead 54 = .ok (.iload_n 3, 1) := dk_29 (dk_at dksX0_ahead_2 10 rfl rfl)
theorem dX0_ahead_55 : decode cX0_ahead 55 = .ok (.ireturn, 1) := dk_172 (dk_at dksX0_ahead_2 11 rfl rfl)
abbrev cX0_isFar : ByteArray := prog_1_method_36_code
def yX0_isFar : MethodName := ⟨RX0, "isFar", "(I)Z"⟩
def dkwX0_isFar_0 : List UInt8 := [26, 133, 9, 20, 0, 94, 184, 0, 86, 172]
abbrev dktX0_isFar_0 : List UInt8 := dkwX0_isFar_0 ++ []
theorem dksX0_isFar_0 : cX0_isFar.data.toList.drop 0 = dktX0_isFar_0 := by decide +kernel
theorem dX0_isFar_0 : decode cX0_isFar 0 = .ok (.iload_n 0, 1) := dk_26 (dk_at dksX0_isFar_0 0 rfl rfl)
theorem dX0_isFar_1 : decode cX0_isFar 1 = .ok (.i2l, 1) := dk_133 (dk_at dksX0_isFar_0 1 rfl rfl)
theorem dX0_isFar_2 : decode cX0_isFar 2 = .ok (.lconst 0, 1) := dk_9 (dk_at dksX0_isFar_0 2 rfl rfl)
theorem dX0_isFar_3 : decode cX0_isFar 3 = .ok (.ldc2_w 94, 3) := dk_20 0 94 (dk_at dksX0_isFar_0 3 rfl rfl)
theorem dX0_isFar_6 : decode cX0_isFar 6 = .ok (.invokestatic 86, 3) := dk_184 0 86 (dk_at dksX0_isFar_0 6 rfl rfl)
theorem dX0_isFar_9 : decode cX0_isFar 9 = .ok (.ireturn, 1) := dk_172 (dk_at dksX0_isFar_0 9 rfl rfl)
abbrev cX0_goOn : ByteArray := prog_1_method_35_code
def yX0_goOn : MethodName := ⟨RX0, "goOn", "(I)V"⟩
def dkwX0_goOn_0 : List UInt8 := [3, 61, 28, 27, 162, 0, 13, 42, 182, 0, 247, 132, 2, 1, 167, 255, 244, 177]
abbrev dktX0_goOn_0 : List UInt8 := dkwX0_goOn_0 ++ []
theorem dksX0_goOn_0 : cX0_goOn.data.toList.drop 0 = dktX0_goOn_0 := by decide +kernel
theorem dX0_goOn_0 : decode cX0_goOn 0 = .ok (.iconst 0, 1) := dk_3 (dk_at dksX0_goOn_0 0 rfl rfl)
theorem dX0_goOn_1 : decode cX0_goOn 1 = .ok (.istore_n 2, 1) := dk_61 (dk_at dksX0_goOn_0 1 rfl rfl)
theorem dX0_goOn_2 : decode cX0_goOn 2 = .ok (.iload_n 2, 1) := dk_28 (dk_at dksX0_goOn_0 2 rfl rfl)
theorem dX0_goOn_3 : decode cX0_goOn 3 = .ok (.iload_n 1, 1) := dk_27 (dk_at dksX0_goOn_0 3 rfl rfl)
theorem dX0_goOn_4 : decode cX0_goOn 4 = .ok (.if_icmp .ge 13, 3) := dk_162 0 13 (dk_at dksX0_goOn_0 4 rfl rfl)
theorem dX0_goOn_7 : decode cX0_goOn 7 = .ok (.aload_n 0, 1) := dk_42 (dk_at dksX0_goOn_0 7 rfl rfl)
theorem dX0_goOn_8 : decode cX0_goOn 8 = .ok (.invokevirtual 247, 3) := dk_182 0 247 (dk_at dksX0_goOn_0 8 rfl rfl)
theorem dX0_goOn_11 : decode cX0_goOn 11 = .ok (.iinc 2 1, 3) := dk_132 2 1 (dk_at dksX0_goOn_0 11 rfl rfl)
theorem dX0_goOn_14 : decode cX0_goOn 14 = .ok (.goto (-12), 3) := dk_167 255 244 (dk_at dksX0_goOn_0 14 rfl rfl)
theorem dX0_goOn_17 : decode cX0_goOn 17 = .ok (.return_, 1) := dk_177 (dk_at dksX0_goOn_0 17 rfl rfl)
abbrev cX0_then : ByteArray := prog_1_method_38_code
def yX0_then : MethodName := ⟨RX0, "then", "(I)I"⟩
def dkwX0_then_1 : List UInt8 := [182, 1, 10, 42, 180, 0, 31, 182, 0, 213, 61, 42, 180, 0, 31, 42, 180, 0, 57, 182, 0, 193, 28, 172]
abbrev dktX0_then_1 : List UInt8 := dkwX0_then_1 ++ []
def dkwX0_then_0 : List UInt8 := [27, 184, 1, 7, 154, 0, 5, 2, 172, 42, 180, 0, 57, 42, 180, 0, 31, 182, 0, 193, 42, 27]
abbrev dktX0_then_0 : List UInt8 := dkwX0_then_0 ++ dktX0_then_1
theorem dksX0_then_0 : cX0_then.data.toList.drop 0 = dktX0_then_0 := by decide +kernel
theorem dksX0_then_1 : cX0_then.data.toList.drop 22 = dktX0_then_1 := dk_seg dksX0_then_0 22 rfl rfl
theorem dX0_then_0 : decode cX0_then 0 = .ok (.iload_n 1, 1) := dk_27 (dk_at dksX0_then_0 0 rfl rfl)
theorem dX0_then_1 : decode cX0_then 1 = .ok (.invokestatic 263, 3) := dk_184 1 7 (dk_at dksX0_then_0 1 rfl rfl)
theorem dX0_then_4 : decode cX0_then 4 = .ok (.ifCond .ne 5, 3) := dk_154 0 5 (dk_at dksX0_then_0 4 rfl rfl)
theorem dX0_then_7 : decode cX0_then 7 = .ok (.iconst (-1), 1) := dk_2 (dk_at dksX0_then_0 7 rfl rfl)
theorem dX0_then_8 : decode cX0_then 8 = .ok (.ireturn, 1) := dk_172 (dk_at dksX0_then_0 8 rfl rfl)
theorem dX0_then_9 : decode cX0_then 9 = .ok (.aload_n 0, 1) := dk_42 (dk_at dksX0_then_0 9 rfl rfl)
theorem dX0_then_10 : decode cX0_then 10 = .ok (.getfield 57, 3) := dk_180 0 57 (dk_at dksX0_then_0 10 rfl rfl)
theorem dX0_then_13 : decode cX0_then 13 = .ok (.aload_n 0, 1) := dk_42 (dk_at dksX0_then_0 13 rfl rfl)
theorem dX0_then_14 : decode cX0_then 14 = .ok (.getfield 31, 3) := dk_180 0 31 (dk_at dksX0_then_0 14 rfl rfl)
theorem dX0_then_17 : decode cX0_then 17 = .ok (.invokevirtual 193, 3) := dk_182 0 193 (dk_at dksX0_then_0 17 rfl rfl)
theorem dX0_then_20 : decode cX0_then 20 = .ok (.aload_n 0, 1) := dk_42 (dk_at dksX0_then_0 20 rfl rfl)
theorem dX0_then_21 : decode cX0_then 21 = .ok (.iload_n 1, 1) := dk_27 (dk_at dksX0_then_0 21 rfl rfl)
theorem dX0_then_22 : decode cX0_then 22 = .ok (.invokevirtual 266, 3) := dk_182 1 10 (dk_at dksX0_then_1 0 rfl rfl)
theorem dX0_then_25 : decode cX0_then 25 = .ok (.aload_n 0, 1) := dk_42 (dk_at dksX0_then_1 3 rfl rfl)
theorem dX0_then_26 : decode cX0_then 26 = .ok (.getfield 31, 3) := dk_180 0 31 (dk_at dksX0_then_1 4 rfl rfl)
theorem dX0_then_29 : decode cX0_then 29 = .ok (.invokevirtual 213, 3) := dk_182 0 213 (dk_at dksX0_then_1 7 rfl rfl)
theorem dX0_then_32 : decode cX0_then 32 = .ok (.istore_n 2, 1) := dk_61 (dk_at dksX0_then_1 10 rfl rfl)
theorem dX0_then_33 : decode cX0_then 33 = .ok (.aload_n 0, 1) := dk_42 (dk_at dksX0_then_1 11 rfl rfl)
theorem dX0_then_34 : decode cX0_then 34 = .ok (.getfield 31, 3) := dk_180 0 31 (dk_at dksX0_then_1 12 rfl rfl)
theorem dX0_then_37 : decode cX0_then 37 = .ok (.aload_n 0, 1) := dk_42 (dk_at dksX0_then_1 15 rfl rfl)
theorem dX0_then_38 : decode cX0_then 38 = .ok (.getfield 57, 3) := dk_180 0 57 (dk_at dksX0_then_1 16 rfl rfl)
theorem dX0_then_41 : decode cX0_then 41 = .ok (.invokevirtual 193, 3) := dk_182 0 193 (dk_at dksX0_then_1 19 rfl rfl)
theorem dX0_then_44 : decode cX0_then 44 = .ok (.iload_n 2, 1) := dk_28 (dk_at dksX0_then_1 22 rfl rfl)
theorem dX0_then_45 : decode cX0_then 45 = .ok (.ireturn, 1) := dk_172 (dk_at dksX0_then_1 23 rfl rfl)
abbrev cX0_ends : ByteArray := prog_1_method_39_code
def yX0_ends : MethodName := ⟨RX0, "ends", "(I)I"⟩
def dkwX0_ends_3 : List UInt8 := [42, 180, 0, 57, 182, 0, 193, 29, 153, 0, 7, 28, 167, 0, 5, 16, 252, 172]
abbrev dktX0_ends_3 : List UInt8 := dkwX0_ends_3 ++ []
def dkwX0_ends_2 : List UInt8 := [167, 255, 232, 42, 180, 0, 31, 27, 182, 0, 122, 156, 0, 7, 4, 167, 0, 4, 3, 62, 42, 180, 0, 31]
abbrev dktX0_ends_2 : List UInt8 := dkwX0_ends_2 ++ dktX0_ends_3
def dkwX0_ends_1 : List UInt8 := [180, 0, 31, 27, 182, 0, 122, 155, 0, 19, 28, 16, 60, 162, 0, 13, 42, 182, 0, 247, 132, 2, 1]
abbrev dktX0_ends_1 : List UInt8 := dkwX0_ends_1 ++ dktX0_ends_2
def dkwX0_ends_0 : List UInt8 := [42, 27, 182, 0, 110, 154, 0, 5, 2, 172, 42, 180, 0, 57, 42, 180, 0, 31, 182, 0, 193, 3, 61, 42]
abbrev dktX0_ends_0 : List UInt8 := dkwX0_ends_0 ++ dktX0_ends_1
theorem dksX0_ends_0 : cX0_ends.data.toList.drop 0 = dktX0_ends_0 := by decide +kernel
theorem dksX0_ends_1 : cX0_ends.data.toList.drop 24 = dktX0_ends_1 := dk_seg dksX0_ends_0 24 rfl rfl
theorem dksX0_ends_2 : cX0_ends.data.toList.drop 47 = dktX0_ends_2 := dk_seg dksX0_ends_1 23 rfl rfl
theorem dksX0_ends_3 : cX0_ends.data.toList.drop 71 = dktX0_ends_3 := dk_seg dksX0_ends_2 24 rfl rfl
theorem dX0_ends_0 : decode cX0_ends 0 = .ok (.aload_n 0, 1) := dk_42 (dk_at dksX0_ends_0 0 rfl rfl)
theorem dX0_ends_1 : decode cX0_ends 1 = .ok (.iload_n 1, 1) := dk_27 (dk_at dksX0_ends_0 1 rfl rfl)
theorem dX0_ends_2 : decode cX0_ends 2 = .ok (.invokevirtual 110, 3) := dk_182 0 110 (dk_at dksX0_ends_0 2 rfl rfl)
theorem dX0_ends_5 : decode cX0_ends 5 = .ok (.ifCond .ne 5, 3) := dk_154 0 5 (dk_at dksX0_ends_0 5 rfl rfl)
theorem dX0_ends_8 : decode cX0_ends 8 = .ok (.iconst (-1), 1) := dk_2 (dk_at dksX0_ends_0 8 rfl rfl)
theorem dX0_ends_9 : decode cX0_ends 9 = .ok (.ireturn, 1) := dk_172 (dk_at dksX0_ends_0 9 rfl rfl)
theorem dX0_ends_10 : decode cX0_ends 10 = .ok (.aload_n 0, 1) := dk_42 (dk_at dksX0_ends_0 10 rfl rfl)
theorem dX0_ends_11 : decode cX0_ends 11 = .ok (.getfield 57, 3) := dk_180 0 57 (dk_at dksX0_ends_0 11 rfl rfl)
theorem dX0_ends_14 : decode cX0_ends 14 = .ok (.aload_n 0, 1) := dk_42 (dk_at dksX0_ends_0 14 rfl rfl)
theorem dX0_ends_15 : decode cX0_ends 15 = .ok (.getfield 31, 3) := dk_180 0 31 (dk_at dksX0_ends_0 15 rfl rfl)
theorem dX0_ends_18 : decode cX0_ends 18 = .ok (.invokevirtual 193, 3) := dk_182 0 193 (dk_at dksX0_ends_0 18 rfl rfl)
theorem dX0_ends_21 : decode cX0_ends 21 = .ok (.iconst 0, 1) := dk_3 (dk_at dksX0_ends_0 21 rfl rfl)
theorem dX0_ends_22 : decode cX0_ends 22 = .ok (.istore_n 2, 1) := dk_61 (dk_at dksX0_ends_0 22 rfl rfl)
theorem dX0_ends_23 : decode cX0_ends 23 = .ok (.aload_n 0, 1) := dk_42 (dk_at dksX0_ends_0 23 rfl rfl)
theorem dX0_ends_24 : decode cX0_ends 24 = .ok (.getfield 31, 3) := dk_180 0 31 (dk_at dksX0_ends_1 0 rfl rfl)
theorem dX0_ends_27 : decode cX0_ends 27 = .ok (.iload_n 1, 1) := dk_27 (dk_at dksX0_ends_1 3 rfl rfl)
theorem dX0_ends_28 : decode cX0_ends 28 = .ok (.invokevirtual 122, 3) := dk_182 0 122 (dk_at dksX0_ends_1 4 rfl rfl)
theorem dX0_ends_31 : decode cX0_ends 31 = .ok (.ifCond .lt 19, 3) := dk_155 0 19 (dk_at dksX0_ends_1 7 rfl rfl)
theorem dX0_ends_34 : decode cX0_ends 34 = .ok (.iload_n 2, 1) := dk_28 (dk_at dksX0_ends_1 10 rfl rfl)
theorem dX0_ends_35 : decode cX0_ends 35 = .ok (.bipush 60, 2) := dk_16 60 (dk_at dksX0_ends_1 11 rfl rfl)
theorem dX0_ends_37 : decode cX0_ends 37 = .ok (.if_icmp .ge 13, 3) := dk_162 0 13 (dk_at dksX0_ends_1 13 rfl rfl)
theorem dX0_ends_40 : decode cX0_ends 40 = .ok (.aload_n 0, 1) := dk_42 (dk_at dksX0_ends_1 16 rfl rfl)
theorem dX0_ends_41 : decode cX0_ends 41 = .ok (.invokevirtual 247, 3) := dk_182 0 247 (dk_at dksX0_ends_1 17 rfl rfl)
theorem dX0_ends_44 : decode cX0_ends 44 = .ok (.iinc 2 1, 3) := dk_132 2 1 (dk_at dksX0_ends_1 20 rfl rfl)
theorem dX0_ends_47 : decode cX0_ends 47 = .ok (.goto (-24), 3) := dk_167 255 232 (dk_at dksX0_ends_2 0 rfl rfl)
theorem dX0_ends_50 : decode cX0_ends 50 = .ok (.aload_n 0, 1) := dk_42 (dk_at dksX0_ends_2 3 rfl rfl)
theorem dX0_ends_51 : decode cX0_ends 51 = .ok (.getfield 31, 3) := dk_180 0 31 (dk_at dksX0_ends_2 4 rfl rfl)
theorem dX0_ends_54 : decode cX0_ends 54 = .ok (.iload_n 1, 1) := dk_27 (dk_at dksX0_ends_2 7 rfl rfl)
theorem dX0_ends_55 : decode cX0_ends 55 = .ok (.invokevirtual 122, 3) := dk_182 0 122 (dk_at dksX0_ends_2 8 rfl rfl)
theorem dX0_ends_58 : decode cX0_ends 58 = .ok (.ifCond .ge 7, 3) := dk_156 0 7 (dk_at dksX0_ends_2 11 rfl rfl)
theorem dX0_ends_61 : decode cX0_ends 61 = .ok (.iconst 1, 1) := dk_4 (dk_at dksX0_ends_2 14 rfl rfl)
theorem dX0_ends_62 : decode cX0_ends 62 = .ok (.goto 4, 3) := dk_167 0 4 (dk_at dksX0_ends_2 15 rfl rfl)
theorem dX0_ends_65 : decode cX0_ends 65 = .ok (.iconst 0, 1) := dk_3 (dk_at dksX0_ends_2 18 rfl rfl)
theorem dX0_ends_66 : decode cX0_ends 66 = .ok (.istore_n 3, 1) := dk_62 (dk_at dksX0_ends_2 19 rfl rfl)
theorem dX0_ends_67 : decode cX0_ends 67 = .ok (.aload_n 0, 1) := dk_42 (dk_at dksX0_ends_2 20 rfl rfl)
theorem dX0_ends_68 : decode cX0_ends 68 = .ok (.getfield 31, 3) := dk_180 0 31 (dk_at dksX0_ends_2 21 rfl rfl)
theorem dX0_ends_71 : decode cX0_ends 71 = .ok (.aload_n 0, 1) := dk_42 (dk_at dksX0_ends_3 0 rfl rfl)
theorem dX0_ends_72 : decode cX0_ends 72 = .ok (.getfield 57, 3) := dk_180 0 57 (dk_at dksX0_ends_3 1 rfl rfl)
theorem dX0_ends_75 : decode cX0_ends 75 = .ok (.invokevirtual 193, 3) := dk_182 0 193 (dk_at dksX0_ends_3 4 rfl rfl)
theorem dX0_ends_78 : decode cX0_ends 78 = .ok (.iload_n 3, 1) := dk_29 (dk_at dksX0_ends_3 7 rfl rfl)
theorem dX0_ends_79 : decode cX0_ends 79 = .ok (.ifCond .eq 7, 3) := dk_153 0 7 (dk_at dksX0_ends_3 8 rfl rfl)
theorem dX0_ends_82 : decode cX0_ends 82 = .ok (.iload_n 2, 1) := dk_28 (dk_at dksX0_ends_3 11 rfl rfl)
theorem dX0_ends_83 : decode cX0_ends 83 = .ok (.goto 5, 3) := dk_167 0 5 (dk_at dksX0_ends_3 12 rfl rfl)
theorem dX0_ends_86 : decode cX0_ends 86 = .ok (.bipush (-4), 2) := dk_16 252 (dk_at dksX0_ends_3 15 rfl rfl)
theorem dX0_ends_88 : decode cX0_ends 88 = .ok (.ireturn, 1) := dk_172 (dk_at dksX0_ends_3 17 rfl rfl)
abbrev cX0_lonely : ByteArray := prog_1_method_40_code
def yX0_lonely : MethodName := ⟨RX0, "lonely", "()I"⟩
def dkwX0_lonely_3 : List UInt8 := [27, 167, 0, 5, 16, 252, 172]
abbrev dktX0_lonely_3 : List UInt8 := dkwX0_lonely_3 ++ []
def dkwX0_lonely_2 : List UInt8 := [162, 0, 7, 4, 167, 0, 4, 3, 61, 42, 180, 0, 31, 42, 180, 0, 57, 182, 0, 193, 28, 153, 0, 7]
abbrev dktX0_lonely_2 : List UInt8 := dkwX0_lonely_2 ++ dktX0_lonely_3
def dkwX0_lonely_1 : List UInt8 := [27, 16, 60, 162, 0, 13, 42, 182, 0, 247, 132, 1, 1, 167, 255, 232, 42, 180, 0, 31, 180, 0, 145, 5]
abbrev dktX0_lonely_1 : List UInt8 := dkwX0_lonely_1 ++ dktX0_lonely_2
def dkwX0_lonely_0 : List UInt8 := [42, 180, 0, 57, 42, 180, 0, 31, 182, 0, 193, 3, 60, 42, 180, 0, 31, 180, 0, 145, 4, 164, 0, 19]
abbrev dktX0_lonely_0 : List UInt8 := dkwX0_lonely_0 ++ dktX0_lonely_1
theorem dksX0_lonely_0 : cX0_lonely.data.toList.drop 0 = dktX0_lonely_0 := by decide +kernel
theorem dksX0_lonely_1 : cX0_lonely.data.toList.drop 24 = dktX0_lonely_1 := dk_seg dksX0_lonely_0 24 rfl rfl
theorem dksX0_lonely_2 : cX0_lonely.data.toList.drop 48 = dktX0_lonely_2 := dk_seg dksX0_lonely_1 24 rfl rfl
theorem dksX0_lonely_3 : cX0_lonely.data.toList.drop 72 = dktX0_lonely_3 := dk_seg dksX0_lonely_2 24 rfl rfl
theorem dX0_lonely_0 : decode cX0_lonely 0 = .ok (.aload_n 0, 1) := dk_42 (dk_at dksX0_lonely_0 0 rfl rfl)
theorem dX0_lonely_1 : decode cX0_lonely 1 = .ok (.getfield 57, 3) := dk_180 0 57 (dk_at dksX0_lonely_0 1 rfl rfl)
theorem dX0_lonely_4 : decode cX0_lonely 4 = .ok (.aload_n 0, 1) := dk_42 (dk_at dksX0_lonely_0 4 rfl rfl)
theorem dX0_lonely_5 : decode cX0_lonely 5 = .ok (.getfield 31, 3) := dk_180 0 31 (dk_at dksX0_lonely_0 5 rfl rfl)
theorem dX0_lonely_8 : decode cX0_lonely 8 = .ok (.invokevirtual 193, 3) := dk_182 0 193 (dk_at dksX0_lonely_0 8 rfl rfl)
theorem dX0_lonely_11 : decode cX0_lonely 11 = .ok (.iconst 0, 1) := dk_3 (dk_at dksX0_lonely_0 11 rfl rfl)
theorem dX0_lonely_12 : decode cX0_lonely 12 = .ok (.istore_n 1, 1) := dk_60 (dk_at dksX0_lonely_0 12 rfl rfl)
theorem dX0_lonely_13 : decode cX0_lonely 13 = .ok (.aload_n 0, 1) := dk_42 (dk_at dksX0_lonely_0 13 rfl rfl)
theorem dX0_lonely_14 : decode cX0_lonely 14 = .ok (.getfield 31, 3) := dk_180 0 31 (dk_at dksX0_lonely_0 14 rfl rfl)
theorem dX0_lonely_17 : decode cX0_lonely 17 = .ok (.getfield 145, 3) := dk_180 0 145 (dk_at dksX0_lonely_0 17 rfl rfl)
theorem dX0_lonely_20 : decode cX0_lonely 20 = .ok (.iconst 1, 1) := dk_4 (dk_at dksX0_lonely_0 20 rfl rfl)
theorem dX0_lonely_21 : decode cX0_lonely 21 = .ok (.if_icmp .le 19, 3) := dk_164 0 19 (dk_at dksX0_lonely_0 21 rfl rfl)
theorem dX0_lonely_24 : decode cX0_lonely 24 = .ok (.iload_n 1, 1) := dk_27 (dk_at dksX0_lonely_1 0 rfl rfl)
theorem dX0_lonely_25 : decode cX0_lonely 25 = .ok (.bipush 60, 2) := dk_16 60 (dk_at dksX0_lonely_1 1 rfl rfl)
theorem dX0_lonely_27 : decode cX0_lonely 27 = .ok (.if_icmp .ge 13, 3) := dk_162 0 13 (dk_at dksX0_lonely_1 3 rfl rfl)
theorem dX0_lonely_30 : decode cX0_lonely 30 = .ok (.aload_n 0, 1) := dk_42 (dk_at dksX0_lonely_1 6 rfl rfl)
theorem dX0_lonely_31 : decode cX0_lonely 31 = .ok (.invokevirtual 247, 3) := dk_182 0 247 (dk_at dksX0_lonely_1 7 rfl rfl)
theorem dX0_lonely_34 : decode cX0_lonely 34 = .ok (.iinc 1 1, 3) := dk_132 1 1 (dk_at dksX0_lonely_1 10 rfl rfl)
theorem dX0_lonely_37 : decode cX0_lonely 37 = .ok (.goto (-24), 3) := dk_167 255 232 (dk_at dksX0_lonely_1 13 rfl rfl)
theorem dX0_lonely_40 : decode cX0_lonely 40 = .ok (.aload_n 0, 1) := dk_42 (dk_at dksX0_lonely_1 16 rfl rfl)
theorem dX0_lonely_41 : decode cX0_lonely 41 = .ok (.getfield 31, 3) := dk_180 0 31 (dk_at dksX0_lonely_1 17 rfl rfl)
theorem dX0_lonely_44 : decode cX0_lonely 44 = .ok (.getfield 145, 3) := dk_180 0 145 (dk_at dksX0_lonely_1 20 rfl rfl)
theorem dX0_lonely_47 : decode cX0_lonely 47 = .ok (.iconst 2, 1) := dk_5 (dk_at dksX0_lonely_1 23 rfl rfl)
theorem dX0_lonely_48 : decode cX0_lonely 48 = .ok (.if_icmp .ge 7, 3) := dk_162 0 7 (dk_at dksX0_lonely_2 0 rfl rfl)
theorem dX0_lonely_51 : decode cX0_lonely 51 = .ok (.iconst 1, 1) := dk_4 (dk_at dksX0_lonely_2 3 rfl rfl)
theorem dX0_lonely_52 : decode cX0_lonely 52 = .ok (.goto 4, 3) := dk_167 0 4 (dk_at dksX0_lonely_2 4 rfl rfl)
theorem dX0_lonely_55 : decode cX0_lonely 55 = .ok (.iconst 0, 1) := dk_3 (dk_at dksX0_lonely_2 7 rfl rfl)
theorem dX0_lonely_56 : decode cX0_lonely 56 = .ok (.istore_n 2, 1) := dk_61 (dk_at dksX0_lonely_2 8 rfl rfl)
theorem dX0_lonely_57 : decode cX0_lonely 57 = .ok (.aload_n 0, 1) := dk_42 (dk_at dksX0_lonely_2 9 rfl rfl)
theorem dX0_lonely_58 : decode cX0_lonely 58 = .ok (.getfield 31, 3) := dk_180 0 31 (dk_at dksX0_lonely_2 10 rfl rfl)
theorem dX0_lonely_61 : decode cX0_lonely 61 = .ok (.aload_n 0, 1) := dk_42 (dk_at dksX0_lonely_2 13 rfl rfl)
theorem dX0_lonely_62 : decode cX0_lonely 62 = .ok (.getfield 57, 3) := dk_180 0 57 (dk_at dksX0_lonely_2 14 rfl rfl)
theorem dX0_lonely_65 : decode cX0_lonely 65 = .ok (.invokevirtual 193, 3) := dk_182 0 193 (dk_at dksX0_lonely_2 17 rfl rfl)
theorem dX0_lonely_68 : decode cX0_lonely 68 = .ok (.iload_n 2, 1) := dk_28 (dk_at dksX0_lonely_2 20 rfl rfl)
theorem dX0_lonely_69 : decode cX0_lonely 69 = .ok (.ifCond .eq 7, 3) := dk_153 0 7 (dk_at dksX0_lonely_2 21 rfl rfl)
theorem dX0_lonely_72 : decode cX0_lonely 72 = .ok (.iload_n 1, 1) := dk_27 (dk_at dksX0_lonely_3 0 rfl rfl)
theorem dX0_lonely_73 : decode cX0_lonely 73 = .ok (.goto 5, 3) := dk_167 0 5 (dk_at dksX0_lonely_3 1 rfl rfl)
theorem dX0_lonely_76 : decode cX0_lonely 76 = .ok (.bipush (-4), 2) := dk_16 252 (dk_at dksX0_lonely_3 4 rfl rfl)
theorem dX0_lonely_78 : decode cX0_lonely 78 = .ok (.ireturn, 1) := dk_172 (dk_at dksX0_lonely_3 6 rfl rfl)
abbrev cX0_close : ByteArray := prog_1_method_41_code
def yX0_close : MethodName := ⟨RX0, "close", "(II)I"⟩
def dkwX0_close_4 : List UInt8 := [153, 0, 7, 29, 167, 0, 5, 16, 252, 172]
abbrev dktX0_close_4 : List UInt8 := dkwX0_close_4 ++ []
def dkwX0_close_3 : List UInt8 := [182, 0, 139, 28, 184, 1, 13, 54, 4, 42, 180, 0, 31, 42, 180, 0, 57, 182, 0, 193, 21, 4]
abbrev dktX0_close_3 : List UInt8 := dkwX0_close_3 ++ dktX0_close_4
def dkwX0_close_2 : List UInt8 := [154, 0, 19, 29, 16, 60, 162, 0, 13, 42, 182, 0, 247, 132, 3, 1, 167, 255, 228, 42, 180, 0, 31, 27]
abbrev dktX0_close_2 : List UInt8 := dkwX0_close_2 ++ dktX0_close_3
def dkwX0_close_1 : List UInt8 := [180, 0, 57, 42, 180, 0, 31, 182, 0, 193, 3, 62, 42, 180, 0, 31, 27, 182, 0, 139, 28, 184, 1, 13]
abbrev dktX0_close_1 : List UInt8 := dkwX0_close_1 ++ dktX0_close_2
def dkwX0_close_0 : List UInt8 := [42, 27, 182, 0, 110, 153, 0, 16, 42, 28, 182, 0, 110, 153, 0, 8, 27, 28, 160, 0, 5, 2, 172, 42]
abbrev dktX0_close_0 : List UInt8 := dkwX0_close_0 ++ dktX0_close_1
theorem dksX0_close_0 : cX0_close.data.toList.drop 0 = dktX0_close_0 := by decide +kernel
theorem dksX0_close_1 : cX0_close.data.toList.drop 24 = dktX0_close_1 := dk_seg dksX0_close_0 24 rfl rfl
theorem dksX0_close_2 : cX0_close.data.toList.drop 48 = dktX0_close_2 := dk_seg dksX0_close_1 24 rfl rfl
theorem dksX0_close_3 : cX0_close.data.toList.drop 72 = dktX0_close_3 := dk_seg dksX0_close_2 24 rfl rfl
theorem dksX0_close_4 : cX0_close.data.toList.drop 94 = dktX0_close_4 := dk_seg dksX0_close_3 22 rfl rfl
theorem dX0_close_0 : decode cX0_close 0 = .ok (.aload_n 0, 1) := dk_42 (dk_at dksX0_close_0 0 rfl rfl)
theorem dX0_close_1 : decode cX0_close 1 = .ok (.iload_n 1, 1) := dk_27 (dk_at dksX0_close_0 1 rfl rfl)
theorem dX0_close_2 : decode cX0_close 2 = .ok (.invokevirtual 110, 3) := dk_182 0 110 (dk_at dksX0_close_0 2 rfl rfl)
theorem dX0_close_5 : decode cX0_close 5 = .ok (.ifCond .eq 16, 3) := dk_153 0 16 (dk_at dksX0_close_0 5 rfl rfl)
theorem dX0_close_8 : decode cX0_close 8 = .ok (.aload_n 0, 1) := dk_42 (dk_at dksX0_close_0 8 rfl rfl)
theorem dX0_close_9 : decode cX0_close 9 = .ok (.iload_n 2, 1) := dk_28 (dk_at dksX0_close_0 9 rfl rfl)
theorem dX0_close_10 : decode cX0_close 10 = .ok (.invokevirtual 110, 3) := dk_182 0 110 (dk_at dksX0_close_0 10 rfl rfl)
theorem dX0_close_13 : decode cX0_close 13 = .ok (.ifCond .eq 8, 3) := dk_153 0 8 (dk_at dksX0_close_0 13 rfl rfl)
theorem dX0_close_16 : decode cX0_close 16 = .ok (.iload_n 1, 1) := dk_27 (dk_at dksX0_close_0 16 rfl rfl)
theorem dX0_close_17 : decode cX0_close 17 = .ok (.iload_n 2, 1) := dk_28 (dk_at dksX0_close_0 17 rfl rfl)
theorem dX0_close_18 : decode cX0_close 18 = .ok (.if_icmp .ne 5, 3) := dk_160 0 5 (dk_at dksX0_close_0 18 rfl rfl)
theorem dX0_close_21 : decode cX0_close 21 = .ok (.iconst (-1), 1) := dk_2 (dk_at dksX0_close_0 21 rfl rfl)
theorem dX0_close_22 : decode cX0_close 22 = .ok (.ireturn, 1) := dk_172 (dk_at dksX0_close_0 22 rfl rfl)
theorem dX0_close_23 : decode cX0_close 23 = .ok (.aload_n 0, 1) := dk_42 (dk_at dksX0_close_0 23 rfl rfl)
theorem dX0_close_24 : decode cX0_close 24 = .ok (.getfield 57, 3) := dk_180 0 57 (dk_at dksX0_close_1 0 rfl rfl)
theorem dX0_close_27 : decode cX0_close 27 = .ok (.aload_n 0, 1) := dk_42 (dk_at dksX0_close_1 3 rfl rfl)
theorem dX0_close_28 : decode cX0_close 28 = .ok (.getfield 31, 3) := dk_180 0 31 (dk_at dksX0_close_1 4 rfl rfl)
theorem dX0_close_31 : decode cX0_close 31 = .ok (.invokevirtual 193, 3) := dk_182 0 193 (dk_at dksX0_close_1 7 rfl rfl)
theorem dX0_close_34 : decode cX0_close 34 = .ok (.iconst 0, 1) := dk_3 (dk_at dksX0_close_1 10 rfl rfl)
theorem dX0_close_35 : decode cX0_close 35 = .ok (.istore_n 3, 1) := dk_62 (dk_at dksX0_close_1 11 rfl rfl)
theorem dX0_close_36 : decode cX0_close 36 = .ok (.aload_n 0, 1) := dk_42 (dk_at dksX0_close_1 12 rfl rfl)
theorem dX0_close_37 : decode cX0_close 37 = .ok (.getfield 31, 3) := dk_180 0 31 (dk_at dksX0_close_1 13 rfl rfl)
theorem dX0_close_40 : decode cX0_close 40 = .ok (.iload_n 1, 1) := dk_27 (dk_at dksX0_close_1 16 rfl rfl)
theorem dX0_close_41 : decode cX0_close 41 = .ok (.invokevirtual 139, 3) := dk_182 0 139 (dk_at dksX0_close_1 17 rfl rfl)
theorem dX0_close_44 : decode cX0_close 44 = .ok (.iload_n 2, 1) := dk_28 (dk_at dksX0_close_1 20 rfl rfl)
theorem dX0_close_45 : decode cX0_close 45 = .ok (.invokestatic 269, 3) := dk_184 1 13 (dk_at dksX0_close_1 21 rfl rfl)
theorem dX0_close_48 : decode cX0_close 48 = .ok (.ifCond .ne 19, 3) := dk_154 0 19 (dk_at dksX0_close_2 0 rfl rfl)
theorem dX0_close_51 : decode cX0_close 51 = .ok (.iload_n 3, 1) := dk_29 (dk_at dksX0_close_2 3 rfl rfl)
theorem dX0_close_52 : decode cX0_close 52 = .ok (.bipush 60, 2) := dk_16 60 (dk_at dksX0_close_2 4 rfl rfl)
theorem dX0_close_54 : decode cX0_close 54 = .ok (.if_icmp .ge 13, 3) := dk_162 0 13 (dk_at dksX0_close_2 6 rfl rfl)
theorem dX0_close_57 : decode cX0_close 57 = .ok (.aload_n 0, 1) := dk_42 (dk_at dksX0_close_2 9 rfl rfl)
theorem dX0_close_58 : decode cX0_close 58 = .ok (.invokevirtual 247, 3) := dk_182 0 247 (dk_at dksX0_close_2 10 rfl rfl)
theorem dX0_close_61 : decode cX0_close 61 = .ok (.iinc 3 1, 3) := dk_132 3 1 (dk_at dksX0_close_2 13 rfl rfl)
theorem dX0_close_64 : decode cX0_close 64 = .ok (.goto (-28), 3) := dk_167 255 228 (dk_at dksX0_close_2 16 rfl rfl)
theorem dX0_close_67 : decode cX0_close 67 = .ok (.aload_n 0, 1) := dk_42 (dk_at dksX0_close_2 19 rfl rfl)
theorem dX0_close_68 : decode cX0_close 68 = .ok (.getfield 31, 3) := dk_180 0 31 (dk_at dksX0_close_2 20 rfl rfl)
theorem dX0_close_71 : decode cX0_close 71 = .ok (.iload_n 1, 1) := dk_27 (dk_at dksX0_close_2 23 rfl rfl)
theorem dX0_close_72 : decode cX0_close 72 = .ok (.invokevirtual 139, 3) := dk_182 0 139 (dk_at dksX0_close_3 0 rfl rfl)
theorem dX0_close_75 : decode cX0_close 75 = .ok (.iload_n 2, 1) := dk_28 (dk_at dksX0_close_3 3 rfl rfl)
theorem dX0_close_76 : decode cX0_close 76 = .ok (.invokestatic 269, 3) := dk_184 1 13 (dk_at dksX0_close_3 4 rfl rfl)
theorem dX0_close_79 : decode cX0_close 79 = .ok (.istore 4, 2) := dk_54 4 (dk_at dksX0_close_3 7 rfl rfl)
theorem dX0_close_81 : decode cX0_close 81 = .ok (.aload_n 0, 1) := dk_42 (dk_at dksX0_close_3 9 rfl rfl)
theorem dX0_close_82 : decode cX0_close 82 = .ok (.getfield 31, 3) := dk_180 0 31 (dk_at dksX0_close_3 10 rfl rfl)
theorem dX0_close_85 : decode cX0_close 85 = .ok (.aload_n 0, 1) := dk_42 (dk_at dksX0_close_3 13 rfl rfl)
theorem dX0_close_86 : decode cX0_close 86 = .ok (.getfield 57, 3) := dk_180 0 57 (dk_at dksX0_close_3 14 rfl rfl)
theorem dX0_close_89 : decode cX0_close 89 = .ok (.invokevirtual 193, 3) := dk_182 0 193 (dk_at dksX0_close_3 17 rfl rfl)
theorem dX0_close_92 : decode cX0_close 92 = .ok (.iload 4, 2) := dk_21 4 (dk_at dksX0_close_3 20 rfl rfl)
theorem dX0_close_94 : decode cX0_close 94 = .ok (.ifCond .eq 7, 3) := dk_153 0 7 (dk_at dksX0_close_4 0 rfl rfl)
theorem dX0_close_97 : decode cX0_close 97 = .ok (.iload_n 3, 1) := dk_29 (dk_at dksX0_close_4 3 rfl rfl)
theorem dX0_close_98 : decode cX0_close 98 = .ok (.goto 5, 3) := dk_167 0 5 (dk_at dksX0_close_4 4 rfl rfl)
theorem dX0_close_101 : decode cX0_close 101 = .ok (.bipush (-4), 2) := dk_16 252 (dk_at dksX0_close_4 7 rfl rfl)
theorem dX0_close_103 : decode cX0_close 103 = .ok (.ireturn, 1) := dk_172 (dk_at dksX0_close_4 9 rfl rfl)
abbrev cX0_has : ByteArray := prog_1_method_2_code
def yX0_has : MethodName := ⟨RX0, "has", "(II)Z"⟩
def dkwX0_has_0 : List UInt8 := [26, 27, 122, 4, 126, 4, 160, 0, 7, 4, 167, 0, 4, 3, 172]
abbrev dktX0_has_0 : List UInt8 := dkwX0_has_0 ++ []
theorem dksX0_has_0 : cX0_has.data.toList.drop 0 = dktX0_has_0 := by decide +kernel
theorem dX0_has_0 : decode cX0_has 0 = .ok (.iload_n 0, 1) := dk_26 (dk_at dksX0_has_0 0 rfl rfl)
theorem dX0_has_1 : decode cX0_has 1 = .ok (.iload_n 1, 1) := dk_27 (dk_at dksX0_has_0 1 rfl rfl)
theorem dX0_has_2 : decode cX0_has 2 = .ok (.ishr, 1) := dk_122 (dk_at dksX0_has_0 2 rfl rfl)
theorem dX0_has_3 : decode cX0_has 3 = .ok (.iconst 1, 1) := dk_4 (dk_at dksX0_has_0 3 rfl rfl)
theorem dX0_has_4 : decode cX0_has 4 = .ok (.iand, 1) := dk_126 (dk_at dksX0_has_0 4 rfl rfl)
theorem dX0_has_5 : decode cX0_has 5 = .ok (.iconst 1, 1) := dk_4 (dk_at dksX0_has_0 5 rfl rfl)
theorem dX0_has_6 : decode cX0_has 6 = .ok (.if_icmp .ne 7, 3) := dk_160 0 7 (dk_at dksX0_has_0 6 rfl rfl)
theorem dX0_has_9 : decode cX0_has 9 = .ok (.iconst 1, 1) := dk_4 (dk_at dksX0_has_0 9 rfl rfl)
theorem dX0_has_10 : decode cX0_has 10 = .ok (.goto 4, 3) := dk_167 0 4 (dk_at dksX0_has_0 10 rfl rfl)
theorem dX0_has_13 : decode cX0_has 13 = .ok (.iconst 0, 1) := dk_3 (dk_at dksX0_has_0 13 rfl rfl)
theorem dX0_has_14 : decode cX0_has 14 = .ok (.ireturn, 1) := dk_172 (dk_at dksX0_has_0 14 rfl rfl)
abbrev cX0_swaps : ByteArray := prog_1_method_43_code
def yX0_swaps : MethodName := ⟨RX0, "swaps", "(I)I"⟩
def dkwX0_swaps_3 : List UInt8 := [132, 3, 1, 167, 255, 195, 28, 172]
abbrev dktX0_swaps_3 : List UInt8 := dkwX0_swaps_3 ++ []
def dkwX0_swaps_2 : List UInt8 := [42, 21, 4, 27, 182, 1, 16, 164, 0, 7, 4, 167, 0, 4, 3, 96, 61, 132, 4, 1, 167, 255, 217]
abbrev dktX0_swaps_2 : List UInt8 := dkwX0_swaps_2 ++ dktX0_swaps_3
def dkwX0_swaps_1 : List UInt8 := [29, 4, 96, 54, 4, 21, 4, 42, 180, 0, 31, 180, 0, 145, 162, 0, 33, 28, 42, 29, 27, 182, 1, 16]
abbrev dktX0_swaps_1 : List UInt8 := dkwX0_swaps_1 ++ dktX0_swaps_2
def dkwX0_swaps_0 : List UInt8 := [27, 184, 0, 114, 154, 0, 5, 2, 172, 3, 61, 3, 62, 29, 42, 180, 0, 31, 180, 0, 145, 162, 0, 56]
abbrev dktX0_swaps_0 : List UInt8 := dkwX0_swaps_0 ++ dktX0_swaps_1
theorem dksX0_swaps_0 : cX0_swaps.data.toList.drop 0 = dktX0_swaps_0 := by decide +kernel
theorem dksX0_swaps_1 : cX0_swaps.data.toList.drop 24 = dktX0_swaps_1 := dk_seg dksX0_swaps_0 24 rfl rfl
theorem dksX0_swaps_2 : cX0_swaps.data.toList.drop 48 = dktX0_swaps_2 := dk_seg dksX0_swaps_1 24 rfl rfl
theorem dksX0_swaps_3 : cX0_swaps.data.toList.drop 71 = dktX0_swaps_3 := dk_seg dksX0_swaps_2 23 rfl rfl
theorem dX0_swaps_0 : decode cX0_swaps 0 = .ok (.iload_n 1, 1) := dk_27 (dk_at dksX0_swaps_0 0 rfl rfl)
theorem dX0_swaps_1 : decode cX0_swaps 1 = .ok (.invokestatic 114, 3) := dk_184 0 114 (dk_at dksX0_swaps_0 1 rfl rfl)
theorem dX0_swaps_4 : decode cX0_swaps 4 = .ok (.ifCond .ne 5, 3) := dk_154 0 5 (dk_at dksX0_swaps_0 4 rfl rfl)
theorem dX0_swaps_7 : decode cX0_swaps 7 = .ok (.iconst (-1), 1) := dk_2 (dk_at dksX0_swaps_0 7 rfl rfl)
theorem dX0_swaps_8 : decode cX0_swaps 8 = .ok (.ireturn, 1) := dk_172 (dk_at dksX0_swaps_0 8 rfl rfl)
theorem dX0_swaps_9 : decode cX0_swaps 9 = .ok (.iconst 0, 1) := dk_3 (dk_at dksX0_swaps_0 9 rfl rfl)
theorem dX0_swaps_10 : decode cX0_swaps 10 = .ok (.istore_n 2, 1) := dk_61 (dk_at dksX0_swaps_0 10 rfl rfl)
theorem dX0_swaps_11 : decode cX0_swaps 11 = .ok (.iconst 0, 1) := dk_3 (dk_at dksX0_swaps_0 11 rfl rfl)
theorem dX0_swaps_12 : decode cX0_swaps 12 = .ok (.istore_n 3, 1) := dk_62 (dk_at dksX0_swaps_0 12 rfl rfl)
theorem dX0_swaps_13 : decode cX0_swaps 13 = .ok (.iload_n 3, 1) := dk_29 (dk_at dksX0_swaps_0 13 rfl rfl)
theorem dX0_swaps_14 : decode cX0_swaps 14 = .ok (.aload_n 0, 1) := dk_42 (dk_at dksX0_swaps_0 14 rfl rfl)
theorem dX0_swaps_15 : decode cX0_swaps 15 = .ok (.getfield 31, 3) := dk_180 0 31 (dk_at dksX0_swaps_0 15 rfl rfl)
theorem dX0_swaps_18 : decode cX0_swaps 18 = .ok (.getfield 145, 3) := dk_180 0 145 (dk_at dksX0_swaps_0 18 rfl rfl)
theorem dX0_swaps_21 : decode cX0_swaps 21 = .ok (.if_icmp .ge 56, 3) := dk_162 0 56 (dk_at dksX0_swaps_0 21 rfl rfl)
theorem dX0_swaps_24 : decode cX0_swaps 24 = .ok (.iload_n 3, 1) := dk_29 (dk_at dksX0_swaps_1 0 rfl rfl)
theorem dX0_swaps_25 : decode cX0_swaps 25 = .ok (.iconst 1, 1) := dk_4 (dk_at dksX0_swaps_1 1 rfl rfl)
theorem dX0_swaps_26 : decode cX0_swaps 26 = .ok (.iadd, 1) := dk_96 (dk_at dksX0_swaps_1 2 rfl rfl)
theorem dX0_swaps_27 : decode cX0_swaps 27 = .ok (.istore 4, 2) := dk_54 4 (dk_at dksX0_swaps_1 3 rfl rfl)
theorem dX0_swaps_29 : decode cX0_swaps 29 = .ok (.iload 4, 2) := dk_21 4 (dk_at dksX0_swaps_1 5 rfl rfl)
theorem dX0_swaps_31 : decode cX0_swaps 31 = .ok (.aload_n 0, 1) := dk_42 (dk_at dksX0_swaps_1 7 rfl rfl)
theorem dX0_swaps_32 : decode cX0_swaps 32 = .ok (.getfield 31, 3) := dk_180 0 31 (dk_at dksX0_swaps_1 8 rfl rfl)
theorem dX0_swaps_35 : decode cX0_swaps 35 = .ok (.getfield 145, 3) := dk_180 0 145 (dk_at dksX0_swaps_1 11 rfl rfl)
theorem dX0_swaps_38 : decode cX0_swaps 38 = .ok (.if_icmp .ge 33, 3) := dk_162 0 33 (dk_at dksX0_swaps_1 14 rfl rfl)
theorem dX0_swaps_41 : decode cX0_swaps 41 = .ok (.iload_n 2, 1) := dk_28 (dk_at dksX0_swaps_1 17 rfl rfl)
theorem dX0_swaps_42 : decode cX0_swaps 42 = .ok (.aload_n 0, 1) := dk_42 (dk_at dksX0_swaps_1 18 rfl rfl)
theorem dX0_swaps_43 : decode cX0_swaps 43 = .ok (.iload_n 3, 1) := dk_29 (dk_at dksX0_swaps_1 19 rfl rfl)
theorem dX0_swaps_44 : decode cX0_swaps 44 = .ok (.iload_n 1, 1) := dk_27 (dk_at dksX0_swaps_1 20 rfl rfl)
theorem dX0_swaps_45 : decode cX0_swaps 45 = .ok (.invokevirtual 272, 3) := dk_182 1 16 (dk_at dksX0_swaps_1 21 rfl rfl)
theorem dX0_swaps_48 : decode cX0_swaps 48 = .ok (.aload_n 0, 1) := dk_42 (dk_at dksX0_swaps_2 0 rfl rfl)
theorem dX0_swaps_49 : decode cX0_swaps 49 = .ok (.iload 4, 2) := dk_21 4 (dk_at dksX0_swaps_2 1 rfl rfl)
theorem dX0_swaps_51 : decode cX0_swaps 51 = .ok (.iload_n 1, 1) := dk_27 (dk_at dksX0_swaps_2 3 rfl rfl)
theorem dX0_swaps_52 : decode cX0_swaps 52 = .ok (.invokevirtual 272, 3) := dk_182 1 16 (dk_at dksX0_swaps_2 4 rfl rfl)
theorem dX0_swaps_55 : decode cX0_swaps 55 = .ok (.if_icmp .le 7, 3) := dk_164 0 7 (dk_at dksX0_swaps_2 7 rfl rfl)
theorem dX0_swaps_58 : decode cX0_swaps 58 = .ok (.iconst 1, 1) := dk_4 (dk_at dksX0_swaps_2 10 rfl rfl)
theorem dX0_swaps_59 : decode cX0_swaps 59 = .ok (.goto 4, 3) := dk_167 0 4 (dk_at dksX0_swaps_2 11 rfl rfl)
theorem dX0_swaps_62 : decode cX0_swaps 62 = .ok (.iconst 0, 1) := dk_3 (dk_at dksX0_swaps_2 14 rfl rfl)
theorem dX0_swaps_63 : decode cX0_swaps 63 = .ok (.iadd, 1) := dk_96 (dk_at dksX0_swaps_2 15 rfl rfl)
theorem dX0_swaps_64 : decode cX0_swaps 64 = .ok (.istore_n 2, 1) := dk_61 (dk_at dksX0_swaps_2 16 rfl rfl)
theorem dX0_swaps_65 : decode cX0_swaps 65 = .ok (.iinc 4 1, 3) := dk_132 4 1 (dk_at dksX0_swaps_2 17 rfl rfl)
theorem dX0_swaps_68 : decode cX0_swaps 68 = .ok (.goto (-39), 3) := dk_167 255 217 (dk_at dksX0_swaps_2 20 rfl rfl)
theorem dX0_swaps_71 : decode cX0_swaps 71 = .ok (.iinc 3 1, 3) := dk_132 3 1 (dk_at dksX0_swaps_3 0 rfl rfl)
theorem dX0_swaps_74 : decode cX0_swaps 74 = .ok (.goto (-61), 3) := dk_167 255 195 (dk_at dksX0_swaps_3 3 rfl rfl)
theorem dX0_swaps_77 : decode cX0_swaps 77 = .ok (.iload_n 2, 1) := dk_28 (dk_at dksX0_swaps_3 6 rfl rfl)
theorem dX0_swaps_78 : decode cX0_swaps 78 = .ok (.ireturn, 1) := dk_172 (dk_at dksX0_swaps_3 7 rfl rfl)
abbrev cX0_placeOn : ByteArray := prog_1_method_42_code
def yX0_placeOn : MethodName := ⟨RX0, "placeOn", "(II)I"⟩
def dkwX0_placeOn_0 : List UInt8 := [42, 180, 0, 31, 42, 180, 0, 31, 180, 0, 148, 27, 46, 28, 182, 0, 119, 172]
abbrev dktX0_placeOn_0 : List UInt8 := dkwX0_placeOn_0 ++ []
theorem dksX0_placeOn_0 : cX0_placeOn.data.toList.drop 0 = dktX0_placeOn_0 := by decide +kernel
theorem dX0_placeOn_0 : decode cX0_placeOn 0 = .ok (.aload_n 0, 1) := dk_42 (dk_at dksX0_placeOn_0 0 rfl rfl)
theorem dX0_placeOn_1 : decode cX0_placeOn 1 = .ok (.getfield 31, 3) := dk_180 0 31 (dk_at dksX0_placeOn_0 1 rfl rfl)
theorem dX0_placeOn_4 : decode cX0_placeOn 4 = .ok (.aload_n 0, 1) := dk_42 (dk_at dksX0_placeOn_0 4 rfl rfl)
theorem dX0_placeOn_5 : decode cX0_placeOn 5 = .ok (.getfield 31, 3) := dk_180 0 31 (dk_at dksX0_placeOn_0 5 rfl rfl)
theorem dX0_placeOn_8 : decode cX0_placeOn 8 = .ok (.getfield 148, 3) := dk_180 0 148 (dk_at dksX0_placeOn_0 8 rfl rfl)
theorem dX0_placeOn_11 : decode cX0_placeOn 11 = .ok (.iload_n 1, 1) := dk_27 (dk_at dksX0_placeOn_0 11 rfl rfl)
theorem dX0_placeOn_12 : decode cX0_placeOn 12 = .ok (.iaload, 1) := dk_46 (dk_at dksX0_placeOn_0 12 rfl rfl)
theorem dX0_placeOn_13 : decode cX0_placeOn 13 = .ok (.iload_n 2, 1) := dk_28 (dk_at dksX0_placeOn_0 13 rfl rfl)
theorem dX0_placeOn_14 : decode cX0_placeOn 14 = .ok (.invokevirtual 119, 3) := dk_182 0 119 (dk_at dksX0_placeOn_0 14 rfl rfl)
theorem dX0_placeOn_17 : decode cX0_placeOn 17 = .ok (.ireturn, 1) := dk_172 (dk_at dksX0_placeOn_0 17 rfl rfl)
abbrev cX0_stay : ByteArray := prog_1_method_45_code
def yX0_stay : MethodName := ⟨RX0, "stay", "(II)I"⟩
def dkwX0_stay_7 : List UInt8 := [154, 0, 10, 29, 184, 1, 22, 167, 0, 5, 21, 4, 172]
abbrev dktX0_stay_7 : List UInt8 := dkwX0_stay_7 ++ []
def dkwX0_stay_6 : List UInt8 := [180, 0, 31, 180, 0, 148, 21, 5, 46, 120, 167, 0, 4, 3, 128, 54, 4, 132, 5, 1, 167, 255, 211, 28]
abbrev dktX0_stay_6 : List UInt8 := dkwX0_stay_6 ++ dktX0_stay_7
def dkwX0_stay_5 : List UInt8 := [42, 180, 0, 31, 180, 0, 145, 162, 0, 39, 21, 4, 29, 21, 5, 184, 1, 13, 153, 0, 18, 4, 42]
abbrev dktX0_stay_5 : List UInt8 := dkwX0_stay_5 ++ dktX0_stay_6
def dkwX0_stay_4 : List UInt8 := [153, 0, 8, 21, 4, 167, 0, 4, 29, 62, 132, 4, 1, 167, 255, 170, 3, 54, 4, 3, 54, 5, 21, 5]
abbrev dktX0_stay_4 : List UInt8 := dkwX0_stay_4 ++ dktX0_stay_5
def dkwX0_stay_3 : List UInt8 := [167, 0, 4, 3, 54, 7, 21, 6, 157, 0, 8, 21, 7, 153, 0, 18, 42, 21, 4, 27, 182, 1, 27]
abbrev dktX0_stay_3 : List UInt8 := dkwX0_stay_3 ++ dktX0_stay_4
def dkwX0_stay_2 : List UInt8 := [184, 1, 22, 100, 54, 6, 21, 6, 154, 0, 19, 21, 4, 21, 5, 126, 21, 5, 116, 126, 153, 0, 7, 4]
abbrev dktX0_stay_2 : List UInt8 := dkwX0_stay_2 ++ dktX0_stay_3
def dkwX0_stay_1 : List UInt8 := [42, 180, 0, 31, 180, 0, 145, 120, 162, 0, 78, 21, 4, 29, 130, 54, 5, 21, 4, 184, 1, 22, 29]
abbrev dktX0_stay_1 : List UInt8 := dkwX0_stay_1 ++ dktX0_stay_2
def dkwX0_stay_0 : List UInt8 := [27, 184, 0, 114, 153, 0, 10, 28, 184, 1, 19, 154, 0, 5, 2, 172, 3, 62, 4, 54, 4, 21, 4, 4]
abbrev dktX0_stay_0 : List UInt8 := dkwX0_stay_0 ++ dktX0_stay_1
theorem dksX0_stay_0 : cX0_stay.data.toList.drop 0 = dktX0_stay_0 := by decide +kernel
theorem dksX0_stay_1 : cX0_stay.data.toList.drop 24 = dktX0_stay_1 := dk_seg dksX0_stay_0 24 rfl rfl
theorem dksX0_stay_2 : cX0_stay.data.toList.drop 47 = dktX0_stay_2 := dk_seg dksX0_stay_1 23 rfl rfl
theorem dksX0_stay_3 : cX0_stay.data.toList.drop 71 = dktX0_stay_3 := dk_seg dksX0_stay_2 24 rfl rfl
theorem dksX0_stay_4 : cX0_stay.data.toList.drop 94 = dktX0_stay_4 := dk_seg dksX0_stay_3 23 rfl rfl
theorem dksX0_stay_5 : cX0_stay.data.toList.drop 118 = dktX0_stay_5 := dk_seg dksX0_stay_4 24 rfl rfl
theorem dksX0_stay_6 : cX0_stay.data.toList.drop 141 = dktX0_stay_6 := dk_seg dksX0_stay_5 23 rfl rfl
theorem dksX0_stay_7 : cX0_stay.data.toList.drop 165 = dktX0_stay_7 := dk_seg dksX0_stay_6 24 rfl rfl
theorem dX0_stay_0 : decode cX0_stay 0 = .ok (.iload_n 1, 1) := dk_27 (dk_at dksX0_stay_0 0 rfl rfl)
theorem dX0_stay_1 : decode cX0_stay 1 = .ok (.invokestatic 114, 3) := dk_184 0 114 (dk_at dksX0_stay_0 1 rfl rfl)
theorem dX0_stay_4 : decode cX0_stay 4 = .ok (.ifCond .eq 10, 3) := dk_153 0 10 (dk_at dksX0_stay_0 4 rfl rfl)
theorem dX0_stay_7 : decode cX0_stay 7 = .ok (.iload_n 2, 1) := dk_28 (dk_at dksX0_stay_0 7 rfl rfl)
theorem dX0_stay_8 : decode cX0_stay 8 = .ok (.invokestatic 275, 3) := dk_184 1 19 (dk_at dksX0_stay_0 8 rfl rfl)
theorem dX0_stay_11 : decode cX0_stay 11 = .ok (.ifCond .ne 5, 3) := dk_154 0 5 (dk_at dksX0_stay_0 11 rfl rfl)
theorem dX0_stay_14 : decode cX0_stay 14 = .ok (.iconst (-1), 1) := dk_2 (dk_at dksX0_stay_0 14 rfl rfl)
theorem dX0_stay_15 : decode cX0_stay 15 = .ok (.ireturn, 1) := dk_172 (dk_at dksX0_stay_0 15 rfl rfl)
theorem dX0_stay_16 : decode cX0_stay 16 = .ok (.iconst 0, 1) := dk_3 (dk_at dksX0_stay_0 16 rfl rfl)
theorem dX0_stay_17 : decode cX0_stay 17 = .ok (.istore_n 3, 1) := dk_62 (dk_at dksX0_stay_0 17 rfl rfl)
theorem dX0_stay_18 : decode cX0_stay 18 = .ok (.iconst 1, 1) := dk_4 (dk_at dksX0_stay_0 18 rfl rfl)
theorem dX0_stay_19 : decode cX0_stay 19 = .ok (.istore 4, 2) := dk_54 4 (dk_at dksX0_stay_0 19 rfl rfl)
theorem dX0_stay_21 : decode cX0_stay 21 = .ok (.iload 4, 2) := dk_21 4 (dk_at dksX0_stay_0 21 rfl rfl)
theorem dX0_stay_23 : decode cX0_stay 23 = .ok (.iconst 1, 1) := dk_4 (dk_at dksX0_stay_0 23 rfl rfl)
theorem dX0_stay_24 : decode cX0_stay 24 = .ok (.aload_n 0, 1) := dk_42 (dk_at dksX0_stay_1 0 rfl rfl)
theorem dX0_stay_25 : decode cX0_stay 25 = .ok (.getfield 31, 3) := dk_180 0 31 (dk_at dksX0_stay_1 1 rfl rfl)
theorem dX0_stay_28 : decode cX0_stay 28 = .ok (.getfield 145, 3) := dk_180 0 145 (dk_at dksX0_stay_1 4 rfl rfl)
theorem dX0_stay_31 : decode cX0_stay 31 = .ok (.ishl, 1) := dk_120 (dk_at dksX0_stay_1 7 rfl rfl)
theorem dX0_stay_32 : decode cX0_stay 32 = .ok (.if_icmp .ge 78, 3) := dk_162 0 78 (dk_at dksX0_stay_1 8 rfl rfl)
theorem dX0_stay_35 : decode cX0_stay 35 = .ok (.iload 4, 2) := dk_21 4 (dk_at dksX0_stay_1 11 rfl rfl)
theorem dX0_stay_37 : decode cX0_stay 37 = .ok (.iload_n 3, 1) := dk_29 (dk_at dksX0_stay_1 13 rfl rfl)
theorem dX0_stay_38 : decode cX0_stay 38 = .ok (.ixor, 1) := dk_130 (dk_at dksX0_stay_1 14 rfl rfl)
theorem dX0_stay_39 : decode cX0_stay 39 = .ok (.istore 5, 2) := dk_54 5 (dk_at dksX0_stay_1 15 rfl rfl)
theorem dX0_stay_41 : decode cX0_stay 41 = .ok (.iload 4, 2) := dk_21 4 (dk_at dksX0_stay_1 17 rfl rfl)
theorem dX0_stay_43 : decode cX0_stay 43 = .ok (.invokestatic 278, 3) := dk_184 1 22 (dk_at dksX0_stay_1 19 rfl rfl)
theorem dX0_stay_46 : decode cX0_stay 46 = .ok (.iload_n 3, 1) := dk_29 (dk_at dksX0_stay_1 22 rfl rfl)
theorem dX0_stay_47 : decode cX0_stay 47 = .ok (.invokestatic 278, 3) := dk_184 1 22 (dk_at dksX0_stay_2 0 rfl rfl)
theorem dX0_stay_50 : decode cX0_stay 50 = .ok (.isub, 1) := dk_100 (dk_at dksX0_stay_2 3 rfl rfl)
theorem dX0_stay_51 : decode cX0_stay 51 = .ok (.istore 6, 2) := dk_54 6 (dk_at dksX0_stay_2 4 rfl rfl)
theorem dX0_stay_53 : decode cX0_stay 53 = .ok (.iload 6, 2) := dk_21 6 (dk_at dksX0_stay_2 6 rfl rfl)
theorem dX0_stay_55 : decode cX0_stay 55 = .ok (.ifCond .ne 19, 3) := dk_154 0 19 (dk_at dksX0_stay_2 8 rfl rfl)
theorem dX0_stay_58 : decode cX0_stay 58 = .ok (.iload 4, 2) := dk_21 4 (dk_at dksX0_stay_2 11 rfl rfl)
theorem dX0_stay_60 : decode cX0_stay 60 = .ok (.iload 5, 2) := dk_21 5 (dk_at dksX0_stay_2 13 rfl rfl)
theorem dX0_stay_62 : decode cX0_stay 62 = .ok (.iand, 1) := dk_126 (dk_at dksX0_stay_2 15 rfl rfl)
theorem dX0_stay_63 : decode cX0_stay 63 = .ok (.iload 5, 2) := dk_21 5 (dk_at dksX0_stay_2 16 rfl rfl)
theorem dX0_stay_65 : decode cX0_stay 65 = .ok (.ineg, 1) := dk_116 (dk_at dksX0_stay_2 18 rfl rfl)
theorem dX0_stay_66 : decode cX0_stay 66 = .ok (.iand, 1) := dk_126 (dk_at dksX0_stay_2 19 rfl rfl)
theorem dX0_stay_67 : decode cX0_stay 67 = .ok (.ifCond .eq 7, 3) := dk_153 0 7 (dk_at dksX0_stay_2 20 rfl rfl)
theorem dX0_stay_70 : decode cX0_stay 70 = .ok (.iconst 1, 1) := dk_4 (dk_at dksX0_stay_2 23 rfl rfl)
theorem dX0_stay_71 : decode cX0_stay 71 = .ok (.goto 4, 3) := dk_167 0 4 (dk_at dksX0_stay_3 0 rfl rfl)
theorem dX0_stay_74 : decode cX0_stay 74 = .ok (.iconst 0, 1) := dk_3 (dk_at dksX0_stay_3 3 rfl rfl)
theorem dX0_stay_75 : decode cX0_stay 75 = .ok (.istore 7, 2) := dk_54 7 (dk_at dksX0_stay_3 4 rfl rfl)
theorem dX0_stay_77 : decode cX0_stay 77 = .ok (.iload 6, 2) := dk_21 6 (dk_at dksX0_stay_3 6 rfl rfl)
theorem dX0_stay_79 : decode cX0_stay 79 = .ok (.ifCond .gt 8, 3) := dk_157 0 8 (dk_at dksX0_stay_3 8 rfl rfl)
theorem dX0_stay_82 : decode cX0_stay 82 = .ok (.iload 7, 2) := dk_21 7 (dk_at dksX0_stay_3 11 rfl rfl)
theorem dX0_stay_84 : decode cX0_stay 84 = .ok (.ifCond .eq 18, 3) := dk_153 0 18 (dk_at dksX0_stay_3 13 rfl rfl)
theorem dX0_stay_87 : decode cX0_stay 87 = .ok (.aload_n 0, 1) := dk_42 (dk_at dksX0_stay_3 16 rfl rfl)
theorem dX0_stay_88 : decode cX0_stay 88 = .ok (.iload 4, 2) := dk_21 4 (dk_at dksX0_stay_3 17 rfl rfl)
theorem dX0_stay_90 : decode cX0_stay 90 = .ok (.iload_n 1, 1) := dk_27 (dk_at dksX0_stay_3 19 rfl rfl)
theorem dX0_stay_91 : decode cX0_stay 91 = .ok (.invokevirtual 283, 3) := dk_182 1 27 (dk_at dksX0_stay_3 20 rfl rfl)
theorem dX0_stay_94 : decode cX0_stay 94 = .ok (.ifCond .eq 8, 3) := dk_153 0 8 (dk_at dksX0_stay_4 0 rfl rfl)
theorem dX0_stay_97 : decode cX0_stay 97 = .ok (.iload 4, 2) := dk_21 4 (dk_at dksX0_stay_4 3 rfl rfl)
theorem dX0_stay_99 : decode cX0_stay 99 = .ok (.goto 4, 3) := dk_167 0 4 (dk_at dksX0_stay_4 5 rfl rfl)
theorem dX0_stay_102 : decode cX0_stay 102 = .ok (.iload_n 3, 1) := dk_29 (dk_at dksX0_stay_4 8 rfl rfl)
theorem dX0_stay_103 : decode cX0_stay 103 = .ok (.istore_n 3, 1) := dk_62 (dk_at dksX0_stay_4 9 rfl rfl)
theorem dX0_stay_104 : decode cX0_stay 104 = .ok (.iinc 4 1, 3) := dk_132 4 1 (dk_at dksX0_stay_4 10 rfl rfl)
theorem dX0_stay_107 : decode cX0_stay 107 = .ok (.goto (-86), 3) := dk_167 255 170 (dk_at dksX0_stay_4 13 rfl rfl)
theorem dX0_stay_110 : decode cX0_stay 110 = .ok (.iconst 0, 1) := dk_3 (dk_at dksX0_stay_4 16 rfl rfl)
theorem dX0_stay_111 : decode cX0_stay 111 = .ok (.istore 4, 2) := dk_54 4 (dk_at dksX0_stay_4 17 rfl rfl)
theorem dX0_stay_113 : decode cX0_stay 113 = .ok (.iconst 0, 1) := dk_3 (dk_at dksX0_stay_4 19 rfl rfl)
theorem dX0_stay_114 : decode cX0_stay 114 = .ok (.istore 5, 2) := dk_54 5 (dk_at dksX0_stay_4 20 rfl rfl)
theorem dX0_stay_116 : decode cX0_stay 116 = .ok (.iload 5, 2) := dk_21 5 (dk_at dksX0_stay_4 22 rfl rfl)
theorem dX0_stay_118 : decode cX0_stay 118 = .ok (.aload_n 0, 1) := dk_42 (dk_at dksX0_stay_5 0 rfl rfl)
theorem dX0_stay_119 : decode cX0_stay 119 = .ok (.getfield 31, 3) := dk_180 0 31 (dk_at dksX0_stay_5 1 rfl rfl)
theorem dX0_stay_122 : decode cX0_stay 122 = .ok (.getfield 145, 3) := dk_180 0 145 (dk_at dksX0_stay_5 4 rfl rfl)
theorem dX0_stay_125 : decode cX0_stay 125 = .ok (.if_icmp .ge 39, 3) := dk_162 0 39 (dk_at dksX0_stay_5 7 rfl rfl)
theorem dX0_stay_128 : decode cX0_stay 128 = .ok (.iload 4, 2) := dk_21 4 (dk_at dksX0_stay_5 10 rfl rfl)
theorem dX0_stay_130 : decode cX0_stay 130 = .ok (.iload_n 3, 1) := dk_29 (dk_at dksX0_stay_5 12 rfl rfl)
theorem dX0_stay_131 : decode cX0_stay 131 = .ok (.iload 5, 2) := dk_21 5 (dk_at dksX0_stay_5 13 rfl rfl)
theorem dX0_stay_133 : decode cX0_stay 133 = .ok (.invokestatic 269, 3) := dk_184 1 13 (dk_at dksX0_stay_5 15 rfl rfl)
theorem dX0_stay_136 : decode cX0_stay 136 = .ok (.ifCond .eq 18, 3) := dk_153 0 18 (dk_at dksX0_stay_5 18 rfl rfl)
theorem dX0_stay_139 : decode cX0_stay 139 = .ok (.iconst 1, 1) := dk_4 (dk_at dksX0_stay_5 21 rfl rfl)
theorem dX0_stay_140 : decode cX0_stay 140 = .ok (.aload_n 0, 1) := dk_42 (dk_at dksX0_stay_5 22 rfl rfl)
theorem dX0_stay_141 : decode cX0_stay 141 = .ok (.getfield 31, 3) := dk_180 0 31 (dk_at dksX0_stay_6 0 rfl rfl)
theorem dX0_stay_144 : decode cX0_stay 144 = .ok (.getfield 148, 3) := dk_180 0 148 (dk_at dksX0_stay_6 3 rfl rfl)
theorem dX0_stay_147 : decode cX0_stay 147 = .ok (.iload 5, 2) := dk_21 5 (dk_at dksX0_stay_6 6 rfl rfl)
theorem dX0_stay_149 : decode cX0_stay 149 = .ok (.iaload, 1) := dk_46 (dk_at dksX0_stay_6 8 rfl rfl)
theorem dX0_stay_150 : decode cX0_stay 150 = .ok (.ishl, 1) := dk_120 (dk_at dksX0_stay_6 9 rfl rfl)
theorem dX0_stay_151 : decode cX0_stay 151 = .ok (.goto 4, 3) := dk_167 0 4 (dk_at dksX0_stay_6 10 rfl rfl)
theorem dX0_stay_154 : decode cX0_stay 154 = .ok (.iconst 0, 1) := dk_3 (dk_at dksX0_stay_6 13 rfl rfl)
theorem dX0_stay_155 : decode cX0_stay 155 = .ok (.ior, 1) := dk_128 (dk_at dksX0_stay_6 14 rfl rfl)
theorem dX0_stay_156 : decode cX0_stay 156 = .ok (.istore 4, 2) := dk_54 4 (dk_at dksX0_stay_6 15 rfl rfl)
theorem dX0_stay_158 : decode cX0_stay 158 = .ok (.iinc 5 1, 3) := dk_132 5 1 (dk_at dksX0_stay_6 17 rfl rfl)
theorem dX0_stay_161 : decode cX0_stay 161 = .ok (.goto (-45), 3) := dk_167 255 211 (dk_at dksX0_stay_6 20 rfl rfl)
theorem dX0_stay_164 : decode cX0_stay 164 = .ok (.iload_n 2, 1) := dk_28 (dk_at dksX0_stay_6 23 rfl rfl)
theorem dX0_stay_165 : decode cX0_stay 165 = .ok (.ifCond .ne 10, 3) := dk_154 0 10 (dk_at dksX0_stay_7 0 rfl rfl)
theorem dX0_stay_168 : decode cX0_stay 168 = .ok (.iload_n 3, 1) := dk_29 (dk_at dksX0_stay_7 3 rfl rfl)
theorem dX0_stay_169 : decode cX0_stay 169 = .ok (.invokestatic 278, 3) := dk_184 1 22 (dk_at dksX0_stay_7 4 rfl rfl)
theorem dX0_stay_172 : decode cX0_stay 172 = .ok (.goto 5, 3) := dk_167 0 5 (dk_at dksX0_stay_7 7 rfl rfl)
theorem dX0_stay_175 : decode cX0_stay 175 = .ok (.iload 4, 2) := dk_21 4 (dk_at dksX0_stay_7 10 rfl rfl)
theorem dX0_stay_177 : decode cX0_stay 177 = .ok (.ireturn, 1) := dk_172 (dk_at dksX0_stay_7 12 rfl rfl)
abbrev cX0_isWhat : ByteArray := prog_1_method_6_code
def yX0_isWhat : MethodName := ⟨RX0, "isWhat", "(I)Z"⟩
def dkwX0_isWhat_0 : List UInt8 := [26, 133, 9, 10, 184, 0, 86, 172]
abbrev dktX0_isWhat_0 : List UInt8 := dkwX0_isWhat_0 ++ []
theorem dksX0_isWhat_0 : cX0_isWhat.data.toList.drop 0 = dktX0_isWhat_0 := by decide +kernel
theorem dX0_isWhat_0 : decode cX0_isWhat 0 = .ok (.iload_n 0, 1) := dk_26 (dk_at dksX0_isWhat_0 0 rfl rfl)
theorem dX0_isWhat_1 : decode cX0_isWhat 1 = .ok (.i2l, 1) := dk_133 (dk_at dksX0_isWhat_0 1 rfl rfl)
theorem dX0_isWhat_2 : decode cX0_isWhat 2 = .ok (.lconst 0, 1) := dk_9 (dk_at dksX0_isWhat_0 2 rfl rfl)
theorem dX0_isWhat_3 : decode cX0_isWhat 3 = .ok (.lconst 1, 1) := dk_10 (dk_at dksX0_isWhat_0 3 rfl rfl)
theorem dX0_isWhat_4 : decode cX0_isWhat 4 = .ok (.invokestatic 86, 3) := dk_184 0 86 (dk_at dksX0_isWhat_0 4 rfl rfl)
theorem dX0_isWhat_7 : decode cX0_isWhat 7 = .ok (.ireturn, 1) := dk_172 (dk_at dksX0_isWhat_0 7 rfl rfl)
abbrev cX0_isInOrder : ByteArray := prog_1_method_44_code
def yX0_isInOrder : MethodName := ⟨RX0, "isInOrder", "(II)Z"⟩
def dkwX0_isInOrder_2 : List UInt8 := [167, 0, 4, 3, 54, 4, 42, 21, 5, 28, 182, 1, 16, 62, 132, 5, 1, 167, 255, 201, 21, 4, 172]
abbrev dktX0_isInOrder_2 : List UInt8 := dkwX0_isInOrder_2 ++ []
def dkwX0_isInOrder_1 : List UInt8 := [184, 1, 13, 153, 0, 34, 21, 4, 153, 0, 18, 42, 21, 5, 28, 182, 1, 16, 29, 164, 0, 7, 4]
abbrev dktX0_isInOrder_1 : List UInt8 := dkwX0_isInOrder_1 ++ dktX0_isInOrder_2
def dkwX0_isInOrder_0 : List UInt8 := [2, 62, 4, 54, 4, 3, 54, 5, 21, 5, 42, 180, 0, 31, 180, 0, 145, 162, 0, 49, 27, 21, 5]
abbrev dktX0_isInOrder_0 : List UInt8 := dkwX0_isInOrder_0 ++ dktX0_isInOrder_1
theorem dksX0_isInOrder_0 : cX0_isInOrder.data.toList.drop 0 = dktX0_isInOrder_0 := by decide +kernel
theorem dksX0_isInOrder_1 : cX0_isInOrder.data.toList.drop 23 = dktX0_isInOrder_1 := dk_seg dksX0_isInOrder_0 23 rfl rfl
theorem dksX0_isInOrder_2 : cX0_isInOrder.data.toList.drop 46 = dktX0_isInOrder_2 := dk_seg dksX0_isInOrder_1 23 rfl rfl
theorem dX0_isInOrder_0 : decode cX0_isInOrder 0 = .ok (.iconst (-1), 1) := dk_2 (dk_at dksX0_isInOrder_0 0 rfl rfl)
theorem dX0_isInOrder_1 : decode cX0_isInOrder 1 = .ok (.istore_n 3, 1) := dk_62 (dk_at dksX0_isInOrder_0 1 rfl rfl)
theorem dX0_isInOrder_2 : decode cX0_isInOrder 2 = .ok (.iconst 1, 1) := dk_4 (dk_at dksX0_isInOrder_0 2 rfl rfl)
theorem dX0_isInOrder_3 : decode cX0_isInOrder 3 = .ok (.istore 4, 2) := dk_54 4 (dk_at dksX0_isInOrder_0 3 rfl rfl)
theorem dX0_isInOrder_5 : decode cX0_isInOrder 5 = .ok (.iconst 0, 1) := dk_3 (dk_at dksX0_isInOrder_0 5 rfl rfl)
theorem dX0_isInOrder_6 : decode cX0_isInOrder 6 = .ok (.istore 5, 2) := dk_54 5 (dk_at dksX0_isInOrder_0 6 rfl rfl)
theorem dX0_isInOrder_8 : decode cX0_isInOrder 8 = .ok (.iload 5, 2) := dk_21 5 (dk_at dksX0_isInOrder_0 8 rfl rfl)
theorem dX0_isInOrder_10 : decode cX0_isInOrder 10 = .ok (.aload_n 0, 1) := dk_42 (dk_at dksX0_isInOrder_0 10 rfl rfl)
theorem dX0_isInOrder_11 : decode cX0_isInOrder 11 = .ok (.getfield 31, 3) := dk_180 0 31 (dk_at dksX0_isInOrder_0 11 rfl rfl)
theorem dX0_isInOrder_14 : decode cX0_isInOrder 14 = .ok (.getfield 145, 3) := dk_180 0 145 (dk_at dksX0_isInOrder_0 14 rfl rfl)
theorem dX0_isInOrder_17 : decode cX0_isInOrder 17 = .ok (.if_icmp .ge 49, 3) := dk_162 0 49 (dk_at dksX0_isInOrder_0 17 rfl rfl)
theorem dX0_isInOrder_20 : decode cX0_isInOrder 20 = .ok (.iload_n 1, 1) := dk_27 (dk_at dksX0_isInOrder_0 20 rfl rfl)
theorem dX0_isInOrder_21 : decode cX0_isInOrder 21 = .ok (.iload 5, 2) := dk_21 5 (dk_at dksX0_isInOrder_0 21 rfl rfl)
theorem dX0_isInOrder_23 : decode cX0_isInOrder 23 = .ok (.invokestatic 269, 3) := dk_184 1 13 (dk_at dksX0_isInOrder_1 0 rfl rfl)
theorem dX0_isInOrder_26 : decode cX0_isInOrder 26 = .ok (.ifCond .eq 34, 3) := dk_153 0 34 (dk_at dksX0_isInOrder_1 3 rfl rfl)
theorem dX0_isInOrder_29 : decode cX0_isInOrder 29 = .ok (.iload 4, 2) := dk_21 4 (dk_at dksX0_isInOrder_1 6 rfl rfl)
theorem dX0_isInOrder_31 : decode cX0_isInOrder 31 = .ok (.ifCond .eq 18, 3) := dk_153 0 18 (dk_at dksX0_isInOrder_1 8 rfl rfl)
theorem dX0_isInOrder_34 : decode cX0_isInOrder 34 = .ok (.aload_n 0, 1) := dk_42 (dk_at dksX0_isInOrder_1 11 rfl rfl)
theorem dX0_isInOrder_35 : decode cX0_isInOrder 35 = .ok (.iload 5, 2) := dk_21 5 (dk_at dksX0_isInOrder_1 12 rfl rfl)
theorem dX0_isInOrder_37 : decode cX0_isInOrder 37 = .ok (.iload_n 2, 1) := dk_28 (dk_at dksX0_isInOrder_1 14 rfl rfl)
theorem dX0_isInOrder_38 : decode cX0_isInOrder 38 = .ok (.invokevirtual 272, 3) := dk_182 1 16 (dk_at dksX0_isInOrder_1 15 rfl rfl)
theorem dX0_isInOrder_41 : decode cX0_isInOrder 41 = .ok (.iload_n 3, 1) := dk_29 (dk_at dksX0_isInOrder_1 18 rfl rfl)
theorem dX0_isInOrder_42 : decode cX0_isInOrder 42 = .ok (.if_icmp .le 7, 3) := dk_164 0 7 (dk_at dksX0_isInOrder_1 19 rfl rfl)
theorem dX0_isInOrder_45 : decode cX0_isInOrder 45 = .ok (.iconst 1, 1) := dk_4 (dk_at dksX0_isInOrder_1 22 rfl rfl)
theorem dX0_isInOrder_46 : decode cX0_isInOrder 46 = .ok (.goto 4, 3) := dk_167 0 4 (dk_at dksX0_isInOrder_2 0 rfl rfl)
theorem dX0_isInOrder_49 : decode cX0_isInOrder 49 = .ok (.iconst 0, 1) := dk_3 (dk_at dksX0_isInOrder_2 3 rfl rfl)
theorem dX0_isInOrder_50 : decode cX0_isInOrder 50 = .ok (.istore 4, 2) := dk_54 4 (dk_at dksX0_isInOrder_2 4 rfl rfl)
theorem dX0_isInOrder_52 : decode cX0_isInOrder 52 = .ok (.aload_n 0, 1) := dk_42 (dk_at dksX0_isInOrder_2 6 rfl rfl)
theorem dX0_isInOrder_53 : decode cX0_isInOrder 53 = .ok (.iload 5, 2) := dk_21 5 (dk_at dksX0_isInOrder_2 7 rfl rfl)
theorem dX0_isInOrder_55 : decode cX0_isInOrder 55 = .ok (.iload_n 2, 1) := dk_28 (dk_at dksX0_isInOrder_2 9 rfl rfl)
theorem dX0_isInOrder_56 : decode cX0_isInOrder 56 = .ok (.invokevirtual 272, 3) := dk_182 1 16 (dk_at dksX0_isInOrder_2 10 rfl rfl)
theorem dX0_isInOrder_59 : decode cX0_isInOrder 59 = .ok (.istore_n 3, 1) := dk_62 (dk_at dksX0_isInOrder_2 13 rfl rfl)
theorem dX0_isInOrder_60 : decode cX0_isInOrder 60 = .ok (.iinc 5 1, 3) := dk_132 5 1 (dk_at dksX0_isInOrder_2 14 rfl rfl)
theorem dX0_isInOrder_63 : decode cX0_isInOrder 63 = .ok (.goto (-55), 3) := dk_167 255 201 (dk_at dksX0_isInOrder_2 17 rfl rfl)
theorem dX0_isInOrder_66 : decode cX0_isInOrder 66 = .ok (.iload 4, 2) := dk_21 4 (dk_at dksX0_isInOrder_2 20 rfl rfl)
theorem dX0_isInOrder_68 : decode cX0_isInOrder 68 = .ok (.ireturn, 1) := dk_172 (dk_at dksX0_isInOrder_2 22 rfl rfl)
abbrev cX0_ways : ByteArray := prog_1_method_49_code
def yX0_ways : MethodName := ⟨RX0, "ways", "()I"⟩
def dkwX0_ways_1 : List UInt8 := [3, 96, 60, 42, 182, 1, 37, 61, 167, 255, 232, 42, 180, 0, 31, 42, 180, 0, 57, 182, 0, 193, 27, 172]
abbrev dktX0_ways_1 : List UInt8 := dkwX0_ways_1 ++ []
def dkwX0_ways_0 : List UInt8 := [42, 182, 1, 34, 3, 60, 4, 61, 28, 153, 0, 26, 27, 42, 182, 0, 219, 154, 0, 7, 4, 167, 0, 4]
abbrev dktX0_ways_0 : List UInt8 := dkwX0_ways_0 ++ dktX0_ways_1
theorem dksX0_ways_0 : cX0_ways.data.toList.drop 0 = dktX0_ways_0 := by decide +kernel
theorem dksX0_ways_1 : cX0_ways.data.toList.drop 24 = dktX0_ways_1 := dk_seg dksX0_ways_0 24 rfl rfl
theorem dX0_ways_0 : decode cX0_ways 0 = .ok (.aload_n 0, 1) := dk_42 (dk_at dksX0_ways_0 0 rfl rfl)
theorem dX0_ways_1 : decode cX0_ways 1 = .ok (.invokevirtual 290, 3) := dk_182 1 34 (dk_at dksX0_ways_0 1 rfl rfl)
theorem dX0_ways_4 : decode cX0_ways 4 = .ok (.iconst 0, 1) := dk_3 (dk_at dksX0_ways_0 4 rfl rfl)
theorem dX0_ways_5 : decode cX0_ways 5 = .ok (.istore_n 1, 1) := dk_60 (dk_at dksX0_ways_0 5 rfl rfl)
theorem dX0_ways_6 : decode cX0_ways 6 = .ok (.iconst 1, 1) := dk_4 (dk_at dksX0_ways_0 6 rfl rfl)
theorem dX0_ways_7 : decode cX0_ways 7 = .ok (.istore_n 2, 1) := dk_61 (dk_at dksX0_ways_0 7 rfl rfl)
theorem dX0_ways_8 : decode cX0_ways 8 = .ok (.iload_n 2, 1) := dk_28 (dk_at dksX0_ways_0 8 rfl rfl)
theorem dX0_ways_9 : decode cX0_ways 9 = .ok (.ifCond .eq 26, 3) := dk_153 0 26 (dk_at dksX0_ways_0 9 rfl rfl)
theorem dX0_ways_12 : decode cX0_ways 12 = .ok (.iload_n 1, 1) := dk_27 (dk_at dksX0_ways_0 12 rfl rfl)
theorem dX0_ways_13 : decode cX0_ways 13 = .ok (.aload_n 0, 1) := dk_42 (dk_at dksX0_ways_0 13 rfl rfl)
theorem dX0_ways_14 : decode cX0_ways 14 = .ok (.invokevirtual 219, 3) := dk_182 0 219 (dk_at dksX0_ways_0 14 rfl rfl)
theorem dX0_ways_17 : decode cX0_ways 17 = .ok (.ifCond .ne 7, 3) := dk_154 0 7 (dk_at dksX0_ways_0 17 rfl rfl)
theorem dX0_ways_20 : decode cX0_ways 20 = .ok (.iconst 1, 1) := dk_4 (dk_at dksX0_ways_0 20 rfl rfl)
theorem dX0_ways_21 : decode cX0_ways 21 = .ok (.goto 4, 3) := dk_167 0 4 (dk_at dksX0_ways_0 21 rfl rfl)
theorem dX0_ways_24 : decode cX0_ways 24 = .ok (.iconst 0, 1) := dk_3 (dk_at dksX0_ways_1 0 rfl rfl)
theorem dX0_ways_25 : decode cX0_ways 25 = .ok (.iadd, 1) := dk_96 (dk_at dksX0_ways_1 1 rfl rfl)
theorem dX0_ways_26 : decode cX0_ways 26 = .ok (.istore_n 1, 1) := dk_60 (dk_at dksX0_ways_1 2 rfl rfl)
theorem dX0_ways_27 : decode cX0_ways 27 = .ok (.aload_n 0, 1) := dk_42 (dk_at dksX0_ways_1 3 rfl rfl)
theorem dX0_ways_28 : decode cX0_ways 28 = .ok (.invokevirtual 293, 3) := dk_182 1 37 (dk_at dksX0_ways_1 4 rfl rfl)
theorem dX0_ways_31 : decode cX0_ways 31 = .ok (.istore_n 2, 1) := dk_61 (dk_at dksX0_ways_1 7 rfl rfl)
theorem dX0_ways_32 : decode cX0_ways 32 = .ok (.goto (-24), 3) := dk_167 255 232 (dk_at dksX0_ways_1 8 rfl rfl)
theorem dX0_ways_35 : decode cX0_ways 35 = .ok (.aload_n 0, 1) := dk_42 (dk_at dksX0_ways_1 11 rfl rfl)
theorem dX0_ways_36 : decode cX0_ways 36 = .ok (.getfield 31, 3) := dk_180 0 31 (dk_at dksX0_ways_1 12 rfl rfl)
theorem dX0_ways_39 : decode cX0_ways 39 = .ok (.aload_n 0, 1) := dk_42 (dk_at dksX0_ways_1 15 rfl rfl)
theorem dX0_ways_40 : decode cX0_ways 40 = .ok (.getfield 57, 3) := dk_180 0 57 (dk_at dksX0_ways_1 16 rfl rfl)
theorem dX0_ways_43 : decode cX0_ways 43 = .ok (.invokevirtual 193, 3) := dk_182 0 193 (dk_at dksX0_ways_1 19 rfl rfl)
theorem dX0_ways_46 : decode cX0_ways 46 = .ok (.iload_n 1, 1) := dk_27 (dk_at dksX0_ways_1 22 rfl rfl)
theorem dX0_ways_47 : decode cX0_ways 47 = .ok (.ireturn, 1) := dk_172 (dk_at dksX0_ways_1 23 rfl rfl)
abbrev cX0_beginOrders : ByteArray := prog_1_method_46_code
def yX0_beginOrders : MethodName := ⟨RX0, "beginOrders", "()V"⟩
def dkwX0_beginOrders_2 : List UInt8 := [132, 1, 1, 132, 2, 1, 167, 255, 218, 177]
abbrev dktX0_beginOrders_2 : List UInt8 := dkwX0_beginOrders_2 ++ []
def dkwX0_beginOrders_1 : List UInt8 := [162, 0, 33, 42, 180, 0, 57, 28, 182, 0, 122, 155, 0, 16, 42, 180, 0, 31, 180, 0, 148, 27, 28, 79]
abbrev dktX0_beginOrders_1 : List UInt8 := dkwX0_beginOrders_1 ++ dktX0_beginOrders_2
def dkwX0_beginOrders_0 : List UInt8 := [42, 180, 0, 57, 42, 180, 0, 31, 182, 0, 193, 3, 60, 3, 61, 28, 42, 180, 0, 31, 180, 0, 83]
abbrev dktX0_beginOrders_0 : List UInt8 := dkwX0_beginOrders_0 ++ dktX0_beginOrders_1
theorem dksX0_beginOrders_0 : cX0_beginOrders.data.toList.drop 0 = dktX0_beginOrders_0 := by decide +kernel
theorem dksX0_beginOrders_1 : cX0_beginOrders.data.toList.drop 23 = dktX0_beginOrders_1 := dk_seg dksX0_beginOrders_0 23 rfl rfl
theorem dksX0_beginOrders_2 : cX0_beginOrders.data.toList.drop 47 = dktX0_beginOrders_2 := dk_seg dksX0_beginOrders_1 24 rfl rfl
theorem dX0_beginOrders_0 : decode cX0_beginOrders 0 = .ok (.aload_n 0, 1) := dk_42 (dk_at dksX0_beginOrders_0 0 rfl rfl)
theorem dX0_beginOrders_1 : decode cX0_beginOrders 1 = .ok (.getfield 57, 3) := dk_180 0 57 (dk_at dksX0_beginOrders_0 1 rfl rfl)
theorem dX0_beginOrders_4 : decode cX0_beginOrders 4 = .ok (.aload_n 0, 1) := dk_42 (dk_at dksX0_beginOrders_0 4 rfl rfl)
theorem dX0_beginOrders_5 : decode cX0_beginOrders 5 = .ok (.getfield 31, 3) := dk_180 0 31 (dk_at dksX0_beginOrders_0 5 rfl rfl)
theorem dX0_beginOrders_8 : decode cX0_beginOrders 8 = .ok (.invokevirtual 193, 3) := dk_182 0 193 (dk_at dksX0_beginOrders_0 8 rfl rfl)
theorem dX0_beginOrders_11 : decode cX0_beginOrders 11 = .ok (.iconst 0, 1) := dk_3 (dk_at dksX0_beginOrders_0 11 rfl rfl)
theorem dX0_beginOrders_12 : decode cX0_beginOrders 12 = .ok (.istore_n 1, 1) := dk_60 (dk_at dksX0_beginOrders_0 12 rfl rfl)
theorem dX0_beginOrders_13 : decode cX0_beginOrders 13 = .ok (.iconst 0, 1) := dk_3 (dk_at dksX0_beginOrders_0 13 rfl rfl)
theorem dX0_beginOrders_14 : decode cX0_beginOrders 14 = .ok (.istore_n 2, 1) := dk_61 (dk_at dksX0_beginOrders_0 14 rfl rfl)
theorem dX0_beginOrders_15 : decode cX0_beginOrders 15 = .ok (.iload_n 2, 1) := dk_28 (dk_at dksX0_beginOrders_0 15 rfl rfl)
theorem dX0_beginOrders_16 : decode cX0_beginOrders 16 = .ok (.aload_n 0, 1) := dk_42 (dk_at dksX0_beginOrders_0 16 rfl rfl)
theorem dX0_beginOrders_17 : decode cX0_beginOrders 17 = .ok (.getfield 31, 3) := dk_180 0 31 (dk_at dksX0_beginOrders_0 17 rfl rfl)
theorem dX0_beginOrders_20 : decode cX0_beginOrders 20 = .ok (.getfield 83, 3) := dk_180 0 83 (dk_at dksX0_beginOrders_0 20 rfl rfl)
theorem dX0_beginOrders_23 : decode cX0_beginOrders 23 = .ok (.if_icmp .ge 33, 3) := dk_162 0 33 (dk_at dksX0_beginOrders_1 0 rfl rfl)
theorem dX0_beginOrders_26 : decode cX0_beginOrders 26 = .ok (.aload_n 0, 1) := dk_42 (dk_at dksX0_beginOrders_1 3 rfl rfl)
theorem dX0_beginOrders_27 : decode cX0_beginOrders 27 = .ok (.getfield 57, 3) := dk_180 0 57 (dk_at dksX0_beginOrders_1 4 rfl rfl)
theorem dX0_beginOrders_30 : decode cX0_beginOrders 30 = .ok (.iload_n 2, 1) := dk_28 (dk_at dksX0_beginOrders_1 7 rfl rfl)
theorem dX0_beginOrders_31 : decode cX0_beginOrders 31 = .ok (.invokevirtual 122, 3) := dk_182 0 122 (dk_at dksX0_beginOrders_1 8 rfl rfl)
theorem dX0_beginOrders_34 : decode cX0_beginOrders 34 = .ok (.ifCond .lt 16, 3) := dk_155 0 16 (dk_at dksX0_beginOrders_1 11 rfl rfl)
theorem dX0_beginOrders_37 : decode cX0_beginOrders 37 = .ok (.aload_n 0, 1) := dk_42 (dk_at dksX0_beginOrders_1 14 rfl rfl)
theorem dX0_beginOrders_38 : decode cX0_beginOrders 38 = .ok (.getfield 31, 3) := dk_180 0 31 (dk_at dksX0_beginOrders_1 15 rfl rfl)
theorem dX0_beginOrders_41 : decode cX0_beginOrders 41 = .ok (.getfield 148, 3) := dk_180 0 148 (dk_at dksX0_beginOrders_1 18 rfl rfl)
theorem dX0_beginOrders_44 : decode cX0_beginOrders 44 = .ok (.iload_n 1, 1) := dk_27 (dk_at dksX0_beginOrders_1 21 rfl rfl)
theorem dX0_beginOrders_45 : decode cX0_beginOrders 45 = .ok (.iload_n 2, 1) := dk_28 (dk_at dksX0_beginOrders_1 22 rfl rfl)
theorem dX0_beginOrders_46 : decode cX0_beginOrders 46 = .ok (.iastore, 1) := dk_79 (dk_at dksX0_beginOrders_1 23 rfl rfl)
theorem dX0_beginOrders_47 : decode cX0_beginOrders 47 = .ok (.iinc 1 1, 3) := dk_132 1 1 (dk_at dksX0_beginOrders_2 0 rfl rfl)
theorem dX0_beginOrders_50 : decode cX0_beginOrders 50 = .ok (.iinc 2 1, 3) := dk_132 2 1 (dk_at dksX0_beginOrders_2 3 rfl rfl)
theorem dX0_beginOrders_53 : decode cX0_beginOrders 53 = .ok (.goto (-38), 3) := dk_167 255 218 (dk_at dksX0_beginOrders_2 6 rfl rfl)
theorem dX0_beginOrders_56 : decode cX0_beginOrders 56 = .ok (.return_, 1) := dk_177 (dk_at dksX0_beginOrders_2 9 rfl rfl)
abbrev cX0_isNextOrder : ByteArray := prog_1_method_48_code
def yX0_isNextOrder : MethodName := ⟨RX0, "isNextOrder", "()Z"⟩
def dkwX0_isNextOrder_4 : List UInt8 := [21, 5, 162, 0, 20, 43, 21, 4, 21, 5, 184, 1, 30, 132, 4, 1, 132, 5, 255, 167, 255, 235, 4, 172]
abbrev dktX0_isNextOrder_4 : List UInt8 := dkwX0_isNextOrder_4 ++ []
def dkwX0_isNextOrder_3 : List UInt8 := [43, 28, 29, 184, 1, 30, 28, 4, 96, 54, 4, 42, 180, 0, 31, 180, 0, 145, 4, 100, 54, 5, 21, 4]
abbrev dktX0_isNextOrder_3 : List UInt8 := dkwX0_isNextOrder_3 ++ dktX0_isNextOrder_4
def dkwX0_isNextOrder_2 : List UInt8 := [180, 0, 31, 180, 0, 145, 4, 100, 62, 43, 29, 46, 43, 28, 46, 162, 0, 9, 132, 3, 255, 167, 255, 244]
abbrev dktX0_isNextOrder_2 : List UInt8 := dkwX0_isNextOrder_2 ++ dktX0_isNextOrder_3
def dkwX0_isNextOrder_1 : List UInt8 := [46, 43, 28, 4, 96, 46, 164, 0, 9, 132, 2, 255, 167, 255, 238, 28, 156, 0, 5, 3, 172, 42]
abbrev dktX0_isNextOrder_1 : List UInt8 := dkwX0_isNextOrder_1 ++ dktX0_isNextOrder_2
def dkwX0_isNextOrder_0 : List UInt8 := [42, 180, 0, 31, 180, 0, 148, 76, 42, 180, 0, 31, 180, 0, 145, 5, 100, 61, 28, 155, 0, 20, 43, 28]
abbrev dktX0_isNextOrder_0 : List UInt8 := dkwX0_isNextOrder_0 ++ dktX0_isNextOrder_1
theorem dksX0_isNextOrder_0 : cX0_isNextOrder.data.toList.drop 0 = dktX0_isNextOrder_0 := by decide +kernel
theorem dksX0_isNextOrder_1 : cX0_isNextOrder.data.toList.drop 24 = dktX0_isNextOrder_1 := dk_seg dksX0_isNextOrder_0 24 rfl rfl
theorem dksX0_isNextOrder_2 : cX0_isNextOrder.data.toList.drop 46 = dktX0_isNextOrder_2 := dk_seg dksX0_isNextOrder_1 22 rfl rfl
theorem dksX0_isNextOrder_3 : cX0_isNextOrder.data.toList.drop 70 = dktX0_isNextOrder_3 := dk_seg dksX0_isNextOrder_2 24 rfl rfl
theorem dksX0_isNextOrder_4 : cX0_isNextOrder.data.toList.drop 94 = dktX0_isNextOrder_4 := dk_seg dksX0_isNextOrder_3 24 rfl rfl
theorem dX0_isNextOrder_0 : decode cX0_isNextOrder 0 = .ok (.aload_n 0, 1) := dk_42 (dk_at dksX0_isNextOrder_0 0 rfl rfl)
theorem dX0_isNextOrder_1 : decode cX0_isNextOrder 1 = .ok (.getfield 31, 3) := dk_180 0 31 (dk_at dksX0_isNextOrder_0 1 rfl rfl)
theorem dX0_isNextOrder_4 : decode cX0_isNextOrder 4 = .ok (.getfield 148, 3) := dk_180 0 148 (dk_at dksX0_isNextOrder_0 4 rfl rfl)
theorem dX0_isNextOrder_7 : decode cX0_isNextOrder 7 = .ok (.astore_n 1, 1) := dk_76 (dk_at dksX0_isNextOrder_0 7 rfl rfl)
theorem dX0_isNextOrder_8 : decode cX0_isNextOrder 8 = .ok (.aload_n 0, 1) := dk_42 (dk_at dksX0_isNextOrder_0 8 rfl rfl)
theorem dX0_isNextOrder_9 : decode cX0_isNextOrder 9 = .ok (.getfield 31, 3) := dk_180 0 31 (dk_at dksX0_isNextOrder_0 9 rfl rfl)
theorem dX0_isNextOrder_12 : decode cX0_isNextOrder 12 = .ok (.getfield 145, 3) := dk_180 0 145 (dk_at dksX0_isNextOrder_0 12 rfl rfl)
theorem dX0_isNextOrder_15 : decode cX0_isNextOrder 15 = .ok (.iconst 2, 1) := dk_5 (dk_at dksX0_isNextOrder_0 15 rfl rfl)
theorem dX0_isNextOrder_16 : decode cX0_isNextOrder 16 = .ok (.isub, 1) := dk_100 (dk_at dksX0_isNextOrder_0 16 rfl rfl)
theorem dX0_isNextOrder_17 : decode cX0_isNextOrder 17 = .ok (.istore_n 2, 1) := dk_61 (dk_at dksX0_isNextOrder_0 17 rfl rfl)
theorem dX0_isNextOrder_18 : decode cX0_isNextOrder 18 = .ok (.iload_n 2, 1) := dk_28 (dk_at dksX0_isNextOrder_0 18 rfl rfl)
theorem dX0_isNextOrder_19 : decode cX0_isNextOrder 19 = .ok (.ifCond .lt 20, 3) := dk_155 0 20 (dk_at dksX0_isNextOrder_0 19 rfl rfl)
theorem dX0_isNextOrder_22 : decode cX0_isNextOrder 22 = .ok (.aload_n 1, 1) := dk_43 (dk_at dksX0_isNextOrder_0 22 rfl rfl)
theorem dX0_isNextOrder_23 : decode cX0_isNextOrder 23 = .ok (.iload_n 2, 1) := dk_28 (dk_at dksX0_isNextOrder_0 23 rfl rfl)
theorem dX0_isNextOrder_24 : decode cX0_isNextOrder 24 = .ok (.iaload, 1) := dk_46 (dk_at dksX0_isNextOrder_1 0 rfl rfl)
theorem dX0_isNextOrder_25 : decode cX0_isNextOrder 25 = .ok (.aload_n 1, 1) := dk_43 (dk_at dksX0_isNextOrder_1 1 rfl rfl)
theorem dX0_isNextOrder_26 : decode cX0_isNextOrder 26 = .ok (.iload_n 2, 1) := dk_28 (dk_at dksX0_isNextOrder_1 2 rfl rfl)
theorem dX0_isNextOrder_27 : decode cX0_isNextOrder 27 = .ok (.iconst 1, 1) := dk_4 (dk_at dksX0_isNextOrder_1 3 rfl rfl)
theorem dX0_isNextOrder_28 : decode cX0_isNextOrder 28 = .ok (.iadd, 1) := dk_96 (dk_at dksX0_isNextOrder_1 4 rfl rfl)
theorem dX0_isNextOrder_29 : decode cX0_isNextOrder 29 = .ok (.iaload, 1) := dk_46 (dk_at dksX0_isNextOrder_1 5 rfl rfl)
theorem dX0_isNextOrder_30 : decode cX0_isNextOrder 30 = .ok (.if_icmp .le 9, 3) := dk_164 0 9 (dk_at dksX0_isNextOrder_1 6 rfl rfl)
theorem dX0_isNextOrder_33 : decode cX0_isNextOrder 33 = .ok (.iinc 2 (-1), 3) := dk_132 2 255 (dk_at dksX0_isNextOrder_1 9 rfl rfl)
theorem dX0_isNextOrder_36 : decode cX0_isNextOrder 36 = .ok (.goto (-18), 3) := dk_167 255 238 (dk_at dksX0_isNextOrder_1 12 rfl rfl)
theorem dX0_isNextOrder_39 : decode cX0_isNextOrder 39 = .ok (.iload_n 2, 1) := dk_28 (dk_at dksX0_isNextOrder_1 15 rfl rfl)
theorem dX0_isNextOrder_40 : decode cX0_isNextOrder 40 = .ok (.ifCond .ge 5, 3) := dk_156 0 5 (dk_at dksX0_isNextOrder_1 16 rfl rfl)
theorem dX0_isNextOrder_43 : decode cX0_isNextOrder 43 = .ok (.iconst 0, 1) := dk_3 (dk_at dksX0_isNextOrder_1 19 rfl rfl)
theorem dX0_isNextOrder_44 : decode cX0_isNextOrder 44 = .ok (.ireturn, 1) := dk_172 (dk_at dksX0_isNextOrder_1 20 rfl rfl)
theorem dX0_isNextOrder_45 : decode cX0_isNextOrder 45 = .ok (.aload_n 0, 1) := dk_42 (dk_at dksX0_isNextOrder_1 21 rfl rfl)
theorem dX0_isNextOrder_46 : decode cX0_isNextOrder 46 = .ok (.getfield 31, 3) := dk_180 0 31 (dk_at dksX0_isNextOrder_2 0 rfl rfl)
theorem dX0_isNextOrder_49 : decode cX0_isNextOrder 49 = .ok (.getfield 145, 3) := dk_180 0 145 (dk_at dksX0_isNextOrder_2 3 rfl rfl)
theorem dX0_isNextOrder_52 : decode cX0_isNextOrder 52 = .ok (.iconst 1, 1) := dk_4 (dk_at dksX0_isNextOrder_2 6 rfl rfl)
theorem dX0_isNextOrder_53 : decode cX0_isNextOrder 53 = .ok (.isub, 1) := dk_100 (dk_at dksX0_isNextOrder_2 7 rfl rfl)
theorem dX0_isNextOrder_54 : decode cX0_isNextOrder 54 = .ok (.istore_n 3, 1) := dk_62 (dk_at dksX0_isNextOrder_2 8 rfl rfl)
theorem dX0_isNextOrder_55 : decode cX0_isNextOrder 55 = .ok (.aload_n 1, 1) := dk_43 (dk_at dksX0_isNextOrder_2 9 rfl rfl)
theorem dX0_isNextOrder_56 : decode cX0_isNextOrder 56 = .ok (.iload_n 3, 1) := dk_29 (dk_at dksX0_isNextOrder_2 10 rfl rfl)
theorem dX0_isNextOrder_57 : decode cX0_isNextOrder 57 = .ok (.iaload, 1) := dk_46 (dk_at dksX0_isNextOrder_2 11 rfl rfl)
theorem dX0_isNextOrder_58 : decode cX0_isNextOrder 58 = .ok (.aload_n 1, 1) := dk_43 (dk_at dksX0_isNextOrder_2 12 rfl rfl)
theorem dX0_isNextOrder_59 : decode cX0_isNextOrder 59 = .ok (.iload_n 2, 1) := dk_28 (dk_at dksX0_isNextOrder_2 13 rfl rfl)
theorem dX0_isNextOrder_60 : decode cX0_isNextOrder 60 = .ok (.iaload, 1) := dk_46 (dk_at dksX0_isNextOrder_2 14 rfl rfl)
theorem dX0_isNextOrder_61 : decode cX0_isNextOrder 61 = .ok (.if_icmp .ge 9, 3) := dk_162 0 9 (dk_at dksX0_isNextOrder_2 15 rfl rfl)
theorem dX0_isNextOrder_64 : decode cX0_isNextOrder 64 = .ok (.iinc 3 (-1), 3) := dk_132 3 255 (dk_at dksX0_isNextOrder_2 18 rfl rfl)
theorem dX0_isNextOrder_67 : decode cX0_isNextOrder 67 = .ok (.goto (-12), 3) := dk_167 255 244 (dk_at dksX0_isNextOrder_2 21 rfl rfl)
theorem dX0_isNextOrder_70 : decode cX0_isNextOrder 70 = .ok (.aload_n 1, 1) := dk_43 (dk_at dksX0_isNextOrder_3 0 rfl rfl)
theorem dX0_isNextOrder_71 : decode cX0_isNextOrder 71 = .ok (.iload_n 2, 1) := dk_28 (dk_at dksX0_isNextOrder_3 1 rfl rfl)
theorem dX0_isNextOrder_72 : decode cX0_isNextOrder 72 = .ok (.iload_n 3, 1) := dk_29 (dk_at dksX0_isNextOrder_3 2 rfl rfl)
theorem dX0_isNextOrder_73 : decode cX0_isNextOrder 73 = .ok (.invokestatic 286, 3) := dk_184 1 30 (dk_at dksX0_isNextOrder_3 3 rfl rfl)
theorem dX0_isNextOrder_76 : decode cX0_isNextOrder 76 = .ok (.iload_n 2, 1) := dk_28 (dk_at dksX0_isNextOrder_3 6 rfl rfl)
theorem dX0_isNextOrder_77 : decode cX0_isNextOrder 77 = .ok (.iconst 1, 1) := dk_4 (dk_at dksX0_isNextOrder_3 7 rfl rfl)
theorem dX0_isNextOrder_78 : decode cX0_isNextOrder 78 = .ok (.iadd, 1) := dk_96 (dk_at dksX0_isNextOrder_3 8 rfl rfl)
theorem dX0_isNextOrder_79 : decode cX0_isNextOrder 79 = .ok (.istore 4, 2) := dk_54 4 (dk_at dksX0_isNextOrder_3 9 rfl rfl)
theorem dX0_isNextOrder_81 : decode cX0_isNextOrder 81 = .ok (.aload_n 0, 1) := dk_42 (dk_at dksX0_isNextOrder_3 11 rfl rfl)
theorem dX0_isNextOrder_82 : decode cX0_isNextOrder 82 = .ok (.getfield 31, 3) := dk_180 0 31 (dk_at dksX0_isNextOrder_3 12 rfl rfl)
theorem dX0_isNextOrder_85 : decode cX0_isNextOrder 85 = .ok (.getfield 145, 3) := dk_180 0 145 (dk_at dksX0_isNextOrder_3 15 rfl rfl)
theorem dX0_isNextOrder_88 : decode cX0_isNextOrder 88 = .ok (.iconst 1, 1) := dk_4 (dk_at dksX0_isNextOrder_3 18 rfl rfl)
theorem dX0_isNextOrder_89 : decode cX0_isNextOrder 89 = .ok (.isub, 1) := dk_100 (dk_at dksX0_isNextOrder_3 19 rfl rfl)
theorem dX0_isNextOrder_90 : decode cX0_isNextOrder 90 = .ok (.istore 5, 2) := dk_54 5 (dk_at dksX0_isNextOrder_3 20 rfl rfl)
theorem dX0_isNextOrder_92 : decode cX0_isNextOrder 92 = .ok (.iload 4, 2) := dk_21 4 (dk_at dksX0_isNextOrder_3 22 rfl rfl)
theorem dX0_isNextOrder_94 : decode cX0_isNextOrder 94 = .ok (.iload 5, 2) := dk_21 5 (dk_at dksX0_isNextOrder_4 0 rfl rfl)
theorem dX0_isNextOrder_96 : decode cX0_isNextOrder 96 = .ok (.if_icmp .ge 20, 3) := dk_162 0 20 (dk_at dksX0_isNextOrder_4 2 rfl rfl)
theorem dX0_isNextOrder_99 : decode cX0_isNextOrder 99 = .ok (.aload_n 1, 1) := dk_43 (dk_at dksX0_isNextOrder_4 5 rfl rfl)
theorem dX0_isNextOrder_100 : decode cX0_isNextOrder 100 = .ok (.iload 4, 2) := dk_21 4 (dk_at dksX0_isNextOrder_4 6 rfl rfl)
theorem dX0_isNextOrder_102 : decode cX0_isNextOrder 102 = .ok (.iload 5, 2) := dk_21 5 (dk_at dksX0_isNextOrder_4 8 rfl rfl)
theorem dX0_isNextOrder_104 : decode cX0_isNextOrder 104 = .ok (.invokestatic 286, 3) := dk_184 1 30 (dk_at dksX0_isNextOrder_4 10 rfl rfl)
theorem dX0_isNextOrder_107 : decode cX0_isNextOrder 107 = .ok (.iinc 4 1, 3) := dk_132 4 1 (dk_at dksX0_isNextOrder_4 13 rfl rfl)
theorem dX0_isNextOrder_110 : decode cX0_isNextOrder 110 = .ok (.iinc 5 (-1), 3) := dk_132 5 255 (dk_at dksX0_isNextOrder_4 16 rfl rfl)
theorem dX0_isNextOrder_113 : decode cX0_isNextOrder 113 = .ok (.goto (-21), 3) := dk_167 255 235 (dk_at dksX0_isNextOrder_4 19 rfl rfl)
theorem dX0_isNextOrder_116 : decode cX0_isNextOrder 116 = .ok (.iconst 1, 1) := dk_4 (dk_at dksX0_isNextOrder_4 22 rfl rfl)
theorem dX0_isNextOrder_117 : decode cX0_isNextOrder 117 = .ok (.ireturn, 1) := dk_172 (dk_at dksX0_isNextOrder_4 23 rfl rfl)
abbrev cX0_swap : ByteArray := prog_1_method_47_code
def yX0_swap : MethodName := ⟨RX0, "swap", "([III)V"⟩
def dkwX0_swap_0 : List UInt8 := [42, 27, 46, 62, 42, 27, 42, 28, 46, 79, 42, 28, 29, 79, 177]
abbrev dktX0_swap_0 : List UInt8 := dkwX0_swap_0 ++ []
theorem dksX0_swap_0 : cX0_swap.data.toList.drop 0 = dktX0_swap_0 := by decide +kernel
theorem dX0_swap_0 : decode cX0_swap 0 = .ok (.aload_n 0, 1) := dk_42 (dk_at dksX0_swap_0 0 rfl rfl)
theorem dX0_swap_1 : decode cX0_swap 1 = .ok (.iload_n 1, 1) := dk_27 (dk_at dksX0_swap_0 1 rfl rfl)
theorem dX0_swap_2 : decode cX0_swap 2 = .ok (.iaload, 1) := dk_46 (dk_at dksX0_swap_0 2 rfl rfl)
theorem dX0_swap_3 : decode cX0_swap 3 = .ok (.istore_n 3, 1) := dk_62 (dk_at dksX0_swap_0 3 rfl rfl)
theorem dX0_swap_4 : decode cX0_swap 4 = .ok (.aload_n 0, 1) := dk_42 (dk_at dksX0_swap_0 4 rfl rfl)
theorem dX0_swap_5 : decode cX0_swap 5 = .ok (.iload_n 1, 1) := dk_27 (dk_at dksX0_swap_0 5 rfl rfl)
theorem dX0_swap_6 : decode cX0_swap 6 = .ok (.aload_n 0, 1) := dk_42 (dk_at dksX0_swap_0 6 rfl rfl)
theorem dX0_swap_7 : decode cX0_swap 7 = .ok (.iload_n 2, 1) := dk_28 (dk_at dksX0_swap_0 7 rfl rfl)
theorem dX0_swap_8 : decode cX0_swap 8 = .ok (.iaload, 1) := dk_46 (dk_at dksX0_swap_0 8 rfl rfl)
theorem dX0_swap_9 : decode cX0_swap 9 = .ok (.iastore, 1) := dk_79 (dk_at dksX0_swap_0 9 rfl rfl)
theorem dX0_swap_10 : decode cX0_swap 10 = .ok (.aload_n 0, 1) := dk_42 (dk_at dksX0_swap_0 10 rfl rfl)
theorem dX0_swap_11 : decode cX0_swap 11 = .ok (.iload_n 2, 1) := dk_28 (dk_at dksX0_swap_0 11 rfl rfl)
theorem dX0_swap_12 : decode cX0_swap 12 = .ok (.iload_n 3, 1) := dk_29 (dk_at dksX0_swap_0 12 rfl rfl)
theorem dX0_swap_13 : decode cX0_swap 13 = .ok (.iastore, 1) := dk_79 (dk_at dksX0_swap_0 13 rfl rfl)
theorem dX0_swap_14 : decode cX0_swap 14 = .ok (.return_, 1) := dk_177 (dk_at dksX0_swap_0 14 rfl rfl)
abbrev cX0_ease : ByteArray := prog_1_method_51_code
def yX0_ease : MethodName := ⟨RX0, "ease", "(I)I"⟩
def dkwX0_ease_3 : List UInt8 := [27, 156, 0, 7, 28, 167, 0, 8, 42, 27, 182, 1, 41, 172]
abbrev dktX0_ease_3 : List UInt8 := dkwX0_ease_3 ++ []
def dkwX0_ease_2 : List UInt8 := [16, 6, 184, 0, 230, 42, 182, 1, 37, 62, 167, 255, 214, 42, 180, 0, 31, 42, 180, 0, 57, 182, 0, 193]
abbrev dktX0_ease_2 : List UInt8 := dkwX0_ease_2 ++ dktX0_ease_3
def dkwX0_ease_1 : List UInt8 := [54, 4, 21, 4, 28, 162, 0, 24, 21, 4, 61, 42, 180, 0, 31, 180, 0, 148, 3, 42, 180, 0, 60, 3]
abbrev dktX0_ease_1 : List UInt8 := dkwX0_ease_1 ++ dktX0_ease_2
def dkwX0_ease_0 : List UInt8 := [27, 2, 162, 0, 5, 2, 172, 42, 182, 1, 34, 16, 6, 61, 4, 62, 29, 153, 0, 44, 42, 182, 0, 219]
abbrev dktX0_ease_0 : List UInt8 := dkwX0_ease_0 ++ dktX0_ease_1
theorem dksX0_ease_0 : cX0_ease.data.toList.drop 0 = dktX0_ease_0 := by decide +kernel
theorem dksX0_ease_1 : cX0_ease.data.toList.drop 24 = dktX0_ease_1 := dk_seg dksX0_ease_0 24 rfl rfl
theorem dksX0_ease_2 : cX0_ease.data.toList.drop 48 = dktX0_ease_2 := dk_seg dksX0_ease_1 24 rfl rfl
theorem dksX0_ease_3 : cX0_ease.data.toList.drop 72 = dktX0_ease_3 := dk_seg dksX0_ease_2 24 rfl rfl
theorem dX0_ease_0 : decode cX0_ease 0 = .ok (.iload_n 1, 1) := dk_27 (dk_at dksX0_ease_0 0 rfl rfl)
theorem dX0_ease_1 : decode cX0_ease 1 = .ok (.iconst (-1), 1) := dk_2 (dk_at dksX0_ease_0 1 rfl rfl)
theorem dX0_ease_2 : decode cX0_ease 2 = .ok (.if_icmp .ge 5, 3) := dk_162 0 5 (dk_at dksX0_ease_0 2 rfl rfl)
theorem dX0_ease_5 : decode cX0_ease 5 = .ok (.iconst (-1), 1) := dk_2 (dk_at dksX0_ease_0 5 rfl rfl)
theorem dX0_ease_6 : decode cX0_ease 6 = .ok (.ireturn, 1) := dk_172 (dk_at dksX0_ease_0 6 rfl rfl)
theorem dX0_ease_7 : decode cX0_ease 7 = .ok (.aload_n 0, 1) := dk_42 (dk_at dksX0_ease_0 7 rfl rfl)
theorem dX0_ease_8 : decode cX0_ease 8 = .ok (.invokevirtual 290, 3) := dk_182 1 34 (dk_at dksX0_ease_0 8 rfl rfl)
theorem dX0_ease_11 : decode cX0_ease 11 = .ok (.bipush 6, 2) := dk_16 6 (dk_at dksX0_ease_0 11 rfl rfl)
theorem dX0_ease_13 : decode cX0_ease 13 = .ok (.istore_n 2, 1) := dk_61 (dk_at dksX0_ease_0 13 rfl rfl)
theorem dX0_ease_14 : decode cX0_ease 14 = .ok (.iconst 1, 1) := dk_4 (dk_at dksX0_ease_0 14 rfl rfl)
theorem dX0_ease_15 : decode cX0_ease 15 = .ok (.istore_n 3, 1) := dk_62 (dk_at dksX0_ease_0 15 rfl rfl)
theorem dX0_ease_16 : decode cX0_ease 16 = .ok (.iload_n 3, 1) := dk_29 (dk_at dksX0_ease_0 16 rfl rfl)
theorem dX0_ease_17 : decode cX0_ease 17 = .ok (.ifCond .eq 44, 3) := dk_153 0 44 (dk_at dksX0_ease_0 17 rfl rfl)
theorem dX0_ease_20 : decode cX0_ease 20 = .ok (.aload_n 0, 1) := dk_42 (dk_at dksX0_ease_0 20 rfl rfl)
theorem dX0_ease_21 : decode cX0_ease 21 = .ok (.invokevirtual 219, 3) := dk_182 0 219 (dk_at dksX0_ease_0 21 rfl rfl)
theorem dX0_ease_24 : decode cX0_ease 24 = .ok (.istore 4, 2) := dk_54 4 (dk_at dksX0_ease_1 0 rfl rfl)
theorem dX0_ease_26 : decode cX0_ease 26 = .ok (.iload 4, 2) := dk_21 4 (dk_at dksX0_ease_1 2 rfl rfl)
theorem dX0_ease_28 : decode cX0_ease 28 = .ok (.iload_n 2, 1) := dk_28 (dk_at dksX0_ease_1 4 rfl rfl)
theorem dX0_ease_29 : decode cX0_ease 29 = .ok (.if_icmp .ge 24, 3) := dk_162 0 24 (dk_at dksX0_ease_1 5 rfl rfl)
theorem dX0_ease_32 : decode cX0_ease 32 = .ok (.iload 4, 2) := dk_21 4 (dk_at dksX0_ease_1 8 rfl rfl)
theorem dX0_ease_34 : decode cX0_ease 34 = .ok (.istore_n 2, 1) := dk_61 (dk_at dksX0_ease_1 10 rfl rfl)
theorem dX0_ease_35 : decode cX0_ease 35 = .ok (.aload_n 0, 1) := dk_42 (dk_at dksX0_ease_1 11 rfl rfl)
theorem dX0_ease_36 : decode cX0_ease 36 = .ok (.getfield 31, 3) := dk_180 0 31 (dk_at dksX0_ease_1 12 rfl rfl)
theorem dX0_ease_39 : decode cX0_ease 39 = .ok (.getfield 148, 3) := dk_180 0 148 (dk_at dksX0_ease_1 15 rfl rfl)
theorem dX0_ease_42 : decode cX0_ease 42 = .ok (.iconst 0, 1) := dk_3 (dk_at dksX0_ease_1 18 rfl rfl)
theorem dX0_ease_43 : decode cX0_ease 43 = .ok (.aload_n 0, 1) := dk_42 (dk_at dksX0_ease_1 19 rfl rfl)
theorem dX0_ease_44 : decode cX0_ease 44 = .ok (.getfield 60, 3) := dk_180 0 60 (dk_at dksX0_ease_1 20 rfl rfl)
theorem dX0_ease_47 : decode cX0_ease 47 = .ok (.iconst 0, 1) := dk_3 (dk_at dksX0_ease_1 23 rfl rfl)
theorem dX0_ease_48 : decode cX0_ease 48 = .ok (.bipush 6, 2) := dk_16 6 (dk_at dksX0_ease_2 0 rfl rfl)
theorem dX0_ease_50 : decode cX0_ease 50 = .ok (.invokestatic 230, 3) := dk_184 0 230 (dk_at dksX0_ease_2 2 rfl rfl)
theorem dX0_ease_53 : decode cX0_ease 53 = .ok (.aload_n 0, 1) := dk_42 (dk_at dksX0_ease_2 5 rfl rfl)
theorem dX0_ease_54 : decode cX0_ease 54 = .ok (.invokevirtual 293, 3) := dk_182 1 37 (dk_at dksX0_ease_2 6 rfl rfl)
theorem dX0_ease_57 : decode cX0_ease 57 = .ok (.istore_n 3, 1) := dk_62 (dk_at dksX0_ease_2 9 rfl rfl)
theorem dX0_ease_58 : decode cX0_ease 58 = .ok (.goto (-42), 3) := dk_167 255 214 (dk_at dksX0_ease_2 10 rfl rfl)
theorem dX0_ease_61 : decode cX0_ease 61 = .ok (.aload_n 0, 1) := dk_42 (dk_at dksX0_ease_2 13 rfl rfl)
theorem dX0_ease_62 : decode cX0_ease 62 = .ok (.getfield 31, 3) := dk_180 0 31 (dk_at dksX0_ease_2 14 rfl rfl)
theorem dX0_ease_65 : decode cX0_ease 65 = .ok (.aload_n 0, 1) := dk_42 (dk_at dksX0_ease_2 17 rfl rfl)
theorem dX0_ease_66 : decode cX0_ease 66 = .ok (.getfield 57, 3) := dk_180 0 57 (dk_at dksX0_ease_2 18 rfl rfl)
theorem dX0_ease_69 : decode cX0_ease 69 = .ok (.invokevirtual 193, 3) := dk_182 0 193 (dk_at dksX0_ease_2 21 rfl rfl)
theorem dX0_ease_72 : decode cX0_ease 72 = .ok (.iload_n 1, 1) := dk_27 (dk_at dksX0_ease_3 0 rfl rfl)
theorem dX0_ease_73 : decode cX0_ease 73 = .ok (.ifCond .ge 7, 3) := dk_156 0 7 (dk_at dksX0_ease_3 1 rfl rfl)
theorem dX0_ease_76 : decode cX0_ease 76 = .ok (.iload_n 2, 1) := dk_28 (dk_at dksX0_ease_3 4 rfl rfl)
theorem dX0_ease_77 : decode cX0_ease 77 = .ok (.goto 8, 3) := dk_167 0 8 (dk_at dksX0_ease_3 5 rfl rfl)
theorem dX0_ease_80 : decode cX0_ease 80 = .ok (.aload_n 0, 1) := dk_42 (dk_at dksX0_ease_3 8 rfl rfl)
theorem dX0_ease_81 : decode cX0_ease 81 = .ok (.iload_n 1, 1) := dk_27 (dk_at dksX0_ease_3 9 rfl rfl)
theorem dX0_ease_82 : decode cX0_ease 82 = .ok (.invokevirtual 297, 3) := dk_182 1 41 (dk_at dksX0_ease_3 10 rfl rfl)
theorem dX0_ease_85 : decode cX0_ease 85 = .ok (.ireturn, 1) := dk_172 (dk_at dksX0_ease_3 13 rfl rfl)
abbrev cX0_told : ByteArray := prog_1_method_50_code
def yX0_told : MethodName := ⟨RX0, "told", "(I)I"⟩
def dkwX0_told_0 : List UInt8 := [27, 42, 180, 0, 31, 180, 0, 145, 162, 0, 12, 42, 180, 0, 60, 27, 46, 167, 0, 5, 16, 252, 172]
abbrev dktX0_told_0 : List UInt8 := dkwX0_told_0 ++ []
theorem dksX0_told_0 : cX0_told.data.toList.drop 0 = dktX0_told_0 := by decide +kernel
theorem dX0_told_0 : decode cX0_told 0 = .ok (.iload_n 1, 1) := dk_27 (dk_at dksX0_told_0 0 rfl rfl)
theorem dX0_told_1 : decode cX0_told 1 = .ok (.aload_n 0, 1) := dk_42 (dk_at dksX0_told_0 1 rfl rfl)
theorem dX0_told_2 : decode cX0_told 2 = .ok (.getfield 31, 3) := dk_180 0 31 (dk_at dksX0_told_0 2 rfl rfl)
theorem dX0_told_5 : decode cX0_told 5 = .ok (.getfield 145, 3) := dk_180 0 145 (dk_at dksX0_told_0 5 rfl rfl)
theorem dX0_told_8 : decode cX0_told 8 = .ok (.if_icmp .ge 12, 3) := dk_162 0 12 (dk_at dksX0_told_0 8 rfl rfl)
theorem dX0_told_11 : decode cX0_told 11 = .ok (.aload_n 0, 1) := dk_42 (dk_at dksX0_told_0 11 rfl rfl)
theorem dX0_told_12 : decode cX0_told 12 = .ok (.getfield 60, 3) := dk_180 0 60 (dk_at dksX0_told_0 12 rfl rfl)
theorem dX0_told_15 : decode cX0_told 15 = .ok (.iload_n 1, 1) := dk_27 (dk_at dksX0_told_0 15 rfl rfl)
theorem dX0_told_16 : decode cX0_told 16 = .ok (.iaload, 1) := dk_46 (dk_at dksX0_told_0 16 rfl rfl)
theorem dX0_told_17 : decode cX0_told 17 = .ok (.goto 5, 3) := dk_167 0 5 (dk_at dksX0_told_0 17 rfl rfl)
theorem dX0_told_20 : decode cX0_told 20 = .ok (.bipush (-4), 2) := dk_16 252 (dk_at dksX0_told_0 20 rfl rfl)
theorem dX0_told_22 : decode cX0_told 22 = .ok (.ireturn, 1) := dk_172 (dk_at dksX0_told_0 22 rfl rfl)
abbrev cX0_left : ByteArray := prog_1_method_52_code
def yX0_left : MethodName := ⟨RX0, "left", "(II)I"⟩
def dkwX0_left_7 : List UInt8 := [28, 182, 1, 41, 172]
abbrev dktX0_left_7 : List UInt8 := dkwX0_left_7 ++ []
def dkwX0_left_6 : List UInt8 := [182, 0, 193, 28, 2, 160, 0, 7, 29, 167, 0, 19, 28, 16, 254, 160, 0, 8, 21, 4, 167, 0, 8, 42]
abbrev dktX0_left_6 : List UInt8 := dkwX0_left_6 ++ dktX0_left_7
def dkwX0_left_5 : List UInt8 := [3, 16, 6, 184, 0, 230, 42, 182, 1, 37, 54, 5, 167, 255, 159, 42, 180, 0, 31, 42, 180, 0, 57]
abbrev dktX0_left_5 : List UInt8 := dkwX0_left_5 ++ dktX0_left_6
def dkwX0_left_4 : List UInt8 := [21, 4, 164, 0, 28, 21, 6, 62, 21, 7, 54, 4, 42, 180, 0, 31, 180, 0, 148, 3, 42, 180, 0, 60]
abbrev dktX0_left_4 : List UInt8 := dkwX0_left_4 ++ dktX0_left_5
def dkwX0_left_3 : List UInt8 := [180, 0, 31, 42, 180, 0, 63, 182, 0, 193, 21, 6, 29, 163, 0, 16, 21, 6, 29, 160, 0, 35, 21, 7]
abbrev dktX0_left_3 : List UInt8 := dkwX0_left_3 ++ dktX0_left_4
def dkwX0_left_2 : List UInt8 := [182, 0, 193, 42, 27, 182, 1, 10, 42, 180, 0, 31, 180, 0, 145, 54, 6, 42, 182, 0, 216, 54, 7, 42]
abbrev dktX0_left_2 : List UInt8 := dkwX0_left_2 ++ dktX0_left_3
def dkwX0_left_1 : List UInt8 := [16, 252, 62, 3, 54, 4, 4, 54, 5, 21, 5, 153, 0, 98, 42, 180, 0, 63, 42, 180, 0, 31]
abbrev dktX0_left_1 : List UInt8 := dkwX0_left_1 ++ dktX0_left_2
def dkwX0_left_0 : List UInt8 := [27, 133, 9, 20, 1, 44, 184, 0, 86, 153, 0, 9, 28, 16, 254, 162, 0, 5, 2, 172, 42, 182, 1, 34]
abbrev dktX0_left_0 : List UInt8 := dkwX0_left_0 ++ dktX0_left_1
theorem dksX0_left_0 : cX0_left.data.toList.drop 0 = dktX0_left_0 := by decide +kernel
theorem dksX0_left_1 : cX0_left.data.toList.drop 24 = dktX0_left_1 := dk_seg dksX0_left_0 24 rfl rfl
theorem dksX0_left_2 : cX0_left.data.toList.drop 46 = dktX0_left_2 := dk_seg dksX0_left_1 22 rfl rfl
theorem dksX0_left_3 : cX0_left.data.toList.drop 70 = dktX0_left_3 := dk_seg dksX0_left_2 24 rfl rfl
theorem dksX0_left_4 : cX0_left.data.toList.drop 94 = dktX0_left_4 := dk_seg dksX0_left_3 24 rfl rfl
theorem dksX0_left_5 : cX0_left.data.toList.drop 118 = dktX0_left_5 := dk_seg dksX0_left_4 24 rfl rfl
theorem dksX0_left_6 : cX0_left.data.toList.drop 141 = dktX0_left_6 := dk_seg dksX0_left_5 23 rfl rfl
theorem dksX0_left_7 : cX0_left.data.toList.drop 165 = dktX0_left_7 := dk_seg dksX0_left_6 24 rfl rfl
theorem dX0_left_0 : decode cX0_left 0 = .ok (.iload_n 1, 1) := dk_27 (dk_at dksX0_left_0 0 rfl rfl)
theorem dX0_left_1 : decode cX0_left 1 = .ok (.i2l, 1) := dk_133 (dk_at dksX0_left_0 1 rfl rfl)
theorem dX0_left_2 : decode cX0_left 2 = .ok (.lconst 0, 1) := dk_9 (dk_at dksX0_left_0 2 rfl rfl)
theorem dX0_left_3 : decode cX0_left 3 = .ok (.ldc2_w 300, 3) := dk_20 1 44 (dk_at dksX0_left_0 3 rfl rfl)
theorem dX0_left_6 : decode cX0_left 6 = .ok (.invokestatic 86, 3) := dk_184 0 86 (dk_at dksX0_left_0 6 rfl rfl)
theorem dX0_left_9 : decode cX0_left 9 = .ok (.ifCond .eq 9, 3) := dk_153 0 9 (dk_at dksX0_left_0 9 rfl rfl)
theorem dX0_left_12 : decode cX0_left 12 = .ok (.iload_n 2, 1) := dk_28 (dk_at dksX0_left_0 12 rfl rfl)
theorem dX0_left_13 : decode cX0_left 13 = .ok (.bipush (-2), 2) := dk_16 254 (dk_at dksX0_left_0 13 rfl rfl)
theorem dX0_left_15 : decode cX0_left 15 = .ok (.if_icmp .ge 5, 3) := dk_162 0 5 (dk_at dksX0_left_0 15 rfl rfl)
theorem dX0_left_18 : decode cX0_left 18 = .ok (.iconst (-1), 1) := dk_2 (dk_at dksX0_left_0 18 rfl rfl)
theorem dX0_left_19 : decode cX0_left 19 = .ok (.ireturn, 1) := dk_172 (dk_at dksX0_left_0 19 rfl rfl)
theorem dX0_left_20 : decode cX0_left 20 = .ok (.aload_n 0, 1) := dk_42 (dk_at dksX0_left_0 20 rfl rfl)
theorem dX0_left_21 : decode cX0_left 21 = .ok (.invokevirtual 290, 3) := dk_182 1 34 (dk_at dksX0_left_0 21 rfl rfl)
theorem dX0_left_24 : decode cX0_left 24 = .ok (.bipush (-4), 2) := dk_16 252 (dk_at dksX0_left_1 0 rfl rfl)
theorem dX0_left_26 : decode cX0_left 26 = .ok (.istore_n 3, 1) := dk_62 (dk_at dksX0_left_1 2 rfl rfl)
theorem dX0_left_27 : decode cX0_left 27 = .ok (.iconst 0, 1) := dk_3 (dk_at dksX0_left_1 3 rfl rfl)
theorem dX0_left_28 : decode cX0_left 28 = .ok (.istore 4, 2) := dk_54 4 (dk_at dksX0_left_1 4 rfl rfl)
theorem dX0_left_30 : decode cX0_left 30 = .ok (.iconst 1, 1) := dk_4 (dk_at dksX0_left_1 6 rfl rfl)
theorem dX0_left_31 : decode cX0_left 31 = .ok (.istore 5, 2) := dk_54 5 (dk_at dksX0_left_1 7 rfl rfl)
theorem dX0_left_33 : decode cX0_left 33 = .ok (.iload 5, 2) := dk_21 5 (dk_at dksX0_left_1 9 rfl rfl)
theorem dX0_left_35 : decode cX0_left 35 = .ok (.ifCond .eq 98, 3) := dk_153 0 98 (dk_at dksX0_left_1 11 rfl rfl)
theorem dX0_left_38 : decode cX0_left 38 = .ok (.aload_n 0, 1) := dk_42 (dk_at dksX0_left_1 14 rfl rfl)
theorem dX0_left_39 : decode cX0_left 39 = .ok (.getfield 63, 3) := dk_180 0 63 (dk_at dksX0_left_1 15 rfl rfl)
theorem dX0_left_42 : decode cX0_left 42 = .ok (.aload_n 0, 1) := dk_42 (dk_at dksX0_left_1 18 rfl rfl)
theorem dX0_left_43 : decode cX0_left 43 = .ok (.getfield 31, 3) := dk_180 0 31 (dk_at dksX0_left_1 19 rfl rfl)
theorem dX0_left_46 : decode cX0_left 46 = .ok (.invokevirtual 193, 3) := dk_182 0 193 (dk_at dksX0_left_2 0 rfl rfl)
theorem dX0_left_49 : decode cX0_left 49 = .ok (.aload_n 0, 1) := dk_42 (dk_at dksX0_left_2 3 rfl rfl)
theorem dX0_left_50 : decode cX0_left 50 = .ok (.iload_n 1, 1) := dk_27 (dk_at dksX0_left_2 4 rfl rfl)
theorem dX0_left_51 : decode cX0_left 51 = .ok (.invokevirtual 266, 3) := dk_182 1 10 (dk_at dksX0_left_2 5 rfl rfl)
theorem dX0_left_54 : decode cX0_left 54 = .ok (.aload_n 0, 1) := dk_42 (dk_at dksX0_left_2 8 rfl rfl)
theorem dX0_left_55 : decode cX0_left 55 = .ok (.getfield 31, 3) := dk_180 0 31 (dk_at dksX0_left_2 9 rfl rfl)
theorem dX0_left_58 : decode cX0_left 58 = .ok (.getfield 145, 3) := dk_180 0 145 (dk_at dksX0_left_2 12 rfl rfl)
theorem dX0_left_61 : decode cX0_left 61 = .ok (.istore 6, 2) := dk_54 6 (dk_at dksX0_left_2 15 rfl rfl)
theorem dX0_left_63 : decode cX0_left 63 = .ok (.aload_n 0, 1) := dk_42 (dk_at dksX0_left_2 17 rfl rfl)
theorem dX0_left_64 : decode cX0_left 64 = .ok (.invokevirtual 216, 3) := dk_182 0 216 (dk_at dksX0_left_2 18 rfl rfl)
theorem dX0_left_67 : decode cX0_left 67 = .ok (.istore 7, 2) := dk_54 7 (dk_at dksX0_left_2 21 rfl rfl)
theorem dX0_left_69 : decode cX0_left 69 = .ok (.aload_n 0, 1) := dk_42 (dk_at dksX0_left_2 23 rfl rfl)
theorem dX0_left_70 : decode cX0_left 70 = .ok (.getfield 31, 3) := dk_180 0 31 (dk_at dksX0_left_3 0 rfl rfl)
theorem dX0_left_73 : decode cX0_left 73 = .ok (.aload_n 0, 1) := dk_42 (dk_at dksX0_left_3 3 rfl rfl)
theorem dX0_left_74 : decode cX0_left 74 = .ok (.getfield 63, 3) := dk_180 0 63 (dk_at dksX0_left_3 4 rfl rfl)
theorem dX0_left_77 : decode cX0_left 77 = .ok (.invokevirtual 193, 3) := dk_182 0 193 (dk_at dksX0_left_3 7 rfl rfl)
theorem dX0_left_80 : decode cX0_left 80 = .ok (.iload 6, 2) := dk_21 6 (dk_at dksX0_left_3 10 rfl rfl)
theorem dX0_left_82 : decode cX0_left 82 = .ok (.iload_n 3, 1) := dk_29 (dk_at dksX0_left_3 12 rfl rfl)
theorem dX0_left_83 : decode cX0_left 83 = .ok (.if_icmp .gt 16, 3) := dk_163 0 16 (dk_at dksX0_left_3 13 rfl rfl)
theorem dX0_left_86 : decode cX0_left 86 = .ok (.iload 6, 2) := dk_21 6 (dk_at dksX0_left_3 16 rfl rfl)
theorem dX0_left_88 : decode cX0_left 88 = .ok (.iload_n 3, 1) := dk_29 (dk_at dksX0_left_3 18 rfl rfl)
theorem dX0_left_89 : decode cX0_left 89 = .ok (.if_icmp .ne 35, 3) := dk_160 0 35 (dk_at dksX0_left_3 19 rfl rfl)
theorem dX0_left_92 : decode cX0_left 92 = .ok (.iload 7, 2) := dk_21 7 (dk_at dksX0_left_3 22 rfl rfl)
theorem dX0_left_94 : decode cX0_left 94 = .ok (.iload 4, 2) := dk_21 4 (dk_at dksX0_left_4 0 rfl rfl)
theorem dX0_left_96 : decode cX0_left 96 = .ok (.if_icmp .le 28, 3) := dk_164 0 28 (dk_at dksX0_left_4 2 rfl rfl)
theorem dX0_left_99 : decode cX0_left 99 = .ok (.iload 6, 2) := dk_21 6 (dk_at dksX0_left_4 5 rfl rfl)
theorem dX0_left_101 : decode cX0_left 101 = .ok (.istore_n 3, 1) := dk_62 (dk_at dksX0_left_4 7 rfl rfl)
theorem dX0_left_102 : decode cX0_left 102 = .ok (.iload 7, 2) := dk_21 7 (dk_at dksX0_left_4 8 rfl rfl)
theorem dX0_left_104 : decode cX0_left 104 = .ok (.istore 4, 2) := dk_54 4 (dk_at dksX0_left_4 10 rfl rfl)
theorem dX0_left_106 : decode cX0_left 106 = .ok (.aload_n 0, 1) := dk_42 (dk_at dksX0_left_4 12 rfl rfl)
theorem dX0_left_107 : decode cX0_left 107 = .ok (.getfield 31, 3) := dk_180 0 31 (dk_at dksX0_left_4 13 rfl rfl)
theorem dX0_left_110 : decode cX0_left 110 = .ok (.getfield 148, 3) := dk_180 0 148 (dk_at dksX0_left_4 16 rfl rfl)
theorem dX0_left_113 : decode cX0_left 113 = .ok (.iconst 0, 1) := dk_3 (dk_at dksX0_left_4 19 rfl rfl)
theorem dX0_left_114 : decode cX0_left 114 = .ok (.aload_n 0, 1) := dk_42 (dk_at dksX0_left_4 20 rfl rfl)
theorem dX0_left_115 : decode cX0_left 115 = .ok (.getfield 60, 3) := dk_180 0 60 (dk_at dksX0_left_4 21 rfl rfl)
theorem dX0_left_118 : decode cX0_left 118 = .ok (.iconst 0, 1) := dk_3 (dk_at dksX0_left_5 0 rfl rfl)
theorem dX0_left_119 : decode cX0_left 119 = .ok (.bipush 6, 2) := dk_16 6 (dk_at dksX0_left_5 1 rfl rfl)
theorem dX0_left_121 : decode cX0_left 121 = .ok (.invokestatic 230, 3) := dk_184 0 230 (dk_at dksX0_left_5 3 rfl rfl)
theorem dX0_left_124 : decode cX0_left 124 = .ok (.aload_n 0, 1) := dk_42 (dk_at dksX0_left_5 6 rfl rfl)
theorem dX0_left_125 : decode cX0_left 125 = .ok (.invokevirtual 293, 3) := dk_182 1 37 (dk_at dksX0_left_5 7 rfl rfl)
theorem dX0_left_128 : decode cX0_left 128 = .ok (.istore 5, 2) := dk_54 5 (dk_at dksX0_left_5 10 rfl rfl)
theorem dX0_left_130 : decode cX0_left 130 = .ok (.goto (-97), 3) := dk_167 255 159 (dk_at dksX0_left_5 12 rfl rfl)
theorem dX0_left_133 : decode cX0_left 133 = .ok (.aload_n 0, 1) := dk_42 (dk_at dksX0_left_5 15 rfl rfl)
theorem dX0_left_134 : decode cX0_left 134 = .ok (.getfield 31, 3) := dk_180 0 31 (dk_at dksX0_left_5 16 rfl rfl)
theorem dX0_left_137 : decode cX0_left 137 = .ok (.aload_n 0, 1) := dk_42 (dk_at dksX0_left_5 19 rfl rfl)
theorem dX0_left_138 : decode cX0_left 138 = .ok (.getfield 57, 3) := dk_180 0 57 (dk_at dksX0_left_5 20 rfl rfl)
theorem dX0_left_141 : decode cX0_left 141 = .ok (.invokevirtual 193, 3) := dk_182 0 193 (dk_at dksX0_left_6 0 rfl rfl)
theorem dX0_left_144 : decode cX0_left 144 = .ok (.iload_n 2, 1) := dk_28 (dk_at dksX0_left_6 3 rfl rfl)
theorem dX0_left_145 : decode cX0_left 145 = .ok (.iconst (-1), 1) := dk_2 (dk_at dksX0_left_6 4 rfl rfl)
theorem dX0_left_146 : decode cX0_left 146 = .ok (.if_icmp .ne 7, 3) := dk_160 0 7 (dk_at dksX0_left_6 5 rfl rfl)
theorem dX0_left_149 : decode cX0_left 149 = .ok (.iload_n 3, 1) := dk_29 (dk_at dksX0_left_6 8 rfl rfl)
theorem dX0_left_150 : decode cX0_left 150 = .ok (.goto 19, 3) := dk_167 0 19 (dk_at dksX0_left_6 9 rfl rfl)
theorem dX0_left_153 : decode cX0_left 153 = .ok (.iload_n 2, 1) := dk_28 (dk_at dksX0_left_6 12 rfl rfl)
theorem dX0_left_154 : decode cX0_left 154 = .ok (.bipush (-2), 2) := dk_16 254 (dk_at dksX0_left_6 13 rfl rfl)
theorem dX0_left_156 : decode cX0_left 156 = .ok (.if_icmp .ne 8, 3) := dk_160 0 8 (dk_at dksX0_left_6 15 rfl rfl)
theorem dX0_left_159 : decode cX0_left 159 = .ok (.iload 4, 2) := dk_21 4 (dk_at dksX0_left_6 18 rfl rfl)
theorem dX0_left_161 : decode cX0_left 161 = .ok (.goto 8, 3) := dk_167 0 8 (dk_at dksX0_left_6 20 rfl rfl)
theorem dX0_left_164 : decode cX0_left 164 = .ok (.aload_n 0, 1) := dk_42 (dk_at dksX0_left_6 23 rfl rfl)
theorem dX0_left_165 : decode cX0_left 165 = .ok (.iload_n 2, 1) := dk_28 (dk_at dksX0_left_7 0 rfl rfl)
theorem dX0_left_166 : decode cX0_left 166 = .ok (.invokevirtual 297, 3) := dk_182 1 41 (dk_at dksX0_left_7 1 rfl rfl)
theorem dX0_left_169 : decode cX0_left 169 = .ok (.ireturn, 1) := dk_172 (dk_at dksX0_left_7 4 rfl rfl)
abbrev cX0_winter : ByteArray := prog_1_method_53_code
def yX0_winter : MethodName := ⟨RX0, "winter", "(III)I"⟩
def dkwX0_winter_12 : List UInt8 := [108, 167, 0, 8, 21, 5, 21, 6, 108, 172]
abbrev dktX0_winter_12 : List UInt8 := dkwX0_winter_12 ++ []
def dkwX0_winter_11 : List UInt8 := [21, 7, 112, 54, 8, 21, 7, 54, 6, 21, 8, 54, 7, 167, 255, 236, 29, 154, 0, 11, 21, 4, 21, 6]
abbrev dktX0_winter_11 : List UInt8 := dkwX0_winter_11 ++ dktX0_winter_12
def dkwX0_winter_10 : List UInt8 := [182, 0, 193, 132, 6, 1, 167, 255, 95, 21, 4, 54, 6, 21, 5, 54, 7, 21, 7, 153, 0, 21, 21, 6]
abbrev dktX0_winter_10 : List UInt8 := dkwX0_winter_10 ++ dktX0_winter_11
def dkwX0_winter_9 : List UInt8 := [182, 0, 219, 154, 0, 8, 21, 7, 167, 0, 4, 3, 96, 54, 4, 42, 180, 0, 31, 42, 180, 0, 57]
abbrev dktX0_winter_9 : List UInt8 := dkwX0_winter_9 ++ dktX0_winter_10
def dkwX0_winter_8 : List UInt8 := [167, 255, 168, 42, 180, 0, 31, 182, 0, 227, 21, 4, 42, 180, 0, 31, 180, 0, 145, 27, 161, 0, 15, 42]
abbrev dktX0_winter_8 : List UInt8 := dkwX0_winter_8 ++ dktX0_winter_9
def dkwX0_winter_7 : List UInt8 := [42, 180, 0, 57, 180, 0, 133, 42, 180, 0, 57, 180, 0, 148, 21, 8, 46, 46, 79, 132, 8, 1]
abbrev dktX0_winter_7 : List UInt8 := dkwX0_winter_7 ++ dktX0_winter_8
def dkwX0_winter_6 : List UInt8 := [42, 180, 0, 57, 180, 0, 148, 21, 8, 46, 21, 6, 21, 8, 184, 1, 13, 153, 0, 7, 3, 167, 0, 21]
abbrev dktX0_winter_6 : List UInt8 := dkwX0_winter_6 ++ dktX0_winter_7
def dkwX0_winter_5 : List UInt8 := [184, 1, 13, 153, 0, 7, 28, 167, 0, 7, 16, 10, 28, 100, 104, 54, 7, 42, 180, 0, 31, 180, 0, 133]
abbrev dktX0_winter_5 : List UInt8 := dkwX0_winter_5 ++ dktX0_winter_6
def dkwX0_winter_4 : List UInt8 := [54, 7, 3, 54, 8, 21, 8, 42, 180, 0, 57, 180, 0, 145, 162, 0, 82, 21, 7, 21, 6, 21, 8]
abbrev dktX0_winter_4 : List UInt8 := dkwX0_winter_4 ++ dktX0_winter_5
def dkwX0_winter_3 : List UInt8 := [132, 6, 1, 167, 255, 234, 3, 54, 6, 21, 6, 4, 42, 180, 0, 57, 180, 0, 145, 120, 162, 0, 153, 4]
abbrev dktX0_winter_3 : List UInt8 := dkwX0_winter_3 ++ dktX0_winter_4
def dkwX0_winter_2 : List UInt8 := [54, 5, 3, 54, 6, 21, 6, 42, 180, 0, 57, 180, 0, 145, 162, 0, 16, 21, 5, 16, 10, 104, 54, 5]
abbrev dktX0_winter_2 : List UInt8 := dkwX0_winter_2 ++ dktX0_winter_3
def dkwX0_winter_1 : List UInt8 := [29, 184, 1, 19, 154, 0, 5, 2, 172, 42, 180, 0, 57, 42, 180, 0, 31, 182, 0, 193, 3, 54, 4, 4]
abbrev dktX0_winter_1 : List UInt8 := dkwX0_winter_1 ++ dktX0_winter_2
def dkwX0_winter_0 : List UInt8 := [27, 133, 9, 20, 1, 46, 184, 0, 86, 153, 0, 22, 28, 133, 9, 20, 1, 48, 184, 0, 86, 153, 0, 10]
abbrev dktX0_winter_0 : List UInt8 := dkwX0_winter_0 ++ dktX0_winter_1
theorem dksX0_winter_0 : cX0_winter.data.toList.drop 0 = dktX0_winter_0 := by decide +kernel
theorem dksX0_winter_1 : cX0_winter.data.toList.drop 24 = dktX0_winter_1 := dk_seg dksX0_winter_0 24 rfl rfl
theorem dksX0_winter_2 : cX0_winter.data.toList.drop 48 = dktX0_winter_2 := dk_seg dksX0_winter_1 24 rfl rfl
theorem dksX0_winter_3 : cX0_winter.data.toList.drop 72 = dktX0_winter_3 := dk_seg dksX0_winter_2 24 rfl rfl
theorem dksX0_winter_4 : cX0_winter.data.toList.drop 96 = dktX0_winter_4 := dk_seg dksX0_winter_3 24 rfl rfl
theorem dksX0_winter_5 : cX0_winter.data.toList.drop 119 = dktX0_winter_5 := dk_seg dksX0_winter_4 23 rfl rfl
theorem dksX0_winter_6 : cX0_winter.data.toList.drop 143 = dktX0_winter_6 := dk_seg dksX0_winter_5 24 rfl rfl
theorem dksX0_winter_7 : cX0_winter.data.toList.drop 167 = dktX0_winter_7 := dk_seg dksX0_winter_6 24 rfl rfl
theorem dksX0_winter_8 : cX0_winter.data.toList.drop 189 = dktX0_winter_8 := dk_seg dksX0_winter_7 22 rfl rfl
theorem dksX0_winter_9 : cX0_winter.data.toList.drop 213 = dktX0_winter_9 := dk_seg dksX0_winter_8 24 rfl rfl
theorem dksX0_winter_10 : cX0_winter.data.toList.drop 236 = dktX0_winter_10 := dk_seg dksX0_winter_9 23 rfl rfl
theorem dksX0_winter_11 : cX0_winter.data.toList.drop 260 = dktX0_winter_11 := dk_seg dksX0_winter_10 24 rfl rfl
theorem dksX0_winter_12 : cX0_winter.data.toList.drop 284 = dktX0_winter_12 := dk_seg dksX0_winter_11 24 rfl rfl
theorem dX0_winter_0 : decode cX0_winter 0 = .ok (.iload_n 1, 1) := dk_27 (dk_at dksX0_winter_0 0 rfl rfl)
theorem dX0_winter_1 : decode cX0_winter 1 = .ok (.i2l, 1) := dk_133 (dk_at dksX0_winter_0 1 rfl rfl)
theorem dX0_winter_2 : decode cX0_winter 2 = .ok (.lconst 0, 1) := dk_9 (dk_at dksX0_winter_0 2 rfl rfl)
theorem dX0_winter_3 : decode cX0_winter 3 = .ok (.ldc2_w 302, 3) := dk_20 1 46 (dk_at dksX0_winter_0 3 rfl rfl)
theorem dX0_winter_6 : decode cX0_winter 6 = .ok (.invokestatic 86, 3) := dk_184 0 86 (dk_at dksX0_winter_0 6 rfl rfl)
theorem dX0_winter_9 : decode cX0_winter 9 = .ok (.ifCond .eq 22, 3) := dk_153 0 22 (dk_at dksX0_winter_0 9 rfl rfl)
theorem dX0_winter_12 : decode cX0_winter 12 = .ok (.iload_n 2, 1) := dk_28 (dk_at dksX0_winter_0 12 rfl rfl)
theorem dX0_winter_13 : decode cX0_winter 13 = .ok (.i2l, 1) := dk_133 (dk_at dksX0_winter_0 13 rfl rfl)
theorem dX0_winter_14 : decode cX0_winter 14 = .ok (.lconst 0, 1) := dk_9 (dk_at dksX0_winter_0 14 rfl rfl)
theorem dX0_winter_15 : decode cX0_winter 15 = .ok (.ldc2_w 304, 3) := dk_20 1 48 (dk_at dksX0_winter_0 15 rfl rfl)
theorem dX0_winter_18 : decode cX0_winter 18 = .ok (.invokestatic 86, 3) := dk_184 0 86 (dk_at dksX0_winter_0 18 rfl rfl)
theorem dX0_winter_21 : decode cX0_winter 21 = .ok (.ifCond .eq 10, 3) := dk_153 0 10 (dk_at dksX0_winter_0 21 rfl rfl)
theorem dX0_winter_24 : decode cX0_winter 24 = .ok (.iload_n 3, 1) := dk_29 (dk_at dksX0_winter_1 0 rfl rfl)
theorem dX0_winter_25 : decode cX0_winter 25 = .ok (.invokestatic 275, 3) := dk_184 1 19 (dk_at dksX0_winter_1 1 rfl rfl)
theorem dX0_winter_28 : decode cX0_winter 28 = .ok (.ifCond .ne 5, 3) := dk_154 0 5 (dk_at dksX0_winter_1 4 rfl rfl)
theorem dX0_winter_31 : decode cX0_winter 31 = .ok (.iconst (-1), 1) := dk_2 (dk_at dksX0_winter_1 7 rfl rfl)
theorem dX0_winter_32 : decode cX0_winter 32 = .ok (.ireturn, 1) := dk_172 (dk_at dksX0_winter_1 8 rfl rfl)
theorem dX0_winter_33 : decode cX0_winter 33 = .ok (.aload_n 0, 1) := dk_42 (dk_at dksX0_winter_1 9 rfl rfl)
theorem dX0_winter_34 : decode cX0_winter 34 = .ok (.getfield 57, 3) := dk_180 0 57 (dk_at dksX0_winter_1 10 rfl rfl)
theorem dX0_winter_37 : decode cX0_winter 37 = .ok (.aload_n 0, 1) := dk_42 (dk_at dksX0_winter_1 13 rfl rfl)
theorem dX0_winter_38 : decode cX0_winter 38 = .ok (.getfield 31, 3) := dk_180 0 31 (dk_at dksX0_winter_1 14 rfl rfl)
theorem dX0_winter_41 : decode cX0_winter 41 = .ok (.invokevirtual 193, 3) := dk_182 0 193 (dk_at dksX0_winter_1 17 rfl rfl)
theorem dX0_winter_44 : decode cX0_winter 44 = .ok (.iconst 0, 1) := dk_3 (dk_at dksX0_winter_1 20 rfl rfl)
theorem dX0_winter_45 : decode cX0_winter 45 = .ok (.istore 4, 2) := dk_54 4 (dk_at dksX0_winter_1 21 rfl rfl)
theorem dX0_winter_47 : decode cX0_winter 47 = .ok (.iconst 1, 1) := dk_4 (dk_at dksX0_winter_1 23 rfl rfl)
theorem dX0_winter_48 : decode cX0_winter 48 = .ok (.istore 5, 2) := dk_54 5 (dk_at dksX0_winter_2 0 rfl rfl)
theorem dX0_winter_50 : decode cX0_winter 50 = .ok (.iconst 0, 1) := dk_3 (dk_at dksX0_winter_2 2 rfl rfl)
theorem dX0_winter_51 : decode cX0_winter 51 = .ok (.istore 6, 2) := dk_54 6 (dk_at dksX0_winter_2 3 rfl rfl)
theorem dX0_winter_53 : decode cX0_winter 53 = .ok (.iload 6, 2) := dk_21 6 (dk_at dksX0_winter_2 5 rfl rfl)
theorem dX0_winter_55 : decode cX0_winter 55 = .ok (.aload_n 0, 1) := dk_42 (dk_at dksX0_winter_2 7 rfl rfl)
theorem dX0_winter_56 : decode cX0_winter 56 = .ok (.getfield 57, 3) := dk_180 0 57 (dk_at dksX0_winter_2 8 rfl rfl)
theorem dX0_winter_59 : decode cX0_winter 59 = .ok (.getfield 145, 3) := dk_180 0 145 (dk_at dksX0_winter_2 11 rfl rfl)
theorem dX0_winter_62 : decode cX0_winter 62 = .ok (.if_icmp .ge 16, 3) := dk_162 0 16 (dk_at dksX0_winter_2 14 rfl rfl)
theorem dX0_winter_65 : decode cX0_winter 65 = .ok (.iload 5, 2) := dk_21 5 (dk_at dksX0_winter_2 17 rfl rfl)
theorem dX0_winter_67 : decode cX0_winter 67 = .ok (.bipush 10, 2) := dk_16 10 (dk_at dksX0_winter_2 19 rfl rfl)
theorem dX0_winter_69 : decode cX0_winter 69 = .ok (.imul, 1) := dk_104 (dk_at dksX0_winter_2 21 rfl rfl)
theorem dX0_winter_70 : decode cX0_winter 70 = .ok (.istore 5, 2) := dk_54 5 (dk_at dksX0_winter_2 22 rfl rfl)
theorem dX0_winter_72 : decode cX0_winter 72 = .ok (.iinc 6 1, 3) := dk_132 6 1 (dk_at dksX0_winter_3 0 rfl rfl)
theorem dX0_winter_75 : decode cX0_winter 75 = .ok (.goto (-22), 3) := dk_167 255 234 (dk_at dksX0_winter_3 3 rfl rfl)
theorem dX0_winter_78 : decode cX0_winter 78 = .ok (.iconst 0, 1) := dk_3 (dk_at dksX0_winter_3 6 rfl rfl)
theorem dX0_winter_79 : decode cX0_winter 79 = .ok (.istore 6, 2) := dk_54 6 (dk_at dksX0_winter_3 7 rfl rfl)
theorem dX0_winter_81 : decode cX0_winter 81 = .ok (.iload 6, 2) := dk_21 6 (dk_at dksX0_winter_3 9 rfl rfl)
theorem dX0_winter_83 : decode cX0_winter 83 = .ok (.iconst 1, 1) := dk_4 (dk_at dksX0_winter_3 11 rfl rfl)
theorem dX0_winter_84 : decode cX0_winter 84 = .ok (.aload_n 0, 1) := dk_42 (dk_at dksX0_winter_3 12 rfl rfl)
theorem dX0_winter_85 : decode cX0_winter 85 = .ok (.getfield 57, 3) := dk_180 0 57 (dk_at dksX0_winter_3 13 rfl rfl)
theorem dX0_winter_88 : decode cX0_winter 88 = .ok (.getfield 145, 3) := dk_180 0 145 (dk_at dksX0_winter_3 16 rfl rfl)
theorem dX0_winter_91 : decode cX0_winter 91 = .ok (.ishl, 1) := dk_120 (dk_at dksX0_winter_3 19 rfl rfl)
theorem dX0_winter_92 : decode cX0_winter 92 = .ok (.if_icmp .ge 153, 3) := dk_162 0 153 (dk_at dksX0_winter_3 20 rfl rfl)
theorem dX0_winter_95 : decode cX0_winter 95 = .ok (.iconst 1, 1) := dk_4 (dk_at dksX0_winter_3 23 rfl rfl)
theorem dX0_winter_96 : decode cX0_winter 96 = .ok (.istore 7, 2) := dk_54 7 (dk_at dksX0_winter_4 0 rfl rfl)
theorem dX0_winter_98 : decode cX0_winter 98 = .ok (.iconst 0, 1) := dk_3 (dk_at dksX0_winter_4 2 rfl rfl)
theorem dX0_winter_99 : decode cX0_winter 99 = .ok (.istore 8, 2) := dk_54 8 (dk_at dksX0_winter_4 3 rfl rfl)
theorem dX0_winter_101 : decode cX0_winter 101 = .ok (.iload 8, 2) := dk_21 8 (dk_at dksX0_winter_4 5 rfl rfl)
theorem dX0_winter_103 : decode cX0_winter 103 = .ok (.aload_n 0, 1) := dk_42 (dk_at dksX0_winter_4 7 rfl rfl)
theorem dX0_winter_104 : decode cX0_winter 104 = .ok (.getfield 57, 3) := dk_180 0 57 (dk_at dksX0_winter_4 8 rfl rfl)
theorem dX0_winter_107 : decode cX0_winter 107 = .ok (.getfield 145, 3) := dk_180 0 145 (dk_at dksX0_winter_4 11 rfl rfl)
theorem dX0_winter_110 : decode cX0_winter 110 = .ok (.if_icmp .ge 82, 3) := dk_162 0 82 (dk_at dksX0_winter_4 14 rfl rfl)
theorem dX0_winter_113 : decode cX0_winter 113 = .ok (.iload 7, 2) := dk_21 7 (dk_at dksX0_winter_4 17 rfl rfl)
theorem dX0_winter_115 : decode cX0_winter 115 = .ok (.iload 6, 2) := dk_21 6 (dk_at dksX0_winter_4 19 rfl rfl)
theorem dX0_winter_117 : decode cX0_winter 117 = .ok (.iload 8, 2) := dk_21 8 (dk_at dksX0_winter_4 21 rfl rfl)
theorem dX0_winter_119 : decode cX0_winter 119 = .ok (.invokestatic 269, 3) := dk_184 1 13 (dk_at dksX0_winter_5 0 rfl rfl)
theorem dX0_winter_122 : decode cX0_winter 122 = .ok (.ifCond .eq 7, 3) := dk_153 0 7 (dk_at dksX0_winter_5 3 rfl rfl)
theorem dX0_winter_125 : decode cX0_winter 125 = .ok (.iload_n 2, 1) := dk_28 (dk_at dksX0_winter_5 6 rfl rfl)
theorem dX0_winter_126 : decode cX0_winter 126 = .ok (.goto 7, 3) := dk_167 0 7 (dk_at dksX0_winter_5 7 rfl rfl)
theorem dX0_winter_129 : decode cX0_winter 129 = .ok (.bipush 10, 2) := dk_16 10 (dk_at dksX0_winter_5 10 rfl rfl)
theorem dX0_winter_131 : decode cX0_winter 131 = .ok (.iload_n 2, 1) := dk_28 (dk_at dksX0_winter_5 12 rfl rfl)
theorem dX0_winter_132 : decode cX0_winter 132 = .ok (.isub, 1) := dk_100 (dk_at dksX0_winter_5 13 rfl rfl)
theorem dX0_winter_133 : decode cX0_winter 133 = .ok (.imul, 1) := dk_104 (dk_at dksX0_winter_5 14 rfl rfl)
theorem dX0_winter_134 : decode cX0_winter 134 = .ok (.istore 7, 2) := dk_54 7 (dk_at dksX0_winter_5 15 rfl rfl)
theorem dX0_winter_136 : decode cX0_winter 136 = .ok (.aload_n 0, 1) := dk_42 (dk_at dksX0_winter_5 17 rfl rfl)
theorem dX0_winter_137 : decode cX0_winter 137 = .ok (.getfield 31, 3) := dk_180 0 31 (dk_at dksX0_winter_5 18 rfl rfl)
theorem dX0_winter_140 : decode cX0_winter 140 = .ok (.getfield 133, 3) := dk_180 0 133 (dk_at dksX0_winter_5 21 rfl rfl)
theorem dX0_winter_143 : decode cX0_winter 143 = .ok (.aload_n 0, 1) := dk_42 (dk_at dksX0_winter_6 0 rfl rfl)
theorem dX0_winter_144 : decode cX0_winter 144 = .ok (.getfield 57, 3) := dk_180 0 57 (dk_at dksX0_winter_6 1 rfl rfl)
theorem dX0_winter_147 : decode cX0_winter 147 = .ok (.getfield 148, 3) := dk_180 0 148 (dk_at dksX0_winter_6 4 rfl rfl)
theorem dX0_winter_150 : decode cX0_winter 150 = .ok (.iload 8, 2) := dk_21 8 (dk_at dksX0_winter_6 7 rfl rfl)
theorem dX0_winter_152 : decode cX0_winter 152 = .ok (.iaload, 1) := dk_46 (dk_at dksX0_winter_6 9 rfl rfl)
theorem dX0_winter_153 : decode cX0_winter 153 = .ok (.iload 6, 2) := dk_21 6 (dk_at dksX0_winter_6 10 rfl rfl)
theorem dX0_winter_155 : decode cX0_winter 155 = .ok (.iload 8, 2) := dk_21 8 (dk_at dksX0_winter_6 12 rfl rfl)
theorem dX0_winter_157 : decode cX0_winter 157 = .ok (.invokestatic 269, 3) := dk_184 1 13 (dk_at dksX0_winter_6 14 rfl rfl)
theorem dX0_winter_160 : decode cX0_winter 160 = .ok (.ifCond .eq 7, 3) := dk_153 0 7 (dk_at dksX0_winter_6 17 rfl rfl)
theorem dX0_winter_163 : decode cX0_winter 163 = .ok (.iconst 0, 1) := dk_3 (dk_at dksX0_winter_6 20 rfl rfl)
theorem dX0_winter_164 : decode cX0_winter 164 = .ok (.goto 21, 3) := dk_167 0 21 (dk_at dksX0_winter_6 21 rfl rfl)
theorem dX0_winter_167 : decode cX0_winter 167 = .ok (.aload_n 0, 1) := dk_42 (dk_at dksX0_winter_7 0 rfl rfl)
theorem dX0_winter_168 : decode cX0_winter 168 = .ok (.getfield 57, 3) := dk_180 0 57 (dk_at dksX0_winter_7 1 rfl rfl)
theorem dX0_winter_171 : decode cX0_winter 171 = .ok (.getfield 133, 3) := dk_180 0 133 (dk_at dksX0_winter_7 4 rfl rfl)
theorem dX0_winter_174 : decode cX0_winter 174 = .ok (.aload_n 0, 1) := dk_42 (dk_at dksX0_winter_7 7 rfl rfl)
theorem dX0_winter_175 : decode cX0_winter 175 = .ok (.getfield 57, 3) := dk_180 0 57 (dk_at dksX0_winter_7 8 rfl rfl)
theorem dX0_winter_178 : decode cX0_winter 178 = .ok (.getfield 148, 3) := dk_180 0 148 (dk_at dksX0_winter_7 11 rfl rfl)
theorem dX0_winter_181 : decode cX0_winter 181 = .ok (.iload 8, 2) := dk_21 8 (dk_at dksX0_winter_7 14 rfl rfl)
theorem dX0_winter_183 : decode cX0_winter 183 = .ok (.iaload, 1) := dk_46 (dk_at dksX0_winter_7 16 rfl rfl)
theorem dX0_winter_184 : decode cX0_winter 184 = .ok (.iaload, 1) := dk_46 (dk_at dksX0_winter_7 17 rfl rfl)
theorem dX0_winter_185 : decode cX0_winter 185 = .ok (.iastore, 1) := dk_79 (dk_at dksX0_winter_7 18 rfl rfl)
theorem dX0_winter_186 : decode cX0_winter 186 = .ok (.iinc 8 1, 3) := dk_132 8 1 (dk_at dksX0_winter_7 19 rfl rfl)
theorem dX0_winter_189 : decode cX0_winter 189 = .ok (.goto (-88), 3) := dk_167 255 168 (dk_at dksX0_winter_8 0 rfl rfl)
theorem dX0_winter_192 : decode cX0_winter 192 = .ok (.aload_n 0, 1) := dk_42 (dk_at dksX0_winter_8 3 rfl rfl)
theorem dX0_winter_193 : decode cX0_winter 193 = .ok (.getfield 31, 3) := dk_180 0 31 (dk_at dksX0_winter_8 4 rfl rfl)
theorem dX0_winter_196 : decode cX0_winter 196 = .ok (.invokevirtual 227, 3) := dk_182 0 227 (dk_at dksX0_winter_8 7 rfl rfl)
theorem dX0_winter_199 : decode cX0_winter 199 = .ok (.iload 4, 2) := dk_21 4 (dk_at dksX0_winter_8 10 rfl rfl)
theorem dX0_winter_201 : decode cX0_winter 201 = .ok (.aload_n 0, 1) := dk_42 (dk_at dksX0_winter_8 12 rfl rfl)
theorem dX0_winter_202 : decode cX0_winter 202 = .ok (.getfield 31, 3) := dk_180 0 31 (dk_at dksX0_winter_8 13 rfl rfl)
theorem dX0_winter_205 : decode cX0_winter 205 = .ok (.getfield 145, 3) := dk_180 0 145 (dk_at dksX0_winter_8 16 rfl rfl)
theorem dX0_winter_208 : decode cX0_winter 208 = .ok (.iload_n 1, 1) := dk_27 (dk_at dksX0_winter_8 19 rfl rfl)
theorem dX0_winter_209 : decode cX0_winter 209 = .ok (.if_icmp .lt 15, 3) := dk_161 0 15 (dk_at dksX0_winter_8 20 rfl rfl)
theorem dX0_winter_212 : decode cX0_winter 212 = .ok (.aload_n 0, 1) := dk_42 (dk_at dksX0_winter_8 23 rfl rfl)
theorem dX0_winter_213 : decode cX0_winter 213 = .ok (.invokevirtual 219, 3) := dk_182 0 219 (dk_at dksX0_winter_9 0 rfl rfl)
theorem dX0_winter_216 : decode cX0_winter 216 = .ok (.ifCond .ne 8, 3) := dk_154 0 8 (dk_at dksX0_winter_9 3 rfl rfl)
theorem dX0_winter_219 : decode cX0_winter 219 = .ok (.iload 7, 2) := dk_21 7 (dk_at dksX0_winter_9 6 rfl rfl)
theorem dX0_winter_221 : decode cX0_winter 221 = .ok (.goto 4, 3) := dk_167 0 4 (dk_at dksX0_winter_9 8 rfl rfl)
theorem dX0_winter_224 : decode cX0_winter 224 = .ok (.iconst 0, 1) := dk_3 (dk_at dksX0_winter_9 11 rfl rfl)
theorem dX0_winter_225 : decode cX0_winter 225 = .ok (.iadd, 1) := dk_96 (dk_at dksX0_winter_9 12 rfl rfl)
theorem dX0_winter_226 : decode cX0_winter 226 = .ok (.istore 4, 2) := dk_54 4 (dk_at dksX0_winter_9 13 rfl rfl)
theorem dX0_winter_228 : decode cX0_winter 228 = .ok (.aload_n 0, 1) := dk_42 (dk_at dksX0_winter_9 15 rfl rfl)
theorem dX0_winter_229 : decode cX0_winter 229 = .ok (.getfield 31, 3) := dk_180 0 31 (dk_at dksX0_winter_9 16 rfl rfl)
theorem dX0_winter_232 : decode cX0_winter 232 = .ok (.aload_n 0, 1) := dk_42 (dk_at dksX0_winter_9 19 rfl rfl)
theorem dX0_winter_233 : decode cX0_winter 233 = .ok (.getfield 57, 3) := dk_180 0 57 (dk_at dksX0_winter_9 20 rfl rfl)
theorem dX0_winter_236 : decode cX0_winter 236 = .ok (.invokevirtual 193, 3) := dk_182 0 193 (dk_at dksX0_winter_10 0 rfl rfl)
theorem dX0_winter_239 : decode cX0_winter 239 = .ok (.iinc 6 1, 3) := dk_132 6 1 (dk_at dksX0_winter_10 3 rfl rfl)
theorem dX0_winter_242 : decode cX0_winter 242 = .ok (.goto (-161), 3) := dk_167 255 95 (dk_at dksX0_winter_10 6 rfl rfl)
theorem dX0_winter_245 : decode cX0_winter 245 = .ok (.iload 4, 2) := dk_21 4 (dk_at dksX0_winter_10 9 rfl rfl)
theorem dX0_winter_247 : decode cX0_winter 247 = .ok (.istore 6, 2) := dk_54 6 (dk_at dksX0_winter_10 11 rfl rfl)
theorem dX0_winter_249 : decode cX0_winter 249 = .ok (.iload 5, 2) := dk_21 5 (dk_at dksX0_winter_10 13 rfl rfl)
theorem dX0_winter_251 : decode cX0_winter 251 = .ok (.istore 7, 2) := dk_54 7 (dk_at dksX0_winter_10 15 rfl rfl)
theorem dX0_winter_253 : decode cX0_winter 253 = .ok (.iload 7, 2) := dk_21 7 (dk_at dksX0_winter_10 17 rfl rfl)
theorem dX0_winter_255 : decode cX0_winter 255 = .ok (.ifCond .eq 21, 3) := dk_153 0 21 (dk_at dksX0_winter_10 19 rfl rfl)
theorem dX0_winter_258 : decode cX0_winter 258 = .ok (.iload 6, 2) := dk_21 6 (dk_at dksX0_winter_10 22 rfl rfl)
theorem dX0_winter_260 : decode cX0_winter 260 = .ok (.iload 7, 2) := dk_21 7 (dk_at dksX0_winter_11 0 rfl rfl)
theorem dX0_winter_262 : decode cX0_winter 262 = .ok (.irem, 1) := dk_112 (dk_at dksX0_winter_11 2 rfl rfl)
theorem dX0_winter_263 : decode cX0_winter 263 = .ok (.istore 8, 2) := dk_54 8 (dk_at dksX0_winter_11 3 rfl rfl)
theorem dX0_winter_265 : decode cX0_winter 265 = .ok (.iload 7, 2) := dk_21 7 (dk_at dksX0_winter_11 5 rfl rfl)
theorem dX0_winter_267 : decode cX0_winter 267 = .ok (.istore 6, 2) := dk_54 6 (dk_at dksX0_winter_11 7 rfl rfl)
theorem dX0_winter_269 : decode cX0_winter 269 = .ok (.iload 8, 2) := dk_21 8 (dk_at dksX0_winter_11 9 rfl rfl)
theorem dX0_winter_271 : decode cX0_winter 271 = .ok (.istore 7, 2) := dk_54 7 (dk_at dksX0_winter_11 11 rfl rfl)
theorem dX0_winter_273 : decode cX0_winter 273 = .ok (.goto (-20), 3) := dk_167 255 236 (dk_at dksX0_winter_11 13 rfl rfl)
theorem dX0_winter_276 : decode cX0_winter 276 = .ok (.iload_n 3, 1) := dk_29 (dk_at dksX0_winter_11 16 rfl rfl)
theorem dX0_winter_277 : decode cX0_winter 277 = .ok (.ifCond .ne 11, 3) := dk_154 0 11 (dk_at dksX0_winter_11 17 rfl rfl)
theorem dX0_winter_280 : decode cX0_winter 280 = .ok (.iload 4, 2) := dk_21 4 (dk_at dksX0_winter_11 20 rfl rfl)
theorem dX0_winter_282 : decode cX0_winter 282 = .ok (.iload 6, 2) := dk_21 6 (dk_at dksX0_winter_11 22 rfl rfl)
theorem dX0_winter_284 : decode cX0_winter 284 = .ok (.idiv, 1) := dk_108 (dk_at dksX0_winter_12 0 rfl rfl)
theorem dX0_winter_285 : decode cX0_winter 285 = .ok (.goto 8, 3) := dk_167 0 8 (dk_at dksX0_winter_12 1 rfl rfl)
theorem dX0_winter_288 : decode cX0_winter 288 = .ok (.iload 5, 2) := dk_21 5 (dk_at dksX0_winter_12 4 rfl rfl)
theorem dX0_winter_290 : decode cX0_winter 290 = .ok (.iload 6, 2) := dk_21 6 (dk_at dksX0_winter_12 6 rfl rfl)
theorem dX0_winter_292 : decode cX0_winter 292 = .ok (.idiv, 1) := dk_108 (dk_at dksX0_winter_12 8 rfl rfl)
theorem dX0_winter_293 : decode cX0_winter 293 = .ok (.ireturn, 1) := dk_172 (dk_at dksX0_winter_12 9 rfl rfl)
abbrev cX0_image : ByteArray := prog_1_method_54_code
def yX0_image : MethodName := ⟨RX0, "image", "()I"⟩
def dkwX0_image_2 : List UInt8 := [180, 0, 107, 181, 1, 50, 42, 4, 181, 1, 53, 4, 172]
abbrev dktX0_image_2 : List UInt8 := dkwX0_image_2 ++ []
def dkwX0_image_1 : List UInt8 := [180, 0, 69, 27, 50, 42, 180, 0, 53, 27, 50, 182, 0, 236, 132, 1, 1, 167, 255, 230, 42, 42]
abbrev dktX0_image_1 : List UInt8 := dkwX0_image_1 ++ dktX0_image_2
def dkwX0_image_0 : List UInt8 := [42, 180, 0, 66, 42, 180, 0, 31, 182, 0, 193, 3, 60, 27, 42, 180, 0, 107, 162, 0, 24, 42]
abbrev dktX0_image_0 : List UInt8 := dkwX0_image_0 ++ dktX0_image_1
theorem dksX0_image_0 : cX0_image.data.toList.drop 0 = dktX0_image_0 := by decide +kernel
theorem dksX0_image_1 : cX0_image.data.toList.drop 22 = dktX0_image_1 := dk_seg dksX0_image_0 22 rfl rfl
theorem dksX0_image_2 : cX0_image.data.toList.drop 44 = dktX0_image_2 := dk_seg dksX0_image_1 22 rfl rfl
theorem dX0_image_0 : decode cX0_image 0 = .ok (.aload_n 0, 1) := dk_42 (dk_at dksX0_image_0 0 rfl rfl)
theorem dX0_image_1 : decode cX0_image 1 = .ok (.getfield 66, 3) := dk_180 0 66 (dk_at dksX0_image_0 1 rfl rfl)
theorem dX0_image_4 : decode cX0_image 4 = .ok (.aload_n 0, 1) := dk_42 (dk_at dksX0_image_0 4 rfl rfl)
theorem dX0_image_5 : decode cX0_image 5 = .ok (.getfield 31, 3) := dk_180 0 31 (dk_at dksX0_image_0 5 rfl rfl)
theorem dX0_image_8 : decode cX0_image 8 = .ok (.invokevirtual 193, 3) := dk_182 0 193 (dk_at dksX0_image_0 8 rfl rfl)
theorem dX0_image_11 : decode cX0_image 11 = .ok (.iconst 0, 1) := dk_3 (dk_at dksX0_image_0 11 rfl rfl)
theorem dX0_image_12 : decode cX0_image 12 = .ok (.istore_n 1, 1) := dk_60 (dk_at dksX0_image_0 12 rfl rfl)
theorem dX0_image_13 : decode cX0_image 13 = .ok (.iload_n 1, 1) := dk_27 (dk_at dksX0_image_0 13 rfl rfl)
theorem dX0_image_14 : decode cX0_image 14 = .ok (.aload_n 0, 1) := dk_42 (dk_at dksX0_image_0 14 rfl rfl)
theorem dX0_image_15 : decode cX0_image 15 = .ok (.getfield 107, 3) := dk_180 0 107 (dk_at dksX0_image_0 15 rfl rfl)
theorem dX0_image_18 : decode cX0_image 18 = .ok (.if_icmp .ge 24, 3) := dk_162 0 24 (dk_at dksX0_image_0 18 rfl rfl)
theorem dX0_image_21 : decode cX0_image 21 = .ok (.aload_n 0, 1) := dk_42 (dk_at dksX0_image_0 21 rfl rfl)
theorem dX0_image_22 : decode cX0_image 22 = .ok (.getfield 69, 3) := dk_180 0 69 (dk_at dksX0_image_1 0 rfl rfl)
theorem dX0_image_25 : decode cX0_image 25 = .ok (.iload_n 1, 1) := dk_27 (dk_at dksX0_image_1 3 rfl rfl)
theorem dX0_image_26 : decode cX0_image 26 = .ok (.aaload, 1) := dk_50 (dk_at dksX0_image_1 4 rfl rfl)
theorem dX0_image_27 : decode cX0_image 27 = .ok (.aload_n 0, 1) := dk_42 (dk_at dksX0_image_1 5 rfl rfl)
theorem dX0_image_28 : decode cX0_image 28 = .ok (.getfield 53, 3) := dk_180 0 53 (dk_at dksX0_image_1 6 rfl rfl)
theorem dX0_image_31 : decode cX0_image 31 = .ok (.iload_n 1, 1) := dk_27 (dk_at dksX0_image_1 9 rfl rfl)
theorem dX0_image_32 : decode cX0_image 32 = .ok (.aaload, 1) := dk_50 (dk_at dksX0_image_1 10 rfl rfl)
theorem dX0_image_33 : decode cX0_image 33 = .ok (.invokevirtual 236, 3) := dk_182 0 236 (dk_at dksX0_image_1 11 rfl rfl)
theorem dX0_image_36 : decode cX0_image 36 = .ok (.iinc 1 1, 3) := dk_132 1 1 (dk_at dksX0_image_1 14 rfl rfl)
theorem dX0_image_39 : decode cX0_image 39 = .ok (.goto (-26), 3) := dk_167 255 230 (dk_at dksX0_image_1 17 rfl rfl)
theorem dX0_image_42 : decode cX0_image 42 = .ok (.aload_n 0, 1) := dk_42 (dk_at dksX0_image_1 20 rfl rfl)
theorem dX0_image_43 : decode cX0_image 43 = .ok (.aload_n 0, 1) := dk_42 (dk_at dksX0_image_1 21 rfl rfl)
theorem dX0_image_44 : decode cX0_image 44 = .ok (.getfield 107, 3) := dk_180 0 107 (dk_at dksX0_image_2 0 rfl rfl)
theorem dX0_image_47 : decode cX0_image 47 = .ok (.putfield 306, 3) := dk_181 1 50 (dk_at dksX0_image_2 3 rfl rfl)
theorem dX0_image_50 : decode cX0_image 50 = .ok (.aload_n 0, 1) := dk_42 (dk_at dksX0_image_2 6 rfl rfl)
theorem dX0_image_51 : decode cX0_image 51 = .ok (.iconst 1, 1) := dk_4 (dk_at dksX0_image_2 7 rfl rfl)
theorem dX0_image_52 : decode cX0_image 52 = .ok (.putfield 309, 3) := dk_181 1 53 (dk_at dksX0_image_2 8 rfl rfl)
theorem dX0_image_55 : decode cX0_image 55 = .ok (.iconst 1, 1) := dk_4 (dk_at dksX0_image_2 11 rfl rfl)
theorem dX0_image_56 : decode cX0_image 56 = .ok (.ireturn, 1) := dk_172 (dk_at dksX0_image_2 12 rfl rfl)
abbrev cX0_restore : ByteArray := prog_1_method_55_code
def yX0_restore : MethodName := ⟨RX0, "restore", "()I"⟩
def dkwX0_restore_2 : List UInt8 := [132, 1, 1, 167, 255, 230, 42, 42, 180, 1, 50, 181, 0, 107, 4, 172]
abbrev dktX0_restore_2 : List UInt8 := dkwX0_restore_2 ++ []
def dkwX0_restore_1 : List UInt8 := [42, 180, 1, 50, 162, 0, 24, 42, 180, 0, 53, 27, 50, 42, 180, 0, 69, 27, 50, 182, 0, 236]
abbrev dktX0_restore_1 : List UInt8 := dkwX0_restore_1 ++ dktX0_restore_2
def dkwX0_restore_0 : List UInt8 := [42, 180, 1, 53, 154, 0, 6, 16, 252, 172, 42, 180, 0, 31, 42, 180, 0, 66, 182, 0, 193, 3, 60, 27]
abbrev dktX0_restore_0 : List UInt8 := dkwX0_restore_0 ++ dktX0_restore_1
theorem dksX0_restore_0 : cX0_restore.data.toList.drop 0 = dktX0_restore_0 := by decide +kernel
theorem dksX0_restore_1 : cX0_restore.data.toList.drop 24 = dktX0_restore_1 := dk_seg dksX0_restore_0 24 rfl rfl
theorem dksX0_restore_2 : cX0_restore.data.toList.drop 46 = dktX0_restore_2 := dk_seg dksX0_restore_1 22 rfl rfl
theorem dX0_restore_0 : decode cX0_restore 0 = .ok (.aload_n 0, 1) := dk_42 (dk_at dksX0_restore_0 0 rfl rfl)
theorem dX0_restore_1 : decode cX0_restore 1 = .ok (.getfield 309, 3) := dk_180 1 53 (dk_at dksX0_restore_0 1 rfl rfl)
theorem dX0_restore_4 : decode cX0_restore 4 = .ok (.ifCond .ne 6, 3) := dk_154 0 6 (dk_at dksX0_restore_0 4 rfl rfl)
theorem dX0_restore_7 : decode cX0_restore 7 = .ok (.bipush (-4), 2) := dk_16 252 (dk_at dksX0_restore_0 7 rfl rfl)
theorem dX0_restore_9 : decode cX0_restore 9 = .ok (.ireturn, 1) := dk_172 (dk_at dksX0_restore_0 9 rfl rfl)
theorem dX0_restore_10 : decode cX0_restore 10 = .ok (.aload_n 0, 1) := dk_42 (dk_at dksX0_restore_0 10 rfl rfl)
theorem dX0_restore_11 : decode cX0_restore 11 = .ok (.getfield 31, 3) := dk_180 0 31 (dk_at dksX0_restore_0 11 rfl rfl)
theorem dX0_restore_14 : decode cX0_restore 14 = .ok (.aload_n 0, 1) := dk_42 (dk_at dksX0_restore_0 14 rfl rfl)
theorem dX0_restore_15 : decode cX0_restore 15 = .ok (.getfield 66, 3) := dk_180 0 66 (dk_at dksX0_restore_0 15 rfl rfl)
theorem dX0_restore_18 : decode cX0_restore 18 = .ok (.invokevirtual 193, 3) := dk_182 0 193 (dk_at dksX0_restore_0 18 rfl rfl)
theorem dX0_restore_21 : decode cX0_restore 21 = .ok (.iconst 0, 1) := dk_3 (dk_at dksX0_restore_0 21 rfl rfl)
theorem dX0_restore_22 : decode cX0_restore 22 = .ok (.istore_n 1, 1) := dk_60 (dk_at dksX0_restore_0 22 rfl rfl)
theorem dX0_restore_23 : decode cX0_restore 23 = .ok (.iload_n 1, 1) := dk_27 (dk_at dksX0_restore_0 23 rfl rfl)
theorem dX0_restore_24 : decode cX0_restore 24 = .ok (.aload_n 0, 1) := dk_42 (dk_at dksX0_restore_1 0 rfl rfl)
theorem dX0_restore_25 : decode cX0_restore 25 = .ok (.getfield 306, 3) := dk_180 1 50 (dk_at dksX0_restore_1 1 rfl rfl)
theorem dX0_restore_28 : decode cX0_restore 28 = .ok (.if_icmp .ge 24, 3) := dk_162 0 24 (dk_at dksX0_restore_1 4 rfl rfl)
theorem dX0_restore_31 : decode cX0_restore 31 = .ok (.aload_n 0, 1) := dk_42 (dk_at dksX0_restore_1 7 rfl rfl)
theorem dX0_restore_32 : decode cX0_restore 32 = .ok (.getfield 53, 3) := dk_180 0 53 (dk_at dksX0_restore_1 8 rfl rfl)
theorem dX0_restore_35 : decode cX0_restore 35 = .ok (.iload_n 1, 1) := dk_27 (dk_at dksX0_restore_1 11 rfl rfl)
theorem dX0_restore_36 : decode cX0_restore 36 = .ok (.aaload, 1) := dk_50 (dk_at dksX0_restore_1 12 rfl rfl)
theorem dX0_restore_37 : decode cX0_restore 37 = .ok (.aload_n 0, 1) := dk_42 (dk_at dksX0_restore_1 13 rfl rfl)
theorem dX0_restore_38 : decode cX0_restore 38 = .ok (.getfield 69, 3) := dk_180 0 69 (dk_at dksX0_restore_1 14 rfl rfl)
theorem dX0_restore_41 : decode cX0_restore 41 = .ok (.iload_n 1, 1) := dk_27 (dk_at dksX0_restore_1 17 rfl rfl)
theorem dX0_restore_42 : decode cX0_restore 42 = .ok (.aaload, 1) := dk_50 (dk_at dksX0_restore_1 18 rfl rfl)
theorem dX0_restore_43 : decode cX0_restore 43 = .ok (.invokevirtual 236, 3) := dk_182 0 236 (dk_at dksX0_restore_1 19 rfl rfl)
theorem dX0_restore_46 : decode cX0_restore 46 = .ok (.iinc 1 1, 3) := dk_132 1 1 (dk_at dksX0_restore_2 0 rfl rfl)
theorem dX0_restore_49 : decode cX0_restore 49 = .ok (.goto (-26), 3) := dk_167 255 230 (dk_at dksX0_restore_2 3 rfl rfl)
theorem dX0_restore_52 : decode cX0_restore 52 = .ok (.aload_n 0, 1) := dk_42 (dk_at dksX0_restore_2 6 rfl rfl)
theorem dX0_restore_53 : decode cX0_restore 53 = .ok (.aload_n 0, 1) := dk_42 (dk_at dksX0_restore_2 7 rfl rfl)
theorem dX0_restore_54 : decode cX0_restore 54 = .ok (.getfield 306, 3) := dk_180 1 50 (dk_at dksX0_restore_2 8 rfl rfl)
theorem dX0_restore_57 : decode cX0_restore 57 = .ok (.putfield 107, 3) := dk_181 0 107 (dk_at dksX0_restore_2 11 rfl rfl)
theorem dX0_restore_60 : decode cX0_restore 60 = .ok (.iconst 1, 1) := dk_4 (dk_at dksX0_restore_2 14 rfl rfl)
theorem dX0_restore_61 : decode cX0_restore 61 = .ok (.ireturn, 1) := dk_172 (dk_at dksX0_restore_2 15 rfl rfl)
abbrev cX0_failed : ByteArray := prog_1_method_60_code
def yX0_failed : MethodName := ⟨RX0, "failed", "(IIIIII)I"⟩
def dkwX0_failed_8 : List UInt8 := [167, 255, 191, 21, 6, 4, 160, 0, 8, 21, 8, 167, 0, 5, 21, 9, 172]
abbrev dktX0_failed_8 : List UInt8 := dkwX0_failed_8 ++ []
def dkwX0_failed_7 : List UInt8 := [167, 0, 4, 3, 96, 54, 8, 21, 11, 153, 0, 8, 21, 10, 167, 0, 5, 21, 9, 54, 9, 132, 10, 255]
abbrev dktX0_failed_7 : List UInt8 := dkwX0_failed_7 ++ dktX0_failed_8
def dkwX0_failed_6 : List UInt8 := [42, 180, 0, 74, 28, 50, 21, 4, 21, 5, 182, 1, 73, 54, 11, 21, 8, 21, 11, 153, 0, 7, 4]
abbrev dktX0_failed_6 : List UInt8 := dkwX0_failed_6 ++ dktX0_failed_7
def dkwX0_failed_5 : List UInt8 := [54, 9, 16, 60, 54, 10, 21, 10, 158, 0, 66, 42, 180, 0, 31, 180, 0, 133, 27, 21, 10, 79, 42, 27]
abbrev dktX0_failed_5 : List UInt8 := dkwX0_failed_5 ++ dktX0_failed_6
def dkwX0_failed_4 : List UInt8 := [154, 0, 19, 42, 27, 42, 180, 0, 74, 28, 50, 21, 4, 21, 5, 182, 1, 86, 172, 3, 54, 8, 16, 252]
abbrev dktX0_failed_4 : List UInt8 := dkwX0_failed_4 ++ dktX0_failed_5
def dkwX0_failed_3 : List UInt8 := [182, 0, 122, 156, 0, 6, 16, 254, 172, 42, 180, 0, 57, 42, 180, 0, 31, 182, 0, 193, 21, 6]
abbrev dktX0_failed_3 : List UInt8 := dkwX0_failed_3 ++ dktX0_failed_4
def dkwX0_failed_2 : List UInt8 := [21, 4, 21, 5, 182, 1, 82, 54, 7, 21, 7, 156, 0, 6, 21, 7, 172, 42, 180, 0, 31, 27]
abbrev dktX0_failed_2 : List UInt8 := dkwX0_failed_2 ++ dktX0_failed_3
def dkwX0_failed_1 : List UInt8 := [184, 0, 86, 153, 0, 16, 21, 6, 133, 9, 20, 0, 90, 184, 0, 86, 154, 0, 5, 2, 172, 42, 28, 29]
abbrev dktX0_failed_1 : List UInt8 := dkwX0_failed_1 ++ dktX0_failed_2
def dkwX0_failed_0 : List UInt8 := [42, 27, 182, 0, 110, 153, 0, 37, 28, 29, 184, 1, 77, 153, 0, 29, 21, 5, 133, 10, 20, 1, 80]
abbrev dktX0_failed_0 : List UInt8 := dkwX0_failed_0 ++ dktX0_failed_1
theorem dksX0_failed_0 : cX0_failed.data.toList.drop 0 = dktX0_failed_0 := by decide +kernel
theorem dksX0_failed_1 : cX0_failed.data.toList.drop 23 = dktX0_failed_1 := dk_seg dksX0_failed_0 23 rfl rfl
theorem dksX0_failed_2 : cX0_failed.data.toList.drop 47 = dktX0_failed_2 := dk_seg dksX0_failed_1 24 rfl rfl
theorem dksX0_failed_3 : cX0_failed.data.toList.drop 69 = dktX0_failed_3 := dk_seg dksX0_failed_2 22 rfl rfl
theorem dksX0_failed_4 : cX0_failed.data.toList.drop 91 = dktX0_failed_4 := dk_seg dksX0_failed_3 22 rfl rfl
theorem dksX0_failed_5 : cX0_failed.data.toList.drop 115 = dktX0_failed_5 := dk_seg dksX0_failed_4 24 rfl rfl
theorem dksX0_failed_6 : cX0_failed.data.toList.drop 139 = dktX0_failed_6 := dk_seg dksX0_failed_5 24 rfl rfl
theorem dksX0_failed_7 : cX0_failed.data.toList.drop 162 = dktX0_failed_7 := dk_seg dksX0_failed_6 23 rfl rfl
theorem dksX0_failed_8 : cX0_failed.data.toList.drop 186 = dktX0_failed_8 := dk_seg dksX0_failed_7 24 rfl rfl
theorem dX0_failed_0 : decode cX0_failed 0 = .ok (.aload_n 0, 1) := dk_42 (dk_at dksX0_failed_0 0 rfl rfl)
theorem dX0_failed_1 : decode cX0_failed 1 = .ok (.iload_n 1, 1) := dk_27 (dk_at dksX0_failed_0 1 rfl rfl)
theorem dX0_failed_2 : decode cX0_failed 2 = .ok (.invokevirtual 110, 3) := dk_182 0 110 (dk_at dksX0_failed_0 2 rfl rfl)
theorem dX0_failed_5 : decode cX0_failed 5 = .ok (.ifCond .eq 37, 3) := dk_153 0 37 (dk_at dksX0_failed_0 5 rfl rfl)
theorem dX0_failed_8 : decode cX0_failed 8 = .ok (.iload_n 2, 1) := dk_28 (dk_at dksX0_failed_0 8 rfl rfl)
theorem dX0_failed_9 : decode cX0_failed 9 = .ok (.iload_n 3, 1) := dk_29 (dk_at dksX0_failed_0 9 rfl rfl)
theorem dX0_failed_10 : decode cX0_failed 10 = .ok (.invokestatic 333, 3) := dk_184 1 77 (dk_at dksX0_failed_0 10 rfl rfl)
theorem dX0_failed_13 : decode cX0_failed 13 = .ok (.ifCond .eq 29, 3) := dk_153 0 29 (dk_at dksX0_failed_0 13 rfl rfl)
theorem dX0_failed_16 : decode cX0_failed 16 = .ok (.iload 5, 2) := dk_21 5 (dk_at dksX0_failed_0 16 rfl rfl)
theorem dX0_failed_18 : decode cX0_failed 18 = .ok (.i2l, 1) := dk_133 (dk_at dksX0_failed_0 18 rfl rfl)
theorem dX0_failed_19 : decode cX0_failed 19 = .ok (.lconst 1, 1) := dk_10 (dk_at dksX0_failed_0 19 rfl rfl)
theorem dX0_failed_20 : decode cX0_failed 20 = .ok (.ldc2_w 336, 3) := dk_20 1 80 (dk_at dksX0_failed_0 20 rfl rfl)
theorem dX0_failed_23 : decode cX0_failed 23 = .ok (.invokestatic 86, 3) := dk_184 0 86 (dk_at dksX0_failed_1 0 rfl rfl)
theorem dX0_failed_26 : decode cX0_failed 26 = .ok (.ifCond .eq 16, 3) := dk_153 0 16 (dk_at dksX0_failed_1 3 rfl rfl)
theorem dX0_failed_29 : decode cX0_failed 29 = .ok (.iload 6, 2) := dk_21 6 (dk_at dksX0_failed_1 6 rfl rfl)
theorem dX0_failed_31 : decode cX0_failed 31 = .ok (.i2l, 1) := dk_133 (dk_at dksX0_failed_1 8 rfl rfl)
theorem dX0_failed_32 : decode cX0_failed 32 = .ok (.lconst 0, 1) := dk_9 (dk_at dksX0_failed_1 9 rfl rfl)
theorem dX0_failed_33 : decode cX0_failed 33 = .ok (.ldc2_w 90, 3) := dk_20 0 90 (dk_at dksX0_failed_1 10 rfl rfl)
theorem dX0_failed_36 : decode cX0_failed 36 = .ok (.invokestatic 86, 3) := dk_184 0 86 (dk_at dksX0_failed_1 13 rfl rfl)
theorem dX0_failed_39 : decode cX0_failed 39 = .ok (.ifCond .ne 5, 3) := dk_154 0 5 (dk_at dksX0_failed_1 16 rfl rfl)
theorem dX0_failed_42 : decode cX0_failed 42 = .ok (.iconst (-1), 1) := dk_2 (dk_at dksX0_failed_1 19 rfl rfl)
theorem dX0_failed_43 : decode cX0_failed 43 = .ok (.ireturn, 1) := dk_172 (dk_at dksX0_failed_1 20 rfl rfl)
theorem dX0_failed_44 : decode cX0_failed 44 = .ok (.aload_n 0, 1) := dk_42 (dk_at dksX0_failed_1 21 rfl rfl)
theorem dX0_failed_45 : decode cX0_failed 45 = .ok (.iload_n 2, 1) := dk_28 (dk_at dksX0_failed_1 22 rfl rfl)
theorem dX0_failed_46 : decode cX0_failed 46 = .ok (.iload_n 3, 1) := dk_29 (dk_at dksX0_failed_1 23 rfl rfl)
theorem dX0_failed_47 : decode cX0_failed 47 = .ok (.iload 4, 2) := dk_21 4 (dk_at dksX0_failed_2 0 rfl rfl)
theorem dX0_failed_49 : decode cX0_failed 49 = .ok (.iload 5, 2) := dk_21 5 (dk_at dksX0_failed_2 2 rfl rfl)
theorem dX0_failed_51 : decode cX0_failed 51 = .ok (.invokevirtual 338, 3) := dk_182 1 82 (dk_at dksX0_failed_2 4 rfl rfl)
theorem dX0_failed_54 : decode cX0_failed 54 = .ok (.istore 7, 2) := dk_54 7 (dk_at dksX0_failed_2 7 rfl rfl)
theorem dX0_failed_56 : decode cX0_failed 56 = .ok (.iload 7, 2) := dk_21 7 (dk_at dksX0_failed_2 9 rfl rfl)
theorem dX0_failed_58 : decode cX0_failed 58 = .ok (.ifCond .ge 6, 3) := dk_156 0 6 (dk_at dksX0_failed_2 11 rfl rfl)
theorem dX0_failed_61 : decode cX0_failed 61 = .ok (.iload 7, 2) := dk_21 7 (dk_at dksX0_failed_2 14 rfl rfl)
theorem dX0_failed_63 : decode cX0_failed 63 = .ok (.ireturn, 1) := dk_172 (dk_at dksX0_failed_2 16 rfl rfl)
theorem dX0_failed_64 : decode cX0_failed 64 = .ok (.aload_n 0, 1) := dk_42 (dk_at dksX0_failed_2 17 rfl rfl)
theorem dX0_failed_65 : decode cX0_failed 65 = .ok (.getfield 31, 3) := dk_180 0 31 (dk_at dksX0_failed_2 18 rfl rfl)
theorem dX0_failed_68 : decode cX0_failed 68 = .ok (.iload_n 1, 1) := dk_27 (dk_at dksX0_failed_2 21 rfl rfl)
theorem dX0_failed_69 : decode cX0_failed 69 = .ok (.invokevirtual 122, 3) := dk_182 0 122 (dk_at dksX0_failed_3 0 rfl rfl)
theorem dX0_failed_72 : decode cX0_failed 72 = .ok (.ifCond .ge 6, 3) := dk_156 0 6 (dk_at dksX0_failed_3 3 rfl rfl)
theorem dX0_failed_75 : decode cX0_failed 75 = .ok (.bipush (-2), 2) := dk_16 254 (dk_at dksX0_failed_3 6 rfl rfl)
theorem dX0_failed_77 : decode cX0_failed 77 = .ok (.ireturn, 1) := dk_172 (dk_at dksX0_failed_3 8 rfl rfl)
theorem dX0_failed_78 : decode cX0_failed 78 = .ok (.aload_n 0, 1) := dk_42 (dk_at dksX0_failed_3 9 rfl rfl)
theorem dX0_failed_79 : decode cX0_failed 79 = .ok (.getfield 57, 3) := dk_180 0 57 (dk_at dksX0_failed_3 10 rfl rfl)
theorem dX0_failed_82 : decode cX0_failed 82 = .ok (.aload_n 0, 1) := dk_42 (dk_at dksX0_failed_3 13 rfl rfl)
theorem dX0_failed_83 : decode cX0_failed 83 = .ok (.getfield 31, 3) := dk_180 0 31 (dk_at dksX0_failed_3 14 rfl rfl)
theorem dX0_failed_86 : decode cX0_failed 86 = .ok (.invokevirtual 193, 3) := dk_182 0 193 (dk_at dksX0_failed_3 17 rfl rfl)
theorem dX0_failed_89 : decode cX0_failed 89 = .ok (.iload 6, 2) := dk_21 6 (dk_at dksX0_failed_3 20 rfl rfl)
theorem dX0_failed_91 : decode cX0_failed 91 = .ok (.ifCond .ne 19, 3) := dk_154 0 19 (dk_at dksX0_failed_4 0 rfl rfl)
theorem dX0_failed_94 : decode cX0_failed 94 = .ok (.aload_n 0, 1) := dk_42 (dk_at dksX0_failed_4 3 rfl rfl)
theorem dX0_failed_95 : decode cX0_failed 95 = .ok (.iload_n 1, 1) := dk_27 (dk_at dksX0_failed_4 4 rfl rfl)
theorem dX0_failed_96 : decode cX0_failed 96 = .ok (.aload_n 0, 1) := dk_42 (dk_at dksX0_failed_4 5 rfl rfl)
theorem dX0_failed_97 : decode cX0_failed 97 = .ok (.getfield 74, 3) := dk_180 0 74 (dk_at dksX0_failed_4 6 rfl rfl)
theorem dX0_failed_100 : decode cX0_failed 100 = .ok (.iload_n 2, 1) := dk_28 (dk_at dksX0_failed_4 9 rfl rfl)
theorem dX0_failed_101 : decode cX0_failed 101 = .ok (.aaload, 1) := dk_50 (dk_at dksX0_failed_4 10 rfl rfl)
theorem dX0_failed_102 : decode cX0_failed 102 = .ok (.iload 4, 2) := dk_21 4 (dk_at dksX0_failed_4 11 rfl rfl)
theorem dX0_failed_104 : decode cX0_failed 104 = .ok (.iload 5, 2) := dk_21 5 (dk_at dksX0_failed_4 13 rfl rfl)
theorem dX0_failed_106 : decode cX0_failed 106 = .ok (.invokevirtual 342, 3) := dk_182 1 86 (dk_at dksX0_failed_4 15 rfl rfl)
theorem dX0_failed_109 : decode cX0_failed 109 = .ok (.ireturn, 1) := dk_172 (dk_at dksX0_failed_4 18 rfl rfl)
theorem dX0_failed_110 : decode cX0_failed 110 = .ok (.iconst 0, 1) := dk_3 (dk_at dksX0_failed_4 19 rfl rfl)
theorem dX0_failed_111 : decode cX0_failed 111 = .ok (.istore 8, 2) := dk_54 8 (dk_at dksX0_failed_4 20 rfl rfl)
theorem dX0_failed_113 : decode cX0_failed 113 = .ok (.bipush (-4), 2) := dk_16 252 (dk_at dksX0_failed_4 22 rfl rfl)
theorem dX0_failed_115 : decode cX0_failed 115 = .ok (.istore 9, 2) := dk_54 9 (dk_at dksX0_failed_5 0 rfl rfl)
theorem dX0_failed_117 : decode cX0_failed 117 = .ok (.bipush 60, 2) := dk_16 60 (dk_at dksX0_failed_5 2 rfl rfl)
theorem dX0_failed_119 : decode cX0_failed 119 = .ok (.istore 10, 2) := dk_54 10 (dk_at dksX0_failed_5 4 rfl rfl)
theorem dX0_failed_121 : decode cX0_failed 121 = .ok (.iload 10, 2) := dk_21 10 (dk_at dksX0_failed_5 6 rfl rfl)
theorem dX0_failed_123 : decode cX0_failed 123 = .ok (.ifCond .le 66, 3) := dk_158 0 66 (dk_at dksX0_failed_5 8 rfl rfl)
theorem dX0_failed_126 : decode cX0_failed 126 = .ok (.aload_n 0, 1) := dk_42 (dk_at dksX0_failed_5 11 rfl rfl)
theorem dX0_failed_127 : decode cX0_failed 127 = .ok (.getfield 31, 3) := dk_180 0 31 (dk_at dksX0_failed_5 12 rfl rfl)
theorem dX0_failed_130 : decode cX0_failed 130 = .ok (.getfield 133, 3) := dk_180 0 133 (dk_at dksX0_failed_5 15 rfl rfl)
theorem dX0_failed_133 : decode cX0_failed 133 = .ok (.iload_n 1, 1) := dk_27 (dk_at dksX0_failed_5 18 rfl rfl)
theorem dX0_failed_134 : decode cX0_failed 134 = .ok (.iload 10, 2) := dk_21 10 (dk_at dksX0_failed_5 19 rfl rfl)
theorem dX0_failed_136 : decode cX0_failed 136 = .ok (.iastore, 1) := dk_79 (dk_at dksX0_failed_5 21 rfl rfl)
theorem dX0_failed_137 : decode cX0_failed 137 = .ok (.aload_n 0, 1) := dk_42 (dk_at dksX0_failed_5 22 rfl rfl)
theorem dX0_failed_138 : decode cX0_failed 138 = .ok (.iload_n 1, 1) := dk_27 (dk_at dksX0_failed_5 23 rfl rfl)
theorem dX0_failed_139 : decode cX0_failed 139 = .ok (.aload_n 0, 1) := dk_42 (dk_at dksX0_failed_6 0 rfl rfl)
theorem dX0_failed_140 : decode cX0_failed 140 = .ok (.getfield 74, 3) := dk_180 0 74 (dk_at dksX0_failed_6 1 rfl rfl)
theorem dX0_failed_143 : decode cX0_failed 143 = .ok (.iload_n 2, 1) := dk_28 (dk_at dksX0_failed_6 4 rfl rfl)
theorem dX0_failed_144 : decode cX0_failed 144 = .ok (.aaload, 1) := dk_50 (dk_at dksX0_failed_6 5 rfl rfl)
theorem dX0_failed_145 : decode cX0_failed 145 = .ok (.iload 4, 2) := dk_21 4 (dk_at dksX0_failed_6 6 rfl rfl)
theorem dX0_failed_147 : decode cX0_failed 147 = .ok (.iload 5, 2) := dk_21 5 (dk_at dksX0_failed_6 8 rfl rfl)
theorem dX0_failed_149 : decode cX0_failed 149 = .ok (.invokevirtual 329, 3) := dk_182 1 73 (dk_at dksX0_failed_6 10 rfl rfl)
theorem dX0_failed_152 : decode cX0_failed 152 = .ok (.istore 11, 2) := dk_54 11 (dk_at dksX0_failed_6 13 rfl rfl)
theorem dX0_failed_154 : decode cX0_failed 154 = .ok (.iload 8, 2) := dk_21 8 (dk_at dksX0_failed_6 15 rfl rfl)
theorem dX0_failed_156 : decode cX0_failed 156 = .ok (.iload 11, 2) := dk_21 11 (dk_at dksX0_failed_6 17 rfl rfl)
theorem dX0_failed_158 : decode cX0_failed 158 = .ok (.ifCond .eq 7, 3) := dk_153 0 7 (dk_at dksX0_failed_6 19 rfl rfl)
theorem dX0_failed_161 : decode cX0_failed 161 = .ok (.iconst 1, 1) := dk_4 (dk_at dksX0_failed_6 22 rfl rfl)
theorem dX0_failed_162 : decode cX0_failed 162 = .ok (.goto 4, 3) := dk_167 0 4 (dk_at dksX0_failed_7 0 rfl rfl)
theorem dX0_failed_165 : decode cX0_failed 165 = .ok (.iconst 0, 1) := dk_3 (dk_at dksX0_failed_7 3 rfl rfl)
theorem dX0_failed_166 : decode cX0_failed 166 = .ok (.iadd, 1) := dk_96 (dk_at dksX0_failed_7 4 rfl rfl)
theorem dX0_failed_167 : decode cX0_failed 167 = .ok (.istore 8, 2) := dk_54 8 (dk_at dksX0_failed_7 5 rfl rfl)
theorem dX0_failed_169 : decode cX0_failed 169 = .ok (.iload 11, 2) := dk_21 11 (dk_at dksX0_failed_7 7 rfl rfl)
theorem dX0_failed_171 : decode cX0_failed 171 = .ok (.ifCond .eq 8, 3) := dk_153 0 8 (dk_at dksX0_failed_7 9 rfl rfl)
theorem dX0_failed_174 : decode cX0_failed 174 = .ok (.iload 10, 2) := dk_21 10 (dk_at dksX0_failed_7 12 rfl rfl)
theorem dX0_failed_176 : decode cX0_failed 176 = .ok (.goto 5, 3) := dk_167 0 5 (dk_at dksX0_failed_7 14 rfl rfl)
theorem dX0_failed_179 : decode cX0_failed 179 = .ok (.iload 9, 2) := dk_21 9 (dk_at dksX0_failed_7 17 rfl rfl)
theorem dX0_failed_181 : decode cX0_failed 181 = .ok (.istore 9, 2) := dk_54 9 (dk_at dksX0_failed_7 19 rfl rfl)
theorem dX0_failed_183 : decode cX0_failed 183 = .ok (.iinc 10 (-1), 3) := dk_132 10 255 (dk_at dksX0_failed_7 21 rfl rfl)
theorem dX0_failed_186 : decode cX0_failed 186 = .ok (.goto (-65), 3) := dk_167 255 191 (dk_at dksX0_failed_8 0 rfl rfl)
theorem dX0_failed_189 : decode cX0_failed 189 = .ok (.iload 6, 2) := dk_21 6 (dk_at dksX0_failed_8 3 rfl rfl)
theorem dX0_failed_191 : decode cX0_failed 191 = .ok (.iconst 1, 1) := dk_4 (dk_at dksX0_failed_8 5 rfl rfl)
theorem dX0_failed_192 : decode cX0_failed 192 = .ok (.if_icmp .ne 8, 3) := dk_160 0 8 (dk_at dksX0_failed_8 6 rfl rfl)
theorem dX0_failed_195 : decode cX0_failed 195 = .ok (.iload 8, 2) := dk_21 8 (dk_at dksX0_failed_8 9 rfl rfl)
theorem dX0_failed_197 : decode cX0_failed 197 = .ok (.goto 5, 3) := dk_167 0 5 (dk_at dksX0_failed_8 11 rfl rfl)
theorem dX0_failed_200 : decode cX0_failed 200 = .ok (.iload 9, 2) := dk_21 9 (dk_at dksX0_failed_8 14 rfl rfl)
theorem dX0_failed_202 : decode cX0_failed 202 = .ok (.ireturn, 1) := dk_172 (dk_at dksX0_failed_8 16 rfl rfl)
abbrev cX0_isSheet : ByteArray := prog_1_method_56_code
def yX0_isSheet : MethodName := ⟨RX0, "isSheet", "(II)Z"⟩
def dkwX0_isSheet_1 : List UInt8 := [4, 167, 0, 4, 3, 172]
abbrev dktX0_isSheet_1 : List UInt8 := dkwX0_isSheet_1 ++ []
def dkwX0_isSheet_0 : List UInt8 := [26, 133, 9, 20, 1, 57, 184, 0, 86, 153, 0, 19, 27, 133, 9, 20, 1, 57, 184, 0, 86, 153, 0, 7]
abbrev dktX0_isSheet_0 : List UInt8 := dkwX0_isSheet_0 ++ dktX0_isSheet_1
theorem dksX0_isSheet_0 : cX0_isSheet.data.toList.drop 0 = dktX0_isSheet_0 := by decide +kernel
theorem dksX0_isSheet_1 : cX0_isSheet.data.toList.drop 24 = dktX0_isSheet_1 := dk_seg dksX0_isSheet_0 24 rfl rfl
theorem dX0_isSheet_0 : decode cX0_isSheet 0 = .ok (.iload_n 0, 1) := dk_26 (dk_at dksX0_isSheet_0 0 rfl rfl)
theorem dX0_isSheet_1 : decode cX0_isSheet 1 = .ok (.i2l, 1) := dk_133 (dk_at dksX0_isSheet_0 1 rfl rfl)
theorem dX0_isSheet_2 : decode cX0_isSheet 2 = .ok (.lconst 0, 1) := dk_9 (dk_at dksX0_isSheet_0 2 rfl rfl)
theorem dX0_isSheet_3 : decode cX0_isSheet 3 = .ok (.ldc2_w 313, 3) := dk_20 1 57 (dk_at dksX0_isSheet_0 3 rfl rfl)
theorem dX0_isSheet_6 : decode cX0_isSheet 6 = .ok (.invokestatic 86, 3) := dk_184 0 86 (dk_at dksX0_isSheet_0 6 rfl rfl)
theorem dX0_isSheet_9 : decode cX0_isSheet 9 = .ok (.ifCond .eq 19, 3) := dk_153 0 19 (dk_at dksX0_isSheet_0 9 rfl rfl)
theorem dX0_isSheet_12 : decode cX0_isSheet 12 = .ok (.iload_n 1, 1) := dk_27 (dk_at dksX0_isSheet_0 12 rfl rfl)
theorem dX0_isSheet_13 : decode cX0_isSheet 13 = .ok (.i2l, 1) := dk_133 (dk_at dksX0_isSheet_0 13 rfl rfl)
theorem dX0_isSheet_14 : decode cX0_isSheet 14 = .ok (.lconst 0, 1) := dk_9 (dk_at dksX0_isSheet_0 14 rfl rfl)
theorem dX0_isSheet_15 : decode cX0_isSheet 15 = .ok (.ldc2_w 313, 3) := dk_20 1 57 (dk_at dksX0_isSheet_0 15 rfl rfl)
theorem dX0_isSheet_18 : decode cX0_isSheet 18 = .ok (.invokestatic 86, 3) := dk_184 0 86 (dk_at dksX0_isSheet_0 18 rfl rfl)
theorem dX0_isSheet_21 : decode cX0_isSheet 21 = .ok (.ifCond .eq 7, 3) := dk_153 0 7 (dk_at dksX0_isSheet_0 21 rfl rfl)
theorem dX0_isSheet_24 : decode cX0_isSheet 24 = .ok (.iconst 1, 1) := dk_4 (dk_at dksX0_isSheet_1 0 rfl rfl)
theorem dX0_isSheet_25 : decode cX0_isSheet 25 = .ok (.goto 4, 3) := dk_167 0 4 (dk_at dksX0_isSheet_1 1 rfl rfl)
theorem dX0_isSheet_28 : decode cX0_isSheet 28 = .ok (.iconst 0, 1) := dk_3 (dk_at dksX0_isSheet_1 4 rfl rfl)
theorem dX0_isSheet_29 : decode cX0_isSheet 29 = .ok (.ireturn, 1) := dk_172 (dk_at dksX0_isSheet_1 5 rfl rfl)
abbrev cX0_lacks : ByteArray := prog_1_method_57_code
def yX0_lacks : MethodName := ⟨RX0, "lacks", "(IIII)I"⟩
def dkwX0_lacks_2 : List UInt8 := [16, 243, 167, 0, 4, 3, 172]
abbrev dktX0_lacks_2 : List UInt8 := dkwX0_lacks_2 ++ []
def dkwX0_lacks_1 : List UInt8 := [28, 159, 0, 6, 16, 244, 172, 29, 155, 0, 15, 29, 25, 5, 182, 1, 66, 21, 4, 100, 164, 0, 8]
abbrev dktX0_lacks_1 : List UInt8 := dkwX0_lacks_1 ++ dktX0_lacks_2
def dkwX0_lacks_0 : List UInt8 := [42, 180, 0, 74, 27, 50, 58, 5, 25, 5, 180, 1, 59, 199, 0, 6, 16, 245, 172, 25, 5, 182, 1, 63]
abbrev dktX0_lacks_0 : List UInt8 := dkwX0_lacks_0 ++ dktX0_lacks_1
theorem dksX0_lacks_0 : cX0_lacks.data.toList.drop 0 = dktX0_lacks_0 := by decide +kernel
theorem dksX0_lacks_1 : cX0_lacks.data.toList.drop 24 = dktX0_lacks_1 := dk_seg dksX0_lacks_0 24 rfl rfl
theorem dksX0_lacks_2 : cX0_lacks.data.toList.drop 47 = dktX0_lacks_2 := dk_seg dksX0_lacks_1 23 rfl rfl
theorem dX0_lacks_0 : decode cX0_lacks 0 = .ok (.aload_n 0, 1) := dk_42 (dk_at dksX0_lacks_0 0 rfl rfl)
theorem dX0_lacks_1 : decode cX0_lacks 1 = .ok (.getfield 74, 3) := dk_180 0 74 (dk_at dksX0_lacks_0 1 rfl rfl)
theorem dX0_lacks_4 : decode cX0_lacks 4 = .ok (.iload_n 1, 1) := dk_27 (dk_at dksX0_lacks_0 4 rfl rfl)
theorem dX0_lacks_5 : decode cX0_lacks 5 = .ok (.aaload, 1) := dk_50 (dk_at dksX0_lacks_0 5 rfl rfl)
theorem dX0_lacks_6 : decode cX0_lacks 6 = .ok (.astore 5, 2) := dk_58 5 (dk_at dksX0_lacks_0 6 rfl rfl)
theorem dX0_lacks_8 : decode cX0_lacks 8 = .ok (.aload 5, 2) := dk_25 5 (dk_at dksX0_lacks_0 8 rfl rfl)
theorem dX0_lacks_10 : decode cX0_lacks 10 = .ok (.getfield 315, 3) := dk_180 1 59 (dk_at dksX0_lacks_0 10 rfl rfl)
theorem dX0_lacks_13 : decode cX0_lacks 13 = .ok (.ifnonnull 6, 3) := dk_199 0 6 (dk_at dksX0_lacks_0 13 rfl rfl)
theorem dX0_lacks_16 : decode cX0_lacks 16 = .ok (.bipush (-11), 2) := dk_16 245 (dk_at dksX0_lacks_0 16 rfl rfl)
theorem dX0_lacks_18 : decode cX0_lacks 18 = .ok (.ireturn, 1) := dk_172 (dk_at dksX0_lacks_0 18 rfl rfl)
theorem dX0_lacks_19 : decode cX0_lacks 19 = .ok (.aload 5, 2) := dk_25 5 (dk_at dksX0_lacks_0 19 rfl rfl)
theorem dX0_lacks_21 : decode cX0_lacks 21 = .ok (.invokevirtual 319, 3) := dk_182 1 63 (dk_at dksX0_lacks_0 21 rfl rfl)
theorem dX0_lacks_24 : decode cX0_lacks 24 = .ok (.iload_n 2, 1) := dk_28 (dk_at dksX0_lacks_1 0 rfl rfl)
theorem dX0_lacks_25 : decode cX0_lacks 25 = .ok (.if_icmp .eq 6, 3) := dk_159 0 6 (dk_at dksX0_lacks_1 1 rfl rfl)
theorem dX0_lacks_28 : decode cX0_lacks 28 = .ok (.bipush (-12), 2) := dk_16 244 (dk_at dksX0_lacks_1 4 rfl rfl)
theorem dX0_lacks_30 : decode cX0_lacks 30 = .ok (.ireturn, 1) := dk_172 (dk_at dksX0_lacks_1 6 rfl rfl)
theorem dX0_lacks_31 : decode cX0_lacks 31 = .ok (.iload_n 3, 1) := dk_29 (dk_at dksX0_lacks_1 7 rfl rfl)
theorem dX0_lacks_32 : decode cX0_lacks 32 = .ok (.ifCond .lt 15, 3) := dk_155 0 15 (dk_at dksX0_lacks_1 8 rfl rfl)
theorem dX0_lacks_35 : decode cX0_lacks 35 = .ok (.iload_n 3, 1) := dk_29 (dk_at dksX0_lacks_1 11 rfl rfl)
theorem dX0_lacks_36 : decode cX0_lacks 36 = .ok (.aload 5, 2) := dk_25 5 (dk_at dksX0_lacks_1 12 rfl rfl)
theorem dX0_lacks_38 : decode cX0_lacks 38 = .ok (.invokevirtual 322, 3) := dk_182 1 66 (dk_at dksX0_lacks_1 14 rfl rfl)
theorem dX0_lacks_41 : decode cX0_lacks 41 = .ok (.iload 4, 2) := dk_21 4 (dk_at dksX0_lacks_1 17 rfl rfl)
theorem dX0_lacks_43 : decode cX0_lacks 43 = .ok (.isub, 1) := dk_100 (dk_at dksX0_lacks_1 19 rfl rfl)
theorem dX0_lacks_44 : decode cX0_lacks 44 = .ok (.if_icmp .le 8, 3) := dk_164 0 8 (dk_at dksX0_lacks_1 20 rfl rfl)
theorem dX0_lacks_47 : decode cX0_lacks 47 = .ok (.bipush (-13), 2) := dk_16 243 (dk_at dksX0_lacks_2 0 rfl rfl)
theorem dX0_lacks_49 : decode cX0_lacks 49 = .ok (.goto 4, 3) := dk_167 0 4 (dk_at dksX0_lacks_2 2 rfl rfl)
theorem dX0_lacks_52 : decode cX0_lacks 52 = .ok (.iconst 0, 1) := dk_3 (dk_at dksX0_lacks_2 5 rfl rfl)
theorem dX0_lacks_53 : decode cX0_lacks 53 = .ok (.ireturn, 1) := dk_172 (dk_at dksX0_lacks_2 6 rfl rfl)
abbrev cX0_kindsBy : ByteArray := prog_1_method_59_code
def yX0_kindsBy : MethodName := ⟨RX0, "kindsBy", "(ILBattleBench$Sheet;II)I"⟩
def dkwX0_kindsBy_2 : List UInt8 := [54, 5, 132, 6, 1, 167, 255, 211, 21, 5, 172]
abbrev dktX0_kindsBy_2 : List UInt8 := dkwX0_kindsBy_2 ++ []
def dkwX0_kindsBy_1 : List UInt8 := [21, 5, 42, 27, 44, 29, 21, 4, 182, 1, 73, 153, 0, 10, 4, 21, 6, 120, 167, 0, 4, 3, 128]
abbrev dktX0_kindsBy_1 : List UInt8 := dkwX0_kindsBy_1 ++ dktX0_kindsBy_2
def dkwX0_kindsBy_0 : List UInt8 := [3, 54, 5, 3, 54, 6, 21, 6, 8, 162, 0, 45, 42, 180, 0, 31, 180, 0, 126, 27, 21, 6, 79]
abbrev dktX0_kindsBy_0 : List UInt8 := dkwX0_kindsBy_0 ++ dktX0_kindsBy_1
theorem dksX0_kindsBy_0 : cX0_kindsBy.data.toList.drop 0 = dktX0_kindsBy_0 := by decide +kernel
theorem dksX0_kindsBy_1 : cX0_kindsBy.data.toList.drop 23 = dktX0_kindsBy_1 := dk_seg dksX0_kindsBy_0 23 rfl rfl
theorem dksX0_kindsBy_2 : cX0_kindsBy.data.toList.drop 46 = dktX0_kindsBy_2 := dk_seg dksX0_kindsBy_1 23 rfl rfl
theorem dX0_kindsBy_0 : decode cX0_kindsBy 0 = .ok (.iconst 0, 1) := dk_3 (dk_at dksX0_kindsBy_0 0 rfl rfl)
theorem dX0_kindsBy_1 : decode cX0_kindsBy 1 = .ok (.istore 5, 2) := dk_54 5 (dk_at dksX0_kindsBy_0 1 rfl rfl)
theorem dX0_kindsBy_3 : decode cX0_kindsBy 3 = .ok (.iconst 0, 1) := dk_3 (dk_at dksX0_kindsBy_0 3 rfl rfl)
theorem dX0_kindsBy_4 : decode cX0_kindsBy 4 = .ok (.istore 6, 2) := dk_54 6 (dk_at dksX0_kindsBy_0 4 rfl rfl)
theorem dX0_kindsBy_6 : decode cX0_kindsBy 6 = .ok (.iload 6, 2) := dk_21 6 (dk_at dksX0_kindsBy_0 6 rfl rfl)
theorem dX0_kindsBy_8 : decode cX0_kindsBy 8 = .ok (.iconst 5, 1) := dk_8 (dk_at dksX0_kindsBy_0 8 rfl rfl)
theorem dX0_kindsBy_9 : decode cX0_kindsBy 9 = .ok (.if_icmp .ge 45, 3) := dk_162 0 45 (dk_at dksX0_kindsBy_0 9 rfl rfl)
theorem dX0_kindsBy_12 : decode cX0_kindsBy 12 = .ok (.aload_n 0, 1) := dk_42 (dk_at dksX0_kindsBy_0 12 rfl rfl)
theorem dX0_kindsBy_13 : decode cX0_kindsBy 13 = .ok (.getfield 31, 3) := dk_180 0 31 (dk_at dksX0_kindsBy_0 13 rfl rfl)
theorem dX0_kindsBy_16 : decode cX0_kindsBy 16 = .ok (.getfield 126, 3) := dk_180 0 126 (dk_at dksX0_kindsBy_0 16 rfl rfl)
theorem dX0_kindsBy_19 : decode cX0_kindsBy 19 = .ok (.iload_n 1, 1) := dk_27 (dk_at dksX0_kindsBy_0 19 rfl rfl)
theorem dX0_kindsBy_20 : decode cX0_kindsBy 20 = .ok (.iload 6, 2) := dk_21 6 (dk_at dksX0_kindsBy_0 20 rfl rfl)
theorem dX0_kindsBy_22 : decode cX0_kindsBy 22 = .ok (.iastore, 1) := dk_79 (dk_at dksX0_kindsBy_0 22 rfl rfl)
theorem dX0_kindsBy_23 : decode cX0_kindsBy 23 = .ok (.iload 5, 2) := dk_21 5 (dk_at dksX0_kindsBy_1 0 rfl rfl)
theorem dX0_kindsBy_25 : decode cX0_kindsBy 25 = .ok (.aload_n 0, 1) := dk_42 (dk_at dksX0_kindsBy_1 2 rfl rfl)
theorem dX0_kindsBy_26 : decode cX0_kindsBy 26 = .ok (.iload_n 1, 1) := dk_27 (dk_at dksX0_kindsBy_1 3 rfl rfl)
theorem dX0_kindsBy_27 : decode cX0_kindsBy 27 = .ok (.aload_n 2, 1) := dk_44 (dk_at dksX0_kindsBy_1 4 rfl rfl)
theorem dX0_kindsBy_28 : decode cX0_kindsBy 28 = .ok (.iload_n 3, 1) := dk_29 (dk_at dksX0_kindsBy_1 5 rfl rfl)
theorem dX0_kindsBy_29 : decode cX0_kindsBy 29 = .ok (.iload 4, 2) := dk_21 4 (dk_at dksX0_kindsBy_1 6 rfl rfl)
theorem dX0_kindsBy_31 : decode cX0_kindsBy 31 = .ok (.invokevirtual 329, 3) := dk_182 1 73 (dk_at dksX0_kindsBy_1 8 rfl rfl)
theorem dX0_kindsBy_34 : decode cX0_kindsBy 34 = .ok (.ifCond .eq 10, 3) := dk_153 0 10 (dk_at dksX0_kindsBy_1 11 rfl rfl)
theorem dX0_kindsBy_37 : decode cX0_kindsBy 37 = .ok (.iconst 1, 1) := dk_4 (dk_at dksX0_kindsBy_1 14 rfl rfl)
theorem dX0_kindsBy_38 : decode cX0_kindsBy 38 = .ok (.iload 6, 2) := dk_21 6 (dk_at dksX0_kindsBy_1 15 rfl rfl)
theorem dX0_kindsBy_40 : decode cX0_kindsBy 40 = .ok (.ishl, 1) := dk_120 (dk_at dksX0_kindsBy_1 17 rfl rfl)
theorem dX0_kindsBy_41 : decode cX0_kindsBy 41 = .ok (.goto 4, 3) := dk_167 0 4 (dk_at dksX0_kindsBy_1 18 rfl rfl)
theorem dX0_kindsBy_44 : decode cX0_kindsBy 44 = .ok (.iconst 0, 1) := dk_3 (dk_at dksX0_kindsBy_1 21 rfl rfl)
theorem dX0_kindsBy_45 : decode cX0_kindsBy 45 = .ok (.ior, 1) := dk_128 (dk_at dksX0_kindsBy_1 22 rfl rfl)
theorem dX0_kindsBy_46 : decode cX0_kindsBy 46 = .ok (.istore 5, 2) := dk_54 5 (dk_at dksX0_kindsBy_2 0 rfl rfl)
theorem dX0_kindsBy_48 : decode cX0_kindsBy 48 = .ok (.iinc 6 1, 3) := dk_132 6 1 (dk_at dksX0_kindsBy_2 2 rfl rfl)
theorem dX0_kindsBy_51 : decode cX0_kindsBy 51 = .ok (.goto (-45), 3) := dk_167 255 211 (dk_at dksX0_kindsBy_2 5 rfl rfl)
theorem dX0_kindsBy_54 : decode cX0_kindsBy 54 = .ok (.iload 5, 2) := dk_21 5 (dk_at dksX0_kindsBy_2 8 rfl rfl)
theorem dX0_kindsBy_56 : decode cX0_kindsBy 56 = .ok (.ireturn, 1) := dk_172 (dk_at dksX0_kindsBy_2 10 rfl rfl)
abbrev cX0_isSo : ByteArray := prog_1_method_58_code
def yX0_isSo : MethodName := ⟨RX0, "isSo", "(ILBattleBench$Sheet;II)Z"⟩
def dkwX0_isSo_2 : List UInt8 := [3, 54, 5, 132, 6, 1, 167, 255, 208, 42, 180, 0, 31, 42, 180, 0, 57, 182, 0, 193, 21, 5, 172]
abbrev dktX0_isSo_2 : List UInt8 := dkwX0_isSo_2 ++ []
def dkwX0_isSo_1 : List UInt8 := [21, 6, 96, 182, 1, 69, 42, 180, 0, 31, 180, 0, 133, 27, 46, 133, 148, 154, 0, 7, 4, 167, 0, 4]
abbrev dktX0_isSo_1 : List UInt8 := dkwX0_isSo_1 ++ dktX0_isSo_2
def dkwX0_isSo_0 : List UInt8 := [4, 54, 5, 3, 54, 6, 21, 6, 21, 4, 162, 0, 47, 21, 5, 153, 0, 42, 42, 182, 0, 247, 44, 29]
abbrev dktX0_isSo_0 : List UInt8 := dkwX0_isSo_0 ++ dktX0_isSo_1
theorem dksX0_isSo_0 : cX0_isSo.data.toList.drop 0 = dktX0_isSo_0 := by decide +kernel
theorem dksX0_isSo_1 : cX0_isSo.data.toList.drop 24 = dktX0_isSo_1 := dk_seg dksX0_isSo_0 24 rfl rfl
theorem dksX0_isSo_2 : cX0_isSo.data.toList.drop 48 = dktX0_isSo_2 := dk_seg dksX0_isSo_1 24 rfl rfl
theorem dX0_isSo_0 : decode cX0_isSo 0 = .ok (.iconst 1, 1) := dk_4 (dk_at dksX0_isSo_0 0 rfl rfl)
theorem dX0_isSo_1 : decode cX0_isSo 1 = .ok (.istore 5, 2) := dk_54 5 (dk_at dksX0_isSo_0 1 rfl rfl)
theorem dX0_isSo_3 : decode cX0_isSo 3 = .ok (.iconst 0, 1) := dk_3 (dk_at dksX0_isSo_0 3 rfl rfl)
theorem dX0_isSo_4 : decode cX0_isSo 4 = .ok (.istore 6, 2) := dk_54 6 (dk_at dksX0_isSo_0 4 rfl rfl)
theorem dX0_isSo_6 : decode cX0_isSo 6 = .ok (.iload 6, 2) := dk_21 6 (dk_at dksX0_isSo_0 6 rfl rfl)
theorem dX0_isSo_8 : decode cX0_isSo 8 = .ok (.iload 4, 2) := dk_21 4 (dk_at dksX0_isSo_0 8 rfl rfl)
theorem dX0_isSo_10 : decode cX0_isSo 10 = .ok (.if_icmp .ge 47, 3) := dk_162 0 47 (dk_at dksX0_isSo_0 10 rfl rfl)
theorem dX0_isSo_13 : decode cX0_isSo 13 = .ok (.iload 5, 2) := dk_21 5 (dk_at dksX0_isSo_0 13 rfl rfl)
theorem dX0_isSo_15 : decode cX0_isSo 15 = .ok (.ifCond .eq 42, 3) := dk_153 0 42 (dk_at dksX0_isSo_0 15 rfl rfl)
theorem dX0_isSo_18 : decode cX0_isSo 18 = .ok (.aload_n 0, 1) := dk_42 (dk_at dksX0_isSo_0 18 rfl rfl)
theorem dX0_isSo_19 : decode cX0_isSo 19 = .ok (.invokevirtual 247, 3) := dk_182 0 247 (dk_at dksX0_isSo_0 19 rfl rfl)
theorem dX0_isSo_22 : decode cX0_isSo 22 = .ok (.aload_n 2, 1) := dk_44 (dk_at dksX0_isSo_0 22 rfl rfl)
theorem dX0_isSo_23 : decode cX0_isSo 23 = .ok (.iload_n 3, 1) := dk_29 (dk_at dksX0_isSo_0 23 rfl rfl)
theorem dX0_isSo_24 : decode cX0_isSo 24 = .ok (.iload 6, 2) := dk_21 6 (dk_at dksX0_isSo_1 0 rfl rfl)
theorem dX0_isSo_26 : decode cX0_isSo 26 = .ok (.iadd, 1) := dk_96 (dk_at dksX0_isSo_1 2 rfl rfl)
theorem dX0_isSo_27 : decode cX0_isSo 27 = .ok (.invokevirtual 325, 3) := dk_182 1 69 (dk_at dksX0_isSo_1 3 rfl rfl)
theorem dX0_isSo_30 : decode cX0_isSo 30 = .ok (.aload_n 0, 1) := dk_42 (dk_at dksX0_isSo_1 6 rfl rfl)
theorem dX0_isSo_31 : decode cX0_isSo 31 = .ok (.getfield 31, 3) := dk_180 0 31 (dk_at dksX0_isSo_1 7 rfl rfl)
theorem dX0_isSo_34 : decode cX0_isSo 34 = .ok (.getfield 133, 3) := dk_180 0 133 (dk_at dksX0_isSo_1 10 rfl rfl)
theorem dX0_isSo_37 : decode cX0_isSo 37 = .ok (.iload_n 1, 1) := dk_27 (dk_at dksX0_isSo_1 13 rfl rfl)
theorem dX0_isSo_38 : decode cX0_isSo 38 = .ok (.iaload, 1) := dk_46 (dk_at dksX0_isSo_1 14 rfl rfl)
theorem dX0_isSo_39 : decode cX0_isSo 39 = .ok (.i2l, 1) := dk_133 (dk_at dksX0_isSo_1 15 rfl rfl)
theorem dX0_isSo_40 : decode cX0_isSo 40 = .ok (.lcmp, 1) := dk_148 (dk_at dksX0_isSo_1 16 rfl rfl)
theorem dX0_isSo_41 : decode cX0_isSo 41 = .ok (.ifCond .ne 7, 3) := dk_154 0 7 (dk_at dksX0_isSo_1 17 rfl rfl)
theorem dX0_isSo_44 : decode cX0_isSo 44 = .ok (.iconst 1, 1) := dk_4 (dk_at dksX0_isSo_1 20 rfl rfl)
theorem dX0_isSo_45 : decode cX0_isSo 45 = .ok (.goto 4, 3) := dk_167 0 4 (dk_at dksX0_isSo_1 21 rfl rfl)
theorem dX0_isSo_48 : decode cX0_isSo 48 = .ok (.iconst 0, 1) := dk_3 (dk_at dksX0_isSo_2 0 rfl rfl)
theorem dX0_isSo_49 : decode cX0_isSo 49 = .ok (.istore 5, 2) := dk_54 5 (dk_at dksX0_isSo_2 1 rfl rfl)
theorem dX0_isSo_51 : decode cX0_isSo 51 = .ok (.iinc 6 1, 3) := dk_132 6 1 (dk_at dksX0_isSo_2 3 rfl rfl)
theorem dX0_isSo_54 : decode cX0_isSo 54 = .ok (.goto (-48), 3) := dk_167 255 208 (dk_at dksX0_isSo_2 6 rfl rfl)
theorem dX0_isSo_57 : decode cX0_isSo 57 = .ok (.aload_n 0, 1) := dk_42 (dk_at dksX0_isSo_2 9 rfl rfl)
theorem dX0_isSo_58 : decode cX0_isSo 58 = .ok (.getfield 31, 3) := dk_180 0 31 (dk_at dksX0_isSo_2 10 rfl rfl)
theorem dX0_isSo_61 : decode cX0_isSo 61 = .ok (.aload_n 0, 1) := dk_42 (dk_at dksX0_isSo_2 13 rfl rfl)
theorem dX0_isSo_62 : decode cX0_isSo 62 = .ok (.getfield 57, 3) := dk_180 0 57 (dk_at dksX0_isSo_2 14 rfl rfl)
theorem dX0_isSo_65 : decode cX0_isSo 65 = .ok (.invokevirtual 193, 3) := dk_182 0 193 (dk_at dksX0_isSo_2 17 rfl rfl)
theorem dX0_isSo_68 : decode cX0_isSo 68 = .ok (.iload 5, 2) := dk_21 5 (dk_at dksX0_isSo_2 20 rfl rfl)
theorem dX0_isSo_70 : decode cX0_isSo 70 = .ok (.ireturn, 1) := dk_172 (dk_at dksX0_isSo_2 22 rfl rfl)
abbrev cX0_film : ByteArray := prog_1_method_61_code
def yX0_film : MethodName := ⟨RX0, "film", "(IIIII)I"⟩
def dkwX0_film_5 : List UInt8 := [182, 0, 193, 28, 172]
abbrev dktX0_film_5 : List UInt8 := dkwX0_film_5 ++ []
def dkwX0_film_4 : List UInt8 := [180, 0, 133, 27, 46, 133, 182, 1, 92, 132, 7, 1, 167, 255, 217, 42, 180, 0, 31, 42, 180, 0, 57]
abbrev dktX0_film_4 : List UInt8 := dkwX0_film_4 ++ dktX0_film_5
def dkwX0_film_3 : List UInt8 := [162, 0, 39, 42, 182, 0, 247, 42, 180, 0, 74, 29, 50, 21, 4, 21, 5, 21, 7, 96, 42, 180, 0, 31]
abbrev dktX0_film_3 : List UInt8 := dkwX0_film_3 ++ dktX0_film_4
def dkwX0_film_2 : List UInt8 := [156, 0, 6, 21, 6, 172, 42, 180, 0, 57, 42, 180, 0, 31, 182, 0, 193, 3, 54, 7, 21, 7, 28]
abbrev dktX0_film_2 : List UInt8 := dkwX0_film_2 ++ dktX0_film_3
def dkwX0_film_1 : List UInt8 := [184, 1, 77, 154, 0, 5, 2, 172, 42, 29, 21, 4, 21, 5, 28, 182, 1, 82, 54, 6, 21, 6]
abbrev dktX0_film_1 : List UInt8 := dkwX0_film_1 ++ dktX0_film_2
def dkwX0_film_0 : List UInt8 := [42, 27, 182, 0, 110, 153, 0, 24, 28, 133, 10, 20, 1, 90, 184, 0, 86, 153, 0, 12, 29, 21, 4]
abbrev dktX0_film_0 : List UInt8 := dkwX0_film_0 ++ dktX0_film_1
theorem dksX0_film_0 : cX0_film.data.toList.drop 0 = dktX0_film_0 := by decide +kernel
theorem dksX0_film_1 : cX0_film.data.toList.drop 23 = dktX0_film_1 := dk_seg dksX0_film_0 23 rfl rfl
theorem dksX0_film_2 : cX0_film.data.toList.drop 45 = dktX0_film_2 := dk_seg dksX0_film_1 22 rfl rfl
theorem dksX0_film_3 : cX0_film.data.toList.drop 68 = dktX0_film_3 := dk_seg dksX0_film_2 23 rfl rfl
theorem dksX0_film_4 : cX0_film.data.toList.drop 92 = dktX0_film_4 := dk_seg dksX0_film_3 24 rfl rfl
theorem dksX0_film_5 : cX0_film.data.toList.drop 115 = dktX0_film_5 := dk_seg dksX0_film_4 23 rfl rfl
theorem dX0_film_0 : decode cX0_film 0 = .ok (.aload_n 0, 1) := dk_42 (dk_at dksX0_film_0 0 rfl rfl)
theorem dX0_film_1 : decode cX0_film 1 = .ok (.iload_n 1, 1) := dk_27 (dk_at dksX0_film_0 1 rfl rfl)
theorem dX0_film_2 : decode cX0_film 2 = .ok (.invokevirtual 110, 3) := dk_182 0 110 (dk_at dksX0_film_0 2 rfl rfl)
theorem dX0_film_5 : decode cX0_film 5 = .ok (.ifCond .eq 24, 3) := dk_153 0 24 (dk_at dksX0_film_0 5 rfl rfl)
theorem dX0_film_8 : decode cX0_film 8 = .ok (.iload_n 2, 1) := dk_28 (dk_at dksX0_film_0 8 rfl rfl)
theorem dX0_film_9 : decode cX0_film 9 = .ok (.i2l, 1) := dk_133 (dk_at dksX0_film_0 9 rfl rfl)
theorem dX0_film_10 : decode cX0_film 10 = .ok (.lconst 1, 1) := dk_10 (dk_at dksX0_film_0 10 rfl rfl)
theorem dX0_film_11 : decode cX0_film 11 = .ok (.ldc2_w 346, 3) := dk_20 1 90 (dk_at dksX0_film_0 11 rfl rfl)
theorem dX0_film_14 : decode cX0_film 14 = .ok (.invokestatic 86, 3) := dk_184 0 86 (dk_at dksX0_film_0 14 rfl rfl)
theorem dX0_film_17 : decode cX0_film 17 = .ok (.ifCond .eq 12, 3) := dk_153 0 12 (dk_at dksX0_film_0 17 rfl rfl)
theorem dX0_film_20 : decode cX0_film 20 = .ok (.iload_n 3, 1) := dk_29 (dk_at dksX0_film_0 20 rfl rfl)
theorem dX0_film_21 : decode cX0_film 21 = .ok (.iload 4, 2) := dk_21 4 (dk_at dksX0_film_0 21 rfl rfl)
theorem dX0_film_23 : decode cX0_film 23 = .ok (.invokestatic 333, 3) := dk_184 1 77 (dk_at dksX0_film_1 0 rfl rfl)
theorem dX0_film_26 : decode cX0_film 26 = .ok (.ifCond .ne 5, 3) := dk_154 0 5 (dk_at dksX0_film_1 3 rfl rfl)
theorem dX0_film_29 : decode cX0_film 29 = .ok (.iconst (-1), 1) := dk_2 (dk_at dksX0_film_1 6 rfl rfl)
theorem dX0_film_30 : decode cX0_film 30 = .ok (.ireturn, 1) := dk_172 (dk_at dksX0_film_1 7 rfl rfl)
theorem dX0_film_31 : decode cX0_film 31 = .ok (.aload_n 0, 1) := dk_42 (dk_at dksX0_film_1 8 rfl rfl)
theorem dX0_film_32 : decode cX0_film 32 = .ok (.iload_n 3, 1) := dk_29 (dk_at dksX0_film_1 9 rfl rfl)
theorem dX0_film_33 : decode cX0_film 33 = .ok (.iload 4, 2) := dk_21 4 (dk_at dksX0_film_1 10 rfl rfl)
theorem dX0_film_35 : decode cX0_film 35 = .ok (.iload 5, 2) := dk_21 5 (dk_at dksX0_film_1 12 rfl rfl)
theorem dX0_film_37 : decode cX0_film 37 = .ok (.iload_n 2, 1) := dk_28 (dk_at dksX0_film_1 14 rfl rfl)
theorem dX0_film_38 : decode cX0_film 38 = .ok (.invokevirtual 338, 3) := dk_182 1 82 (dk_at dksX0_film_1 15 rfl rfl)
theorem dX0_film_41 : decode cX0_film 41 = .ok (.istore 6, 2) := dk_54 6 (dk_at dksX0_film_1 18 rfl rfl)
theorem dX0_film_43 : decode cX0_film 43 = .ok (.iload 6, 2) := dk_21 6 (dk_at dksX0_film_1 20 rfl rfl)
theorem dX0_film_45 : decode cX0_film 45 = .ok (.ifCond .ge 6, 3) := dk_156 0 6 (dk_at dksX0_film_2 0 rfl rfl)
theorem dX0_film_48 : decode cX0_film 48 = .ok (.iload 6, 2) := dk_21 6 (dk_at dksX0_film_2 3 rfl rfl)
theorem dX0_film_50 : decode cX0_film 50 = .ok (.ireturn, 1) := dk_172 (dk_at dksX0_film_2 5 rfl rfl)
theorem dX0_film_51 : decode cX0_film 51 = .ok (.aload_n 0, 1) := dk_42 (dk_at dksX0_film_2 6 rfl rfl)
theorem dX0_film_52 : decode cX0_film 52 = .ok (.getfield 57, 3) := dk_180 0 57 (dk_at dksX0_film_2 7 rfl rfl)
theorem dX0_film_55 : decode cX0_film 55 = .ok (.aload_n 0, 1) := dk_42 (dk_at dksX0_film_2 10 rfl rfl)
theorem dX0_film_56 : decode cX0_film 56 = .ok (.getfield 31, 3) := dk_180 0 31 (dk_at dksX0_film_2 11 rfl rfl)
theorem dX0_film_59 : decode cX0_film 59 = .ok (.invokevirtual 193, 3) := dk_182 0 193 (dk_at dksX0_film_2 14 rfl rfl)
theorem dX0_film_62 : decode cX0_film 62 = .ok (.iconst 0, 1) := dk_3 (dk_at dksX0_film_2 17 rfl rfl)
theorem dX0_film_63 : decode cX0_film 63 = .ok (.istore 7, 2) := dk_54 7 (dk_at dksX0_film_2 18 rfl rfl)
theorem dX0_film_65 : decode cX0_film 65 = .ok (.iload 7, 2) := dk_21 7 (dk_at dksX0_film_2 20 rfl rfl)
theorem dX0_film_67 : decode cX0_film 67 = .ok (.iload_n 2, 1) := dk_28 (dk_at dksX0_film_2 22 rfl rfl)
theorem dX0_film_68 : decode cX0_film 68 = .ok (.if_icmp .ge 39, 3) := dk_162 0 39 (dk_at dksX0_film_3 0 rfl rfl)
theorem dX0_film_71 : decode cX0_film 71 = .ok (.aload_n 0, 1) := dk_42 (dk_at dksX0_film_3 3 rfl rfl)
theorem dX0_film_72 : decode cX0_film 72 = .ok (.invokevirtual 247, 3) := dk_182 0 247 (dk_at dksX0_film_3 4 rfl rfl)
theorem dX0_film_75 : decode cX0_film 75 = .ok (.aload_n 0, 1) := dk_42 (dk_at dksX0_film_3 7 rfl rfl)
theorem dX0_film_76 : decode cX0_film 76 = .ok (.getfield 74, 3) := dk_180 0 74 (dk_at dksX0_film_3 8 rfl rfl)
theorem dX0_film_79 : decode cX0_film 79 = .ok (.iload_n 3, 1) := dk_29 (dk_at dksX0_film_3 11 rfl rfl)
theorem dX0_film_80 : decode cX0_film 80 = .ok (.aaload, 1) := dk_50 (dk_at dksX0_film_3 12 rfl rfl)
theorem dX0_film_81 : decode cX0_film 81 = .ok (.iload 4, 2) := dk_21 4 (dk_at dksX0_film_3 13 rfl rfl)
theorem dX0_film_83 : decode cX0_film 83 = .ok (.iload 5, 2) := dk_21 5 (dk_at dksX0_film_3 15 rfl rfl)
theorem dX0_film_85 : decode cX0_film 85 = .ok (.iload 7, 2) := dk_21 7 (dk_at dksX0_film_3 17 rfl rfl)
theorem dX0_film_87 : decode cX0_film 87 = .ok (.iadd, 1) := dk_96 (dk_at dksX0_film_3 19 rfl rfl)
theorem dX0_film_88 : decode cX0_film 88 = .ok (.aload_n 0, 1) := dk_42 (dk_at dksX0_film_3 20 rfl rfl)
theorem dX0_film_89 : decode cX0_film 89 = .ok (.getfield 31, 3) := dk_180 0 31 (dk_at dksX0_film_3 21 rfl rfl)
theorem dX0_film_92 : decode cX0_film 92 = .ok (.getfield 133, 3) := dk_180 0 133 (dk_at dksX0_film_4 0 rfl rfl)
theorem dX0_film_95 : decode cX0_film 95 = .ok (.iload_n 1, 1) := dk_27 (dk_at dksX0_film_4 3 rfl rfl)
theorem dX0_film_96 : decode cX0_film 96 = .ok (.iaload, 1) := dk_46 (dk_at dksX0_film_4 4 rfl rfl)
theorem dX0_film_97 : decode cX0_film 97 = .ok (.i2l, 1) := dk_133 (dk_at dksX0_film_4 5 rfl rfl)
theorem dX0_film_98 : decode cX0_film 98 = .ok (.invokevirtual 348, 3) := dk_182 1 92 (dk_at dksX0_film_4 6 rfl rfl)
theorem dX0_film_101 : decode cX0_film 101 = .ok (.iinc 7 1, 3) := dk_132 7 1 (dk_at dksX0_film_4 9 rfl rfl)
theorem dX0_film_104 : decode cX0_film 104 = .ok (.goto (-39), 3) := dk_167 255 217 (dk_at dksX0_film_4 12 rfl rfl)
theorem dX0_film_107 : decode cX0_film 107 = .ok (.aload_n 0, 1) := dk_42 (dk_at dksX0_film_4 15 rfl rfl)
theorem dX0_film_108 : decode cX0_film 108 = .ok (.getfield 31, 3) := dk_180 0 31 (dk_at dksX0_film_4 16 rfl rfl)
theorem dX0_film_111 : decode cX0_film 111 = .ok (.aload_n 0, 1) := dk_42 (dk_at dksX0_film_4 19 rfl rfl)
theorem dX0_film_112 : decode cX0_film 112 = .ok (.getfield 57, 3) := dk_180 0 57 (dk_at dksX0_film_4 20 rfl rfl)
theorem dX0_film_115 : decode cX0_film 115 = .ok (.invokevirtual 193, 3) := dk_182 0 193 (dk_at dksX0_film_5 0 rfl rfl)
theorem dX0_film_118 : decode cX0_film 118 = .ok (.iload_n 2, 1) := dk_28 (dk_at dksX0_film_5 3 rfl rfl)
theorem dX0_film_119 : decode cX0_film 119 = .ok (.ireturn, 1) := dk_172 (dk_at dksX0_film_5 4 rfl rfl)
abbrev cX0_sheet : ByteArray := prog_1_method_62_code
def yX0_sheet : MethodName := ⟨RX0, "sheet", "(III)I"⟩
def dkwX0_sheet_3 : List UInt8 := [172]
abbrev dktX0_sheet_3 : List UInt8 := dkwX0_sheet_3 ++ []
def dkwX0_sheet_2 : List UInt8 := [160, 0, 9, 29, 188, 10, 167, 0, 6, 29, 188, 11, 181, 1, 59, 167, 0, 8, 58, 4, 16, 242, 172, 29]
abbrev dktX0_sheet_2 : List UInt8 := dkwX0_sheet_2 ++ dktX0_sheet_3
def dkwX0_sheet_1 : List UInt8 := [154, 0, 9, 29, 188, 8, 167, 0, 28, 28, 4, 160, 0, 9, 29, 188, 9, 167, 0, 17, 28, 5]
abbrev dktX0_sheet_1 : List UInt8 := dkwX0_sheet_1 ++ dktX0_sheet_2
def dkwX0_sheet_0 : List UInt8 := [27, 28, 184, 1, 77, 153, 0, 9, 29, 16, 24, 164, 0, 5, 2, 172, 42, 180, 0, 74, 27, 50, 28]
abbrev dktX0_sheet_0 : List UInt8 := dkwX0_sheet_0 ++ dktX0_sheet_1
theorem dksX0_sheet_0 : cX0_sheet.data.toList.drop 0 = dktX0_sheet_0 := by decide +kernel
theorem dksX0_sheet_1 : cX0_sheet.data.toList.drop 23 = dktX0_sheet_1 := dk_seg dksX0_sheet_0 23 rfl rfl
theorem dksX0_sheet_2 : cX0_sheet.data.toList.drop 45 = dktX0_sheet_2 := dk_seg dksX0_sheet_1 22 rfl rfl
theorem dksX0_sheet_3 : cX0_sheet.data.toList.drop 69 = dktX0_sheet_3 := dk_seg dksX0_sheet_2 24 rfl rfl
theorem dX0_sheet_0 : decode cX0_sheet 0 = .ok (.iload_n 1, 1) := dk_27 (dk_at dksX0_sheet_0 0 rfl rfl)
theorem dX0_sheet_1 : decode cX0_sheet 1 = .ok (.iload_n 2, 1) := dk_28 (dk_at dksX0_sheet_0 1 rfl rfl)
theorem dX0_sheet_2 : decode cX0_sheet 2 = .ok (.invokestatic 333, 3) := dk_184 1 77 (dk_at dksX0_sheet_0 2 rfl rfl)
theorem dX0_sheet_5 : decode cX0_sheet 5 = .ok (.ifCond .eq 9, 3) := dk_153 0 9 (dk_at dksX0_sheet_0 5 rfl rfl)
theorem dX0_sheet_8 : decode cX0_sheet 8 = .ok (.iload_n 3, 1) := dk_29 (dk_at dksX0_sheet_0 8 rfl rfl)
theorem dX0_sheet_9 : decode cX0_sheet 9 = .ok (.bipush 24, 2) := dk_16 24 (dk_at dksX0_sheet_0 9 rfl rfl)
theorem dX0_sheet_11 : decode cX0_sheet 11 = .ok (.if_icmp .le 5, 3) := dk_164 0 5 (dk_at dksX0_sheet_0 11 rfl rfl)
theorem dX0_sheet_14 : decode cX0_sheet 14 = .ok (.iconst (-1), 1) := dk_2 (dk_at dksX0_sheet_0 14 rfl rfl)
theorem dX0_sheet_15 : decode cX0_sheet 15 = .ok (.ireturn, 1) := dk_172 (dk_at dksX0_sheet_0 15 rfl rfl)
theorem dX0_sheet_16 : decode cX0_sheet 16 = .ok (.aload_n 0, 1) := dk_42 (dk_at dksX0_sheet_0 16 rfl rfl)
theorem dX0_sheet_17 : decode cX0_sheet 17 = .ok (.getfield 74, 3) := dk_180 0 74 (dk_at dksX0_sheet_0 17 rfl rfl)
theorem dX0_sheet_20 : decode cX0_sheet 20 = .ok (.iload_n 1, 1) := dk_27 (dk_at dksX0_sheet_0 20 rfl rfl)
theorem dX0_sheet_21 : decode cX0_sheet 21 = .ok (.aaload, 1) := dk_50 (dk_at dksX0_sheet_0 21 rfl rfl)
theorem dX0_sheet_22 : decode cX0_sheet 22 = .ok (.iload_n 2, 1) := dk_28 (dk_at dksX0_sheet_0 22 rfl rfl)
theorem dX0_sheet_23 : decode cX0_sheet 23 = .ok (.ifCond .ne 9, 3) := dk_154 0 9 (dk_at dksX0_sheet_1 0 rfl rfl)
theorem dX0_sheet_26 : decode cX0_sheet 26 = .ok (.iload_n 3, 1) := dk_29 (dk_at dksX0_sheet_1 3 rfl rfl)
theorem dX0_sheet_27 : decode cX0_sheet 27 = .ok (.newarray .byte, 2) := dk_188_8 (dk_at dksX0_sheet_1 4 rfl rfl)
theorem dX0_sheet_29 : decode cX0_sheet 29 = .ok (.goto 28, 3) := dk_167 0 28 (dk_at dksX0_sheet_1 6 rfl rfl)
theorem dX0_sheet_32 : decode cX0_sheet 32 = .ok (.iload_n 2, 1) := dk_28 (dk_at dksX0_sheet_1 9 rfl rfl)
theorem dX0_sheet_33 : decode cX0_sheet 33 = .ok (.iconst 1, 1) := dk_4 (dk_at dksX0_sheet_1 10 rfl rfl)
theorem dX0_sheet_34 : decode cX0_sheet 34 = .ok (.if_icmp .ne 9, 3) := dk_160 0 9 (dk_at dksX0_sheet_1 11 rfl rfl)
theorem dX0_sheet_37 : decode cX0_sheet 37 = .ok (.iload_n 3, 1) := dk_29 (dk_at dksX0_sheet_1 14 rfl rfl)
theorem dX0_sheet_38 : decode cX0_sheet 38 = .ok (.newarray .short, 2) := dk_188_9 (dk_at dksX0_sheet_1 15 rfl rfl)
theorem dX0_sheet_40 : decode cX0_sheet 40 = .ok (.goto 17, 3) := dk_167 0 17 (dk_at dksX0_sheet_1 17 rfl rfl)
theorem dX0_sheet_43 : decode cX0_sheet 43 = .ok (.iload_n 2, 1) := dk_28 (dk_at dksX0_sheet_1 20 rfl rfl)
theorem dX0_sheet_44 : decode cX0_sheet 44 = .ok (.iconst 2, 1) := dk_5 (dk_at dksX0_sheet_1 21 rfl rfl)
theorem dX0_sheet_45 : decode cX0_sheet 45 = .ok (.if_icmp .ne 9, 3) := dk_160 0 9 (dk_at dksX0_sheet_2 0 rfl rfl)
theorem dX0_sheet_48 : decode cX0_sheet 48 = .ok (.iload_n 3, 1) := dk_29 (dk_at dksX0_sheet_2 3 rfl rfl)
theorem dX0_sheet_49 : decode cX0_sheet 49 = .ok (.newarray .int, 2) := dk_188_10 (dk_at dksX0_sheet_2 4 rfl rfl)
theorem dX0_sheet_51 : decode cX0_sheet 51 = .ok (.goto 6, 3) := dk_167 0 6 (dk_at dksX0_sheet_2 6 rfl rfl)
theorem dX0_sheet_54 : decode cX0_sheet 54 = .ok (.iload_n 3, 1) := dk_29 (dk_at dksX0_sheet_2 9 rfl rfl)
theorem dX0_sheet_55 : decode cX0_sheet 55 = .ok (.newarray .long, 2) := dk_188_11 (dk_at dksX0_sheet_2 10 rfl rfl)
theorem dX0_sheet_57 : decode cX0_sheet 57 = .ok (.putfield 315, 3) := dk_181 1 59 (dk_at dksX0_sheet_2 12 rfl rfl)
theorem dX0_sheet_60 : decode cX0_sheet 60 = .ok (.goto 8, 3) := dk_167 0 8 (dk_at dksX0_sheet_2 15 rfl rfl)
theorem dX0_sheet_63 : decode cX0_sheet 63 = .ok (.astore 4, 2) := dk_58 4 (dk_at dksX0_sheet_2 18 rfl rfl)
theorem dX0_sheet_65 : decode cX0_sheet 65 = .ok (.bipush (-14), 2) := dk_16 242 (dk_at dksX0_sheet_2 20 rfl rfl)
theorem dX0_sheet_67 : decode cX0_sheet 67 = .ok (.ireturn, 1) := dk_172 (dk_at dksX0_sheet_2 22 rfl rfl)
theorem dX0_sheet_68 : decode cX0_sheet 68 = .ok (.iload_n 3, 1) := dk_29 (dk_at dksX0_sheet_2 23 rfl rfl)
theorem dX0_sheet_69 : decode cX0_sheet 69 = .ok (.ireturn, 1) := dk_172 (dk_at dksX0_sheet_3 0 rfl rfl)
abbrev cX0_drop : ByteArray := prog_1_method_63_code
def yX0_drop : MethodName := ⟨RX0, "drop", "(I)I"⟩
def dkwX0_drop_1 : List UInt8 := [172, 42, 180, 0, 74, 27, 50, 182, 1, 66, 61, 42, 180, 0, 74, 27, 50, 1, 181, 1, 59, 28, 172]
abbrev dktX0_drop_1 : List UInt8 := dkwX0_drop_1 ++ []
def dkwX0_drop_0 : List UInt8 := [27, 3, 184, 1, 77, 154, 0, 5, 2, 172, 42, 180, 0, 74, 27, 50, 180, 1, 59, 199, 0, 6, 16, 245]
abbrev dktX0_drop_0 : List UInt8 := dkwX0_drop_0 ++ dktX0_drop_1
theorem dksX0_drop_0 : cX0_drop.data.toList.drop 0 = dktX0_drop_0 := by decide +kernel
theorem dksX0_drop_1 : cX0_drop.data.toList.drop 24 = dktX0_drop_1 := dk_seg dksX0_drop_0 24 rfl rfl
theorem dX0_drop_0 : decode cX0_drop 0 = .ok (.iload_n 1, 1) := dk_27 (dk_at dksX0_drop_0 0 rfl rfl)
theorem dX0_drop_1 : decode cX0_drop 1 = .ok (.iconst 0, 1) := dk_3 (dk_at dksX0_drop_0 1 rfl rfl)
theorem dX0_drop_2 : decode cX0_drop 2 = .ok (.invokestatic 333, 3) := dk_184 1 77 (dk_at dksX0_drop_0 2 rfl rfl)
theorem dX0_drop_5 : decode cX0_drop 5 = .ok (.ifCond .ne 5, 3) := dk_154 0 5 (dk_at dksX0_drop_0 5 rfl rfl)
theorem dX0_drop_8 : decode cX0_drop 8 = .ok (.iconst (-1), 1) := dk_2 (dk_at dksX0_drop_0 8 rfl rfl)
theorem dX0_drop_9 : decode cX0_drop 9 = .ok (.ireturn, 1) := dk_172 (dk_at dksX0_drop_0 9 rfl rfl)
theorem dX0_drop_10 : decode cX0_drop 10 = .ok (.aload_n 0, 1) := dk_42 (dk_at dksX0_drop_0 10 rfl rfl)
theorem dX0_drop_11 : decode cX0_drop 11 = .ok (.getfield 74, 3) := dk_180 0 74 (dk_at dksX0_drop_0 11 rfl rfl)
theorem dX0_drop_14 : decode cX0_drop 14 = .ok (.iload_n 1, 1) := dk_27 (dk_at dksX0_drop_0 14 rfl rfl)
theorem dX0_drop_15 : decode cX0_drop 15 = .ok (.aaload, 1) := dk_50 (dk_at dksX0_drop_0 15 rfl rfl)
theorem dX0_drop_16 : decode cX0_drop 16 = .ok (.getfield 315, 3) := dk_180 1 59 (dk_at dksX0_drop_0 16 rfl rfl)
theorem dX0_drop_19 : decode cX0_drop 19 = .ok (.ifnonnull 6, 3) := dk_199 0 6 (dk_at dksX0_drop_0 19 rfl rfl)
theorem dX0_drop_22 : decode cX0_drop 22 = .ok (.bipush (-11), 2) := dk_16 245 (dk_at dksX0_drop_0 22 rfl rfl)
theorem dX0_drop_24 : decode cX0_drop 24 = .ok (.ireturn, 1) := dk_172 (dk_at dksX0_drop_1 0 rfl rfl)
theorem dX0_drop_25 : decode cX0_drop 25 = .ok (.aload_n 0, 1) := dk_42 (dk_at dksX0_drop_1 1 rfl rfl)
theorem dX0_drop_26 : decode cX0_drop 26 = .ok (.getfield 74, 3) := dk_180 0 74 (dk_at dksX0_drop_1 2 rfl rfl)
theorem dX0_drop_29 : decode cX0_drop 29 = .ok (.iload_n 1, 1) := dk_27 (dk_at dksX0_drop_1 5 rfl rfl)
theorem dX0_drop_30 : decode cX0_drop 30 = .ok (.aaload, 1) := dk_50 (dk_at dksX0_drop_1 6 rfl rfl)
theorem dX0_drop_31 : decode cX0_drop 31 = .ok (.invokevirtual 322, 3) := dk_182 1 66 (dk_at dksX0_drop_1 7 rfl rfl)
theorem dX0_drop_34 : decode cX0_drop 34 = .ok (.istore_n 2, 1) := dk_61 (dk_at dksX0_drop_1 10 rfl rfl)
theorem dX0_drop_35 : decode cX0_drop 35 = .ok (.aload_n 0, 1) := dk_42 (dk_at dksX0_drop_1 11 rfl rfl)
theorem dX0_drop_36 : decode cX0_drop 36 = .ok (.getfield 74, 3) := dk_180 0 74 (dk_at dksX0_drop_1 12 rfl rfl)
theorem dX0_drop_39 : decode cX0_drop 39 = .ok (.iload_n 1, 1) := dk_27 (dk_at dksX0_drop_1 15 rfl rfl)
theorem dX0_drop_40 : decode cX0_drop 40 = .ok (.aaload, 1) := dk_50 (dk_at dksX0_drop_1 16 rfl rfl)
theorem dX0_drop_41 : decode cX0_drop 41 = .ok (.aconst_null, 1) := dk_1 (dk_at dksX0_drop_1 17 rfl rfl)
theorem dX0_drop_42 : decode cX0_drop 42 = .ok (.putfield 315, 3) := dk_181 1 59 (dk_at dksX0_drop_1 18 rfl rfl)
theorem dX0_drop_45 : decode cX0_drop 45 = .ok (.iload_n 2, 1) := dk_28 (dk_at dksX0_drop_1 21 rfl rfl)
theorem dX0_drop_46 : decode cX0_drop 46 = .ok (.ireturn, 1) := dk_172 (dk_at dksX0_drop_1 22 rfl rfl)
abbrev cX0_item : ByteArray := prog_1_method_64_code
def yX0_item : MethodName := ⟨RX0, "item", "(IIIJ)I"⟩
def dkwX0_item_1 : List UInt8 := [167, 0, 18, 58, 6, 16, 245, 172, 58, 6, 16, 244, 172, 58, 6, 16, 243, 172, 4, 172]
abbrev dktX0_item_1 : List UInt8 := dkwX0_item_1 ++ []
def dkwX0_item_0 : List UInt8 := [27, 28, 184, 1, 77, 154, 0, 5, 2, 172, 42, 180, 0, 74, 27, 50, 28, 29, 22, 4, 182, 1, 92]
abbrev dktX0_item_0 : List UInt8 := dkwX0_item_0 ++ dktX0_item_1
theorem dksX0_item_0 : cX0_item.data.toList.drop 0 = dktX0_item_0 := by decide +kernel
theorem dksX0_item_1 : cX0_item.data.toList.drop 23 = dktX0_item_1 := dk_seg dksX0_item_0 23 rfl rfl
theorem dX0_item_0 : decode cX0_item 0 = .ok (.iload_n 1, 1) := dk_27 (dk_at dksX0_item_0 0 rfl rfl)
theorem dX0_item_1 : decode cX0_item 1 = .ok (.iload_n 2, 1) := dk_28 (dk_at dksX0_item_0 1 rfl rfl)
theorem dX0_item_2 : decode cX0_item 2 = .ok (.invokestatic 333, 3) := dk_184 1 77 (dk_at dksX0_item_0 2 rfl rfl)
theorem dX0_item_5 : decode cX0_item 5 = .ok (.ifCond .ne 5, 3) := dk_154 0 5 (dk_at dksX0_item_0 5 rfl rfl)
theorem dX0_item_8 : decode cX0_item 8 = .ok (.iconst (-1), 1) := dk_2 (dk_at dksX0_item_0 8 rfl rfl)
theorem dX0_item_9 : decode cX0_item 9 = .ok (.ireturn, 1) := dk_172 (dk_at dksX0_item_0 9 rfl rfl)
theorem dX0_item_10 : decode cX0_item 10 = .ok (.aload_n 0, 1) := dk_42 (dk_at dksX0_item_0 10 rfl rfl)
theorem dX0_item_11 : decode cX0_item 11 = .ok (.getfield 74, 3) := dk_180 0 74 (dk_at dksX0_item_0 11 rfl rfl)
theorem dX0_item_14 : decode cX0_item 14 = .ok (.iload_n 1, 1) := dk_27 (dk_at dksX0_item_0 14 rfl rfl)
theorem dX0_item_15 : decode cX0_item 15 = .ok (.aaload, 1) := dk_50 (dk_at dksX0_item_0 15 rfl rfl)
theorem dX0_item_16 : decode cX0_item 16 = .ok (.iload_n 2, 1) := dk_28 (dk_at dksX0_item_0 16 rfl rfl)
theorem dX0_item_17 : decode cX0_item 17 = .ok (.iload_n 3, 1) := dk_29 (dk_at dksX0_item_0 17 rfl rfl)
theorem dX0_item_18 : decode cX0_item 18 = .ok (.lload 4, 2) := dk_22 4 (dk_at dksX0_item_0 18 rfl rfl)
theorem dX0_item_20 : decode cX0_item 20 = .ok (.invokevirtual 348, 3) := dk_182 1 92 (dk_at dksX0_item_0 20 rfl rfl)
theorem dX0_item_23 : decode cX0_item 23 = .ok (.goto 18, 3) := dk_167 0 18 (dk_at dksX0_item_1 0 rfl rfl)
theorem dX0_item_26 : decode cX0_item 26 = .ok (.astore 6, 2) := dk_58 6 (dk_at dksX0_item_1 3 rfl rfl)
theorem dX0_item_28 : decode cX0_item 28 = .ok (.bipush (-11), 2) := dk_16 245 (dk_at dksX0_item_1 5 rfl rfl)
theorem dX0_item_30 : decode cX0_item 30 = .ok (.ireturn, 1) := dk_172 (dk_at dksX0_item_1 7 rfl rfl)
theorem dX0_item_31 : decode cX0_item 31 = .ok (.astore 6, 2) := dk_58 6 (dk_at dksX0_item_1 8 rfl rfl)
theorem dX0_item_33 : decode cX0_item 33 = .ok (.bipush (-12), 2) := dk_16 244 (dk_at dksX0_item_1 10 rfl rfl)
theorem dX0_item_35 : decode cX0_item 35 = .ok (.ireturn, 1) := dk_172 (dk_at dksX0_item_1 12 rfl rfl)
theorem dX0_item_36 : decode cX0_item 36 = .ok (.astore 6, 2) := dk_58 6 (dk_at dksX0_item_1 13 rfl rfl)
theorem dX0_item_38 : decode cX0_item 38 = .ok (.bipush (-13), 2) := dk_16 243 (dk_at dksX0_item_1 15 rfl rfl)
theorem dX0_item_40 : decode cX0_item 40 = .ok (.ireturn, 1) := dk_172 (dk_at dksX0_item_1 17 rfl rfl)
theorem dX0_item_41 : decode cX0_item 41 = .ok (.iconst 1, 1) := dk_4 (dk_at dksX0_item_1 18 rfl rfl)
theorem dX0_item_42 : decode cX0_item 42 = .ok (.ireturn, 1) := dk_172 (dk_at dksX0_item_1 19 rfl rfl)
abbrev cX0_copy : ByteArray := prog_1_method_65_code
def yX0_copy : MethodName := ⟨RX0, "copy", "(IIIII)I"⟩
def dkwX0_copy_2 : List UInt8 := [58, 6, 16, 245, 172, 58, 6, 16, 244, 172, 58, 6, 16, 243, 172, 21, 5, 172]
abbrev dktX0_copy_2 : List UInt8 := dkwX0_copy_2 ++ []
def dkwX0_copy_1 : List UInt8 := [180, 1, 59, 28, 42, 180, 0, 74, 29, 50, 180, 1, 59, 21, 4, 21, 5, 184, 0, 230, 167, 0, 18]
abbrev dktX0_copy_1 : List UInt8 := dkwX0_copy_1 ++ dktX0_copy_2
def dkwX0_copy_0 : List UInt8 := [27, 3, 184, 1, 77, 153, 0, 11, 29, 3, 184, 1, 77, 154, 0, 5, 2, 172, 42, 180, 0, 74, 27, 50]
abbrev dktX0_copy_0 : List UInt8 := dkwX0_copy_0 ++ dktX0_copy_1
theorem dksX0_copy_0 : cX0_copy.data.toList.drop 0 = dktX0_copy_0 := by decide +kernel
theorem dksX0_copy_1 : cX0_copy.data.toList.drop 24 = dktX0_copy_1 := dk_seg dksX0_copy_0 24 rfl rfl
theorem dksX0_copy_2 : cX0_copy.data.toList.drop 47 = dktX0_copy_2 := dk_seg dksX0_copy_1 23 rfl rfl
theorem dX0_copy_0 : decode cX0_copy 0 = .ok (.iload_n 1, 1) := dk_27 (dk_at dksX0_copy_0 0 rfl rfl)
theorem dX0_copy_1 : decode cX0_copy 1 = .ok (.iconst 0, 1) := dk_3 (dk_at dksX0_copy_0 1 rfl rfl)
theorem dX0_copy_2 : decode cX0_copy 2 = .ok (.invokestatic 333, 3) := dk_184 1 77 (dk_at dksX0_copy_0 2 rfl rfl)
theorem dX0_copy_5 : decode cX0_copy 5 = .ok (.ifCond .eq 11, 3) := dk_153 0 11 (dk_at dksX0_copy_0 5 rfl rfl)
theorem dX0_copy_8 : decode cX0_copy 8 = .ok (.iload_n 3, 1) := dk_29 (dk_at dksX0_copy_0 8 rfl rfl)
theorem dX0_copy_9 : decode cX0_copy 9 = .ok (.iconst 0, 1) := dk_3 (dk_at dksX0_copy_0 9 rfl rfl)
theorem dX0_copy_10 : decode cX0_copy 10 = .ok (.invokestatic 333, 3) := dk_184 1 77 (dk_at dksX0_copy_0 10 rfl rfl)
theorem dX0_copy_13 : decode cX0_copy 13 = .ok (.ifCond .ne 5, 3) := dk_154 0 5 (dk_at dksX0_copy_0 13 rfl rfl)
theorem dX0_copy_16 : decode cX0_copy 16 = .ok (.iconst (-1), 1) := dk_2 (dk_at dksX0_copy_0 16 rfl rfl)
theorem dX0_copy_17 : decode cX0_copy 17 = .ok (.ireturn, 1) := dk_172 (dk_at dksX0_copy_0 17 rfl rfl)
theorem dX0_copy_18 : decode cX0_copy 18 = .ok (.aload_n 0, 1) := dk_42 (dk_at dksX0_copy_0 18 rfl rfl)
theorem dX0_copy_19 : decode cX0_copy 19 = .ok (.getfield 74, 3) := dk_180 0 74 (dk_at dksX0_copy_0 19 rfl rfl)
theorem dX0_copy_22 : decode cX0_copy 22 = .ok (.iload_n 1, 1) := dk_27 (dk_at dksX0_copy_0 22 rfl rfl)
theorem dX0_copy_23 : decode cX0_copy 23 = .ok (.aaload, 1) := dk_50 (dk_at dksX0_copy_0 23 rfl rfl)
theorem dX0_copy_24 : decode cX0_copy 24 = .ok (.getfield 315, 3) := dk_180 1 59 (dk_at dksX0_copy_1 0 rfl rfl)
theorem dX0_copy_27 : decode cX0_copy 27 = .ok (.iload_n 2, 1) := dk_28 (dk_at dksX0_copy_1 3 rfl rfl)
theorem dX0_copy_28 : decode cX0_copy 28 = .ok (.aload_n 0, 1) := dk_42 (dk_at dksX0_copy_1 4 rfl rfl)
theorem dX0_copy_29 : decode cX0_copy 29 = .ok (.getfield 74, 3) := dk_180 0 74 (dk_at dksX0_copy_1 5 rfl rfl)
theorem dX0_copy_32 : decode cX0_copy 32 = .ok (.iload_n 3, 1) := dk_29 (dk_at dksX0_copy_1 8 rfl rfl)
theorem dX0_copy_33 : decode cX0_copy 33 = .ok (.aaload, 1) := dk_50 (dk_at dksX0_copy_1 9 rfl rfl)
theorem dX0_copy_34 : decode cX0_copy 34 = .ok (.getfield 315, 3) := dk_180 1 59 (dk_at dksX0_copy_1 10 rfl rfl)
theorem dX0_copy_37 : decode cX0_copy 37 = .ok (.iload 4, 2) := dk_21 4 (dk_at dksX0_copy_1 13 rfl rfl)
theorem dX0_copy_39 : decode cX0_copy 39 = .ok (.iload 5, 2) := dk_21 5 (dk_at dksX0_copy_1 15 rfl rfl)
theorem dX0_copy_41 : decode cX0_copy 41 = .ok (.invokestatic 230, 3) := dk_184 0 230 (dk_at dksX0_copy_1 17 rfl rfl)
theorem dX0_copy_44 : decode cX0_copy 44 = .ok (.goto 18, 3) := dk_167 0 18 (dk_at dksX0_copy_1 20 rfl rfl)
theorem dX0_copy_47 : decode cX0_copy 47 = .ok (.astore 6, 2) := dk_58 6 (dk_at dksX0_copy_2 0 rfl rfl)
theorem dX0_copy_49 : decode cX0_copy 49 = .ok (.bipush (-11), 2) := dk_16 245 (dk_at dksX0_copy_2 2 rfl rfl)
theorem dX0_copy_51 : decode cX0_copy 51 = .ok (.ireturn, 1) := dk_172 (dk_at dksX0_copy_2 4 rfl rfl)
theorem dX0_copy_52 : decode cX0_copy 52 = .ok (.astore 6, 2) := dk_58 6 (dk_at dksX0_copy_2 5 rfl rfl)
theorem dX0_copy_54 : decode cX0_copy 54 = .ok (.bipush (-12), 2) := dk_16 244 (dk_at dksX0_copy_2 7 rfl rfl)
theorem dX0_copy_56 : decode cX0_copy 56 = .ok (.ireturn, 1) := dk_172 (dk_at dksX0_copy_2 9 rfl rfl)
theorem dX0_copy_57 : decode cX0_copy 57 = .ok (.astore 6, 2) := dk_58 6 (dk_at dksX0_copy_2 10 rfl rfl)
theorem dX0_copy_59 : decode cX0_copy 59 = .ok (.bipush (-13), 2) := dk_16 243 (dk_at dksX0_copy_2 12 rfl rfl)
theorem dX0_copy_61 : decode cX0_copy 61 = .ok (.ireturn, 1) := dk_172 (dk_at dksX0_copy_2 14 rfl rfl)
theorem dX0_copy_62 : decode cX0_copy 62 = .ok (.iload 5, 2) := dk_21 5 (dk_at dksX0_copy_2 15 rfl rfl)
theorem dX0_copy_64 : decode cX0_copy 64 = .ok (.ireturn, 1) := dk_172 (dk_at dksX0_copy_2 17 rfl rfl)
theorem q54 : (Jvm.Cond.initialized "BattleBench") ∈ lw_all := lw_g (lw_at lw_m1 1 rfl) rfl
theorem q78 : (Jvm.Cond.instantiable "BattleBench" (18 : Nat)) ∈ lw_all := lw_g (lw_at lw_m1 25 rfl) rfl
theorem q80 : (Jvm.Cond.instanceMethod ({ cls := "BattleBench", name := "<init>", desc := "()V" } : Jvm.MethodName)) ∈ lw_all := lw_g (lw_at lw_m1 27 rfl) rfl
theorem q81 : (Jvm.Cond.code ({ cls := "BattleBench", name := "<init>", desc := "()V" } : Jvm.MethodName) prog_1_method_3_code (2 : Nat) (Option.none : Option Jvm.ClassFile.FieldType)) ∈ lw_all := lw_g (lw_at lw_m1 28 rfl) rfl
theorem q82 : (Jvm.Cond.methodLink "BattleBench" (1 : Nat) ({ cls := "java/lang/Object", name := "<init>", desc := "()V" } : Jvm.MethodName)) ∈ lw_all := lw_g (lw_at lw_m1 29 rfl) rfl
theorem q85 : (Jvm.Cond.classLink "BattleBench" (7 : Nat) "BattleBench$Plain") ∈ lw_all := lw_g (lw_at lw_m1 32 rfl) rfl
theorem q88 : (Jvm.Cond.methodLinkNest "BattleBench" (9 : Nat) ({ cls := "BattleBench$Plain", name := "<init>", desc := "()V" } : Jvm.MethodName) "BattleBench") ∈ lw_tbl := lw_at lw_m1 35 rfl
theorem q93 : (Jvm.Cond.classLink "BattleBench" (10 : Nat) "BattleBench$Hale") ∈ lw_all := lw_g (lw_at lw_m1 40 rfl) rfl
theorem q95 : (Jvm.Cond.methodLinkNest "BattleBench" (12 : Nat) ({ cls := "BattleBench$Hale", name := "<init>", desc := "()V" } : Jvm.MethodName) "BattleBench") ∈ lw_tbl := lw_at lw_m1 42 rfl
theorem q100 : (Jvm.Cond.classLink "BattleBench" (13 : Nat) "BattleBench$Hurt") ∈ lw_all := lw_g (lw_at lw_m1 47 rfl) rfl
theorem q102 : (Jvm.Cond.methodLinkNest "BattleBench" (15 : Nat) ({ cls := "BattleBench$Hurt", name := "<init>", desc := "()V" } : Jvm.MethodName) "BattleBench") ∈ lw_tbl := lw_at lw_m1 49 rfl
theorem q107 : (Jvm.Cond.classLink "BattleBench" (16 : Nat) "BattleBench$Drummer") ∈ lw_all := lw_g (lw_at lw_m1 54 rfl) rfl
theorem q109 : (Jvm.Cond.methodLinkNest "BattleBench" (18 : Nat) ({ cls := "BattleBench$Drummer", name := "<init>", desc := "()V" } : Jvm.MethodName) "BattleBench") ∈ lw_tbl := lw_at lw_m1 56 rfl
theorem q114 : (Jvm.Cond.classLink "BattleBench" (19 : Nat) "BattleBench$Runner") ∈ lw_all := lw_g (lw_at lw_m1 61 rfl) rfl
theorem q116 : (Jvm.Cond.methodLinkNest "BattleBench" (21 : Nat) ({ cls := "BattleBench$Runner", name := "<init>", desc := "()V" } : Jvm.MethodName) "BattleBench") ∈ lw_tbl := lw_at lw_m1 63 rfl
theorem q121 : (Jvm.Cond.classLink "BattleBench" (28 : Nat) "BattleBench$Bench") ∈ lw_all := lw_g (lw_at lw_m1 68 rfl) rfl
theorem q123 : (Jvm.Cond.methodLinkNest "BattleBench" (30 : Nat) ({ cls := "BattleBench$Bench", name := "<init>", desc := "()V" } : Jvm.MethodName) "BattleBench") ∈ lw_tbl := lw_at lw_m1 70 rfl
theorem q128 : (Jvm.Cond.fieldLinkNest "BattleBench" (126 : Nat) "BattleBench$Bench" "ofKind" "[I" "BattleBench") ∈ lw_tbl := lw_at lw_m1 75 rfl
theorem q130 : (Jvm.Cond.fieldLinkNest "BattleBench" (100 : Nat) "BattleBench$Bench" "places" "[I" "BattleBench") ∈ lw_tbl := lw_at lw_m1 77 rfl
theorem q132 : (Jvm.Cond.fieldLinkNest "BattleBench" (133 : Nat) "BattleBench$Bench" "lives" "[I" "BattleBench") ∈ lw_tbl := lw_at lw_m1 79 rfl
theorem q134 : (Jvm.Cond.fieldLinkNest "BattleBench" (148 : Nat) "BattleBench$Bench" "seats" "[I" "BattleBench") ∈ lw_tbl := lw_at lw_m1 81 rfl
theorem q136 : (Jvm.Cond.fieldLinkNest "BattleBench" (83 : Nat) "BattleBench$Bench" "men" "I" "BattleBench") ∈ lw_tbl := lw_at lw_m1 83 rfl
theorem q138 : (Jvm.Cond.fieldLinkNest "BattleBench" (145 : Nat) "BattleBench$Bench" "many" "I" "BattleBench") ∈ lw_tbl := lw_at lw_m1 85 rfl
theorem q141 : (Jvm.Cond.fieldLinkNest "BattleBench" (210 : Nat) "BattleBench$Bench" "year" "I" "BattleBench") ∈ lw_tbl := lw_at lw_m1 88 rfl
theorem q143 : (Jvm.Cond.fieldLinkNest "BattleBench" (79 : Nat) "BattleBench$Bench" "draw" "I" "BattleBench") ∈ lw_tbl := lw_at lw_m1 90 rfl
theorem q162 : (Jvm.Cond.classLink "BattleBench" (35 : Nat) "BattleBench$Fault") ∈ lw_all := lw_g (lw_at lw_m1 109 rfl) rfl
theorem q217 : (Jvm.Cond.methodLink "BattleBench" (37 : Nat) ({ cls := "BattleBench$Fault", name := "<init>", desc := "()V" } : Jvm.MethodName)) ∈ lw_all := lw_g (lw_at lw_m1 164 rfl) rfl
theorem q226 : (Jvm.Cond.fieldLinkNest "BattleBench" (165 : Nat) "BattleBench$Fault" "place" "I" "BattleBench") ∈ lw_tbl := lw_at lw_m1 173 rfl
theorem q243 : (Jvm.Cond.classLink "BattleBench" (72 : Nat) "BattleBench$Sheet") ∈ lw_all := lw_g (lw_at lw_m1 190 rfl) rfl
theorem q246 : (Jvm.Cond.methodLinkNest "BattleBench" (78 : Nat) ({ cls := "BattleBench$Sheet", name := "<init>", desc := "()V" } : Jvm.MethodName) "BattleBench") ∈ lw_tbl := lw_at lw_m1 193 rfl
theorem q251 : (Jvm.Cond.fieldLinkNest "BattleBench" (315 : Nat) "BattleBench$Sheet" "row" "Ljava/lang/Object;" "BattleBench") ∈ lw_tbl := lw_at lw_m1 198 rfl
theorem q256 : (Jvm.Cond.fieldLink "BattleBench" (22 : Nat) "BattleBench" "kinds" "[LBattleBench$Plain;") ∈ lw_all := lw_g (lw_at lw_m1 203 rfl) rfl
theorem q257 : (Jvm.Cond.fieldLink "BattleBench" (31 : Nat) "BattleBench" "now" "LBattleBench$Bench;") ∈ lw_all := lw_g (lw_at lw_m1 204 rfl) rfl
theorem q258 : (Jvm.Cond.fieldLink "BattleBench" (38 : Nat) "BattleBench" "fault" "LBattleBench$Fault;") ∈ lw_all := lw_g (lw_at lw_m1 205 rfl) rfl
theorem q259 : (Jvm.Cond.fieldLink "BattleBench" (42 : Nat) "BattleBench" "tape" "[C") ∈ lw_all := lw_g (lw_at lw_m1 206 rfl) rfl
theorem q260 : (Jvm.Cond.fieldLink "BattleBench" (155 : Nat) "BattleBench" "taped" "I") ∈ lw_all := lw_g (lw_at lw_m1 207 rfl) rfl
theorem q261 : (Jvm.Cond.fieldLink "BattleBench" (158 : Nat) "BattleBench" "reads" "I") ∈ lw_all := lw_g (lw_at lw_m1 208 rfl) rfl
theorem q262 : (Jvm.Cond.fieldLink "BattleBench" (46 : Nat) "BattleBench" "got" "LBattleBench$Bench;") ∈ lw_all := lw_g (lw_at lw_m1 209 rfl) rfl
theorem q263 : (Jvm.Cond.fieldLink "BattleBench" (49 : Nat) "BattleBench" "failing" "[I") ∈ lw_all := lw_g (lw_at lw_m1 210 rfl) rfl
theorem q264 : (Jvm.Cond.fieldLink "BattleBench" (53 : Nat) "BattleBench" "past" "[LBattleBench$Bench;") ∈ lw_all := lw_g (lw_at lw_m1 211 rfl) rfl
theorem q265 : (Jvm.Cond.fieldLink "BattleBench" (107 : Nat) "BattleBench" "undoMany" "I") ∈ lw_all := lw_g (lw_at lw_m1 212 rfl) rfl
theorem q266 : (Jvm.Cond.fieldLink "BattleBench" (57 : Nat) "BattleBench" "aside" "LBattleBench$Bench;") ∈ lw_all := lw_g (lw_at lw_m1 213 rfl) rfl
theorem q267 : (Jvm.Cond.fieldLink "BattleBench" (60 : Nat) "BattleBench" "best" "[I") ∈ lw_all := lw_g (lw_at lw_m1 214 rfl) rfl
theorem q268 : (Jvm.Cond.fieldLink "BattleBench" (63 : Nat) "BattleBench" "tried" "LBattleBench$Bench;") ∈ lw_all := lw_g (lw_at lw_m1 215 rfl) rfl
theorem q269 : (Jvm.Cond.fieldLink "BattleBench" (66 : Nat) "BattleBench" "kept" "LBattleBench$Bench;") ∈ lw_all := lw_g (lw_at lw_m1 216 rfl) rfl
theorem q270 : (Jvm.Cond.fieldLink "BattleBench" (69 : Nat) "BattleBench" "keptPast" "[LBattleBench$Bench;") ∈ lw_all := lw_g (lw_at lw_m1 217 rfl) rfl
theorem q271 : (Jvm.Cond.fieldLink "BattleBench" (306 : Nat) "BattleBench" "keptMany" "I") ∈ lw_all := lw_g (lw_at lw_m1 218 rfl) rfl
theorem q272 : (Jvm.Cond.fieldLink "BattleBench" (309 : Nat) "BattleBench" "isKept" "Z") ∈ lw_all := lw_g (lw_at lw_m1 219 rfl) rfl
theorem q273 : (Jvm.Cond.fieldLink "BattleBench" (74 : Nat) "BattleBench" "sheets" "[LBattleBench$Sheet;") ∈ lw_all := lw_g (lw_at lw_m1 220 rfl) rfl
theorem q274 : (Jvm.Cond.laysFinal "BattleBench" "BattleBench" "kinds" "[LBattleBench$Plain;") ∈ lw_all := lw_g (lw_at lw_m1 221 rfl) rfl
theorem q275 : (Jvm.Cond.soleField "BattleBench" "kinds") ∈ lw_all := lw_g (lw_at lw_m1 222 rfl) rfl
theorem q276 : (Jvm.Cond.laysFinal "BattleBench" "BattleBench" "now" "LBattleBench$Bench;") ∈ lw_all := lw_g (lw_at lw_m1 223 rfl) rfl
theorem q277 : (Jvm.Cond.soleField "BattleBench" "now") ∈ lw_all := lw_g (lw_at lw_m1 224 rfl) rfl
theorem q278 : (Jvm.Cond.laysFinal "BattleBench" "BattleBench" "fault" "LBattleBench$Fault;") ∈ lw_all := lw_g (lw_at lw_m1 225 rfl) rfl
theorem q279 : (Jvm.Cond.soleField "BattleBench" "fault") ∈ lw_all := lw_g (lw_at lw_m1 226 rfl) rfl
theorem q280 : (Jvm.Cond.laysFinal "BattleBench" "BattleBench" "tape" "[C") ∈ lw_all := lw_g (lw_at lw_m1 227 rfl) rfl
theorem q281 : (Jvm.Cond.soleField "BattleBench" "tape") ∈ lw_all := lw_g (lw_at lw_m1 228 rfl) rfl
theorem q282 : (Jvm.Cond.lays "BattleBench" "BattleBench" "taped" "I") ∈ lw_all := lw_g (lw_at lw_m1 229 rfl) rfl
theorem q283 : (Jvm.Cond.soleField "BattleBench" "taped") ∈ lw_all := lw_g (lw_at lw_m1 230 rfl) rfl
theorem q284 : (Jvm.Cond.lays "BattleBench" "BattleBench" "reads" "I") ∈ lw_all := lw_g (lw_at lw_m1 231 rfl) rfl
theorem q285 : (Jvm.Cond.soleField "BattleBench" "reads") ∈ lw_all := lw_g (lw_at lw_m1 232 rfl) rfl
theorem q286 : (Jvm.Cond.laysFinal "BattleBench" "BattleBench" "got" "LBattleBench$Bench;") ∈ lw_all := lw_g (lw_at lw_m1 233 rfl) rfl
theorem q287 : (Jvm.Cond.soleField "BattleBench" "got") ∈ lw_all := lw_g (lw_at lw_m1 234 rfl) rfl
theorem q288 : (Jvm.Cond.laysFinal "BattleBench" "BattleBench" "failing" "[I") ∈ lw_all := lw_g (lw_at lw_m1 235 rfl) rfl
theorem q289 : (Jvm.Cond.soleField "BattleBench" "failing") ∈ lw_all := lw_g (lw_at lw_m1 236 rfl) rfl
theorem q290 : (Jvm.Cond.laysFinal "BattleBench" "BattleBench" "past" "[LBattleBench$Bench;") ∈ lw_all := lw_g (lw_at lw_m1 237 rfl) rfl
theorem q291 : (Jvm.Cond.soleField "BattleBench" "past") ∈ lw_all := lw_g (lw_at lw_m1 238 rfl) rfl
theorem q292 : (Jvm.Cond.lays "BattleBench" "BattleBench" "undoMany" "I") ∈ lw_all := lw_g (lw_at lw_m1 239 rfl) rfl
theorem q293 : (Jvm.Cond.soleField "BattleBench" "undoMany") ∈ lw_all := lw_g (lw_at lw_m2 0 rfl) rfl
theorem q294 : (Jvm.Cond.laysFinal "BattleBench" "BattleBench" "aside" "LBattleBench$Bench;") ∈ lw_all := lw_g (lw_at lw_m2 1 rfl) rfl
theorem q295 : (Jvm.Cond.soleField "BattleBench" "aside") ∈ lw_all := lw_g (lw_at lw_m2 2 rfl) rfl
theorem q296 : (Jvm.Cond.laysFinal "BattleBench" "BattleBench" "best" "[I") ∈ lw_all := lw_g (lw_at lw_m2 3 rfl) rfl
theorem q297 : (Jvm.Cond.soleField "BattleBench" "best") ∈ lw_all := lw_g (lw_at lw_m2 4 rfl) rfl
theorem q298 : (Jvm.Cond.laysFinal "BattleBench" "BattleBench" "tried" "LBattleBench$Bench;") ∈ lw_all := lw_g (lw_at lw_m2 5 rfl) rfl
theorem q299 : (Jvm.Cond.soleField "BattleBench" "tried") ∈ lw_all := lw_g (lw_at lw_m2 6 rfl) rfl
theorem q300 : (Jvm.Cond.laysFinal "BattleBench" "BattleBench" "kept" "LBattleBench$Bench;") ∈ lw_all := lw_g (lw_at lw_m2 7 rfl) rfl
theorem q301 : (Jvm.Cond.soleField "BattleBench" "kept") ∈ lw_all := lw_g (lw_at lw_m2 8 rfl) rfl
theorem q302 : (Jvm.Cond.laysFinal "BattleBench" "BattleBench" "keptPast" "[LBattleBench$Bench;") ∈ lw_all := lw_g (lw_at lw_m2 9 rfl) rfl
theorem q303 : (Jvm.Cond.soleField "BattleBench" "keptPast") ∈ lw_all := lw_g (lw_at lw_m2 10 rfl) rfl
theorem q304 : (Jvm.Cond.lays "BattleBench" "BattleBench" "keptMany" "I") ∈ lw_all := lw_g (lw_at lw_m2 11 rfl) rfl
theorem q305 : (Jvm.Cond.soleField "BattleBench" "keptMany") ∈ lw_all := lw_g (lw_at lw_m2 12 rfl) rfl
theorem q306 : (Jvm.Cond.lays "BattleBench" "BattleBench" "isKept" "Z") ∈ lw_all := lw_g (lw_at lw_m2 13 rfl) rfl
theorem q307 : (Jvm.Cond.soleField "BattleBench" "isKept") ∈ lw_all := lw_g (lw_at lw_m2 14 rfl) rfl
theorem q308 : (Jvm.Cond.laysFinal "BattleBench" "BattleBench" "sheets" "[LBattleBench$Sheet;") ∈ lw_all := lw_g (lw_at lw_m2 15 rfl) rfl
theorem q309 : (Jvm.Cond.soleField "BattleBench" "sheets") ∈ lw_all := lw_g (lw_at lw_m2 16 rfl) rfl
theorem q310 : (Jvm.Cond.superclass "BattleBench" "java/lang/Object") ∈ lw_all := lw_g (lw_at lw_m2 17 rfl) rfl
theorem q312 : (Jvm.Cond.instanceMethod ({ cls := "BattleBench", name := "man", desc := "(II)I" } : Jvm.MethodName)) ∈ lw_all := lw_g (lw_at lw_m2 19 rfl) rfl
theorem q313 : (Jvm.Cond.selects "BattleBench" ({ cls := "BattleBench", name := "man", desc := "(II)I" } : Jvm.MethodName) ({ cls := "BattleBench", name := "man", desc := "(II)I" } : Jvm.MethodName)) ∈ lw_all := lw_g (lw_at lw_m2 20 rfl) rfl
theorem q314 : (Jvm.Cond.code ({ cls := "BattleBench", name := "man", desc := "(II)I" } : Jvm.MethodName) prog_1_method_7_code (4 : Nat) (Option.some Jvm.ClassFile.FieldType.int)) ∈ lw_all := lw_g (lw_at lw_m2 21 rfl) rfl
theorem q315 : (Jvm.Cond.constantLong "BattleBench" (92 : Nat) (4 : Int64)) ∈ lw_all := lw_g (lw_at lw_m2 22 rfl) rfl
theorem q316 : (Jvm.Cond.methodLink "BattleBench" (86 : Nat) ({ cls := "BattleBench", name := "isIn", desc := "(JJJ)Z" } : Jvm.MethodName)) ∈ lw_all := lw_g (lw_at lw_m2 23 rfl) rfl
theorem q317 : (Jvm.Cond.static ({ cls := "BattleBench", name := "isIn", desc := "(JJJ)Z" } : Jvm.MethodName)) ∈ lw_all := lw_g (lw_at lw_m2 24 rfl) rfl
theorem q318 : (Jvm.Cond.code ({ cls := "BattleBench", name := "isIn", desc := "(JJJ)Z" } : Jvm.MethodName) prog_1_method_1_code (6 : Nat) (Option.some Jvm.ClassFile.FieldType.boolean)) ∈ lw_all := lw_g (lw_at lw_m2 25 rfl) rfl
theorem q319 : (Jvm.Cond.constantLong "BattleBench" (94 : Nat) (60 : Int64)) ∈ lw_all := lw_g (lw_at lw_m2 26 rfl) rfl
theorem q320 : (Jvm.Cond.methodLink "BattleBench" (96 : Nat) ({ cls := "BattleBench$Bench", name := "manAt", desc := "(II)I" } : Jvm.MethodName)) ∈ lw_all := lw_g (lw_at lw_m2 27 rfl) rfl
theorem q328 : (Jvm.Cond.methodLink "BattleBench" (103 : Nat) ({ cls := "BattleBench$Bench", name := "add", desc := "(II)V" } : Jvm.MethodName)) ∈ lw_all := lw_g (lw_at lw_m2 35 rfl) rfl
theorem q333 : (Jvm.Cond.instanceMethod ({ cls := "BattleBench", name := "stood", desc := "(III)I" } : Jvm.MethodName)) ∈ lw_all := lw_g (lw_at lw_m2 40 rfl) rfl
theorem q334 : (Jvm.Cond.selects "BattleBench" ({ cls := "BattleBench", name := "stood", desc := "(III)I" } : Jvm.MethodName) ({ cls := "BattleBench", name := "stood", desc := "(III)I" } : Jvm.MethodName)) ∈ lw_all := lw_g (lw_at lw_m2 41 rfl) rfl
theorem q335 : (Jvm.Cond.code ({ cls := "BattleBench", name := "stood", desc := "(III)I" } : Jvm.MethodName) prog_1_method_8_code (5 : Nat) (Option.some Jvm.ClassFile.FieldType.int)) ∈ lw_all := lw_g (lw_at lw_m2 42 rfl) rfl
theorem q336 : (Jvm.Cond.methodLink "BattleBench" (110 : Nat) ({ cls := "BattleBench", name := "isMan", desc := "(I)Z" } : Jvm.MethodName)) ∈ lw_all := lw_g (lw_at lw_m2 43 rfl) rfl
theorem q337 : (Jvm.Cond.privateMethod ({ cls := "BattleBench", name := "isMan", desc := "(I)Z" } : Jvm.MethodName)) ∈ lw_tbl := lw_at lw_m2 44 rfl
theorem q338 : (Jvm.Cond.instanceMethod ({ cls := "BattleBench", name := "isMan", desc := "(I)Z" } : Jvm.MethodName)) ∈ lw_all := lw_g (lw_at lw_m2 45 rfl) rfl
theorem q339 : (Jvm.Cond.code ({ cls := "BattleBench", name := "isMan", desc := "(I)Z" } : Jvm.MethodName) prog_1_method_4_code (2 : Nat) (Option.some Jvm.ClassFile.FieldType.boolean)) ∈ lw_all := lw_g (lw_at lw_m2 46 rfl) rfl
theorem q340 : (Jvm.Cond.methodLink "BattleBench" (114 : Nat) ({ cls := "BattleBench", name := "isHour", desc := "(I)Z" } : Jvm.MethodName)) ∈ lw_all := lw_g (lw_at lw_m2 47 rfl) rfl
theorem q341 : (Jvm.Cond.static ({ cls := "BattleBench", name := "isHour", desc := "(I)Z" } : Jvm.MethodName)) ∈ lw_all := lw_g (lw_at lw_m2 48 rfl) rfl
theorem q342 : (Jvm.Cond.code ({ cls := "BattleBench", name := "isHour", desc := "(I)Z" } : Jvm.MethodName) prog_1_method_5_code (1 : Nat) (Option.some Jvm.ClassFile.FieldType.boolean)) ∈ lw_all := lw_g (lw_at lw_m2 49 rfl) rfl
theorem q343 : (Jvm.Cond.constantLong "BattleBench" (90 : Nat) (2 : Int64)) ∈ lw_all := lw_g (lw_at lw_m2 50 rfl) rfl
theorem q344 : (Jvm.Cond.constantLong "BattleBench" (117 : Nat) (9 : Int64)) ∈ lw_all := lw_g (lw_at lw_m2 51 rfl) rfl
theorem q345 : (Jvm.Cond.methodLink "BattleBench" (119 : Nat) ({ cls := "BattleBench$Bench", name := "placeOf", desc := "(II)I" } : Jvm.MethodName)) ∈ lw_all := lw_g (lw_at lw_m2 52 rfl) rfl
theorem q347 : (Jvm.Cond.instanceMethod ({ cls := "BattleBench", name := "of", desc := "(II)I" } : Jvm.MethodName)) ∈ lw_all := lw_g (lw_at lw_m2 54 rfl) rfl
theorem q348 : (Jvm.Cond.selects "BattleBench" ({ cls := "BattleBench", name := "of", desc := "(II)I" } : Jvm.MethodName) ({ cls := "BattleBench", name := "of", desc := "(II)I" } : Jvm.MethodName)) ∈ lw_all := lw_g (lw_at lw_m2 55 rfl) rfl
theorem q349 : (Jvm.Cond.code ({ cls := "BattleBench", name := "of", desc := "(II)I" } : Jvm.MethodName) prog_1_method_10_code (3 : Nat) (Option.some Jvm.ClassFile.FieldType.int)) ∈ lw_all := lw_g (lw_at lw_m2 56 rfl) rfl
theorem q350 : (Jvm.Cond.methodLink "BattleBench" (122 : Nat) ({ cls := "BattleBench$Bench", name := "seatOf", desc := "(I)I" } : Jvm.MethodName)) ∈ lw_all := lw_g (lw_at lw_m2 57 rfl) rfl
theorem q354 : (Jvm.Cond.methodLink "BattleBench" (136 : Nat) ({ cls := "BattleBench$Bench", name := "stoodSet", desc := "(I)I" } : Jvm.MethodName)) ∈ lw_all := lw_g (lw_at lw_m2 61 rfl) rfl
theorem q373 : (Jvm.Cond.methodLink "BattleBench" (139 : Nat) ({ cls := "BattleBench$Bench", name := "sitSet", desc := "(I)I" } : Jvm.MethodName)) ∈ lw_all := lw_g (lw_at lw_m2 80 rfl) rfl
theorem q378 : (Jvm.Cond.methodLink "BattleBench" (142 : Nat) ({ cls := "BattleBench", name := "failsOf", desc := "(I)I" } : Jvm.MethodName)) ∈ lw_all := lw_g (lw_at lw_m2 85 rfl) rfl
theorem q379 : (Jvm.Cond.privateMethod ({ cls := "BattleBench", name := "failsOf", desc := "(I)I" } : Jvm.MethodName)) ∈ lw_tbl := lw_at lw_m2 86 rfl
theorem q380 : (Jvm.Cond.instanceMethod ({ cls := "BattleBench", name := "failsOf", desc := "(I)I" } : Jvm.MethodName)) ∈ lw_all := lw_g (lw_at lw_m2 87 rfl) rfl
theorem q381 : (Jvm.Cond.code ({ cls := "BattleBench", name := "failsOf", desc := "(I)I" } : Jvm.MethodName) prog_1_method_9_code (2 : Nat) (Option.some Jvm.ClassFile.FieldType.int)) ∈ lw_all := lw_g (lw_at lw_m2 88 rfl) rfl
theorem q382 : (Jvm.Cond.methodLink "BattleBench" (129 : Nat) ({ cls := "BattleBench$Plain", name := "fails", desc := "(LBattleBench$Bench;I)I" } : Jvm.MethodName)) ∈ lw_all := lw_g (lw_at lw_m2 89 rfl) rfl
theorem q417 : (Jvm.Cond.instanceMethod ({ cls := "BattleBench", name := "seat", desc := "(I)I" } : Jvm.MethodName)) ∈ lw_all := lw_g (lw_at lw_m2 124 rfl) rfl
theorem q418 : (Jvm.Cond.selects "BattleBench" ({ cls := "BattleBench", name := "seat", desc := "(I)I" } : Jvm.MethodName) ({ cls := "BattleBench", name := "seat", desc := "(I)I" } : Jvm.MethodName)) ∈ lw_all := lw_g (lw_at lw_m2 125 rfl) rfl
theorem q419 : (Jvm.Cond.code ({ cls := "BattleBench", name := "seat", desc := "(I)I" } : Jvm.MethodName) prog_1_method_11_code (2 : Nat) (Option.some Jvm.ClassFile.FieldType.int)) ∈ lw_all := lw_g (lw_at lw_m2 126 rfl) rfl
theorem q421 : (Jvm.Cond.instanceMethod ({ cls := "BattleBench", name := "type", desc := "(I)I" } : Jvm.MethodName)) ∈ lw_all := lw_g (lw_at lw_m2 128 rfl) rfl
theorem q422 : (Jvm.Cond.selects "BattleBench" ({ cls := "BattleBench", name := "type", desc := "(I)I" } : Jvm.MethodName) ({ cls := "BattleBench", name := "type", desc := "(I)I" } : Jvm.MethodName)) ∈ lw_all := lw_g (lw_at lw_m2 129 rfl) rfl
theorem q423 : (Jvm.Cond.code ({ cls := "BattleBench", name := "type", desc := "(I)I" } : Jvm.MethodName) prog_1_method_12_code (2 : Nat) (Option.some Jvm.ClassFile.FieldType.int)) ∈ lw_all := lw_g (lw_at lw_m2 130 rfl) rfl
theorem q424 : (Jvm.Cond.constantLong "BattleBench" (151 : Nat) (32 : Int64)) ∈ lw_all := lw_g (lw_at lw_m2 131 rfl) rfl
theorem q425 : (Jvm.Cond.constantLong "BattleBench" (153 : Nat) (126 : Int64)) ∈ lw_all := lw_g (lw_at lw_m2 132 rfl) rfl
theorem q427 : (Jvm.Cond.instanceMethod ({ cls := "BattleBench", name := "read", desc := "()I" } : Jvm.MethodName)) ∈ lw_all := lw_g (lw_at lw_m2 134 rfl) rfl
theorem q428 : (Jvm.Cond.selects "BattleBench" ({ cls := "BattleBench", name := "read", desc := "()I" } : Jvm.MethodName) ({ cls := "BattleBench", name := "read", desc := "()I" } : Jvm.MethodName)) ∈ lw_all := lw_g (lw_at lw_m2 135 rfl) rfl
theorem q429 : (Jvm.Cond.codeWith ({ cls := "BattleBench", name := "read", desc := "()I" } : Jvm.MethodName) prog_1_method_22_code (2 : Nat) (Option.some Jvm.ClassFile.FieldType.int) [((0 : Nat), (4 : Nat), (7 : Nat), (35 : Nat))]) ∈ lw_all := lw_g (lw_at lw_m2 136 rfl) rfl
theorem q430 : (Jvm.Cond.methodLink "BattleBench" (203 : Nat) ({ cls := "BattleBench", name := "readBench", desc := "()V" } : Jvm.MethodName)) ∈ lw_all := lw_g (lw_at lw_m2 137 rfl) rfl
theorem q431 : (Jvm.Cond.privateMethod ({ cls := "BattleBench", name := "readBench", desc := "()V" } : Jvm.MethodName)) ∈ lw_tbl := lw_at lw_m2 138 rfl
theorem q432 : (Jvm.Cond.instanceMethod ({ cls := "BattleBench", name := "readBench", desc := "()V" } : Jvm.MethodName)) ∈ lw_all := lw_g (lw_at lw_m2 139 rfl) rfl
theorem q433 : (Jvm.Cond.code ({ cls := "BattleBench", name := "readBench", desc := "()V" } : Jvm.MethodName) prog_1_method_21_code (1 : Nat) (Option.none : Option Jvm.ClassFile.FieldType)) ∈ lw_all := lw_g (lw_at lw_m2 140 rfl) rfl
theorem q434 : (Jvm.Cond.methodLink "BattleBench" (193 : Nat) ({ cls := "BattleBench$Bench", name := "takeFrom", desc := "(LBattleBench$Bench;)V" } : Jvm.MethodName)) ∈ lw_all := lw_g (lw_at lw_m2 141 rfl) rfl
theorem q445 : (Jvm.Cond.methodLink "BattleBench" (197 : Nat) ({ cls := "BattleBench$Bench", name := "begin", desc := "()V" } : Jvm.MethodName)) ∈ lw_all := lw_g (lw_at lw_m2 152 rfl) rfl
theorem q449 : (Jvm.Cond.methodLink "BattleBench" (200 : Nat) ({ cls := "BattleBench", name := "readMan", desc := "()V" } : Jvm.MethodName)) ∈ lw_all := lw_g (lw_at lw_m2 156 rfl) rfl
theorem q450 : (Jvm.Cond.privateMethod ({ cls := "BattleBench", name := "readMan", desc := "()V" } : Jvm.MethodName)) ∈ lw_tbl := lw_at lw_m2 157 rfl
theorem q451 : (Jvm.Cond.instanceMethod ({ cls := "BattleBench", name := "readMan", desc := "()V" } : Jvm.MethodName)) ∈ lw_all := lw_g (lw_at lw_m2 158 rfl) rfl
theorem q452 : (Jvm.Cond.code ({ cls := "BattleBench", name := "readMan", desc := "()V" } : Jvm.MethodName) prog_1_method_20_code (6 : Nat) (Option.none : Option Jvm.ClassFile.FieldType)) ∈ lw_all := lw_g (lw_at lw_m2 159 rfl) rfl
theorem q453 : (Jvm.Cond.methodLink "BattleBench" (161 : Nat) ({ cls := "BattleBench", name := "nextLetter", desc := "()I" } : Jvm.MethodName)) ∈ lw_all := lw_g (lw_at lw_m2 160 rfl) rfl
theorem q454 : (Jvm.Cond.privateMethod ({ cls := "BattleBench", name := "nextLetter", desc := "()I" } : Jvm.MethodName)) ∈ lw_tbl := lw_at lw_m2 161 rfl
theorem q455 : (Jvm.Cond.instanceMethod ({ cls := "BattleBench", name := "nextLetter", desc := "()I" } : Jvm.MethodName)) ∈ lw_all := lw_g (lw_at lw_m2 162 rfl) rfl
theorem q456 : (Jvm.Cond.code ({ cls := "BattleBench", name := "nextLetter", desc := "()I" } : Jvm.MethodName) prog_1_method_13_code (1 : Nat) (Option.some Jvm.ClassFile.FieldType.int)) ∈ lw_all := lw_g (lw_at lw_m2 163 rfl) rfl
theorem q457 : (Jvm.Cond.methodLink "BattleBench" (180 : Nat) ({ cls := "BattleBench", name := "kindBy", desc := "(I)I" } : Jvm.MethodName)) ∈ lw_all := lw_g (lw_at lw_m2 164 rfl) rfl
theorem q458 : (Jvm.Cond.static ({ cls := "BattleBench", name := "kindBy", desc := "(I)I" } : Jvm.MethodName)) ∈ lw_all := lw_g (lw_at lw_m2 165 rfl) rfl
theorem q459 : (Jvm.Cond.code ({ cls := "BattleBench", name := "kindBy", desc := "(I)I" } : Jvm.MethodName) prog_1_method_18_code (1 : Nat) (Option.some Jvm.ClassFile.FieldType.int)) ∈ lw_all := lw_g (lw_at lw_m2 166 rfl) rfl
theorem q460 : (Jvm.Cond.methodLink "BattleBench" (172 : Nat) ({ cls := "BattleBench", name := "wrong", desc := "()LBattleBench$Fault;" } : Jvm.MethodName)) ∈ lw_all := lw_g (lw_at lw_m2 167 rfl) rfl
theorem q461 : (Jvm.Cond.privateMethod ({ cls := "BattleBench", name := "wrong", desc := "()LBattleBench$Fault;" } : Jvm.MethodName)) ∈ lw_tbl := lw_at lw_m2 168 rfl
theorem q462 : (Jvm.Cond.instanceMethod ({ cls := "BattleBench", name := "wrong", desc := "()LBattleBench$Fault;" } : Jvm.MethodName)) ∈ lw_all := lw_g (lw_at lw_m2 169 rfl) rfl
theorem q463 : (Jvm.Cond.code ({ cls := "BattleBench", name := "wrong", desc := "()LBattleBench$Fault;" } : Jvm.MethodName) prog_1_method_14_code (1 : Nat) (Option.some (Jvm.ClassFile.FieldType.object "BattleBench$Fault"))) ∈ lw_all := lw_g (lw_at lw_m2 170 rfl) rfl
theorem q464 : (Jvm.Cond.methodLink "BattleBench" (183 : Nat) ({ cls := "BattleBench", name := "readLife", desc := "()I" } : Jvm.MethodName)) ∈ lw_all := lw_g (lw_at lw_m2 171 rfl) rfl
theorem q465 : (Jvm.Cond.privateMethod ({ cls := "BattleBench", name := "readLife", desc := "()I" } : Jvm.MethodName)) ∈ lw_tbl := lw_at lw_m2 172 rfl
theorem q466 : (Jvm.Cond.instanceMethod ({ cls := "BattleBench", name := "readLife", desc := "()I" } : Jvm.MethodName)) ∈ lw_all := lw_g (lw_at lw_m2 173 rfl) rfl
theorem q467 : (Jvm.Cond.code ({ cls := "BattleBench", name := "readLife", desc := "()I" } : Jvm.MethodName) prog_1_method_17_code (3 : Nat) (Option.some Jvm.ClassFile.FieldType.int)) ∈ lw_all := lw_g (lw_at lw_m2 174 rfl) rfl
theorem q468 : (Jvm.Cond.constantLong "BattleBench" (168 : Nat) (48 : Int64)) ∈ lw_all := lw_g (lw_at lw_m2 175 rfl) rfl
theorem q469 : (Jvm.Cond.constantLong "BattleBench" (170 : Nat) (57 : Int64)) ∈ lw_all := lw_g (lw_at lw_m2 176 rfl) rfl
theorem q470 : (Jvm.Cond.methodLink "BattleBench" (176 : Nat) ({ cls := "BattleBench", name := "wrongAt", desc := "(I)LBattleBench$Fault;" } : Jvm.MethodName)) ∈ lw_all := lw_g (lw_at lw_m2 177 rfl) rfl
theorem q471 : (Jvm.Cond.privateMethod ({ cls := "BattleBench", name := "wrongAt", desc := "(I)LBattleBench$Fault;" } : Jvm.MethodName)) ∈ lw_tbl := lw_at lw_m2 178 rfl
theorem q472 : (Jvm.Cond.instanceMethod ({ cls := "BattleBench", name := "wrongAt", desc := "(I)LBattleBench$Fault;" } : Jvm.MethodName)) ∈ lw_all := lw_g (lw_at lw_m2 179 rfl) rfl
theorem q473 : (Jvm.Cond.code ({ cls := "BattleBench", name := "wrongAt", desc := "(I)LBattleBench$Fault;" } : Jvm.MethodName) prog_1_method_15_code (2 : Nat) (Option.some (Jvm.ClassFile.FieldType.object "BattleBench$Fault"))) ∈ lw_all := lw_g (lw_at lw_m2 180 rfl) rfl
theorem q474 : (Jvm.Cond.methodLink "BattleBench" (186 : Nat) ({ cls := "BattleBench", name := "isSign", desc := "(I)Z" } : Jvm.MethodName)) ∈ lw_all := lw_g (lw_at lw_m2 181 rfl) rfl
theorem q475 : (Jvm.Cond.privateMethod ({ cls := "BattleBench", name := "isSign", desc := "(I)Z" } : Jvm.MethodName)) ∈ lw_tbl := lw_at lw_m2 182 rfl
theorem q476 : (Jvm.Cond.instanceMethod ({ cls := "BattleBench", name := "isSign", desc := "(I)Z" } : Jvm.MethodName)) ∈ lw_all := lw_g (lw_at lw_m2 183 rfl) rfl
theorem q477 : (Jvm.Cond.code ({ cls := "BattleBench", name := "isSign", desc := "(I)Z" } : Jvm.MethodName) prog_1_method_16_code (2 : Nat) (Option.some Jvm.ClassFile.FieldType.boolean)) ∈ lw_all := lw_g (lw_at lw_m2 184 rfl) rfl
theorem q478 : (Jvm.Cond.methodLink "BattleBench" (189 : Nat) ({ cls := "BattleBench", name := "readPlace", desc := "(I)V" } : Jvm.MethodName)) ∈ lw_all := lw_g (lw_at lw_m2 185 rfl) rfl
theorem q479 : (Jvm.Cond.privateMethod ({ cls := "BattleBench", name := "readPlace", desc := "(I)V" } : Jvm.MethodName)) ∈ lw_tbl := lw_at lw_m2 186 rfl
theorem q480 : (Jvm.Cond.instanceMethod ({ cls := "BattleBench", name := "readPlace", desc := "(I)V" } : Jvm.MethodName)) ∈ lw_all := lw_g (lw_at lw_m2 187 rfl) rfl
theorem q481 : (Jvm.Cond.code ({ cls := "BattleBench", name := "readPlace", desc := "(I)V" } : Jvm.MethodName) prog_1_method_19_code (3 : Nat) (Option.none : Option Jvm.ClassFile.FieldType)) ∈ lw_all := lw_g (lw_at lw_m2 188 rfl) rfl
theorem q483 : (Jvm.Cond.instanceMethod ({ cls := "BattleBench", name := "count", desc := "(I)I" } : Jvm.MethodName)) ∈ lw_all := lw_g (lw_at lw_m2 190 rfl) rfl
theorem q484 : (Jvm.Cond.selects "BattleBench" ({ cls := "BattleBench", name := "count", desc := "(I)I" } : Jvm.MethodName) ({ cls := "BattleBench", name := "count", desc := "(I)I" } : Jvm.MethodName)) ∈ lw_all := lw_g (lw_at lw_m2 191 rfl) rfl
theorem q485 : (Jvm.Cond.code ({ cls := "BattleBench", name := "count", desc := "(I)I" } : Jvm.MethodName) prog_1_method_25_code (2 : Nat) (Option.some Jvm.ClassFile.FieldType.int)) ∈ lw_all := lw_g (lw_at lw_m2 192 rfl) rfl
theorem q486 : (Jvm.Cond.methodLink "BattleBench" (213 : Nat) ({ cls := "BattleBench$Bench", name := "onBench", desc := "()I" } : Jvm.MethodName)) ∈ lw_all := lw_g (lw_at lw_m2 193 rfl) rfl
theorem q490 : (Jvm.Cond.methodLink "BattleBench" (216 : Nat) ({ cls := "BattleBench", name := "allLife", desc := "()I" } : Jvm.MethodName)) ∈ lw_all := lw_g (lw_at lw_m2 197 rfl) rfl
theorem q491 : (Jvm.Cond.privateMethod ({ cls := "BattleBench", name := "allLife", desc := "()I" } : Jvm.MethodName)) ∈ lw_tbl := lw_at lw_m2 198 rfl
theorem q492 : (Jvm.Cond.instanceMethod ({ cls := "BattleBench", name := "allLife", desc := "()I" } : Jvm.MethodName)) ∈ lw_all := lw_g (lw_at lw_m2 199 rfl) rfl
theorem q493 : (Jvm.Cond.code ({ cls := "BattleBench", name := "allLife", desc := "()I" } : Jvm.MethodName) prog_1_method_23_code (3 : Nat) (Option.some Jvm.ClassFile.FieldType.int)) ∈ lw_all := lw_g (lw_at lw_m2 200 rfl) rfl
theorem q494 : (Jvm.Cond.methodLink "BattleBench" (219 : Nat) ({ cls := "BattleBench", name := "wrongMany", desc := "()I" } : Jvm.MethodName)) ∈ lw_all := lw_g (lw_at lw_m2 201 rfl) rfl
theorem q495 : (Jvm.Cond.privateMethod ({ cls := "BattleBench", name := "wrongMany", desc := "()I" } : Jvm.MethodName)) ∈ lw_tbl := lw_at lw_m2 202 rfl
theorem q496 : (Jvm.Cond.instanceMethod ({ cls := "BattleBench", name := "wrongMany", desc := "()I" } : Jvm.MethodName)) ∈ lw_all := lw_g (lw_at lw_m2 203 rfl) rfl
theorem q497 : (Jvm.Cond.code ({ cls := "BattleBench", name := "wrongMany", desc := "()I" } : Jvm.MethodName) prog_1_method_24_code (3 : Nat) (Option.some Jvm.ClassFile.FieldType.int)) ∈ lw_all := lw_g (lw_at lw_m2 204 rfl) rfl
theorem q498 : (Jvm.Cond.methodLink "BattleBench" (206 : Nat) ({ cls := "BattleBench$Bench", name := "stoodBy", desc := "(II)Z" } : Jvm.MethodName)) ∈ lw_all := lw_g (lw_at lw_m2 205 rfl) rfl
theorem q500 : (Jvm.Cond.instanceMethod ({ cls := "BattleBench", name := "years", desc := "(I)I" } : Jvm.MethodName)) ∈ lw_all := lw_g (lw_at lw_m2 207 rfl) rfl
theorem q501 : (Jvm.Cond.selects "BattleBench" ({ cls := "BattleBench", name := "years", desc := "(I)I" } : Jvm.MethodName) ({ cls := "BattleBench", name := "years", desc := "(I)I" } : Jvm.MethodName)) ∈ lw_all := lw_g (lw_at lw_m2 208 rfl) rfl
theorem q502 : (Jvm.Cond.code ({ cls := "BattleBench", name := "years", desc := "(I)I" } : Jvm.MethodName) prog_1_method_29_code (4 : Nat) (Option.some Jvm.ClassFile.FieldType.int)) ∈ lw_all := lw_g (lw_at lw_m2 209 rfl) rfl
theorem q503 : (Jvm.Cond.methodLink "BattleBench" (241 : Nat) ({ cls := "BattleBench", name := "lacksTime", desc := "(I)I" } : Jvm.MethodName)) ∈ lw_all := lw_g (lw_at lw_m2 210 rfl) rfl
theorem q504 : (Jvm.Cond.privateMethod ({ cls := "BattleBench", name := "lacksTime", desc := "(I)I" } : Jvm.MethodName)) ∈ lw_tbl := lw_at lw_m2 211 rfl
theorem q505 : (Jvm.Cond.instanceMethod ({ cls := "BattleBench", name := "lacksTime", desc := "(I)I" } : Jvm.MethodName)) ∈ lw_all := lw_g (lw_at lw_m2 212 rfl) rfl
theorem q506 : (Jvm.Cond.code ({ cls := "BattleBench", name := "lacksTime", desc := "(I)I" } : Jvm.MethodName) prog_1_method_28_code (2 : Nat) (Option.some Jvm.ClassFile.FieldType.int)) ∈ lw_all := lw_g (lw_at lw_m2 213 rfl) rfl
theorem q507 : (Jvm.Cond.constantLong "BattleBench" (239 : Nat) (40 : Int64)) ∈ lw_all := lw_g (lw_at lw_m2 214 rfl) rfl
theorem q508 : (Jvm.Cond.methodLink "BattleBench" (244 : Nat) ({ cls := "BattleBench", name := "note", desc := "()V" } : Jvm.MethodName)) ∈ lw_all := lw_g (lw_at lw_m2 215 rfl) rfl
theorem q509 : (Jvm.Cond.privateMethod ({ cls := "BattleBench", name := "note", desc := "()V" } : Jvm.MethodName)) ∈ lw_tbl := lw_at lw_m2 216 rfl
theorem q510 : (Jvm.Cond.instanceMethod ({ cls := "BattleBench", name := "note", desc := "()V" } : Jvm.MethodName)) ∈ lw_all := lw_g (lw_at lw_m2 217 rfl) rfl
theorem q511 : (Jvm.Cond.code ({ cls := "BattleBench", name := "note", desc := "()V" } : Jvm.MethodName) prog_1_method_27_code (2 : Nat) (Option.none : Option Jvm.ClassFile.FieldType)) ∈ lw_all := lw_g (lw_at lw_m2 218 rfl) rfl
theorem q512 : (Jvm.Cond.methodLink "BattleBench" (230 : Nat) ({ cls := "java/lang/System", name := "arraycopy", desc := "(Ljava/lang/Object;ILjava/lang/Object;II)V" } : Jvm.MethodName)) ∈ lw_all := lw_g (lw_at lw_m2 219 rfl) rfl
theorem q513 : (Jvm.Cond.methodLink "BattleBench" (236 : Nat) ({ cls := "BattleBench$Bench", name := "takeYear", desc := "(LBattleBench$Bench;)V" } : Jvm.MethodName)) ∈ lw_all := lw_g (lw_at lw_m2 220 rfl) rfl
theorem q514 : (Jvm.Cond.methodLink "BattleBench" (247 : Nat) ({ cls := "BattleBench", name := "oneYear", desc := "()V" } : Jvm.MethodName)) ∈ lw_all := lw_g (lw_at lw_m2 221 rfl) rfl
theorem q515 : (Jvm.Cond.privateMethod ({ cls := "BattleBench", name := "oneYear", desc := "()V" } : Jvm.MethodName)) ∈ lw_tbl := lw_at lw_m2 222 rfl
theorem q516 : (Jvm.Cond.instanceMethod ({ cls := "BattleBench", name := "oneYear", desc := "()V" } : Jvm.MethodName)) ∈ lw_all := lw_g (lw_at lw_m2 223 rfl) rfl
theorem q517 : (Jvm.Cond.code ({ cls := "BattleBench", name := "oneYear", desc := "()V" } : Jvm.MethodName) prog_1_method_26_code (2 : Nat) (Option.none : Option Jvm.ClassFile.FieldType)) ∈ lw_all := lw_g (lw_at lw_m2 224 rfl) rfl
theorem q518 : (Jvm.Cond.methodLink "BattleBench" (222 : Nat) ({ cls := "java/lang/Math", name := "max", desc := "(II)I" } : Jvm.MethodName)) ∈ lw_all := lw_g (lw_at lw_m2 225 rfl) rfl
theorem q519 : (Jvm.Cond.methodLink "BattleBench" (227 : Nat) ({ cls := "BattleBench$Bench", name := "closeUp", desc := "()V" } : Jvm.MethodName)) ∈ lw_all := lw_g (lw_at lw_m2 226 rfl) rfl
theorem q524 : (Jvm.Cond.instanceMethod ({ cls := "BattleBench", name := "move", desc := "(I)I" } : Jvm.MethodName)) ∈ lw_all := lw_g (lw_at lw_m2 231 rfl) rfl
theorem q525 : (Jvm.Cond.selects "BattleBench" ({ cls := "BattleBench", name := "move", desc := "(I)I" } : Jvm.MethodName) ({ cls := "BattleBench", name := "move", desc := "(I)I" } : Jvm.MethodName)) ∈ lw_all := lw_g (lw_at lw_m2 232 rfl) rfl
theorem q526 : (Jvm.Cond.code ({ cls := "BattleBench", name := "move", desc := "(I)I" } : Jvm.MethodName) prog_1_method_30_code (2 : Nat) (Option.some Jvm.ClassFile.FieldType.int)) ∈ lw_all := lw_g (lw_at lw_m2 233 rfl) rfl
theorem q527 : (Jvm.Cond.methodLink "BattleBench" (250 : Nat) ({ cls := "BattleBench$Bench", name := "change", desc := "(I)V" } : Jvm.MethodName)) ∈ lw_all := lw_g (lw_at lw_m2 234 rfl) rfl
theorem q532 : (Jvm.Cond.instanceMethod ({ cls := "BattleBench", name := "nurse", desc := "(II)I" } : Jvm.MethodName)) ∈ lw_all := lw_g (lw_at lw_m2 239 rfl) rfl
theorem q533 : (Jvm.Cond.selects "BattleBench" ({ cls := "BattleBench", name := "nurse", desc := "(II)I" } : Jvm.MethodName) ({ cls := "BattleBench", name := "nurse", desc := "(II)I" } : Jvm.MethodName)) ∈ lw_all := lw_g (lw_at lw_m3 0 rfl) rfl
theorem q534 : (Jvm.Cond.code ({ cls := "BattleBench", name := "nurse", desc := "(II)I" } : Jvm.MethodName) prog_1_method_31_code (3 : Nat) (Option.some Jvm.ClassFile.FieldType.int)) ∈ lw_all := lw_g (lw_at lw_m3 1 rfl) rfl
theorem q535 : (Jvm.Cond.methodLink "BattleBench" (253 : Nat) ({ cls := "java/lang/Math", name := "min", desc := "(II)I" } : Jvm.MethodName)) ∈ lw_all := lw_g (lw_at lw_m3 2 rfl) rfl
theorem q537 : (Jvm.Cond.instanceMethod ({ cls := "BattleBench", name := "drift", desc := "(I)I" } : Jvm.MethodName)) ∈ lw_all := lw_g (lw_at lw_m3 4 rfl) rfl
theorem q538 : (Jvm.Cond.selects "BattleBench" ({ cls := "BattleBench", name := "drift", desc := "(I)I" } : Jvm.MethodName) ({ cls := "BattleBench", name := "drift", desc := "(I)I" } : Jvm.MethodName)) ∈ lw_all := lw_g (lw_at lw_m3 5 rfl) rfl
theorem q539 : (Jvm.Cond.code ({ cls := "BattleBench", name := "drift", desc := "(I)I" } : Jvm.MethodName) prog_1_method_32_code (4 : Nat) (Option.some Jvm.ClassFile.FieldType.int)) ∈ lw_all := lw_g (lw_at lw_m3 6 rfl) rfl
theorem q540 : (Jvm.Cond.constantLong "BattleBench" (256 : Nat) (1103515245 : Int64)) ∈ lw_all := lw_g (lw_at lw_m3 7 rfl) rfl
theorem q541 : (Jvm.Cond.constantLong "BattleBench" (258 : Nat) (12345 : Int64)) ∈ lw_all := lw_g (lw_at lw_m3 8 rfl) rfl
theorem q542 : (Jvm.Cond.constantLong "BattleBench" (260 : Nat) (2147483647 : Int64)) ∈ lw_all := lw_g (lw_at lw_m3 9 rfl) rfl
theorem q543 : (Jvm.Cond.constant "BattleBench" (262 : Nat) (65536 : Int32)) ∈ lw_all := lw_g (lw_at lw_m3 10 rfl) rfl
theorem q545 : (Jvm.Cond.instanceMethod ({ cls := "BattleBench", name := "undo", desc := "()I" } : Jvm.MethodName)) ∈ lw_all := lw_g (lw_at lw_m3 12 rfl) rfl
theorem q546 : (Jvm.Cond.selects "BattleBench" ({ cls := "BattleBench", name := "undo", desc := "()I" } : Jvm.MethodName) ({ cls := "BattleBench", name := "undo", desc := "()I" } : Jvm.MethodName)) ∈ lw_all := lw_g (lw_at lw_m3 13 rfl) rfl
theorem q547 : (Jvm.Cond.code ({ cls := "BattleBench", name := "undo", desc := "()I" } : Jvm.MethodName) prog_1_method_33_code (1 : Nat) (Option.some Jvm.ClassFile.FieldType.int)) ∈ lw_all := lw_g (lw_at lw_m3 14 rfl) rfl
theorem q549 : (Jvm.Cond.instanceMethod ({ cls := "BattleBench", name := "seed", desc := "(I)I" } : Jvm.MethodName)) ∈ lw_all := lw_g (lw_at lw_m3 16 rfl) rfl
theorem q550 : (Jvm.Cond.selects "BattleBench" ({ cls := "BattleBench", name := "seed", desc := "(I)I" } : Jvm.MethodName) ({ cls := "BattleBench", name := "seed", desc := "(I)I" } : Jvm.MethodName)) ∈ lw_all := lw_g (lw_at lw_m3 17 rfl) rfl
theorem q551 : (Jvm.Cond.code ({ cls := "BattleBench", name := "seed", desc := "(I)I" } : Jvm.MethodName) prog_1_method_34_code (3 : Nat) (Option.some Jvm.ClassFile.FieldType.int)) ∈ lw_all := lw_g (lw_at lw_m3 18 rfl) rfl
theorem q553 : (Jvm.Cond.instanceMethod ({ cls := "BattleBench", name := "ahead", desc := "(II)I" } : Jvm.MethodName)) ∈ lw_all := lw_g (lw_at lw_m3 20 rfl) rfl
theorem q554 : (Jvm.Cond.selects "BattleBench" ({ cls := "BattleBench", name := "ahead", desc := "(II)I" } : Jvm.MethodName) ({ cls := "BattleBench", name := "ahead", desc := "(II)I" } : Jvm.MethodName)) ∈ lw_all := lw_g (lw_at lw_m3 21 rfl) rfl
theorem q555 : (Jvm.Cond.code ({ cls := "BattleBench", name := "ahead", desc := "(II)I" } : Jvm.MethodName) prog_1_method_37_code (4 : Nat) (Option.some Jvm.ClassFile.FieldType.int)) ∈ lw_all := lw_g (lw_at lw_m3 22 rfl) rfl
theorem q556 : (Jvm.Cond.methodLink "BattleBench" (263 : Nat) ({ cls := "BattleBench", name := "isFar", desc := "(I)Z" } : Jvm.MethodName)) ∈ lw_all := lw_g (lw_at lw_m3 23 rfl) rfl
theorem q557 : (Jvm.Cond.static ({ cls := "BattleBench", name := "isFar", desc := "(I)Z" } : Jvm.MethodName)) ∈ lw_all := lw_g (lw_at lw_m3 24 rfl) rfl
theorem q558 : (Jvm.Cond.code ({ cls := "BattleBench", name := "isFar", desc := "(I)Z" } : Jvm.MethodName) prog_1_method_36_code (1 : Nat) (Option.some Jvm.ClassFile.FieldType.boolean)) ∈ lw_all := lw_g (lw_at lw_m3 25 rfl) rfl
theorem q559 : (Jvm.Cond.methodLink "BattleBench" (266 : Nat) ({ cls := "BattleBench", name := "goOn", desc := "(I)V" } : Jvm.MethodName)) ∈ lw_all := lw_g (lw_at lw_m3 26 rfl) rfl
theorem q560 : (Jvm.Cond.privateMethod ({ cls := "BattleBench", name := "goOn", desc := "(I)V" } : Jvm.MethodName)) ∈ lw_tbl := lw_at lw_m3 27 rfl
theorem q561 : (Jvm.Cond.instanceMethod ({ cls := "BattleBench", name := "goOn", desc := "(I)V" } : Jvm.MethodName)) ∈ lw_all := lw_g (lw_at lw_m3 28 rfl) rfl
theorem q562 : (Jvm.Cond.code ({ cls := "BattleBench", name := "goOn", desc := "(I)V" } : Jvm.MethodName) prog_1_method_35_code (3 : Nat) (Option.none : Option Jvm.ClassFile.FieldType)) ∈ lw_all := lw_g (lw_at lw_m3 29 rfl) rfl
theorem q564 : (Jvm.Cond.instanceMethod ({ cls := "BattleBench", name := "then", desc := "(I)I" } : Jvm.MethodName)) ∈ lw_all := lw_g (lw_at lw_m3 31 rfl) rfl
theorem q565 : (Jvm.Cond.selects "BattleBench" ({ cls := "BattleBench", name := "then", desc := "(I)I" } : Jvm.MethodName) ({ cls := "BattleBench", name := "then", desc := "(I)I" } : Jvm.MethodName)) ∈ lw_all := lw_g (lw_at lw_m3 32 rfl) rfl
theorem q566 : (Jvm.Cond.code ({ cls := "BattleBench", name := "then", desc := "(I)I" } : Jvm.MethodName) prog_1_method_38_code (3 : Nat) (Option.some Jvm.ClassFile.FieldType.int)) ∈ lw_all := lw_g (lw_at lw_m3 33 rfl) rfl
theorem q568 : (Jvm.Cond.instanceMethod ({ cls := "BattleBench", name := "ends", desc := "(I)I" } : Jvm.MethodName)) ∈ lw_all := lw_g (lw_at lw_m3 35 rfl) rfl
theorem q569 : (Jvm.Cond.selects "BattleBench" ({ cls := "BattleBench", name := "ends", desc := "(I)I" } : Jvm.MethodName) ({ cls := "BattleBench", name := "ends", desc := "(I)I" } : Jvm.MethodName)) ∈ lw_all := lw_g (lw_at lw_m3 36 rfl) rfl
theorem q570 : (Jvm.Cond.code ({ cls := "BattleBench", name := "ends", desc := "(I)I" } : Jvm.MethodName) prog_1_method_39_code (4 : Nat) (Option.some Jvm.ClassFile.FieldType.int)) ∈ lw_all := lw_g (lw_at lw_m3 37 rfl) rfl
theorem q572 : (Jvm.Cond.instanceMethod ({ cls := "BattleBench", name := "lonely", desc := "()I" } : Jvm.MethodName)) ∈ lw_all := lw_g (lw_at lw_m3 39 rfl) rfl
theorem q573 : (Jvm.Cond.selects "BattleBench" ({ cls := "BattleBench", name := "lonely", desc := "()I" } : Jvm.MethodName) ({ cls := "BattleBench", name := "lonely", desc := "()I" } : Jvm.MethodName)) ∈ lw_all := lw_g (lw_at lw_m3 40 rfl) rfl
theorem q574 : (Jvm.Cond.code ({ cls := "BattleBench", name := "lonely", desc := "()I" } : Jvm.MethodName) prog_1_method_40_code (3 : Nat) (Option.some Jvm.ClassFile.FieldType.int)) ∈ lw_all := lw_g (lw_at lw_m3 41 rfl) rfl
theorem q576 : (Jvm.Cond.instanceMethod ({ cls := "BattleBench", name := "close", desc := "(II)I" } : Jvm.MethodName)) ∈ lw_all := lw_g (lw_at lw_m3 43 rfl) rfl
theorem q577 : (Jvm.Cond.selects "BattleBench" ({ cls := "BattleBench", name := "close", desc := "(II)I" } : Jvm.MethodName) ({ cls := "BattleBench", name := "close", desc := "(II)I" } : Jvm.MethodName)) ∈ lw_all := lw_g (lw_at lw_m3 44 rfl) rfl
theorem q578 : (Jvm.Cond.code ({ cls := "BattleBench", name := "close", desc := "(II)I" } : Jvm.MethodName) prog_1_method_41_code (5 : Nat) (Option.some Jvm.ClassFile.FieldType.int)) ∈ lw_all := lw_g (lw_at lw_m3 45 rfl) rfl
theorem q579 : (Jvm.Cond.methodLink "BattleBench" (269 : Nat) ({ cls := "BattleBench", name := "has", desc := "(II)Z" } : Jvm.MethodName)) ∈ lw_all := lw_g (lw_at lw_m3 46 rfl) rfl
theorem q580 : (Jvm.Cond.static ({ cls := "BattleBench", name := "has", desc := "(II)Z" } : Jvm.MethodName)) ∈ lw_all := lw_g (lw_at lw_m3 47 rfl) rfl
theorem q581 : (Jvm.Cond.code ({ cls := "BattleBench", name := "has", desc := "(II)Z" } : Jvm.MethodName) prog_1_method_2_code (2 : Nat) (Option.some Jvm.ClassFile.FieldType.boolean)) ∈ lw_all := lw_g (lw_at lw_m3 48 rfl) rfl
theorem q583 : (Jvm.Cond.instanceMethod ({ cls := "BattleBench", name := "swaps", desc := "(I)I" } : Jvm.MethodName)) ∈ lw_all := lw_g (lw_at lw_m3 50 rfl) rfl
theorem q584 : (Jvm.Cond.selects "BattleBench" ({ cls := "BattleBench", name := "swaps", desc := "(I)I" } : Jvm.MethodName) ({ cls := "BattleBench", name := "swaps", desc := "(I)I" } : Jvm.MethodName)) ∈ lw_all := lw_g (lw_at lw_m3 51 rfl) rfl
theorem q585 : (Jvm.Cond.code ({ cls := "BattleBench", name := "swaps", desc := "(I)I" } : Jvm.MethodName) prog_1_method_43_code (5 : Nat) (Option.some Jvm.ClassFile.FieldType.int)) ∈ lw_all := lw_g (lw_at lw_m3 52 rfl) rfl
theorem q586 : (Jvm.Cond.methodLink "BattleBench" (272 : Nat) ({ cls := "BattleBench", name := "placeOn", desc := "(II)I" } : Jvm.MethodName)) ∈ lw_all := lw_g (lw_at lw_m3 53 rfl) rfl
theorem q587 : (Jvm.Cond.privateMethod ({ cls := "BattleBench", name := "placeOn", desc := "(II)I" } : Jvm.MethodName)) ∈ lw_tbl := lw_at lw_m3 54 rfl
theorem q588 : (Jvm.Cond.instanceMethod ({ cls := "BattleBench", name := "placeOn", desc := "(II)I" } : Jvm.MethodName)) ∈ lw_all := lw_g (lw_at lw_m3 55 rfl) rfl
theorem q589 : (Jvm.Cond.code ({ cls := "BattleBench", name := "placeOn", desc := "(II)I" } : Jvm.MethodName) prog_1_method_42_code (3 : Nat) (Option.some Jvm.ClassFile.FieldType.int)) ∈ lw_all := lw_g (lw_at lw_m3 56 rfl) rfl
theorem q591 : (Jvm.Cond.instanceMethod ({ cls := "BattleBench", name := "stay", desc := "(II)I" } : Jvm.MethodName)) ∈ lw_all := lw_g (lw_at lw_m3 58 rfl) rfl
theorem q592 : (Jvm.Cond.selects "BattleBench" ({ cls := "BattleBench", name := "stay", desc := "(II)I" } : Jvm.MethodName) ({ cls := "BattleBench", name := "stay", desc := "(II)I" } : Jvm.MethodName)) ∈ lw_all := lw_g (lw_at lw_m3 59 rfl) rfl
theorem q593 : (Jvm.Cond.code ({ cls := "BattleBench", name := "stay", desc := "(II)I" } : Jvm.MethodName) prog_1_method_45_code (8 : Nat) (Option.some Jvm.ClassFile.FieldType.int)) ∈ lw_all := lw_g (lw_at lw_m3 60 rfl) rfl
theorem q594 : (Jvm.Cond.methodLink "BattleBench" (275 : Nat) ({ cls := "BattleBench", name := "isWhat", desc := "(I)Z" } : Jvm.MethodName)) ∈ lw_all := lw_g (lw_at lw_m3 61 rfl) rfl
theorem q595 : (Jvm.Cond.static ({ cls := "BattleBench", name := "isWhat", desc := "(I)Z" } : Jvm.MethodName)) ∈ lw_all := lw_g (lw_at lw_m3 62 rfl) rfl
theorem q596 : (Jvm.Cond.code ({ cls := "BattleBench", name := "isWhat", desc := "(I)Z" } : Jvm.MethodName) prog_1_method_6_code (1 : Nat) (Option.some Jvm.ClassFile.FieldType.boolean)) ∈ lw_all := lw_g (lw_at lw_m3 63 rfl) rfl
theorem q597 : (Jvm.Cond.methodLink "BattleBench" (278 : Nat) ({ cls := "java/lang/Integer", name := "bitCount", desc := "(I)I" } : Jvm.MethodName)) ∈ lw_all := lw_g (lw_at lw_m3 64 rfl) rfl
theorem q598 : (Jvm.Cond.methodLink "BattleBench" (283 : Nat) ({ cls := "BattleBench", name := "isInOrder", desc := "(II)Z" } : Jvm.MethodName)) ∈ lw_all := lw_g (lw_at lw_m3 65 rfl) rfl
theorem q599 : (Jvm.Cond.privateMethod ({ cls := "BattleBench", name := "isInOrder", desc := "(II)Z" } : Jvm.MethodName)) ∈ lw_tbl := lw_at lw_m3 66 rfl
theorem q600 : (Jvm.Cond.instanceMethod ({ cls := "BattleBench", name := "isInOrder", desc := "(II)Z" } : Jvm.MethodName)) ∈ lw_all := lw_g (lw_at lw_m3 67 rfl) rfl
theorem q601 : (Jvm.Cond.code ({ cls := "BattleBench", name := "isInOrder", desc := "(II)Z" } : Jvm.MethodName) prog_1_method_44_code (6 : Nat) (Option.some Jvm.ClassFile.FieldType.boolean)) ∈ lw_all := lw_g (lw_at lw_m3 68 rfl) rfl
theorem q603 : (Jvm.Cond.instanceMethod ({ cls := "BattleBench", name := "ways", desc := "()I" } : Jvm.MethodName)) ∈ lw_all := lw_g (lw_at lw_m3 70 rfl) rfl
theorem q604 : (Jvm.Cond.selects "BattleBench" ({ cls := "BattleBench", name := "ways", desc := "()I" } : Jvm.MethodName) ({ cls := "BattleBench", name := "ways", desc := "()I" } : Jvm.MethodName)) ∈ lw_all := lw_g (lw_at lw_m3 71 rfl) rfl
theorem q605 : (Jvm.Cond.code ({ cls := "BattleBench", name := "ways", desc := "()I" } : Jvm.MethodName) prog_1_method_49_code (3 : Nat) (Option.some Jvm.ClassFile.FieldType.int)) ∈ lw_all := lw_g (lw_at lw_m3 72 rfl) rfl
theorem q606 : (Jvm.Cond.methodLink "BattleBench" (290 : Nat) ({ cls := "BattleBench", name := "beginOrders", desc := "()V" } : Jvm.MethodName)) ∈ lw_all := lw_g (lw_at lw_m3 73 rfl) rfl
theorem q607 : (Jvm.Cond.privateMethod ({ cls := "BattleBench", name := "beginOrders", desc := "()V" } : Jvm.MethodName)) ∈ lw_tbl := lw_at lw_m3 74 rfl
theorem q608 : (Jvm.Cond.instanceMethod ({ cls := "BattleBench", name := "beginOrders", desc := "()V" } : Jvm.MethodName)) ∈ lw_all := lw_g (lw_at lw_m3 75 rfl) rfl
theorem q609 : (Jvm.Cond.code ({ cls := "BattleBench", name := "beginOrders", desc := "()V" } : Jvm.MethodName) prog_1_method_46_code (3 : Nat) (Option.none : Option Jvm.ClassFile.FieldType)) ∈ lw_all := lw_g (lw_at lw_m3 76 rfl) rfl
theorem q610 : (Jvm.Cond.methodLink "BattleBench" (293 : Nat) ({ cls := "BattleBench", name := "isNextOrder", desc := "()Z" } : Jvm.MethodName)) ∈ lw_all := lw_g (lw_at lw_m3 77 rfl) rfl
theorem q611 : (Jvm.Cond.privateMethod ({ cls := "BattleBench", name := "isNextOrder", desc := "()Z" } : Jvm.MethodName)) ∈ lw_tbl := lw_at lw_m3 78 rfl
theorem q612 : (Jvm.Cond.instanceMethod ({ cls := "BattleBench", name := "isNextOrder", desc := "()Z" } : Jvm.MethodName)) ∈ lw_all := lw_g (lw_at lw_m3 79 rfl) rfl
theorem q613 : (Jvm.Cond.code ({ cls := "BattleBench", name := "isNextOrder", desc := "()Z" } : Jvm.MethodName) prog_1_method_48_code (6 : Nat) (Option.some Jvm.ClassFile.FieldType.boolean)) ∈ lw_all := lw_g (lw_at lw_m3 80 rfl) rfl
theorem q614 : (Jvm.Cond.methodLink "BattleBench" (286 : Nat) ({ cls := "BattleBench", name := "swap", desc := "([III)V" } : Jvm.MethodName)) ∈ lw_all := lw_g (lw_at lw_m3 81 rfl) rfl
theorem q615 : (Jvm.Cond.static ({ cls := "BattleBench", name := "swap", desc := "([III)V" } : Jvm.MethodName)) ∈ lw_all := lw_g (lw_at lw_m3 82 rfl) rfl
theorem q616 : (Jvm.Cond.code ({ cls := "BattleBench", name := "swap", desc := "([III)V" } : Jvm.MethodName) prog_1_method_47_code (4 : Nat) (Option.none : Option Jvm.ClassFile.FieldType)) ∈ lw_all := lw_g (lw_at lw_m3 83 rfl) rfl
theorem q618 : (Jvm.Cond.instanceMethod ({ cls := "BattleBench", name := "ease", desc := "(I)I" } : Jvm.MethodName)) ∈ lw_all := lw_g (lw_at lw_m3 85 rfl) rfl
theorem q619 : (Jvm.Cond.selects "BattleBench" ({ cls := "BattleBench", name := "ease", desc := "(I)I" } : Jvm.MethodName) ({ cls := "BattleBench", name := "ease", desc := "(I)I" } : Jvm.MethodName)) ∈ lw_all := lw_g (lw_at lw_m3 86 rfl) rfl
theorem q620 : (Jvm.Cond.code ({ cls := "BattleBench", name := "ease", desc := "(I)I" } : Jvm.MethodName) prog_1_method_51_code (5 : Nat) (Option.some Jvm.ClassFile.FieldType.int)) ∈ lw_all := lw_g (lw_at lw_m3 87 rfl) rfl
theorem q621 : (Jvm.Cond.methodLink "BattleBench" (297 : Nat) ({ cls := "BattleBench", name := "told", desc := "(I)I" } : Jvm.MethodName)) ∈ lw_all := lw_g (lw_at lw_m3 88 rfl) rfl
theorem q622 : (Jvm.Cond.privateMethod ({ cls := "BattleBench", name := "told", desc := "(I)I" } : Jvm.MethodName)) ∈ lw_tbl := lw_at lw_m3 89 rfl
theorem q623 : (Jvm.Cond.instanceMethod ({ cls := "BattleBench", name := "told", desc := "(I)I" } : Jvm.MethodName)) ∈ lw_all := lw_g (lw_at lw_m3 90 rfl) rfl
theorem q624 : (Jvm.Cond.code ({ cls := "BattleBench", name := "told", desc := "(I)I" } : Jvm.MethodName) prog_1_method_50_code (2 : Nat) (Option.some Jvm.ClassFile.FieldType.int)) ∈ lw_all := lw_g (lw_at lw_m3 91 rfl) rfl
theorem q626 : (Jvm.Cond.instanceMethod ({ cls := "BattleBench", name := "left", desc := "(II)I" } : Jvm.MethodName)) ∈ lw_all := lw_g (lw_at lw_m3 93 rfl) rfl
theorem q627 : (Jvm.Cond.selects "BattleBench" ({ cls := "BattleBench", name := "left", desc := "(II)I" } : Jvm.MethodName) ({ cls := "BattleBench", name := "left", desc := "(II)I" } : Jvm.MethodName)) ∈ lw_all := lw_g (lw_at lw_m3 94 rfl) rfl
theorem q628 : (Jvm.Cond.code ({ cls := "BattleBench", name := "left", desc := "(II)I" } : Jvm.MethodName) prog_1_method_52_code (8 : Nat) (Option.some Jvm.ClassFile.FieldType.int)) ∈ lw_all := lw_g (lw_at lw_m3 95 rfl) rfl
theorem q629 : (Jvm.Cond.constantLong "BattleBench" (300 : Nat) (30 : Int64)) ∈ lw_all := lw_g (lw_at lw_m3 96 rfl) rfl
theorem q631 : (Jvm.Cond.instanceMethod ({ cls := "BattleBench", name := "winter", desc := "(III)I" } : Jvm.MethodName)) ∈ lw_all := lw_g (lw_at lw_m3 98 rfl) rfl
theorem q632 : (Jvm.Cond.selects "BattleBench" ({ cls := "BattleBench", name := "winter", desc := "(III)I" } : Jvm.MethodName) ({ cls := "BattleBench", name := "winter", desc := "(III)I" } : Jvm.MethodName)) ∈ lw_all := lw_g (lw_at lw_m3 99 rfl) rfl
theorem q633 : (Jvm.Cond.code ({ cls := "BattleBench", name := "winter", desc := "(III)I" } : Jvm.MethodName) prog_1_method_53_code (9 : Nat) (Option.some Jvm.ClassFile.FieldType.int)) ∈ lw_all := lw_g (lw_at lw_m3 100 rfl) rfl
theorem q634 : (Jvm.Cond.constantLong "BattleBench" (302 : Nat) (6 : Int64)) ∈ lw_all := lw_g (lw_at lw_m3 101 rfl) rfl
theorem q635 : (Jvm.Cond.constantLong "BattleBench" (304 : Nat) (10 : Int64)) ∈ lw_all := lw_g (lw_at lw_m3 102 rfl) rfl
theorem q637 : (Jvm.Cond.instanceMethod ({ cls := "BattleBench", name := "image", desc := "()I" } : Jvm.MethodName)) ∈ lw_all := lw_g (lw_at lw_m3 104 rfl) rfl
theorem q638 : (Jvm.Cond.selects "BattleBench" ({ cls := "BattleBench", name := "image", desc := "()I" } : Jvm.MethodName) ({ cls := "BattleBench", name := "image", desc := "()I" } : Jvm.MethodName)) ∈ lw_all := lw_g (lw_at lw_m3 105 rfl) rfl
theorem q639 : (Jvm.Cond.code ({ cls := "BattleBench", name := "image", desc := "()I" } : Jvm.MethodName) prog_1_method_54_code (2 : Nat) (Option.some Jvm.ClassFile.FieldType.int)) ∈ lw_all := lw_g (lw_at lw_m3 106 rfl) rfl
theorem q641 : (Jvm.Cond.instanceMethod ({ cls := "BattleBench", name := "restore", desc := "()I" } : Jvm.MethodName)) ∈ lw_all := lw_g (lw_at lw_m3 108 rfl) rfl
theorem q642 : (Jvm.Cond.selects "BattleBench" ({ cls := "BattleBench", name := "restore", desc := "()I" } : Jvm.MethodName) ({ cls := "BattleBench", name := "restore", desc := "()I" } : Jvm.MethodName)) ∈ lw_all := lw_g (lw_at lw_m3 109 rfl) rfl
theorem q643 : (Jvm.Cond.code ({ cls := "BattleBench", name := "restore", desc := "()I" } : Jvm.MethodName) prog_1_method_55_code (2 : Nat) (Option.some Jvm.ClassFile.FieldType.int)) ∈ lw_all := lw_g (lw_at lw_m3 110 rfl) rfl
theorem q645 : (Jvm.Cond.instanceMethod ({ cls := "BattleBench", name := "failed", desc := "(IIIIII)I" } : Jvm.MethodName)) ∈ lw_all := lw_g (lw_at lw_m3 112 rfl) rfl
theorem q646 : (Jvm.Cond.selects "BattleBench" ({ cls := "BattleBench", name := "failed", desc := "(IIIIII)I" } : Jvm.MethodName) ({ cls := "BattleBench", name := "failed", desc := "(IIIIII)I" } : Jvm.MethodName)) ∈ lw_all := lw_g (lw_at lw_m3 113 rfl) rfl
theorem q647 : (Jvm.Cond.code ({ cls := "BattleBench", name := "failed", desc := "(IIIIII)I" } : Jvm.MethodName) prog_1_method_60_code (12 : Nat) (Option.some Jvm.ClassFile.FieldType.int)) ∈ lw_all := lw_g (lw_at lw_m3 114 rfl) rfl
theorem q648 : (Jvm.Cond.methodLink "BattleBench" (333 : Nat) ({ cls := "BattleBench", name := "isSheet", desc := "(II)Z" } : Jvm.MethodName)) ∈ lw_all := lw_g (lw_at lw_m3 115 rfl) rfl
theorem q649 : (Jvm.Cond.static ({ cls := "BattleBench", name := "isSheet", desc := "(II)Z" } : Jvm.MethodName)) ∈ lw_all := lw_g (lw_at lw_m3 116 rfl) rfl
theorem q650 : (Jvm.Cond.code ({ cls := "BattleBench", name := "isSheet", desc := "(II)Z" } : Jvm.MethodName) prog_1_method_56_code (2 : Nat) (Option.some Jvm.ClassFile.FieldType.boolean)) ∈ lw_all := lw_g (lw_at lw_m3 117 rfl) rfl
theorem q651 : (Jvm.Cond.constantLong "BattleBench" (313 : Nat) (3 : Int64)) ∈ lw_all := lw_g (lw_at lw_m3 118 rfl) rfl
theorem q652 : (Jvm.Cond.constantLong "BattleBench" (336 : Nat) (8 : Int64)) ∈ lw_all := lw_g (lw_at lw_m3 119 rfl) rfl
theorem q653 : (Jvm.Cond.methodLink "BattleBench" (338 : Nat) ({ cls := "BattleBench", name := "lacks", desc := "(IIII)I" } : Jvm.MethodName)) ∈ lw_all := lw_g (lw_at lw_m3 120 rfl) rfl
theorem q654 : (Jvm.Cond.privateMethod ({ cls := "BattleBench", name := "lacks", desc := "(IIII)I" } : Jvm.MethodName)) ∈ lw_tbl := lw_at lw_m3 121 rfl
theorem q655 : (Jvm.Cond.instanceMethod ({ cls := "BattleBench", name := "lacks", desc := "(IIII)I" } : Jvm.MethodName)) ∈ lw_all := lw_g (lw_at lw_m3 122 rfl) rfl
theorem q656 : (Jvm.Cond.code ({ cls := "BattleBench", name := "lacks", desc := "(IIII)I" } : Jvm.MethodName) prog_1_method_57_code (6 : Nat) (Option.some Jvm.ClassFile.FieldType.int)) ∈ lw_all := lw_g (lw_at lw_m3 123 rfl) rfl
theorem q657 : (Jvm.Cond.methodLink "BattleBench" (319 : Nat) ({ cls := "BattleBench$Sheet", name := "lane", desc := "()I" } : Jvm.MethodName)) ∈ lw_all := lw_g (lw_at lw_m3 124 rfl) rfl
theorem q664 : (Jvm.Cond.methodLink "BattleBench" (322 : Nat) ({ cls := "BattleBench$Sheet", name := "size", desc := "()I" } : Jvm.MethodName)) ∈ lw_all := lw_g (lw_at lw_m3 131 rfl) rfl
theorem q669 : (Jvm.Cond.methodLink "BattleBench" (342 : Nat) ({ cls := "BattleBench", name := "kindsBy", desc := "(ILBattleBench$Sheet;II)I" } : Jvm.MethodName)) ∈ lw_all := lw_g (lw_at lw_m3 136 rfl) rfl
theorem q670 : (Jvm.Cond.privateMethod ({ cls := "BattleBench", name := "kindsBy", desc := "(ILBattleBench$Sheet;II)I" } : Jvm.MethodName)) ∈ lw_tbl := lw_at lw_m3 137 rfl
theorem q671 : (Jvm.Cond.instanceMethod ({ cls := "BattleBench", name := "kindsBy", desc := "(ILBattleBench$Sheet;II)I" } : Jvm.MethodName)) ∈ lw_all := lw_g (lw_at lw_m3 138 rfl) rfl
theorem q672 : (Jvm.Cond.code ({ cls := "BattleBench", name := "kindsBy", desc := "(ILBattleBench$Sheet;II)I" } : Jvm.MethodName) prog_1_method_59_code (7 : Nat) (Option.some Jvm.ClassFile.FieldType.int)) ∈ lw_all := lw_g (lw_at lw_m3 139 rfl) rfl
theorem q673 : (Jvm.Cond.methodLink "BattleBench" (329 : Nat) ({ cls := "BattleBench", name := "isSo", desc := "(ILBattleBench$Sheet;II)Z" } : Jvm.MethodName)) ∈ lw_all := lw_g (lw_at lw_m3 140 rfl) rfl
theorem q674 : (Jvm.Cond.privateMethod ({ cls := "BattleBench", name := "isSo", desc := "(ILBattleBench$Sheet;II)Z" } : Jvm.MethodName)) ∈ lw_tbl := lw_at lw_m3 141 rfl
theorem q675 : (Jvm.Cond.instanceMethod ({ cls := "BattleBench", name := "isSo", desc := "(ILBattleBench$Sheet;II)Z" } : Jvm.MethodName)) ∈ lw_all := lw_g (lw_at lw_m3 142 rfl) rfl
theorem q676 : (Jvm.Cond.code ({ cls := "BattleBench", name := "isSo", desc := "(ILBattleBench$Sheet;II)Z" } : Jvm.MethodName) prog_1_method_58_code (7 : Nat) (Option.some Jvm.ClassFile.FieldType.boolean)) ∈ lw_all := lw_g (lw_at lw_m3 143 rfl) rfl
theorem q677 : (Jvm.Cond.methodLink "BattleBench" (325 : Nat) ({ cls := "BattleBench$Sheet", name := "get", desc := "(I)J" } : Jvm.MethodName)) ∈ lw_all := lw_g (lw_at lw_m3 144 rfl) rfl
theorem q682 : (Jvm.Cond.instanceMethod ({ cls := "BattleBench", name := "film", desc := "(IIIII)I" } : Jvm.MethodName)) ∈ lw_all := lw_g (lw_at lw_m3 149 rfl) rfl
theorem q683 : (Jvm.Cond.selects "BattleBench" ({ cls := "BattleBench", name := "film", desc := "(IIIII)I" } : Jvm.MethodName) ({ cls := "BattleBench", name := "film", desc := "(IIIII)I" } : Jvm.MethodName)) ∈ lw_all := lw_g (lw_at lw_m3 150 rfl) rfl
theorem q684 : (Jvm.Cond.code ({ cls := "BattleBench", name := "film", desc := "(IIIII)I" } : Jvm.MethodName) prog_1_method_61_code (8 : Nat) (Option.some Jvm.ClassFile.FieldType.int)) ∈ lw_all := lw_g (lw_at lw_m3 151 rfl) rfl
theorem q685 : (Jvm.Cond.constantLong "BattleBench" (346 : Nat) (24 : Int64)) ∈ lw_all := lw_g (lw_at lw_m3 152 rfl) rfl
theorem q686 : (Jvm.Cond.methodLink "BattleBench" (348 : Nat) ({ cls := "BattleBench$Sheet", name := "lay", desc := "(IIJ)V" } : Jvm.MethodName)) ∈ lw_all := lw_g (lw_at lw_m3 153 rfl) rfl
theorem q691 : (Jvm.Cond.instanceMethod ({ cls := "BattleBench", name := "sheet", desc := "(III)I" } : Jvm.MethodName)) ∈ lw_all := lw_g (lw_at lw_m3 158 rfl) rfl
theorem q692 : (Jvm.Cond.selects "BattleBench" ({ cls := "BattleBench", name := "sheet", desc := "(III)I" } : Jvm.MethodName) ({ cls := "BattleBench", name := "sheet", desc := "(III)I" } : Jvm.MethodName)) ∈ lw_all := lw_g (lw_at lw_m3 159 rfl) rfl
theorem q693 : (Jvm.Cond.codeWith ({ cls := "BattleBench", name := "sheet", desc := "(III)I" } : Jvm.MethodName) prog_1_method_62_code (5 : Nat) (Option.some Jvm.ClassFile.FieldType.int) [((16 : Nat), (60 : Nat), (63 : Nat), (352 : Nat))]) ∈ lw_all := lw_g (lw_at lw_m3 160 rfl) rfl
theorem q694 : (Jvm.Cond.classLink "BattleBench" (352 : Nat) "java/lang/NegativeArraySizeException") ∈ lw_all := lw_g (lw_at lw_m3 161 rfl) rfl
theorem q727 : (Jvm.Cond.instanceMethod ({ cls := "BattleBench", name := "drop", desc := "(I)I" } : Jvm.MethodName)) ∈ lw_all := lw_g (lw_at lw_m3 194 rfl) rfl
theorem q728 : (Jvm.Cond.selects "BattleBench" ({ cls := "BattleBench", name := "drop", desc := "(I)I" } : Jvm.MethodName) ({ cls := "BattleBench", name := "drop", desc := "(I)I" } : Jvm.MethodName)) ∈ lw_all := lw_g (lw_at lw_m3 195 rfl) rfl
theorem q729 : (Jvm.Cond.code ({ cls := "BattleBench", name := "drop", desc := "(I)I" } : Jvm.MethodName) prog_1_method_63_code (3 : Nat) (Option.some Jvm.ClassFile.FieldType.int)) ∈ lw_all := lw_g (lw_at lw_m3 196 rfl) rfl
theorem q731 : (Jvm.Cond.instanceMethod ({ cls := "BattleBench", name := "item", desc := "(IIIJ)I" } : Jvm.MethodName)) ∈ lw_all := lw_g (lw_at lw_m3 198 rfl) rfl
theorem q732 : (Jvm.Cond.selects "BattleBench" ({ cls := "BattleBench", name := "item", desc := "(IIIJ)I" } : Jvm.MethodName) ({ cls := "BattleBench", name := "item", desc := "(IIIJ)I" } : Jvm.MethodName)) ∈ lw_all := lw_g (lw_at lw_m3 199 rfl) rfl
theorem q733 : (Jvm.Cond.codeWith ({ cls := "BattleBench", name := "item", desc := "(IIIJ)I" } : Jvm.MethodName) prog_1_method_64_code (7 : Nat) (Option.some Jvm.ClassFile.FieldType.int) [((10 : Nat), (23 : Nat), (26 : Nat), (354 : Nat)), ((10 : Nat), (23 : Nat), (31 : Nat), (356 : Nat)), ((10 : Nat), (23 : Nat), (36 : Nat), (358 : Nat))]) ∈ lw_all := lw_g (lw_at lw_m3 200 rfl) rfl
theorem q734 : (Jvm.Cond.classLink "BattleBench" (354 : Nat) "java/lang/NullPointerException") ∈ lw_all := lw_g (lw_at lw_m3 201 rfl) rfl
theorem q759 : (Jvm.Cond.classLink "BattleBench" (356 : Nat) "java/lang/ClassCastException") ∈ lw_all := lw_g (lw_at lw_m3 226 rfl) rfl
theorem q773 : (Jvm.Cond.classLink "BattleBench" (358 : Nat) "java/lang/ArrayIndexOutOfBoundsException") ∈ lw_all := lw_g (lw_at lw_m4 0 rfl) rfl
theorem q793 : (Jvm.Cond.instanceMethod ({ cls := "BattleBench", name := "copy", desc := "(IIIII)I" } : Jvm.MethodName)) ∈ lw_all := lw_g (lw_at lw_m4 20 rfl) rfl
theorem q794 : (Jvm.Cond.selects "BattleBench" ({ cls := "BattleBench", name := "copy", desc := "(IIIII)I" } : Jvm.MethodName) ({ cls := "BattleBench", name := "copy", desc := "(IIIII)I" } : Jvm.MethodName)) ∈ lw_all := lw_g (lw_at lw_m4 21 rfl) rfl
theorem q795 : (Jvm.Cond.codeWith ({ cls := "BattleBench", name := "copy", desc := "(IIIII)I" } : Jvm.MethodName) prog_1_method_65_code (7 : Nat) (Option.some Jvm.ClassFile.FieldType.int) [((18 : Nat), (44 : Nat), (47 : Nat), (354 : Nat)), ((18 : Nat), (44 : Nat), (52 : Nat), (360 : Nat)), ((18 : Nat), (44 : Nat), (57 : Nat), (362 : Nat))]) ∈ lw_all := lw_g (lw_at lw_m4 22 rfl) rfl
theorem q796 : (Jvm.Cond.classLink "BattleBench" (360 : Nat) "java/lang/ArrayStoreException") ∈ lw_all := lw_g (lw_at lw_m4 23 rfl) rfl
theorem q810 : (Jvm.Cond.classLink "BattleBench" (362 : Nat) "java/lang/IndexOutOfBoundsException") ∈ lw_all := lw_g (lw_at lw_m4 37 rfl) rfl
theorem in_X0 : ∀ w ∈ wsX00, w ∈ lw_all := lw_in wsX00 [274, 276, 278, 280, 282, 284, 286, 288, 290, 292, 294, 296, 298, 300, 302, 304, 306, 308] (by decide +kernel) (by decide +kernel)
