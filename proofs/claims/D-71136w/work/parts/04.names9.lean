/-! BattleBenchModel -/
set_option maxRecDepth 100000
def RX9 : String := "BattleBenchModel"
def TX9 : u_T := fun k => match k with
  | 0 => ("BattleBenchModel", "s", "[I", true)
  | 1 => ("BattleBenchModel", "images", "[I", true)
  | 2 => ("BattleBenchModel", "kept", "Z", false)
  | 3 => ("BattleBenchModel", "tape", "[I", true)
  | 4 => ("BattleBenchModel", "typed", "I", false)
  | 5 => ("BattleBenchModel", "draft", "[I", true)
  | 6 => ("BattleBenchModel", "at", "I", false)
  | 7 => ("BattleBenchModel", "items", "[J", true)
  | 8 => ("BattleBenchModel", "moved", "[J", true)
  | 9 => ("BattleBenchModel", "sizes", "[I", true)
  | 10 => ("BattleBenchModel", "lanes", "[I", true)
  | 11 => ("BattleBenchModel", "less", "[I", true)
  | 12 => ("BattleBenchModel", "aside", "[I", true)
  | _ => ("BattleBenchModel", "order", "[I", true)
def tyX9 : Nat → FieldType := fun k => match k with
  | 0 => .array .int
  | 1 => .array .int
  | 2 => .boolean
  | 3 => .array .int
  | 4 => .int
  | 5 => .array .int
  | 6 => .int
  | 7 => .array .long
  | 8 => .array .long
  | 9 => .array .int
  | 10 => .array .int
  | 11 => .array .int
  | 12 => .array .int
  | _ => .array .int
abbrev wsX90 : List Cond := u_ws RX9 TX9 14
set_option maxRecDepth 100000 in
theorem nmX9 : ∀ a, a < 14 → ∀ b, b < 14 → a ≠ b → (TX9 a).2.1 ≠ (TX9 b).2.1 := by decide +kernel
set_option maxRecDepth 100000 in
theorem tyX9_ok : ∀ k, k < 14 → parseFieldDescriptor (TX9 k).2.2.1 = some (tyX9 k) := by decide +kernel
abbrev cX9_init : ByteArray := prog_11_method_1_code
def yX9_init : MethodName := ⟨RX9, "<init>", "()V"⟩
def dkwX9_init_5 : List UInt8 := [167, 255, 241, 177]
abbrev dktX9_init_5 : List UInt8 := dkwX9_init_5 ++ []
def dkwX9_init_4 : List UInt8 := [180, 0, 7, 6, 4, 79, 3, 60, 27, 7, 162, 0, 16, 42, 180, 0, 29, 27, 2, 79, 132, 1, 1]
abbrev dktX9_init_4 : List UInt8 := dkwX9_init_4 ++ dktX9_init_5
def dkwX9_init_3 : List UInt8 := [188, 10, 181, 0, 35, 42, 16, 40, 188, 10, 181, 0, 38, 42, 16, 40, 188, 10, 181, 0, 41, 42]
abbrev dktX9_init_3 : List UInt8 := dkwX9_init_3 ++ dktX9_init_4
def dkwX9_init_2 : List UInt8 := [16, 24, 188, 11, 181, 0, 26, 42, 7, 188, 10, 181, 0, 29, 42, 7, 188, 10, 181, 0, 32, 42, 16, 6]
abbrev dktX9_init_2 : List UInt8 := dkwX9_init_2 ++ dktX9_init_3
def dkwX9_init_1 : List UInt8 := [16, 70, 188, 10, 181, 0, 16, 42, 16, 40, 188, 10, 181, 0, 19, 42, 16, 96, 188, 11, 181, 0, 22, 42]
abbrev dktX9_init_1 : List UInt8 := dkwX9_init_1 ++ dktX9_init_2
def dkwX9_init_0 : List UInt8 := [42, 183, 0, 1, 42, 17, 0, 161, 188, 10, 181, 0, 7, 42, 17, 0, 161, 188, 10, 181, 0, 13, 42]
abbrev dktX9_init_0 : List UInt8 := dkwX9_init_0 ++ dktX9_init_1
theorem dksX9_init_0 : cX9_init.data.toList.drop 0 = dktX9_init_0 := by decide +kernel
theorem dksX9_init_1 : cX9_init.data.toList.drop 23 = dktX9_init_1 := dk_seg dksX9_init_0 23 rfl rfl
theorem dksX9_init_2 : cX9_init.data.toList.drop 47 = dktX9_init_2 := dk_seg dksX9_init_1 24 rfl rfl
theorem dksX9_init_3 : cX9_init.data.toList.drop 71 = dktX9_init_3 := dk_seg dksX9_init_2 24 rfl rfl
theorem dksX9_init_4 : cX9_init.data.toList.drop 93 = dktX9_init_4 := dk_seg dksX9_init_3 22 rfl rfl
theorem dksX9_init_5 : cX9_init.data.toList.drop 116 = dktX9_init_5 := dk_seg dksX9_init_4 23 rfl rfl
theorem dX9_init_0 : decode cX9_init 0 = .ok (.aload_n 0, 1) := dk_42 (dk_at dksX9_init_0 0 rfl rfl)
theorem dX9_init_1 : decode cX9_init 1 = .ok (.invokespecial 1, 3) := dk_183 0 1 (dk_at dksX9_init_0 1 rfl rfl)
theorem dX9_init_4 : decode cX9_init 4 = .ok (.aload_n 0, 1) := dk_42 (dk_at dksX9_init_0 4 rfl rfl)
theorem dX9_init_5 : decode cX9_init 5 = .ok (.sipush 161, 3) := dk_17 0 161 (dk_at dksX9_init_0 5 rfl rfl)
theorem dX9_init_8 : decode cX9_init 8 = .ok (.newarray .int, 2) := dk_188_10 (dk_at dksX9_init_0 8 rfl rfl)
theorem dX9_init_10 : decode cX9_init 10 = .ok (.putfield 7, 3) := dk_181 0 7 (dk_at dksX9_init_0 10 rfl rfl)
theorem dX9_init_13 : decode cX9_init 13 = .ok (.aload_n 0, 1) := dk_42 (dk_at dksX9_init_0 13 rfl rfl)
theorem dX9_init_14 : decode cX9_init 14 = .ok (.sipush 161, 3) := dk_17 0 161 (dk_at dksX9_init_0 14 rfl rfl)
theorem dX9_init_17 : decode cX9_init 17 = .ok (.newarray .int, 2) := dk_188_10 (dk_at dksX9_init_0 17 rfl rfl)
theorem dX9_init_19 : decode cX9_init 19 = .ok (.putfield 13, 3) := dk_181 0 13 (dk_at dksX9_init_0 19 rfl rfl)
theorem dX9_init_22 : decode cX9_init 22 = .ok (.aload_n 0, 1) := dk_42 (dk_at dksX9_init_0 22 rfl rfl)
theorem dX9_init_23 : decode cX9_init 23 = .ok (.bipush 70, 2) := dk_16 70 (dk_at dksX9_init_1 0 rfl rfl)
theorem dX9_init_25 : decode cX9_init 25 = .ok (.newarray .int, 2) := dk_188_10 (dk_at dksX9_init_1 2 rfl rfl)
theorem dX9_init_27 : decode cX9_init 27 = .ok (.putfield 16, 3) := dk_181 0 16 (dk_at dksX9_init_1 4 rfl rfl)
theorem dX9_init_30 : decode cX9_init 30 = .ok (.aload_n 0, 1) := dk_42 (dk_at dksX9_init_1 7 rfl rfl)
theorem dX9_init_31 : decode cX9_init 31 = .ok (.bipush 40, 2) := dk_16 40 (dk_at dksX9_init_1 8 rfl rfl)
theorem dX9_init_33 : decode cX9_init 33 = .ok (.newarray .int, 2) := dk_188_10 (dk_at dksX9_init_1 10 rfl rfl)
theorem dX9_init_35 : decode cX9_init 35 = .ok (.putfield 19, 3) := dk_181 0 19 (dk_at dksX9_init_1 12 rfl rfl)
theorem dX9_init_38 : decode cX9_init 38 = .ok (.aload_n 0, 1) := dk_42 (dk_at dksX9_init_1 15 rfl rfl)
theorem dX9_init_39 : decode cX9_init 39 = .ok (.bipush 96, 2) := dk_16 96 (dk_at dksX9_init_1 16 rfl rfl)
theorem dX9_init_41 : decode cX9_init 41 = .ok (.newarray .long, 2) := dk_188_11 (dk_at dksX9_init_1 18 rfl rfl)
theorem dX9_init_43 : decode cX9_init 43 = .ok (.putfield 22, 3) := dk_181 0 22 (dk_at dksX9_init_1 20 rfl rfl)
theorem dX9_init_46 : decode cX9_init 46 = .ok (.aload_n 0, 1) := dk_42 (dk_at dksX9_init_1 23 rfl rfl)
theorem dX9_init_47 : decode cX9_init 47 = .ok (.bipush 24, 2) := dk_16 24 (dk_at dksX9_init_2 0 rfl rfl)
theorem dX9_init_49 : decode cX9_init 49 = .ok (.newarray .long, 2) := dk_188_11 (dk_at dksX9_init_2 2 rfl rfl)
theorem dX9_init_51 : decode cX9_init 51 = .ok (.putfield 26, 3) := dk_181 0 26 (dk_at dksX9_init_2 4 rfl rfl)
theorem dX9_init_54 : decode cX9_init 54 = .ok (.aload_n 0, 1) := dk_42 (dk_at dksX9_init_2 7 rfl rfl)
theorem dX9_init_55 : decode cX9_init 55 = .ok (.iconst 4, 1) := dk_7 (dk_at dksX9_init_2 8 rfl rfl)
theorem dX9_init_56 : decode cX9_init 56 = .ok (.newarray .int, 2) := dk_188_10 (dk_at dksX9_init_2 9 rfl rfl)
theorem dX9_init_58 : decode cX9_init 58 = .ok (.putfield 29, 3) := dk_181 0 29 (dk_at dksX9_init_2 11 rfl rfl)
theorem dX9_init_61 : decode cX9_init 61 = .ok (.aload_n 0, 1) := dk_42 (dk_at dksX9_init_2 14 rfl rfl)
theorem dX9_init_62 : decode cX9_init 62 = .ok (.iconst 4, 1) := dk_7 (dk_at dksX9_init_2 15 rfl rfl)
theorem dX9_init_63 : decode cX9_init 63 = .ok (.newarray .int, 2) := dk_188_10 (dk_at dksX9_init_2 16 rfl rfl)
theorem dX9_init_65 : decode cX9_init 65 = .ok (.putfield 32, 3) := dk_181 0 32 (dk_at dksX9_init_2 18 rfl rfl)
theorem dX9_init_68 : decode cX9_init 68 = .ok (.aload_n 0, 1) := dk_42 (dk_at dksX9_init_2 21 rfl rfl)
theorem dX9_init_69 : decode cX9_init 69 = .ok (.bipush 6, 2) := dk_16 6 (dk_at dksX9_init_2 22 rfl rfl)
theorem dX9_init_71 : decode cX9_init 71 = .ok (.newarray .int, 2) := dk_188_10 (dk_at dksX9_init_3 0 rfl rfl)
theorem dX9_init_73 : decode cX9_init 73 = .ok (.putfield 35, 3) := dk_181 0 35 (dk_at dksX9_init_3 2 rfl rfl)
theorem dX9_init_76 : decode cX9_init 76 = .ok (.aload_n 0, 1) := dk_42 (dk_at dksX9_init_3 5 rfl rfl)
theorem dX9_init_77 : decode cX9_init 77 = .ok (.bipush 40, 2) := dk_16 40 (dk_at dksX9_init_3 6 rfl rfl)
theorem dX9_init_79 : decode cX9_init 79 = .ok (.newarray .int, 2) := dk_188_10 (dk_at dksX9_init_3 8 rfl rfl)
theorem dX9_init_81 : decode cX9_init 81 = .ok (.putfield 38, 3) := dk_181 0 38 (dk_at dksX9_init_3 10 rfl rfl)
theorem dX9_init_84 : decode cX9_init 84 = .ok (.aload_n 0, 1) := dk_42 (dk_at dksX9_init_3 13 rfl rfl)
theorem dX9_init_85 : decode cX9_init 85 = .ok (.bipush 40, 2) := dk_16 40 (dk_at dksX9_init_3 14 rfl rfl)
theorem dX9_init_87 : decode cX9_init 87 = .ok (.newarray .int, 2) := dk_188_10 (dk_at dksX9_init_3 16 rfl rfl)
theorem dX9_init_89 : decode cX9_init 89 = .ok (.putfield 41, 3) := dk_181 0 41 (dk_at dksX9_init_3 18 rfl rfl)
theorem dX9_init_92 : decode cX9_init 92 = .ok (.aload_n 0, 1) := dk_42 (dk_at dksX9_init_3 21 rfl rfl)
theorem dX9_init_93 : decode cX9_init 93 = .ok (.getfield 7, 3) := dk_180 0 7 (dk_at dksX9_init_4 0 rfl rfl)
theorem dX9_init_96 : decode cX9_init 96 = .ok (.iconst 3, 1) := dk_6 (dk_at dksX9_init_4 3 rfl rfl)
theorem dX9_init_97 : decode cX9_init 97 = .ok (.iconst 1, 1) := dk_4 (dk_at dksX9_init_4 4 rfl rfl)
theorem dX9_init_98 : decode cX9_init 98 = .ok (.iastore, 1) := dk_79 (dk_at dksX9_init_4 5 rfl rfl)
theorem dX9_init_99 : decode cX9_init 99 = .ok (.iconst 0, 1) := dk_3 (dk_at dksX9_init_4 6 rfl rfl)
theorem dX9_init_100 : decode cX9_init 100 = .ok (.istore_n 1, 1) := dk_60 (dk_at dksX9_init_4 7 rfl rfl)
theorem dX9_init_101 : decode cX9_init 101 = .ok (.iload_n 1, 1) := dk_27 (dk_at dksX9_init_4 8 rfl rfl)
theorem dX9_init_102 : decode cX9_init 102 = .ok (.iconst 4, 1) := dk_7 (dk_at dksX9_init_4 9 rfl rfl)
theorem dX9_init_103 : decode cX9_init 103 = .ok (.if_icmp .ge 16, 3) := dk_162 0 16 (dk_at dksX9_init_4 10 rfl rfl)
theorem dX9_init_106 : decode cX9_init 106 = .ok (.aload_n 0, 1) := dk_42 (dk_at dksX9_init_4 13 rfl rfl)
theorem dX9_init_107 : decode cX9_init 107 = .ok (.getfield 29, 3) := dk_180 0 29 (dk_at dksX9_init_4 14 rfl rfl)
theorem dX9_init_110 : decode cX9_init 110 = .ok (.iload_n 1, 1) := dk_27 (dk_at dksX9_init_4 17 rfl rfl)
theorem dX9_init_111 : decode cX9_init 111 = .ok (.iconst (-1), 1) := dk_2 (dk_at dksX9_init_4 18 rfl rfl)
theorem dX9_init_112 : decode cX9_init 112 = .ok (.iastore, 1) := dk_79 (dk_at dksX9_init_4 19 rfl rfl)
theorem dX9_init_113 : decode cX9_init 113 = .ok (.iinc 1 1, 3) := dk_132 1 1 (dk_at dksX9_init_4 20 rfl rfl)
theorem dX9_init_116 : decode cX9_init 116 = .ok (.goto (-15), 3) := dk_167 255 241 (dk_at dksX9_init_5 0 rfl rfl)
theorem dX9_init_119 : decode cX9_init 119 = .ok (.return_, 1) := dk_177 (dk_at dksX9_init_5 3 rfl rfl)
abbrev cX9_man : ByteArray := prog_11_method_10_code
def yX9_man : MethodName := ⟨RX9, "man", "(II)I"⟩
def dkwX9_man_6 : List UInt8 := [79, 42, 180, 0, 7, 3, 92, 46, 4, 96, 79, 42, 180, 0, 7, 16, 40, 3, 79, 29, 172]
abbrev dktX9_man_6 : List UInt8 := dkwX9_man_6 ++ []
def dkwX9_man_5 : List UInt8 := [42, 180, 0, 7, 16, 10, 42, 180, 0, 7, 4, 46, 96, 29, 79, 42, 180, 0, 7, 4, 92, 46, 4, 96]
abbrev dktX9_man_5 : List UInt8 := dkwX9_man_5 ++ dktX9_man_6
def dkwX9_man_4 : List UInt8 := [162, 0, 24, 42, 180, 0, 7, 16, 22, 6, 29, 104, 96, 21, 4, 96, 29, 79, 132, 4, 1, 167, 255, 232]
abbrev dktX9_man_4 : List UInt8 := dkwX9_man_4 ++ dktX9_man_5
def dkwX9_man_3 : List UInt8 := [180, 0, 7, 16, 16, 29, 96, 27, 79, 42, 180, 0, 7, 7, 29, 96, 28, 79, 3, 54, 4, 21, 4, 6]
abbrev dktX9_man_3 : List UInt8 := dkwX9_man_3 ++ dktX9_man_4
def dkwX9_man_2 : List UInt8 := [42, 4, 29, 182, 0, 48, 154, 0, 12, 42, 5, 29, 182, 0, 48, 153, 0, 6, 16, 254, 172, 42]
abbrev dktX9_man_2 : List UInt8 := dkwX9_man_2 ++ dktX9_man_3
def dkwX9_man_1 : List UInt8 := [180, 0, 7, 3, 46, 62, 29, 16, 6, 160, 0, 6, 16, 253, 172, 42, 3, 29, 182, 0, 48, 154, 0, 21]
abbrev dktX9_man_1 : List UInt8 := dkwX9_man_1 ++ dktX9_man_2
def dkwX9_man_0 : List UInt8 := [27, 3, 7, 184, 0, 44, 153, 0, 13, 28, 4, 16, 60, 184, 0, 44, 154, 0, 5, 2, 172, 42]
abbrev dktX9_man_0 : List UInt8 := dkwX9_man_0 ++ dktX9_man_1
theorem dksX9_man_0 : cX9_man.data.toList.drop 0 = dktX9_man_0 := by decide +kernel
theorem dksX9_man_1 : cX9_man.data.toList.drop 22 = dktX9_man_1 := dk_seg dksX9_man_0 22 rfl rfl
theorem dksX9_man_2 : cX9_man.data.toList.drop 46 = dktX9_man_2 := dk_seg dksX9_man_1 24 rfl rfl
theorem dksX9_man_3 : cX9_man.data.toList.drop 68 = dktX9_man_3 := dk_seg dksX9_man_2 22 rfl rfl
theorem dksX9_man_4 : cX9_man.data.toList.drop 92 = dktX9_man_4 := dk_seg dksX9_man_3 24 rfl rfl
theorem dksX9_man_5 : cX9_man.data.toList.drop 116 = dktX9_man_5 := dk_seg dksX9_man_4 24 rfl rfl
theorem dksX9_man_6 : cX9_man.data.toList.drop 140 = dktX9_man_6 := dk_seg dksX9_man_5 24 rfl rfl
theorem dX9_man_0 : decode cX9_man 0 = .ok (.iload_n 1, 1) := dk_27 (dk_at dksX9_man_0 0 rfl rfl)
theorem dX9_man_1 : decode cX9_man 1 = .ok (.iconst 0, 1) := dk_3 (dk_at dksX9_man_0 1 rfl rfl)
theorem dX9_man_2 : decode cX9_man 2 = .ok (.iconst 4, 1) := dk_7 (dk_at dksX9_man_0 2 rfl rfl)
theorem dX9_man_3 : decode cX9_man 3 = .ok (.invokestatic 44, 3) := dk_184 0 44 (dk_at dksX9_man_0 3 rfl rfl)
theorem dX9_man_6 : decode cX9_man 6 = .ok (.ifCond .eq 13, 3) := dk_153 0 13 (dk_at dksX9_man_0 6 rfl rfl)
theorem dX9_man_9 : decode cX9_man 9 = .ok (.iload_n 2, 1) := dk_28 (dk_at dksX9_man_0 9 rfl rfl)
theorem dX9_man_10 : decode cX9_man 10 = .ok (.iconst 1, 1) := dk_4 (dk_at dksX9_man_0 10 rfl rfl)
theorem dX9_man_11 : decode cX9_man 11 = .ok (.bipush 60, 2) := dk_16 60 (dk_at dksX9_man_0 11 rfl rfl)
theorem dX9_man_13 : decode cX9_man 13 = .ok (.invokestatic 44, 3) := dk_184 0 44 (dk_at dksX9_man_0 13 rfl rfl)
theorem dX9_man_16 : decode cX9_man 16 = .ok (.ifCond .ne 5, 3) := dk_154 0 5 (dk_at dksX9_man_0 16 rfl rfl)
theorem dX9_man_19 : decode cX9_man 19 = .ok (.iconst (-1), 1) := dk_2 (dk_at dksX9_man_0 19 rfl rfl)
theorem dX9_man_20 : decode cX9_man 20 = .ok (.ireturn, 1) := dk_172 (dk_at dksX9_man_0 20 rfl rfl)
theorem dX9_man_21 : decode cX9_man 21 = .ok (.aload_n 0, 1) := dk_42 (dk_at dksX9_man_0 21 rfl rfl)
theorem dX9_man_22 : decode cX9_man 22 = .ok (.getfield 7, 3) := dk_180 0 7 (dk_at dksX9_man_1 0 rfl rfl)
theorem dX9_man_25 : decode cX9_man 25 = .ok (.iconst 0, 1) := dk_3 (dk_at dksX9_man_1 3 rfl rfl)
theorem dX9_man_26 : decode cX9_man 26 = .ok (.iaload, 1) := dk_46 (dk_at dksX9_man_1 4 rfl rfl)
theorem dX9_man_27 : decode cX9_man 27 = .ok (.istore_n 3, 1) := dk_62 (dk_at dksX9_man_1 5 rfl rfl)
theorem dX9_man_28 : decode cX9_man 28 = .ok (.iload_n 3, 1) := dk_29 (dk_at dksX9_man_1 6 rfl rfl)
theorem dX9_man_29 : decode cX9_man 29 = .ok (.bipush 6, 2) := dk_16 6 (dk_at dksX9_man_1 7 rfl rfl)
theorem dX9_man_31 : decode cX9_man 31 = .ok (.if_icmp .ne 6, 3) := dk_160 0 6 (dk_at dksX9_man_1 9 rfl rfl)
theorem dX9_man_34 : decode cX9_man 34 = .ok (.bipush (-3), 2) := dk_16 253 (dk_at dksX9_man_1 12 rfl rfl)
theorem dX9_man_36 : decode cX9_man 36 = .ok (.ireturn, 1) := dk_172 (dk_at dksX9_man_1 14 rfl rfl)
theorem dX9_man_37 : decode cX9_man 37 = .ok (.aload_n 0, 1) := dk_42 (dk_at dksX9_man_1 15 rfl rfl)
theorem dX9_man_38 : decode cX9_man 38 = .ok (.iconst 0, 1) := dk_3 (dk_at dksX9_man_1 16 rfl rfl)
theorem dX9_man_39 : decode cX9_man 39 = .ok (.iload_n 3, 1) := dk_29 (dk_at dksX9_man_1 17 rfl rfl)
theorem dX9_man_40 : decode cX9_man 40 = .ok (.invokevirtual 48, 3) := dk_182 0 48 (dk_at dksX9_man_1 18 rfl rfl)
theorem dX9_man_43 : decode cX9_man 43 = .ok (.ifCond .ne 21, 3) := dk_154 0 21 (dk_at dksX9_man_1 21 rfl rfl)
theorem dX9_man_46 : decode cX9_man 46 = .ok (.aload_n 0, 1) := dk_42 (dk_at dksX9_man_2 0 rfl rfl)
theorem dX9_man_47 : decode cX9_man 47 = .ok (.iconst 1, 1) := dk_4 (dk_at dksX9_man_2 1 rfl rfl)
theorem dX9_man_48 : decode cX9_man 48 = .ok (.iload_n 3, 1) := dk_29 (dk_at dksX9_man_2 2 rfl rfl)
theorem dX9_man_49 : decode cX9_man 49 = .ok (.invokevirtual 48, 3) := dk_182 0 48 (dk_at dksX9_man_2 3 rfl rfl)
theorem dX9_man_52 : decode cX9_man 52 = .ok (.ifCond .ne 12, 3) := dk_154 0 12 (dk_at dksX9_man_2 6 rfl rfl)
theorem dX9_man_55 : decode cX9_man 55 = .ok (.aload_n 0, 1) := dk_42 (dk_at dksX9_man_2 9 rfl rfl)
theorem dX9_man_56 : decode cX9_man 56 = .ok (.iconst 2, 1) := dk_5 (dk_at dksX9_man_2 10 rfl rfl)
theorem dX9_man_57 : decode cX9_man 57 = .ok (.iload_n 3, 1) := dk_29 (dk_at dksX9_man_2 11 rfl rfl)
theorem dX9_man_58 : decode cX9_man 58 = .ok (.invokevirtual 48, 3) := dk_182 0 48 (dk_at dksX9_man_2 12 rfl rfl)
theorem dX9_man_61 : decode cX9_man 61 = .ok (.ifCond .eq 6, 3) := dk_153 0 6 (dk_at dksX9_man_2 15 rfl rfl)
theorem dX9_man_64 : decode cX9_man 64 = .ok (.bipush (-2), 2) := dk_16 254 (dk_at dksX9_man_2 18 rfl rfl)
theorem dX9_man_66 : decode cX9_man 66 = .ok (.ireturn, 1) := dk_172 (dk_at dksX9_man_2 20 rfl rfl)
theorem dX9_man_67 : decode cX9_man 67 = .ok (.aload_n 0, 1) := dk_42 (dk_at dksX9_man_2 21 rfl rfl)
theorem dX9_man_68 : decode cX9_man 68 = .ok (.getfield 7, 3) := dk_180 0 7 (dk_at dksX9_man_3 0 rfl rfl)
theorem dX9_man_71 : decode cX9_man 71 = .ok (.bipush 16, 2) := dk_16 16 (dk_at dksX9_man_3 3 rfl rfl)
theorem dX9_man_73 : decode cX9_man 73 = .ok (.iload_n 3, 1) := dk_29 (dk_at dksX9_man_3 5 rfl rfl)
theorem dX9_man_74 : decode cX9_man 74 = .ok (.iadd, 1) := dk_96 (dk_at dksX9_man_3 6 rfl rfl)
theorem dX9_man_75 : decode cX9_man 75 = .ok (.iload_n 1, 1) := dk_27 (dk_at dksX9_man_3 7 rfl rfl)
theorem dX9_man_76 : decode cX9_man 76 = .ok (.iastore, 1) := dk_79 (dk_at dksX9_man_3 8 rfl rfl)
theorem dX9_man_77 : decode cX9_man 77 = .ok (.aload_n 0, 1) := dk_42 (dk_at dksX9_man_3 9 rfl rfl)
theorem dX9_man_78 : decode cX9_man 78 = .ok (.getfield 7, 3) := dk_180 0 7 (dk_at dksX9_man_3 10 rfl rfl)
theorem dX9_man_81 : decode cX9_man 81 = .ok (.iconst 4, 1) := dk_7 (dk_at dksX9_man_3 13 rfl rfl)
theorem dX9_man_82 : decode cX9_man 82 = .ok (.iload_n 3, 1) := dk_29 (dk_at dksX9_man_3 14 rfl rfl)
theorem dX9_man_83 : decode cX9_man 83 = .ok (.iadd, 1) := dk_96 (dk_at dksX9_man_3 15 rfl rfl)
theorem dX9_man_84 : decode cX9_man 84 = .ok (.iload_n 2, 1) := dk_28 (dk_at dksX9_man_3 16 rfl rfl)
theorem dX9_man_85 : decode cX9_man 85 = .ok (.iastore, 1) := dk_79 (dk_at dksX9_man_3 17 rfl rfl)
theorem dX9_man_86 : decode cX9_man 86 = .ok (.iconst 0, 1) := dk_3 (dk_at dksX9_man_3 18 rfl rfl)
theorem dX9_man_87 : decode cX9_man 87 = .ok (.istore 4, 2) := dk_54 4 (dk_at dksX9_man_3 19 rfl rfl)
theorem dX9_man_89 : decode cX9_man 89 = .ok (.iload 4, 2) := dk_21 4 (dk_at dksX9_man_3 21 rfl rfl)
theorem dX9_man_91 : decode cX9_man 91 = .ok (.iconst 3, 1) := dk_6 (dk_at dksX9_man_3 23 rfl rfl)
theorem dX9_man_92 : decode cX9_man 92 = .ok (.if_icmp .ge 24, 3) := dk_162 0 24 (dk_at dksX9_man_4 0 rfl rfl)
theorem dX9_man_95 : decode cX9_man 95 = .ok (.aload_n 0, 1) := dk_42 (dk_at dksX9_man_4 3 rfl rfl)
theorem dX9_man_96 : decode cX9_man 96 = .ok (.getfield 7, 3) := dk_180 0 7 (dk_at dksX9_man_4 4 rfl rfl)
theorem dX9_man_99 : decode cX9_man 99 = .ok (.bipush 22, 2) := dk_16 22 (dk_at dksX9_man_4 7 rfl rfl)
theorem dX9_man_101 : decode cX9_man 101 = .ok (.iconst 3, 1) := dk_6 (dk_at dksX9_man_4 9 rfl rfl)
theorem dX9_man_102 : decode cX9_man 102 = .ok (.iload_n 3, 1) := dk_29 (dk_at dksX9_man_4 10 rfl rfl)
theorem dX9_man_103 : decode cX9_man 103 = .ok (.imul, 1) := dk_104 (dk_at dksX9_man_4 11 rfl rfl)
theorem dX9_man_104 : decode cX9_man 104 = .ok (.iadd, 1) := dk_96 (dk_at dksX9_man_4 12 rfl rfl)
theorem dX9_man_105 : decode cX9_man 105 = .ok (.iload 4, 2) := dk_21 4 (dk_at dksX9_man_4 13 rfl rfl)
theorem dX9_man_107 : decode cX9_man 107 = .ok (.iadd, 1) := dk_96 (dk_at dksX9_man_4 15 rfl rfl)
theorem dX9_man_108 : decode cX9_man 108 = .ok (.iload_n 3, 1) := dk_29 (dk_at dksX9_man_4 16 rfl rfl)
theorem dX9_man_109 : decode cX9_man 109 = .ok (.iastore, 1) := dk_79 (dk_at dksX9_man_4 17 rfl rfl)
theorem dX9_man_110 : decode cX9_man 110 = .ok (.iinc 4 1, 3) := dk_132 4 1 (dk_at dksX9_man_4 18 rfl rfl)
theorem dX9_man_113 : decode cX9_man 113 = .ok (.goto (-24), 3) := dk_167 255 232 (dk_at dksX9_man_4 21 rfl rfl)
theorem dX9_man_116 : decode cX9_man 116 = .ok (.aload_n 0, 1) := dk_42 (dk_at dksX9_man_5 0 rfl rfl)
theorem dX9_man_117 : decode cX9_man 117 = .ok (.getfield 7, 3) := dk_180 0 7 (dk_at dksX9_man_5 1 rfl rfl)
theorem dX9_man_120 : decode cX9_man 120 = .ok (.bipush 10, 2) := dk_16 10 (dk_at dksX9_man_5 4 rfl rfl)
theorem dX9_man_122 : decode cX9_man 122 = .ok (.aload_n 0, 1) := dk_42 (dk_at dksX9_man_5 6 rfl rfl)
theorem dX9_man_123 : decode cX9_man 123 = .ok (.getfield 7, 3) := dk_180 0 7 (dk_at dksX9_man_5 7 rfl rfl)
theorem dX9_man_126 : decode cX9_man 126 = .ok (.iconst 1, 1) := dk_4 (dk_at dksX9_man_5 10 rfl rfl)
theorem dX9_man_127 : decode cX9_man 127 = .ok (.iaload, 1) := dk_46 (dk_at dksX9_man_5 11 rfl rfl)
theorem dX9_man_128 : decode cX9_man 128 = .ok (.iadd, 1) := dk_96 (dk_at dksX9_man_5 12 rfl rfl)
theorem dX9_man_129 : decode cX9_man 129 = .ok (.iload_n 3, 1) := dk_29 (dk_at dksX9_man_5 13 rfl rfl)
theorem dX9_man_130 : decode cX9_man 130 = .ok (.iastore, 1) := dk_79 (dk_at dksX9_man_5 14 rfl rfl)
theorem dX9_man_131 : decode cX9_man 131 = .ok (.aload_n 0, 1) := dk_42 (dk_at dksX9_man_5 15 rfl rfl)
theorem dX9_man_132 : decode cX9_man 132 = .ok (.getfield 7, 3) := dk_180 0 7 (dk_at dksX9_man_5 16 rfl rfl)
theorem dX9_man_135 : decode cX9_man 135 = .ok (.iconst 1, 1) := dk_4 (dk_at dksX9_man_5 19 rfl rfl)
theorem dX9_man_136 : decode cX9_man 136 = .ok (.dup2, 1) := dk_92 (dk_at dksX9_man_5 20 rfl rfl)
theorem dX9_man_137 : decode cX9_man 137 = .ok (.iaload, 1) := dk_46 (dk_at dksX9_man_5 21 rfl rfl)
theorem dX9_man_138 : decode cX9_man 138 = .ok (.iconst 1, 1) := dk_4 (dk_at dksX9_man_5 22 rfl rfl)
theorem dX9_man_139 : decode cX9_man 139 = .ok (.iadd, 1) := dk_96 (dk_at dksX9_man_5 23 rfl rfl)
theorem dX9_man_140 : decode cX9_man 140 = .ok (.iastore, 1) := dk_79 (dk_at dksX9_man_6 0 rfl rfl)
theorem dX9_man_141 : decode cX9_man 141 = .ok (.aload_n 0, 1) := dk_42 (dk_at dksX9_man_6 1 rfl rfl)
theorem dX9_man_142 : decode cX9_man 142 = .ok (.getfield 7, 3) := dk_180 0 7 (dk_at dksX9_man_6 2 rfl rfl)
theorem dX9_man_145 : decode cX9_man 145 = .ok (.iconst 0, 1) := dk_3 (dk_at dksX9_man_6 5 rfl rfl)
theorem dX9_man_146 : decode cX9_man 146 = .ok (.dup2, 1) := dk_92 (dk_at dksX9_man_6 6 rfl rfl)
theorem dX9_man_147 : decode cX9_man 147 = .ok (.iaload, 1) := dk_46 (dk_at dksX9_man_6 7 rfl rfl)
theorem dX9_man_148 : decode cX9_man 148 = .ok (.iconst 1, 1) := dk_4 (dk_at dksX9_man_6 8 rfl rfl)
theorem dX9_man_149 : decode cX9_man 149 = .ok (.iadd, 1) := dk_96 (dk_at dksX9_man_6 9 rfl rfl)
theorem dX9_man_150 : decode cX9_man 150 = .ok (.iastore, 1) := dk_79 (dk_at dksX9_man_6 10 rfl rfl)
theorem dX9_man_151 : decode cX9_man 151 = .ok (.aload_n 0, 1) := dk_42 (dk_at dksX9_man_6 11 rfl rfl)
theorem dX9_man_152 : decode cX9_man 152 = .ok (.getfield 7, 3) := dk_180 0 7 (dk_at dksX9_man_6 12 rfl rfl)
theorem dX9_man_155 : decode cX9_man 155 = .ok (.bipush 40, 2) := dk_16 40 (dk_at dksX9_man_6 15 rfl rfl)
theorem dX9_man_157 : decode cX9_man 157 = .ok (.iconst 0, 1) := dk_3 (dk_at dksX9_man_6 17 rfl rfl)
theorem dX9_man_158 : decode cX9_man 158 = .ok (.iastore, 1) := dk_79 (dk_at dksX9_man_6 18 rfl rfl)
theorem dX9_man_159 : decode cX9_man 159 = .ok (.iload_n 3, 1) := dk_29 (dk_at dksX9_man_6 19 rfl rfl)
theorem dX9_man_160 : decode cX9_man 160 = .ok (.ireturn, 1) := dk_172 (dk_at dksX9_man_6 20 rfl rfl)
abbrev cX9_in : ByteArray := prog_11_method_3_code
def yX9_in : MethodName := ⟨RX9, "in", "(III)Z"⟩
def dkwX9_in_0 : List UInt8 := [26, 27, 161, 0, 12, 26, 28, 163, 0, 7, 4, 167, 0, 4, 3, 172]
abbrev dktX9_in_0 : List UInt8 := dkwX9_in_0 ++ []
theorem dksX9_in_0 : cX9_in.data.toList.drop 0 = dktX9_in_0 := by decide +kernel
theorem dX9_in_0 : decode cX9_in 0 = .ok (.iload_n 0, 1) := dk_26 (dk_at dksX9_in_0 0 rfl rfl)
theorem dX9_in_1 : decode cX9_in 1 = .ok (.iload_n 1, 1) := dk_27 (dk_at dksX9_in_0 1 rfl rfl)
theorem dX9_in_2 : decode cX9_in 2 = .ok (.if_icmp .lt 12, 3) := dk_161 0 12 (dk_at dksX9_in_0 2 rfl rfl)
theorem dX9_in_5 : decode cX9_in 5 = .ok (.iload_n 0, 1) := dk_26 (dk_at dksX9_in_0 5 rfl rfl)
theorem dX9_in_6 : decode cX9_in 6 = .ok (.iload_n 2, 1) := dk_28 (dk_at dksX9_in_0 6 rfl rfl)
theorem dX9_in_7 : decode cX9_in 7 = .ok (.if_icmp .gt 7, 3) := dk_163 0 7 (dk_at dksX9_in_0 7 rfl rfl)
theorem dX9_in_10 : decode cX9_in 10 = .ok (.iconst 1, 1) := dk_4 (dk_at dksX9_in_0 10 rfl rfl)
theorem dX9_in_11 : decode cX9_in 11 = .ok (.goto 4, 3) := dk_167 0 4 (dk_at dksX9_in_0 11 rfl rfl)
theorem dX9_in_14 : decode cX9_in 14 = .ok (.iconst 0, 1) := dk_3 (dk_at dksX9_in_0 14 rfl rfl)
theorem dX9_in_15 : decode cX9_in 15 = .ok (.ireturn, 1) := dk_172 (dk_at dksX9_in_0 15 rfl rfl)
abbrev cX9_isTaken : ByteArray := prog_11_method_9_code
def yX9_isTaken : MethodName := ⟨RX9, "isTaken", "(II)Z"⟩
def dkwX9_isTaken_2 : List UInt8 := [167, 255, 214, 29, 172]
abbrev dktX9_isTaken_2 : List UInt8 := dkwX9_isTaken_2 ++ []
def dkwX9_isTaken_1 : List UInt8 := [16, 22, 6, 21, 4, 104, 96, 27, 96, 46, 28, 160, 0, 7, 4, 167, 0, 4, 3, 62, 132, 4, 1]
abbrev dktX9_isTaken_1 : List UInt8 := dkwX9_isTaken_1 ++ dktX9_isTaken_2
def dkwX9_isTaken_0 : List UInt8 := [3, 62, 3, 54, 4, 21, 4, 42, 180, 0, 7, 3, 46, 162, 0, 37, 29, 154, 0, 21, 42, 180, 0, 7]
abbrev dktX9_isTaken_0 : List UInt8 := dkwX9_isTaken_0 ++ dktX9_isTaken_1
theorem dksX9_isTaken_0 : cX9_isTaken.data.toList.drop 0 = dktX9_isTaken_0 := by decide +kernel
theorem dksX9_isTaken_1 : cX9_isTaken.data.toList.drop 24 = dktX9_isTaken_1 := dk_seg dksX9_isTaken_0 24 rfl rfl
theorem dksX9_isTaken_2 : cX9_isTaken.data.toList.drop 47 = dktX9_isTaken_2 := dk_seg dksX9_isTaken_1 23 rfl rfl
theorem dX9_isTaken_0 : decode cX9_isTaken 0 = .ok (.iconst 0, 1) := dk_3 (dk_at dksX9_isTaken_0 0 rfl rfl)
theorem dX9_isTaken_1 : decode cX9_isTaken 1 = .ok (.istore_n 3, 1) := dk_62 (dk_at dksX9_isTaken_0 1 rfl rfl)
theorem dX9_isTaken_2 : decode cX9_isTaken 2 = .ok (.iconst 0, 1) := dk_3 (dk_at dksX9_isTaken_0 2 rfl rfl)
theorem dX9_isTaken_3 : decode cX9_isTaken 3 = .ok (.istore 4, 2) := dk_54 4 (dk_at dksX9_isTaken_0 3 rfl rfl)
theorem dX9_isTaken_5 : decode cX9_isTaken 5 = .ok (.iload 4, 2) := dk_21 4 (dk_at dksX9_isTaken_0 5 rfl rfl)
theorem dX9_isTaken_7 : decode cX9_isTaken 7 = .ok (.aload_n 0, 1) := dk_42 (dk_at dksX9_isTaken_0 7 rfl rfl)
theorem dX9_isTaken_8 : decode cX9_isTaken 8 = .ok (.getfield 7, 3) := dk_180 0 7 (dk_at dksX9_isTaken_0 8 rfl rfl)
theorem dX9_isTaken_11 : decode cX9_isTaken 11 = .ok (.iconst 0, 1) := dk_3 (dk_at dksX9_isTaken_0 11 rfl rfl)
theorem dX9_isTaken_12 : decode cX9_isTaken 12 = .ok (.iaload, 1) := dk_46 (dk_at dksX9_isTaken_0 12 rfl rfl)
theorem dX9_isTaken_13 : decode cX9_isTaken 13 = .ok (.if_icmp .ge 37, 3) := dk_162 0 37 (dk_at dksX9_isTaken_0 13 rfl rfl)
theorem dX9_isTaken_16 : decode cX9_isTaken 16 = .ok (.iload_n 3, 1) := dk_29 (dk_at dksX9_isTaken_0 16 rfl rfl)
theorem dX9_isTaken_17 : decode cX9_isTaken 17 = .ok (.ifCond .ne 21, 3) := dk_154 0 21 (dk_at dksX9_isTaken_0 17 rfl rfl)
theorem dX9_isTaken_20 : decode cX9_isTaken 20 = .ok (.aload_n 0, 1) := dk_42 (dk_at dksX9_isTaken_0 20 rfl rfl)
theorem dX9_isTaken_21 : decode cX9_isTaken 21 = .ok (.getfield 7, 3) := dk_180 0 7 (dk_at dksX9_isTaken_0 21 rfl rfl)
theorem dX9_isTaken_24 : decode cX9_isTaken 24 = .ok (.bipush 22, 2) := dk_16 22 (dk_at dksX9_isTaken_1 0 rfl rfl)
theorem dX9_isTaken_26 : decode cX9_isTaken 26 = .ok (.iconst 3, 1) := dk_6 (dk_at dksX9_isTaken_1 2 rfl rfl)
theorem dX9_isTaken_27 : decode cX9_isTaken 27 = .ok (.iload 4, 2) := dk_21 4 (dk_at dksX9_isTaken_1 3 rfl rfl)
theorem dX9_isTaken_29 : decode cX9_isTaken 29 = .ok (.imul, 1) := dk_104 (dk_at dksX9_isTaken_1 5 rfl rfl)
theorem dX9_isTaken_30 : decode cX9_isTaken 30 = .ok (.iadd, 1) := dk_96 (dk_at dksX9_isTaken_1 6 rfl rfl)
theorem dX9_isTaken_31 : decode cX9_isTaken 31 = .ok (.iload_n 1, 1) := dk_27 (dk_at dksX9_isTaken_1 7 rfl rfl)
theorem dX9_isTaken_32 : decode cX9_isTaken 32 = .ok (.iadd, 1) := dk_96 (dk_at dksX9_isTaken_1 8 rfl rfl)
theorem dX9_isTaken_33 : decode cX9_isTaken 33 = .ok (.iaload, 1) := dk_46 (dk_at dksX9_isTaken_1 9 rfl rfl)
theorem dX9_isTaken_34 : decode cX9_isTaken 34 = .ok (.iload_n 2, 1) := dk_28 (dk_at dksX9_isTaken_1 10 rfl rfl)
theorem dX9_isTaken_35 : decode cX9_isTaken 35 = .ok (.if_icmp .ne 7, 3) := dk_160 0 7 (dk_at dksX9_isTaken_1 11 rfl rfl)
theorem dX9_isTaken_38 : decode cX9_isTaken 38 = .ok (.iconst 1, 1) := dk_4 (dk_at dksX9_isTaken_1 14 rfl rfl)
theorem dX9_isTaken_39 : decode cX9_isTaken 39 = .ok (.goto 4, 3) := dk_167 0 4 (dk_at dksX9_isTaken_1 15 rfl rfl)
theorem dX9_isTaken_42 : decode cX9_isTaken 42 = .ok (.iconst 0, 1) := dk_3 (dk_at dksX9_isTaken_1 18 rfl rfl)
theorem dX9_isTaken_43 : decode cX9_isTaken 43 = .ok (.istore_n 3, 1) := dk_62 (dk_at dksX9_isTaken_1 19 rfl rfl)
theorem dX9_isTaken_44 : decode cX9_isTaken 44 = .ok (.iinc 4 1, 3) := dk_132 4 1 (dk_at dksX9_isTaken_1 20 rfl rfl)
theorem dX9_isTaken_47 : decode cX9_isTaken 47 = .ok (.goto (-42), 3) := dk_167 255 214 (dk_at dksX9_isTaken_2 0 rfl rfl)
theorem dX9_isTaken_50 : decode cX9_isTaken 50 = .ok (.iload_n 3, 1) := dk_29 (dk_at dksX9_isTaken_2 3 rfl rfl)
theorem dX9_isTaken_51 : decode cX9_isTaken 51 = .ok (.ireturn, 1) := dk_172 (dk_at dksX9_isTaken_2 4 rfl rfl)
abbrev cX9_stood : ByteArray := prog_11_method_11_code
def yX9_stood : MethodName := ⟨RX9, "stood", "(III)I"⟩
def dkwX9_stood_3 : List UInt8 := [172]
abbrev dktX9_stood_3 : List UInt8 := dkwX9_stood_3 ++ []
def dkwX9_stood_2 : List UInt8 := [27, 104, 96, 28, 96, 46, 54, 4, 42, 180, 0, 7, 16, 22, 6, 27, 104, 96, 28, 96, 29, 79, 21, 4]
abbrev dktX9_stood_2 : List UInt8 := dkwX9_stood_2 ++ dktX9_stood_3
def dkwX9_stood_1 : List UInt8 := [154, 0, 5, 2, 172, 42, 28, 29, 182, 0, 48, 153, 0, 6, 16, 254, 172, 42, 180, 0, 7, 16, 22, 6]
abbrev dktX9_stood_1 : List UInt8 := dkwX9_stood_1 ++ dktX9_stood_2
def dkwX9_stood_0 : List UInt8 := [42, 27, 182, 0, 52, 153, 0, 22, 28, 3, 5, 184, 0, 44, 153, 0, 13, 29, 3, 16, 9, 184, 0, 44]
abbrev dktX9_stood_0 : List UInt8 := dkwX9_stood_0 ++ dktX9_stood_1
theorem dksX9_stood_0 : cX9_stood.data.toList.drop 0 = dktX9_stood_0 := by decide +kernel
theorem dksX9_stood_1 : cX9_stood.data.toList.drop 24 = dktX9_stood_1 := dk_seg dksX9_stood_0 24 rfl rfl
theorem dksX9_stood_2 : cX9_stood.data.toList.drop 48 = dktX9_stood_2 := dk_seg dksX9_stood_1 24 rfl rfl
theorem dksX9_stood_3 : cX9_stood.data.toList.drop 72 = dktX9_stood_3 := dk_seg dksX9_stood_2 24 rfl rfl
theorem dX9_stood_0 : decode cX9_stood 0 = .ok (.aload_n 0, 1) := dk_42 (dk_at dksX9_stood_0 0 rfl rfl)
theorem dX9_stood_1 : decode cX9_stood 1 = .ok (.iload_n 1, 1) := dk_27 (dk_at dksX9_stood_0 1 rfl rfl)
theorem dX9_stood_2 : decode cX9_stood 2 = .ok (.invokevirtual 52, 3) := dk_182 0 52 (dk_at dksX9_stood_0 2 rfl rfl)
theorem dX9_stood_5 : decode cX9_stood 5 = .ok (.ifCond .eq 22, 3) := dk_153 0 22 (dk_at dksX9_stood_0 5 rfl rfl)
theorem dX9_stood_8 : decode cX9_stood 8 = .ok (.iload_n 2, 1) := dk_28 (dk_at dksX9_stood_0 8 rfl rfl)
theorem dX9_stood_9 : decode cX9_stood 9 = .ok (.iconst 0, 1) := dk_3 (dk_at dksX9_stood_0 9 rfl rfl)
theorem dX9_stood_10 : decode cX9_stood 10 = .ok (.iconst 2, 1) := dk_5 (dk_at dksX9_stood_0 10 rfl rfl)
theorem dX9_stood_11 : decode cX9_stood 11 = .ok (.invokestatic 44, 3) := dk_184 0 44 (dk_at dksX9_stood_0 11 rfl rfl)
theorem dX9_stood_14 : decode cX9_stood 14 = .ok (.ifCond .eq 13, 3) := dk_153 0 13 (dk_at dksX9_stood_0 14 rfl rfl)
theorem dX9_stood_17 : decode cX9_stood 17 = .ok (.iload_n 3, 1) := dk_29 (dk_at dksX9_stood_0 17 rfl rfl)
theorem dX9_stood_18 : decode cX9_stood 18 = .ok (.iconst 0, 1) := dk_3 (dk_at dksX9_stood_0 18 rfl rfl)
theorem dX9_stood_19 : decode cX9_stood 19 = .ok (.bipush 9, 2) := dk_16 9 (dk_at dksX9_stood_0 19 rfl rfl)
theorem dX9_stood_21 : decode cX9_stood 21 = .ok (.invokestatic 44, 3) := dk_184 0 44 (dk_at dksX9_stood_0 21 rfl rfl)
theorem dX9_stood_24 : decode cX9_stood 24 = .ok (.ifCond .ne 5, 3) := dk_154 0 5 (dk_at dksX9_stood_1 0 rfl rfl)
theorem dX9_stood_27 : decode cX9_stood 27 = .ok (.iconst (-1), 1) := dk_2 (dk_at dksX9_stood_1 3 rfl rfl)
theorem dX9_stood_28 : decode cX9_stood 28 = .ok (.ireturn, 1) := dk_172 (dk_at dksX9_stood_1 4 rfl rfl)
theorem dX9_stood_29 : decode cX9_stood 29 = .ok (.aload_n 0, 1) := dk_42 (dk_at dksX9_stood_1 5 rfl rfl)
theorem dX9_stood_30 : decode cX9_stood 30 = .ok (.iload_n 2, 1) := dk_28 (dk_at dksX9_stood_1 6 rfl rfl)
theorem dX9_stood_31 : decode cX9_stood 31 = .ok (.iload_n 3, 1) := dk_29 (dk_at dksX9_stood_1 7 rfl rfl)
theorem dX9_stood_32 : decode cX9_stood 32 = .ok (.invokevirtual 48, 3) := dk_182 0 48 (dk_at dksX9_stood_1 8 rfl rfl)
theorem dX9_stood_35 : decode cX9_stood 35 = .ok (.ifCond .eq 6, 3) := dk_153 0 6 (dk_at dksX9_stood_1 11 rfl rfl)
theorem dX9_stood_38 : decode cX9_stood 38 = .ok (.bipush (-2), 2) := dk_16 254 (dk_at dksX9_stood_1 14 rfl rfl)
theorem dX9_stood_40 : decode cX9_stood 40 = .ok (.ireturn, 1) := dk_172 (dk_at dksX9_stood_1 16 rfl rfl)
theorem dX9_stood_41 : decode cX9_stood 41 = .ok (.aload_n 0, 1) := dk_42 (dk_at dksX9_stood_1 17 rfl rfl)
theorem dX9_stood_42 : decode cX9_stood 42 = .ok (.getfield 7, 3) := dk_180 0 7 (dk_at dksX9_stood_1 18 rfl rfl)
theorem dX9_stood_45 : decode cX9_stood 45 = .ok (.bipush 22, 2) := dk_16 22 (dk_at dksX9_stood_1 21 rfl rfl)
theorem dX9_stood_47 : decode cX9_stood 47 = .ok (.iconst 3, 1) := dk_6 (dk_at dksX9_stood_1 23 rfl rfl)
theorem dX9_stood_48 : decode cX9_stood 48 = .ok (.iload_n 1, 1) := dk_27 (dk_at dksX9_stood_2 0 rfl rfl)
theorem dX9_stood_49 : decode cX9_stood 49 = .ok (.imul, 1) := dk_104 (dk_at dksX9_stood_2 1 rfl rfl)
theorem dX9_stood_50 : decode cX9_stood 50 = .ok (.iadd, 1) := dk_96 (dk_at dksX9_stood_2 2 rfl rfl)
theorem dX9_stood_51 : decode cX9_stood 51 = .ok (.iload_n 2, 1) := dk_28 (dk_at dksX9_stood_2 3 rfl rfl)
theorem dX9_stood_52 : decode cX9_stood 52 = .ok (.iadd, 1) := dk_96 (dk_at dksX9_stood_2 4 rfl rfl)
theorem dX9_stood_53 : decode cX9_stood 53 = .ok (.iaload, 1) := dk_46 (dk_at dksX9_stood_2 5 rfl rfl)
theorem dX9_stood_54 : decode cX9_stood 54 = .ok (.istore 4, 2) := dk_54 4 (dk_at dksX9_stood_2 6 rfl rfl)
theorem dX9_stood_56 : decode cX9_stood 56 = .ok (.aload_n 0, 1) := dk_42 (dk_at dksX9_stood_2 8 rfl rfl)
theorem dX9_stood_57 : decode cX9_stood 57 = .ok (.getfield 7, 3) := dk_180 0 7 (dk_at dksX9_stood_2 9 rfl rfl)
theorem dX9_stood_60 : decode cX9_stood 60 = .ok (.bipush 22, 2) := dk_16 22 (dk_at dksX9_stood_2 12 rfl rfl)
theorem dX9_stood_62 : decode cX9_stood 62 = .ok (.iconst 3, 1) := dk_6 (dk_at dksX9_stood_2 14 rfl rfl)
theorem dX9_stood_63 : decode cX9_stood 63 = .ok (.iload_n 1, 1) := dk_27 (dk_at dksX9_stood_2 15 rfl rfl)
theorem dX9_stood_64 : decode cX9_stood 64 = .ok (.imul, 1) := dk_104 (dk_at dksX9_stood_2 16 rfl rfl)
theorem dX9_stood_65 : decode cX9_stood 65 = .ok (.iadd, 1) := dk_96 (dk_at dksX9_stood_2 17 rfl rfl)
theorem dX9_stood_66 : decode cX9_stood 66 = .ok (.iload_n 2, 1) := dk_28 (dk_at dksX9_stood_2 18 rfl rfl)
theorem dX9_stood_67 : decode cX9_stood 67 = .ok (.iadd, 1) := dk_96 (dk_at dksX9_stood_2 19 rfl rfl)
theorem dX9_stood_68 : decode cX9_stood 68 = .ok (.iload_n 3, 1) := dk_29 (dk_at dksX9_stood_2 20 rfl rfl)
theorem dX9_stood_69 : decode cX9_stood 69 = .ok (.iastore, 1) := dk_79 (dk_at dksX9_stood_2 21 rfl rfl)
theorem dX9_stood_70 : decode cX9_stood 70 = .ok (.iload 4, 2) := dk_21 4 (dk_at dksX9_stood_2 22 rfl rfl)
theorem dX9_stood_72 : decode cX9_stood 72 = .ok (.ireturn, 1) := dk_172 (dk_at dksX9_stood_3 0 rfl rfl)
abbrev cX9_isMan : ByteArray := prog_11_method_5_code
def yX9_isMan : MethodName := ⟨RX9, "isMan", "(I)Z"⟩
def dkwX9_isMan_0 : List UInt8 := [27, 3, 42, 180, 0, 7, 3, 46, 4, 100, 184, 0, 44, 172]
abbrev dktX9_isMan_0 : List UInt8 := dkwX9_isMan_0 ++ []
theorem dksX9_isMan_0 : cX9_isMan.data.toList.drop 0 = dktX9_isMan_0 := by decide +kernel
theorem dX9_isMan_0 : decode cX9_isMan 0 = .ok (.iload_n 1, 1) := dk_27 (dk_at dksX9_isMan_0 0 rfl rfl)
theorem dX9_isMan_1 : decode cX9_isMan 1 = .ok (.iconst 0, 1) := dk_3 (dk_at dksX9_isMan_0 1 rfl rfl)
theorem dX9_isMan_2 : decode cX9_isMan 2 = .ok (.aload_n 0, 1) := dk_42 (dk_at dksX9_isMan_0 2 rfl rfl)
theorem dX9_isMan_3 : decode cX9_isMan 3 = .ok (.getfield 7, 3) := dk_180 0 7 (dk_at dksX9_isMan_0 3 rfl rfl)
theorem dX9_isMan_6 : decode cX9_isMan 6 = .ok (.iconst 0, 1) := dk_3 (dk_at dksX9_isMan_0 6 rfl rfl)
theorem dX9_isMan_7 : decode cX9_isMan 7 = .ok (.iaload, 1) := dk_46 (dk_at dksX9_isMan_0 7 rfl rfl)
theorem dX9_isMan_8 : decode cX9_isMan 8 = .ok (.iconst 1, 1) := dk_4 (dk_at dksX9_isMan_0 8 rfl rfl)
theorem dX9_isMan_9 : decode cX9_isMan 9 = .ok (.isub, 1) := dk_100 (dk_at dksX9_isMan_0 9 rfl rfl)
theorem dX9_isMan_10 : decode cX9_isMan 10 = .ok (.invokestatic 44, 3) := dk_184 0 44 (dk_at dksX9_isMan_0 10 rfl rfl)
theorem dX9_isMan_13 : decode cX9_isMan 13 = .ok (.ireturn, 1) := dk_172 (dk_at dksX9_isMan_0 13 rfl rfl)
abbrev cX9_of : ByteArray := prog_11_method_18_code
def yX9_of : MethodName := ⟨RX9, "of", "(II)I"⟩
def dkwX9_of_5 : List UInt8 := [172]
abbrev dktX9_of_5 : List UInt8 := dkwX9_of_5 ++ []
def dkwX9_of_4 : List UInt8 := [167, 0, 8, 42, 27, 182, 0, 82, 172, 42, 180, 0, 7, 16, 22, 6, 27, 104, 96, 28, 96, 6, 100, 46]
abbrev dktX9_of_4 : List UInt8 := dkwX9_of_4 ++ dktX9_of_5
def dkwX9_of_3 : List UInt8 := [172, 42, 27, 182, 0, 69, 172, 42, 27, 182, 0, 66, 172, 42, 27, 182, 0, 59, 16, 252, 160, 0, 7, 3]
abbrev dktX9_of_3 : List UInt8 := dkwX9_of_3 ++ dktX9_of_4
def dkwX9_of_2 : List UInt8 := [42, 180, 0, 7, 16, 16, 27, 96, 46, 172, 42, 180, 0, 7, 7, 27, 96, 46, 172, 42, 27, 182, 0, 59]
abbrev dktX9_of_2 : List UInt8 := dkwX9_of_2 ++ dktX9_of_3
def dkwX9_of_1 : List UInt8 := [170, 0, 0, 0, 0, 0, 108, 0, 0, 0, 0, 0, 0, 0, 8, 0, 0, 0, 51, 0, 0, 0, 61, 0, 0, 0, 70, 0, 0, 0, 108, 0, 0, 0, 108, 0, 0, 0, 108, 0, 0, 0, 76, 0, 0, 0, 82, 0, 0, 0, 88]
abbrev dktX9_of_1 : List UInt8 := dkwX9_of_1 ++ dktX9_of_2
def dkwX9_of_0 : List UInt8 := [42, 27, 182, 0, 52, 153, 0, 13, 28, 3, 16, 8, 184, 0, 44, 154, 0, 5, 2, 172, 28]
abbrev dktX9_of_0 : List UInt8 := dkwX9_of_0 ++ dktX9_of_1
theorem dksX9_of_0 : cX9_of.data.toList.drop 0 = dktX9_of_0 := by decide +kernel
theorem dksX9_of_1 : cX9_of.data.toList.drop 21 = dktX9_of_1 := dk_seg dksX9_of_0 21 rfl rfl
theorem dksX9_of_2 : cX9_of.data.toList.drop 72 = dktX9_of_2 := dk_seg dksX9_of_1 51 rfl rfl
theorem dksX9_of_3 : cX9_of.data.toList.drop 96 = dktX9_of_3 := dk_seg dksX9_of_2 24 rfl rfl
theorem dksX9_of_4 : cX9_of.data.toList.drop 120 = dktX9_of_4 := dk_seg dksX9_of_3 24 rfl rfl
theorem dksX9_of_5 : cX9_of.data.toList.drop 144 = dktX9_of_5 := dk_seg dksX9_of_4 24 rfl rfl
theorem dX9_of_0 : decode cX9_of 0 = .ok (.aload_n 0, 1) := dk_42 (dk_at dksX9_of_0 0 rfl rfl)
theorem dX9_of_1 : decode cX9_of 1 = .ok (.iload_n 1, 1) := dk_27 (dk_at dksX9_of_0 1 rfl rfl)
theorem dX9_of_2 : decode cX9_of 2 = .ok (.invokevirtual 52, 3) := dk_182 0 52 (dk_at dksX9_of_0 2 rfl rfl)
theorem dX9_of_5 : decode cX9_of 5 = .ok (.ifCond .eq 13, 3) := dk_153 0 13 (dk_at dksX9_of_0 5 rfl rfl)
theorem dX9_of_8 : decode cX9_of 8 = .ok (.iload_n 2, 1) := dk_28 (dk_at dksX9_of_0 8 rfl rfl)
theorem dX9_of_9 : decode cX9_of 9 = .ok (.iconst 0, 1) := dk_3 (dk_at dksX9_of_0 9 rfl rfl)
theorem dX9_of_10 : decode cX9_of 10 = .ok (.bipush 8, 2) := dk_16 8 (dk_at dksX9_of_0 10 rfl rfl)
theorem dX9_of_12 : decode cX9_of 12 = .ok (.invokestatic 44, 3) := dk_184 0 44 (dk_at dksX9_of_0 12 rfl rfl)
theorem dX9_of_15 : decode cX9_of 15 = .ok (.ifCond .ne 5, 3) := dk_154 0 5 (dk_at dksX9_of_0 15 rfl rfl)
theorem dX9_of_18 : decode cX9_of 18 = .ok (.iconst (-1), 1) := dk_2 (dk_at dksX9_of_0 18 rfl rfl)
theorem dX9_of_19 : decode cX9_of 19 = .ok (.ireturn, 1) := dk_172 (dk_at dksX9_of_0 19 rfl rfl)
theorem dX9_of_20 : decode cX9_of 20 = .ok (.iload_n 2, 1) := dk_28 (dk_at dksX9_of_0 20 rfl rfl)
theorem dX9_of_21 : decode cX9_of 21 = .ok (.tableswitch 108 0 8 #[51, 61, 70, 108, 108, 108, 76, 82, 88], 51) := by decide +kernel
theorem dX9_of_72 : decode cX9_of 72 = .ok (.aload_n 0, 1) := dk_42 (dk_at dksX9_of_2 0 rfl rfl)
theorem dX9_of_73 : decode cX9_of 73 = .ok (.getfield 7, 3) := dk_180 0 7 (dk_at dksX9_of_2 1 rfl rfl)
theorem dX9_of_76 : decode cX9_of 76 = .ok (.bipush 16, 2) := dk_16 16 (dk_at dksX9_of_2 4 rfl rfl)
theorem dX9_of_78 : decode cX9_of 78 = .ok (.iload_n 1, 1) := dk_27 (dk_at dksX9_of_2 6 rfl rfl)
theorem dX9_of_79 : decode cX9_of 79 = .ok (.iadd, 1) := dk_96 (dk_at dksX9_of_2 7 rfl rfl)
theorem dX9_of_80 : decode cX9_of 80 = .ok (.iaload, 1) := dk_46 (dk_at dksX9_of_2 8 rfl rfl)
theorem dX9_of_81 : decode cX9_of 81 = .ok (.ireturn, 1) := dk_172 (dk_at dksX9_of_2 9 rfl rfl)
theorem dX9_of_82 : decode cX9_of 82 = .ok (.aload_n 0, 1) := dk_42 (dk_at dksX9_of_2 10 rfl rfl)
theorem dX9_of_83 : decode cX9_of 83 = .ok (.getfield 7, 3) := dk_180 0 7 (dk_at dksX9_of_2 11 rfl rfl)
theorem dX9_of_86 : decode cX9_of 86 = .ok (.iconst 4, 1) := dk_7 (dk_at dksX9_of_2 14 rfl rfl)
theorem dX9_of_87 : decode cX9_of 87 = .ok (.iload_n 1, 1) := dk_27 (dk_at dksX9_of_2 15 rfl rfl)
theorem dX9_of_88 : decode cX9_of 88 = .ok (.iadd, 1) := dk_96 (dk_at dksX9_of_2 16 rfl rfl)
theorem dX9_of_89 : decode cX9_of 89 = .ok (.iaload, 1) := dk_46 (dk_at dksX9_of_2 17 rfl rfl)
theorem dX9_of_90 : decode cX9_of 90 = .ok (.ireturn, 1) := dk_172 (dk_at dksX9_of_2 18 rfl rfl)
theorem dX9_of_91 : decode cX9_of 91 = .ok (.aload_n 0, 1) := dk_42 (dk_at dksX9_of_2 19 rfl rfl)
theorem dX9_of_92 : decode cX9_of 92 = .ok (.iload_n 1, 1) := dk_27 (dk_at dksX9_of_2 20 rfl rfl)
theorem dX9_of_93 : decode cX9_of 93 = .ok (.invokevirtual 59, 3) := dk_182 0 59 (dk_at dksX9_of_2 21 rfl rfl)
theorem dX9_of_96 : decode cX9_of 96 = .ok (.ireturn, 1) := dk_172 (dk_at dksX9_of_3 0 rfl rfl)
theorem dX9_of_97 : decode cX9_of 97 = .ok (.aload_n 0, 1) := dk_42 (dk_at dksX9_of_3 1 rfl rfl)
theorem dX9_of_98 : decode cX9_of 98 = .ok (.iload_n 1, 1) := dk_27 (dk_at dksX9_of_3 2 rfl rfl)
theorem dX9_of_99 : decode cX9_of 99 = .ok (.invokevirtual 69, 3) := dk_182 0 69 (dk_at dksX9_of_3 3 rfl rfl)
theorem dX9_of_102 : decode cX9_of 102 = .ok (.ireturn, 1) := dk_172 (dk_at dksX9_of_3 6 rfl rfl)
theorem dX9_of_103 : decode cX9_of 103 = .ok (.aload_n 0, 1) := dk_42 (dk_at dksX9_of_3 7 rfl rfl)
theorem dX9_of_104 : decode cX9_of 104 = .ok (.iload_n 1, 1) := dk_27 (dk_at dksX9_of_3 8 rfl rfl)
theorem dX9_of_105 : decode cX9_of 105 = .ok (.invokevirtual 66, 3) := dk_182 0 66 (dk_at dksX9_of_3 9 rfl rfl)
theorem dX9_of_108 : decode cX9_of 108 = .ok (.ireturn, 1) := dk_172 (dk_at dksX9_of_3 12 rfl rfl)
theorem dX9_of_109 : decode cX9_of 109 = .ok (.aload_n 0, 1) := dk_42 (dk_at dksX9_of_3 13 rfl rfl)
theorem dX9_of_110 : decode cX9_of 110 = .ok (.iload_n 1, 1) := dk_27 (dk_at dksX9_of_3 14 rfl rfl)
theorem dX9_of_111 : decode cX9_of 111 = .ok (.invokevirtual 59, 3) := dk_182 0 59 (dk_at dksX9_of_3 15 rfl rfl)
theorem dX9_of_114 : decode cX9_of 114 = .ok (.bipush (-4), 2) := dk_16 252 (dk_at dksX9_of_3 18 rfl rfl)
theorem dX9_of_116 : decode cX9_of 116 = .ok (.if_icmp .ne 7, 3) := dk_160 0 7 (dk_at dksX9_of_3 20 rfl rfl)
theorem dX9_of_119 : decode cX9_of 119 = .ok (.iconst 0, 1) := dk_3 (dk_at dksX9_of_3 23 rfl rfl)
theorem dX9_of_120 : decode cX9_of 120 = .ok (.goto 8, 3) := dk_167 0 8 (dk_at dksX9_of_4 0 rfl rfl)
theorem dX9_of_123 : decode cX9_of 123 = .ok (.aload_n 0, 1) := dk_42 (dk_at dksX9_of_4 3 rfl rfl)
theorem dX9_of_124 : decode cX9_of 124 = .ok (.iload_n 1, 1) := dk_27 (dk_at dksX9_of_4 4 rfl rfl)
theorem dX9_of_125 : decode cX9_of 125 = .ok (.invokevirtual 82, 3) := dk_182 0 82 (dk_at dksX9_of_4 5 rfl rfl)
theorem dX9_of_128 : decode cX9_of 128 = .ok (.ireturn, 1) := dk_172 (dk_at dksX9_of_4 8 rfl rfl)
theorem dX9_of_129 : decode cX9_of 129 = .ok (.aload_n 0, 1) := dk_42 (dk_at dksX9_of_4 9 rfl rfl)
theorem dX9_of_130 : decode cX9_of 130 = .ok (.getfield 7, 3) := dk_180 0 7 (dk_at dksX9_of_4 10 rfl rfl)
theorem dX9_of_133 : decode cX9_of 133 = .ok (.bipush 22, 2) := dk_16 22 (dk_at dksX9_of_4 13 rfl rfl)
theorem dX9_of_135 : decode cX9_of 135 = .ok (.iconst 3, 1) := dk_6 (dk_at dksX9_of_4 15 rfl rfl)
theorem dX9_of_136 : decode cX9_of 136 = .ok (.iload_n 1, 1) := dk_27 (dk_at dksX9_of_4 16 rfl rfl)
theorem dX9_of_137 : decode cX9_of 137 = .ok (.imul, 1) := dk_104 (dk_at dksX9_of_4 17 rfl rfl)
theorem dX9_of_138 : decode cX9_of 138 = .ok (.iadd, 1) := dk_96 (dk_at dksX9_of_4 18 rfl rfl)
theorem dX9_of_139 : decode cX9_of 139 = .ok (.iload_n 2, 1) := dk_28 (dk_at dksX9_of_4 19 rfl rfl)
theorem dX9_of_140 : decode cX9_of 140 = .ok (.iadd, 1) := dk_96 (dk_at dksX9_of_4 20 rfl rfl)
theorem dX9_of_141 : decode cX9_of 141 = .ok (.iconst 3, 1) := dk_6 (dk_at dksX9_of_4 21 rfl rfl)
theorem dX9_of_142 : decode cX9_of 142 = .ok (.isub, 1) := dk_100 (dk_at dksX9_of_4 22 rfl rfl)
theorem dX9_of_143 : decode cX9_of 143 = .ok (.iaload, 1) := dk_46 (dk_at dksX9_of_4 23 rfl rfl)
theorem dX9_of_144 : decode cX9_of 144 = .ok (.ireturn, 1) := dk_172 (dk_at dksX9_of_5 0 rfl rfl)
abbrev cX9_seatOf : ByteArray := prog_11_method_6_code
def yX9_seatOf : MethodName := ⟨RX9, "seatOf", "(I)I"⟩
def dkwX9_seatOf_1 : List UInt8 := [27, 160, 0, 7, 29, 167, 0, 4, 28, 61, 132, 3, 1, 167, 255, 224, 28, 172]
abbrev dktX9_seatOf_1 : List UInt8 := dkwX9_seatOf_1 ++ []
def dkwX9_seatOf_0 : List UInt8 := [16, 252, 61, 3, 62, 29, 42, 180, 0, 7, 4, 46, 162, 0, 28, 42, 180, 0, 7, 16, 10, 29, 96, 46]
abbrev dktX9_seatOf_0 : List UInt8 := dkwX9_seatOf_0 ++ dktX9_seatOf_1
theorem dksX9_seatOf_0 : cX9_seatOf.data.toList.drop 0 = dktX9_seatOf_0 := by decide +kernel
theorem dksX9_seatOf_1 : cX9_seatOf.data.toList.drop 24 = dktX9_seatOf_1 := dk_seg dksX9_seatOf_0 24 rfl rfl
theorem dX9_seatOf_0 : decode cX9_seatOf 0 = .ok (.bipush (-4), 2) := dk_16 252 (dk_at dksX9_seatOf_0 0 rfl rfl)
theorem dX9_seatOf_2 : decode cX9_seatOf 2 = .ok (.istore_n 2, 1) := dk_61 (dk_at dksX9_seatOf_0 2 rfl rfl)
theorem dX9_seatOf_3 : decode cX9_seatOf 3 = .ok (.iconst 0, 1) := dk_3 (dk_at dksX9_seatOf_0 3 rfl rfl)
theorem dX9_seatOf_4 : decode cX9_seatOf 4 = .ok (.istore_n 3, 1) := dk_62 (dk_at dksX9_seatOf_0 4 rfl rfl)
theorem dX9_seatOf_5 : decode cX9_seatOf 5 = .ok (.iload_n 3, 1) := dk_29 (dk_at dksX9_seatOf_0 5 rfl rfl)
theorem dX9_seatOf_6 : decode cX9_seatOf 6 = .ok (.aload_n 0, 1) := dk_42 (dk_at dksX9_seatOf_0 6 rfl rfl)
theorem dX9_seatOf_7 : decode cX9_seatOf 7 = .ok (.getfield 7, 3) := dk_180 0 7 (dk_at dksX9_seatOf_0 7 rfl rfl)
theorem dX9_seatOf_10 : decode cX9_seatOf 10 = .ok (.iconst 1, 1) := dk_4 (dk_at dksX9_seatOf_0 10 rfl rfl)
theorem dX9_seatOf_11 : decode cX9_seatOf 11 = .ok (.iaload, 1) := dk_46 (dk_at dksX9_seatOf_0 11 rfl rfl)
theorem dX9_seatOf_12 : decode cX9_seatOf 12 = .ok (.if_icmp .ge 28, 3) := dk_162 0 28 (dk_at dksX9_seatOf_0 12 rfl rfl)
theorem dX9_seatOf_15 : decode cX9_seatOf 15 = .ok (.aload_n 0, 1) := dk_42 (dk_at dksX9_seatOf_0 15 rfl rfl)
theorem dX9_seatOf_16 : decode cX9_seatOf 16 = .ok (.getfield 7, 3) := dk_180 0 7 (dk_at dksX9_seatOf_0 16 rfl rfl)
theorem dX9_seatOf_19 : decode cX9_seatOf 19 = .ok (.bipush 10, 2) := dk_16 10 (dk_at dksX9_seatOf_0 19 rfl rfl)
theorem dX9_seatOf_21 : decode cX9_seatOf 21 = .ok (.iload_n 3, 1) := dk_29 (dk_at dksX9_seatOf_0 21 rfl rfl)
theorem dX9_seatOf_22 : decode cX9_seatOf 22 = .ok (.iadd, 1) := dk_96 (dk_at dksX9_seatOf_0 22 rfl rfl)
theorem dX9_seatOf_23 : decode cX9_seatOf 23 = .ok (.iaload, 1) := dk_46 (dk_at dksX9_seatOf_0 23 rfl rfl)
theorem dX9_seatOf_24 : decode cX9_seatOf 24 = .ok (.iload_n 1, 1) := dk_27 (dk_at dksX9_seatOf_1 0 rfl rfl)
theorem dX9_seatOf_25 : decode cX9_seatOf 25 = .ok (.if_icmp .ne 7, 3) := dk_160 0 7 (dk_at dksX9_seatOf_1 1 rfl rfl)
theorem dX9_seatOf_28 : decode cX9_seatOf 28 = .ok (.iload_n 3, 1) := dk_29 (dk_at dksX9_seatOf_1 4 rfl rfl)
theorem dX9_seatOf_29 : decode cX9_seatOf 29 = .ok (.goto 4, 3) := dk_167 0 4 (dk_at dksX9_seatOf_1 5 rfl rfl)
theorem dX9_seatOf_32 : decode cX9_seatOf 32 = .ok (.iload_n 2, 1) := dk_28 (dk_at dksX9_seatOf_1 8 rfl rfl)
theorem dX9_seatOf_33 : decode cX9_seatOf 33 = .ok (.istore_n 2, 1) := dk_61 (dk_at dksX9_seatOf_1 9 rfl rfl)
theorem dX9_seatOf_34 : decode cX9_seatOf 34 = .ok (.iinc 3 1, 3) := dk_132 3 1 (dk_at dksX9_seatOf_1 10 rfl rfl)
theorem dX9_seatOf_37 : decode cX9_seatOf 37 = .ok (.goto (-32), 3) := dk_167 255 224 (dk_at dksX9_seatOf_1 13 rfl rfl)
theorem dX9_seatOf_40 : decode cX9_seatOf 40 = .ok (.iload_n 2, 1) := dk_28 (dk_at dksX9_seatOf_1 16 rfl rfl)
theorem dX9_seatOf_41 : decode cX9_seatOf 41 = .ok (.ireturn, 1) := dk_172 (dk_at dksX9_seatOf_1 17 rfl rfl)
abbrev cX9_allStoodBy : ByteArray := prog_11_method_13_code
def yX9_allStoodBy : MethodName := ⟨RX9, "allStoodBy", "(I)I"⟩
def dkwX9_allStoodBy_1 : List UInt8 := [182, 0, 56, 153, 0, 9, 4, 29, 120, 167, 0, 4, 3, 128, 61, 132, 3, 1, 167, 255, 219, 28, 172]
abbrev dktX9_allStoodBy_1 : List UInt8 := dkwX9_allStoodBy_1 ++ []
def dkwX9_allStoodBy_0 : List UInt8 := [3, 61, 3, 62, 29, 42, 180, 0, 7, 3, 46, 162, 0, 33, 28, 29, 27, 159, 0, 18, 42, 27, 29]
abbrev dktX9_allStoodBy_0 : List UInt8 := dkwX9_allStoodBy_0 ++ dktX9_allStoodBy_1
theorem dksX9_allStoodBy_0 : cX9_allStoodBy.data.toList.drop 0 = dktX9_allStoodBy_0 := by decide +kernel
theorem dksX9_allStoodBy_1 : cX9_allStoodBy.data.toList.drop 23 = dktX9_allStoodBy_1 := dk_seg dksX9_allStoodBy_0 23 rfl rfl
theorem dX9_allStoodBy_0 : decode cX9_allStoodBy 0 = .ok (.iconst 0, 1) := dk_3 (dk_at dksX9_allStoodBy_0 0 rfl rfl)
theorem dX9_allStoodBy_1 : decode cX9_allStoodBy 1 = .ok (.istore_n 2, 1) := dk_61 (dk_at dksX9_allStoodBy_0 1 rfl rfl)
theorem dX9_allStoodBy_2 : decode cX9_allStoodBy 2 = .ok (.iconst 0, 1) := dk_3 (dk_at dksX9_allStoodBy_0 2 rfl rfl)
theorem dX9_allStoodBy_3 : decode cX9_allStoodBy 3 = .ok (.istore_n 3, 1) := dk_62 (dk_at dksX9_allStoodBy_0 3 rfl rfl)
theorem dX9_allStoodBy_4 : decode cX9_allStoodBy 4 = .ok (.iload_n 3, 1) := dk_29 (dk_at dksX9_allStoodBy_0 4 rfl rfl)
theorem dX9_allStoodBy_5 : decode cX9_allStoodBy 5 = .ok (.aload_n 0, 1) := dk_42 (dk_at dksX9_allStoodBy_0 5 rfl rfl)
theorem dX9_allStoodBy_6 : decode cX9_allStoodBy 6 = .ok (.getfield 7, 3) := dk_180 0 7 (dk_at dksX9_allStoodBy_0 6 rfl rfl)
theorem dX9_allStoodBy_9 : decode cX9_allStoodBy 9 = .ok (.iconst 0, 1) := dk_3 (dk_at dksX9_allStoodBy_0 9 rfl rfl)
theorem dX9_allStoodBy_10 : decode cX9_allStoodBy 10 = .ok (.iaload, 1) := dk_46 (dk_at dksX9_allStoodBy_0 10 rfl rfl)
theorem dX9_allStoodBy_11 : decode cX9_allStoodBy 11 = .ok (.if_icmp .ge 33, 3) := dk_162 0 33 (dk_at dksX9_allStoodBy_0 11 rfl rfl)
theorem dX9_allStoodBy_14 : decode cX9_allStoodBy 14 = .ok (.iload_n 2, 1) := dk_28 (dk_at dksX9_allStoodBy_0 14 rfl rfl)
theorem dX9_allStoodBy_15 : decode cX9_allStoodBy 15 = .ok (.iload_n 3, 1) := dk_29 (dk_at dksX9_allStoodBy_0 15 rfl rfl)
theorem dX9_allStoodBy_16 : decode cX9_allStoodBy 16 = .ok (.iload_n 1, 1) := dk_27 (dk_at dksX9_allStoodBy_0 16 rfl rfl)
theorem dX9_allStoodBy_17 : decode cX9_allStoodBy 17 = .ok (.if_icmp .eq 18, 3) := dk_159 0 18 (dk_at dksX9_allStoodBy_0 17 rfl rfl)
theorem dX9_allStoodBy_20 : decode cX9_allStoodBy 20 = .ok (.aload_n 0, 1) := dk_42 (dk_at dksX9_allStoodBy_0 20 rfl rfl)
theorem dX9_allStoodBy_21 : decode cX9_allStoodBy 21 = .ok (.iload_n 1, 1) := dk_27 (dk_at dksX9_allStoodBy_0 21 rfl rfl)
theorem dX9_allStoodBy_22 : decode cX9_allStoodBy 22 = .ok (.iload_n 3, 1) := dk_29 (dk_at dksX9_allStoodBy_0 22 rfl rfl)
theorem dX9_allStoodBy_23 : decode cX9_allStoodBy 23 = .ok (.invokevirtual 56, 3) := dk_182 0 56 (dk_at dksX9_allStoodBy_1 0 rfl rfl)
theorem dX9_allStoodBy_26 : decode cX9_allStoodBy 26 = .ok (.ifCond .eq 9, 3) := dk_153 0 9 (dk_at dksX9_allStoodBy_1 3 rfl rfl)
theorem dX9_allStoodBy_29 : decode cX9_allStoodBy 29 = .ok (.iconst 1, 1) := dk_4 (dk_at dksX9_allStoodBy_1 6 rfl rfl)
theorem dX9_allStoodBy_30 : decode cX9_allStoodBy 30 = .ok (.iload_n 3, 1) := dk_29 (dk_at dksX9_allStoodBy_1 7 rfl rfl)
theorem dX9_allStoodBy_31 : decode cX9_allStoodBy 31 = .ok (.ishl, 1) := dk_120 (dk_at dksX9_allStoodBy_1 8 rfl rfl)
theorem dX9_allStoodBy_32 : decode cX9_allStoodBy 32 = .ok (.goto 4, 3) := dk_167 0 4 (dk_at dksX9_allStoodBy_1 9 rfl rfl)
theorem dX9_allStoodBy_35 : decode cX9_allStoodBy 35 = .ok (.iconst 0, 1) := dk_3 (dk_at dksX9_allStoodBy_1 12 rfl rfl)
theorem dX9_allStoodBy_36 : decode cX9_allStoodBy 36 = .ok (.ior, 1) := dk_128 (dk_at dksX9_allStoodBy_1 13 rfl rfl)
theorem dX9_allStoodBy_37 : decode cX9_allStoodBy 37 = .ok (.istore_n 2, 1) := dk_61 (dk_at dksX9_allStoodBy_1 14 rfl rfl)
theorem dX9_allStoodBy_38 : decode cX9_allStoodBy 38 = .ok (.iinc 3 1, 3) := dk_132 3 1 (dk_at dksX9_allStoodBy_1 15 rfl rfl)
theorem dX9_allStoodBy_41 : decode cX9_allStoodBy 41 = .ok (.goto (-37), 3) := dk_167 255 219 (dk_at dksX9_allStoodBy_1 18 rfl rfl)
theorem dX9_allStoodBy_44 : decode cX9_allStoodBy 44 = .ok (.iload_n 2, 1) := dk_28 (dk_at dksX9_allStoodBy_1 21 rfl rfl)
theorem dX9_allStoodBy_45 : decode cX9_allStoodBy 45 = .ok (.ireturn, 1) := dk_172 (dk_at dksX9_allStoodBy_1 22 rfl rfl)
abbrev cX9_stoodBy : ByteArray := prog_11_method_12_code
def yX9_stoodBy : MethodName := ⟨RX9, "stoodBy", "(II)Z"⟩
def dkwX9_stoodBy_6 : List UInt8 := [167, 255, 120, 29, 172]
abbrev dktX9_stoodBy_6 : List UInt8 := dkwX9_stoodBy_6 ++ []
def dkwX9_stoodBy_5 : List UInt8 := [132, 8, 1, 167, 255, 185, 29, 154, 0, 8, 21, 7, 153, 0, 7, 4, 167, 0, 4, 3, 62, 132, 4, 1]
abbrev dktX9_stoodBy_5 : List UInt8 := dkwX9_stoodBy_5 ++ dktX9_stoodBy_6
def dkwX9_stoodBy_4 : List UInt8 := [161, 0, 21, 21, 9, 21, 6, 164, 0, 10, 21, 9, 21, 5, 161, 0, 7, 4, 167, 0, 4, 3, 54, 7]
abbrev dktX9_stoodBy_4 : List UInt8 := dkwX9_stoodBy_4 ++ dktX9_stoodBy_5
def dkwX9_stoodBy_3 : List UInt8 := [21, 4, 96, 46, 54, 9, 21, 7, 153, 0, 35, 21, 9, 21, 5, 164, 0, 10, 21, 9, 21, 6]
abbrev dktX9_stoodBy_3 : List UInt8 := dkwX9_stoodBy_3 ++ dktX9_stoodBy_4
def dkwX9_stoodBy_2 : List UInt8 := [54, 8, 21, 8, 42, 180, 0, 7, 3, 46, 162, 0, 66, 42, 180, 0, 7, 16, 22, 6, 21, 8, 104, 96]
abbrev dktX9_stoodBy_2 : List UInt8 := dkwX9_stoodBy_2 ++ dktX9_stoodBy_3
def dkwX9_stoodBy_1 : List UInt8 := [46, 54, 5, 42, 180, 0, 7, 16, 22, 6, 28, 104, 96, 21, 4, 96, 46, 54, 6, 4, 54, 7, 3]
abbrev dktX9_stoodBy_1 : List UInt8 := dkwX9_stoodBy_1 ++ dktX9_stoodBy_2
def dkwX9_stoodBy_0 : List UInt8 := [3, 62, 3, 54, 4, 21, 4, 6, 162, 0, 136, 42, 180, 0, 7, 16, 22, 6, 27, 104, 96, 21, 4, 96]
abbrev dktX9_stoodBy_0 : List UInt8 := dkwX9_stoodBy_0 ++ dktX9_stoodBy_1
theorem dksX9_stoodBy_0 : cX9_stoodBy.data.toList.drop 0 = dktX9_stoodBy_0 := by decide +kernel
theorem dksX9_stoodBy_1 : cX9_stoodBy.data.toList.drop 24 = dktX9_stoodBy_1 := dk_seg dksX9_stoodBy_0 24 rfl rfl
theorem dksX9_stoodBy_2 : cX9_stoodBy.data.toList.drop 47 = dktX9_stoodBy_2 := dk_seg dksX9_stoodBy_1 23 rfl rfl
theorem dksX9_stoodBy_3 : cX9_stoodBy.data.toList.drop 71 = dktX9_stoodBy_3 := dk_seg dksX9_stoodBy_2 24 rfl rfl
theorem dksX9_stoodBy_4 : cX9_stoodBy.data.toList.drop 93 = dktX9_stoodBy_4 := dk_seg dksX9_stoodBy_3 22 rfl rfl
theorem dksX9_stoodBy_5 : cX9_stoodBy.data.toList.drop 117 = dktX9_stoodBy_5 := dk_seg dksX9_stoodBy_4 24 rfl rfl
theorem dksX9_stoodBy_6 : cX9_stoodBy.data.toList.drop 141 = dktX9_stoodBy_6 := dk_seg dksX9_stoodBy_5 24 rfl rfl
theorem dX9_stoodBy_0 : decode cX9_stoodBy 0 = .ok (.iconst 0, 1) := dk_3 (dk_at dksX9_stoodBy_0 0 rfl rfl)
theorem dX9_stoodBy_1 : decode cX9_stoodBy 1 = .ok (.istore_n 3, 1) := dk_62 (dk_at dksX9_stoodBy_0 1 rfl rfl)
theorem dX9_stoodBy_2 : decode cX9_stoodBy 2 = .ok (.iconst 0, 1) := dk_3 (dk_at dksX9_stoodBy_0 2 rfl rfl)
theorem dX9_stoodBy_3 : decode cX9_stoodBy 3 = .ok (.istore 4, 2) := dk_54 4 (dk_at dksX9_stoodBy_0 3 rfl rfl)
theorem dX9_stoodBy_5 : decode cX9_stoodBy 5 = .ok (.iload 4, 2) := dk_21 4 (dk_at dksX9_stoodBy_0 5 rfl rfl)
theorem dX9_stoodBy_7 : decode cX9_stoodBy 7 = .ok (.iconst 3, 1) := dk_6 (dk_at dksX9_stoodBy_0 7 rfl rfl)
theorem dX9_stoodBy_8 : decode cX9_stoodBy 8 = .ok (.if_icmp .ge 136, 3) := dk_162 0 136 (dk_at dksX9_stoodBy_0 8 rfl rfl)
theorem dX9_stoodBy_11 : decode cX9_stoodBy 11 = .ok (.aload_n 0, 1) := dk_42 (dk_at dksX9_stoodBy_0 11 rfl rfl)
theorem dX9_stoodBy_12 : decode cX9_stoodBy 12 = .ok (.getfield 7, 3) := dk_180 0 7 (dk_at dksX9_stoodBy_0 12 rfl rfl)
theorem dX9_stoodBy_15 : decode cX9_stoodBy 15 = .ok (.bipush 22, 2) := dk_16 22 (dk_at dksX9_stoodBy_0 15 rfl rfl)
theorem dX9_stoodBy_17 : decode cX9_stoodBy 17 = .ok (.iconst 3, 1) := dk_6 (dk_at dksX9_stoodBy_0 17 rfl rfl)
theorem dX9_stoodBy_18 : decode cX9_stoodBy 18 = .ok (.iload_n 1, 1) := dk_27 (dk_at dksX9_stoodBy_0 18 rfl rfl)
theorem dX9_stoodBy_19 : decode cX9_stoodBy 19 = .ok (.imul, 1) := dk_104 (dk_at dksX9_stoodBy_0 19 rfl rfl)
theorem dX9_stoodBy_20 : decode cX9_stoodBy 20 = .ok (.iadd, 1) := dk_96 (dk_at dksX9_stoodBy_0 20 rfl rfl)
theorem dX9_stoodBy_21 : decode cX9_stoodBy 21 = .ok (.iload 4, 2) := dk_21 4 (dk_at dksX9_stoodBy_0 21 rfl rfl)
theorem dX9_stoodBy_23 : decode cX9_stoodBy 23 = .ok (.iadd, 1) := dk_96 (dk_at dksX9_stoodBy_0 23 rfl rfl)
theorem dX9_stoodBy_24 : decode cX9_stoodBy 24 = .ok (.iaload, 1) := dk_46 (dk_at dksX9_stoodBy_1 0 rfl rfl)
theorem dX9_stoodBy_25 : decode cX9_stoodBy 25 = .ok (.istore 5, 2) := dk_54 5 (dk_at dksX9_stoodBy_1 1 rfl rfl)
theorem dX9_stoodBy_27 : decode cX9_stoodBy 27 = .ok (.aload_n 0, 1) := dk_42 (dk_at dksX9_stoodBy_1 3 rfl rfl)
theorem dX9_stoodBy_28 : decode cX9_stoodBy 28 = .ok (.getfield 7, 3) := dk_180 0 7 (dk_at dksX9_stoodBy_1 4 rfl rfl)
theorem dX9_stoodBy_31 : decode cX9_stoodBy 31 = .ok (.bipush 22, 2) := dk_16 22 (dk_at dksX9_stoodBy_1 7 rfl rfl)
theorem dX9_stoodBy_33 : decode cX9_stoodBy 33 = .ok (.iconst 3, 1) := dk_6 (dk_at dksX9_stoodBy_1 9 rfl rfl)
theorem dX9_stoodBy_34 : decode cX9_stoodBy 34 = .ok (.iload_n 2, 1) := dk_28 (dk_at dksX9_stoodBy_1 10 rfl rfl)
theorem dX9_stoodBy_35 : decode cX9_stoodBy 35 = .ok (.imul, 1) := dk_104 (dk_at dksX9_stoodBy_1 11 rfl rfl)
theorem dX9_stoodBy_36 : decode cX9_stoodBy 36 = .ok (.iadd, 1) := dk_96 (dk_at dksX9_stoodBy_1 12 rfl rfl)
theorem dX9_stoodBy_37 : decode cX9_stoodBy 37 = .ok (.iload 4, 2) := dk_21 4 (dk_at dksX9_stoodBy_1 13 rfl rfl)
theorem dX9_stoodBy_39 : decode cX9_stoodBy 39 = .ok (.iadd, 1) := dk_96 (dk_at dksX9_stoodBy_1 15 rfl rfl)
theorem dX9_stoodBy_40 : decode cX9_stoodBy 40 = .ok (.iaload, 1) := dk_46 (dk_at dksX9_stoodBy_1 16 rfl rfl)
theorem dX9_stoodBy_41 : decode cX9_stoodBy 41 = .ok (.istore 6, 2) := dk_54 6 (dk_at dksX9_stoodBy_1 17 rfl rfl)
theorem dX9_stoodBy_43 : decode cX9_stoodBy 43 = .ok (.iconst 1, 1) := dk_4 (dk_at dksX9_stoodBy_1 19 rfl rfl)
theorem dX9_stoodBy_44 : decode cX9_stoodBy 44 = .ok (.istore 7, 2) := dk_54 7 (dk_at dksX9_stoodBy_1 20 rfl rfl)
theorem dX9_stoodBy_46 : decode cX9_stoodBy 46 = .ok (.iconst 0, 1) := dk_3 (dk_at dksX9_stoodBy_1 22 rfl rfl)
theorem dX9_stoodBy_47 : decode cX9_stoodBy 47 = .ok (.istore 8, 2) := dk_54 8 (dk_at dksX9_stoodBy_2 0 rfl rfl)
theorem dX9_stoodBy_49 : decode cX9_stoodBy 49 = .ok (.iload 8, 2) := dk_21 8 (dk_at dksX9_stoodBy_2 2 rfl rfl)
theorem dX9_stoodBy_51 : decode cX9_stoodBy 51 = .ok (.aload_n 0, 1) := dk_42 (dk_at dksX9_stoodBy_2 4 rfl rfl)
theorem dX9_stoodBy_52 : decode cX9_stoodBy 52 = .ok (.getfield 7, 3) := dk_180 0 7 (dk_at dksX9_stoodBy_2 5 rfl rfl)
theorem dX9_stoodBy_55 : decode cX9_stoodBy 55 = .ok (.iconst 0, 1) := dk_3 (dk_at dksX9_stoodBy_2 8 rfl rfl)
theorem dX9_stoodBy_56 : decode cX9_stoodBy 56 = .ok (.iaload, 1) := dk_46 (dk_at dksX9_stoodBy_2 9 rfl rfl)
theorem dX9_stoodBy_57 : decode cX9_stoodBy 57 = .ok (.if_icmp .ge 66, 3) := dk_162 0 66 (dk_at dksX9_stoodBy_2 10 rfl rfl)
theorem dX9_stoodBy_60 : decode cX9_stoodBy 60 = .ok (.aload_n 0, 1) := dk_42 (dk_at dksX9_stoodBy_2 13 rfl rfl)
theorem dX9_stoodBy_61 : decode cX9_stoodBy 61 = .ok (.getfield 7, 3) := dk_180 0 7 (dk_at dksX9_stoodBy_2 14 rfl rfl)
theorem dX9_stoodBy_64 : decode cX9_stoodBy 64 = .ok (.bipush 22, 2) := dk_16 22 (dk_at dksX9_stoodBy_2 17 rfl rfl)
theorem dX9_stoodBy_66 : decode cX9_stoodBy 66 = .ok (.iconst 3, 1) := dk_6 (dk_at dksX9_stoodBy_2 19 rfl rfl)
theorem dX9_stoodBy_67 : decode cX9_stoodBy 67 = .ok (.iload 8, 2) := dk_21 8 (dk_at dksX9_stoodBy_2 20 rfl rfl)
theorem dX9_stoodBy_69 : decode cX9_stoodBy 69 = .ok (.imul, 1) := dk_104 (dk_at dksX9_stoodBy_2 22 rfl rfl)
theorem dX9_stoodBy_70 : decode cX9_stoodBy 70 = .ok (.iadd, 1) := dk_96 (dk_at dksX9_stoodBy_2 23 rfl rfl)
theorem dX9_stoodBy_71 : decode cX9_stoodBy 71 = .ok (.iload 4, 2) := dk_21 4 (dk_at dksX9_stoodBy_3 0 rfl rfl)
theorem dX9_stoodBy_73 : decode cX9_stoodBy 73 = .ok (.iadd, 1) := dk_96 (dk_at dksX9_stoodBy_3 2 rfl rfl)
theorem dX9_stoodBy_74 : decode cX9_stoodBy 74 = .ok (.iaload, 1) := dk_46 (dk_at dksX9_stoodBy_3 3 rfl rfl)
theorem dX9_stoodBy_75 : decode cX9_stoodBy 75 = .ok (.istore 9, 2) := dk_54 9 (dk_at dksX9_stoodBy_3 4 rfl rfl)
theorem dX9_stoodBy_77 : decode cX9_stoodBy 77 = .ok (.iload 7, 2) := dk_21 7 (dk_at dksX9_stoodBy_3 6 rfl rfl)
theorem dX9_stoodBy_79 : decode cX9_stoodBy 79 = .ok (.ifCond .eq 35, 3) := dk_153 0 35 (dk_at dksX9_stoodBy_3 8 rfl rfl)
theorem dX9_stoodBy_82 : decode cX9_stoodBy 82 = .ok (.iload 9, 2) := dk_21 9 (dk_at dksX9_stoodBy_3 11 rfl rfl)
theorem dX9_stoodBy_84 : decode cX9_stoodBy 84 = .ok (.iload 5, 2) := dk_21 5 (dk_at dksX9_stoodBy_3 13 rfl rfl)
theorem dX9_stoodBy_86 : decode cX9_stoodBy 86 = .ok (.if_icmp .le 10, 3) := dk_164 0 10 (dk_at dksX9_stoodBy_3 15 rfl rfl)
theorem dX9_stoodBy_89 : decode cX9_stoodBy 89 = .ok (.iload 9, 2) := dk_21 9 (dk_at dksX9_stoodBy_3 18 rfl rfl)
theorem dX9_stoodBy_91 : decode cX9_stoodBy 91 = .ok (.iload 6, 2) := dk_21 6 (dk_at dksX9_stoodBy_3 20 rfl rfl)
theorem dX9_stoodBy_93 : decode cX9_stoodBy 93 = .ok (.if_icmp .lt 21, 3) := dk_161 0 21 (dk_at dksX9_stoodBy_4 0 rfl rfl)
theorem dX9_stoodBy_96 : decode cX9_stoodBy 96 = .ok (.iload 9, 2) := dk_21 9 (dk_at dksX9_stoodBy_4 3 rfl rfl)
theorem dX9_stoodBy_98 : decode cX9_stoodBy 98 = .ok (.iload 6, 2) := dk_21 6 (dk_at dksX9_stoodBy_4 5 rfl rfl)
theorem dX9_stoodBy_100 : decode cX9_stoodBy 100 = .ok (.if_icmp .le 10, 3) := dk_164 0 10 (dk_at dksX9_stoodBy_4 7 rfl rfl)
theorem dX9_stoodBy_103 : decode cX9_stoodBy 103 = .ok (.iload 9, 2) := dk_21 9 (dk_at dksX9_stoodBy_4 10 rfl rfl)
theorem dX9_stoodBy_105 : decode cX9_stoodBy 105 = .ok (.iload 5, 2) := dk_21 5 (dk_at dksX9_stoodBy_4 12 rfl rfl)
theorem dX9_stoodBy_107 : decode cX9_stoodBy 107 = .ok (.if_icmp .lt 7, 3) := dk_161 0 7 (dk_at dksX9_stoodBy_4 14 rfl rfl)
theorem dX9_stoodBy_110 : decode cX9_stoodBy 110 = .ok (.iconst 1, 1) := dk_4 (dk_at dksX9_stoodBy_4 17 rfl rfl)
theorem dX9_stoodBy_111 : decode cX9_stoodBy 111 = .ok (.goto 4, 3) := dk_167 0 4 (dk_at dksX9_stoodBy_4 18 rfl rfl)
theorem dX9_stoodBy_114 : decode cX9_stoodBy 114 = .ok (.iconst 0, 1) := dk_3 (dk_at dksX9_stoodBy_4 21 rfl rfl)
theorem dX9_stoodBy_115 : decode cX9_stoodBy 115 = .ok (.istore 7, 2) := dk_54 7 (dk_at dksX9_stoodBy_4 22 rfl rfl)
theorem dX9_stoodBy_117 : decode cX9_stoodBy 117 = .ok (.iinc 8 1, 3) := dk_132 8 1 (dk_at dksX9_stoodBy_5 0 rfl rfl)
theorem dX9_stoodBy_120 : decode cX9_stoodBy 120 = .ok (.goto (-71), 3) := dk_167 255 185 (dk_at dksX9_stoodBy_5 3 rfl rfl)
theorem dX9_stoodBy_123 : decode cX9_stoodBy 123 = .ok (.iload_n 3, 1) := dk_29 (dk_at dksX9_stoodBy_5 6 rfl rfl)
theorem dX9_stoodBy_124 : decode cX9_stoodBy 124 = .ok (.ifCond .ne 8, 3) := dk_154 0 8 (dk_at dksX9_stoodBy_5 7 rfl rfl)
theorem dX9_stoodBy_127 : decode cX9_stoodBy 127 = .ok (.iload 7, 2) := dk_21 7 (dk_at dksX9_stoodBy_5 10 rfl rfl)
theorem dX9_stoodBy_129 : decode cX9_stoodBy 129 = .ok (.ifCond .eq 7, 3) := dk_153 0 7 (dk_at dksX9_stoodBy_5 12 rfl rfl)
theorem dX9_stoodBy_132 : decode cX9_stoodBy 132 = .ok (.iconst 1, 1) := dk_4 (dk_at dksX9_stoodBy_5 15 rfl rfl)
theorem dX9_stoodBy_133 : decode cX9_stoodBy 133 = .ok (.goto 4, 3) := dk_167 0 4 (dk_at dksX9_stoodBy_5 16 rfl rfl)
theorem dX9_stoodBy_136 : decode cX9_stoodBy 136 = .ok (.iconst 0, 1) := dk_3 (dk_at dksX9_stoodBy_5 19 rfl rfl)
theorem dX9_stoodBy_137 : decode cX9_stoodBy 137 = .ok (.istore_n 3, 1) := dk_62 (dk_at dksX9_stoodBy_5 20 rfl rfl)
theorem dX9_stoodBy_138 : decode cX9_stoodBy 138 = .ok (.iinc 4 1, 3) := dk_132 4 1 (dk_at dksX9_stoodBy_5 21 rfl rfl)
theorem dX9_stoodBy_141 : decode cX9_stoodBy 141 = .ok (.goto (-136), 3) := dk_167 255 120 (dk_at dksX9_stoodBy_6 0 rfl rfl)
theorem dX9_stoodBy_144 : decode cX9_stoodBy 144 = .ok (.iload_n 3, 1) := dk_29 (dk_at dksX9_stoodBy_6 3 rfl rfl)
theorem dX9_stoodBy_145 : decode cX9_stoodBy 145 = .ok (.ireturn, 1) := dk_172 (dk_at dksX9_stoodBy_6 4 rfl rfl)
abbrev cX9_allSitBy : ByteArray := prog_11_method_14_code
def yX9_allSitBy : MethodName := ⟨RX9, "allSitBy", "(I)I"⟩
def dkwX9_allSitBy_2 : List UInt8 := [160, 0, 7, 3, 167, 0, 7, 4, 21, 4, 120, 128, 172]
abbrev dktX9_allSitBy_2 : List UInt8 := dkwX9_allSitBy_2 ++ []
def dkwX9_allSitBy_1 : List UInt8 := [4, 96, 182, 0, 63, 54, 4, 29, 16, 252, 160, 0, 7, 3, 167, 0, 6, 4, 29, 120, 21, 4, 16, 252]
abbrev dktX9_allSitBy_1 : List UInt8 := dkwX9_allSitBy_1 ++ dktX9_allSitBy_2
def dkwX9_allSitBy_0 : List UInt8 := [42, 27, 182, 0, 59, 61, 28, 16, 252, 160, 0, 5, 3, 172, 42, 28, 4, 100, 182, 0, 63, 62, 42, 28]
abbrev dktX9_allSitBy_0 : List UInt8 := dkwX9_allSitBy_0 ++ dktX9_allSitBy_1
theorem dksX9_allSitBy_0 : cX9_allSitBy.data.toList.drop 0 = dktX9_allSitBy_0 := by decide +kernel
theorem dksX9_allSitBy_1 : cX9_allSitBy.data.toList.drop 24 = dktX9_allSitBy_1 := dk_seg dksX9_allSitBy_0 24 rfl rfl
theorem dksX9_allSitBy_2 : cX9_allSitBy.data.toList.drop 48 = dktX9_allSitBy_2 := dk_seg dksX9_allSitBy_1 24 rfl rfl
theorem dX9_allSitBy_0 : decode cX9_allSitBy 0 = .ok (.aload_n 0, 1) := dk_42 (dk_at dksX9_allSitBy_0 0 rfl rfl)
theorem dX9_allSitBy_1 : decode cX9_allSitBy 1 = .ok (.iload_n 1, 1) := dk_27 (dk_at dksX9_allSitBy_0 1 rfl rfl)
theorem dX9_allSitBy_2 : decode cX9_allSitBy 2 = .ok (.invokevirtual 59, 3) := dk_182 0 59 (dk_at dksX9_allSitBy_0 2 rfl rfl)
theorem dX9_allSitBy_5 : decode cX9_allSitBy 5 = .ok (.istore_n 2, 1) := dk_61 (dk_at dksX9_allSitBy_0 5 rfl rfl)
theorem dX9_allSitBy_6 : decode cX9_allSitBy 6 = .ok (.iload_n 2, 1) := dk_28 (dk_at dksX9_allSitBy_0 6 rfl rfl)
theorem dX9_allSitBy_7 : decode cX9_allSitBy 7 = .ok (.bipush (-4), 2) := dk_16 252 (dk_at dksX9_allSitBy_0 7 rfl rfl)
theorem dX9_allSitBy_9 : decode cX9_allSitBy 9 = .ok (.if_icmp .ne 5, 3) := dk_160 0 5 (dk_at dksX9_allSitBy_0 9 rfl rfl)
theorem dX9_allSitBy_12 : decode cX9_allSitBy 12 = .ok (.iconst 0, 1) := dk_3 (dk_at dksX9_allSitBy_0 12 rfl rfl)
theorem dX9_allSitBy_13 : decode cX9_allSitBy 13 = .ok (.ireturn, 1) := dk_172 (dk_at dksX9_allSitBy_0 13 rfl rfl)
theorem dX9_allSitBy_14 : decode cX9_allSitBy 14 = .ok (.aload_n 0, 1) := dk_42 (dk_at dksX9_allSitBy_0 14 rfl rfl)
theorem dX9_allSitBy_15 : decode cX9_allSitBy 15 = .ok (.iload_n 2, 1) := dk_28 (dk_at dksX9_allSitBy_0 15 rfl rfl)
theorem dX9_allSitBy_16 : decode cX9_allSitBy 16 = .ok (.iconst 1, 1) := dk_4 (dk_at dksX9_allSitBy_0 16 rfl rfl)
theorem dX9_allSitBy_17 : decode cX9_allSitBy 17 = .ok (.isub, 1) := dk_100 (dk_at dksX9_allSitBy_0 17 rfl rfl)
theorem dX9_allSitBy_18 : decode cX9_allSitBy 18 = .ok (.invokevirtual 63, 3) := dk_182 0 63 (dk_at dksX9_allSitBy_0 18 rfl rfl)
theorem dX9_allSitBy_21 : decode cX9_allSitBy 21 = .ok (.istore_n 3, 1) := dk_62 (dk_at dksX9_allSitBy_0 21 rfl rfl)
theorem dX9_allSitBy_22 : decode cX9_allSitBy 22 = .ok (.aload_n 0, 1) := dk_42 (dk_at dksX9_allSitBy_0 22 rfl rfl)
theorem dX9_allSitBy_23 : decode cX9_allSitBy 23 = .ok (.iload_n 2, 1) := dk_28 (dk_at dksX9_allSitBy_0 23 rfl rfl)
theorem dX9_allSitBy_24 : decode cX9_allSitBy 24 = .ok (.iconst 1, 1) := dk_4 (dk_at dksX9_allSitBy_1 0 rfl rfl)
theorem dX9_allSitBy_25 : decode cX9_allSitBy 25 = .ok (.iadd, 1) := dk_96 (dk_at dksX9_allSitBy_1 1 rfl rfl)
theorem dX9_allSitBy_26 : decode cX9_allSitBy 26 = .ok (.invokevirtual 63, 3) := dk_182 0 63 (dk_at dksX9_allSitBy_1 2 rfl rfl)
theorem dX9_allSitBy_29 : decode cX9_allSitBy 29 = .ok (.istore 4, 2) := dk_54 4 (dk_at dksX9_allSitBy_1 5 rfl rfl)
theorem dX9_allSitBy_31 : decode cX9_allSitBy 31 = .ok (.iload_n 3, 1) := dk_29 (dk_at dksX9_allSitBy_1 7 rfl rfl)
theorem dX9_allSitBy_32 : decode cX9_allSitBy 32 = .ok (.bipush (-4), 2) := dk_16 252 (dk_at dksX9_allSitBy_1 8 rfl rfl)
theorem dX9_allSitBy_34 : decode cX9_allSitBy 34 = .ok (.if_icmp .ne 7, 3) := dk_160 0 7 (dk_at dksX9_allSitBy_1 10 rfl rfl)
theorem dX9_allSitBy_37 : decode cX9_allSitBy 37 = .ok (.iconst 0, 1) := dk_3 (dk_at dksX9_allSitBy_1 13 rfl rfl)
theorem dX9_allSitBy_38 : decode cX9_allSitBy 38 = .ok (.goto 6, 3) := dk_167 0 6 (dk_at dksX9_allSitBy_1 14 rfl rfl)
theorem dX9_allSitBy_41 : decode cX9_allSitBy 41 = .ok (.iconst 1, 1) := dk_4 (dk_at dksX9_allSitBy_1 17 rfl rfl)
theorem dX9_allSitBy_42 : decode cX9_allSitBy 42 = .ok (.iload_n 3, 1) := dk_29 (dk_at dksX9_allSitBy_1 18 rfl rfl)
theorem dX9_allSitBy_43 : decode cX9_allSitBy 43 = .ok (.ishl, 1) := dk_120 (dk_at dksX9_allSitBy_1 19 rfl rfl)
theorem dX9_allSitBy_44 : decode cX9_allSitBy 44 = .ok (.iload 4, 2) := dk_21 4 (dk_at dksX9_allSitBy_1 20 rfl rfl)
theorem dX9_allSitBy_46 : decode cX9_allSitBy 46 = .ok (.bipush (-4), 2) := dk_16 252 (dk_at dksX9_allSitBy_1 22 rfl rfl)
theorem dX9_allSitBy_48 : decode cX9_allSitBy 48 = .ok (.if_icmp .ne 7, 3) := dk_160 0 7 (dk_at dksX9_allSitBy_2 0 rfl rfl)
theorem dX9_allSitBy_51 : decode cX9_allSitBy 51 = .ok (.iconst 0, 1) := dk_3 (dk_at dksX9_allSitBy_2 3 rfl rfl)
theorem dX9_allSitBy_52 : decode cX9_allSitBy 52 = .ok (.goto 7, 3) := dk_167 0 7 (dk_at dksX9_allSitBy_2 4 rfl rfl)
theorem dX9_allSitBy_55 : decode cX9_allSitBy 55 = .ok (.iconst 1, 1) := dk_4 (dk_at dksX9_allSitBy_2 7 rfl rfl)
theorem dX9_allSitBy_56 : decode cX9_allSitBy 56 = .ok (.iload 4, 2) := dk_21 4 (dk_at dksX9_allSitBy_2 8 rfl rfl)
theorem dX9_allSitBy_58 : decode cX9_allSitBy 58 = .ok (.ishl, 1) := dk_120 (dk_at dksX9_allSitBy_2 10 rfl rfl)
theorem dX9_allSitBy_59 : decode cX9_allSitBy 59 = .ok (.ior, 1) := dk_128 (dk_at dksX9_allSitBy_2 11 rfl rfl)
theorem dX9_allSitBy_60 : decode cX9_allSitBy 60 = .ok (.ireturn, 1) := dk_172 (dk_at dksX9_allSitBy_2 12 rfl rfl)
abbrev cX9_onSeat : ByteArray := prog_11_method_7_code
def yX9_onSeat : MethodName := ⟨RX9, "onSeat", "(I)I"⟩
def dkwX9_onSeat_1 : List UInt8 := [46, 167, 0, 5, 16, 252, 172]
abbrev dktX9_onSeat_1 : List UInt8 := dkwX9_onSeat_1 ++ []
def dkwX9_onSeat_0 : List UInt8 := [27, 3, 42, 180, 0, 7, 4, 46, 4, 100, 184, 0, 44, 153, 0, 15, 42, 180, 0, 7, 16, 10, 27, 96]
abbrev dktX9_onSeat_0 : List UInt8 := dkwX9_onSeat_0 ++ dktX9_onSeat_1
theorem dksX9_onSeat_0 : cX9_onSeat.data.toList.drop 0 = dktX9_onSeat_0 := by decide +kernel
theorem dksX9_onSeat_1 : cX9_onSeat.data.toList.drop 24 = dktX9_onSeat_1 := dk_seg dksX9_onSeat_0 24 rfl rfl
theorem dX9_onSeat_0 : decode cX9_onSeat 0 = .ok (.iload_n 1, 1) := dk_27 (dk_at dksX9_onSeat_0 0 rfl rfl)
theorem dX9_onSeat_1 : decode cX9_onSeat 1 = .ok (.iconst 0, 1) := dk_3 (dk_at dksX9_onSeat_0 1 rfl rfl)
theorem dX9_onSeat_2 : decode cX9_onSeat 2 = .ok (.aload_n 0, 1) := dk_42 (dk_at dksX9_onSeat_0 2 rfl rfl)
theorem dX9_onSeat_3 : decode cX9_onSeat 3 = .ok (.getfield 7, 3) := dk_180 0 7 (dk_at dksX9_onSeat_0 3 rfl rfl)
theorem dX9_onSeat_6 : decode cX9_onSeat 6 = .ok (.iconst 1, 1) := dk_4 (dk_at dksX9_onSeat_0 6 rfl rfl)
theorem dX9_onSeat_7 : decode cX9_onSeat 7 = .ok (.iaload, 1) := dk_46 (dk_at dksX9_onSeat_0 7 rfl rfl)
theorem dX9_onSeat_8 : decode cX9_onSeat 8 = .ok (.iconst 1, 1) := dk_4 (dk_at dksX9_onSeat_0 8 rfl rfl)
theorem dX9_onSeat_9 : decode cX9_onSeat 9 = .ok (.isub, 1) := dk_100 (dk_at dksX9_onSeat_0 9 rfl rfl)
theorem dX9_onSeat_10 : decode cX9_onSeat 10 = .ok (.invokestatic 44, 3) := dk_184 0 44 (dk_at dksX9_onSeat_0 10 rfl rfl)
theorem dX9_onSeat_13 : decode cX9_onSeat 13 = .ok (.ifCond .eq 15, 3) := dk_153 0 15 (dk_at dksX9_onSeat_0 13 rfl rfl)
theorem dX9_onSeat_16 : decode cX9_onSeat 16 = .ok (.aload_n 0, 1) := dk_42 (dk_at dksX9_onSeat_0 16 rfl rfl)
theorem dX9_onSeat_17 : decode cX9_onSeat 17 = .ok (.getfield 7, 3) := dk_180 0 7 (dk_at dksX9_onSeat_0 17 rfl rfl)
theorem dX9_onSeat_20 : decode cX9_onSeat 20 = .ok (.bipush 10, 2) := dk_16 10 (dk_at dksX9_onSeat_0 20 rfl rfl)
theorem dX9_onSeat_22 : decode cX9_onSeat 22 = .ok (.iload_n 1, 1) := dk_27 (dk_at dksX9_onSeat_0 22 rfl rfl)
theorem dX9_onSeat_23 : decode cX9_onSeat 23 = .ok (.iadd, 1) := dk_96 (dk_at dksX9_onSeat_0 23 rfl rfl)
theorem dX9_onSeat_24 : decode cX9_onSeat 24 = .ok (.iaload, 1) := dk_46 (dk_at dksX9_onSeat_1 0 rfl rfl)
theorem dX9_onSeat_25 : decode cX9_onSeat 25 = .ok (.goto 5, 3) := dk_167 0 5 (dk_at dksX9_onSeat_1 1 rfl rfl)
theorem dX9_onSeat_28 : decode cX9_onSeat 28 = .ok (.bipush (-4), 2) := dk_16 252 (dk_at dksX9_onSeat_1 4 rfl rfl)
theorem dX9_onSeat_30 : decode cX9_onSeat 30 = .ok (.ireturn, 1) := dk_172 (dk_at dksX9_onSeat_1 6 rfl rfl)
abbrev cX9_fails : ByteArray := prog_11_method_16_code
def yX9_fails : MethodName := ⟨RX9, "fails", "(I)I"⟩
def dkwX9_fails_4 : List UInt8 := [96, 167, 0, 4, 28, 172, 7, 42, 27, 182, 0, 66, 42, 27, 182, 0, 69, 126, 184, 0, 72, 100, 172]
abbrev dktX9_fails_4 : List UInt8 := dkwX9_fails_4 ++ []
def dkwX9_fails_3 : List UInt8 := [5, 172, 28, 172, 7, 172, 29, 153, 0, 15, 29, 42, 180, 0, 7, 4, 46, 4, 100, 160, 0, 9, 28, 4]
abbrev dktX9_fails_3 : List UInt8 := dkwX9_fails_3 ++ dktX9_fails_4
def dkwX9_fails_2 : List UInt8 := [170, 0, 0, 0, 0, 0, 0, 62, 0, 0, 0, 0, 0, 0, 0, 3, 0, 0, 0, 32, 0, 0, 0, 34, 0, 0, 0, 36, 0, 0, 0, 38]
abbrev dktX9_fails_2 : List UInt8 := dkwX9_fails_2 ++ dktX9_fails_3
def dkwX9_fails_1 : List UInt8 := [180, 0, 7, 16, 16, 27, 96, 46]
abbrev dktX9_fails_1 : List UInt8 := dkwX9_fails_1 ++ dktX9_fails_2
def dkwX9_fails_0 : List UInt8 := [42, 180, 0, 7, 5, 46, 5, 112, 154, 0, 7, 5, 167, 0, 4, 3, 61, 42, 27, 182, 0, 59, 62, 42]
abbrev dktX9_fails_0 : List UInt8 := dkwX9_fails_0 ++ dktX9_fails_1
theorem dksX9_fails_0 : cX9_fails.data.toList.drop 0 = dktX9_fails_0 := by decide +kernel
theorem dksX9_fails_1 : cX9_fails.data.toList.drop 24 = dktX9_fails_1 := dk_seg dksX9_fails_0 24 rfl rfl
theorem dksX9_fails_2 : cX9_fails.data.toList.drop 32 = dktX9_fails_2 := dk_seg dksX9_fails_1 8 rfl rfl
theorem dksX9_fails_3 : cX9_fails.data.toList.drop 64 = dktX9_fails_3 := dk_seg dksX9_fails_2 32 rfl rfl
theorem dksX9_fails_4 : cX9_fails.data.toList.drop 88 = dktX9_fails_4 := dk_seg dksX9_fails_3 24 rfl rfl
theorem dX9_fails_0 : decode cX9_fails 0 = .ok (.aload_n 0, 1) := dk_42 (dk_at dksX9_fails_0 0 rfl rfl)
theorem dX9_fails_1 : decode cX9_fails 1 = .ok (.getfield 7, 3) := dk_180 0 7 (dk_at dksX9_fails_0 1 rfl rfl)
theorem dX9_fails_4 : decode cX9_fails 4 = .ok (.iconst 2, 1) := dk_5 (dk_at dksX9_fails_0 4 rfl rfl)
theorem dX9_fails_5 : decode cX9_fails 5 = .ok (.iaload, 1) := dk_46 (dk_at dksX9_fails_0 5 rfl rfl)
theorem dX9_fails_6 : decode cX9_fails 6 = .ok (.iconst 2, 1) := dk_5 (dk_at dksX9_fails_0 6 rfl rfl)
theorem dX9_fails_7 : decode cX9_fails 7 = .ok (.irem, 1) := dk_112 (dk_at dksX9_fails_0 7 rfl rfl)
theorem dX9_fails_8 : decode cX9_fails 8 = .ok (.ifCond .ne 7, 3) := dk_154 0 7 (dk_at dksX9_fails_0 8 rfl rfl)
theorem dX9_fails_11 : decode cX9_fails 11 = .ok (.iconst 2, 1) := dk_5 (dk_at dksX9_fails_0 11 rfl rfl)
theorem dX9_fails_12 : decode cX9_fails 12 = .ok (.goto 4, 3) := dk_167 0 4 (dk_at dksX9_fails_0 12 rfl rfl)
theorem dX9_fails_15 : decode cX9_fails 15 = .ok (.iconst 0, 1) := dk_3 (dk_at dksX9_fails_0 15 rfl rfl)
theorem dX9_fails_16 : decode cX9_fails 16 = .ok (.istore_n 2, 1) := dk_61 (dk_at dksX9_fails_0 16 rfl rfl)
theorem dX9_fails_17 : decode cX9_fails 17 = .ok (.aload_n 0, 1) := dk_42 (dk_at dksX9_fails_0 17 rfl rfl)
theorem dX9_fails_18 : decode cX9_fails 18 = .ok (.iload_n 1, 1) := dk_27 (dk_at dksX9_fails_0 18 rfl rfl)
theorem dX9_fails_19 : decode cX9_fails 19 = .ok (.invokevirtual 59, 3) := dk_182 0 59 (dk_at dksX9_fails_0 19 rfl rfl)
theorem dX9_fails_22 : decode cX9_fails 22 = .ok (.istore_n 3, 1) := dk_62 (dk_at dksX9_fails_0 22 rfl rfl)
theorem dX9_fails_23 : decode cX9_fails 23 = .ok (.aload_n 0, 1) := dk_42 (dk_at dksX9_fails_0 23 rfl rfl)
theorem dX9_fails_24 : decode cX9_fails 24 = .ok (.getfield 7, 3) := dk_180 0 7 (dk_at dksX9_fails_1 0 rfl rfl)
theorem dX9_fails_27 : decode cX9_fails 27 = .ok (.bipush 16, 2) := dk_16 16 (dk_at dksX9_fails_1 3 rfl rfl)
theorem dX9_fails_29 : decode cX9_fails 29 = .ok (.iload_n 1, 1) := dk_27 (dk_at dksX9_fails_1 5 rfl rfl)
theorem dX9_fails_30 : decode cX9_fails 30 = .ok (.iadd, 1) := dk_96 (dk_at dksX9_fails_1 6 rfl rfl)
theorem dX9_fails_31 : decode cX9_fails 31 = .ok (.iaload, 1) := dk_46 (dk_at dksX9_fails_1 7 rfl rfl)
theorem dX9_fails_32 : decode cX9_fails 32 = .ok (.tableswitch 62 0 3 #[32, 34, 36, 38], 32) := by decide +kernel
theorem dX9_fails_64 : decode cX9_fails 64 = .ok (.iconst 2, 1) := dk_5 (dk_at dksX9_fails_3 0 rfl rfl)
theorem dX9_fails_65 : decode cX9_fails 65 = .ok (.ireturn, 1) := dk_172 (dk_at dksX9_fails_3 1 rfl rfl)
theorem dX9_fails_66 : decode cX9_fails 66 = .ok (.iload_n 2, 1) := dk_28 (dk_at dksX9_fails_3 2 rfl rfl)
theorem dX9_fails_67 : decode cX9_fails 67 = .ok (.ireturn, 1) := dk_172 (dk_at dksX9_fails_3 3 rfl rfl)
theorem dX9_fails_68 : decode cX9_fails 68 = .ok (.iconst 4, 1) := dk_7 (dk_at dksX9_fails_3 4 rfl rfl)
theorem dX9_fails_69 : decode cX9_fails 69 = .ok (.ireturn, 1) := dk_172 (dk_at dksX9_fails_3 5 rfl rfl)
theorem dX9_fails_70 : decode cX9_fails 70 = .ok (.iload_n 3, 1) := dk_29 (dk_at dksX9_fails_3 6 rfl rfl)
theorem dX9_fails_71 : decode cX9_fails 71 = .ok (.ifCond .eq 15, 3) := dk_153 0 15 (dk_at dksX9_fails_3 7 rfl rfl)
theorem dX9_fails_74 : decode cX9_fails 74 = .ok (.iload_n 3, 1) := dk_29 (dk_at dksX9_fails_3 10 rfl rfl)
theorem dX9_fails_75 : decode cX9_fails 75 = .ok (.aload_n 0, 1) := dk_42 (dk_at dksX9_fails_3 11 rfl rfl)
theorem dX9_fails_76 : decode cX9_fails 76 = .ok (.getfield 7, 3) := dk_180 0 7 (dk_at dksX9_fails_3 12 rfl rfl)
theorem dX9_fails_79 : decode cX9_fails 79 = .ok (.iconst 1, 1) := dk_4 (dk_at dksX9_fails_3 15 rfl rfl)
theorem dX9_fails_80 : decode cX9_fails 80 = .ok (.iaload, 1) := dk_46 (dk_at dksX9_fails_3 16 rfl rfl)
theorem dX9_fails_81 : decode cX9_fails 81 = .ok (.iconst 1, 1) := dk_4 (dk_at dksX9_fails_3 17 rfl rfl)
theorem dX9_fails_82 : decode cX9_fails 82 = .ok (.isub, 1) := dk_100 (dk_at dksX9_fails_3 18 rfl rfl)
theorem dX9_fails_83 : decode cX9_fails 83 = .ok (.if_icmp .ne 9, 3) := dk_160 0 9 (dk_at dksX9_fails_3 19 rfl rfl)
theorem dX9_fails_86 : decode cX9_fails 86 = .ok (.iload_n 2, 1) := dk_28 (dk_at dksX9_fails_3 22 rfl rfl)
theorem dX9_fails_87 : decode cX9_fails 87 = .ok (.iconst 1, 1) := dk_4 (dk_at dksX9_fails_3 23 rfl rfl)
theorem dX9_fails_88 : decode cX9_fails 88 = .ok (.iadd, 1) := dk_96 (dk_at dksX9_fails_4 0 rfl rfl)
theorem dX9_fails_89 : decode cX9_fails 89 = .ok (.goto 4, 3) := dk_167 0 4 (dk_at dksX9_fails_4 1 rfl rfl)
theorem dX9_fails_92 : decode cX9_fails 92 = .ok (.iload_n 2, 1) := dk_28 (dk_at dksX9_fails_4 4 rfl rfl)
theorem dX9_fails_93 : decode cX9_fails 93 = .ok (.ireturn, 1) := dk_172 (dk_at dksX9_fails_4 5 rfl rfl)
theorem dX9_fails_94 : decode cX9_fails 94 = .ok (.iconst 4, 1) := dk_7 (dk_at dksX9_fails_4 6 rfl rfl)
theorem dX9_fails_95 : decode cX9_fails 95 = .ok (.aload_n 0, 1) := dk_42 (dk_at dksX9_fails_4 7 rfl rfl)
theorem dX9_fails_96 : decode cX9_fails 96 = .ok (.iload_n 1, 1) := dk_27 (dk_at dksX9_fails_4 8 rfl rfl)
theorem dX9_fails_97 : decode cX9_fails 97 = .ok (.invokevirtual 66, 3) := dk_182 0 66 (dk_at dksX9_fails_4 9 rfl rfl)
theorem dX9_fails_100 : decode cX9_fails 100 = .ok (.aload_n 0, 1) := dk_42 (dk_at dksX9_fails_4 12 rfl rfl)
theorem dX9_fails_101 : decode cX9_fails 101 = .ok (.iload_n 1, 1) := dk_27 (dk_at dksX9_fails_4 13 rfl rfl)
theorem dX9_fails_102 : decode cX9_fails 102 = .ok (.invokevirtual 69, 3) := dk_182 0 69 (dk_at dksX9_fails_4 14 rfl rfl)
theorem dX9_fails_105 : decode cX9_fails 105 = .ok (.iand, 1) := dk_126 (dk_at dksX9_fails_4 17 rfl rfl)
theorem dX9_fails_106 : decode cX9_fails 106 = .ok (.invokestatic 72, 3) := dk_184 0 72 (dk_at dksX9_fails_4 18 rfl rfl)
theorem dX9_fails_109 : decode cX9_fails 109 = .ok (.isub, 1) := dk_100 (dk_at dksX9_fails_4 21 rfl rfl)
theorem dX9_fails_110 : decode cX9_fails 110 = .ok (.ireturn, 1) := dk_172 (dk_at dksX9_fails_4 22 rfl rfl)
abbrev cX9_ones : ByteArray := prog_11_method_15_code
def yX9_ones : MethodName := ⟨RX9, "ones", "(I)I"⟩
def dkwX9_ones_1 : List UInt8 := [27, 172]
abbrev dktX9_ones_1 : List UInt8 := dkwX9_ones_1 ++ []
def dkwX9_ones_0 : List UInt8 := [3, 60, 3, 61, 28, 16, 6, 162, 0, 17, 27, 26, 28, 122, 4, 126, 96, 60, 132, 2, 1, 167, 255, 239]
abbrev dktX9_ones_0 : List UInt8 := dkwX9_ones_0 ++ dktX9_ones_1
theorem dksX9_ones_0 : cX9_ones.data.toList.drop 0 = dktX9_ones_0 := by decide +kernel
theorem dksX9_ones_1 : cX9_ones.data.toList.drop 24 = dktX9_ones_1 := dk_seg dksX9_ones_0 24 rfl rfl
theorem dX9_ones_0 : decode cX9_ones 0 = .ok (.iconst 0, 1) := dk_3 (dk_at dksX9_ones_0 0 rfl rfl)
theorem dX9_ones_1 : decode cX9_ones 1 = .ok (.istore_n 1, 1) := dk_60 (dk_at dksX9_ones_0 1 rfl rfl)
theorem dX9_ones_2 : decode cX9_ones 2 = .ok (.iconst 0, 1) := dk_3 (dk_at dksX9_ones_0 2 rfl rfl)
theorem dX9_ones_3 : decode cX9_ones 3 = .ok (.istore_n 2, 1) := dk_61 (dk_at dksX9_ones_0 3 rfl rfl)
theorem dX9_ones_4 : decode cX9_ones 4 = .ok (.iload_n 2, 1) := dk_28 (dk_at dksX9_ones_0 4 rfl rfl)
theorem dX9_ones_5 : decode cX9_ones 5 = .ok (.bipush 6, 2) := dk_16 6 (dk_at dksX9_ones_0 5 rfl rfl)
theorem dX9_ones_7 : decode cX9_ones 7 = .ok (.if_icmp .ge 17, 3) := dk_162 0 17 (dk_at dksX9_ones_0 7 rfl rfl)
theorem dX9_ones_10 : decode cX9_ones 10 = .ok (.iload_n 1, 1) := dk_27 (dk_at dksX9_ones_0 10 rfl rfl)
theorem dX9_ones_11 : decode cX9_ones 11 = .ok (.iload_n 0, 1) := dk_26 (dk_at dksX9_ones_0 11 rfl rfl)
theorem dX9_ones_12 : decode cX9_ones 12 = .ok (.iload_n 2, 1) := dk_28 (dk_at dksX9_ones_0 12 rfl rfl)
theorem dX9_ones_13 : decode cX9_ones 13 = .ok (.ishr, 1) := dk_122 (dk_at dksX9_ones_0 13 rfl rfl)
theorem dX9_ones_14 : decode cX9_ones 14 = .ok (.iconst 1, 1) := dk_4 (dk_at dksX9_ones_0 14 rfl rfl)
theorem dX9_ones_15 : decode cX9_ones 15 = .ok (.iand, 1) := dk_126 (dk_at dksX9_ones_0 15 rfl rfl)
theorem dX9_ones_16 : decode cX9_ones 16 = .ok (.iadd, 1) := dk_96 (dk_at dksX9_ones_0 16 rfl rfl)
theorem dX9_ones_17 : decode cX9_ones 17 = .ok (.istore_n 1, 1) := dk_60 (dk_at dksX9_ones_0 17 rfl rfl)
theorem dX9_ones_18 : decode cX9_ones 18 = .ok (.iinc 2 1, 3) := dk_132 2 1 (dk_at dksX9_ones_0 18 rfl rfl)
theorem dX9_ones_21 : decode cX9_ones 21 = .ok (.goto (-17), 3) := dk_167 255 239 (dk_at dksX9_ones_0 21 rfl rfl)
theorem dX9_ones_24 : decode cX9_ones 24 = .ok (.iload_n 1, 1) := dk_27 (dk_at dksX9_ones_1 0 rfl rfl)
theorem dX9_ones_25 : decode cX9_ones 25 = .ok (.ireturn, 1) := dk_172 (dk_at dksX9_ones_1 1 rfl rfl)
abbrev cX9_seat : ByteArray := prog_11_method_19_code
def yX9_seat : MethodName := ⟨RX9, "seat", "(I)I"⟩
def dkwX9_seat_0 : List UInt8 := [27, 156, 0, 7, 2, 167, 0, 8, 42, 27, 182, 0, 63, 172]
abbrev dktX9_seat_0 : List UInt8 := dkwX9_seat_0 ++ []
theorem dksX9_seat_0 : cX9_seat.data.toList.drop 0 = dktX9_seat_0 := by decide +kernel
theorem dX9_seat_0 : decode cX9_seat 0 = .ok (.iload_n 1, 1) := dk_27 (dk_at dksX9_seat_0 0 rfl rfl)
theorem dX9_seat_1 : decode cX9_seat 1 = .ok (.ifCond .ge 7, 3) := dk_156 0 7 (dk_at dksX9_seat_0 1 rfl rfl)
theorem dX9_seat_4 : decode cX9_seat 4 = .ok (.iconst (-1), 1) := dk_2 (dk_at dksX9_seat_0 4 rfl rfl)
theorem dX9_seat_5 : decode cX9_seat 5 = .ok (.goto 8, 3) := dk_167 0 8 (dk_at dksX9_seat_0 5 rfl rfl)
theorem dX9_seat_8 : decode cX9_seat 8 = .ok (.aload_n 0, 1) := dk_42 (dk_at dksX9_seat_0 8 rfl rfl)
theorem dX9_seat_9 : decode cX9_seat 9 = .ok (.iload_n 1, 1) := dk_27 (dk_at dksX9_seat_0 9 rfl rfl)
theorem dX9_seat_10 : decode cX9_seat 10 = .ok (.invokevirtual 63, 3) := dk_182 0 63 (dk_at dksX9_seat_0 10 rfl rfl)
theorem dX9_seat_13 : decode cX9_seat 13 = .ok (.ireturn, 1) := dk_172 (dk_at dksX9_seat_0 13 rfl rfl)
abbrev cX9_type : ByteArray := prog_11_method_20_code
def yX9_type : MethodName := ⟨RX9, "type", "(I)I"⟩
def dkwX9_type_2 : List UInt8 := [180, 0, 85, 172]
abbrev dktX9_type_2 : List UInt8 := dkwX9_type_2 ++ []
def dkwX9_type_1 : List UInt8 := [172, 42, 180, 0, 16, 42, 180, 0, 85, 27, 79, 42, 89, 180, 0, 85, 4, 96, 181, 0, 85, 42]
abbrev dktX9_type_1 : List UInt8 := dkwX9_type_1 ++ dktX9_type_2
def dkwX9_type_0 : List UInt8 := [27, 16, 32, 16, 126, 184, 0, 44, 154, 0, 5, 2, 172, 42, 180, 0, 85, 16, 70, 160, 0, 6, 16, 253]
abbrev dktX9_type_0 : List UInt8 := dkwX9_type_0 ++ dktX9_type_1
theorem dksX9_type_0 : cX9_type.data.toList.drop 0 = dktX9_type_0 := by decide +kernel
theorem dksX9_type_1 : cX9_type.data.toList.drop 24 = dktX9_type_1 := dk_seg dksX9_type_0 24 rfl rfl
theorem dksX9_type_2 : cX9_type.data.toList.drop 46 = dktX9_type_2 := dk_seg dksX9_type_1 22 rfl rfl
theorem dX9_type_0 : decode cX9_type 0 = .ok (.iload_n 1, 1) := dk_27 (dk_at dksX9_type_0 0 rfl rfl)
theorem dX9_type_1 : decode cX9_type 1 = .ok (.bipush 32, 2) := dk_16 32 (dk_at dksX9_type_0 1 rfl rfl)
theorem dX9_type_3 : decode cX9_type 3 = .ok (.bipush 126, 2) := dk_16 126 (dk_at dksX9_type_0 3 rfl rfl)
theorem dX9_type_5 : decode cX9_type 5 = .ok (.invokestatic 44, 3) := dk_184 0 44 (dk_at dksX9_type_0 5 rfl rfl)
theorem dX9_type_8 : decode cX9_type 8 = .ok (.ifCond .ne 5, 3) := dk_154 0 5 (dk_at dksX9_type_0 8 rfl rfl)
theorem dX9_type_11 : decode cX9_type 11 = .ok (.iconst (-1), 1) := dk_2 (dk_at dksX9_type_0 11 rfl rfl)
theorem dX9_type_12 : decode cX9_type 12 = .ok (.ireturn, 1) := dk_172 (dk_at dksX9_type_0 12 rfl rfl)
theorem dX9_type_13 : decode cX9_type 13 = .ok (.aload_n 0, 1) := dk_42 (dk_at dksX9_type_0 13 rfl rfl)
theorem dX9_type_14 : decode cX9_type 14 = .ok (.getfield 85, 3) := dk_180 0 85 (dk_at dksX9_type_0 14 rfl rfl)
theorem dX9_type_17 : decode cX9_type 17 = .ok (.bipush 70, 2) := dk_16 70 (dk_at dksX9_type_0 17 rfl rfl)
theorem dX9_type_19 : decode cX9_type 19 = .ok (.if_icmp .ne 6, 3) := dk_160 0 6 (dk_at dksX9_type_0 19 rfl rfl)
theorem dX9_type_22 : decode cX9_type 22 = .ok (.bipush (-3), 2) := dk_16 253 (dk_at dksX9_type_0 22 rfl rfl)
theorem dX9_type_24 : decode cX9_type 24 = .ok (.ireturn, 1) := dk_172 (dk_at dksX9_type_1 0 rfl rfl)
theorem dX9_type_25 : decode cX9_type 25 = .ok (.aload_n 0, 1) := dk_42 (dk_at dksX9_type_1 1 rfl rfl)
theorem dX9_type_26 : decode cX9_type 26 = .ok (.getfield 16, 3) := dk_180 0 16 (dk_at dksX9_type_1 2 rfl rfl)
theorem dX9_type_29 : decode cX9_type 29 = .ok (.aload_n 0, 1) := dk_42 (dk_at dksX9_type_1 5 rfl rfl)
theorem dX9_type_30 : decode cX9_type 30 = .ok (.getfield 85, 3) := dk_180 0 85 (dk_at dksX9_type_1 6 rfl rfl)
theorem dX9_type_33 : decode cX9_type 33 = .ok (.iload_n 1, 1) := dk_27 (dk_at dksX9_type_1 9 rfl rfl)
theorem dX9_type_34 : decode cX9_type 34 = .ok (.iastore, 1) := dk_79 (dk_at dksX9_type_1 10 rfl rfl)
theorem dX9_type_35 : decode cX9_type 35 = .ok (.aload_n 0, 1) := dk_42 (dk_at dksX9_type_1 11 rfl rfl)
theorem dX9_type_36 : decode cX9_type 36 = .ok (.dup, 1) := dk_89 (dk_at dksX9_type_1 12 rfl rfl)
theorem dX9_type_37 : decode cX9_type 37 = .ok (.getfield 85, 3) := dk_180 0 85 (dk_at dksX9_type_1 13 rfl rfl)
theorem dX9_type_40 : decode cX9_type 40 = .ok (.iconst 1, 1) := dk_4 (dk_at dksX9_type_1 16 rfl rfl)
theorem dX9_type_41 : decode cX9_type 41 = .ok (.iadd, 1) := dk_96 (dk_at dksX9_type_1 17 rfl rfl)
theorem dX9_type_42 : decode cX9_type 42 = .ok (.putfield 85, 3) := dk_181 0 85 (dk_at dksX9_type_1 18 rfl rfl)
theorem dX9_type_45 : decode cX9_type 45 = .ok (.aload_n 0, 1) := dk_42 (dk_at dksX9_type_1 21 rfl rfl)
theorem dX9_type_46 : decode cX9_type 46 = .ok (.getfield 85, 3) := dk_180 0 85 (dk_at dksX9_type_2 0 rfl rfl)
theorem dX9_type_49 : decode cX9_type 49 = .ok (.ireturn, 1) := dk_172 (dk_at dksX9_type_2 3 rfl rfl)
abbrev cX9_read : ByteArray := prog_11_method_28_code
def yX9_read : MethodName := ⟨RX9, "read", "()I"⟩
def dkwX9_read_4 : List UInt8 := [180, 0, 7, 6, 28, 79, 42, 180, 0, 7, 16, 40, 3, 79, 27, 172]
abbrev dktX9_read_4 : List UInt8 := dkwX9_read_4 ++ []
def dkwX9_read_3 : List UInt8 := [46, 79, 132, 3, 1, 167, 255, 235, 42, 180, 0, 7, 3, 27, 79, 42, 180, 0, 7, 4, 27, 79, 42]
abbrev dktX9_read_3 : List UInt8 := dkwX9_read_3 ++ dktX9_read_4
def dkwX9_read_2 : List UInt8 := [180, 0, 7, 6, 46, 61, 3, 62, 29, 16, 40, 162, 0, 21, 42, 180, 0, 7, 29, 42, 180, 0, 19, 29]
abbrev dktX9_read_2 : List UInt8 := dkwX9_read_2 ++ dktX9_read_3
def dkwX9_read_1 : List UInt8 := [182, 0, 110, 60, 42, 3, 181, 0, 85, 27, 156, 0, 11, 16, 236, 42, 180, 0, 89, 100, 172, 42]
abbrev dktX9_read_1 : List UInt8 := dkwX9_read_1 ++ dktX9_read_2
def dkwX9_read_0 : List UInt8 := [3, 60, 27, 16, 40, 162, 0, 16, 42, 180, 0, 19, 27, 3, 79, 132, 1, 1, 167, 255, 240, 42]
abbrev dktX9_read_0 : List UInt8 := dkwX9_read_0 ++ dktX9_read_1
theorem dksX9_read_0 : cX9_read.data.toList.drop 0 = dktX9_read_0 := by decide +kernel
theorem dksX9_read_1 : cX9_read.data.toList.drop 22 = dktX9_read_1 := dk_seg dksX9_read_0 22 rfl rfl
theorem dksX9_read_2 : cX9_read.data.toList.drop 44 = dktX9_read_2 := dk_seg dksX9_read_1 22 rfl rfl
theorem dksX9_read_3 : cX9_read.data.toList.drop 68 = dktX9_read_3 := dk_seg dksX9_read_2 24 rfl rfl
theorem dksX9_read_4 : cX9_read.data.toList.drop 91 = dktX9_read_4 := dk_seg dksX9_read_3 23 rfl rfl
theorem dX9_read_0 : decode cX9_read 0 = .ok (.iconst 0, 1) := dk_3 (dk_at dksX9_read_0 0 rfl rfl)
theorem dX9_read_1 : decode cX9_read 1 = .ok (.istore_n 1, 1) := dk_60 (dk_at dksX9_read_0 1 rfl rfl)
theorem dX9_read_2 : decode cX9_read 2 = .ok (.iload_n 1, 1) := dk_27 (dk_at dksX9_read_0 2 rfl rfl)
theorem dX9_read_3 : decode cX9_read 3 = .ok (.bipush 40, 2) := dk_16 40 (dk_at dksX9_read_0 3 rfl rfl)
theorem dX9_read_5 : decode cX9_read 5 = .ok (.if_icmp .ge 16, 3) := dk_162 0 16 (dk_at dksX9_read_0 5 rfl rfl)
theorem dX9_read_8 : decode cX9_read 8 = .ok (.aload_n 0, 1) := dk_42 (dk_at dksX9_read_0 8 rfl rfl)
theorem dX9_read_9 : decode cX9_read 9 = .ok (.getfield 19, 3) := dk_180 0 19 (dk_at dksX9_read_0 9 rfl rfl)
theorem dX9_read_12 : decode cX9_read 12 = .ok (.iload_n 1, 1) := dk_27 (dk_at dksX9_read_0 12 rfl rfl)
theorem dX9_read_13 : decode cX9_read 13 = .ok (.iconst 0, 1) := dk_3 (dk_at dksX9_read_0 13 rfl rfl)
theorem dX9_read_14 : decode cX9_read 14 = .ok (.iastore, 1) := dk_79 (dk_at dksX9_read_0 14 rfl rfl)
theorem dX9_read_15 : decode cX9_read 15 = .ok (.iinc 1 1, 3) := dk_132 1 1 (dk_at dksX9_read_0 15 rfl rfl)
theorem dX9_read_18 : decode cX9_read 18 = .ok (.goto (-16), 3) := dk_167 255 240 (dk_at dksX9_read_0 18 rfl rfl)
theorem dX9_read_21 : decode cX9_read 21 = .ok (.aload_n 0, 1) := dk_42 (dk_at dksX9_read_0 21 rfl rfl)
theorem dX9_read_22 : decode cX9_read 22 = .ok (.invokevirtual 110, 3) := dk_182 0 110 (dk_at dksX9_read_1 0 rfl rfl)
theorem dX9_read_25 : decode cX9_read 25 = .ok (.istore_n 1, 1) := dk_60 (dk_at dksX9_read_1 3 rfl rfl)
theorem dX9_read_26 : decode cX9_read 26 = .ok (.aload_n 0, 1) := dk_42 (dk_at dksX9_read_1 4 rfl rfl)
theorem dX9_read_27 : decode cX9_read 27 = .ok (.iconst 0, 1) := dk_3 (dk_at dksX9_read_1 5 rfl rfl)
theorem dX9_read_28 : decode cX9_read 28 = .ok (.putfield 85, 3) := dk_181 0 85 (dk_at dksX9_read_1 6 rfl rfl)
theorem dX9_read_31 : decode cX9_read 31 = .ok (.iload_n 1, 1) := dk_27 (dk_at dksX9_read_1 9 rfl rfl)
theorem dX9_read_32 : decode cX9_read 32 = .ok (.ifCond .ge 11, 3) := dk_156 0 11 (dk_at dksX9_read_1 10 rfl rfl)
theorem dX9_read_35 : decode cX9_read 35 = .ok (.bipush (-20), 2) := dk_16 236 (dk_at dksX9_read_1 13 rfl rfl)
theorem dX9_read_37 : decode cX9_read 37 = .ok (.aload_n 0, 1) := dk_42 (dk_at dksX9_read_1 15 rfl rfl)
theorem dX9_read_38 : decode cX9_read 38 = .ok (.getfield 89, 3) := dk_180 0 89 (dk_at dksX9_read_1 16 rfl rfl)
theorem dX9_read_41 : decode cX9_read 41 = .ok (.isub, 1) := dk_100 (dk_at dksX9_read_1 19 rfl rfl)
theorem dX9_read_42 : decode cX9_read 42 = .ok (.ireturn, 1) := dk_172 (dk_at dksX9_read_1 20 rfl rfl)
theorem dX9_read_43 : decode cX9_read 43 = .ok (.aload_n 0, 1) := dk_42 (dk_at dksX9_read_1 21 rfl rfl)
theorem dX9_read_44 : decode cX9_read 44 = .ok (.getfield 7, 3) := dk_180 0 7 (dk_at dksX9_read_2 0 rfl rfl)
theorem dX9_read_47 : decode cX9_read 47 = .ok (.iconst 3, 1) := dk_6 (dk_at dksX9_read_2 3 rfl rfl)
theorem dX9_read_48 : decode cX9_read 48 = .ok (.iaload, 1) := dk_46 (dk_at dksX9_read_2 4 rfl rfl)
theorem dX9_read_49 : decode cX9_read 49 = .ok (.istore_n 2, 1) := dk_61 (dk_at dksX9_read_2 5 rfl rfl)
theorem dX9_read_50 : decode cX9_read 50 = .ok (.iconst 0, 1) := dk_3 (dk_at dksX9_read_2 6 rfl rfl)
theorem dX9_read_51 : decode cX9_read 51 = .ok (.istore_n 3, 1) := dk_62 (dk_at dksX9_read_2 7 rfl rfl)
theorem dX9_read_52 : decode cX9_read 52 = .ok (.iload_n 3, 1) := dk_29 (dk_at dksX9_read_2 8 rfl rfl)
theorem dX9_read_53 : decode cX9_read 53 = .ok (.bipush 40, 2) := dk_16 40 (dk_at dksX9_read_2 9 rfl rfl)
theorem dX9_read_55 : decode cX9_read 55 = .ok (.if_icmp .ge 21, 3) := dk_162 0 21 (dk_at dksX9_read_2 11 rfl rfl)
theorem dX9_read_58 : decode cX9_read 58 = .ok (.aload_n 0, 1) := dk_42 (dk_at dksX9_read_2 14 rfl rfl)
theorem dX9_read_59 : decode cX9_read 59 = .ok (.getfield 7, 3) := dk_180 0 7 (dk_at dksX9_read_2 15 rfl rfl)
theorem dX9_read_62 : decode cX9_read 62 = .ok (.iload_n 3, 1) := dk_29 (dk_at dksX9_read_2 18 rfl rfl)
theorem dX9_read_63 : decode cX9_read 63 = .ok (.aload_n 0, 1) := dk_42 (dk_at dksX9_read_2 19 rfl rfl)
theorem dX9_read_64 : decode cX9_read 64 = .ok (.getfield 19, 3) := dk_180 0 19 (dk_at dksX9_read_2 20 rfl rfl)
theorem dX9_read_67 : decode cX9_read 67 = .ok (.iload_n 3, 1) := dk_29 (dk_at dksX9_read_2 23 rfl rfl)
theorem dX9_read_68 : decode cX9_read 68 = .ok (.iaload, 1) := dk_46 (dk_at dksX9_read_3 0 rfl rfl)
theorem dX9_read_69 : decode cX9_read 69 = .ok (.iastore, 1) := dk_79 (dk_at dksX9_read_3 1 rfl rfl)
theorem dX9_read_70 : decode cX9_read 70 = .ok (.iinc 3 1, 3) := dk_132 3 1 (dk_at dksX9_read_3 2 rfl rfl)
theorem dX9_read_73 : decode cX9_read 73 = .ok (.goto (-21), 3) := dk_167 255 235 (dk_at dksX9_read_3 5 rfl rfl)
theorem dX9_read_76 : decode cX9_read 76 = .ok (.aload_n 0, 1) := dk_42 (dk_at dksX9_read_3 8 rfl rfl)
theorem dX9_read_77 : decode cX9_read 77 = .ok (.getfield 7, 3) := dk_180 0 7 (dk_at dksX9_read_3 9 rfl rfl)
theorem dX9_read_80 : decode cX9_read 80 = .ok (.iconst 0, 1) := dk_3 (dk_at dksX9_read_3 12 rfl rfl)
theorem dX9_read_81 : decode cX9_read 81 = .ok (.iload_n 1, 1) := dk_27 (dk_at dksX9_read_3 13 rfl rfl)
theorem dX9_read_82 : decode cX9_read 82 = .ok (.iastore, 1) := dk_79 (dk_at dksX9_read_3 14 rfl rfl)
theorem dX9_read_83 : decode cX9_read 83 = .ok (.aload_n 0, 1) := dk_42 (dk_at dksX9_read_3 15 rfl rfl)
theorem dX9_read_84 : decode cX9_read 84 = .ok (.getfield 7, 3) := dk_180 0 7 (dk_at dksX9_read_3 16 rfl rfl)
theorem dX9_read_87 : decode cX9_read 87 = .ok (.iconst 1, 1) := dk_4 (dk_at dksX9_read_3 19 rfl rfl)
theorem dX9_read_88 : decode cX9_read 88 = .ok (.iload_n 1, 1) := dk_27 (dk_at dksX9_read_3 20 rfl rfl)
theorem dX9_read_89 : decode cX9_read 89 = .ok (.iastore, 1) := dk_79 (dk_at dksX9_read_3 21 rfl rfl)
theorem dX9_read_90 : decode cX9_read 90 = .ok (.aload_n 0, 1) := dk_42 (dk_at dksX9_read_3 22 rfl rfl)
theorem dX9_read_91 : decode cX9_read 91 = .ok (.getfield 7, 3) := dk_180 0 7 (dk_at dksX9_read_4 0 rfl rfl)
theorem dX9_read_94 : decode cX9_read 94 = .ok (.iconst 3, 1) := dk_6 (dk_at dksX9_read_4 3 rfl rfl)
theorem dX9_read_95 : decode cX9_read 95 = .ok (.iload_n 2, 1) := dk_28 (dk_at dksX9_read_4 4 rfl rfl)
theorem dX9_read_96 : decode cX9_read 96 = .ok (.iastore, 1) := dk_79 (dk_at dksX9_read_4 5 rfl rfl)
theorem dX9_read_97 : decode cX9_read 97 = .ok (.aload_n 0, 1) := dk_42 (dk_at dksX9_read_4 6 rfl rfl)
theorem dX9_read_98 : decode cX9_read 98 = .ok (.getfield 7, 3) := dk_180 0 7 (dk_at dksX9_read_4 7 rfl rfl)
theorem dX9_read_101 : decode cX9_read 101 = .ok (.bipush 40, 2) := dk_16 40 (dk_at dksX9_read_4 10 rfl rfl)
theorem dX9_read_103 : decode cX9_read 103 = .ok (.iconst 0, 1) := dk_3 (dk_at dksX9_read_4 12 rfl rfl)
theorem dX9_read_104 : decode cX9_read 104 = .ok (.iastore, 1) := dk_79 (dk_at dksX9_read_4 13 rfl rfl)
theorem dX9_read_105 : decode cX9_read 105 = .ok (.iload_n 1, 1) := dk_27 (dk_at dksX9_read_4 14 rfl rfl)
theorem dX9_read_106 : decode cX9_read 106 = .ok (.ireturn, 1) := dk_172 (dk_at dksX9_read_4 15 rfl rfl)
abbrev cX9_readsAll : ByteArray := prog_11_method_27_code
def yX9_readsAll : MethodName := ⟨RX9, "readsAll", "()I"⟩
def dkwX9_readsAll_2 : List UInt8 := [160, 0, 5, 2, 172, 42, 89, 180, 0, 89, 4, 96, 181, 0, 89, 167, 255, 202, 27, 172]
abbrev dktX9_readsAll_2 : List UInt8 := dkwX9_readsAll_2 ++ []
def dkwX9_readsAll_1 : List UInt8 := [132, 1, 1, 42, 182, 0, 95, 61, 28, 156, 0, 5, 27, 172, 28, 16, 44, 160, 0, 9, 27, 16, 6]
abbrev dktX9_readsAll_1 : List UInt8 := dkwX9_readsAll_1 ++ dktX9_readsAll_2
def dkwX9_readsAll_0 : List UInt8 := [42, 3, 181, 0, 89, 3, 60, 27, 16, 6, 162, 0, 54, 42, 27, 182, 0, 107, 154, 0, 5, 2, 172]
abbrev dktX9_readsAll_0 : List UInt8 := dkwX9_readsAll_0 ++ dktX9_readsAll_1
theorem dksX9_readsAll_0 : cX9_readsAll.data.toList.drop 0 = dktX9_readsAll_0 := by decide +kernel
theorem dksX9_readsAll_1 : cX9_readsAll.data.toList.drop 23 = dktX9_readsAll_1 := dk_seg dksX9_readsAll_0 23 rfl rfl
theorem dksX9_readsAll_2 : cX9_readsAll.data.toList.drop 46 = dktX9_readsAll_2 := dk_seg dksX9_readsAll_1 23 rfl rfl
theorem dX9_readsAll_0 : decode cX9_readsAll 0 = .ok (.aload_n 0, 1) := dk_42 (dk_at dksX9_readsAll_0 0 rfl rfl)
theorem dX9_readsAll_1 : decode cX9_readsAll 1 = .ok (.iconst 0, 1) := dk_3 (dk_at dksX9_readsAll_0 1 rfl rfl)
theorem dX9_readsAll_2 : decode cX9_readsAll 2 = .ok (.putfield 89, 3) := dk_181 0 89 (dk_at dksX9_readsAll_0 2 rfl rfl)
theorem dX9_readsAll_5 : decode cX9_readsAll 5 = .ok (.iconst 0, 1) := dk_3 (dk_at dksX9_readsAll_0 5 rfl rfl)
theorem dX9_readsAll_6 : decode cX9_readsAll 6 = .ok (.istore_n 1, 1) := dk_60 (dk_at dksX9_readsAll_0 6 rfl rfl)
theorem dX9_readsAll_7 : decode cX9_readsAll 7 = .ok (.iload_n 1, 1) := dk_27 (dk_at dksX9_readsAll_0 7 rfl rfl)
theorem dX9_readsAll_8 : decode cX9_readsAll 8 = .ok (.bipush 6, 2) := dk_16 6 (dk_at dksX9_readsAll_0 8 rfl rfl)
theorem dX9_readsAll_10 : decode cX9_readsAll 10 = .ok (.if_icmp .ge 54, 3) := dk_162 0 54 (dk_at dksX9_readsAll_0 10 rfl rfl)
theorem dX9_readsAll_13 : decode cX9_readsAll 13 = .ok (.aload_n 0, 1) := dk_42 (dk_at dksX9_readsAll_0 13 rfl rfl)
theorem dX9_readsAll_14 : decode cX9_readsAll 14 = .ok (.iload_n 1, 1) := dk_27 (dk_at dksX9_readsAll_0 14 rfl rfl)
theorem dX9_readsAll_15 : decode cX9_readsAll 15 = .ok (.invokevirtual 107, 3) := dk_182 0 107 (dk_at dksX9_readsAll_0 15 rfl rfl)
theorem dX9_readsAll_18 : decode cX9_readsAll 18 = .ok (.ifCond .ne 5, 3) := dk_154 0 5 (dk_at dksX9_readsAll_0 18 rfl rfl)
theorem dX9_readsAll_21 : decode cX9_readsAll 21 = .ok (.iconst (-1), 1) := dk_2 (dk_at dksX9_readsAll_0 21 rfl rfl)
theorem dX9_readsAll_22 : decode cX9_readsAll 22 = .ok (.ireturn, 1) := dk_172 (dk_at dksX9_readsAll_0 22 rfl rfl)
theorem dX9_readsAll_23 : decode cX9_readsAll 23 = .ok (.iinc 1 1, 3) := dk_132 1 1 (dk_at dksX9_readsAll_1 0 rfl rfl)
theorem dX9_readsAll_26 : decode cX9_readsAll 26 = .ok (.aload_n 0, 1) := dk_42 (dk_at dksX9_readsAll_1 3 rfl rfl)
theorem dX9_readsAll_27 : decode cX9_readsAll 27 = .ok (.invokevirtual 95, 3) := dk_182 0 95 (dk_at dksX9_readsAll_1 4 rfl rfl)
theorem dX9_readsAll_30 : decode cX9_readsAll 30 = .ok (.istore_n 2, 1) := dk_61 (dk_at dksX9_readsAll_1 7 rfl rfl)
theorem dX9_readsAll_31 : decode cX9_readsAll 31 = .ok (.iload_n 2, 1) := dk_28 (dk_at dksX9_readsAll_1 8 rfl rfl)
theorem dX9_readsAll_32 : decode cX9_readsAll 32 = .ok (.ifCond .ge 5, 3) := dk_156 0 5 (dk_at dksX9_readsAll_1 9 rfl rfl)
theorem dX9_readsAll_35 : decode cX9_readsAll 35 = .ok (.iload_n 1, 1) := dk_27 (dk_at dksX9_readsAll_1 12 rfl rfl)
theorem dX9_readsAll_36 : decode cX9_readsAll 36 = .ok (.ireturn, 1) := dk_172 (dk_at dksX9_readsAll_1 13 rfl rfl)
theorem dX9_readsAll_37 : decode cX9_readsAll 37 = .ok (.iload_n 2, 1) := dk_28 (dk_at dksX9_readsAll_1 14 rfl rfl)
theorem dX9_readsAll_38 : decode cX9_readsAll 38 = .ok (.bipush 44, 2) := dk_16 44 (dk_at dksX9_readsAll_1 15 rfl rfl)
theorem dX9_readsAll_40 : decode cX9_readsAll 40 = .ok (.if_icmp .ne 9, 3) := dk_160 0 9 (dk_at dksX9_readsAll_1 17 rfl rfl)
theorem dX9_readsAll_43 : decode cX9_readsAll 43 = .ok (.iload_n 1, 1) := dk_27 (dk_at dksX9_readsAll_1 20 rfl rfl)
theorem dX9_readsAll_44 : decode cX9_readsAll 44 = .ok (.bipush 6, 2) := dk_16 6 (dk_at dksX9_readsAll_1 21 rfl rfl)
theorem dX9_readsAll_46 : decode cX9_readsAll 46 = .ok (.if_icmp .ne 5, 3) := dk_160 0 5 (dk_at dksX9_readsAll_2 0 rfl rfl)
theorem dX9_readsAll_49 : decode cX9_readsAll 49 = .ok (.iconst (-1), 1) := dk_2 (dk_at dksX9_readsAll_2 3 rfl rfl)
theorem dX9_readsAll_50 : decode cX9_readsAll 50 = .ok (.ireturn, 1) := dk_172 (dk_at dksX9_readsAll_2 4 rfl rfl)
theorem dX9_readsAll_51 : decode cX9_readsAll 51 = .ok (.aload_n 0, 1) := dk_42 (dk_at dksX9_readsAll_2 5 rfl rfl)
theorem dX9_readsAll_52 : decode cX9_readsAll 52 = .ok (.dup, 1) := dk_89 (dk_at dksX9_readsAll_2 6 rfl rfl)
theorem dX9_readsAll_53 : decode cX9_readsAll 53 = .ok (.getfield 89, 3) := dk_180 0 89 (dk_at dksX9_readsAll_2 7 rfl rfl)
theorem dX9_readsAll_56 : decode cX9_readsAll 56 = .ok (.iconst 1, 1) := dk_4 (dk_at dksX9_readsAll_2 10 rfl rfl)
theorem dX9_readsAll_57 : decode cX9_readsAll 57 = .ok (.iadd, 1) := dk_96 (dk_at dksX9_readsAll_2 11 rfl rfl)
theorem dX9_readsAll_58 : decode cX9_readsAll 58 = .ok (.putfield 89, 3) := dk_181 0 89 (dk_at dksX9_readsAll_2 12 rfl rfl)
theorem dX9_readsAll_61 : decode cX9_readsAll 61 = .ok (.goto (-54), 3) := dk_167 255 202 (dk_at dksX9_readsAll_2 15 rfl rfl)
theorem dX9_readsAll_64 : decode cX9_readsAll 64 = .ok (.iload_n 1, 1) := dk_27 (dk_at dksX9_readsAll_2 18 rfl rfl)
theorem dX9_readsAll_65 : decode cX9_readsAll 65 = .ok (.ireturn, 1) := dk_172 (dk_at dksX9_readsAll_2 19 rfl rfl)
abbrev cX9_readsMan : ByteArray := prog_11_method_26_code
def yX9_readsMan : MethodName := ⟨RX9, "readsMan", "(I)Z"⟩
def dkwX9_readsMan_13 : List UInt8 := [167, 255, 187, 4, 172]
abbrev dktX9_readsMan_13 : List UInt8 := dkwX9_readsMan_13 ++ []
def dkwX9_readsMan_12 : List UInt8 := [96, 21, 6, 96, 21, 7, 16, 48, 100, 79, 42, 89, 180, 0, 89, 4, 96, 181, 0, 89, 132, 6, 1]
abbrev dktX9_readsMan_12 : List UInt8 := dkwX9_readsMan_12 ++ dktX9_readsMan_13
def dkwX9_readsMan_11 : List UInt8 := [21, 6, 21, 7, 16, 48, 100, 182, 0, 104, 153, 0, 5, 3, 172, 42, 180, 0, 19, 16, 22, 6, 27, 104]
abbrev dktX9_readsMan_11 : List UInt8 := dkwX9_readsMan_11 ++ dktX9_readsMan_12
def dkwX9_readsMan_10 : List UInt8 := [54, 6, 21, 6, 6, 162, 0, 69, 42, 182, 0, 95, 54, 7, 21, 7, 184, 0, 101, 153, 0, 18, 42, 27]
abbrev dktX9_readsMan_10 : List UInt8 := dkwX9_readsMan_10 ++ dktX9_readsMan_11
def dkwX9_readsMan_9 : List UInt8 := [21, 6, 96, 27, 79, 132, 6, 1, 167, 255, 214, 4, 172, 42, 89, 180, 0, 89, 4, 96, 181, 0, 89, 3]
abbrev dktX9_readsMan_9 : List UInt8 := dkwX9_readsMan_9 ++ dktX9_readsMan_10
def dkwX9_readsMan_8 : List UInt8 := [27, 182, 0, 104, 153, 0, 10, 42, 29, 181, 0, 89, 3, 172, 42, 180, 0, 19, 16, 22, 6, 27, 104, 96]
abbrev dktX9_readsMan_8 : List UInt8 := dkwX9_readsMan_8 ++ dktX9_readsMan_9
def dkwX9_readsMan_7 : List UInt8 := [27, 79, 42, 182, 0, 95, 16, 46, 159, 0, 53, 3, 54, 6, 21, 6, 6, 162, 0, 42, 42, 27, 21, 6]
abbrev dktX9_readsMan_7 : List UInt8 := dkwX9_readsMan_7 ++ dktX9_readsMan_8
def dkwX9_readsMan_6 : List UInt8 := [16, 16, 27, 96, 28, 79, 42, 180, 0, 19, 7, 27, 96, 21, 5, 79, 42, 180, 0, 19, 16, 10, 27, 96]
abbrev dktX9_readsMan_6 : List UInt8 := dkwX9_readsMan_6 ++ dktX9_readsMan_7
def dkwX9_readsMan_5 : List UInt8 := [21, 5, 4, 16, 60, 184, 0, 44, 154, 0, 11, 42, 21, 4, 181, 0, 89, 3, 172, 42, 180, 0, 19]
abbrev dktX9_readsMan_5 : List UInt8 := dkwX9_readsMan_5 ++ dktX9_readsMan_6
def dkwX9_readsMan_4 : List UInt8 := [180, 0, 16, 42, 180, 0, 89, 46, 96, 16, 48, 100, 54, 5, 42, 89, 180, 0, 89, 4, 96, 181, 0, 89]
abbrev dktX9_readsMan_4 : List UInt8 := dkwX9_readsMan_4 ++ dktX9_readsMan_5
def dkwX9_readsMan_3 : List UInt8 := [181, 0, 89, 42, 42, 180, 0, 89, 182, 0, 92, 184, 0, 101, 153, 0, 33, 16, 10, 21, 5, 104, 42]
abbrev dktX9_readsMan_3 : List UInt8 := dkwX9_readsMan_3 ++ dktX9_readsMan_4
def dkwX9_readsMan_2 : List UInt8 := [54, 4, 42, 180, 0, 16, 42, 180, 0, 89, 46, 16, 48, 100, 54, 5, 42, 89, 180, 0, 89, 4, 96]
abbrev dktX9_readsMan_2 : List UInt8 := dkwX9_readsMan_2 ++ dktX9_readsMan_3
def dkwX9_readsMan_1 : List UInt8 := [180, 0, 89, 4, 96, 181, 0, 89, 42, 182, 0, 95, 184, 0, 101, 154, 0, 5, 3, 172, 42, 180, 0, 89]
abbrev dktX9_readsMan_1 : List UInt8 := dkwX9_readsMan_1 ++ dktX9_readsMan_2
def dkwX9_readsMan_0 : List UInt8 := [42, 182, 0, 95, 184, 0, 98, 61, 42, 180, 0, 89, 62, 28, 16, 252, 160, 0, 5, 3, 172, 42, 89]
abbrev dktX9_readsMan_0 : List UInt8 := dkwX9_readsMan_0 ++ dktX9_readsMan_1
theorem dksX9_readsMan_0 : cX9_readsMan.data.toList.drop 0 = dktX9_readsMan_0 := by decide +kernel
theorem dksX9_readsMan_1 : cX9_readsMan.data.toList.drop 23 = dktX9_readsMan_1 := dk_seg dksX9_readsMan_0 23 rfl rfl
theorem dksX9_readsMan_2 : cX9_readsMan.data.toList.drop 47 = dktX9_readsMan_2 := dk_seg dksX9_readsMan_1 24 rfl rfl
theorem dksX9_readsMan_3 : cX9_readsMan.data.toList.drop 70 = dktX9_readsMan_3 := dk_seg dksX9_readsMan_2 23 rfl rfl
theorem dksX9_readsMan_4 : cX9_readsMan.data.toList.drop 93 = dktX9_readsMan_4 := dk_seg dksX9_readsMan_3 23 rfl rfl
theorem dksX9_readsMan_5 : cX9_readsMan.data.toList.drop 117 = dktX9_readsMan_5 := dk_seg dksX9_readsMan_4 24 rfl rfl
theorem dksX9_readsMan_6 : cX9_readsMan.data.toList.drop 140 = dktX9_readsMan_6 := dk_seg dksX9_readsMan_5 23 rfl rfl
theorem dksX9_readsMan_7 : cX9_readsMan.data.toList.drop 164 = dktX9_readsMan_7 := dk_seg dksX9_readsMan_6 24 rfl rfl
theorem dksX9_readsMan_8 : cX9_readsMan.data.toList.drop 188 = dktX9_readsMan_8 := dk_seg dksX9_readsMan_7 24 rfl rfl
theorem dksX9_readsMan_9 : cX9_readsMan.data.toList.drop 212 = dktX9_readsMan_9 := dk_seg dksX9_readsMan_8 24 rfl rfl
theorem dksX9_readsMan_10 : cX9_readsMan.data.toList.drop 236 = dktX9_readsMan_10 := dk_seg dksX9_readsMan_9 24 rfl rfl
theorem dksX9_readsMan_11 : cX9_readsMan.data.toList.drop 260 = dktX9_readsMan_11 := dk_seg dksX9_readsMan_10 24 rfl rfl
theorem dksX9_readsMan_12 : cX9_readsMan.data.toList.drop 284 = dktX9_readsMan_12 := dk_seg dksX9_readsMan_11 24 rfl rfl
theorem dksX9_readsMan_13 : cX9_readsMan.data.toList.drop 307 = dktX9_readsMan_13 := dk_seg dksX9_readsMan_12 23 rfl rfl
theorem dX9_readsMan_0 : decode cX9_readsMan 0 = .ok (.aload_n 0, 1) := dk_42 (dk_at dksX9_readsMan_0 0 rfl rfl)
theorem dX9_readsMan_1 : decode cX9_readsMan 1 = .ok (.invokevirtual 95, 3) := dk_182 0 95 (dk_at dksX9_readsMan_0 1 rfl rfl)
theorem dX9_readsMan_4 : decode cX9_readsMan 4 = .ok (.invokestatic 98, 3) := dk_184 0 98 (dk_at dksX9_readsMan_0 4 rfl rfl)
theorem dX9_readsMan_7 : decode cX9_readsMan 7 = .ok (.istore_n 2, 1) := dk_61 (dk_at dksX9_readsMan_0 7 rfl rfl)
theorem dX9_readsMan_8 : decode cX9_readsMan 8 = .ok (.aload_n 0, 1) := dk_42 (dk_at dksX9_readsMan_0 8 rfl rfl)
theorem dX9_readsMan_9 : decode cX9_readsMan 9 = .ok (.getfield 89, 3) := dk_180 0 89 (dk_at dksX9_readsMan_0 9 rfl rfl)
theorem dX9_readsMan_12 : decode cX9_readsMan 12 = .ok (.istore_n 3, 1) := dk_62 (dk_at dksX9_readsMan_0 12 rfl rfl)
theorem dX9_readsMan_13 : decode cX9_readsMan 13 = .ok (.iload_n 2, 1) := dk_28 (dk_at dksX9_readsMan_0 13 rfl rfl)
theorem dX9_readsMan_14 : decode cX9_readsMan 14 = .ok (.bipush (-4), 2) := dk_16 252 (dk_at dksX9_readsMan_0 14 rfl rfl)
theorem dX9_readsMan_16 : decode cX9_readsMan 16 = .ok (.if_icmp .ne 5, 3) := dk_160 0 5 (dk_at dksX9_readsMan_0 16 rfl rfl)
theorem dX9_readsMan_19 : decode cX9_readsMan 19 = .ok (.iconst 0, 1) := dk_3 (dk_at dksX9_readsMan_0 19 rfl rfl)
theorem dX9_readsMan_20 : decode cX9_readsMan 20 = .ok (.ireturn, 1) := dk_172 (dk_at dksX9_readsMan_0 20 rfl rfl)
theorem dX9_readsMan_21 : decode cX9_readsMan 21 = .ok (.aload_n 0, 1) := dk_42 (dk_at dksX9_readsMan_0 21 rfl rfl)
theorem dX9_readsMan_22 : decode cX9_readsMan 22 = .ok (.dup, 1) := dk_89 (dk_at dksX9_readsMan_0 22 rfl rfl)
theorem dX9_readsMan_23 : decode cX9_readsMan 23 = .ok (.getfield 89, 3) := dk_180 0 89 (dk_at dksX9_readsMan_1 0 rfl rfl)
theorem dX9_readsMan_26 : decode cX9_readsMan 26 = .ok (.iconst 1, 1) := dk_4 (dk_at dksX9_readsMan_1 3 rfl rfl)
theorem dX9_readsMan_27 : decode cX9_readsMan 27 = .ok (.iadd, 1) := dk_96 (dk_at dksX9_readsMan_1 4 rfl rfl)
theorem dX9_readsMan_28 : decode cX9_readsMan 28 = .ok (.putfield 89, 3) := dk_181 0 89 (dk_at dksX9_readsMan_1 5 rfl rfl)
theorem dX9_readsMan_31 : decode cX9_readsMan 31 = .ok (.aload_n 0, 1) := dk_42 (dk_at dksX9_readsMan_1 8 rfl rfl)
theorem dX9_readsMan_32 : decode cX9_readsMan 32 = .ok (.invokevirtual 95, 3) := dk_182 0 95 (dk_at dksX9_readsMan_1 9 rfl rfl)
theorem dX9_readsMan_35 : decode cX9_readsMan 35 = .ok (.invokestatic 101, 3) := dk_184 0 101 (dk_at dksX9_readsMan_1 12 rfl rfl)
theorem dX9_readsMan_38 : decode cX9_readsMan 38 = .ok (.ifCond .ne 5, 3) := dk_154 0 5 (dk_at dksX9_readsMan_1 15 rfl rfl)
theorem dX9_readsMan_41 : decode cX9_readsMan 41 = .ok (.iconst 0, 1) := dk_3 (dk_at dksX9_readsMan_1 18 rfl rfl)
theorem dX9_readsMan_42 : decode cX9_readsMan 42 = .ok (.ireturn, 1) := dk_172 (dk_at dksX9_readsMan_1 19 rfl rfl)
theorem dX9_readsMan_43 : decode cX9_readsMan 43 = .ok (.aload_n 0, 1) := dk_42 (dk_at dksX9_readsMan_1 20 rfl rfl)
theorem dX9_readsMan_44 : decode cX9_readsMan 44 = .ok (.getfield 89, 3) := dk_180 0 89 (dk_at dksX9_readsMan_1 21 rfl rfl)
theorem dX9_readsMan_47 : decode cX9_readsMan 47 = .ok (.istore 4, 2) := dk_54 4 (dk_at dksX9_readsMan_2 0 rfl rfl)
theorem dX9_readsMan_49 : decode cX9_readsMan 49 = .ok (.aload_n 0, 1) := dk_42 (dk_at dksX9_readsMan_2 2 rfl rfl)
theorem dX9_readsMan_50 : decode cX9_readsMan 50 = .ok (.getfield 16, 3) := dk_180 0 16 (dk_at dksX9_readsMan_2 3 rfl rfl)
theorem dX9_readsMan_53 : decode cX9_readsMan 53 = .ok (.aload_n 0, 1) := dk_42 (dk_at dksX9_readsMan_2 6 rfl rfl)
theorem dX9_readsMan_54 : decode cX9_readsMan 54 = .ok (.getfield 89, 3) := dk_180 0 89 (dk_at dksX9_readsMan_2 7 rfl rfl)
theorem dX9_readsMan_57 : decode cX9_readsMan 57 = .ok (.iaload, 1) := dk_46 (dk_at dksX9_readsMan_2 10 rfl rfl)
theorem dX9_readsMan_58 : decode cX9_readsMan 58 = .ok (.bipush 48, 2) := dk_16 48 (dk_at dksX9_readsMan_2 11 rfl rfl)
theorem dX9_readsMan_60 : decode cX9_readsMan 60 = .ok (.isub, 1) := dk_100 (dk_at dksX9_readsMan_2 13 rfl rfl)
theorem dX9_readsMan_61 : decode cX9_readsMan 61 = .ok (.istore 5, 2) := dk_54 5 (dk_at dksX9_readsMan_2 14 rfl rfl)
theorem dX9_readsMan_63 : decode cX9_readsMan 63 = .ok (.aload_n 0, 1) := dk_42 (dk_at dksX9_readsMan_2 16 rfl rfl)
theorem dX9_readsMan_64 : decode cX9_readsMan 64 = .ok (.dup, 1) := dk_89 (dk_at dksX9_readsMan_2 17 rfl rfl)
theorem dX9_readsMan_65 : decode cX9_readsMan 65 = .ok (.getfield 89, 3) := dk_180 0 89 (dk_at dksX9_readsMan_2 18 rfl rfl)
theorem dX9_readsMan_68 : decode cX9_readsMan 68 = .ok (.iconst 1, 1) := dk_4 (dk_at dksX9_readsMan_2 21 rfl rfl)
theorem dX9_readsMan_69 : decode cX9_readsMan 69 = .ok (.iadd, 1) := dk_96 (dk_at dksX9_readsMan_2 22 rfl rfl)
theorem dX9_readsMan_70 : decode cX9_readsMan 70 = .ok (.putfield 89, 3) := dk_181 0 89 (dk_at dksX9_readsMan_3 0 rfl rfl)
theorem dX9_readsMan_73 : decode cX9_readsMan 73 = .ok (.aload_n 0, 1) := dk_42 (dk_at dksX9_readsMan_3 3 rfl rfl)
theorem dX9_readsMan_74 : decode cX9_readsMan 74 = .ok (.aload_n 0, 1) := dk_42 (dk_at dksX9_readsMan_3 4 rfl rfl)
theorem dX9_readsMan_75 : decode cX9_readsMan 75 = .ok (.getfield 89, 3) := dk_180 0 89 (dk_at dksX9_readsMan_3 5 rfl rfl)
theorem dX9_readsMan_78 : decode cX9_readsMan 78 = .ok (.invokevirtual 92, 3) := dk_182 0 92 (dk_at dksX9_readsMan_3 8 rfl rfl)
theorem dX9_readsMan_81 : decode cX9_readsMan 81 = .ok (.invokestatic 101, 3) := dk_184 0 101 (dk_at dksX9_readsMan_3 11 rfl rfl)
theorem dX9_readsMan_84 : decode cX9_readsMan 84 = .ok (.ifCond .eq 33, 3) := dk_153 0 33 (dk_at dksX9_readsMan_3 14 rfl rfl)
theorem dX9_readsMan_87 : decode cX9_readsMan 87 = .ok (.bipush 10, 2) := dk_16 10 (dk_at dksX9_readsMan_3 17 rfl rfl)
theorem dX9_readsMan_89 : decode cX9_readsMan 89 = .ok (.iload 5, 2) := dk_21 5 (dk_at dksX9_readsMan_3 19 rfl rfl)
theorem dX9_readsMan_91 : decode cX9_readsMan 91 = .ok (.imul, 1) := dk_104 (dk_at dksX9_readsMan_3 21 rfl rfl)
theorem dX9_readsMan_92 : decode cX9_readsMan 92 = .ok (.aload_n 0, 1) := dk_42 (dk_at dksX9_readsMan_3 22 rfl rfl)
theorem dX9_readsMan_93 : decode cX9_readsMan 93 = .ok (.getfield 16, 3) := dk_180 0 16 (dk_at dksX9_readsMan_4 0 rfl rfl)
theorem dX9_readsMan_96 : decode cX9_readsMan 96 = .ok (.aload_n 0, 1) := dk_42 (dk_at dksX9_readsMan_4 3 rfl rfl)
theorem dX9_readsMan_97 : decode cX9_readsMan 97 = .ok (.getfield 89, 3) := dk_180 0 89 (dk_at dksX9_readsMan_4 4 rfl rfl)
theorem dX9_readsMan_100 : decode cX9_readsMan 100 = .ok (.iaload, 1) := dk_46 (dk_at dksX9_readsMan_4 7 rfl rfl)
theorem dX9_readsMan_101 : decode cX9_readsMan 101 = .ok (.iadd, 1) := dk_96 (dk_at dksX9_readsMan_4 8 rfl rfl)
theorem dX9_readsMan_102 : decode cX9_readsMan 102 = .ok (.bipush 48, 2) := dk_16 48 (dk_at dksX9_readsMan_4 9 rfl rfl)
theorem dX9_readsMan_104 : decode cX9_readsMan 104 = .ok (.isub, 1) := dk_100 (dk_at dksX9_readsMan_4 11 rfl rfl)
theorem dX9_readsMan_105 : decode cX9_readsMan 105 = .ok (.istore 5, 2) := dk_54 5 (dk_at dksX9_readsMan_4 12 rfl rfl)
theorem dX9_readsMan_107 : decode cX9_readsMan 107 = .ok (.aload_n 0, 1) := dk_42 (dk_at dksX9_readsMan_4 14 rfl rfl)
theorem dX9_readsMan_108 : decode cX9_readsMan 108 = .ok (.dup, 1) := dk_89 (dk_at dksX9_readsMan_4 15 rfl rfl)
theorem dX9_readsMan_109 : decode cX9_readsMan 109 = .ok (.getfield 89, 3) := dk_180 0 89 (dk_at dksX9_readsMan_4 16 rfl rfl)
theorem dX9_readsMan_112 : decode cX9_readsMan 112 = .ok (.iconst 1, 1) := dk_4 (dk_at dksX9_readsMan_4 19 rfl rfl)
theorem dX9_readsMan_113 : decode cX9_readsMan 113 = .ok (.iadd, 1) := dk_96 (dk_at dksX9_readsMan_4 20 rfl rfl)
theorem dX9_readsMan_114 : decode cX9_readsMan 114 = .ok (.putfield 89, 3) := dk_181 0 89 (dk_at dksX9_readsMan_4 21 rfl rfl)
theorem dX9_readsMan_117 : decode cX9_readsMan 117 = .ok (.iload 5, 2) := dk_21 5 (dk_at dksX9_readsMan_5 0 rfl rfl)
theorem dX9_readsMan_119 : decode cX9_readsMan 119 = .ok (.iconst 1, 1) := dk_4 (dk_at dksX9_readsMan_5 2 rfl rfl)
theorem dX9_readsMan_120 : decode cX9_readsMan 120 = .ok (.bipush 60, 2) := dk_16 60 (dk_at dksX9_readsMan_5 3 rfl rfl)
theorem dX9_readsMan_122 : decode cX9_readsMan 122 = .ok (.invokestatic 44, 3) := dk_184 0 44 (dk_at dksX9_readsMan_5 5 rfl rfl)
theorem dX9_readsMan_125 : decode cX9_readsMan 125 = .ok (.ifCond .ne 11, 3) := dk_154 0 11 (dk_at dksX9_readsMan_5 8 rfl rfl)
theorem dX9_readsMan_128 : decode cX9_readsMan 128 = .ok (.aload_n 0, 1) := dk_42 (dk_at dksX9_readsMan_5 11 rfl rfl)
theorem dX9_readsMan_129 : decode cX9_readsMan 129 = .ok (.iload 4, 2) := dk_21 4 (dk_at dksX9_readsMan_5 12 rfl rfl)
theorem dX9_readsMan_131 : decode cX9_readsMan 131 = .ok (.putfield 89, 3) := dk_181 0 89 (dk_at dksX9_readsMan_5 14 rfl rfl)
theorem dX9_readsMan_134 : decode cX9_readsMan 134 = .ok (.iconst 0, 1) := dk_3 (dk_at dksX9_readsMan_5 17 rfl rfl)
theorem dX9_readsMan_135 : decode cX9_readsMan 135 = .ok (.ireturn, 1) := dk_172 (dk_at dksX9_readsMan_5 18 rfl rfl)
theorem dX9_readsMan_136 : decode cX9_readsMan 136 = .ok (.aload_n 0, 1) := dk_42 (dk_at dksX9_readsMan_5 19 rfl rfl)
theorem dX9_readsMan_137 : decode cX9_readsMan 137 = .ok (.getfield 19, 3) := dk_180 0 19 (dk_at dksX9_readsMan_5 20 rfl rfl)
theorem dX9_readsMan_140 : decode cX9_readsMan 140 = .ok (.bipush 16, 2) := dk_16 16 (dk_at dksX9_readsMan_6 0 rfl rfl)
theorem dX9_readsMan_142 : decode cX9_readsMan 142 = .ok (.iload_n 1, 1) := dk_27 (dk_at dksX9_readsMan_6 2 rfl rfl)
theorem dX9_readsMan_143 : decode cX9_readsMan 143 = .ok (.iadd, 1) := dk_96 (dk_at dksX9_readsMan_6 3 rfl rfl)
theorem dX9_readsMan_144 : decode cX9_readsMan 144 = .ok (.iload_n 2, 1) := dk_28 (dk_at dksX9_readsMan_6 4 rfl rfl)
theorem dX9_readsMan_145 : decode cX9_readsMan 145 = .ok (.iastore, 1) := dk_79 (dk_at dksX9_readsMan_6 5 rfl rfl)
theorem dX9_readsMan_146 : decode cX9_readsMan 146 = .ok (.aload_n 0, 1) := dk_42 (dk_at dksX9_readsMan_6 6 rfl rfl)
theorem dX9_readsMan_147 : decode cX9_readsMan 147 = .ok (.getfield 19, 3) := dk_180 0 19 (dk_at dksX9_readsMan_6 7 rfl rfl)
theorem dX9_readsMan_150 : decode cX9_readsMan 150 = .ok (.iconst 4, 1) := dk_7 (dk_at dksX9_readsMan_6 10 rfl rfl)
theorem dX9_readsMan_151 : decode cX9_readsMan 151 = .ok (.iload_n 1, 1) := dk_27 (dk_at dksX9_readsMan_6 11 rfl rfl)
theorem dX9_readsMan_152 : decode cX9_readsMan 152 = .ok (.iadd, 1) := dk_96 (dk_at dksX9_readsMan_6 12 rfl rfl)
theorem dX9_readsMan_153 : decode cX9_readsMan 153 = .ok (.iload 5, 2) := dk_21 5 (dk_at dksX9_readsMan_6 13 rfl rfl)
theorem dX9_readsMan_155 : decode cX9_readsMan 155 = .ok (.iastore, 1) := dk_79 (dk_at dksX9_readsMan_6 15 rfl rfl)
theorem dX9_readsMan_156 : decode cX9_readsMan 156 = .ok (.aload_n 0, 1) := dk_42 (dk_at dksX9_readsMan_6 16 rfl rfl)
theorem dX9_readsMan_157 : decode cX9_readsMan 157 = .ok (.getfield 19, 3) := dk_180 0 19 (dk_at dksX9_readsMan_6 17 rfl rfl)
theorem dX9_readsMan_160 : decode cX9_readsMan 160 = .ok (.bipush 10, 2) := dk_16 10 (dk_at dksX9_readsMan_6 20 rfl rfl)
theorem dX9_readsMan_162 : decode cX9_readsMan 162 = .ok (.iload_n 1, 1) := dk_27 (dk_at dksX9_readsMan_6 22 rfl rfl)
theorem dX9_readsMan_163 : decode cX9_readsMan 163 = .ok (.iadd, 1) := dk_96 (dk_at dksX9_readsMan_6 23 rfl rfl)
theorem dX9_readsMan_164 : decode cX9_readsMan 164 = .ok (.iload_n 1, 1) := dk_27 (dk_at dksX9_readsMan_7 0 rfl rfl)
theorem dX9_readsMan_165 : decode cX9_readsMan 165 = .ok (.iastore, 1) := dk_79 (dk_at dksX9_readsMan_7 1 rfl rfl)
theorem dX9_readsMan_166 : decode cX9_readsMan 166 = .ok (.aload_n 0, 1) := dk_42 (dk_at dksX9_readsMan_7 2 rfl rfl)
theorem dX9_readsMan_167 : decode cX9_readsMan 167 = .ok (.invokevirtual 95, 3) := dk_182 0 95 (dk_at dksX9_readsMan_7 3 rfl rfl)
theorem dX9_readsMan_170 : decode cX9_readsMan 170 = .ok (.bipush 46, 2) := dk_16 46 (dk_at dksX9_readsMan_7 6 rfl rfl)
theorem dX9_readsMan_172 : decode cX9_readsMan 172 = .ok (.if_icmp .eq 53, 3) := dk_159 0 53 (dk_at dksX9_readsMan_7 8 rfl rfl)
theorem dX9_readsMan_175 : decode cX9_readsMan 175 = .ok (.iconst 0, 1) := dk_3 (dk_at dksX9_readsMan_7 11 rfl rfl)
theorem dX9_readsMan_176 : decode cX9_readsMan 176 = .ok (.istore 6, 2) := dk_54 6 (dk_at dksX9_readsMan_7 12 rfl rfl)
theorem dX9_readsMan_178 : decode cX9_readsMan 178 = .ok (.iload 6, 2) := dk_21 6 (dk_at dksX9_readsMan_7 14 rfl rfl)
theorem dX9_readsMan_180 : decode cX9_readsMan 180 = .ok (.iconst 3, 1) := dk_6 (dk_at dksX9_readsMan_7 16 rfl rfl)
theorem dX9_readsMan_181 : decode cX9_readsMan 181 = .ok (.if_icmp .ge 42, 3) := dk_162 0 42 (dk_at dksX9_readsMan_7 17 rfl rfl)
theorem dX9_readsMan_184 : decode cX9_readsMan 184 = .ok (.aload_n 0, 1) := dk_42 (dk_at dksX9_readsMan_7 20 rfl rfl)
theorem dX9_readsMan_185 : decode cX9_readsMan 185 = .ok (.iload_n 1, 1) := dk_27 (dk_at dksX9_readsMan_7 21 rfl rfl)
theorem dX9_readsMan_186 : decode cX9_readsMan 186 = .ok (.iload 6, 2) := dk_21 6 (dk_at dksX9_readsMan_7 22 rfl rfl)
theorem dX9_readsMan_188 : decode cX9_readsMan 188 = .ok (.iload_n 1, 1) := dk_27 (dk_at dksX9_readsMan_8 0 rfl rfl)
theorem dX9_readsMan_189 : decode cX9_readsMan 189 = .ok (.invokevirtual 104, 3) := dk_182 0 104 (dk_at dksX9_readsMan_8 1 rfl rfl)
theorem dX9_readsMan_192 : decode cX9_readsMan 192 = .ok (.ifCond .eq 10, 3) := dk_153 0 10 (dk_at dksX9_readsMan_8 4 rfl rfl)
theorem dX9_readsMan_195 : decode cX9_readsMan 195 = .ok (.aload_n 0, 1) := dk_42 (dk_at dksX9_readsMan_8 7 rfl rfl)
theorem dX9_readsMan_196 : decode cX9_readsMan 196 = .ok (.iload_n 3, 1) := dk_29 (dk_at dksX9_readsMan_8 8 rfl rfl)
theorem dX9_readsMan_197 : decode cX9_readsMan 197 = .ok (.putfield 89, 3) := dk_181 0 89 (dk_at dksX9_readsMan_8 9 rfl rfl)
theorem dX9_readsMan_200 : decode cX9_readsMan 200 = .ok (.iconst 0, 1) := dk_3 (dk_at dksX9_readsMan_8 12 rfl rfl)
theorem dX9_readsMan_201 : decode cX9_readsMan 201 = .ok (.ireturn, 1) := dk_172 (dk_at dksX9_readsMan_8 13 rfl rfl)
theorem dX9_readsMan_202 : decode cX9_readsMan 202 = .ok (.aload_n 0, 1) := dk_42 (dk_at dksX9_readsMan_8 14 rfl rfl)
theorem dX9_readsMan_203 : decode cX9_readsMan 203 = .ok (.getfield 19, 3) := dk_180 0 19 (dk_at dksX9_readsMan_8 15 rfl rfl)
theorem dX9_readsMan_206 : decode cX9_readsMan 206 = .ok (.bipush 22, 2) := dk_16 22 (dk_at dksX9_readsMan_8 18 rfl rfl)
theorem dX9_readsMan_208 : decode cX9_readsMan 208 = .ok (.iconst 3, 1) := dk_6 (dk_at dksX9_readsMan_8 20 rfl rfl)
theorem dX9_readsMan_209 : decode cX9_readsMan 209 = .ok (.iload_n 1, 1) := dk_27 (dk_at dksX9_readsMan_8 21 rfl rfl)
theorem dX9_readsMan_210 : decode cX9_readsMan 210 = .ok (.imul, 1) := dk_104 (dk_at dksX9_readsMan_8 22 rfl rfl)
theorem dX9_readsMan_211 : decode cX9_readsMan 211 = .ok (.iadd, 1) := dk_96 (dk_at dksX9_readsMan_8 23 rfl rfl)
theorem dX9_readsMan_212 : decode cX9_readsMan 212 = .ok (.iload 6, 2) := dk_21 6 (dk_at dksX9_readsMan_9 0 rfl rfl)
theorem dX9_readsMan_214 : decode cX9_readsMan 214 = .ok (.iadd, 1) := dk_96 (dk_at dksX9_readsMan_9 2 rfl rfl)
theorem dX9_readsMan_215 : decode cX9_readsMan 215 = .ok (.iload_n 1, 1) := dk_27 (dk_at dksX9_readsMan_9 3 rfl rfl)
theorem dX9_readsMan_216 : decode cX9_readsMan 216 = .ok (.iastore, 1) := dk_79 (dk_at dksX9_readsMan_9 4 rfl rfl)
theorem dX9_readsMan_217 : decode cX9_readsMan 217 = .ok (.iinc 6 1, 3) := dk_132 6 1 (dk_at dksX9_readsMan_9 5 rfl rfl)
theorem dX9_readsMan_220 : decode cX9_readsMan 220 = .ok (.goto (-42), 3) := dk_167 255 214 (dk_at dksX9_readsMan_9 8 rfl rfl)
theorem dX9_readsMan_223 : decode cX9_readsMan 223 = .ok (.iconst 1, 1) := dk_4 (dk_at dksX9_readsMan_9 11 rfl rfl)
theorem dX9_readsMan_224 : decode cX9_readsMan 224 = .ok (.ireturn, 1) := dk_172 (dk_at dksX9_readsMan_9 12 rfl rfl)
theorem dX9_readsMan_225 : decode cX9_readsMan 225 = .ok (.aload_n 0, 1) := dk_42 (dk_at dksX9_readsMan_9 13 rfl rfl)
theorem dX9_readsMan_226 : decode cX9_readsMan 226 = .ok (.dup, 1) := dk_89 (dk_at dksX9_readsMan_9 14 rfl rfl)
theorem dX9_readsMan_227 : decode cX9_readsMan 227 = .ok (.getfield 89, 3) := dk_180 0 89 (dk_at dksX9_readsMan_9 15 rfl rfl)
theorem dX9_readsMan_230 : decode cX9_readsMan 230 = .ok (.iconst 1, 1) := dk_4 (dk_at dksX9_readsMan_9 18 rfl rfl)
theorem dX9_readsMan_231 : decode cX9_readsMan 231 = .ok (.iadd, 1) := dk_96 (dk_at dksX9_readsMan_9 19 rfl rfl)
theorem dX9_readsMan_232 : decode cX9_readsMan 232 = .ok (.putfield 89, 3) := dk_181 0 89 (dk_at dksX9_readsMan_9 20 rfl rfl)
theorem dX9_readsMan_235 : decode cX9_readsMan 235 = .ok (.iconst 0, 1) := dk_3 (dk_at dksX9_readsMan_9 23 rfl rfl)
theorem dX9_readsMan_236 : decode cX9_readsMan 236 = .ok (.istore 6, 2) := dk_54 6 (dk_at dksX9_readsMan_10 0 rfl rfl)
theorem dX9_readsMan_238 : decode cX9_readsMan 238 = .ok (.iload 6, 2) := dk_21 6 (dk_at dksX9_readsMan_10 2 rfl rfl)
theorem dX9_readsMan_240 : decode cX9_readsMan 240 = .ok (.iconst 3, 1) := dk_6 (dk_at dksX9_readsMan_10 4 rfl rfl)
theorem dX9_readsMan_241 : decode cX9_readsMan 241 = .ok (.if_icmp .ge 69, 3) := dk_162 0 69 (dk_at dksX9_readsMan_10 5 rfl rfl)
theorem dX9_readsMan_244 : decode cX9_readsMan 244 = .ok (.aload_n 0, 1) := dk_42 (dk_at dksX9_readsMan_10 8 rfl rfl)
theorem dX9_readsMan_245 : decode cX9_readsMan 245 = .ok (.invokevirtual 95, 3) := dk_182 0 95 (dk_at dksX9_readsMan_10 9 rfl rfl)
theorem dX9_readsMan_248 : decode cX9_readsMan 248 = .ok (.istore 7, 2) := dk_54 7 (dk_at dksX9_readsMan_10 12 rfl rfl)
theorem dX9_readsMan_250 : decode cX9_readsMan 250 = .ok (.iload 7, 2) := dk_21 7 (dk_at dksX9_readsMan_10 14 rfl rfl)
theorem dX9_readsMan_252 : decode cX9_readsMan 252 = .ok (.invokestatic 101, 3) := dk_184 0 101 (dk_at dksX9_readsMan_10 16 rfl rfl)
theorem dX9_readsMan_255 : decode cX9_readsMan 255 = .ok (.ifCond .eq 18, 3) := dk_153 0 18 (dk_at dksX9_readsMan_10 19 rfl rfl)
theorem dX9_readsMan_258 : decode cX9_readsMan 258 = .ok (.aload_n 0, 1) := dk_42 (dk_at dksX9_readsMan_10 22 rfl rfl)
theorem dX9_readsMan_259 : decode cX9_readsMan 259 = .ok (.iload_n 1, 1) := dk_27 (dk_at dksX9_readsMan_10 23 rfl rfl)
theorem dX9_readsMan_260 : decode cX9_readsMan 260 = .ok (.iload 6, 2) := dk_21 6 (dk_at dksX9_readsMan_11 0 rfl rfl)
theorem dX9_readsMan_262 : decode cX9_readsMan 262 = .ok (.iload 7, 2) := dk_21 7 (dk_at dksX9_readsMan_11 2 rfl rfl)
theorem dX9_readsMan_264 : decode cX9_readsMan 264 = .ok (.bipush 48, 2) := dk_16 48 (dk_at dksX9_readsMan_11 4 rfl rfl)
theorem dX9_readsMan_266 : decode cX9_readsMan 266 = .ok (.isub, 1) := dk_100 (dk_at dksX9_readsMan_11 6 rfl rfl)
theorem dX9_readsMan_267 : decode cX9_readsMan 267 = .ok (.invokevirtual 104, 3) := dk_182 0 104 (dk_at dksX9_readsMan_11 7 rfl rfl)
theorem dX9_readsMan_270 : decode cX9_readsMan 270 = .ok (.ifCond .eq 5, 3) := dk_153 0 5 (dk_at dksX9_readsMan_11 10 rfl rfl)
theorem dX9_readsMan_273 : decode cX9_readsMan 273 = .ok (.iconst 0, 1) := dk_3 (dk_at dksX9_readsMan_11 13 rfl rfl)
theorem dX9_readsMan_274 : decode cX9_readsMan 274 = .ok (.ireturn, 1) := dk_172 (dk_at dksX9_readsMan_11 14 rfl rfl)
theorem dX9_readsMan_275 : decode cX9_readsMan 275 = .ok (.aload_n 0, 1) := dk_42 (dk_at dksX9_readsMan_11 15 rfl rfl)
theorem dX9_readsMan_276 : decode cX9_readsMan 276 = .ok (.getfield 19, 3) := dk_180 0 19 (dk_at dksX9_readsMan_11 16 rfl rfl)
theorem dX9_readsMan_279 : decode cX9_readsMan 279 = .ok (.bipush 22, 2) := dk_16 22 (dk_at dksX9_readsMan_11 19 rfl rfl)
theorem dX9_readsMan_281 : decode cX9_readsMan 281 = .ok (.iconst 3, 1) := dk_6 (dk_at dksX9_readsMan_11 21 rfl rfl)
theorem dX9_readsMan_282 : decode cX9_readsMan 282 = .ok (.iload_n 1, 1) := dk_27 (dk_at dksX9_readsMan_11 22 rfl rfl)
theorem dX9_readsMan_283 : decode cX9_readsMan 283 = .ok (.imul, 1) := dk_104 (dk_at dksX9_readsMan_11 23 rfl rfl)
theorem dX9_readsMan_284 : decode cX9_readsMan 284 = .ok (.iadd, 1) := dk_96 (dk_at dksX9_readsMan_12 0 rfl rfl)
theorem dX9_readsMan_285 : decode cX9_readsMan 285 = .ok (.iload 6, 2) := dk_21 6 (dk_at dksX9_readsMan_12 1 rfl rfl)
theorem dX9_readsMan_287 : decode cX9_readsMan 287 = .ok (.iadd, 1) := dk_96 (dk_at dksX9_readsMan_12 3 rfl rfl)
theorem dX9_readsMan_288 : decode cX9_readsMan 288 = .ok (.iload 7, 2) := dk_21 7 (dk_at dksX9_readsMan_12 4 rfl rfl)
theorem dX9_readsMan_290 : decode cX9_readsMan 290 = .ok (.bipush 48, 2) := dk_16 48 (dk_at dksX9_readsMan_12 6 rfl rfl)
theorem dX9_readsMan_292 : decode cX9_readsMan 292 = .ok (.isub, 1) := dk_100 (dk_at dksX9_readsMan_12 8 rfl rfl)
theorem dX9_readsMan_293 : decode cX9_readsMan 293 = .ok (.iastore, 1) := dk_79 (dk_at dksX9_readsMan_12 9 rfl rfl)
theorem dX9_readsMan_294 : decode cX9_readsMan 294 = .ok (.aload_n 0, 1) := dk_42 (dk_at dksX9_readsMan_12 10 rfl rfl)
theorem dX9_readsMan_295 : decode cX9_readsMan 295 = .ok (.dup, 1) := dk_89 (dk_at dksX9_readsMan_12 11 rfl rfl)
theorem dX9_readsMan_296 : decode cX9_readsMan 296 = .ok (.getfield 89, 3) := dk_180 0 89 (dk_at dksX9_readsMan_12 12 rfl rfl)
theorem dX9_readsMan_299 : decode cX9_readsMan 299 = .ok (.iconst 1, 1) := dk_4 (dk_at dksX9_readsMan_12 15 rfl rfl)
theorem dX9_readsMan_300 : decode cX9_readsMan 300 = .ok (.iadd, 1) := dk_96 (dk_at dksX9_readsMan_12 16 rfl rfl)
theorem dX9_readsMan_301 : decode cX9_readsMan 301 = .ok (.putfield 89, 3) := dk_181 0 89 (dk_at dksX9_readsMan_12 17 rfl rfl)
theorem dX9_readsMan_304 : decode cX9_readsMan 304 = .ok (.iinc 6 1, 3) := dk_132 6 1 (dk_at dksX9_readsMan_12 20 rfl rfl)
theorem dX9_readsMan_307 : decode cX9_readsMan 307 = .ok (.goto (-69), 3) := dk_167 255 187 (dk_at dksX9_readsMan_13 0 rfl rfl)
theorem dX9_readsMan_310 : decode cX9_readsMan 310 = .ok (.iconst 1, 1) := dk_4 (dk_at dksX9_readsMan_13 3 rfl rfl)
theorem dX9_readsMan_311 : decode cX9_readsMan 311 = .ok (.ireturn, 1) := dk_172 (dk_at dksX9_readsMan_13 4 rfl rfl)
abbrev cX9_skips : ByteArray := prog_11_method_23_code
def yX9_skips : MethodName := ⟨RX9, "skips", "()I"⟩
def dkwX9_skips_1 : List UInt8 := [167, 255, 233, 42, 42, 180, 0, 89, 182, 0, 92, 172]
abbrev dktX9_skips_1 : List UInt8 := dkwX9_skips_1 ++ []
def dkwX9_skips_0 : List UInt8 := [42, 42, 180, 0, 89, 182, 0, 92, 16, 32, 160, 0, 16, 42, 89, 180, 0, 89, 4, 96, 181, 0, 89]
abbrev dktX9_skips_0 : List UInt8 := dkwX9_skips_0 ++ dktX9_skips_1
theorem dksX9_skips_0 : cX9_skips.data.toList.drop 0 = dktX9_skips_0 := by decide +kernel
theorem dksX9_skips_1 : cX9_skips.data.toList.drop 23 = dktX9_skips_1 := dk_seg dksX9_skips_0 23 rfl rfl
theorem dX9_skips_0 : decode cX9_skips 0 = .ok (.aload_n 0, 1) := dk_42 (dk_at dksX9_skips_0 0 rfl rfl)
theorem dX9_skips_1 : decode cX9_skips 1 = .ok (.aload_n 0, 1) := dk_42 (dk_at dksX9_skips_0 1 rfl rfl)
theorem dX9_skips_2 : decode cX9_skips 2 = .ok (.getfield 89, 3) := dk_180 0 89 (dk_at dksX9_skips_0 2 rfl rfl)
theorem dX9_skips_5 : decode cX9_skips 5 = .ok (.invokevirtual 92, 3) := dk_182 0 92 (dk_at dksX9_skips_0 5 rfl rfl)
theorem dX9_skips_8 : decode cX9_skips 8 = .ok (.bipush 32, 2) := dk_16 32 (dk_at dksX9_skips_0 8 rfl rfl)
theorem dX9_skips_10 : decode cX9_skips 10 = .ok (.if_icmp .ne 16, 3) := dk_160 0 16 (dk_at dksX9_skips_0 10 rfl rfl)
theorem dX9_skips_13 : decode cX9_skips 13 = .ok (.aload_n 0, 1) := dk_42 (dk_at dksX9_skips_0 13 rfl rfl)
theorem dX9_skips_14 : decode cX9_skips 14 = .ok (.dup, 1) := dk_89 (dk_at dksX9_skips_0 14 rfl rfl)
theorem dX9_skips_15 : decode cX9_skips 15 = .ok (.getfield 89, 3) := dk_180 0 89 (dk_at dksX9_skips_0 15 rfl rfl)
theorem dX9_skips_18 : decode cX9_skips 18 = .ok (.iconst 1, 1) := dk_4 (dk_at dksX9_skips_0 18 rfl rfl)
theorem dX9_skips_19 : decode cX9_skips 19 = .ok (.iadd, 1) := dk_96 (dk_at dksX9_skips_0 19 rfl rfl)
theorem dX9_skips_20 : decode cX9_skips 20 = .ok (.putfield 89, 3) := dk_181 0 89 (dk_at dksX9_skips_0 20 rfl rfl)
theorem dX9_skips_23 : decode cX9_skips 23 = .ok (.goto (-23), 3) := dk_167 255 233 (dk_at dksX9_skips_1 0 rfl rfl)
theorem dX9_skips_26 : decode cX9_skips 26 = .ok (.aload_n 0, 1) := dk_42 (dk_at dksX9_skips_1 3 rfl rfl)
theorem dX9_skips_27 : decode cX9_skips 27 = .ok (.aload_n 0, 1) := dk_42 (dk_at dksX9_skips_1 4 rfl rfl)
theorem dX9_skips_28 : decode cX9_skips 28 = .ok (.getfield 89, 3) := dk_180 0 89 (dk_at dksX9_skips_1 5 rfl rfl)
theorem dX9_skips_31 : decode cX9_skips 31 = .ok (.invokevirtual 92, 3) := dk_182 0 92 (dk_at dksX9_skips_1 8 rfl rfl)
theorem dX9_skips_34 : decode cX9_skips 34 = .ok (.ireturn, 1) := dk_172 (dk_at dksX9_skips_1 11 rfl rfl)
abbrev cX9_letterAt : ByteArray := prog_11_method_21_code
def yX9_letterAt : MethodName := ⟨RX9, "letterAt", "(I)I"⟩
def dkwX9_letterAt_0 : List UInt8 := [27, 42, 180, 0, 85, 162, 0, 12, 42, 180, 0, 16, 27, 46, 167, 0, 4, 2, 172]
abbrev dktX9_letterAt_0 : List UInt8 := dkwX9_letterAt_0 ++ []
theorem dksX9_letterAt_0 : cX9_letterAt.data.toList.drop 0 = dktX9_letterAt_0 := by decide +kernel
theorem dX9_letterAt_0 : decode cX9_letterAt 0 = .ok (.iload_n 1, 1) := dk_27 (dk_at dksX9_letterAt_0 0 rfl rfl)
theorem dX9_letterAt_1 : decode cX9_letterAt 1 = .ok (.aload_n 0, 1) := dk_42 (dk_at dksX9_letterAt_0 1 rfl rfl)
theorem dX9_letterAt_2 : decode cX9_letterAt 2 = .ok (.getfield 85, 3) := dk_180 0 85 (dk_at dksX9_letterAt_0 2 rfl rfl)
theorem dX9_letterAt_5 : decode cX9_letterAt 5 = .ok (.if_icmp .ge 12, 3) := dk_162 0 12 (dk_at dksX9_letterAt_0 5 rfl rfl)
theorem dX9_letterAt_8 : decode cX9_letterAt 8 = .ok (.aload_n 0, 1) := dk_42 (dk_at dksX9_letterAt_0 8 rfl rfl)
theorem dX9_letterAt_9 : decode cX9_letterAt 9 = .ok (.getfield 16, 3) := dk_180 0 16 (dk_at dksX9_letterAt_0 9 rfl rfl)
theorem dX9_letterAt_12 : decode cX9_letterAt 12 = .ok (.iload_n 1, 1) := dk_27 (dk_at dksX9_letterAt_0 12 rfl rfl)
theorem dX9_letterAt_13 : decode cX9_letterAt 13 = .ok (.iaload, 1) := dk_46 (dk_at dksX9_letterAt_0 13 rfl rfl)
theorem dX9_letterAt_14 : decode cX9_letterAt 14 = .ok (.goto 4, 3) := dk_167 0 4 (dk_at dksX9_letterAt_0 14 rfl rfl)
theorem dX9_letterAt_17 : decode cX9_letterAt 17 = .ok (.iconst (-1), 1) := dk_2 (dk_at dksX9_letterAt_0 17 rfl rfl)
theorem dX9_letterAt_18 : decode cX9_letterAt 18 = .ok (.ireturn, 1) := dk_172 (dk_at dksX9_letterAt_0 18 rfl rfl)
abbrev cX9_kindBy : ByteArray := prog_11_method_24_code
def yX9_kindBy : MethodName := ⟨RX9, "kindBy", "(I)I"⟩
def dkwX9_kindBy_2 : List UInt8 := [167, 0, 5, 16, 252, 172]
abbrev dktX9_kindBy_2 : List UInt8 := dkwX9_kindBy_2 ++ []
def dkwX9_kindBy_1 : List UInt8 := [160, 0, 7, 5, 167, 0, 25, 26, 16, 100, 160, 0, 7, 6, 167, 0, 15, 26, 16, 114, 160, 0, 7, 7]
abbrev dktX9_kindBy_1 : List UInt8 := dkwX9_kindBy_1 ++ dktX9_kindBy_2
def dkwX9_kindBy_0 : List UInt8 := [26, 16, 112, 160, 0, 7, 3, 167, 0, 45, 26, 16, 104, 160, 0, 7, 4, 167, 0, 35, 26, 16, 117]
abbrev dktX9_kindBy_0 : List UInt8 := dkwX9_kindBy_0 ++ dktX9_kindBy_1
theorem dksX9_kindBy_0 : cX9_kindBy.data.toList.drop 0 = dktX9_kindBy_0 := by decide +kernel
theorem dksX9_kindBy_1 : cX9_kindBy.data.toList.drop 23 = dktX9_kindBy_1 := dk_seg dksX9_kindBy_0 23 rfl rfl
theorem dksX9_kindBy_2 : cX9_kindBy.data.toList.drop 47 = dktX9_kindBy_2 := dk_seg dksX9_kindBy_1 24 rfl rfl
theorem dX9_kindBy_0 : decode cX9_kindBy 0 = .ok (.iload_n 0, 1) := dk_26 (dk_at dksX9_kindBy_0 0 rfl rfl)
theorem dX9_kindBy_1 : decode cX9_kindBy 1 = .ok (.bipush 112, 2) := dk_16 112 (dk_at dksX9_kindBy_0 1 rfl rfl)
theorem dX9_kindBy_3 : decode cX9_kindBy 3 = .ok (.if_icmp .ne 7, 3) := dk_160 0 7 (dk_at dksX9_kindBy_0 3 rfl rfl)
theorem dX9_kindBy_6 : decode cX9_kindBy 6 = .ok (.iconst 0, 1) := dk_3 (dk_at dksX9_kindBy_0 6 rfl rfl)
theorem dX9_kindBy_7 : decode cX9_kindBy 7 = .ok (.goto 45, 3) := dk_167 0 45 (dk_at dksX9_kindBy_0 7 rfl rfl)
theorem dX9_kindBy_10 : decode cX9_kindBy 10 = .ok (.iload_n 0, 1) := dk_26 (dk_at dksX9_kindBy_0 10 rfl rfl)
theorem dX9_kindBy_11 : decode cX9_kindBy 11 = .ok (.bipush 104, 2) := dk_16 104 (dk_at dksX9_kindBy_0 11 rfl rfl)
theorem dX9_kindBy_13 : decode cX9_kindBy 13 = .ok (.if_icmp .ne 7, 3) := dk_160 0 7 (dk_at dksX9_kindBy_0 13 rfl rfl)
theorem dX9_kindBy_16 : decode cX9_kindBy 16 = .ok (.iconst 1, 1) := dk_4 (dk_at dksX9_kindBy_0 16 rfl rfl)
theorem dX9_kindBy_17 : decode cX9_kindBy 17 = .ok (.goto 35, 3) := dk_167 0 35 (dk_at dksX9_kindBy_0 17 rfl rfl)
theorem dX9_kindBy_20 : decode cX9_kindBy 20 = .ok (.iload_n 0, 1) := dk_26 (dk_at dksX9_kindBy_0 20 rfl rfl)
theorem dX9_kindBy_21 : decode cX9_kindBy 21 = .ok (.bipush 117, 2) := dk_16 117 (dk_at dksX9_kindBy_0 21 rfl rfl)
theorem dX9_kindBy_23 : decode cX9_kindBy 23 = .ok (.if_icmp .ne 7, 3) := dk_160 0 7 (dk_at dksX9_kindBy_1 0 rfl rfl)
theorem dX9_kindBy_26 : decode cX9_kindBy 26 = .ok (.iconst 2, 1) := dk_5 (dk_at dksX9_kindBy_1 3 rfl rfl)
theorem dX9_kindBy_27 : decode cX9_kindBy 27 = .ok (.goto 25, 3) := dk_167 0 25 (dk_at dksX9_kindBy_1 4 rfl rfl)
theorem dX9_kindBy_30 : decode cX9_kindBy 30 = .ok (.iload_n 0, 1) := dk_26 (dk_at dksX9_kindBy_1 7 rfl rfl)
theorem dX9_kindBy_31 : decode cX9_kindBy 31 = .ok (.bipush 100, 2) := dk_16 100 (dk_at dksX9_kindBy_1 8 rfl rfl)
theorem dX9_kindBy_33 : decode cX9_kindBy 33 = .ok (.if_icmp .ne 7, 3) := dk_160 0 7 (dk_at dksX9_kindBy_1 10 rfl rfl)
theorem dX9_kindBy_36 : decode cX9_kindBy 36 = .ok (.iconst 3, 1) := dk_6 (dk_at dksX9_kindBy_1 13 rfl rfl)
theorem dX9_kindBy_37 : decode cX9_kindBy 37 = .ok (.goto 15, 3) := dk_167 0 15 (dk_at dksX9_kindBy_1 14 rfl rfl)
theorem dX9_kindBy_40 : decode cX9_kindBy 40 = .ok (.iload_n 0, 1) := dk_26 (dk_at dksX9_kindBy_1 17 rfl rfl)
theorem dX9_kindBy_41 : decode cX9_kindBy 41 = .ok (.bipush 114, 2) := dk_16 114 (dk_at dksX9_kindBy_1 18 rfl rfl)
theorem dX9_kindBy_43 : decode cX9_kindBy 43 = .ok (.if_icmp .ne 7, 3) := dk_160 0 7 (dk_at dksX9_kindBy_1 20 rfl rfl)
theorem dX9_kindBy_46 : decode cX9_kindBy 46 = .ok (.iconst 4, 1) := dk_7 (dk_at dksX9_kindBy_1 23 rfl rfl)
theorem dX9_kindBy_47 : decode cX9_kindBy 47 = .ok (.goto 5, 3) := dk_167 0 5 (dk_at dksX9_kindBy_2 0 rfl rfl)
theorem dX9_kindBy_50 : decode cX9_kindBy 50 = .ok (.bipush (-4), 2) := dk_16 252 (dk_at dksX9_kindBy_2 3 rfl rfl)
theorem dX9_kindBy_52 : decode cX9_kindBy 52 = .ok (.ireturn, 1) := dk_172 (dk_at dksX9_kindBy_2 5 rfl rfl)
abbrev cX9_isDigit : ByteArray := prog_11_method_22_code
def yX9_isDigit : MethodName := ⟨RX9, "isDigit", "(I)Z"⟩
def dkwX9_isDigit_0 : List UInt8 := [26, 16, 48, 16, 57, 184, 0, 44, 172]
abbrev dktX9_isDigit_0 : List UInt8 := dkwX9_isDigit_0 ++ []
theorem dksX9_isDigit_0 : cX9_isDigit.data.toList.drop 0 = dktX9_isDigit_0 := by decide +kernel
theorem dX9_isDigit_0 : decode cX9_isDigit 0 = .ok (.iload_n 0, 1) := dk_26 (dk_at dksX9_isDigit_0 0 rfl rfl)
theorem dX9_isDigit_1 : decode cX9_isDigit 1 = .ok (.bipush 48, 2) := dk_16 48 (dk_at dksX9_isDigit_0 1 rfl rfl)
theorem dX9_isDigit_3 : decode cX9_isDigit 3 = .ok (.bipush 57, 2) := dk_16 57 (dk_at dksX9_isDigit_0 3 rfl rfl)
theorem dX9_isDigit_5 : decode cX9_isDigit 5 = .ok (.invokestatic 44, 3) := dk_184 0 44 (dk_at dksX9_isDigit_0 5 rfl rfl)
theorem dX9_isDigit_8 : decode cX9_isDigit 8 = .ok (.ireturn, 1) := dk_172 (dk_at dksX9_isDigit_0 8 rfl rfl)
abbrev cX9_isTold : ByteArray := prog_11_method_25_code
def yX9_isTold : MethodName := ⟨RX9, "isTold", "(III)Z"⟩
def dkwX9_isTold_2 : List UInt8 := [21, 4, 172]
abbrev dktX9_isTold_2 : List UInt8 := dkwX9_isTold_2 ++ []
def dkwX9_isTold_1 : List UInt8 := [21, 5, 104, 96, 28, 96, 46, 29, 160, 0, 7, 4, 167, 0, 4, 3, 54, 4, 132, 5, 1, 167, 255, 217]
abbrev dktX9_isTold_1 : List UInt8 := dkwX9_isTold_1 ++ dktX9_isTold_2
def dkwX9_isTold_0 : List UInt8 := [3, 54, 4, 3, 54, 5, 21, 5, 27, 162, 0, 39, 21, 4, 154, 0, 21, 42, 180, 0, 19, 16, 22, 6]
abbrev dktX9_isTold_0 : List UInt8 := dkwX9_isTold_0 ++ dktX9_isTold_1
theorem dksX9_isTold_0 : cX9_isTold.data.toList.drop 0 = dktX9_isTold_0 := by decide +kernel
theorem dksX9_isTold_1 : cX9_isTold.data.toList.drop 24 = dktX9_isTold_1 := dk_seg dksX9_isTold_0 24 rfl rfl
theorem dksX9_isTold_2 : cX9_isTold.data.toList.drop 48 = dktX9_isTold_2 := dk_seg dksX9_isTold_1 24 rfl rfl
theorem dX9_isTold_0 : decode cX9_isTold 0 = .ok (.iconst 0, 1) := dk_3 (dk_at dksX9_isTold_0 0 rfl rfl)
theorem dX9_isTold_1 : decode cX9_isTold 1 = .ok (.istore 4, 2) := dk_54 4 (dk_at dksX9_isTold_0 1 rfl rfl)
theorem dX9_isTold_3 : decode cX9_isTold 3 = .ok (.iconst 0, 1) := dk_3 (dk_at dksX9_isTold_0 3 rfl rfl)
theorem dX9_isTold_4 : decode cX9_isTold 4 = .ok (.istore 5, 2) := dk_54 5 (dk_at dksX9_isTold_0 4 rfl rfl)
theorem dX9_isTold_6 : decode cX9_isTold 6 = .ok (.iload 5, 2) := dk_21 5 (dk_at dksX9_isTold_0 6 rfl rfl)
theorem dX9_isTold_8 : decode cX9_isTold 8 = .ok (.iload_n 1, 1) := dk_27 (dk_at dksX9_isTold_0 8 rfl rfl)
theorem dX9_isTold_9 : decode cX9_isTold 9 = .ok (.if_icmp .ge 39, 3) := dk_162 0 39 (dk_at dksX9_isTold_0 9 rfl rfl)
theorem dX9_isTold_12 : decode cX9_isTold 12 = .ok (.iload 4, 2) := dk_21 4 (dk_at dksX9_isTold_0 12 rfl rfl)
theorem dX9_isTold_14 : decode cX9_isTold 14 = .ok (.ifCond .ne 21, 3) := dk_154 0 21 (dk_at dksX9_isTold_0 14 rfl rfl)
theorem dX9_isTold_17 : decode cX9_isTold 17 = .ok (.aload_n 0, 1) := dk_42 (dk_at dksX9_isTold_0 17 rfl rfl)
theorem dX9_isTold_18 : decode cX9_isTold 18 = .ok (.getfield 19, 3) := dk_180 0 19 (dk_at dksX9_isTold_0 18 rfl rfl)
theorem dX9_isTold_21 : decode cX9_isTold 21 = .ok (.bipush 22, 2) := dk_16 22 (dk_at dksX9_isTold_0 21 rfl rfl)
theorem dX9_isTold_23 : decode cX9_isTold 23 = .ok (.iconst 3, 1) := dk_6 (dk_at dksX9_isTold_0 23 rfl rfl)
theorem dX9_isTold_24 : decode cX9_isTold 24 = .ok (.iload 5, 2) := dk_21 5 (dk_at dksX9_isTold_1 0 rfl rfl)
theorem dX9_isTold_26 : decode cX9_isTold 26 = .ok (.imul, 1) := dk_104 (dk_at dksX9_isTold_1 2 rfl rfl)
theorem dX9_isTold_27 : decode cX9_isTold 27 = .ok (.iadd, 1) := dk_96 (dk_at dksX9_isTold_1 3 rfl rfl)
theorem dX9_isTold_28 : decode cX9_isTold 28 = .ok (.iload_n 2, 1) := dk_28 (dk_at dksX9_isTold_1 4 rfl rfl)
theorem dX9_isTold_29 : decode cX9_isTold 29 = .ok (.iadd, 1) := dk_96 (dk_at dksX9_isTold_1 5 rfl rfl)
theorem dX9_isTold_30 : decode cX9_isTold 30 = .ok (.iaload, 1) := dk_46 (dk_at dksX9_isTold_1 6 rfl rfl)
theorem dX9_isTold_31 : decode cX9_isTold 31 = .ok (.iload_n 3, 1) := dk_29 (dk_at dksX9_isTold_1 7 rfl rfl)
theorem dX9_isTold_32 : decode cX9_isTold 32 = .ok (.if_icmp .ne 7, 3) := dk_160 0 7 (dk_at dksX9_isTold_1 8 rfl rfl)
theorem dX9_isTold_35 : decode cX9_isTold 35 = .ok (.iconst 1, 1) := dk_4 (dk_at dksX9_isTold_1 11 rfl rfl)
theorem dX9_isTold_36 : decode cX9_isTold 36 = .ok (.goto 4, 3) := dk_167 0 4 (dk_at dksX9_isTold_1 12 rfl rfl)
theorem dX9_isTold_39 : decode cX9_isTold 39 = .ok (.iconst 0, 1) := dk_3 (dk_at dksX9_isTold_1 15 rfl rfl)
theorem dX9_isTold_40 : decode cX9_isTold 40 = .ok (.istore 4, 2) := dk_54 4 (dk_at dksX9_isTold_1 16 rfl rfl)
theorem dX9_isTold_42 : decode cX9_isTold 42 = .ok (.iinc 5 1, 3) := dk_132 5 1 (dk_at dksX9_isTold_1 18 rfl rfl)
theorem dX9_isTold_45 : decode cX9_isTold 45 = .ok (.goto (-39), 3) := dk_167 255 217 (dk_at dksX9_isTold_1 21 rfl rfl)
theorem dX9_isTold_48 : decode cX9_isTold 48 = .ok (.iload 4, 2) := dk_21 4 (dk_at dksX9_isTold_2 0 rfl rfl)
theorem dX9_isTold_50 : decode cX9_isTold 50 = .ok (.ireturn, 1) := dk_172 (dk_at dksX9_isTold_2 2 rfl rfl)
abbrev cX9_count : ByteArray := prog_11_method_31_code
def yX9_count : MethodName := ⟨RX9, "count", "(I)I"⟩
def dkwX9_count_3 : List UInt8 := [182, 0, 75, 172, 42, 182, 0, 113, 172, 42, 182, 0, 116, 172, 42, 180, 0, 7, 16, 40, 46, 172, 2, 172]
abbrev dktX9_count_3 : List UInt8 := dkwX9_count_3 ++ []
def dkwX9_count_2 : List UInt8 := [42, 180, 0, 7, 3, 46, 172, 42, 180, 0, 7, 4, 46, 172, 42, 180, 0, 7, 5, 46, 172, 42]
abbrev dktX9_count_2 : List UInt8 := dkwX9_count_2 ++ dktX9_count_3
def dkwX9_count_1 : List UInt8 := [170, 0, 0, 0, 0, 0, 87, 0, 0, 0, 0, 0, 0, 0, 6, 0, 0, 0, 43, 0, 0, 0, 50, 0, 0, 0, 57, 0, 0, 0, 64, 0, 0, 0, 69, 0, 0, 0, 74, 0, 0, 0, 79]
abbrev dktX9_count_1 : List UInt8 := dkwX9_count_1 ++ dktX9_count_2
def dkwX9_count_0 : List UInt8 := [27]
abbrev dktX9_count_0 : List UInt8 := dkwX9_count_0 ++ dktX9_count_1
theorem dksX9_count_0 : cX9_count.data.toList.drop 0 = dktX9_count_0 := by decide +kernel
theorem dksX9_count_1 : cX9_count.data.toList.drop 1 = dktX9_count_1 := dk_seg dksX9_count_0 1 rfl rfl
theorem dksX9_count_2 : cX9_count.data.toList.drop 44 = dktX9_count_2 := dk_seg dksX9_count_1 43 rfl rfl
theorem dksX9_count_3 : cX9_count.data.toList.drop 66 = dktX9_count_3 := dk_seg dksX9_count_2 22 rfl rfl
theorem dX9_count_0 : decode cX9_count 0 = .ok (.iload_n 1, 1) := dk_27 (dk_at dksX9_count_0 0 rfl rfl)
theorem dX9_count_1 : decode cX9_count 1 = .ok (.tableswitch 87 0 6 #[43, 50, 57, 64, 69, 74, 79], 43) := by decide +kernel
theorem dX9_count_44 : decode cX9_count 44 = .ok (.aload_n 0, 1) := dk_42 (dk_at dksX9_count_2 0 rfl rfl)
theorem dX9_count_45 : decode cX9_count 45 = .ok (.getfield 7, 3) := dk_180 0 7 (dk_at dksX9_count_2 1 rfl rfl)
theorem dX9_count_48 : decode cX9_count 48 = .ok (.iconst 0, 1) := dk_3 (dk_at dksX9_count_2 4 rfl rfl)
theorem dX9_count_49 : decode cX9_count 49 = .ok (.iaload, 1) := dk_46 (dk_at dksX9_count_2 5 rfl rfl)
theorem dX9_count_50 : decode cX9_count 50 = .ok (.ireturn, 1) := dk_172 (dk_at dksX9_count_2 6 rfl rfl)
theorem dX9_count_51 : decode cX9_count 51 = .ok (.aload_n 0, 1) := dk_42 (dk_at dksX9_count_2 7 rfl rfl)
theorem dX9_count_52 : decode cX9_count 52 = .ok (.getfield 7, 3) := dk_180 0 7 (dk_at dksX9_count_2 8 rfl rfl)
theorem dX9_count_55 : decode cX9_count 55 = .ok (.iconst 1, 1) := dk_4 (dk_at dksX9_count_2 11 rfl rfl)
theorem dX9_count_56 : decode cX9_count 56 = .ok (.iaload, 1) := dk_46 (dk_at dksX9_count_2 12 rfl rfl)
theorem dX9_count_57 : decode cX9_count 57 = .ok (.ireturn, 1) := dk_172 (dk_at dksX9_count_2 13 rfl rfl)
theorem dX9_count_58 : decode cX9_count 58 = .ok (.aload_n 0, 1) := dk_42 (dk_at dksX9_count_2 14 rfl rfl)
theorem dX9_count_59 : decode cX9_count 59 = .ok (.getfield 7, 3) := dk_180 0 7 (dk_at dksX9_count_2 15 rfl rfl)
theorem dX9_count_62 : decode cX9_count 62 = .ok (.iconst 2, 1) := dk_5 (dk_at dksX9_count_2 18 rfl rfl)
theorem dX9_count_63 : decode cX9_count 63 = .ok (.iaload, 1) := dk_46 (dk_at dksX9_count_2 19 rfl rfl)
theorem dX9_count_64 : decode cX9_count 64 = .ok (.ireturn, 1) := dk_172 (dk_at dksX9_count_2 20 rfl rfl)
theorem dX9_count_65 : decode cX9_count 65 = .ok (.aload_n 0, 1) := dk_42 (dk_at dksX9_count_2 21 rfl rfl)
theorem dX9_count_66 : decode cX9_count 66 = .ok (.invokevirtual 75, 3) := dk_182 0 75 (dk_at dksX9_count_3 0 rfl rfl)
theorem dX9_count_69 : decode cX9_count 69 = .ok (.ireturn, 1) := dk_172 (dk_at dksX9_count_3 3 rfl rfl)
theorem dX9_count_70 : decode cX9_count 70 = .ok (.aload_n 0, 1) := dk_42 (dk_at dksX9_count_3 4 rfl rfl)
theorem dX9_count_71 : decode cX9_count 71 = .ok (.invokevirtual 113, 3) := dk_182 0 113 (dk_at dksX9_count_3 5 rfl rfl)
theorem dX9_count_74 : decode cX9_count 74 = .ok (.ireturn, 1) := dk_172 (dk_at dksX9_count_3 8 rfl rfl)
theorem dX9_count_75 : decode cX9_count 75 = .ok (.aload_n 0, 1) := dk_42 (dk_at dksX9_count_3 9 rfl rfl)
theorem dX9_count_76 : decode cX9_count 76 = .ok (.invokevirtual 116, 3) := dk_182 0 116 (dk_at dksX9_count_3 10 rfl rfl)
theorem dX9_count_79 : decode cX9_count 79 = .ok (.ireturn, 1) := dk_172 (dk_at dksX9_count_3 13 rfl rfl)
theorem dX9_count_80 : decode cX9_count 80 = .ok (.aload_n 0, 1) := dk_42 (dk_at dksX9_count_3 14 rfl rfl)
theorem dX9_count_81 : decode cX9_count 81 = .ok (.getfield 7, 3) := dk_180 0 7 (dk_at dksX9_count_3 15 rfl rfl)
theorem dX9_count_84 : decode cX9_count 84 = .ok (.bipush 40, 2) := dk_16 40 (dk_at dksX9_count_3 18 rfl rfl)
theorem dX9_count_86 : decode cX9_count 86 = .ok (.iaload, 1) := dk_46 (dk_at dksX9_count_3 20 rfl rfl)
theorem dX9_count_87 : decode cX9_count 87 = .ok (.ireturn, 1) := dk_172 (dk_at dksX9_count_3 21 rfl rfl)
theorem dX9_count_88 : decode cX9_count 88 = .ok (.iconst (-1), 1) := dk_2 (dk_at dksX9_count_3 22 rfl rfl)
theorem dX9_count_89 : decode cX9_count 89 = .ok (.ireturn, 1) := dk_172 (dk_at dksX9_count_3 23 rfl rfl)
abbrev cX9_bench : ByteArray := prog_11_method_8_code
def yX9_bench : MethodName := ⟨RX9, "bench", "()I"⟩
def dkwX9_bench_1 : List UInt8 := [46, 120, 128, 60, 132, 2, 1, 167, 255, 229, 27, 172]
abbrev dktX9_bench_1 : List UInt8 := dkwX9_bench_1 ++ []
def dkwX9_bench_0 : List UInt8 := [3, 60, 3, 61, 28, 42, 180, 0, 7, 4, 46, 162, 0, 23, 27, 4, 42, 180, 0, 7, 16, 10, 28, 96]
abbrev dktX9_bench_0 : List UInt8 := dkwX9_bench_0 ++ dktX9_bench_1
theorem dksX9_bench_0 : cX9_bench.data.toList.drop 0 = dktX9_bench_0 := by decide +kernel
theorem dksX9_bench_1 : cX9_bench.data.toList.drop 24 = dktX9_bench_1 := dk_seg dksX9_bench_0 24 rfl rfl
theorem dX9_bench_0 : decode cX9_bench 0 = .ok (.iconst 0, 1) := dk_3 (dk_at dksX9_bench_0 0 rfl rfl)
theorem dX9_bench_1 : decode cX9_bench 1 = .ok (.istore_n 1, 1) := dk_60 (dk_at dksX9_bench_0 1 rfl rfl)
theorem dX9_bench_2 : decode cX9_bench 2 = .ok (.iconst 0, 1) := dk_3 (dk_at dksX9_bench_0 2 rfl rfl)
theorem dX9_bench_3 : decode cX9_bench 3 = .ok (.istore_n 2, 1) := dk_61 (dk_at dksX9_bench_0 3 rfl rfl)
theorem dX9_bench_4 : decode cX9_bench 4 = .ok (.iload_n 2, 1) := dk_28 (dk_at dksX9_bench_0 4 rfl rfl)
theorem dX9_bench_5 : decode cX9_bench 5 = .ok (.aload_n 0, 1) := dk_42 (dk_at dksX9_bench_0 5 rfl rfl)
theorem dX9_bench_6 : decode cX9_bench 6 = .ok (.getfield 7, 3) := dk_180 0 7 (dk_at dksX9_bench_0 6 rfl rfl)
theorem dX9_bench_9 : decode cX9_bench 9 = .ok (.iconst 1, 1) := dk_4 (dk_at dksX9_bench_0 9 rfl rfl)
theorem dX9_bench_10 : decode cX9_bench 10 = .ok (.iaload, 1) := dk_46 (dk_at dksX9_bench_0 10 rfl rfl)
theorem dX9_bench_11 : decode cX9_bench 11 = .ok (.if_icmp .ge 23, 3) := dk_162 0 23 (dk_at dksX9_bench_0 11 rfl rfl)
theorem dX9_bench_14 : decode cX9_bench 14 = .ok (.iload_n 1, 1) := dk_27 (dk_at dksX9_bench_0 14 rfl rfl)
theorem dX9_bench_15 : decode cX9_bench 15 = .ok (.iconst 1, 1) := dk_4 (dk_at dksX9_bench_0 15 rfl rfl)
theorem dX9_bench_16 : decode cX9_bench 16 = .ok (.aload_n 0, 1) := dk_42 (dk_at dksX9_bench_0 16 rfl rfl)
theorem dX9_bench_17 : decode cX9_bench 17 = .ok (.getfield 7, 3) := dk_180 0 7 (dk_at dksX9_bench_0 17 rfl rfl)
theorem dX9_bench_20 : decode cX9_bench 20 = .ok (.bipush 10, 2) := dk_16 10 (dk_at dksX9_bench_0 20 rfl rfl)
theorem dX9_bench_22 : decode cX9_bench 22 = .ok (.iload_n 2, 1) := dk_28 (dk_at dksX9_bench_0 22 rfl rfl)
theorem dX9_bench_23 : decode cX9_bench 23 = .ok (.iadd, 1) := dk_96 (dk_at dksX9_bench_0 23 rfl rfl)
theorem dX9_bench_24 : decode cX9_bench 24 = .ok (.iaload, 1) := dk_46 (dk_at dksX9_bench_1 0 rfl rfl)
theorem dX9_bench_25 : decode cX9_bench 25 = .ok (.ishl, 1) := dk_120 (dk_at dksX9_bench_1 1 rfl rfl)
theorem dX9_bench_26 : decode cX9_bench 26 = .ok (.ior, 1) := dk_128 (dk_at dksX9_bench_1 2 rfl rfl)
theorem dX9_bench_27 : decode cX9_bench 27 = .ok (.istore_n 1, 1) := dk_60 (dk_at dksX9_bench_1 3 rfl rfl)
theorem dX9_bench_28 : decode cX9_bench 28 = .ok (.iinc 2 1, 3) := dk_132 2 1 (dk_at dksX9_bench_1 4 rfl rfl)
theorem dX9_bench_31 : decode cX9_bench 31 = .ok (.goto (-27), 3) := dk_167 255 229 (dk_at dksX9_bench_1 7 rfl rfl)
theorem dX9_bench_34 : decode cX9_bench 34 = .ok (.iload_n 1, 1) := dk_27 (dk_at dksX9_bench_1 10 rfl rfl)
theorem dX9_bench_35 : decode cX9_bench 35 = .ok (.ireturn, 1) := dk_172 (dk_at dksX9_bench_1 11 rfl rfl)
abbrev cX9_lives : ByteArray := prog_11_method_29_code
def yX9_lives : MethodName := ⟨RX9, "lives", "()I"⟩
def dkwX9_lives_1 : List UInt8 := [60, 132, 2, 1, 167, 255, 232, 27, 172]
abbrev dktX9_lives_1 : List UInt8 := dkwX9_lives_1 ++ []
def dkwX9_lives_0 : List UInt8 := [3, 60, 3, 61, 28, 42, 180, 0, 7, 3, 46, 162, 0, 20, 27, 42, 180, 0, 7, 7, 28, 96, 46, 96]
abbrev dktX9_lives_0 : List UInt8 := dkwX9_lives_0 ++ dktX9_lives_1
theorem dksX9_lives_0 : cX9_lives.data.toList.drop 0 = dktX9_lives_0 := by decide +kernel
theorem dksX9_lives_1 : cX9_lives.data.toList.drop 24 = dktX9_lives_1 := dk_seg dksX9_lives_0 24 rfl rfl
theorem dX9_lives_0 : decode cX9_lives 0 = .ok (.iconst 0, 1) := dk_3 (dk_at dksX9_lives_0 0 rfl rfl)
theorem dX9_lives_1 : decode cX9_lives 1 = .ok (.istore_n 1, 1) := dk_60 (dk_at dksX9_lives_0 1 rfl rfl)
theorem dX9_lives_2 : decode cX9_lives 2 = .ok (.iconst 0, 1) := dk_3 (dk_at dksX9_lives_0 2 rfl rfl)
theorem dX9_lives_3 : decode cX9_lives 3 = .ok (.istore_n 2, 1) := dk_61 (dk_at dksX9_lives_0 3 rfl rfl)
theorem dX9_lives_4 : decode cX9_lives 4 = .ok (.iload_n 2, 1) := dk_28 (dk_at dksX9_lives_0 4 rfl rfl)
theorem dX9_lives_5 : decode cX9_lives 5 = .ok (.aload_n 0, 1) := dk_42 (dk_at dksX9_lives_0 5 rfl rfl)
theorem dX9_lives_6 : decode cX9_lives 6 = .ok (.getfield 7, 3) := dk_180 0 7 (dk_at dksX9_lives_0 6 rfl rfl)
theorem dX9_lives_9 : decode cX9_lives 9 = .ok (.iconst 0, 1) := dk_3 (dk_at dksX9_lives_0 9 rfl rfl)
theorem dX9_lives_10 : decode cX9_lives 10 = .ok (.iaload, 1) := dk_46 (dk_at dksX9_lives_0 10 rfl rfl)
theorem dX9_lives_11 : decode cX9_lives 11 = .ok (.if_icmp .ge 20, 3) := dk_162 0 20 (dk_at dksX9_lives_0 11 rfl rfl)
theorem dX9_lives_14 : decode cX9_lives 14 = .ok (.iload_n 1, 1) := dk_27 (dk_at dksX9_lives_0 14 rfl rfl)
theorem dX9_lives_15 : decode cX9_lives 15 = .ok (.aload_n 0, 1) := dk_42 (dk_at dksX9_lives_0 15 rfl rfl)
theorem dX9_lives_16 : decode cX9_lives 16 = .ok (.getfield 7, 3) := dk_180 0 7 (dk_at dksX9_lives_0 16 rfl rfl)
theorem dX9_lives_19 : decode cX9_lives 19 = .ok (.iconst 4, 1) := dk_7 (dk_at dksX9_lives_0 19 rfl rfl)
theorem dX9_lives_20 : decode cX9_lives 20 = .ok (.iload_n 2, 1) := dk_28 (dk_at dksX9_lives_0 20 rfl rfl)
theorem dX9_lives_21 : decode cX9_lives 21 = .ok (.iadd, 1) := dk_96 (dk_at dksX9_lives_0 21 rfl rfl)
theorem dX9_lives_22 : decode cX9_lives 22 = .ok (.iaload, 1) := dk_46 (dk_at dksX9_lives_0 22 rfl rfl)
theorem dX9_lives_23 : decode cX9_lives 23 = .ok (.iadd, 1) := dk_96 (dk_at dksX9_lives_0 23 rfl rfl)
theorem dX9_lives_24 : decode cX9_lives 24 = .ok (.istore_n 1, 1) := dk_60 (dk_at dksX9_lives_1 0 rfl rfl)
theorem dX9_lives_25 : decode cX9_lives 25 = .ok (.iinc 2 1, 3) := dk_132 2 1 (dk_at dksX9_lives_1 1 rfl rfl)
theorem dX9_lives_28 : decode cX9_lives 28 = .ok (.goto (-24), 3) := dk_167 255 232 (dk_at dksX9_lives_1 4 rfl rfl)
theorem dX9_lives_31 : decode cX9_lives 31 = .ok (.iload_n 1, 1) := dk_27 (dk_at dksX9_lives_1 7 rfl rfl)
theorem dX9_lives_32 : decode cX9_lives 32 = .ok (.ireturn, 1) := dk_172 (dk_at dksX9_lives_1 8 rfl rfl)
abbrev cX9_wrong : ByteArray := prog_11_method_30_code
def yX9_wrong : MethodName := ⟨RX9, "wrong", "()I"⟩
def dkwX9_wrong_2 : List UInt8 := [60, 132, 2, 1, 167, 255, 208, 27, 172]
abbrev dktX9_wrong_2 : List UInt8 := dkwX9_wrong_2 ++ []
def dkwX9_wrong_1 : List UInt8 := [4, 100, 46, 42, 180, 0, 7, 16, 10, 28, 96, 46, 182, 0, 56, 153, 0, 7, 3, 167, 0, 4, 4, 96]
abbrev dktX9_wrong_1 : List UInt8 := dkwX9_wrong_1 ++ dktX9_wrong_2
def dkwX9_wrong_0 : List UInt8 := [3, 60, 4, 61, 28, 42, 180, 0, 7, 4, 46, 162, 0, 44, 27, 42, 42, 180, 0, 7, 16, 10, 28, 96]
abbrev dktX9_wrong_0 : List UInt8 := dkwX9_wrong_0 ++ dktX9_wrong_1
theorem dksX9_wrong_0 : cX9_wrong.data.toList.drop 0 = dktX9_wrong_0 := by decide +kernel
theorem dksX9_wrong_1 : cX9_wrong.data.toList.drop 24 = dktX9_wrong_1 := dk_seg dksX9_wrong_0 24 rfl rfl
theorem dksX9_wrong_2 : cX9_wrong.data.toList.drop 48 = dktX9_wrong_2 := dk_seg dksX9_wrong_1 24 rfl rfl
theorem dX9_wrong_0 : decode cX9_wrong 0 = .ok (.iconst 0, 1) := dk_3 (dk_at dksX9_wrong_0 0 rfl rfl)
theorem dX9_wrong_1 : decode cX9_wrong 1 = .ok (.istore_n 1, 1) := dk_60 (dk_at dksX9_wrong_0 1 rfl rfl)
theorem dX9_wrong_2 : decode cX9_wrong 2 = .ok (.iconst 1, 1) := dk_4 (dk_at dksX9_wrong_0 2 rfl rfl)
theorem dX9_wrong_3 : decode cX9_wrong 3 = .ok (.istore_n 2, 1) := dk_61 (dk_at dksX9_wrong_0 3 rfl rfl)
theorem dX9_wrong_4 : decode cX9_wrong 4 = .ok (.iload_n 2, 1) := dk_28 (dk_at dksX9_wrong_0 4 rfl rfl)
theorem dX9_wrong_5 : decode cX9_wrong 5 = .ok (.aload_n 0, 1) := dk_42 (dk_at dksX9_wrong_0 5 rfl rfl)
theorem dX9_wrong_6 : decode cX9_wrong 6 = .ok (.getfield 7, 3) := dk_180 0 7 (dk_at dksX9_wrong_0 6 rfl rfl)
theorem dX9_wrong_9 : decode cX9_wrong 9 = .ok (.iconst 1, 1) := dk_4 (dk_at dksX9_wrong_0 9 rfl rfl)
theorem dX9_wrong_10 : decode cX9_wrong 10 = .ok (.iaload, 1) := dk_46 (dk_at dksX9_wrong_0 10 rfl rfl)
theorem dX9_wrong_11 : decode cX9_wrong 11 = .ok (.if_icmp .ge 44, 3) := dk_162 0 44 (dk_at dksX9_wrong_0 11 rfl rfl)
theorem dX9_wrong_14 : decode cX9_wrong 14 = .ok (.iload_n 1, 1) := dk_27 (dk_at dksX9_wrong_0 14 rfl rfl)
theorem dX9_wrong_15 : decode cX9_wrong 15 = .ok (.aload_n 0, 1) := dk_42 (dk_at dksX9_wrong_0 15 rfl rfl)
theorem dX9_wrong_16 : decode cX9_wrong 16 = .ok (.aload_n 0, 1) := dk_42 (dk_at dksX9_wrong_0 16 rfl rfl)
theorem dX9_wrong_17 : decode cX9_wrong 17 = .ok (.getfield 7, 3) := dk_180 0 7 (dk_at dksX9_wrong_0 17 rfl rfl)
theorem dX9_wrong_20 : decode cX9_wrong 20 = .ok (.bipush 10, 2) := dk_16 10 (dk_at dksX9_wrong_0 20 rfl rfl)
theorem dX9_wrong_22 : decode cX9_wrong 22 = .ok (.iload_n 2, 1) := dk_28 (dk_at dksX9_wrong_0 22 rfl rfl)
theorem dX9_wrong_23 : decode cX9_wrong 23 = .ok (.iadd, 1) := dk_96 (dk_at dksX9_wrong_0 23 rfl rfl)
theorem dX9_wrong_24 : decode cX9_wrong 24 = .ok (.iconst 1, 1) := dk_4 (dk_at dksX9_wrong_1 0 rfl rfl)
theorem dX9_wrong_25 : decode cX9_wrong 25 = .ok (.isub, 1) := dk_100 (dk_at dksX9_wrong_1 1 rfl rfl)
theorem dX9_wrong_26 : decode cX9_wrong 26 = .ok (.iaload, 1) := dk_46 (dk_at dksX9_wrong_1 2 rfl rfl)
theorem dX9_wrong_27 : decode cX9_wrong 27 = .ok (.aload_n 0, 1) := dk_42 (dk_at dksX9_wrong_1 3 rfl rfl)
theorem dX9_wrong_28 : decode cX9_wrong 28 = .ok (.getfield 7, 3) := dk_180 0 7 (dk_at dksX9_wrong_1 4 rfl rfl)
theorem dX9_wrong_31 : decode cX9_wrong 31 = .ok (.bipush 10, 2) := dk_16 10 (dk_at dksX9_wrong_1 7 rfl rfl)
theorem dX9_wrong_33 : decode cX9_wrong 33 = .ok (.iload_n 2, 1) := dk_28 (dk_at dksX9_wrong_1 9 rfl rfl)
theorem dX9_wrong_34 : decode cX9_wrong 34 = .ok (.iadd, 1) := dk_96 (dk_at dksX9_wrong_1 10 rfl rfl)
theorem dX9_wrong_35 : decode cX9_wrong 35 = .ok (.iaload, 1) := dk_46 (dk_at dksX9_wrong_1 11 rfl rfl)
theorem dX9_wrong_36 : decode cX9_wrong 36 = .ok (.invokevirtual 56, 3) := dk_182 0 56 (dk_at dksX9_wrong_1 12 rfl rfl)
theorem dX9_wrong_39 : decode cX9_wrong 39 = .ok (.ifCond .eq 7, 3) := dk_153 0 7 (dk_at dksX9_wrong_1 15 rfl rfl)
theorem dX9_wrong_42 : decode cX9_wrong 42 = .ok (.iconst 0, 1) := dk_3 (dk_at dksX9_wrong_1 18 rfl rfl)
theorem dX9_wrong_43 : decode cX9_wrong 43 = .ok (.goto 4, 3) := dk_167 0 4 (dk_at dksX9_wrong_1 19 rfl rfl)
theorem dX9_wrong_46 : decode cX9_wrong 46 = .ok (.iconst 1, 1) := dk_4 (dk_at dksX9_wrong_1 22 rfl rfl)
theorem dX9_wrong_47 : decode cX9_wrong 47 = .ok (.iadd, 1) := dk_96 (dk_at dksX9_wrong_1 23 rfl rfl)
theorem dX9_wrong_48 : decode cX9_wrong 48 = .ok (.istore_n 1, 1) := dk_60 (dk_at dksX9_wrong_2 0 rfl rfl)
theorem dX9_wrong_49 : decode cX9_wrong 49 = .ok (.iinc 2 1, 3) := dk_132 2 1 (dk_at dksX9_wrong_2 1 rfl rfl)
theorem dX9_wrong_52 : decode cX9_wrong 52 = .ok (.goto (-48), 3) := dk_167 255 208 (dk_at dksX9_wrong_2 4 rfl rfl)
theorem dX9_wrong_55 : decode cX9_wrong 55 = .ok (.iload_n 1, 1) := dk_27 (dk_at dksX9_wrong_2 7 rfl rfl)
theorem dX9_wrong_56 : decode cX9_wrong 56 = .ok (.ireturn, 1) := dk_172 (dk_at dksX9_wrong_2 8 rfl rfl)
abbrev cX9_years : ByteArray := prog_11_method_33_code
def yX9_years : MethodName := ⟨RX9, "years", "(I)I"⟩
def dkwX9_years_2 : List UInt8 := [167, 255, 240, 42, 182, 0, 75, 172]
abbrev dktX9_years_2 : List UInt8 := dkwX9_years_2 ++ []
def dkwX9_years_1 : List UInt8 := [164, 0, 6, 16, 253, 172, 3, 61, 28, 27, 162, 0, 17, 42, 182, 0, 119, 42, 182, 0, 122, 132, 2, 1]
abbrev dktX9_years_1 : List UInt8 := dkwX9_years_1 ++ dktX9_years_2
def dkwX9_years_0 : List UInt8 := [27, 4, 16, 40, 184, 0, 44, 154, 0, 5, 2, 172, 42, 180, 0, 7, 5, 46, 27, 96, 17, 39, 15]
abbrev dktX9_years_0 : List UInt8 := dkwX9_years_0 ++ dktX9_years_1
theorem dksX9_years_0 : cX9_years.data.toList.drop 0 = dktX9_years_0 := by decide +kernel
theorem dksX9_years_1 : cX9_years.data.toList.drop 23 = dktX9_years_1 := dk_seg dksX9_years_0 23 rfl rfl
theorem dksX9_years_2 : cX9_years.data.toList.drop 47 = dktX9_years_2 := dk_seg dksX9_years_1 24 rfl rfl
theorem dX9_years_0 : decode cX9_years 0 = .ok (.iload_n 1, 1) := dk_27 (dk_at dksX9_years_0 0 rfl rfl)
theorem dX9_years_1 : decode cX9_years 1 = .ok (.iconst 1, 1) := dk_4 (dk_at dksX9_years_0 1 rfl rfl)
theorem dX9_years_2 : decode cX9_years 2 = .ok (.bipush 40, 2) := dk_16 40 (dk_at dksX9_years_0 2 rfl rfl)
theorem dX9_years_4 : decode cX9_years 4 = .ok (.invokestatic 44, 3) := dk_184 0 44 (dk_at dksX9_years_0 4 rfl rfl)
theorem dX9_years_7 : decode cX9_years 7 = .ok (.ifCond .ne 5, 3) := dk_154 0 5 (dk_at dksX9_years_0 7 rfl rfl)
theorem dX9_years_10 : decode cX9_years 10 = .ok (.iconst (-1), 1) := dk_2 (dk_at dksX9_years_0 10 rfl rfl)
theorem dX9_years_11 : decode cX9_years 11 = .ok (.ireturn, 1) := dk_172 (dk_at dksX9_years_0 11 rfl rfl)
theorem dX9_years_12 : decode cX9_years 12 = .ok (.aload_n 0, 1) := dk_42 (dk_at dksX9_years_0 12 rfl rfl)
theorem dX9_years_13 : decode cX9_years 13 = .ok (.getfield 7, 3) := dk_180 0 7 (dk_at dksX9_years_0 13 rfl rfl)
theorem dX9_years_16 : decode cX9_years 16 = .ok (.iconst 2, 1) := dk_5 (dk_at dksX9_years_0 16 rfl rfl)
theorem dX9_years_17 : decode cX9_years 17 = .ok (.iaload, 1) := dk_46 (dk_at dksX9_years_0 17 rfl rfl)
theorem dX9_years_18 : decode cX9_years 18 = .ok (.iload_n 1, 1) := dk_27 (dk_at dksX9_years_0 18 rfl rfl)
theorem dX9_years_19 : decode cX9_years 19 = .ok (.iadd, 1) := dk_96 (dk_at dksX9_years_0 19 rfl rfl)
theorem dX9_years_20 : decode cX9_years 20 = .ok (.sipush 9999, 3) := dk_17 39 15 (dk_at dksX9_years_0 20 rfl rfl)
theorem dX9_years_23 : decode cX9_years 23 = .ok (.if_icmp .le 6, 3) := dk_164 0 6 (dk_at dksX9_years_1 0 rfl rfl)
theorem dX9_years_26 : decode cX9_years 26 = .ok (.bipush (-3), 2) := dk_16 253 (dk_at dksX9_years_1 3 rfl rfl)
theorem dX9_years_28 : decode cX9_years 28 = .ok (.ireturn, 1) := dk_172 (dk_at dksX9_years_1 5 rfl rfl)
theorem dX9_years_29 : decode cX9_years 29 = .ok (.iconst 0, 1) := dk_3 (dk_at dksX9_years_1 6 rfl rfl)
theorem dX9_years_30 : decode cX9_years 30 = .ok (.istore_n 2, 1) := dk_61 (dk_at dksX9_years_1 7 rfl rfl)
theorem dX9_years_31 : decode cX9_years 31 = .ok (.iload_n 2, 1) := dk_28 (dk_at dksX9_years_1 8 rfl rfl)
theorem dX9_years_32 : decode cX9_years 32 = .ok (.iload_n 1, 1) := dk_27 (dk_at dksX9_years_1 9 rfl rfl)
theorem dX9_years_33 : decode cX9_years 33 = .ok (.if_icmp .ge 17, 3) := dk_162 0 17 (dk_at dksX9_years_1 10 rfl rfl)
theorem dX9_years_36 : decode cX9_years 36 = .ok (.aload_n 0, 1) := dk_42 (dk_at dksX9_years_1 13 rfl rfl)
theorem dX9_years_37 : decode cX9_years 37 = .ok (.invokevirtual 119, 3) := dk_182 0 119 (dk_at dksX9_years_1 14 rfl rfl)
theorem dX9_years_40 : decode cX9_years 40 = .ok (.aload_n 0, 1) := dk_42 (dk_at dksX9_years_1 17 rfl rfl)
theorem dX9_years_41 : decode cX9_years 41 = .ok (.invokevirtual 122, 3) := dk_182 0 122 (dk_at dksX9_years_1 18 rfl rfl)
theorem dX9_years_44 : decode cX9_years 44 = .ok (.iinc 2 1, 3) := dk_132 2 1 (dk_at dksX9_years_1 21 rfl rfl)
theorem dX9_years_47 : decode cX9_years 47 = .ok (.goto (-16), 3) := dk_167 255 240 (dk_at dksX9_years_2 0 rfl rfl)
theorem dX9_years_50 : decode cX9_years 50 = .ok (.aload_n 0, 1) := dk_42 (dk_at dksX9_years_2 3 rfl rfl)
theorem dX9_years_51 : decode cX9_years 51 = .ok (.invokevirtual 75, 3) := dk_182 0 75 (dk_at dksX9_years_2 4 rfl rfl)
theorem dX9_years_54 : decode cX9_years 54 = .ok (.ireturn, 1) := dk_172 (dk_at dksX9_years_2 7 rfl rfl)
abbrev cX9_keeps : ByteArray := prog_11_method_32_code
def yX9_keeps : MethodName := ⟨RX9, "keeps", "()V"⟩
def dkwX9_keeps_4 : List UInt8 := [167, 255, 219, 42, 180, 0, 7, 16, 40, 92, 46, 4, 96, 79, 177]
abbrev dktX9_keeps_4 : List UInt8 := dkwX9_keeps_4 ++ []
def dkwX9_keeps_3 : List UInt8 := [180, 0, 7, 16, 40, 46, 104, 96, 27, 96, 42, 180, 0, 7, 4, 27, 96, 46, 79, 132, 1, 1]
abbrev dktX9_keeps_3 : List UInt8 := dkwX9_keeps_3 ++ dktX9_keeps_4
def dkwX9_keeps_2 : List UInt8 := [16, 40, 92, 46, 4, 100, 79, 3, 60, 27, 16, 15, 162, 0, 37, 42, 180, 0, 7, 16, 41, 16, 15, 42]
abbrev dktX9_keeps_2 : List UInt8 := dkwX9_keeps_2 ++ dktX9_keeps_3
def dkwX9_keeps_1 : List UInt8 := [180, 0, 7, 27, 42, 180, 0, 7, 27, 16, 15, 96, 46, 79, 132, 1, 1, 167, 255, 231, 42, 180, 0, 7]
abbrev dktX9_keeps_1 : List UInt8 := dkwX9_keeps_1 ++ dktX9_keeps_2
def dkwX9_keeps_0 : List UInt8 := [42, 180, 0, 7, 16, 40, 46, 16, 8, 160, 0, 45, 16, 41, 60, 27, 17, 0, 146, 162, 0, 24, 42]
abbrev dktX9_keeps_0 : List UInt8 := dkwX9_keeps_0 ++ dktX9_keeps_1
theorem dksX9_keeps_0 : cX9_keeps.data.toList.drop 0 = dktX9_keeps_0 := by decide +kernel
theorem dksX9_keeps_1 : cX9_keeps.data.toList.drop 23 = dktX9_keeps_1 := dk_seg dksX9_keeps_0 23 rfl rfl
theorem dksX9_keeps_2 : cX9_keeps.data.toList.drop 47 = dktX9_keeps_2 := dk_seg dksX9_keeps_1 24 rfl rfl
theorem dksX9_keeps_3 : cX9_keeps.data.toList.drop 71 = dktX9_keeps_3 := dk_seg dksX9_keeps_2 24 rfl rfl
theorem dksX9_keeps_4 : cX9_keeps.data.toList.drop 93 = dktX9_keeps_4 := dk_seg dksX9_keeps_3 22 rfl rfl
theorem dX9_keeps_0 : decode cX9_keeps 0 = .ok (.aload_n 0, 1) := dk_42 (dk_at dksX9_keeps_0 0 rfl rfl)
theorem dX9_keeps_1 : decode cX9_keeps 1 = .ok (.getfield 7, 3) := dk_180 0 7 (dk_at dksX9_keeps_0 1 rfl rfl)
theorem dX9_keeps_4 : decode cX9_keeps 4 = .ok (.bipush 40, 2) := dk_16 40 (dk_at dksX9_keeps_0 4 rfl rfl)
theorem dX9_keeps_6 : decode cX9_keeps 6 = .ok (.iaload, 1) := dk_46 (dk_at dksX9_keeps_0 6 rfl rfl)
theorem dX9_keeps_7 : decode cX9_keeps 7 = .ok (.bipush 8, 2) := dk_16 8 (dk_at dksX9_keeps_0 7 rfl rfl)
theorem dX9_keeps_9 : decode cX9_keeps 9 = .ok (.if_icmp .ne 45, 3) := dk_160 0 45 (dk_at dksX9_keeps_0 9 rfl rfl)
theorem dX9_keeps_12 : decode cX9_keeps 12 = .ok (.bipush 41, 2) := dk_16 41 (dk_at dksX9_keeps_0 12 rfl rfl)
theorem dX9_keeps_14 : decode cX9_keeps 14 = .ok (.istore_n 1, 1) := dk_60 (dk_at dksX9_keeps_0 14 rfl rfl)
theorem dX9_keeps_15 : decode cX9_keeps 15 = .ok (.iload_n 1, 1) := dk_27 (dk_at dksX9_keeps_0 15 rfl rfl)
theorem dX9_keeps_16 : decode cX9_keeps 16 = .ok (.sipush 146, 3) := dk_17 0 146 (dk_at dksX9_keeps_0 16 rfl rfl)
theorem dX9_keeps_19 : decode cX9_keeps 19 = .ok (.if_icmp .ge 24, 3) := dk_162 0 24 (dk_at dksX9_keeps_0 19 rfl rfl)
theorem dX9_keeps_22 : decode cX9_keeps 22 = .ok (.aload_n 0, 1) := dk_42 (dk_at dksX9_keeps_0 22 rfl rfl)
theorem dX9_keeps_23 : decode cX9_keeps 23 = .ok (.getfield 7, 3) := dk_180 0 7 (dk_at dksX9_keeps_1 0 rfl rfl)
theorem dX9_keeps_26 : decode cX9_keeps 26 = .ok (.iload_n 1, 1) := dk_27 (dk_at dksX9_keeps_1 3 rfl rfl)
theorem dX9_keeps_27 : decode cX9_keeps 27 = .ok (.aload_n 0, 1) := dk_42 (dk_at dksX9_keeps_1 4 rfl rfl)
theorem dX9_keeps_28 : decode cX9_keeps 28 = .ok (.getfield 7, 3) := dk_180 0 7 (dk_at dksX9_keeps_1 5 rfl rfl)
theorem dX9_keeps_31 : decode cX9_keeps 31 = .ok (.iload_n 1, 1) := dk_27 (dk_at dksX9_keeps_1 8 rfl rfl)
theorem dX9_keeps_32 : decode cX9_keeps 32 = .ok (.bipush 15, 2) := dk_16 15 (dk_at dksX9_keeps_1 9 rfl rfl)
theorem dX9_keeps_34 : decode cX9_keeps 34 = .ok (.iadd, 1) := dk_96 (dk_at dksX9_keeps_1 11 rfl rfl)
theorem dX9_keeps_35 : decode cX9_keeps 35 = .ok (.iaload, 1) := dk_46 (dk_at dksX9_keeps_1 12 rfl rfl)
theorem dX9_keeps_36 : decode cX9_keeps 36 = .ok (.iastore, 1) := dk_79 (dk_at dksX9_keeps_1 13 rfl rfl)
theorem dX9_keeps_37 : decode cX9_keeps 37 = .ok (.iinc 1 1, 3) := dk_132 1 1 (dk_at dksX9_keeps_1 14 rfl rfl)
theorem dX9_keeps_40 : decode cX9_keeps 40 = .ok (.goto (-25), 3) := dk_167 255 231 (dk_at dksX9_keeps_1 17 rfl rfl)
theorem dX9_keeps_43 : decode cX9_keeps 43 = .ok (.aload_n 0, 1) := dk_42 (dk_at dksX9_keeps_1 20 rfl rfl)
theorem dX9_keeps_44 : decode cX9_keeps 44 = .ok (.getfield 7, 3) := dk_180 0 7 (dk_at dksX9_keeps_1 21 rfl rfl)
theorem dX9_keeps_47 : decode cX9_keeps 47 = .ok (.bipush 40, 2) := dk_16 40 (dk_at dksX9_keeps_2 0 rfl rfl)
theorem dX9_keeps_49 : decode cX9_keeps 49 = .ok (.dup2, 1) := dk_92 (dk_at dksX9_keeps_2 2 rfl rfl)
theorem dX9_keeps_50 : decode cX9_keeps 50 = .ok (.iaload, 1) := dk_46 (dk_at dksX9_keeps_2 3 rfl rfl)
theorem dX9_keeps_51 : decode cX9_keeps 51 = .ok (.iconst 1, 1) := dk_4 (dk_at dksX9_keeps_2 4 rfl rfl)
theorem dX9_keeps_52 : decode cX9_keeps 52 = .ok (.isub, 1) := dk_100 (dk_at dksX9_keeps_2 5 rfl rfl)
theorem dX9_keeps_53 : decode cX9_keeps 53 = .ok (.iastore, 1) := dk_79 (dk_at dksX9_keeps_2 6 rfl rfl)
theorem dX9_keeps_54 : decode cX9_keeps 54 = .ok (.iconst 0, 1) := dk_3 (dk_at dksX9_keeps_2 7 rfl rfl)
theorem dX9_keeps_55 : decode cX9_keeps 55 = .ok (.istore_n 1, 1) := dk_60 (dk_at dksX9_keeps_2 8 rfl rfl)
theorem dX9_keeps_56 : decode cX9_keeps 56 = .ok (.iload_n 1, 1) := dk_27 (dk_at dksX9_keeps_2 9 rfl rfl)
theorem dX9_keeps_57 : decode cX9_keeps 57 = .ok (.bipush 15, 2) := dk_16 15 (dk_at dksX9_keeps_2 10 rfl rfl)
theorem dX9_keeps_59 : decode cX9_keeps 59 = .ok (.if_icmp .ge 37, 3) := dk_162 0 37 (dk_at dksX9_keeps_2 12 rfl rfl)
theorem dX9_keeps_62 : decode cX9_keeps 62 = .ok (.aload_n 0, 1) := dk_42 (dk_at dksX9_keeps_2 15 rfl rfl)
theorem dX9_keeps_63 : decode cX9_keeps 63 = .ok (.getfield 7, 3) := dk_180 0 7 (dk_at dksX9_keeps_2 16 rfl rfl)
theorem dX9_keeps_66 : decode cX9_keeps 66 = .ok (.bipush 41, 2) := dk_16 41 (dk_at dksX9_keeps_2 19 rfl rfl)
theorem dX9_keeps_68 : decode cX9_keeps 68 = .ok (.bipush 15, 2) := dk_16 15 (dk_at dksX9_keeps_2 21 rfl rfl)
theorem dX9_keeps_70 : decode cX9_keeps 70 = .ok (.aload_n 0, 1) := dk_42 (dk_at dksX9_keeps_2 23 rfl rfl)
theorem dX9_keeps_71 : decode cX9_keeps 71 = .ok (.getfield 7, 3) := dk_180 0 7 (dk_at dksX9_keeps_3 0 rfl rfl)
theorem dX9_keeps_74 : decode cX9_keeps 74 = .ok (.bipush 40, 2) := dk_16 40 (dk_at dksX9_keeps_3 3 rfl rfl)
theorem dX9_keeps_76 : decode cX9_keeps 76 = .ok (.iaload, 1) := dk_46 (dk_at dksX9_keeps_3 5 rfl rfl)
theorem dX9_keeps_77 : decode cX9_keeps 77 = .ok (.imul, 1) := dk_104 (dk_at dksX9_keeps_3 6 rfl rfl)
theorem dX9_keeps_78 : decode cX9_keeps 78 = .ok (.iadd, 1) := dk_96 (dk_at dksX9_keeps_3 7 rfl rfl)
theorem dX9_keeps_79 : decode cX9_keeps 79 = .ok (.iload_n 1, 1) := dk_27 (dk_at dksX9_keeps_3 8 rfl rfl)
theorem dX9_keeps_80 : decode cX9_keeps 80 = .ok (.iadd, 1) := dk_96 (dk_at dksX9_keeps_3 9 rfl rfl)
theorem dX9_keeps_81 : decode cX9_keeps 81 = .ok (.aload_n 0, 1) := dk_42 (dk_at dksX9_keeps_3 10 rfl rfl)
theorem dX9_keeps_82 : decode cX9_keeps 82 = .ok (.getfield 7, 3) := dk_180 0 7 (dk_at dksX9_keeps_3 11 rfl rfl)
theorem dX9_keeps_85 : decode cX9_keeps 85 = .ok (.iconst 1, 1) := dk_4 (dk_at dksX9_keeps_3 14 rfl rfl)
theorem dX9_keeps_86 : decode cX9_keeps 86 = .ok (.iload_n 1, 1) := dk_27 (dk_at dksX9_keeps_3 15 rfl rfl)
theorem dX9_keeps_87 : decode cX9_keeps 87 = .ok (.iadd, 1) := dk_96 (dk_at dksX9_keeps_3 16 rfl rfl)
theorem dX9_keeps_88 : decode cX9_keeps 88 = .ok (.iaload, 1) := dk_46 (dk_at dksX9_keeps_3 17 rfl rfl)
theorem dX9_keeps_89 : decode cX9_keeps 89 = .ok (.iastore, 1) := dk_79 (dk_at dksX9_keeps_3 18 rfl rfl)
theorem dX9_keeps_90 : decode cX9_keeps 90 = .ok (.iinc 1 1, 3) := dk_132 1 1 (dk_at dksX9_keeps_3 19 rfl rfl)
theorem dX9_keeps_93 : decode cX9_keeps 93 = .ok (.goto (-37), 3) := dk_167 255 219 (dk_at dksX9_keeps_4 0 rfl rfl)
theorem dX9_keeps_96 : decode cX9_keeps 96 = .ok (.aload_n 0, 1) := dk_42 (dk_at dksX9_keeps_4 3 rfl rfl)
theorem dX9_keeps_97 : decode cX9_keeps 97 = .ok (.getfield 7, 3) := dk_180 0 7 (dk_at dksX9_keeps_4 4 rfl rfl)
theorem dX9_keeps_100 : decode cX9_keeps 100 = .ok (.bipush 40, 2) := dk_16 40 (dk_at dksX9_keeps_4 7 rfl rfl)
theorem dX9_keeps_102 : decode cX9_keeps 102 = .ok (.dup2, 1) := dk_92 (dk_at dksX9_keeps_4 9 rfl rfl)
theorem dX9_keeps_103 : decode cX9_keeps 103 = .ok (.iaload, 1) := dk_46 (dk_at dksX9_keeps_4 10 rfl rfl)
theorem dX9_keeps_104 : decode cX9_keeps 104 = .ok (.iconst 1, 1) := dk_4 (dk_at dksX9_keeps_4 11 rfl rfl)
theorem dX9_keeps_105 : decode cX9_keeps 105 = .ok (.iadd, 1) := dk_96 (dk_at dksX9_keeps_4 12 rfl rfl)
theorem dX9_keeps_106 : decode cX9_keeps 106 = .ok (.iastore, 1) := dk_79 (dk_at dksX9_keeps_4 13 rfl rfl)
theorem dX9_keeps_107 : decode cX9_keeps 107 = .ok (.return_, 1) := dk_177 (dk_at dksX9_keeps_4 14 rfl rfl)
abbrev cX9_passes : ByteArray := prog_11_method_17_code
def yX9_passes : MethodName := ⟨RX9, "passes", "()V"⟩
def dkwX9_passes_7 : List UInt8 := [42, 180, 0, 7, 4, 27, 79, 42, 180, 0, 7, 5, 92, 46, 4, 96, 79, 177]
abbrev dktX9_passes_7 : List UInt8 := dkwX9_passes_7 ++ []
def dkwX9_passes_6 : List UInt8 := [42, 180, 0, 7, 7, 29, 96, 46, 158, 0, 7, 4, 167, 0, 4, 3, 96, 60, 132, 2, 1, 167, 255, 204]
abbrev dktX9_passes_6 : List UInt8 := dkwX9_passes_6 ++ dktX9_passes_7
def dkwX9_passes_5 : List UInt8 := [162, 0, 48, 42, 180, 0, 7, 16, 10, 28, 96, 46, 62, 42, 180, 0, 7, 16, 10, 27, 96, 29, 79, 27]
abbrev dktX9_passes_5 : List UInt8 := dkwX9_passes_5 ++ dktX9_passes_6
def dkwX9_passes_4 : List UInt8 := [100, 167, 0, 4, 3, 79, 132, 1, 1, 167, 255, 199, 3, 60, 3, 61, 28, 42, 180, 0, 7, 4, 46]
abbrev dktX9_passes_4 : List UInt8 := dkwX9_passes_4 ++ dktX9_passes_5
def dkwX9_passes_3 : List UInt8 := [46, 42, 180, 0, 35, 27, 46, 164, 0, 21, 42, 180, 0, 7, 7, 27, 96, 46, 42, 180, 0, 35, 27, 46]
abbrev dktX9_passes_3 : List UInt8 := dkwX9_passes_3 ++ dktX9_passes_4
def dkwX9_passes_2 : List UInt8 := [27, 42, 180, 0, 7, 3, 46, 162, 0, 53, 42, 180, 0, 7, 7, 27, 96, 42, 180, 0, 7, 7, 27, 96]
abbrev dktX9_passes_2 : List UInt8 := dkwX9_passes_2 ++ dktX9_passes_3
def dkwX9_passes_1 : List UInt8 := [184, 0, 79, 153, 0, 11, 42, 27, 182, 0, 82, 167, 0, 4, 3, 79, 132, 1, 1, 167, 255, 217, 3, 60]
abbrev dktX9_passes_1 : List UInt8 := dkwX9_passes_1 ++ dktX9_passes_2
def dkwX9_passes_0 : List UInt8 := [3, 60, 27, 42, 180, 0, 7, 3, 46, 162, 0, 35, 42, 180, 0, 35, 27, 42, 182, 0, 75, 27]
abbrev dktX9_passes_0 : List UInt8 := dkwX9_passes_0 ++ dktX9_passes_1
theorem dksX9_passes_0 : cX9_passes.data.toList.drop 0 = dktX9_passes_0 := by decide +kernel
theorem dksX9_passes_1 : cX9_passes.data.toList.drop 22 = dktX9_passes_1 := dk_seg dksX9_passes_0 22 rfl rfl
theorem dksX9_passes_2 : cX9_passes.data.toList.drop 46 = dktX9_passes_2 := dk_seg dksX9_passes_1 24 rfl rfl
theorem dksX9_passes_3 : cX9_passes.data.toList.drop 70 = dktX9_passes_3 := dk_seg dksX9_passes_2 24 rfl rfl
theorem dksX9_passes_4 : cX9_passes.data.toList.drop 94 = dktX9_passes_4 := dk_seg dksX9_passes_3 24 rfl rfl
theorem dksX9_passes_5 : cX9_passes.data.toList.drop 117 = dktX9_passes_5 := dk_seg dksX9_passes_4 23 rfl rfl
theorem dksX9_passes_6 : cX9_passes.data.toList.drop 141 = dktX9_passes_6 := dk_seg dksX9_passes_5 24 rfl rfl
theorem dksX9_passes_7 : cX9_passes.data.toList.drop 165 = dktX9_passes_7 := dk_seg dksX9_passes_6 24 rfl rfl
theorem dX9_passes_0 : decode cX9_passes 0 = .ok (.iconst 0, 1) := dk_3 (dk_at dksX9_passes_0 0 rfl rfl)
theorem dX9_passes_1 : decode cX9_passes 1 = .ok (.istore_n 1, 1) := dk_60 (dk_at dksX9_passes_0 1 rfl rfl)
theorem dX9_passes_2 : decode cX9_passes 2 = .ok (.iload_n 1, 1) := dk_27 (dk_at dksX9_passes_0 2 rfl rfl)
theorem dX9_passes_3 : decode cX9_passes 3 = .ok (.aload_n 0, 1) := dk_42 (dk_at dksX9_passes_0 3 rfl rfl)
theorem dX9_passes_4 : decode cX9_passes 4 = .ok (.getfield 7, 3) := dk_180 0 7 (dk_at dksX9_passes_0 4 rfl rfl)
theorem dX9_passes_7 : decode cX9_passes 7 = .ok (.iconst 0, 1) := dk_3 (dk_at dksX9_passes_0 7 rfl rfl)
theorem dX9_passes_8 : decode cX9_passes 8 = .ok (.iaload, 1) := dk_46 (dk_at dksX9_passes_0 8 rfl rfl)
theorem dX9_passes_9 : decode cX9_passes 9 = .ok (.if_icmp .ge 35, 3) := dk_162 0 35 (dk_at dksX9_passes_0 9 rfl rfl)
theorem dX9_passes_12 : decode cX9_passes 12 = .ok (.aload_n 0, 1) := dk_42 (dk_at dksX9_passes_0 12 rfl rfl)
theorem dX9_passes_13 : decode cX9_passes 13 = .ok (.getfield 35, 3) := dk_180 0 35 (dk_at dksX9_passes_0 13 rfl rfl)
theorem dX9_passes_16 : decode cX9_passes 16 = .ok (.iload_n 1, 1) := dk_27 (dk_at dksX9_passes_0 16 rfl rfl)
theorem dX9_passes_17 : decode cX9_passes 17 = .ok (.aload_n 0, 1) := dk_42 (dk_at dksX9_passes_0 17 rfl rfl)
theorem dX9_passes_18 : decode cX9_passes 18 = .ok (.invokevirtual 75, 3) := dk_182 0 75 (dk_at dksX9_passes_0 18 rfl rfl)
theorem dX9_passes_21 : decode cX9_passes 21 = .ok (.iload_n 1, 1) := dk_27 (dk_at dksX9_passes_0 21 rfl rfl)
theorem dX9_passes_22 : decode cX9_passes 22 = .ok (.invokestatic 79, 3) := dk_184 0 79 (dk_at dksX9_passes_1 0 rfl rfl)
theorem dX9_passes_25 : decode cX9_passes 25 = .ok (.ifCond .eq 11, 3) := dk_153 0 11 (dk_at dksX9_passes_1 3 rfl rfl)
theorem dX9_passes_28 : decode cX9_passes 28 = .ok (.aload_n 0, 1) := dk_42 (dk_at dksX9_passes_1 6 rfl rfl)
theorem dX9_passes_29 : decode cX9_passes 29 = .ok (.iload_n 1, 1) := dk_27 (dk_at dksX9_passes_1 7 rfl rfl)
theorem dX9_passes_30 : decode cX9_passes 30 = .ok (.invokevirtual 82, 3) := dk_182 0 82 (dk_at dksX9_passes_1 8 rfl rfl)
theorem dX9_passes_33 : decode cX9_passes 33 = .ok (.goto 4, 3) := dk_167 0 4 (dk_at dksX9_passes_1 11 rfl rfl)
theorem dX9_passes_36 : decode cX9_passes 36 = .ok (.iconst 0, 1) := dk_3 (dk_at dksX9_passes_1 14 rfl rfl)
theorem dX9_passes_37 : decode cX9_passes 37 = .ok (.iastore, 1) := dk_79 (dk_at dksX9_passes_1 15 rfl rfl)
theorem dX9_passes_38 : decode cX9_passes 38 = .ok (.iinc 1 1, 3) := dk_132 1 1 (dk_at dksX9_passes_1 16 rfl rfl)
theorem dX9_passes_41 : decode cX9_passes 41 = .ok (.goto (-39), 3) := dk_167 255 217 (dk_at dksX9_passes_1 19 rfl rfl)
theorem dX9_passes_44 : decode cX9_passes 44 = .ok (.iconst 0, 1) := dk_3 (dk_at dksX9_passes_1 22 rfl rfl)
theorem dX9_passes_45 : decode cX9_passes 45 = .ok (.istore_n 1, 1) := dk_60 (dk_at dksX9_passes_1 23 rfl rfl)
theorem dX9_passes_46 : decode cX9_passes 46 = .ok (.iload_n 1, 1) := dk_27 (dk_at dksX9_passes_2 0 rfl rfl)
theorem dX9_passes_47 : decode cX9_passes 47 = .ok (.aload_n 0, 1) := dk_42 (dk_at dksX9_passes_2 1 rfl rfl)
theorem dX9_passes_48 : decode cX9_passes 48 = .ok (.getfield 7, 3) := dk_180 0 7 (dk_at dksX9_passes_2 2 rfl rfl)
theorem dX9_passes_51 : decode cX9_passes 51 = .ok (.iconst 0, 1) := dk_3 (dk_at dksX9_passes_2 5 rfl rfl)
theorem dX9_passes_52 : decode cX9_passes 52 = .ok (.iaload, 1) := dk_46 (dk_at dksX9_passes_2 6 rfl rfl)
theorem dX9_passes_53 : decode cX9_passes 53 = .ok (.if_icmp .ge 53, 3) := dk_162 0 53 (dk_at dksX9_passes_2 7 rfl rfl)
theorem dX9_passes_56 : decode cX9_passes 56 = .ok (.aload_n 0, 1) := dk_42 (dk_at dksX9_passes_2 10 rfl rfl)
theorem dX9_passes_57 : decode cX9_passes 57 = .ok (.getfield 7, 3) := dk_180 0 7 (dk_at dksX9_passes_2 11 rfl rfl)
theorem dX9_passes_60 : decode cX9_passes 60 = .ok (.iconst 4, 1) := dk_7 (dk_at dksX9_passes_2 14 rfl rfl)
theorem dX9_passes_61 : decode cX9_passes 61 = .ok (.iload_n 1, 1) := dk_27 (dk_at dksX9_passes_2 15 rfl rfl)
theorem dX9_passes_62 : decode cX9_passes 62 = .ok (.iadd, 1) := dk_96 (dk_at dksX9_passes_2 16 rfl rfl)
theorem dX9_passes_63 : decode cX9_passes 63 = .ok (.aload_n 0, 1) := dk_42 (dk_at dksX9_passes_2 17 rfl rfl)
theorem dX9_passes_64 : decode cX9_passes 64 = .ok (.getfield 7, 3) := dk_180 0 7 (dk_at dksX9_passes_2 18 rfl rfl)
theorem dX9_passes_67 : decode cX9_passes 67 = .ok (.iconst 4, 1) := dk_7 (dk_at dksX9_passes_2 21 rfl rfl)
theorem dX9_passes_68 : decode cX9_passes 68 = .ok (.iload_n 1, 1) := dk_27 (dk_at dksX9_passes_2 22 rfl rfl)
theorem dX9_passes_69 : decode cX9_passes 69 = .ok (.iadd, 1) := dk_96 (dk_at dksX9_passes_2 23 rfl rfl)
theorem dX9_passes_70 : decode cX9_passes 70 = .ok (.iaload, 1) := dk_46 (dk_at dksX9_passes_3 0 rfl rfl)
theorem dX9_passes_71 : decode cX9_passes 71 = .ok (.aload_n 0, 1) := dk_42 (dk_at dksX9_passes_3 1 rfl rfl)
theorem dX9_passes_72 : decode cX9_passes 72 = .ok (.getfield 35, 3) := dk_180 0 35 (dk_at dksX9_passes_3 2 rfl rfl)
theorem dX9_passes_75 : decode cX9_passes 75 = .ok (.iload_n 1, 1) := dk_27 (dk_at dksX9_passes_3 5 rfl rfl)
theorem dX9_passes_76 : decode cX9_passes 76 = .ok (.iaload, 1) := dk_46 (dk_at dksX9_passes_3 6 rfl rfl)
theorem dX9_passes_77 : decode cX9_passes 77 = .ok (.if_icmp .le 21, 3) := dk_164 0 21 (dk_at dksX9_passes_3 7 rfl rfl)
theorem dX9_passes_80 : decode cX9_passes 80 = .ok (.aload_n 0, 1) := dk_42 (dk_at dksX9_passes_3 10 rfl rfl)
theorem dX9_passes_81 : decode cX9_passes 81 = .ok (.getfield 7, 3) := dk_180 0 7 (dk_at dksX9_passes_3 11 rfl rfl)
theorem dX9_passes_84 : decode cX9_passes 84 = .ok (.iconst 4, 1) := dk_7 (dk_at dksX9_passes_3 14 rfl rfl)
theorem dX9_passes_85 : decode cX9_passes 85 = .ok (.iload_n 1, 1) := dk_27 (dk_at dksX9_passes_3 15 rfl rfl)
theorem dX9_passes_86 : decode cX9_passes 86 = .ok (.iadd, 1) := dk_96 (dk_at dksX9_passes_3 16 rfl rfl)
theorem dX9_passes_87 : decode cX9_passes 87 = .ok (.iaload, 1) := dk_46 (dk_at dksX9_passes_3 17 rfl rfl)
theorem dX9_passes_88 : decode cX9_passes 88 = .ok (.aload_n 0, 1) := dk_42 (dk_at dksX9_passes_3 18 rfl rfl)
theorem dX9_passes_89 : decode cX9_passes 89 = .ok (.getfield 35, 3) := dk_180 0 35 (dk_at dksX9_passes_3 19 rfl rfl)
theorem dX9_passes_92 : decode cX9_passes 92 = .ok (.iload_n 1, 1) := dk_27 (dk_at dksX9_passes_3 22 rfl rfl)
theorem dX9_passes_93 : decode cX9_passes 93 = .ok (.iaload, 1) := dk_46 (dk_at dksX9_passes_3 23 rfl rfl)
theorem dX9_passes_94 : decode cX9_passes 94 = .ok (.isub, 1) := dk_100 (dk_at dksX9_passes_4 0 rfl rfl)
theorem dX9_passes_95 : decode cX9_passes 95 = .ok (.goto 4, 3) := dk_167 0 4 (dk_at dksX9_passes_4 1 rfl rfl)
theorem dX9_passes_98 : decode cX9_passes 98 = .ok (.iconst 0, 1) := dk_3 (dk_at dksX9_passes_4 4 rfl rfl)
theorem dX9_passes_99 : decode cX9_passes 99 = .ok (.iastore, 1) := dk_79 (dk_at dksX9_passes_4 5 rfl rfl)
theorem dX9_passes_100 : decode cX9_passes 100 = .ok (.iinc 1 1, 3) := dk_132 1 1 (dk_at dksX9_passes_4 6 rfl rfl)
theorem dX9_passes_103 : decode cX9_passes 103 = .ok (.goto (-57), 3) := dk_167 255 199 (dk_at dksX9_passes_4 9 rfl rfl)
theorem dX9_passes_106 : decode cX9_passes 106 = .ok (.iconst 0, 1) := dk_3 (dk_at dksX9_passes_4 12 rfl rfl)
theorem dX9_passes_107 : decode cX9_passes 107 = .ok (.istore_n 1, 1) := dk_60 (dk_at dksX9_passes_4 13 rfl rfl)
theorem dX9_passes_108 : decode cX9_passes 108 = .ok (.iconst 0, 1) := dk_3 (dk_at dksX9_passes_4 14 rfl rfl)
theorem dX9_passes_109 : decode cX9_passes 109 = .ok (.istore_n 2, 1) := dk_61 (dk_at dksX9_passes_4 15 rfl rfl)
theorem dX9_passes_110 : decode cX9_passes 110 = .ok (.iload_n 2, 1) := dk_28 (dk_at dksX9_passes_4 16 rfl rfl)
theorem dX9_passes_111 : decode cX9_passes 111 = .ok (.aload_n 0, 1) := dk_42 (dk_at dksX9_passes_4 17 rfl rfl)
theorem dX9_passes_112 : decode cX9_passes 112 = .ok (.getfield 7, 3) := dk_180 0 7 (dk_at dksX9_passes_4 18 rfl rfl)
theorem dX9_passes_115 : decode cX9_passes 115 = .ok (.iconst 1, 1) := dk_4 (dk_at dksX9_passes_4 21 rfl rfl)
theorem dX9_passes_116 : decode cX9_passes 116 = .ok (.iaload, 1) := dk_46 (dk_at dksX9_passes_4 22 rfl rfl)
theorem dX9_passes_117 : decode cX9_passes 117 = .ok (.if_icmp .ge 48, 3) := dk_162 0 48 (dk_at dksX9_passes_5 0 rfl rfl)
theorem dX9_passes_120 : decode cX9_passes 120 = .ok (.aload_n 0, 1) := dk_42 (dk_at dksX9_passes_5 3 rfl rfl)
theorem dX9_passes_121 : decode cX9_passes 121 = .ok (.getfield 7, 3) := dk_180 0 7 (dk_at dksX9_passes_5 4 rfl rfl)
theorem dX9_passes_124 : decode cX9_passes 124 = .ok (.bipush 10, 2) := dk_16 10 (dk_at dksX9_passes_5 7 rfl rfl)
theorem dX9_passes_126 : decode cX9_passes 126 = .ok (.iload_n 2, 1) := dk_28 (dk_at dksX9_passes_5 9 rfl rfl)
theorem dX9_passes_127 : decode cX9_passes 127 = .ok (.iadd, 1) := dk_96 (dk_at dksX9_passes_5 10 rfl rfl)
theorem dX9_passes_128 : decode cX9_passes 128 = .ok (.iaload, 1) := dk_46 (dk_at dksX9_passes_5 11 rfl rfl)
theorem dX9_passes_129 : decode cX9_passes 129 = .ok (.istore_n 3, 1) := dk_62 (dk_at dksX9_passes_5 12 rfl rfl)
theorem dX9_passes_130 : decode cX9_passes 130 = .ok (.aload_n 0, 1) := dk_42 (dk_at dksX9_passes_5 13 rfl rfl)
theorem dX9_passes_131 : decode cX9_passes 131 = .ok (.getfield 7, 3) := dk_180 0 7 (dk_at dksX9_passes_5 14 rfl rfl)
theorem dX9_passes_134 : decode cX9_passes 134 = .ok (.bipush 10, 2) := dk_16 10 (dk_at dksX9_passes_5 17 rfl rfl)
theorem dX9_passes_136 : decode cX9_passes 136 = .ok (.iload_n 1, 1) := dk_27 (dk_at dksX9_passes_5 19 rfl rfl)
theorem dX9_passes_137 : decode cX9_passes 137 = .ok (.iadd, 1) := dk_96 (dk_at dksX9_passes_5 20 rfl rfl)
theorem dX9_passes_138 : decode cX9_passes 138 = .ok (.iload_n 3, 1) := dk_29 (dk_at dksX9_passes_5 21 rfl rfl)
theorem dX9_passes_139 : decode cX9_passes 139 = .ok (.iastore, 1) := dk_79 (dk_at dksX9_passes_5 22 rfl rfl)
theorem dX9_passes_140 : decode cX9_passes 140 = .ok (.iload_n 1, 1) := dk_27 (dk_at dksX9_passes_5 23 rfl rfl)
theorem dX9_passes_141 : decode cX9_passes 141 = .ok (.aload_n 0, 1) := dk_42 (dk_at dksX9_passes_6 0 rfl rfl)
theorem dX9_passes_142 : decode cX9_passes 142 = .ok (.getfield 7, 3) := dk_180 0 7 (dk_at dksX9_passes_6 1 rfl rfl)
theorem dX9_passes_145 : decode cX9_passes 145 = .ok (.iconst 4, 1) := dk_7 (dk_at dksX9_passes_6 4 rfl rfl)
theorem dX9_passes_146 : decode cX9_passes 146 = .ok (.iload_n 3, 1) := dk_29 (dk_at dksX9_passes_6 5 rfl rfl)
theorem dX9_passes_147 : decode cX9_passes 147 = .ok (.iadd, 1) := dk_96 (dk_at dksX9_passes_6 6 rfl rfl)
theorem dX9_passes_148 : decode cX9_passes 148 = .ok (.iaload, 1) := dk_46 (dk_at dksX9_passes_6 7 rfl rfl)
theorem dX9_passes_149 : decode cX9_passes 149 = .ok (.ifCond .le 7, 3) := dk_158 0 7 (dk_at dksX9_passes_6 8 rfl rfl)
theorem dX9_passes_152 : decode cX9_passes 152 = .ok (.iconst 1, 1) := dk_4 (dk_at dksX9_passes_6 11 rfl rfl)
theorem dX9_passes_153 : decode cX9_passes 153 = .ok (.goto 4, 3) := dk_167 0 4 (dk_at dksX9_passes_6 12 rfl rfl)
theorem dX9_passes_156 : decode cX9_passes 156 = .ok (.iconst 0, 1) := dk_3 (dk_at dksX9_passes_6 15 rfl rfl)
theorem dX9_passes_157 : decode cX9_passes 157 = .ok (.iadd, 1) := dk_96 (dk_at dksX9_passes_6 16 rfl rfl)
theorem dX9_passes_158 : decode cX9_passes 158 = .ok (.istore_n 1, 1) := dk_60 (dk_at dksX9_passes_6 17 rfl rfl)
theorem dX9_passes_159 : decode cX9_passes 159 = .ok (.iinc 2 1, 3) := dk_132 2 1 (dk_at dksX9_passes_6 18 rfl rfl)
theorem dX9_passes_162 : decode cX9_passes 162 = .ok (.goto (-52), 3) := dk_167 255 204 (dk_at dksX9_passes_6 21 rfl rfl)
theorem dX9_passes_165 : decode cX9_passes 165 = .ok (.aload_n 0, 1) := dk_42 (dk_at dksX9_passes_7 0 rfl rfl)
theorem dX9_passes_166 : decode cX9_passes 166 = .ok (.getfield 7, 3) := dk_180 0 7 (dk_at dksX9_passes_7 1 rfl rfl)
theorem dX9_passes_169 : decode cX9_passes 169 = .ok (.iconst 1, 1) := dk_4 (dk_at dksX9_passes_7 4 rfl rfl)
theorem dX9_passes_170 : decode cX9_passes 170 = .ok (.iload_n 1, 1) := dk_27 (dk_at dksX9_passes_7 5 rfl rfl)
theorem dX9_passes_171 : decode cX9_passes 171 = .ok (.iastore, 1) := dk_79 (dk_at dksX9_passes_7 6 rfl rfl)
theorem dX9_passes_172 : decode cX9_passes 172 = .ok (.aload_n 0, 1) := dk_42 (dk_at dksX9_passes_7 7 rfl rfl)
theorem dX9_passes_173 : decode cX9_passes 173 = .ok (.getfield 7, 3) := dk_180 0 7 (dk_at dksX9_passes_7 8 rfl rfl)
theorem dX9_passes_176 : decode cX9_passes 176 = .ok (.iconst 2, 1) := dk_5 (dk_at dksX9_passes_7 11 rfl rfl)
theorem dX9_passes_177 : decode cX9_passes 177 = .ok (.dup2, 1) := dk_92 (dk_at dksX9_passes_7 12 rfl rfl)
theorem dX9_passes_178 : decode cX9_passes 178 = .ok (.iaload, 1) := dk_46 (dk_at dksX9_passes_7 13 rfl rfl)
theorem dX9_passes_179 : decode cX9_passes 179 = .ok (.iconst 1, 1) := dk_4 (dk_at dksX9_passes_7 14 rfl rfl)
theorem dX9_passes_180 : decode cX9_passes 180 = .ok (.iadd, 1) := dk_96 (dk_at dksX9_passes_7 15 rfl rfl)
theorem dX9_passes_181 : decode cX9_passes 181 = .ok (.iastore, 1) := dk_79 (dk_at dksX9_passes_7 16 rfl rfl)
theorem dX9_passes_182 : decode cX9_passes 182 = .ok (.return_, 1) := dk_177 (dk_at dksX9_passes_7 17 rfl rfl)
abbrev cX9_has : ByteArray := prog_11_method_4_code
def yX9_has : MethodName := ⟨RX9, "has", "(II)Z"⟩
def dkwX9_has_0 : List UInt8 := [26, 27, 122, 4, 126, 4, 160, 0, 7, 4, 167, 0, 4, 3, 172]
abbrev dktX9_has_0 : List UInt8 := dkwX9_has_0 ++ []
theorem dksX9_has_0 : cX9_has.data.toList.drop 0 = dktX9_has_0 := by decide +kernel
theorem dX9_has_0 : decode cX9_has 0 = .ok (.iload_n 0, 1) := dk_26 (dk_at dksX9_has_0 0 rfl rfl)
theorem dX9_has_1 : decode cX9_has 1 = .ok (.iload_n 1, 1) := dk_27 (dk_at dksX9_has_0 1 rfl rfl)
theorem dX9_has_2 : decode cX9_has 2 = .ok (.ishr, 1) := dk_122 (dk_at dksX9_has_0 2 rfl rfl)
theorem dX9_has_3 : decode cX9_has 3 = .ok (.iconst 1, 1) := dk_4 (dk_at dksX9_has_0 3 rfl rfl)
theorem dX9_has_4 : decode cX9_has 4 = .ok (.iand, 1) := dk_126 (dk_at dksX9_has_0 4 rfl rfl)
theorem dX9_has_5 : decode cX9_has 5 = .ok (.iconst 1, 1) := dk_4 (dk_at dksX9_has_0 5 rfl rfl)
theorem dX9_has_6 : decode cX9_has 6 = .ok (.if_icmp .ne 7, 3) := dk_160 0 7 (dk_at dksX9_has_0 6 rfl rfl)
theorem dX9_has_9 : decode cX9_has 9 = .ok (.iconst 1, 1) := dk_4 (dk_at dksX9_has_0 9 rfl rfl)
theorem dX9_has_10 : decode cX9_has 10 = .ok (.goto 4, 3) := dk_167 0 4 (dk_at dksX9_has_0 10 rfl rfl)
theorem dX9_has_13 : decode cX9_has 13 = .ok (.iconst 0, 1) := dk_3 (dk_at dksX9_has_0 13 rfl rfl)
theorem dX9_has_14 : decode cX9_has 14 = .ok (.ireturn, 1) := dk_172 (dk_at dksX9_has_0 14 rfl rfl)
abbrev cX9_move : ByteArray := prog_11_method_35_code
def yX9_move : MethodName := ⟨RX9, "move", "(I)I"⟩
def dkwX9_move_1 : List UInt8 := [182, 0, 125, 42, 180, 0, 7, 16, 10, 27, 96, 46, 172]
abbrev dktX9_move_1 : List UInt8 := dkwX9_move_1 ++ []
def dkwX9_move_0 : List UInt8 := [27, 3, 42, 180, 0, 7, 4, 46, 5, 100, 184, 0, 44, 154, 0, 5, 2, 172, 42, 182, 0, 119, 42, 27]
abbrev dktX9_move_0 : List UInt8 := dkwX9_move_0 ++ dktX9_move_1
theorem dksX9_move_0 : cX9_move.data.toList.drop 0 = dktX9_move_0 := by decide +kernel
theorem dksX9_move_1 : cX9_move.data.toList.drop 24 = dktX9_move_1 := dk_seg dksX9_move_0 24 rfl rfl
theorem dX9_move_0 : decode cX9_move 0 = .ok (.iload_n 1, 1) := dk_27 (dk_at dksX9_move_0 0 rfl rfl)
theorem dX9_move_1 : decode cX9_move 1 = .ok (.iconst 0, 1) := dk_3 (dk_at dksX9_move_0 1 rfl rfl)
theorem dX9_move_2 : decode cX9_move 2 = .ok (.aload_n 0, 1) := dk_42 (dk_at dksX9_move_0 2 rfl rfl)
theorem dX9_move_3 : decode cX9_move 3 = .ok (.getfield 7, 3) := dk_180 0 7 (dk_at dksX9_move_0 3 rfl rfl)
theorem dX9_move_6 : decode cX9_move 6 = .ok (.iconst 1, 1) := dk_4 (dk_at dksX9_move_0 6 rfl rfl)
theorem dX9_move_7 : decode cX9_move 7 = .ok (.iaload, 1) := dk_46 (dk_at dksX9_move_0 7 rfl rfl)
theorem dX9_move_8 : decode cX9_move 8 = .ok (.iconst 2, 1) := dk_5 (dk_at dksX9_move_0 8 rfl rfl)
theorem dX9_move_9 : decode cX9_move 9 = .ok (.isub, 1) := dk_100 (dk_at dksX9_move_0 9 rfl rfl)
theorem dX9_move_10 : decode cX9_move 10 = .ok (.invokestatic 44, 3) := dk_184 0 44 (dk_at dksX9_move_0 10 rfl rfl)
theorem dX9_move_13 : decode cX9_move 13 = .ok (.ifCond .ne 5, 3) := dk_154 0 5 (dk_at dksX9_move_0 13 rfl rfl)
theorem dX9_move_16 : decode cX9_move 16 = .ok (.iconst (-1), 1) := dk_2 (dk_at dksX9_move_0 16 rfl rfl)
theorem dX9_move_17 : decode cX9_move 17 = .ok (.ireturn, 1) := dk_172 (dk_at dksX9_move_0 17 rfl rfl)
theorem dX9_move_18 : decode cX9_move 18 = .ok (.aload_n 0, 1) := dk_42 (dk_at dksX9_move_0 18 rfl rfl)
theorem dX9_move_19 : decode cX9_move 19 = .ok (.invokevirtual 119, 3) := dk_182 0 119 (dk_at dksX9_move_0 19 rfl rfl)
theorem dX9_move_22 : decode cX9_move 22 = .ok (.aload_n 0, 1) := dk_42 (dk_at dksX9_move_0 22 rfl rfl)
theorem dX9_move_23 : decode cX9_move 23 = .ok (.iload_n 1, 1) := dk_27 (dk_at dksX9_move_0 23 rfl rfl)
theorem dX9_move_24 : decode cX9_move 24 = .ok (.invokevirtual 125, 3) := dk_182 0 125 (dk_at dksX9_move_1 0 rfl rfl)
theorem dX9_move_27 : decode cX9_move 27 = .ok (.aload_n 0, 1) := dk_42 (dk_at dksX9_move_1 3 rfl rfl)
theorem dX9_move_28 : decode cX9_move 28 = .ok (.getfield 7, 3) := dk_180 0 7 (dk_at dksX9_move_1 4 rfl rfl)
theorem dX9_move_31 : decode cX9_move 31 = .ok (.bipush 10, 2) := dk_16 10 (dk_at dksX9_move_1 7 rfl rfl)
theorem dX9_move_33 : decode cX9_move 33 = .ok (.iload_n 1, 1) := dk_27 (dk_at dksX9_move_1 9 rfl rfl)
theorem dX9_move_34 : decode cX9_move 34 = .ok (.iadd, 1) := dk_96 (dk_at dksX9_move_1 10 rfl rfl)
theorem dX9_move_35 : decode cX9_move 35 = .ok (.iaload, 1) := dk_46 (dk_at dksX9_move_1 11 rfl rfl)
theorem dX9_move_36 : decode cX9_move 36 = .ok (.ireturn, 1) := dk_172 (dk_at dksX9_move_1 12 rfl rfl)
abbrev cX9_changes : ByteArray := prog_11_method_34_code
def yX9_changes : MethodName := ⟨RX9, "changes", "(I)V"⟩
def dkwX9_changes_1 : List UInt8 := [27, 96, 4, 96, 46, 79, 42, 180, 0, 7, 16, 10, 27, 96, 4, 96, 28, 79, 177]
abbrev dktX9_changes_1 : List UInt8 := dkwX9_changes_1 ++ []
def dkwX9_changes_0 : List UInt8 := [42, 180, 0, 7, 16, 10, 27, 96, 46, 61, 42, 180, 0, 7, 16, 10, 27, 96, 42, 180, 0, 7, 16, 10]
abbrev dktX9_changes_0 : List UInt8 := dkwX9_changes_0 ++ dktX9_changes_1
theorem dksX9_changes_0 : cX9_changes.data.toList.drop 0 = dktX9_changes_0 := by decide +kernel
theorem dksX9_changes_1 : cX9_changes.data.toList.drop 24 = dktX9_changes_1 := dk_seg dksX9_changes_0 24 rfl rfl
theorem dX9_changes_0 : decode cX9_changes 0 = .ok (.aload_n 0, 1) := dk_42 (dk_at dksX9_changes_0 0 rfl rfl)
theorem dX9_changes_1 : decode cX9_changes 1 = .ok (.getfield 7, 3) := dk_180 0 7 (dk_at dksX9_changes_0 1 rfl rfl)
theorem dX9_changes_4 : decode cX9_changes 4 = .ok (.bipush 10, 2) := dk_16 10 (dk_at dksX9_changes_0 4 rfl rfl)
theorem dX9_changes_6 : decode cX9_changes 6 = .ok (.iload_n 1, 1) := dk_27 (dk_at dksX9_changes_0 6 rfl rfl)
theorem dX9_changes_7 : decode cX9_changes 7 = .ok (.iadd, 1) := dk_96 (dk_at dksX9_changes_0 7 rfl rfl)
theorem dX9_changes_8 : decode cX9_changes 8 = .ok (.iaload, 1) := dk_46 (dk_at dksX9_changes_0 8 rfl rfl)
theorem dX9_changes_9 : decode cX9_changes 9 = .ok (.istore_n 2, 1) := dk_61 (dk_at dksX9_changes_0 9 rfl rfl)
theorem dX9_changes_10 : decode cX9_changes 10 = .ok (.aload_n 0, 1) := dk_42 (dk_at dksX9_changes_0 10 rfl rfl)
theorem dX9_changes_11 : decode cX9_changes 11 = .ok (.getfield 7, 3) := dk_180 0 7 (dk_at dksX9_changes_0 11 rfl rfl)
theorem dX9_changes_14 : decode cX9_changes 14 = .ok (.bipush 10, 2) := dk_16 10 (dk_at dksX9_changes_0 14 rfl rfl)
theorem dX9_changes_16 : decode cX9_changes 16 = .ok (.iload_n 1, 1) := dk_27 (dk_at dksX9_changes_0 16 rfl rfl)
theorem dX9_changes_17 : decode cX9_changes 17 = .ok (.iadd, 1) := dk_96 (dk_at dksX9_changes_0 17 rfl rfl)
theorem dX9_changes_18 : decode cX9_changes 18 = .ok (.aload_n 0, 1) := dk_42 (dk_at dksX9_changes_0 18 rfl rfl)
theorem dX9_changes_19 : decode cX9_changes 19 = .ok (.getfield 7, 3) := dk_180 0 7 (dk_at dksX9_changes_0 19 rfl rfl)
theorem dX9_changes_22 : decode cX9_changes 22 = .ok (.bipush 10, 2) := dk_16 10 (dk_at dksX9_changes_0 22 rfl rfl)
theorem dX9_changes_24 : decode cX9_changes 24 = .ok (.iload_n 1, 1) := dk_27 (dk_at dksX9_changes_1 0 rfl rfl)
theorem dX9_changes_25 : decode cX9_changes 25 = .ok (.iadd, 1) := dk_96 (dk_at dksX9_changes_1 1 rfl rfl)
theorem dX9_changes_26 : decode cX9_changes 26 = .ok (.iconst 1, 1) := dk_4 (dk_at dksX9_changes_1 2 rfl rfl)
theorem dX9_changes_27 : decode cX9_changes 27 = .ok (.iadd, 1) := dk_96 (dk_at dksX9_changes_1 3 rfl rfl)
theorem dX9_changes_28 : decode cX9_changes 28 = .ok (.iaload, 1) := dk_46 (dk_at dksX9_changes_1 4 rfl rfl)
theorem dX9_changes_29 : decode cX9_changes 29 = .ok (.iastore, 1) := dk_79 (dk_at dksX9_changes_1 5 rfl rfl)
theorem dX9_changes_30 : decode cX9_changes 30 = .ok (.aload_n 0, 1) := dk_42 (dk_at dksX9_changes_1 6 rfl rfl)
theorem dX9_changes_31 : decode cX9_changes 31 = .ok (.getfield 7, 3) := dk_180 0 7 (dk_at dksX9_changes_1 7 rfl rfl)
theorem dX9_changes_34 : decode cX9_changes 34 = .ok (.bipush 10, 2) := dk_16 10 (dk_at dksX9_changes_1 10 rfl rfl)
theorem dX9_changes_36 : decode cX9_changes 36 = .ok (.iload_n 1, 1) := dk_27 (dk_at dksX9_changes_1 12 rfl rfl)
theorem dX9_changes_37 : decode cX9_changes 37 = .ok (.iadd, 1) := dk_96 (dk_at dksX9_changes_1 13 rfl rfl)
theorem dX9_changes_38 : decode cX9_changes 38 = .ok (.iconst 1, 1) := dk_4 (dk_at dksX9_changes_1 14 rfl rfl)
theorem dX9_changes_39 : decode cX9_changes 39 = .ok (.iadd, 1) := dk_96 (dk_at dksX9_changes_1 15 rfl rfl)
theorem dX9_changes_40 : decode cX9_changes 40 = .ok (.iload_n 2, 1) := dk_28 (dk_at dksX9_changes_1 16 rfl rfl)
theorem dX9_changes_41 : decode cX9_changes 41 = .ok (.iastore, 1) := dk_79 (dk_at dksX9_changes_1 17 rfl rfl)
theorem dX9_changes_42 : decode cX9_changes 42 = .ok (.return_, 1) := dk_177 (dk_at dksX9_changes_1 18 rfl rfl)
abbrev cX9_nurse : ByteArray := prog_11_method_36_code
def yX9_nurse : MethodName := ⟨RX9, "nurse", "(II)I"⟩
def dkwX9_nurse_3 : List UInt8 := [180, 0, 7, 7, 27, 96, 46, 172]
abbrev dktX9_nurse_3 : List UInt8 := dkwX9_nurse_3 ++ []
def dkwX9_nurse_2 : List UInt8 := [96, 62, 42, 180, 0, 7, 7, 27, 96, 29, 16, 60, 164, 0, 8, 16, 60, 167, 0, 4, 29, 79, 42]
abbrev dktX9_nurse_2 : List UInt8 := dkwX9_nurse_2 ++ dktX9_nurse_3
def dkwX9_nurse_1 : List UInt8 := [182, 0, 59, 16, 252, 160, 0, 6, 16, 254, 172, 42, 182, 0, 119, 42, 180, 0, 7, 7, 27, 96, 46, 28]
abbrev dktX9_nurse_1 : List UInt8 := dkwX9_nurse_1 ++ dktX9_nurse_2
def dkwX9_nurse_0 : List UInt8 := [42, 27, 182, 0, 52, 153, 0, 13, 28, 4, 16, 60, 184, 0, 44, 154, 0, 5, 2, 172, 42, 27]
abbrev dktX9_nurse_0 : List UInt8 := dkwX9_nurse_0 ++ dktX9_nurse_1
theorem dksX9_nurse_0 : cX9_nurse.data.toList.drop 0 = dktX9_nurse_0 := by decide +kernel
theorem dksX9_nurse_1 : cX9_nurse.data.toList.drop 22 = dktX9_nurse_1 := dk_seg dksX9_nurse_0 22 rfl rfl
theorem dksX9_nurse_2 : cX9_nurse.data.toList.drop 46 = dktX9_nurse_2 := dk_seg dksX9_nurse_1 24 rfl rfl
theorem dksX9_nurse_3 : cX9_nurse.data.toList.drop 69 = dktX9_nurse_3 := dk_seg dksX9_nurse_2 23 rfl rfl
theorem dX9_nurse_0 : decode cX9_nurse 0 = .ok (.aload_n 0, 1) := dk_42 (dk_at dksX9_nurse_0 0 rfl rfl)
theorem dX9_nurse_1 : decode cX9_nurse 1 = .ok (.iload_n 1, 1) := dk_27 (dk_at dksX9_nurse_0 1 rfl rfl)
theorem dX9_nurse_2 : decode cX9_nurse 2 = .ok (.invokevirtual 52, 3) := dk_182 0 52 (dk_at dksX9_nurse_0 2 rfl rfl)
theorem dX9_nurse_5 : decode cX9_nurse 5 = .ok (.ifCond .eq 13, 3) := dk_153 0 13 (dk_at dksX9_nurse_0 5 rfl rfl)
theorem dX9_nurse_8 : decode cX9_nurse 8 = .ok (.iload_n 2, 1) := dk_28 (dk_at dksX9_nurse_0 8 rfl rfl)
theorem dX9_nurse_9 : decode cX9_nurse 9 = .ok (.iconst 1, 1) := dk_4 (dk_at dksX9_nurse_0 9 rfl rfl)
theorem dX9_nurse_10 : decode cX9_nurse 10 = .ok (.bipush 60, 2) := dk_16 60 (dk_at dksX9_nurse_0 10 rfl rfl)
theorem dX9_nurse_12 : decode cX9_nurse 12 = .ok (.invokestatic 44, 3) := dk_184 0 44 (dk_at dksX9_nurse_0 12 rfl rfl)
theorem dX9_nurse_15 : decode cX9_nurse 15 = .ok (.ifCond .ne 5, 3) := dk_154 0 5 (dk_at dksX9_nurse_0 15 rfl rfl)
theorem dX9_nurse_18 : decode cX9_nurse 18 = .ok (.iconst (-1), 1) := dk_2 (dk_at dksX9_nurse_0 18 rfl rfl)
theorem dX9_nurse_19 : decode cX9_nurse 19 = .ok (.ireturn, 1) := dk_172 (dk_at dksX9_nurse_0 19 rfl rfl)
theorem dX9_nurse_20 : decode cX9_nurse 20 = .ok (.aload_n 0, 1) := dk_42 (dk_at dksX9_nurse_0 20 rfl rfl)
theorem dX9_nurse_21 : decode cX9_nurse 21 = .ok (.iload_n 1, 1) := dk_27 (dk_at dksX9_nurse_0 21 rfl rfl)
theorem dX9_nurse_22 : decode cX9_nurse 22 = .ok (.invokevirtual 59, 3) := dk_182 0 59 (dk_at dksX9_nurse_1 0 rfl rfl)
theorem dX9_nurse_25 : decode cX9_nurse 25 = .ok (.bipush (-4), 2) := dk_16 252 (dk_at dksX9_nurse_1 3 rfl rfl)
theorem dX9_nurse_27 : decode cX9_nurse 27 = .ok (.if_icmp .ne 6, 3) := dk_160 0 6 (dk_at dksX9_nurse_1 5 rfl rfl)
theorem dX9_nurse_30 : decode cX9_nurse 30 = .ok (.bipush (-2), 2) := dk_16 254 (dk_at dksX9_nurse_1 8 rfl rfl)
theorem dX9_nurse_32 : decode cX9_nurse 32 = .ok (.ireturn, 1) := dk_172 (dk_at dksX9_nurse_1 10 rfl rfl)
theorem dX9_nurse_33 : decode cX9_nurse 33 = .ok (.aload_n 0, 1) := dk_42 (dk_at dksX9_nurse_1 11 rfl rfl)
theorem dX9_nurse_34 : decode cX9_nurse 34 = .ok (.invokevirtual 119, 3) := dk_182 0 119 (dk_at dksX9_nurse_1 12 rfl rfl)
theorem dX9_nurse_37 : decode cX9_nurse 37 = .ok (.aload_n 0, 1) := dk_42 (dk_at dksX9_nurse_1 15 rfl rfl)
theorem dX9_nurse_38 : decode cX9_nurse 38 = .ok (.getfield 7, 3) := dk_180 0 7 (dk_at dksX9_nurse_1 16 rfl rfl)
theorem dX9_nurse_41 : decode cX9_nurse 41 = .ok (.iconst 4, 1) := dk_7 (dk_at dksX9_nurse_1 19 rfl rfl)
theorem dX9_nurse_42 : decode cX9_nurse 42 = .ok (.iload_n 1, 1) := dk_27 (dk_at dksX9_nurse_1 20 rfl rfl)
theorem dX9_nurse_43 : decode cX9_nurse 43 = .ok (.iadd, 1) := dk_96 (dk_at dksX9_nurse_1 21 rfl rfl)
theorem dX9_nurse_44 : decode cX9_nurse 44 = .ok (.iaload, 1) := dk_46 (dk_at dksX9_nurse_1 22 rfl rfl)
theorem dX9_nurse_45 : decode cX9_nurse 45 = .ok (.iload_n 2, 1) := dk_28 (dk_at dksX9_nurse_1 23 rfl rfl)
theorem dX9_nurse_46 : decode cX9_nurse 46 = .ok (.iadd, 1) := dk_96 (dk_at dksX9_nurse_2 0 rfl rfl)
theorem dX9_nurse_47 : decode cX9_nurse 47 = .ok (.istore_n 3, 1) := dk_62 (dk_at dksX9_nurse_2 1 rfl rfl)
theorem dX9_nurse_48 : decode cX9_nurse 48 = .ok (.aload_n 0, 1) := dk_42 (dk_at dksX9_nurse_2 2 rfl rfl)
theorem dX9_nurse_49 : decode cX9_nurse 49 = .ok (.getfield 7, 3) := dk_180 0 7 (dk_at dksX9_nurse_2 3 rfl rfl)
theorem dX9_nurse_52 : decode cX9_nurse 52 = .ok (.iconst 4, 1) := dk_7 (dk_at dksX9_nurse_2 6 rfl rfl)
theorem dX9_nurse_53 : decode cX9_nurse 53 = .ok (.iload_n 1, 1) := dk_27 (dk_at dksX9_nurse_2 7 rfl rfl)
theorem dX9_nurse_54 : decode cX9_nurse 54 = .ok (.iadd, 1) := dk_96 (dk_at dksX9_nurse_2 8 rfl rfl)
theorem dX9_nurse_55 : decode cX9_nurse 55 = .ok (.iload_n 3, 1) := dk_29 (dk_at dksX9_nurse_2 9 rfl rfl)
theorem dX9_nurse_56 : decode cX9_nurse 56 = .ok (.bipush 60, 2) := dk_16 60 (dk_at dksX9_nurse_2 10 rfl rfl)
theorem dX9_nurse_58 : decode cX9_nurse 58 = .ok (.if_icmp .le 8, 3) := dk_164 0 8 (dk_at dksX9_nurse_2 12 rfl rfl)
theorem dX9_nurse_61 : decode cX9_nurse 61 = .ok (.bipush 60, 2) := dk_16 60 (dk_at dksX9_nurse_2 15 rfl rfl)
theorem dX9_nurse_63 : decode cX9_nurse 63 = .ok (.goto 4, 3) := dk_167 0 4 (dk_at dksX9_nurse_2 17 rfl rfl)
theorem dX9_nurse_66 : decode cX9_nurse 66 = .ok (.iload_n 3, 1) := dk_29 (dk_at dksX9_nurse_2 20 rfl rfl)
theorem dX9_nurse_67 : decode cX9_nurse 67 = .ok (.iastore, 1) := dk_79 (dk_at dksX9_nurse_2 21 rfl rfl)
theorem dX9_nurse_68 : decode cX9_nurse 68 = .ok (.aload_n 0, 1) := dk_42 (dk_at dksX9_nurse_2 22 rfl rfl)
theorem dX9_nurse_69 : decode cX9_nurse 69 = .ok (.getfield 7, 3) := dk_180 0 7 (dk_at dksX9_nurse_3 0 rfl rfl)
theorem dX9_nurse_72 : decode cX9_nurse 72 = .ok (.iconst 4, 1) := dk_7 (dk_at dksX9_nurse_3 3 rfl rfl)
theorem dX9_nurse_73 : decode cX9_nurse 73 = .ok (.iload_n 1, 1) := dk_27 (dk_at dksX9_nurse_3 4 rfl rfl)
theorem dX9_nurse_74 : decode cX9_nurse 74 = .ok (.iadd, 1) := dk_96 (dk_at dksX9_nurse_3 5 rfl rfl)
theorem dX9_nurse_75 : decode cX9_nurse 75 = .ok (.iaload, 1) := dk_46 (dk_at dksX9_nurse_3 6 rfl rfl)
theorem dX9_nurse_76 : decode cX9_nurse 76 = .ok (.ireturn, 1) := dk_172 (dk_at dksX9_nurse_3 7 rfl rfl)
abbrev cX9_drift : ByteArray := prog_11_method_37_code
def yX9_drift : MethodName := ⟨RX9, "drift", "(I)I"⟩
def dkwX9_drift_4 : List UInt8 := [182, 0, 125, 42, 182, 0, 122, 132, 2, 1, 167, 255, 186, 42, 182, 0, 75, 172]
abbrev dktX9_drift_4 : List UInt8 := dkwX9_drift_4 ++ []
def dkwX9_drift_3 : List UInt8 := [164, 0, 25, 42, 42, 180, 0, 7, 6, 46, 18, 131, 108, 42, 180, 0, 7, 4, 46, 4, 100, 112]
abbrev dktX9_drift_3 : List UInt8 := dkwX9_drift_3 ++ dktX9_drift_4
def dkwX9_drift_2 : List UInt8 := [180, 0, 7, 6, 46, 18, 129, 104, 17, 48, 57, 96, 18, 130, 126, 79, 42, 180, 0, 7, 4, 46, 4]
abbrev dktX9_drift_2 : List UInt8 := dkwX9_drift_2 ++ dktX9_drift_3
def dkwX9_drift_1 : List UInt8 := [164, 0, 6, 16, 253, 172, 3, 61, 28, 27, 162, 0, 71, 42, 182, 0, 119, 42, 180, 0, 7, 6, 42]
abbrev dktX9_drift_1 : List UInt8 := dkwX9_drift_1 ++ dktX9_drift_2
def dkwX9_drift_0 : List UInt8 := [27, 4, 16, 40, 184, 0, 44, 154, 0, 5, 2, 172, 42, 180, 0, 7, 5, 46, 27, 96, 17, 39, 15]
abbrev dktX9_drift_0 : List UInt8 := dkwX9_drift_0 ++ dktX9_drift_1
theorem dksX9_drift_0 : cX9_drift.data.toList.drop 0 = dktX9_drift_0 := by decide +kernel
theorem dksX9_drift_1 : cX9_drift.data.toList.drop 23 = dktX9_drift_1 := dk_seg dksX9_drift_0 23 rfl rfl
theorem dksX9_drift_2 : cX9_drift.data.toList.drop 46 = dktX9_drift_2 := dk_seg dksX9_drift_1 23 rfl rfl
theorem dksX9_drift_3 : cX9_drift.data.toList.drop 69 = dktX9_drift_3 := dk_seg dksX9_drift_2 23 rfl rfl
theorem dksX9_drift_4 : cX9_drift.data.toList.drop 91 = dktX9_drift_4 := dk_seg dksX9_drift_3 22 rfl rfl
theorem dX9_drift_0 : decode cX9_drift 0 = .ok (.iload_n 1, 1) := dk_27 (dk_at dksX9_drift_0 0 rfl rfl)
theorem dX9_drift_1 : decode cX9_drift 1 = .ok (.iconst 1, 1) := dk_4 (dk_at dksX9_drift_0 1 rfl rfl)
theorem dX9_drift_2 : decode cX9_drift 2 = .ok (.bipush 40, 2) := dk_16 40 (dk_at dksX9_drift_0 2 rfl rfl)
theorem dX9_drift_4 : decode cX9_drift 4 = .ok (.invokestatic 44, 3) := dk_184 0 44 (dk_at dksX9_drift_0 4 rfl rfl)
theorem dX9_drift_7 : decode cX9_drift 7 = .ok (.ifCond .ne 5, 3) := dk_154 0 5 (dk_at dksX9_drift_0 7 rfl rfl)
theorem dX9_drift_10 : decode cX9_drift 10 = .ok (.iconst (-1), 1) := dk_2 (dk_at dksX9_drift_0 10 rfl rfl)
theorem dX9_drift_11 : decode cX9_drift 11 = .ok (.ireturn, 1) := dk_172 (dk_at dksX9_drift_0 11 rfl rfl)
theorem dX9_drift_12 : decode cX9_drift 12 = .ok (.aload_n 0, 1) := dk_42 (dk_at dksX9_drift_0 12 rfl rfl)
theorem dX9_drift_13 : decode cX9_drift 13 = .ok (.getfield 7, 3) := dk_180 0 7 (dk_at dksX9_drift_0 13 rfl rfl)
theorem dX9_drift_16 : decode cX9_drift 16 = .ok (.iconst 2, 1) := dk_5 (dk_at dksX9_drift_0 16 rfl rfl)
theorem dX9_drift_17 : decode cX9_drift 17 = .ok (.iaload, 1) := dk_46 (dk_at dksX9_drift_0 17 rfl rfl)
theorem dX9_drift_18 : decode cX9_drift 18 = .ok (.iload_n 1, 1) := dk_27 (dk_at dksX9_drift_0 18 rfl rfl)
theorem dX9_drift_19 : decode cX9_drift 19 = .ok (.iadd, 1) := dk_96 (dk_at dksX9_drift_0 19 rfl rfl)
theorem dX9_drift_20 : decode cX9_drift 20 = .ok (.sipush 9999, 3) := dk_17 39 15 (dk_at dksX9_drift_0 20 rfl rfl)
theorem dX9_drift_23 : decode cX9_drift 23 = .ok (.if_icmp .le 6, 3) := dk_164 0 6 (dk_at dksX9_drift_1 0 rfl rfl)
theorem dX9_drift_26 : decode cX9_drift 26 = .ok (.bipush (-3), 2) := dk_16 253 (dk_at dksX9_drift_1 3 rfl rfl)
theorem dX9_drift_28 : decode cX9_drift 28 = .ok (.ireturn, 1) := dk_172 (dk_at dksX9_drift_1 5 rfl rfl)
theorem dX9_drift_29 : decode cX9_drift 29 = .ok (.iconst 0, 1) := dk_3 (dk_at dksX9_drift_1 6 rfl rfl)
theorem dX9_drift_30 : decode cX9_drift 30 = .ok (.istore_n 2, 1) := dk_61 (dk_at dksX9_drift_1 7 rfl rfl)
theorem dX9_drift_31 : decode cX9_drift 31 = .ok (.iload_n 2, 1) := dk_28 (dk_at dksX9_drift_1 8 rfl rfl)
theorem dX9_drift_32 : decode cX9_drift 32 = .ok (.iload_n 1, 1) := dk_27 (dk_at dksX9_drift_1 9 rfl rfl)
theorem dX9_drift_33 : decode cX9_drift 33 = .ok (.if_icmp .ge 71, 3) := dk_162 0 71 (dk_at dksX9_drift_1 10 rfl rfl)
theorem dX9_drift_36 : decode cX9_drift 36 = .ok (.aload_n 0, 1) := dk_42 (dk_at dksX9_drift_1 13 rfl rfl)
theorem dX9_drift_37 : decode cX9_drift 37 = .ok (.invokevirtual 119, 3) := dk_182 0 119 (dk_at dksX9_drift_1 14 rfl rfl)
theorem dX9_drift_40 : decode cX9_drift 40 = .ok (.aload_n 0, 1) := dk_42 (dk_at dksX9_drift_1 17 rfl rfl)
theorem dX9_drift_41 : decode cX9_drift 41 = .ok (.getfield 7, 3) := dk_180 0 7 (dk_at dksX9_drift_1 18 rfl rfl)
theorem dX9_drift_44 : decode cX9_drift 44 = .ok (.iconst 3, 1) := dk_6 (dk_at dksX9_drift_1 21 rfl rfl)
theorem dX9_drift_45 : decode cX9_drift 45 = .ok (.aload_n 0, 1) := dk_42 (dk_at dksX9_drift_1 22 rfl rfl)
theorem dX9_drift_46 : decode cX9_drift 46 = .ok (.getfield 7, 3) := dk_180 0 7 (dk_at dksX9_drift_2 0 rfl rfl)
theorem dX9_drift_49 : decode cX9_drift 49 = .ok (.iconst 3, 1) := dk_6 (dk_at dksX9_drift_2 3 rfl rfl)
theorem dX9_drift_50 : decode cX9_drift 50 = .ok (.iaload, 1) := dk_46 (dk_at dksX9_drift_2 4 rfl rfl)
theorem dX9_drift_51 : decode cX9_drift 51 = .ok (.ldc 129, 2) := dk_18 129 (dk_at dksX9_drift_2 5 rfl rfl)
theorem dX9_drift_53 : decode cX9_drift 53 = .ok (.imul, 1) := dk_104 (dk_at dksX9_drift_2 7 rfl rfl)
theorem dX9_drift_54 : decode cX9_drift 54 = .ok (.sipush 12345, 3) := dk_17 48 57 (dk_at dksX9_drift_2 8 rfl rfl)
theorem dX9_drift_57 : decode cX9_drift 57 = .ok (.iadd, 1) := dk_96 (dk_at dksX9_drift_2 11 rfl rfl)
theorem dX9_drift_58 : decode cX9_drift 58 = .ok (.ldc 130, 2) := dk_18 130 (dk_at dksX9_drift_2 12 rfl rfl)
theorem dX9_drift_60 : decode cX9_drift 60 = .ok (.iand, 1) := dk_126 (dk_at dksX9_drift_2 14 rfl rfl)
theorem dX9_drift_61 : decode cX9_drift 61 = .ok (.iastore, 1) := dk_79 (dk_at dksX9_drift_2 15 rfl rfl)
theorem dX9_drift_62 : decode cX9_drift 62 = .ok (.aload_n 0, 1) := dk_42 (dk_at dksX9_drift_2 16 rfl rfl)
theorem dX9_drift_63 : decode cX9_drift 63 = .ok (.getfield 7, 3) := dk_180 0 7 (dk_at dksX9_drift_2 17 rfl rfl)
theorem dX9_drift_66 : decode cX9_drift 66 = .ok (.iconst 1, 1) := dk_4 (dk_at dksX9_drift_2 20 rfl rfl)
theorem dX9_drift_67 : decode cX9_drift 67 = .ok (.iaload, 1) := dk_46 (dk_at dksX9_drift_2 21 rfl rfl)
theorem dX9_drift_68 : decode cX9_drift 68 = .ok (.iconst 1, 1) := dk_4 (dk_at dksX9_drift_2 22 rfl rfl)
theorem dX9_drift_69 : decode cX9_drift 69 = .ok (.if_icmp .le 25, 3) := dk_164 0 25 (dk_at dksX9_drift_3 0 rfl rfl)
theorem dX9_drift_72 : decode cX9_drift 72 = .ok (.aload_n 0, 1) := dk_42 (dk_at dksX9_drift_3 3 rfl rfl)
theorem dX9_drift_73 : decode cX9_drift 73 = .ok (.aload_n 0, 1) := dk_42 (dk_at dksX9_drift_3 4 rfl rfl)
theorem dX9_drift_74 : decode cX9_drift 74 = .ok (.getfield 7, 3) := dk_180 0 7 (dk_at dksX9_drift_3 5 rfl rfl)
theorem dX9_drift_77 : decode cX9_drift 77 = .ok (.iconst 3, 1) := dk_6 (dk_at dksX9_drift_3 8 rfl rfl)
theorem dX9_drift_78 : decode cX9_drift 78 = .ok (.iaload, 1) := dk_46 (dk_at dksX9_drift_3 9 rfl rfl)
theorem dX9_drift_79 : decode cX9_drift 79 = .ok (.ldc 131, 2) := dk_18 131 (dk_at dksX9_drift_3 10 rfl rfl)
theorem dX9_drift_81 : decode cX9_drift 81 = .ok (.idiv, 1) := dk_108 (dk_at dksX9_drift_3 12 rfl rfl)
theorem dX9_drift_82 : decode cX9_drift 82 = .ok (.aload_n 0, 1) := dk_42 (dk_at dksX9_drift_3 13 rfl rfl)
theorem dX9_drift_83 : decode cX9_drift 83 = .ok (.getfield 7, 3) := dk_180 0 7 (dk_at dksX9_drift_3 14 rfl rfl)
theorem dX9_drift_86 : decode cX9_drift 86 = .ok (.iconst 1, 1) := dk_4 (dk_at dksX9_drift_3 17 rfl rfl)
theorem dX9_drift_87 : decode cX9_drift 87 = .ok (.iaload, 1) := dk_46 (dk_at dksX9_drift_3 18 rfl rfl)
theorem dX9_drift_88 : decode cX9_drift 88 = .ok (.iconst 1, 1) := dk_4 (dk_at dksX9_drift_3 19 rfl rfl)
theorem dX9_drift_89 : decode cX9_drift 89 = .ok (.isub, 1) := dk_100 (dk_at dksX9_drift_3 20 rfl rfl)
theorem dX9_drift_90 : decode cX9_drift 90 = .ok (.irem, 1) := dk_112 (dk_at dksX9_drift_3 21 rfl rfl)
theorem dX9_drift_91 : decode cX9_drift 91 = .ok (.invokevirtual 125, 3) := dk_182 0 125 (dk_at dksX9_drift_4 0 rfl rfl)
theorem dX9_drift_94 : decode cX9_drift 94 = .ok (.aload_n 0, 1) := dk_42 (dk_at dksX9_drift_4 3 rfl rfl)
theorem dX9_drift_95 : decode cX9_drift 95 = .ok (.invokevirtual 122, 3) := dk_182 0 122 (dk_at dksX9_drift_4 4 rfl rfl)
theorem dX9_drift_98 : decode cX9_drift 98 = .ok (.iinc 2 1, 3) := dk_132 2 1 (dk_at dksX9_drift_4 7 rfl rfl)
theorem dX9_drift_101 : decode cX9_drift 101 = .ok (.goto (-70), 3) := dk_167 255 186 (dk_at dksX9_drift_4 10 rfl rfl)
theorem dX9_drift_104 : decode cX9_drift 104 = .ok (.aload_n 0, 1) := dk_42 (dk_at dksX9_drift_4 13 rfl rfl)
theorem dX9_drift_105 : decode cX9_drift 105 = .ok (.invokevirtual 75, 3) := dk_182 0 75 (dk_at dksX9_drift_4 14 rfl rfl)
theorem dX9_drift_108 : decode cX9_drift 108 = .ok (.ireturn, 1) := dk_172 (dk_at dksX9_drift_4 17 rfl rfl)
abbrev cX9_undo : ByteArray := prog_11_method_38_code
def yX9_undo : MethodName := ⟨RX9, "undo", "()I"⟩
def dkwX9_undo_3 : List UInt8 := [46, 172]
abbrev dktX9_undo_3 : List UInt8 := dkwX9_undo_3 ++ []
def dkwX9_undo_2 : List UInt8 := [180, 0, 7, 16, 40, 46, 104, 96, 27, 96, 46, 79, 132, 1, 1, 167, 255, 219, 42, 180, 0, 7, 16, 40]
abbrev dktX9_undo_2 : List UInt8 := dkwX9_undo_2 ++ dktX9_undo_3
def dkwX9_undo_1 : List UInt8 := [3, 60, 27, 16, 15, 162, 0, 37, 42, 180, 0, 7, 4, 27, 96, 42, 180, 0, 7, 16, 41, 16, 15, 42]
abbrev dktX9_undo_1 : List UInt8 := dkwX9_undo_1 ++ dktX9_undo_2
def dkwX9_undo_0 : List UInt8 := [42, 180, 0, 7, 16, 40, 46, 154, 0, 6, 16, 252, 172, 42, 180, 0, 7, 16, 40, 92, 46, 4, 100, 79]
abbrev dktX9_undo_0 : List UInt8 := dkwX9_undo_0 ++ dktX9_undo_1
theorem dksX9_undo_0 : cX9_undo.data.toList.drop 0 = dktX9_undo_0 := by decide +kernel
theorem dksX9_undo_1 : cX9_undo.data.toList.drop 24 = dktX9_undo_1 := dk_seg dksX9_undo_0 24 rfl rfl
theorem dksX9_undo_2 : cX9_undo.data.toList.drop 48 = dktX9_undo_2 := dk_seg dksX9_undo_1 24 rfl rfl
theorem dksX9_undo_3 : cX9_undo.data.toList.drop 72 = dktX9_undo_3 := dk_seg dksX9_undo_2 24 rfl rfl
theorem dX9_undo_0 : decode cX9_undo 0 = .ok (.aload_n 0, 1) := dk_42 (dk_at dksX9_undo_0 0 rfl rfl)
theorem dX9_undo_1 : decode cX9_undo 1 = .ok (.getfield 7, 3) := dk_180 0 7 (dk_at dksX9_undo_0 1 rfl rfl)
theorem dX9_undo_4 : decode cX9_undo 4 = .ok (.bipush 40, 2) := dk_16 40 (dk_at dksX9_undo_0 4 rfl rfl)
theorem dX9_undo_6 : decode cX9_undo 6 = .ok (.iaload, 1) := dk_46 (dk_at dksX9_undo_0 6 rfl rfl)
theorem dX9_undo_7 : decode cX9_undo 7 = .ok (.ifCond .ne 6, 3) := dk_154 0 6 (dk_at dksX9_undo_0 7 rfl rfl)
theorem dX9_undo_10 : decode cX9_undo 10 = .ok (.bipush (-4), 2) := dk_16 252 (dk_at dksX9_undo_0 10 rfl rfl)
theorem dX9_undo_12 : decode cX9_undo 12 = .ok (.ireturn, 1) := dk_172 (dk_at dksX9_undo_0 12 rfl rfl)
theorem dX9_undo_13 : decode cX9_undo 13 = .ok (.aload_n 0, 1) := dk_42 (dk_at dksX9_undo_0 13 rfl rfl)
theorem dX9_undo_14 : decode cX9_undo 14 = .ok (.getfield 7, 3) := dk_180 0 7 (dk_at dksX9_undo_0 14 rfl rfl)
theorem dX9_undo_17 : decode cX9_undo 17 = .ok (.bipush 40, 2) := dk_16 40 (dk_at dksX9_undo_0 17 rfl rfl)
theorem dX9_undo_19 : decode cX9_undo 19 = .ok (.dup2, 1) := dk_92 (dk_at dksX9_undo_0 19 rfl rfl)
theorem dX9_undo_20 : decode cX9_undo 20 = .ok (.iaload, 1) := dk_46 (dk_at dksX9_undo_0 20 rfl rfl)
theorem dX9_undo_21 : decode cX9_undo 21 = .ok (.iconst 1, 1) := dk_4 (dk_at dksX9_undo_0 21 rfl rfl)
theorem dX9_undo_22 : decode cX9_undo 22 = .ok (.isub, 1) := dk_100 (dk_at dksX9_undo_0 22 rfl rfl)
theorem dX9_undo_23 : decode cX9_undo 23 = .ok (.iastore, 1) := dk_79 (dk_at dksX9_undo_0 23 rfl rfl)
theorem dX9_undo_24 : decode cX9_undo 24 = .ok (.iconst 0, 1) := dk_3 (dk_at dksX9_undo_1 0 rfl rfl)
theorem dX9_undo_25 : decode cX9_undo 25 = .ok (.istore_n 1, 1) := dk_60 (dk_at dksX9_undo_1 1 rfl rfl)
theorem dX9_undo_26 : decode cX9_undo 26 = .ok (.iload_n 1, 1) := dk_27 (dk_at dksX9_undo_1 2 rfl rfl)
theorem dX9_undo_27 : decode cX9_undo 27 = .ok (.bipush 15, 2) := dk_16 15 (dk_at dksX9_undo_1 3 rfl rfl)
theorem dX9_undo_29 : decode cX9_undo 29 = .ok (.if_icmp .ge 37, 3) := dk_162 0 37 (dk_at dksX9_undo_1 5 rfl rfl)
theorem dX9_undo_32 : decode cX9_undo 32 = .ok (.aload_n 0, 1) := dk_42 (dk_at dksX9_undo_1 8 rfl rfl)
theorem dX9_undo_33 : decode cX9_undo 33 = .ok (.getfield 7, 3) := dk_180 0 7 (dk_at dksX9_undo_1 9 rfl rfl)
theorem dX9_undo_36 : decode cX9_undo 36 = .ok (.iconst 1, 1) := dk_4 (dk_at dksX9_undo_1 12 rfl rfl)
theorem dX9_undo_37 : decode cX9_undo 37 = .ok (.iload_n 1, 1) := dk_27 (dk_at dksX9_undo_1 13 rfl rfl)
theorem dX9_undo_38 : decode cX9_undo 38 = .ok (.iadd, 1) := dk_96 (dk_at dksX9_undo_1 14 rfl rfl)
theorem dX9_undo_39 : decode cX9_undo 39 = .ok (.aload_n 0, 1) := dk_42 (dk_at dksX9_undo_1 15 rfl rfl)
theorem dX9_undo_40 : decode cX9_undo 40 = .ok (.getfield 7, 3) := dk_180 0 7 (dk_at dksX9_undo_1 16 rfl rfl)
theorem dX9_undo_43 : decode cX9_undo 43 = .ok (.bipush 41, 2) := dk_16 41 (dk_at dksX9_undo_1 19 rfl rfl)
theorem dX9_undo_45 : decode cX9_undo 45 = .ok (.bipush 15, 2) := dk_16 15 (dk_at dksX9_undo_1 21 rfl rfl)
theorem dX9_undo_47 : decode cX9_undo 47 = .ok (.aload_n 0, 1) := dk_42 (dk_at dksX9_undo_1 23 rfl rfl)
theorem dX9_undo_48 : decode cX9_undo 48 = .ok (.getfield 7, 3) := dk_180 0 7 (dk_at dksX9_undo_2 0 rfl rfl)
theorem dX9_undo_51 : decode cX9_undo 51 = .ok (.bipush 40, 2) := dk_16 40 (dk_at dksX9_undo_2 3 rfl rfl)
theorem dX9_undo_53 : decode cX9_undo 53 = .ok (.iaload, 1) := dk_46 (dk_at dksX9_undo_2 5 rfl rfl)
theorem dX9_undo_54 : decode cX9_undo 54 = .ok (.imul, 1) := dk_104 (dk_at dksX9_undo_2 6 rfl rfl)
theorem dX9_undo_55 : decode cX9_undo 55 = .ok (.iadd, 1) := dk_96 (dk_at dksX9_undo_2 7 rfl rfl)
theorem dX9_undo_56 : decode cX9_undo 56 = .ok (.iload_n 1, 1) := dk_27 (dk_at dksX9_undo_2 8 rfl rfl)
theorem dX9_undo_57 : decode cX9_undo 57 = .ok (.iadd, 1) := dk_96 (dk_at dksX9_undo_2 9 rfl rfl)
theorem dX9_undo_58 : decode cX9_undo 58 = .ok (.iaload, 1) := dk_46 (dk_at dksX9_undo_2 10 rfl rfl)
theorem dX9_undo_59 : decode cX9_undo 59 = .ok (.iastore, 1) := dk_79 (dk_at dksX9_undo_2 11 rfl rfl)
theorem dX9_undo_60 : decode cX9_undo 60 = .ok (.iinc 1 1, 3) := dk_132 1 1 (dk_at dksX9_undo_2 12 rfl rfl)
theorem dX9_undo_63 : decode cX9_undo 63 = .ok (.goto (-37), 3) := dk_167 255 219 (dk_at dksX9_undo_2 15 rfl rfl)
theorem dX9_undo_66 : decode cX9_undo 66 = .ok (.aload_n 0, 1) := dk_42 (dk_at dksX9_undo_2 18 rfl rfl)
theorem dX9_undo_67 : decode cX9_undo 67 = .ok (.getfield 7, 3) := dk_180 0 7 (dk_at dksX9_undo_2 19 rfl rfl)
theorem dX9_undo_70 : decode cX9_undo 70 = .ok (.bipush 40, 2) := dk_16 40 (dk_at dksX9_undo_2 22 rfl rfl)
theorem dX9_undo_72 : decode cX9_undo 72 = .ok (.iaload, 1) := dk_46 (dk_at dksX9_undo_3 0 rfl rfl)
theorem dX9_undo_73 : decode cX9_undo 73 = .ok (.ireturn, 1) := dk_172 (dk_at dksX9_undo_3 1 rfl rfl)
abbrev cX9_seed : ByteArray := prog_11_method_39_code
def yX9_seed : MethodName := ⟨RX9, "seed", "(I)I"⟩
def dkwX9_seed_0 : List UInt8 := [27, 156, 0, 5, 2, 172, 42, 180, 0, 7, 6, 46, 61, 42, 180, 0, 7, 6, 27, 79, 28, 172]
abbrev dktX9_seed_0 : List UInt8 := dkwX9_seed_0 ++ []
theorem dksX9_seed_0 : cX9_seed.data.toList.drop 0 = dktX9_seed_0 := by decide +kernel
theorem dX9_seed_0 : decode cX9_seed 0 = .ok (.iload_n 1, 1) := dk_27 (dk_at dksX9_seed_0 0 rfl rfl)
theorem dX9_seed_1 : decode cX9_seed 1 = .ok (.ifCond .ge 5, 3) := dk_156 0 5 (dk_at dksX9_seed_0 1 rfl rfl)
theorem dX9_seed_4 : decode cX9_seed 4 = .ok (.iconst (-1), 1) := dk_2 (dk_at dksX9_seed_0 4 rfl rfl)
theorem dX9_seed_5 : decode cX9_seed 5 = .ok (.ireturn, 1) := dk_172 (dk_at dksX9_seed_0 5 rfl rfl)
theorem dX9_seed_6 : decode cX9_seed 6 = .ok (.aload_n 0, 1) := dk_42 (dk_at dksX9_seed_0 6 rfl rfl)
theorem dX9_seed_7 : decode cX9_seed 7 = .ok (.getfield 7, 3) := dk_180 0 7 (dk_at dksX9_seed_0 7 rfl rfl)
theorem dX9_seed_10 : decode cX9_seed 10 = .ok (.iconst 3, 1) := dk_6 (dk_at dksX9_seed_0 10 rfl rfl)
theorem dX9_seed_11 : decode cX9_seed 11 = .ok (.iaload, 1) := dk_46 (dk_at dksX9_seed_0 11 rfl rfl)
theorem dX9_seed_12 : decode cX9_seed 12 = .ok (.istore_n 2, 1) := dk_61 (dk_at dksX9_seed_0 12 rfl rfl)
theorem dX9_seed_13 : decode cX9_seed 13 = .ok (.aload_n 0, 1) := dk_42 (dk_at dksX9_seed_0 13 rfl rfl)
theorem dX9_seed_14 : decode cX9_seed 14 = .ok (.getfield 7, 3) := dk_180 0 7 (dk_at dksX9_seed_0 14 rfl rfl)
theorem dX9_seed_17 : decode cX9_seed 17 = .ok (.iconst 3, 1) := dk_6 (dk_at dksX9_seed_0 17 rfl rfl)
theorem dX9_seed_18 : decode cX9_seed 18 = .ok (.iload_n 1, 1) := dk_27 (dk_at dksX9_seed_0 18 rfl rfl)
theorem dX9_seed_19 : decode cX9_seed 19 = .ok (.iastore, 1) := dk_79 (dk_at dksX9_seed_0 19 rfl rfl)
theorem dX9_seed_20 : decode cX9_seed 20 = .ok (.iload_n 2, 1) := dk_28 (dk_at dksX9_seed_0 20 rfl rfl)
theorem dX9_seed_21 : decode cX9_seed 21 = .ok (.ireturn, 1) := dk_172 (dk_at dksX9_seed_0 21 rfl rfl)
abbrev cX9_ahead : ByteArray := prog_11_method_42_code
def yX9_ahead : MethodName := ⟨RX9, "ahead", "(II)I"⟩
def dkwX9_ahead_2 : List UInt8 := [46, 62, 42, 182, 0, 135, 29, 172]
abbrev dktX9_ahead_2 : List UInt8 := dkwX9_ahead_2 ++ []
def dkwX9_ahead_1 : List UInt8 := [3, 62, 29, 28, 162, 0, 13, 42, 182, 0, 122, 132, 3, 1, 167, 255, 244, 42, 180, 0, 7, 7, 27, 96]
abbrev dktX9_ahead_1 : List UInt8 := dkwX9_ahead_1 ++ dktX9_ahead_2
def dkwX9_ahead_0 : List UInt8 := [42, 27, 182, 0, 52, 153, 0, 13, 28, 3, 16, 60, 184, 0, 44, 154, 0, 5, 2, 172, 42, 182, 0, 132]
abbrev dktX9_ahead_0 : List UInt8 := dkwX9_ahead_0 ++ dktX9_ahead_1
theorem dksX9_ahead_0 : cX9_ahead.data.toList.drop 0 = dktX9_ahead_0 := by decide +kernel
theorem dksX9_ahead_1 : cX9_ahead.data.toList.drop 24 = dktX9_ahead_1 := dk_seg dksX9_ahead_0 24 rfl rfl
theorem dksX9_ahead_2 : cX9_ahead.data.toList.drop 48 = dktX9_ahead_2 := dk_seg dksX9_ahead_1 24 rfl rfl
theorem dX9_ahead_0 : decode cX9_ahead 0 = .ok (.aload_n 0, 1) := dk_42 (dk_at dksX9_ahead_0 0 rfl rfl)
theorem dX9_ahead_1 : decode cX9_ahead 1 = .ok (.iload_n 1, 1) := dk_27 (dk_at dksX9_ahead_0 1 rfl rfl)
theorem dX9_ahead_2 : decode cX9_ahead 2 = .ok (.invokevirtual 52, 3) := dk_182 0 52 (dk_at dksX9_ahead_0 2 rfl rfl)
theorem dX9_ahead_5 : decode cX9_ahead 5 = .ok (.ifCond .eq 13, 3) := dk_153 0 13 (dk_at dksX9_ahead_0 5 rfl rfl)
theorem dX9_ahead_8 : decode cX9_ahead 8 = .ok (.iload_n 2, 1) := dk_28 (dk_at dksX9_ahead_0 8 rfl rfl)
theorem dX9_ahead_9 : decode cX9_ahead 9 = .ok (.iconst 0, 1) := dk_3 (dk_at dksX9_ahead_0 9 rfl rfl)
theorem dX9_ahead_10 : decode cX9_ahead 10 = .ok (.bipush 60, 2) := dk_16 60 (dk_at dksX9_ahead_0 10 rfl rfl)
theorem dX9_ahead_12 : decode cX9_ahead 12 = .ok (.invokestatic 44, 3) := dk_184 0 44 (dk_at dksX9_ahead_0 12 rfl rfl)
theorem dX9_ahead_15 : decode cX9_ahead 15 = .ok (.ifCond .ne 5, 3) := dk_154 0 5 (dk_at dksX9_ahead_0 15 rfl rfl)
theorem dX9_ahead_18 : decode cX9_ahead 18 = .ok (.iconst (-1), 1) := dk_2 (dk_at dksX9_ahead_0 18 rfl rfl)
theorem dX9_ahead_19 : decode cX9_ahead 19 = .ok (.ireturn, 1) := dk_172 (dk_at dksX9_ahead_0 19 rfl rfl)
theorem dX9_ahead_20 : decode cX9_ahead 20 = .ok (.aload_n 0, 1) := dk_42 (dk_at dksX9_ahead_0 20 rfl rfl)
theorem dX9_ahead_21 : decode cX9_ahead 21 = .ok (.invokevirtual 132, 3) := dk_182 0 132 (dk_at dksX9_ahead_0 21 rfl rfl)
theorem dX9_ahead_24 : decode cX9_ahead 24 = .ok (.iconst 0, 1) := dk_3 (dk_at dksX9_ahead_1 0 rfl rfl)
theorem dX9_ahead_25 : decode cX9_ahead 25 = .ok (.istore_n 3, 1) := dk_62 (dk_at dksX9_ahead_1 1 rfl rfl)
theorem dX9_ahead_26 : decode cX9_ahead 26 = .ok (.iload_n 3, 1) := dk_29 (dk_at dksX9_ahead_1 2 rfl rfl)
theorem dX9_ahead_27 : decode cX9_ahead 27 = .ok (.iload_n 2, 1) := dk_28 (dk_at dksX9_ahead_1 3 rfl rfl)
theorem dX9_ahead_28 : decode cX9_ahead 28 = .ok (.if_icmp .ge 13, 3) := dk_162 0 13 (dk_at dksX9_ahead_1 4 rfl rfl)
theorem dX9_ahead_31 : decode cX9_ahead 31 = .ok (.aload_n 0, 1) := dk_42 (dk_at dksX9_ahead_1 7 rfl rfl)
theorem dX9_ahead_32 : decode cX9_ahead 32 = .ok (.invokevirtual 122, 3) := dk_182 0 122 (dk_at dksX9_ahead_1 8 rfl rfl)
theorem dX9_ahead_35 : decode cX9_ahead 35 = .ok (.iinc 3 1, 3) := dk_132 3 1 (dk_at dksX9_ahead_1 11 rfl rfl)
theorem dX9_ahead_38 : decode cX9_ahead 38 = .ok (.goto (-12), 3) := dk_167 255 244 (dk_at dksX9_ahead_1 14 rfl rfl)
theorem dX9_ahead_41 : decode cX9_ahead 41 = .ok (.aload_n 0, 1) := dk_42 (dk_at dksX9_ahead_1 17 rfl rfl)
theorem dX9_ahead_42 : decode cX9_ahead 42 = .ok (.getfield 7, 3) := dk_180 0 7 (dk_at dksX9_ahead_1 18 rfl rfl)
theorem dX9_ahead_45 : decode cX9_ahead 45 = .ok (.iconst 4, 1) := dk_7 (dk_at dksX9_ahead_1 21 rfl rfl)
theorem dX9_ahead_46 : decode cX9_ahead 46 = .ok (.iload_n 1, 1) := dk_27 (dk_at dksX9_ahead_1 22 rfl rfl)
theorem dX9_ahead_47 : decode cX9_ahead 47 = .ok (.iadd, 1) := dk_96 (dk_at dksX9_ahead_1 23 rfl rfl)
theorem dX9_ahead_48 : decode cX9_ahead 48 = .ok (.iaload, 1) := dk_46 (dk_at dksX9_ahead_2 0 rfl rfl)
theorem dX9_ahead_49 : decode cX9_ahead 49 = .ok (.istore_n 3, 1) := dk_62 (dk_at dksX9_ahead_2 1 rfl rfl)
theorem dX9_ahead_50 : decode cX9_ahead 50 = .ok (.aload_n 0, 1) := dk_42 (dk_at dksX9_ahead_2 2 rfl rfl)
theorem dX9_ahead_51 : decode cX9_ahead 51 = .ok (.invokevirtual 135, 3) := dk_182 0 135 (dk_at dksX9_ahead_2 3 rfl rfl)
theorem dX9_ahead_54 : decode cX9_ahead 54 = .ok (.iload_n 3, 1) := dk_29 (dk_at dksX9_ahead_2 6 rfl rfl)
theorem dX9_ahead_55 : decode cX9_ahead 55 = .ok (.ireturn, 1) := dk_172 (dk_at dksX9_ahead_2 7 rfl rfl)
abbrev cX9_holds : ByteArray := prog_11_method_40_code
def yX9_holds : MethodName := ⟨RX9, "holds", "()V"⟩
def dkwX9_holds_1 : List UInt8 := [167, 255, 235, 177]
abbrev dktX9_holds_1 : List UInt8 := dkwX9_holds_1 ++ []
def dkwX9_holds_0 : List UInt8 := [3, 60, 27, 16, 40, 162, 0, 21, 42, 180, 0, 38, 27, 42, 180, 0, 7, 27, 46, 79, 132, 1, 1]
abbrev dktX9_holds_0 : List UInt8 := dkwX9_holds_0 ++ dktX9_holds_1
theorem dksX9_holds_0 : cX9_holds.data.toList.drop 0 = dktX9_holds_0 := by decide +kernel
theorem dksX9_holds_1 : cX9_holds.data.toList.drop 23 = dktX9_holds_1 := dk_seg dksX9_holds_0 23 rfl rfl
theorem dX9_holds_0 : decode cX9_holds 0 = .ok (.iconst 0, 1) := dk_3 (dk_at dksX9_holds_0 0 rfl rfl)
theorem dX9_holds_1 : decode cX9_holds 1 = .ok (.istore_n 1, 1) := dk_60 (dk_at dksX9_holds_0 1 rfl rfl)
theorem dX9_holds_2 : decode cX9_holds 2 = .ok (.iload_n 1, 1) := dk_27 (dk_at dksX9_holds_0 2 rfl rfl)
theorem dX9_holds_3 : decode cX9_holds 3 = .ok (.bipush 40, 2) := dk_16 40 (dk_at dksX9_holds_0 3 rfl rfl)
theorem dX9_holds_5 : decode cX9_holds 5 = .ok (.if_icmp .ge 21, 3) := dk_162 0 21 (dk_at dksX9_holds_0 5 rfl rfl)
theorem dX9_holds_8 : decode cX9_holds 8 = .ok (.aload_n 0, 1) := dk_42 (dk_at dksX9_holds_0 8 rfl rfl)
theorem dX9_holds_9 : decode cX9_holds 9 = .ok (.getfield 38, 3) := dk_180 0 38 (dk_at dksX9_holds_0 9 rfl rfl)
theorem dX9_holds_12 : decode cX9_holds 12 = .ok (.iload_n 1, 1) := dk_27 (dk_at dksX9_holds_0 12 rfl rfl)
theorem dX9_holds_13 : decode cX9_holds 13 = .ok (.aload_n 0, 1) := dk_42 (dk_at dksX9_holds_0 13 rfl rfl)
theorem dX9_holds_14 : decode cX9_holds 14 = .ok (.getfield 7, 3) := dk_180 0 7 (dk_at dksX9_holds_0 14 rfl rfl)
theorem dX9_holds_17 : decode cX9_holds 17 = .ok (.iload_n 1, 1) := dk_27 (dk_at dksX9_holds_0 17 rfl rfl)
theorem dX9_holds_18 : decode cX9_holds 18 = .ok (.iaload, 1) := dk_46 (dk_at dksX9_holds_0 18 rfl rfl)
theorem dX9_holds_19 : decode cX9_holds 19 = .ok (.iastore, 1) := dk_79 (dk_at dksX9_holds_0 19 rfl rfl)
theorem dX9_holds_20 : decode cX9_holds 20 = .ok (.iinc 1 1, 3) := dk_132 1 1 (dk_at dksX9_holds_0 20 rfl rfl)
theorem dX9_holds_23 : decode cX9_holds 23 = .ok (.goto (-21), 3) := dk_167 255 235 (dk_at dksX9_holds_1 0 rfl rfl)
theorem dX9_holds_26 : decode cX9_holds 26 = .ok (.return_, 1) := dk_177 (dk_at dksX9_holds_1 3 rfl rfl)
abbrev cX9_lets : ByteArray := prog_11_method_41_code
def yX9_lets : MethodName := ⟨RX9, "lets", "()V"⟩
def dkwX9_lets_1 : List UInt8 := [167, 255, 235, 177]
abbrev dktX9_lets_1 : List UInt8 := dkwX9_lets_1 ++ []
def dkwX9_lets_0 : List UInt8 := [3, 60, 27, 16, 40, 162, 0, 21, 42, 180, 0, 7, 27, 42, 180, 0, 38, 27, 46, 79, 132, 1, 1]
abbrev dktX9_lets_0 : List UInt8 := dkwX9_lets_0 ++ dktX9_lets_1
theorem dksX9_lets_0 : cX9_lets.data.toList.drop 0 = dktX9_lets_0 := by decide +kernel
theorem dksX9_lets_1 : cX9_lets.data.toList.drop 23 = dktX9_lets_1 := dk_seg dksX9_lets_0 23 rfl rfl
theorem dX9_lets_0 : decode cX9_lets 0 = .ok (.iconst 0, 1) := dk_3 (dk_at dksX9_lets_0 0 rfl rfl)
theorem dX9_lets_1 : decode cX9_lets 1 = .ok (.istore_n 1, 1) := dk_60 (dk_at dksX9_lets_0 1 rfl rfl)
theorem dX9_lets_2 : decode cX9_lets 2 = .ok (.iload_n 1, 1) := dk_27 (dk_at dksX9_lets_0 2 rfl rfl)
theorem dX9_lets_3 : decode cX9_lets 3 = .ok (.bipush 40, 2) := dk_16 40 (dk_at dksX9_lets_0 3 rfl rfl)
theorem dX9_lets_5 : decode cX9_lets 5 = .ok (.if_icmp .ge 21, 3) := dk_162 0 21 (dk_at dksX9_lets_0 5 rfl rfl)
theorem dX9_lets_8 : decode cX9_lets 8 = .ok (.aload_n 0, 1) := dk_42 (dk_at dksX9_lets_0 8 rfl rfl)
theorem dX9_lets_9 : decode cX9_lets 9 = .ok (.getfield 7, 3) := dk_180 0 7 (dk_at dksX9_lets_0 9 rfl rfl)
theorem dX9_lets_12 : decode cX9_lets 12 = .ok (.iload_n 1, 1) := dk_27 (dk_at dksX9_lets_0 12 rfl rfl)
theorem dX9_lets_13 : decode cX9_lets 13 = .ok (.aload_n 0, 1) := dk_42 (dk_at dksX9_lets_0 13 rfl rfl)
theorem dX9_lets_14 : decode cX9_lets 14 = .ok (.getfield 38, 3) := dk_180 0 38 (dk_at dksX9_lets_0 14 rfl rfl)
theorem dX9_lets_17 : decode cX9_lets 17 = .ok (.iload_n 1, 1) := dk_27 (dk_at dksX9_lets_0 17 rfl rfl)
theorem dX9_lets_18 : decode cX9_lets 18 = .ok (.iaload, 1) := dk_46 (dk_at dksX9_lets_0 18 rfl rfl)
theorem dX9_lets_19 : decode cX9_lets 19 = .ok (.iastore, 1) := dk_79 (dk_at dksX9_lets_0 19 rfl rfl)
theorem dX9_lets_20 : decode cX9_lets 20 = .ok (.iinc 1 1, 3) := dk_132 1 1 (dk_at dksX9_lets_0 20 rfl rfl)
theorem dX9_lets_23 : decode cX9_lets 23 = .ok (.goto (-21), 3) := dk_167 255 235 (dk_at dksX9_lets_1 0 rfl rfl)
theorem dX9_lets_26 : decode cX9_lets 26 = .ok (.return_, 1) := dk_177 (dk_at dksX9_lets_1 3 rfl rfl)
abbrev cX9_then : ByteArray := prog_11_method_43_code
def yX9_then : MethodName := ⟨RX9, "then", "(I)I"⟩
def dkwX9_then_1 : List UInt8 := [182, 0, 122, 132, 2, 1, 167, 255, 244, 42, 182, 0, 75, 61, 42, 182, 0, 135, 28, 172]
abbrev dktX9_then_1 : List UInt8 := dkwX9_then_1 ++ []
def dkwX9_then_0 : List UInt8 := [27, 3, 16, 60, 184, 0, 44, 154, 0, 5, 2, 172, 42, 182, 0, 132, 3, 61, 28, 27, 162, 0, 13, 42]
abbrev dktX9_then_0 : List UInt8 := dkwX9_then_0 ++ dktX9_then_1
theorem dksX9_then_0 : cX9_then.data.toList.drop 0 = dktX9_then_0 := by decide +kernel
theorem dksX9_then_1 : cX9_then.data.toList.drop 24 = dktX9_then_1 := dk_seg dksX9_then_0 24 rfl rfl
theorem dX9_then_0 : decode cX9_then 0 = .ok (.iload_n 1, 1) := dk_27 (dk_at dksX9_then_0 0 rfl rfl)
theorem dX9_then_1 : decode cX9_then 1 = .ok (.iconst 0, 1) := dk_3 (dk_at dksX9_then_0 1 rfl rfl)
theorem dX9_then_2 : decode cX9_then 2 = .ok (.bipush 60, 2) := dk_16 60 (dk_at dksX9_then_0 2 rfl rfl)
theorem dX9_then_4 : decode cX9_then 4 = .ok (.invokestatic 44, 3) := dk_184 0 44 (dk_at dksX9_then_0 4 rfl rfl)
theorem dX9_then_7 : decode cX9_then 7 = .ok (.ifCond .ne 5, 3) := dk_154 0 5 (dk_at dksX9_then_0 7 rfl rfl)
theorem dX9_then_10 : decode cX9_then 10 = .ok (.iconst (-1), 1) := dk_2 (dk_at dksX9_then_0 10 rfl rfl)
theorem dX9_then_11 : decode cX9_then 11 = .ok (.ireturn, 1) := dk_172 (dk_at dksX9_then_0 11 rfl rfl)
theorem dX9_then_12 : decode cX9_then 12 = .ok (.aload_n 0, 1) := dk_42 (dk_at dksX9_then_0 12 rfl rfl)
theorem dX9_then_13 : decode cX9_then 13 = .ok (.invokevirtual 132, 3) := dk_182 0 132 (dk_at dksX9_then_0 13 rfl rfl)
theorem dX9_then_16 : decode cX9_then 16 = .ok (.iconst 0, 1) := dk_3 (dk_at dksX9_then_0 16 rfl rfl)
theorem dX9_then_17 : decode cX9_then 17 = .ok (.istore_n 2, 1) := dk_61 (dk_at dksX9_then_0 17 rfl rfl)
theorem dX9_then_18 : decode cX9_then 18 = .ok (.iload_n 2, 1) := dk_28 (dk_at dksX9_then_0 18 rfl rfl)
theorem dX9_then_19 : decode cX9_then 19 = .ok (.iload_n 1, 1) := dk_27 (dk_at dksX9_then_0 19 rfl rfl)
theorem dX9_then_20 : decode cX9_then 20 = .ok (.if_icmp .ge 13, 3) := dk_162 0 13 (dk_at dksX9_then_0 20 rfl rfl)
theorem dX9_then_23 : decode cX9_then 23 = .ok (.aload_n 0, 1) := dk_42 (dk_at dksX9_then_0 23 rfl rfl)
theorem dX9_then_24 : decode cX9_then 24 = .ok (.invokevirtual 122, 3) := dk_182 0 122 (dk_at dksX9_then_1 0 rfl rfl)
theorem dX9_then_27 : decode cX9_then 27 = .ok (.iinc 2 1, 3) := dk_132 2 1 (dk_at dksX9_then_1 3 rfl rfl)
theorem dX9_then_30 : decode cX9_then 30 = .ok (.goto (-12), 3) := dk_167 255 244 (dk_at dksX9_then_1 6 rfl rfl)
theorem dX9_then_33 : decode cX9_then 33 = .ok (.aload_n 0, 1) := dk_42 (dk_at dksX9_then_1 9 rfl rfl)
theorem dX9_then_34 : decode cX9_then 34 = .ok (.invokevirtual 75, 3) := dk_182 0 75 (dk_at dksX9_then_1 10 rfl rfl)
theorem dX9_then_37 : decode cX9_then 37 = .ok (.istore_n 2, 1) := dk_61 (dk_at dksX9_then_1 13 rfl rfl)
theorem dX9_then_38 : decode cX9_then 38 = .ok (.aload_n 0, 1) := dk_42 (dk_at dksX9_then_1 14 rfl rfl)
theorem dX9_then_39 : decode cX9_then 39 = .ok (.invokevirtual 135, 3) := dk_182 0 135 (dk_at dksX9_then_1 15 rfl rfl)
theorem dX9_then_42 : decode cX9_then 42 = .ok (.iload_n 2, 1) := dk_28 (dk_at dksX9_then_1 18 rfl rfl)
theorem dX9_then_43 : decode cX9_then 43 = .ok (.ireturn, 1) := dk_172 (dk_at dksX9_then_1 19 rfl rfl)
abbrev cX9_ends : ByteArray := prog_11_method_44_code
def yX9_ends : MethodName := ⟨RX9, "ends", "(I)I"⟩
def dkwX9_ends_2 : List UInt8 := [16, 60, 164, 0, 8, 16, 252, 167, 0, 4, 28, 172]
abbrev dktX9_ends_2 : List UInt8 := dkwX9_ends_2 ++ []
def dkwX9_ends_1 : List UInt8 := [182, 0, 59, 16, 252, 159, 0, 13, 42, 182, 0, 122, 132, 2, 1, 167, 255, 233, 42, 182, 0, 135, 28]
abbrev dktX9_ends_1 : List UInt8 := dkwX9_ends_1 ++ dktX9_ends_2
def dkwX9_ends_0 : List UInt8 := [42, 27, 182, 0, 52, 154, 0, 5, 2, 172, 42, 182, 0, 132, 3, 61, 28, 16, 60, 163, 0, 23, 42, 27]
abbrev dktX9_ends_0 : List UInt8 := dkwX9_ends_0 ++ dktX9_ends_1
theorem dksX9_ends_0 : cX9_ends.data.toList.drop 0 = dktX9_ends_0 := by decide +kernel
theorem dksX9_ends_1 : cX9_ends.data.toList.drop 24 = dktX9_ends_1 := dk_seg dksX9_ends_0 24 rfl rfl
theorem dksX9_ends_2 : cX9_ends.data.toList.drop 47 = dktX9_ends_2 := dk_seg dksX9_ends_1 23 rfl rfl
theorem dX9_ends_0 : decode cX9_ends 0 = .ok (.aload_n 0, 1) := dk_42 (dk_at dksX9_ends_0 0 rfl rfl)
theorem dX9_ends_1 : decode cX9_ends 1 = .ok (.iload_n 1, 1) := dk_27 (dk_at dksX9_ends_0 1 rfl rfl)
theorem dX9_ends_2 : decode cX9_ends 2 = .ok (.invokevirtual 52, 3) := dk_182 0 52 (dk_at dksX9_ends_0 2 rfl rfl)
theorem dX9_ends_5 : decode cX9_ends 5 = .ok (.ifCond .ne 5, 3) := dk_154 0 5 (dk_at dksX9_ends_0 5 rfl rfl)
theorem dX9_ends_8 : decode cX9_ends 8 = .ok (.iconst (-1), 1) := dk_2 (dk_at dksX9_ends_0 8 rfl rfl)
theorem dX9_ends_9 : decode cX9_ends 9 = .ok (.ireturn, 1) := dk_172 (dk_at dksX9_ends_0 9 rfl rfl)
theorem dX9_ends_10 : decode cX9_ends 10 = .ok (.aload_n 0, 1) := dk_42 (dk_at dksX9_ends_0 10 rfl rfl)
theorem dX9_ends_11 : decode cX9_ends 11 = .ok (.invokevirtual 132, 3) := dk_182 0 132 (dk_at dksX9_ends_0 11 rfl rfl)
theorem dX9_ends_14 : decode cX9_ends 14 = .ok (.iconst 0, 1) := dk_3 (dk_at dksX9_ends_0 14 rfl rfl)
theorem dX9_ends_15 : decode cX9_ends 15 = .ok (.istore_n 2, 1) := dk_61 (dk_at dksX9_ends_0 15 rfl rfl)
theorem dX9_ends_16 : decode cX9_ends 16 = .ok (.iload_n 2, 1) := dk_28 (dk_at dksX9_ends_0 16 rfl rfl)
theorem dX9_ends_17 : decode cX9_ends 17 = .ok (.bipush 60, 2) := dk_16 60 (dk_at dksX9_ends_0 17 rfl rfl)
theorem dX9_ends_19 : decode cX9_ends 19 = .ok (.if_icmp .gt 23, 3) := dk_163 0 23 (dk_at dksX9_ends_0 19 rfl rfl)
theorem dX9_ends_22 : decode cX9_ends 22 = .ok (.aload_n 0, 1) := dk_42 (dk_at dksX9_ends_0 22 rfl rfl)
theorem dX9_ends_23 : decode cX9_ends 23 = .ok (.iload_n 1, 1) := dk_27 (dk_at dksX9_ends_0 23 rfl rfl)
theorem dX9_ends_24 : decode cX9_ends 24 = .ok (.invokevirtual 59, 3) := dk_182 0 59 (dk_at dksX9_ends_1 0 rfl rfl)
theorem dX9_ends_27 : decode cX9_ends 27 = .ok (.bipush (-4), 2) := dk_16 252 (dk_at dksX9_ends_1 3 rfl rfl)
theorem dX9_ends_29 : decode cX9_ends 29 = .ok (.if_icmp .eq 13, 3) := dk_159 0 13 (dk_at dksX9_ends_1 5 rfl rfl)
theorem dX9_ends_32 : decode cX9_ends 32 = .ok (.aload_n 0, 1) := dk_42 (dk_at dksX9_ends_1 8 rfl rfl)
theorem dX9_ends_33 : decode cX9_ends 33 = .ok (.invokevirtual 122, 3) := dk_182 0 122 (dk_at dksX9_ends_1 9 rfl rfl)
theorem dX9_ends_36 : decode cX9_ends 36 = .ok (.iinc 2 1, 3) := dk_132 2 1 (dk_at dksX9_ends_1 12 rfl rfl)
theorem dX9_ends_39 : decode cX9_ends 39 = .ok (.goto (-23), 3) := dk_167 255 233 (dk_at dksX9_ends_1 15 rfl rfl)
theorem dX9_ends_42 : decode cX9_ends 42 = .ok (.aload_n 0, 1) := dk_42 (dk_at dksX9_ends_1 18 rfl rfl)
theorem dX9_ends_43 : decode cX9_ends 43 = .ok (.invokevirtual 135, 3) := dk_182 0 135 (dk_at dksX9_ends_1 19 rfl rfl)
theorem dX9_ends_46 : decode cX9_ends 46 = .ok (.iload_n 2, 1) := dk_28 (dk_at dksX9_ends_1 22 rfl rfl)
theorem dX9_ends_47 : decode cX9_ends 47 = .ok (.bipush 60, 2) := dk_16 60 (dk_at dksX9_ends_2 0 rfl rfl)
theorem dX9_ends_49 : decode cX9_ends 49 = .ok (.if_icmp .le 8, 3) := dk_164 0 8 (dk_at dksX9_ends_2 2 rfl rfl)
theorem dX9_ends_52 : decode cX9_ends 52 = .ok (.bipush (-4), 2) := dk_16 252 (dk_at dksX9_ends_2 5 rfl rfl)
theorem dX9_ends_54 : decode cX9_ends 54 = .ok (.goto 4, 3) := dk_167 0 4 (dk_at dksX9_ends_2 7 rfl rfl)
theorem dX9_ends_57 : decode cX9_ends 57 = .ok (.iload_n 2, 1) := dk_28 (dk_at dksX9_ends_2 10 rfl rfl)
theorem dX9_ends_58 : decode cX9_ends 58 = .ok (.ireturn, 1) := dk_172 (dk_at dksX9_ends_2 11 rfl rfl)
abbrev cX9_lonely : ByteArray := prog_11_method_45_code
def yX9_lonely : MethodName := ⟨RX9, "lonely", "()I"⟩
def dkwX9_lonely_2 : List UInt8 := [27, 172]
abbrev dktX9_lonely_2 : List UInt8 := dkwX9_lonely_2 ++ []
def dkwX9_lonely_1 : List UInt8 := [182, 0, 122, 132, 1, 1, 167, 255, 233, 42, 182, 0, 135, 27, 16, 60, 164, 0, 8, 16, 252, 167, 0, 4]
abbrev dktX9_lonely_1 : List UInt8 := dkwX9_lonely_1 ++ dktX9_lonely_2
def dkwX9_lonely_0 : List UInt8 := [42, 182, 0, 132, 3, 60, 27, 16, 60, 163, 0, 23, 42, 180, 0, 7, 4, 46, 4, 164, 0, 13, 42]
abbrev dktX9_lonely_0 : List UInt8 := dkwX9_lonely_0 ++ dktX9_lonely_1
theorem dksX9_lonely_0 : cX9_lonely.data.toList.drop 0 = dktX9_lonely_0 := by decide +kernel
theorem dksX9_lonely_1 : cX9_lonely.data.toList.drop 23 = dktX9_lonely_1 := dk_seg dksX9_lonely_0 23 rfl rfl
theorem dksX9_lonely_2 : cX9_lonely.data.toList.drop 47 = dktX9_lonely_2 := dk_seg dksX9_lonely_1 24 rfl rfl
theorem dX9_lonely_0 : decode cX9_lonely 0 = .ok (.aload_n 0, 1) := dk_42 (dk_at dksX9_lonely_0 0 rfl rfl)
theorem dX9_lonely_1 : decode cX9_lonely 1 = .ok (.invokevirtual 132, 3) := dk_182 0 132 (dk_at dksX9_lonely_0 1 rfl rfl)
theorem dX9_lonely_4 : decode cX9_lonely 4 = .ok (.iconst 0, 1) := dk_3 (dk_at dksX9_lonely_0 4 rfl rfl)
theorem dX9_lonely_5 : decode cX9_lonely 5 = .ok (.istore_n 1, 1) := dk_60 (dk_at dksX9_lonely_0 5 rfl rfl)
theorem dX9_lonely_6 : decode cX9_lonely 6 = .ok (.iload_n 1, 1) := dk_27 (dk_at dksX9_lonely_0 6 rfl rfl)
theorem dX9_lonely_7 : decode cX9_lonely 7 = .ok (.bipush 60, 2) := dk_16 60 (dk_at dksX9_lonely_0 7 rfl rfl)
theorem dX9_lonely_9 : decode cX9_lonely 9 = .ok (.if_icmp .gt 23, 3) := dk_163 0 23 (dk_at dksX9_lonely_0 9 rfl rfl)
theorem dX9_lonely_12 : decode cX9_lonely 12 = .ok (.aload_n 0, 1) := dk_42 (dk_at dksX9_lonely_0 12 rfl rfl)
theorem dX9_lonely_13 : decode cX9_lonely 13 = .ok (.getfield 7, 3) := dk_180 0 7 (dk_at dksX9_lonely_0 13 rfl rfl)
theorem dX9_lonely_16 : decode cX9_lonely 16 = .ok (.iconst 1, 1) := dk_4 (dk_at dksX9_lonely_0 16 rfl rfl)
theorem dX9_lonely_17 : decode cX9_lonely 17 = .ok (.iaload, 1) := dk_46 (dk_at dksX9_lonely_0 17 rfl rfl)
theorem dX9_lonely_18 : decode cX9_lonely 18 = .ok (.iconst 1, 1) := dk_4 (dk_at dksX9_lonely_0 18 rfl rfl)
theorem dX9_lonely_19 : decode cX9_lonely 19 = .ok (.if_icmp .le 13, 3) := dk_164 0 13 (dk_at dksX9_lonely_0 19 rfl rfl)
theorem dX9_lonely_22 : decode cX9_lonely 22 = .ok (.aload_n 0, 1) := dk_42 (dk_at dksX9_lonely_0 22 rfl rfl)
theorem dX9_lonely_23 : decode cX9_lonely 23 = .ok (.invokevirtual 122, 3) := dk_182 0 122 (dk_at dksX9_lonely_1 0 rfl rfl)
theorem dX9_lonely_26 : decode cX9_lonely 26 = .ok (.iinc 1 1, 3) := dk_132 1 1 (dk_at dksX9_lonely_1 3 rfl rfl)
theorem dX9_lonely_29 : decode cX9_lonely 29 = .ok (.goto (-23), 3) := dk_167 255 233 (dk_at dksX9_lonely_1 6 rfl rfl)
theorem dX9_lonely_32 : decode cX9_lonely 32 = .ok (.aload_n 0, 1) := dk_42 (dk_at dksX9_lonely_1 9 rfl rfl)
theorem dX9_lonely_33 : decode cX9_lonely 33 = .ok (.invokevirtual 135, 3) := dk_182 0 135 (dk_at dksX9_lonely_1 10 rfl rfl)
theorem dX9_lonely_36 : decode cX9_lonely 36 = .ok (.iload_n 1, 1) := dk_27 (dk_at dksX9_lonely_1 13 rfl rfl)
theorem dX9_lonely_37 : decode cX9_lonely 37 = .ok (.bipush 60, 2) := dk_16 60 (dk_at dksX9_lonely_1 14 rfl rfl)
theorem dX9_lonely_39 : decode cX9_lonely 39 = .ok (.if_icmp .le 8, 3) := dk_164 0 8 (dk_at dksX9_lonely_1 16 rfl rfl)
theorem dX9_lonely_42 : decode cX9_lonely 42 = .ok (.bipush (-4), 2) := dk_16 252 (dk_at dksX9_lonely_1 19 rfl rfl)
theorem dX9_lonely_44 : decode cX9_lonely 44 = .ok (.goto 4, 3) := dk_167 0 4 (dk_at dksX9_lonely_1 21 rfl rfl)
theorem dX9_lonely_47 : decode cX9_lonely 47 = .ok (.iload_n 1, 1) := dk_27 (dk_at dksX9_lonely_2 0 rfl rfl)
theorem dX9_lonely_48 : decode cX9_lonely 48 = .ok (.ireturn, 1) := dk_172 (dk_at dksX9_lonely_2 1 rfl rfl)
abbrev cX9_close : ByteArray := prog_11_method_46_code
def yX9_close : MethodName := ⟨RX9, "close", "(II)I"⟩
def dkwX9_close_3 : List UInt8 := [29, 172]
abbrev dktX9_close_3 : List UInt8 := dkwX9_close_3 ++ []
def dkwX9_close_2 : List UInt8 := [182, 0, 122, 132, 3, 1, 167, 255, 231, 42, 182, 0, 135, 29, 16, 60, 164, 0, 8, 16, 252, 167, 0, 4]
abbrev dktX9_close_2 : List UInt8 := dkwX9_close_2 ++ dktX9_close_3
def dkwX9_close_1 : List UInt8 := [182, 0, 132, 3, 62, 29, 16, 60, 163, 0, 25, 42, 27, 182, 0, 66, 28, 184, 0, 79, 154, 0, 13, 42]
abbrev dktX9_close_1 : List UInt8 := dkwX9_close_1 ++ dktX9_close_2
def dkwX9_close_0 : List UInt8 := [42, 27, 182, 0, 52, 153, 0, 16, 42, 28, 182, 0, 52, 153, 0, 8, 27, 28, 160, 0, 5, 2, 172, 42]
abbrev dktX9_close_0 : List UInt8 := dkwX9_close_0 ++ dktX9_close_1
theorem dksX9_close_0 : cX9_close.data.toList.drop 0 = dktX9_close_0 := by decide +kernel
theorem dksX9_close_1 : cX9_close.data.toList.drop 24 = dktX9_close_1 := dk_seg dksX9_close_0 24 rfl rfl
theorem dksX9_close_2 : cX9_close.data.toList.drop 48 = dktX9_close_2 := dk_seg dksX9_close_1 24 rfl rfl
theorem dksX9_close_3 : cX9_close.data.toList.drop 72 = dktX9_close_3 := dk_seg dksX9_close_2 24 rfl rfl
theorem dX9_close_0 : decode cX9_close 0 = .ok (.aload_n 0, 1) := dk_42 (dk_at dksX9_close_0 0 rfl rfl)
theorem dX9_close_1 : decode cX9_close 1 = .ok (.iload_n 1, 1) := dk_27 (dk_at dksX9_close_0 1 rfl rfl)
theorem dX9_close_2 : decode cX9_close 2 = .ok (.invokevirtual 52, 3) := dk_182 0 52 (dk_at dksX9_close_0 2 rfl rfl)
theorem dX9_close_5 : decode cX9_close 5 = .ok (.ifCond .eq 16, 3) := dk_153 0 16 (dk_at dksX9_close_0 5 rfl rfl)
theorem dX9_close_8 : decode cX9_close 8 = .ok (.aload_n 0, 1) := dk_42 (dk_at dksX9_close_0 8 rfl rfl)
theorem dX9_close_9 : decode cX9_close 9 = .ok (.iload_n 2, 1) := dk_28 (dk_at dksX9_close_0 9 rfl rfl)
theorem dX9_close_10 : decode cX9_close 10 = .ok (.invokevirtual 52, 3) := dk_182 0 52 (dk_at dksX9_close_0 10 rfl rfl)
theorem dX9_close_13 : decode cX9_close 13 = .ok (.ifCond .eq 8, 3) := dk_153 0 8 (dk_at dksX9_close_0 13 rfl rfl)
theorem dX9_close_16 : decode cX9_close 16 = .ok (.iload_n 1, 1) := dk_27 (dk_at dksX9_close_0 16 rfl rfl)
theorem dX9_close_17 : decode cX9_close 17 = .ok (.iload_n 2, 1) := dk_28 (dk_at dksX9_close_0 17 rfl rfl)
theorem dX9_close_18 : decode cX9_close 18 = .ok (.if_icmp .ne 5, 3) := dk_160 0 5 (dk_at dksX9_close_0 18 rfl rfl)
theorem dX9_close_21 : decode cX9_close 21 = .ok (.iconst (-1), 1) := dk_2 (dk_at dksX9_close_0 21 rfl rfl)
theorem dX9_close_22 : decode cX9_close 22 = .ok (.ireturn, 1) := dk_172 (dk_at dksX9_close_0 22 rfl rfl)
theorem dX9_close_23 : decode cX9_close 23 = .ok (.aload_n 0, 1) := dk_42 (dk_at dksX9_close_0 23 rfl rfl)
theorem dX9_close_24 : decode cX9_close 24 = .ok (.invokevirtual 132, 3) := dk_182 0 132 (dk_at dksX9_close_1 0 rfl rfl)
theorem dX9_close_27 : decode cX9_close 27 = .ok (.iconst 0, 1) := dk_3 (dk_at dksX9_close_1 3 rfl rfl)
theorem dX9_close_28 : decode cX9_close 28 = .ok (.istore_n 3, 1) := dk_62 (dk_at dksX9_close_1 4 rfl rfl)
theorem dX9_close_29 : decode cX9_close 29 = .ok (.iload_n 3, 1) := dk_29 (dk_at dksX9_close_1 5 rfl rfl)
theorem dX9_close_30 : decode cX9_close 30 = .ok (.bipush 60, 2) := dk_16 60 (dk_at dksX9_close_1 6 rfl rfl)
theorem dX9_close_32 : decode cX9_close 32 = .ok (.if_icmp .gt 25, 3) := dk_163 0 25 (dk_at dksX9_close_1 8 rfl rfl)
theorem dX9_close_35 : decode cX9_close 35 = .ok (.aload_n 0, 1) := dk_42 (dk_at dksX9_close_1 11 rfl rfl)
theorem dX9_close_36 : decode cX9_close 36 = .ok (.iload_n 1, 1) := dk_27 (dk_at dksX9_close_1 12 rfl rfl)
theorem dX9_close_37 : decode cX9_close 37 = .ok (.invokevirtual 66, 3) := dk_182 0 66 (dk_at dksX9_close_1 13 rfl rfl)
theorem dX9_close_40 : decode cX9_close 40 = .ok (.iload_n 2, 1) := dk_28 (dk_at dksX9_close_1 16 rfl rfl)
theorem dX9_close_41 : decode cX9_close 41 = .ok (.invokestatic 79, 3) := dk_184 0 79 (dk_at dksX9_close_1 17 rfl rfl)
theorem dX9_close_44 : decode cX9_close 44 = .ok (.ifCond .ne 13, 3) := dk_154 0 13 (dk_at dksX9_close_1 20 rfl rfl)
theorem dX9_close_47 : decode cX9_close 47 = .ok (.aload_n 0, 1) := dk_42 (dk_at dksX9_close_1 23 rfl rfl)
theorem dX9_close_48 : decode cX9_close 48 = .ok (.invokevirtual 122, 3) := dk_182 0 122 (dk_at dksX9_close_2 0 rfl rfl)
theorem dX9_close_51 : decode cX9_close 51 = .ok (.iinc 3 1, 3) := dk_132 3 1 (dk_at dksX9_close_2 3 rfl rfl)
theorem dX9_close_54 : decode cX9_close 54 = .ok (.goto (-25), 3) := dk_167 255 231 (dk_at dksX9_close_2 6 rfl rfl)
theorem dX9_close_57 : decode cX9_close 57 = .ok (.aload_n 0, 1) := dk_42 (dk_at dksX9_close_2 9 rfl rfl)
theorem dX9_close_58 : decode cX9_close 58 = .ok (.invokevirtual 135, 3) := dk_182 0 135 (dk_at dksX9_close_2 10 rfl rfl)
theorem dX9_close_61 : decode cX9_close 61 = .ok (.iload_n 3, 1) := dk_29 (dk_at dksX9_close_2 13 rfl rfl)
theorem dX9_close_62 : decode cX9_close 62 = .ok (.bipush 60, 2) := dk_16 60 (dk_at dksX9_close_2 14 rfl rfl)
theorem dX9_close_64 : decode cX9_close 64 = .ok (.if_icmp .le 8, 3) := dk_164 0 8 (dk_at dksX9_close_2 16 rfl rfl)
theorem dX9_close_67 : decode cX9_close 67 = .ok (.bipush (-4), 2) := dk_16 252 (dk_at dksX9_close_2 19 rfl rfl)
theorem dX9_close_69 : decode cX9_close 69 = .ok (.goto 4, 3) := dk_167 0 4 (dk_at dksX9_close_2 21 rfl rfl)
theorem dX9_close_72 : decode cX9_close 72 = .ok (.iload_n 3, 1) := dk_29 (dk_at dksX9_close_3 0 rfl rfl)
theorem dX9_close_73 : decode cX9_close 73 = .ok (.ireturn, 1) := dk_172 (dk_at dksX9_close_3 1 rfl rfl)
abbrev cX9_swaps : ByteArray := prog_11_method_48_code
def yX9_swaps : MethodName := ⟨RX9, "swaps", "(I)I"⟩
def dkwX9_swaps_3 : List UInt8 := [167, 255, 218, 132, 3, 1, 167, 255, 197, 28, 172]
abbrev dktX9_swaps_3 : List UInt8 := dkwX9_swaps_3 ++ []
def dkwX9_swaps_2 : List UInt8 := [182, 0, 138, 42, 21, 4, 27, 182, 0, 138, 164, 0, 7, 4, 167, 0, 4, 3, 96, 61, 132, 4, 1]
abbrev dktX9_swaps_2 : List UInt8 := dkwX9_swaps_2 ++ dktX9_swaps_3
def dkwX9_swaps_1 : List UInt8 := [162, 0, 55, 29, 4, 96, 54, 4, 21, 4, 42, 180, 0, 7, 4, 46, 162, 0, 33, 28, 42, 29, 27]
abbrev dktX9_swaps_1 : List UInt8 := dkwX9_swaps_1 ++ dktX9_swaps_2
def dkwX9_swaps_0 : List UInt8 := [27, 3, 5, 184, 0, 44, 154, 0, 5, 2, 172, 3, 61, 3, 62, 29, 42, 180, 0, 7, 4, 46]
abbrev dktX9_swaps_0 : List UInt8 := dkwX9_swaps_0 ++ dktX9_swaps_1
theorem dksX9_swaps_0 : cX9_swaps.data.toList.drop 0 = dktX9_swaps_0 := by decide +kernel
theorem dksX9_swaps_1 : cX9_swaps.data.toList.drop 22 = dktX9_swaps_1 := dk_seg dksX9_swaps_0 22 rfl rfl
theorem dksX9_swaps_2 : cX9_swaps.data.toList.drop 45 = dktX9_swaps_2 := dk_seg dksX9_swaps_1 23 rfl rfl
theorem dksX9_swaps_3 : cX9_swaps.data.toList.drop 68 = dktX9_swaps_3 := dk_seg dksX9_swaps_2 23 rfl rfl
theorem dX9_swaps_0 : decode cX9_swaps 0 = .ok (.iload_n 1, 1) := dk_27 (dk_at dksX9_swaps_0 0 rfl rfl)
theorem dX9_swaps_1 : decode cX9_swaps 1 = .ok (.iconst 0, 1) := dk_3 (dk_at dksX9_swaps_0 1 rfl rfl)
theorem dX9_swaps_2 : decode cX9_swaps 2 = .ok (.iconst 2, 1) := dk_5 (dk_at dksX9_swaps_0 2 rfl rfl)
theorem dX9_swaps_3 : decode cX9_swaps 3 = .ok (.invokestatic 44, 3) := dk_184 0 44 (dk_at dksX9_swaps_0 3 rfl rfl)
theorem dX9_swaps_6 : decode cX9_swaps 6 = .ok (.ifCond .ne 5, 3) := dk_154 0 5 (dk_at dksX9_swaps_0 6 rfl rfl)
theorem dX9_swaps_9 : decode cX9_swaps 9 = .ok (.iconst (-1), 1) := dk_2 (dk_at dksX9_swaps_0 9 rfl rfl)
theorem dX9_swaps_10 : decode cX9_swaps 10 = .ok (.ireturn, 1) := dk_172 (dk_at dksX9_swaps_0 10 rfl rfl)
theorem dX9_swaps_11 : decode cX9_swaps 11 = .ok (.iconst 0, 1) := dk_3 (dk_at dksX9_swaps_0 11 rfl rfl)
theorem dX9_swaps_12 : decode cX9_swaps 12 = .ok (.istore_n 2, 1) := dk_61 (dk_at dksX9_swaps_0 12 rfl rfl)
theorem dX9_swaps_13 : decode cX9_swaps 13 = .ok (.iconst 0, 1) := dk_3 (dk_at dksX9_swaps_0 13 rfl rfl)
theorem dX9_swaps_14 : decode cX9_swaps 14 = .ok (.istore_n 3, 1) := dk_62 (dk_at dksX9_swaps_0 14 rfl rfl)
theorem dX9_swaps_15 : decode cX9_swaps 15 = .ok (.iload_n 3, 1) := dk_29 (dk_at dksX9_swaps_0 15 rfl rfl)
theorem dX9_swaps_16 : decode cX9_swaps 16 = .ok (.aload_n 0, 1) := dk_42 (dk_at dksX9_swaps_0 16 rfl rfl)
theorem dX9_swaps_17 : decode cX9_swaps 17 = .ok (.getfield 7, 3) := dk_180 0 7 (dk_at dksX9_swaps_0 17 rfl rfl)
theorem dX9_swaps_20 : decode cX9_swaps 20 = .ok (.iconst 1, 1) := dk_4 (dk_at dksX9_swaps_0 20 rfl rfl)
theorem dX9_swaps_21 : decode cX9_swaps 21 = .ok (.iaload, 1) := dk_46 (dk_at dksX9_swaps_0 21 rfl rfl)
theorem dX9_swaps_22 : decode cX9_swaps 22 = .ok (.if_icmp .ge 55, 3) := dk_162 0 55 (dk_at dksX9_swaps_1 0 rfl rfl)
theorem dX9_swaps_25 : decode cX9_swaps 25 = .ok (.iload_n 3, 1) := dk_29 (dk_at dksX9_swaps_1 3 rfl rfl)
theorem dX9_swaps_26 : decode cX9_swaps 26 = .ok (.iconst 1, 1) := dk_4 (dk_at dksX9_swaps_1 4 rfl rfl)
theorem dX9_swaps_27 : decode cX9_swaps 27 = .ok (.iadd, 1) := dk_96 (dk_at dksX9_swaps_1 5 rfl rfl)
theorem dX9_swaps_28 : decode cX9_swaps 28 = .ok (.istore 4, 2) := dk_54 4 (dk_at dksX9_swaps_1 6 rfl rfl)
theorem dX9_swaps_30 : decode cX9_swaps 30 = .ok (.iload 4, 2) := dk_21 4 (dk_at dksX9_swaps_1 8 rfl rfl)
theorem dX9_swaps_32 : decode cX9_swaps 32 = .ok (.aload_n 0, 1) := dk_42 (dk_at dksX9_swaps_1 10 rfl rfl)
theorem dX9_swaps_33 : decode cX9_swaps 33 = .ok (.getfield 7, 3) := dk_180 0 7 (dk_at dksX9_swaps_1 11 rfl rfl)
theorem dX9_swaps_36 : decode cX9_swaps 36 = .ok (.iconst 1, 1) := dk_4 (dk_at dksX9_swaps_1 14 rfl rfl)
theorem dX9_swaps_37 : decode cX9_swaps 37 = .ok (.iaload, 1) := dk_46 (dk_at dksX9_swaps_1 15 rfl rfl)
theorem dX9_swaps_38 : decode cX9_swaps 38 = .ok (.if_icmp .ge 33, 3) := dk_162 0 33 (dk_at dksX9_swaps_1 16 rfl rfl)
theorem dX9_swaps_41 : decode cX9_swaps 41 = .ok (.iload_n 2, 1) := dk_28 (dk_at dksX9_swaps_1 19 rfl rfl)
theorem dX9_swaps_42 : decode cX9_swaps 42 = .ok (.aload_n 0, 1) := dk_42 (dk_at dksX9_swaps_1 20 rfl rfl)
theorem dX9_swaps_43 : decode cX9_swaps 43 = .ok (.iload_n 3, 1) := dk_29 (dk_at dksX9_swaps_1 21 rfl rfl)
theorem dX9_swaps_44 : decode cX9_swaps 44 = .ok (.iload_n 1, 1) := dk_27 (dk_at dksX9_swaps_1 22 rfl rfl)
theorem dX9_swaps_45 : decode cX9_swaps 45 = .ok (.invokevirtual 138, 3) := dk_182 0 138 (dk_at dksX9_swaps_2 0 rfl rfl)
theorem dX9_swaps_48 : decode cX9_swaps 48 = .ok (.aload_n 0, 1) := dk_42 (dk_at dksX9_swaps_2 3 rfl rfl)
theorem dX9_swaps_49 : decode cX9_swaps 49 = .ok (.iload 4, 2) := dk_21 4 (dk_at dksX9_swaps_2 4 rfl rfl)
theorem dX9_swaps_51 : decode cX9_swaps 51 = .ok (.iload_n 1, 1) := dk_27 (dk_at dksX9_swaps_2 6 rfl rfl)
theorem dX9_swaps_52 : decode cX9_swaps 52 = .ok (.invokevirtual 138, 3) := dk_182 0 138 (dk_at dksX9_swaps_2 7 rfl rfl)
theorem dX9_swaps_55 : decode cX9_swaps 55 = .ok (.if_icmp .le 7, 3) := dk_164 0 7 (dk_at dksX9_swaps_2 10 rfl rfl)
theorem dX9_swaps_58 : decode cX9_swaps 58 = .ok (.iconst 1, 1) := dk_4 (dk_at dksX9_swaps_2 13 rfl rfl)
theorem dX9_swaps_59 : decode cX9_swaps 59 = .ok (.goto 4, 3) := dk_167 0 4 (dk_at dksX9_swaps_2 14 rfl rfl)
theorem dX9_swaps_62 : decode cX9_swaps 62 = .ok (.iconst 0, 1) := dk_3 (dk_at dksX9_swaps_2 17 rfl rfl)
theorem dX9_swaps_63 : decode cX9_swaps 63 = .ok (.iadd, 1) := dk_96 (dk_at dksX9_swaps_2 18 rfl rfl)
theorem dX9_swaps_64 : decode cX9_swaps 64 = .ok (.istore_n 2, 1) := dk_61 (dk_at dksX9_swaps_2 19 rfl rfl)
theorem dX9_swaps_65 : decode cX9_swaps 65 = .ok (.iinc 4 1, 3) := dk_132 4 1 (dk_at dksX9_swaps_2 20 rfl rfl)
theorem dX9_swaps_68 : decode cX9_swaps 68 = .ok (.goto (-38), 3) := dk_167 255 218 (dk_at dksX9_swaps_3 0 rfl rfl)
theorem dX9_swaps_71 : decode cX9_swaps 71 = .ok (.iinc 3 1, 3) := dk_132 3 1 (dk_at dksX9_swaps_3 3 rfl rfl)
theorem dX9_swaps_74 : decode cX9_swaps 74 = .ok (.goto (-59), 3) := dk_167 255 197 (dk_at dksX9_swaps_3 6 rfl rfl)
theorem dX9_swaps_77 : decode cX9_swaps 77 = .ok (.iload_n 2, 1) := dk_28 (dk_at dksX9_swaps_3 9 rfl rfl)
theorem dX9_swaps_78 : decode cX9_swaps 78 = .ok (.ireturn, 1) := dk_172 (dk_at dksX9_swaps_3 10 rfl rfl)
abbrev cX9_placeOn : ByteArray := prog_11_method_47_code
def yX9_placeOn : MethodName := ⟨RX9, "placeOn", "(II)I"⟩
def dkwX9_placeOn_0 : List UInt8 := [42, 180, 0, 7, 16, 22, 6, 42, 180, 0, 7, 16, 10, 27, 96, 46, 104, 96, 28, 96, 46, 172]
abbrev dktX9_placeOn_0 : List UInt8 := dkwX9_placeOn_0 ++ []
theorem dksX9_placeOn_0 : cX9_placeOn.data.toList.drop 0 = dktX9_placeOn_0 := by decide +kernel
theorem dX9_placeOn_0 : decode cX9_placeOn 0 = .ok (.aload_n 0, 1) := dk_42 (dk_at dksX9_placeOn_0 0 rfl rfl)
theorem dX9_placeOn_1 : decode cX9_placeOn 1 = .ok (.getfield 7, 3) := dk_180 0 7 (dk_at dksX9_placeOn_0 1 rfl rfl)
theorem dX9_placeOn_4 : decode cX9_placeOn 4 = .ok (.bipush 22, 2) := dk_16 22 (dk_at dksX9_placeOn_0 4 rfl rfl)
theorem dX9_placeOn_6 : decode cX9_placeOn 6 = .ok (.iconst 3, 1) := dk_6 (dk_at dksX9_placeOn_0 6 rfl rfl)
theorem dX9_placeOn_7 : decode cX9_placeOn 7 = .ok (.aload_n 0, 1) := dk_42 (dk_at dksX9_placeOn_0 7 rfl rfl)
theorem dX9_placeOn_8 : decode cX9_placeOn 8 = .ok (.getfield 7, 3) := dk_180 0 7 (dk_at dksX9_placeOn_0 8 rfl rfl)
theorem dX9_placeOn_11 : decode cX9_placeOn 11 = .ok (.bipush 10, 2) := dk_16 10 (dk_at dksX9_placeOn_0 11 rfl rfl)
theorem dX9_placeOn_13 : decode cX9_placeOn 13 = .ok (.iload_n 1, 1) := dk_27 (dk_at dksX9_placeOn_0 13 rfl rfl)
theorem dX9_placeOn_14 : decode cX9_placeOn 14 = .ok (.iadd, 1) := dk_96 (dk_at dksX9_placeOn_0 14 rfl rfl)
theorem dX9_placeOn_15 : decode cX9_placeOn 15 = .ok (.iaload, 1) := dk_46 (dk_at dksX9_placeOn_0 15 rfl rfl)
theorem dX9_placeOn_16 : decode cX9_placeOn 16 = .ok (.imul, 1) := dk_104 (dk_at dksX9_placeOn_0 16 rfl rfl)
theorem dX9_placeOn_17 : decode cX9_placeOn 17 = .ok (.iadd, 1) := dk_96 (dk_at dksX9_placeOn_0 17 rfl rfl)
theorem dX9_placeOn_18 : decode cX9_placeOn 18 = .ok (.iload_n 2, 1) := dk_28 (dk_at dksX9_placeOn_0 18 rfl rfl)
theorem dX9_placeOn_19 : decode cX9_placeOn 19 = .ok (.iadd, 1) := dk_96 (dk_at dksX9_placeOn_0 19 rfl rfl)
theorem dX9_placeOn_20 : decode cX9_placeOn 20 = .ok (.iaload, 1) := dk_46 (dk_at dksX9_placeOn_0 20 rfl rfl)
theorem dX9_placeOn_21 : decode cX9_placeOn 21 = .ok (.ireturn, 1) := dk_172 (dk_at dksX9_placeOn_0 21 rfl rfl)
abbrev cX9_stay : ByteArray := prog_11_method_51_code
def yX9_stay : MethodName := ⟨RX9, "stay", "(II)I"⟩
def dkwX9_stay_7 : List UInt8 := [167, 0, 5, 21, 4, 172]
abbrev dktX9_stay_7 : List UInt8 := dkwX9_stay_7 ++ []
def dkwX9_stay_6 : List UInt8 := [96, 46, 120, 167, 0, 4, 3, 128, 54, 4, 132, 5, 1, 167, 255, 212, 28, 154, 0, 10, 29, 184, 0, 72]
abbrev dktX9_stay_6 : List UInt8 := dkwX9_stay_6 ++ dktX9_stay_7
def dkwX9_stay_5 : List UInt8 := [46, 162, 0, 39, 21, 4, 29, 21, 5, 184, 0, 79, 153, 0, 18, 4, 42, 180, 0, 7, 16, 10, 21, 5]
abbrev dktX9_stay_5 : List UInt8 := dkwX9_stay_5 ++ dktX9_stay_6
def dkwX9_stay_4 : List UInt8 := [167, 0, 4, 29, 62, 132, 4, 1, 167, 255, 178, 3, 54, 4, 3, 54, 5, 21, 5, 42, 180, 0, 7, 4]
abbrev dktX9_stay_4 : List UInt8 := dkwX9_stay_4 ++ dktX9_stay_5
def dkwX9_stay_3 : List UInt8 := [4, 167, 0, 4, 3, 54, 5, 21, 5, 153, 0, 18, 42, 21, 4, 27, 182, 0, 145, 153, 0, 8, 21, 4]
abbrev dktX9_stay_3 : List UInt8 := dkwX9_stay_3 ++ dktX9_stay_4
def dkwX9_stay_2 : List UInt8 := [163, 0, 24, 21, 4, 184, 0, 72, 29, 184, 0, 72, 160, 0, 16, 21, 4, 29, 184, 0, 142, 153, 0, 7]
abbrev dktX9_stay_2 : List UInt8 := dkwX9_stay_2 ++ dktX9_stay_3
def dkwX9_stay_1 : List UInt8 := [54, 4, 21, 4, 4, 42, 180, 0, 7, 4, 46, 120, 162, 0, 71, 21, 4, 184, 0, 72, 29, 184, 0, 72]
abbrev dktX9_stay_1 : List UInt8 := dkwX9_stay_1 ++ dktX9_stay_2
def dkwX9_stay_0 : List UInt8 := [27, 3, 5, 184, 0, 44, 153, 0, 12, 28, 3, 4, 184, 0, 44, 154, 0, 5, 2, 172, 3, 62, 4]
abbrev dktX9_stay_0 : List UInt8 := dkwX9_stay_0 ++ dktX9_stay_1
theorem dksX9_stay_0 : cX9_stay.data.toList.drop 0 = dktX9_stay_0 := by decide +kernel
theorem dksX9_stay_1 : cX9_stay.data.toList.drop 23 = dktX9_stay_1 := dk_seg dksX9_stay_0 23 rfl rfl
theorem dksX9_stay_2 : cX9_stay.data.toList.drop 47 = dktX9_stay_2 := dk_seg dksX9_stay_1 24 rfl rfl
theorem dksX9_stay_3 : cX9_stay.data.toList.drop 71 = dktX9_stay_3 := dk_seg dksX9_stay_2 24 rfl rfl
theorem dksX9_stay_4 : cX9_stay.data.toList.drop 95 = dktX9_stay_4 := dk_seg dksX9_stay_3 24 rfl rfl
theorem dksX9_stay_5 : cX9_stay.data.toList.drop 119 = dktX9_stay_5 := dk_seg dksX9_stay_4 24 rfl rfl
theorem dksX9_stay_6 : cX9_stay.data.toList.drop 143 = dktX9_stay_6 := dk_seg dksX9_stay_5 24 rfl rfl
theorem dksX9_stay_7 : cX9_stay.data.toList.drop 167 = dktX9_stay_7 := dk_seg dksX9_stay_6 24 rfl rfl
theorem dX9_stay_0 : decode cX9_stay 0 = .ok (.iload_n 1, 1) := dk_27 (dk_at dksX9_stay_0 0 rfl rfl)
theorem dX9_stay_1 : decode cX9_stay 1 = .ok (.iconst 0, 1) := dk_3 (dk_at dksX9_stay_0 1 rfl rfl)
theorem dX9_stay_2 : decode cX9_stay 2 = .ok (.iconst 2, 1) := dk_5 (dk_at dksX9_stay_0 2 rfl rfl)
theorem dX9_stay_3 : decode cX9_stay 3 = .ok (.invokestatic 44, 3) := dk_184 0 44 (dk_at dksX9_stay_0 3 rfl rfl)
theorem dX9_stay_6 : decode cX9_stay 6 = .ok (.ifCond .eq 12, 3) := dk_153 0 12 (dk_at dksX9_stay_0 6 rfl rfl)
theorem dX9_stay_9 : decode cX9_stay 9 = .ok (.iload_n 2, 1) := dk_28 (dk_at dksX9_stay_0 9 rfl rfl)
theorem dX9_stay_10 : decode cX9_stay 10 = .ok (.iconst 0, 1) := dk_3 (dk_at dksX9_stay_0 10 rfl rfl)
theorem dX9_stay_11 : decode cX9_stay 11 = .ok (.iconst 1, 1) := dk_4 (dk_at dksX9_stay_0 11 rfl rfl)
theorem dX9_stay_12 : decode cX9_stay 12 = .ok (.invokestatic 44, 3) := dk_184 0 44 (dk_at dksX9_stay_0 12 rfl rfl)
theorem dX9_stay_15 : decode cX9_stay 15 = .ok (.ifCond .ne 5, 3) := dk_154 0 5 (dk_at dksX9_stay_0 15 rfl rfl)
theorem dX9_stay_18 : decode cX9_stay 18 = .ok (.iconst (-1), 1) := dk_2 (dk_at dksX9_stay_0 18 rfl rfl)
theorem dX9_stay_19 : decode cX9_stay 19 = .ok (.ireturn, 1) := dk_172 (dk_at dksX9_stay_0 19 rfl rfl)
theorem dX9_stay_20 : decode cX9_stay 20 = .ok (.iconst 0, 1) := dk_3 (dk_at dksX9_stay_0 20 rfl rfl)
theorem dX9_stay_21 : decode cX9_stay 21 = .ok (.istore_n 3, 1) := dk_62 (dk_at dksX9_stay_0 21 rfl rfl)
theorem dX9_stay_22 : decode cX9_stay 22 = .ok (.iconst 1, 1) := dk_4 (dk_at dksX9_stay_0 22 rfl rfl)
theorem dX9_stay_23 : decode cX9_stay 23 = .ok (.istore 4, 2) := dk_54 4 (dk_at dksX9_stay_1 0 rfl rfl)
theorem dX9_stay_25 : decode cX9_stay 25 = .ok (.iload 4, 2) := dk_21 4 (dk_at dksX9_stay_1 2 rfl rfl)
theorem dX9_stay_27 : decode cX9_stay 27 = .ok (.iconst 1, 1) := dk_4 (dk_at dksX9_stay_1 4 rfl rfl)
theorem dX9_stay_28 : decode cX9_stay 28 = .ok (.aload_n 0, 1) := dk_42 (dk_at dksX9_stay_1 5 rfl rfl)
theorem dX9_stay_29 : decode cX9_stay 29 = .ok (.getfield 7, 3) := dk_180 0 7 (dk_at dksX9_stay_1 6 rfl rfl)
theorem dX9_stay_32 : decode cX9_stay 32 = .ok (.iconst 1, 1) := dk_4 (dk_at dksX9_stay_1 9 rfl rfl)
theorem dX9_stay_33 : decode cX9_stay 33 = .ok (.iaload, 1) := dk_46 (dk_at dksX9_stay_1 10 rfl rfl)
theorem dX9_stay_34 : decode cX9_stay 34 = .ok (.ishl, 1) := dk_120 (dk_at dksX9_stay_1 11 rfl rfl)
theorem dX9_stay_35 : decode cX9_stay 35 = .ok (.if_icmp .ge 71, 3) := dk_162 0 71 (dk_at dksX9_stay_1 12 rfl rfl)
theorem dX9_stay_38 : decode cX9_stay 38 = .ok (.iload 4, 2) := dk_21 4 (dk_at dksX9_stay_1 15 rfl rfl)
theorem dX9_stay_40 : decode cX9_stay 40 = .ok (.invokestatic 72, 3) := dk_184 0 72 (dk_at dksX9_stay_1 17 rfl rfl)
theorem dX9_stay_43 : decode cX9_stay 43 = .ok (.iload_n 3, 1) := dk_29 (dk_at dksX9_stay_1 20 rfl rfl)
theorem dX9_stay_44 : decode cX9_stay 44 = .ok (.invokestatic 72, 3) := dk_184 0 72 (dk_at dksX9_stay_1 21 rfl rfl)
theorem dX9_stay_47 : decode cX9_stay 47 = .ok (.if_icmp .gt 24, 3) := dk_163 0 24 (dk_at dksX9_stay_2 0 rfl rfl)
theorem dX9_stay_50 : decode cX9_stay 50 = .ok (.iload 4, 2) := dk_21 4 (dk_at dksX9_stay_2 3 rfl rfl)
theorem dX9_stay_52 : decode cX9_stay 52 = .ok (.invokestatic 72, 3) := dk_184 0 72 (dk_at dksX9_stay_2 5 rfl rfl)
theorem dX9_stay_55 : decode cX9_stay 55 = .ok (.iload_n 3, 1) := dk_29 (dk_at dksX9_stay_2 8 rfl rfl)
theorem dX9_stay_56 : decode cX9_stay 56 = .ok (.invokestatic 72, 3) := dk_184 0 72 (dk_at dksX9_stay_2 9 rfl rfl)
theorem dX9_stay_59 : decode cX9_stay 59 = .ok (.if_icmp .ne 16, 3) := dk_160 0 16 (dk_at dksX9_stay_2 12 rfl rfl)
theorem dX9_stay_62 : decode cX9_stay 62 = .ok (.iload 4, 2) := dk_21 4 (dk_at dksX9_stay_2 15 rfl rfl)
theorem dX9_stay_64 : decode cX9_stay 64 = .ok (.iload_n 3, 1) := dk_29 (dk_at dksX9_stay_2 17 rfl rfl)
theorem dX9_stay_65 : decode cX9_stay 65 = .ok (.invokestatic 142, 3) := dk_184 0 142 (dk_at dksX9_stay_2 18 rfl rfl)
theorem dX9_stay_68 : decode cX9_stay 68 = .ok (.ifCond .eq 7, 3) := dk_153 0 7 (dk_at dksX9_stay_2 21 rfl rfl)
theorem dX9_stay_71 : decode cX9_stay 71 = .ok (.iconst 1, 1) := dk_4 (dk_at dksX9_stay_3 0 rfl rfl)
theorem dX9_stay_72 : decode cX9_stay 72 = .ok (.goto 4, 3) := dk_167 0 4 (dk_at dksX9_stay_3 1 rfl rfl)
theorem dX9_stay_75 : decode cX9_stay 75 = .ok (.iconst 0, 1) := dk_3 (dk_at dksX9_stay_3 4 rfl rfl)
theorem dX9_stay_76 : decode cX9_stay 76 = .ok (.istore 5, 2) := dk_54 5 (dk_at dksX9_stay_3 5 rfl rfl)
theorem dX9_stay_78 : decode cX9_stay 78 = .ok (.iload 5, 2) := dk_21 5 (dk_at dksX9_stay_3 7 rfl rfl)
theorem dX9_stay_80 : decode cX9_stay 80 = .ok (.ifCond .eq 18, 3) := dk_153 0 18 (dk_at dksX9_stay_3 9 rfl rfl)
theorem dX9_stay_83 : decode cX9_stay 83 = .ok (.aload_n 0, 1) := dk_42 (dk_at dksX9_stay_3 12 rfl rfl)
theorem dX9_stay_84 : decode cX9_stay 84 = .ok (.iload 4, 2) := dk_21 4 (dk_at dksX9_stay_3 13 rfl rfl)
theorem dX9_stay_86 : decode cX9_stay 86 = .ok (.iload_n 1, 1) := dk_27 (dk_at dksX9_stay_3 15 rfl rfl)
theorem dX9_stay_87 : decode cX9_stay 87 = .ok (.invokevirtual 145, 3) := dk_182 0 145 (dk_at dksX9_stay_3 16 rfl rfl)
theorem dX9_stay_90 : decode cX9_stay 90 = .ok (.ifCond .eq 8, 3) := dk_153 0 8 (dk_at dksX9_stay_3 19 rfl rfl)
theorem dX9_stay_93 : decode cX9_stay 93 = .ok (.iload 4, 2) := dk_21 4 (dk_at dksX9_stay_3 22 rfl rfl)
theorem dX9_stay_95 : decode cX9_stay 95 = .ok (.goto 4, 3) := dk_167 0 4 (dk_at dksX9_stay_4 0 rfl rfl)
theorem dX9_stay_98 : decode cX9_stay 98 = .ok (.iload_n 3, 1) := dk_29 (dk_at dksX9_stay_4 3 rfl rfl)
theorem dX9_stay_99 : decode cX9_stay 99 = .ok (.istore_n 3, 1) := dk_62 (dk_at dksX9_stay_4 4 rfl rfl)
theorem dX9_stay_100 : decode cX9_stay 100 = .ok (.iinc 4 1, 3) := dk_132 4 1 (dk_at dksX9_stay_4 5 rfl rfl)
theorem dX9_stay_103 : decode cX9_stay 103 = .ok (.goto (-78), 3) := dk_167 255 178 (dk_at dksX9_stay_4 8 rfl rfl)
theorem dX9_stay_106 : decode cX9_stay 106 = .ok (.iconst 0, 1) := dk_3 (dk_at dksX9_stay_4 11 rfl rfl)
theorem dX9_stay_107 : decode cX9_stay 107 = .ok (.istore 4, 2) := dk_54 4 (dk_at dksX9_stay_4 12 rfl rfl)
theorem dX9_stay_109 : decode cX9_stay 109 = .ok (.iconst 0, 1) := dk_3 (dk_at dksX9_stay_4 14 rfl rfl)
theorem dX9_stay_110 : decode cX9_stay 110 = .ok (.istore 5, 2) := dk_54 5 (dk_at dksX9_stay_4 15 rfl rfl)
theorem dX9_stay_112 : decode cX9_stay 112 = .ok (.iload 5, 2) := dk_21 5 (dk_at dksX9_stay_4 17 rfl rfl)
theorem dX9_stay_114 : decode cX9_stay 114 = .ok (.aload_n 0, 1) := dk_42 (dk_at dksX9_stay_4 19 rfl rfl)
theorem dX9_stay_115 : decode cX9_stay 115 = .ok (.getfield 7, 3) := dk_180 0 7 (dk_at dksX9_stay_4 20 rfl rfl)
theorem dX9_stay_118 : decode cX9_stay 118 = .ok (.iconst 1, 1) := dk_4 (dk_at dksX9_stay_4 23 rfl rfl)
theorem dX9_stay_119 : decode cX9_stay 119 = .ok (.iaload, 1) := dk_46 (dk_at dksX9_stay_5 0 rfl rfl)
theorem dX9_stay_120 : decode cX9_stay 120 = .ok (.if_icmp .ge 39, 3) := dk_162 0 39 (dk_at dksX9_stay_5 1 rfl rfl)
theorem dX9_stay_123 : decode cX9_stay 123 = .ok (.iload 4, 2) := dk_21 4 (dk_at dksX9_stay_5 4 rfl rfl)
theorem dX9_stay_125 : decode cX9_stay 125 = .ok (.iload_n 3, 1) := dk_29 (dk_at dksX9_stay_5 6 rfl rfl)
theorem dX9_stay_126 : decode cX9_stay 126 = .ok (.iload 5, 2) := dk_21 5 (dk_at dksX9_stay_5 7 rfl rfl)
theorem dX9_stay_128 : decode cX9_stay 128 = .ok (.invokestatic 79, 3) := dk_184 0 79 (dk_at dksX9_stay_5 9 rfl rfl)
theorem dX9_stay_131 : decode cX9_stay 131 = .ok (.ifCond .eq 18, 3) := dk_153 0 18 (dk_at dksX9_stay_5 12 rfl rfl)
theorem dX9_stay_134 : decode cX9_stay 134 = .ok (.iconst 1, 1) := dk_4 (dk_at dksX9_stay_5 15 rfl rfl)
theorem dX9_stay_135 : decode cX9_stay 135 = .ok (.aload_n 0, 1) := dk_42 (dk_at dksX9_stay_5 16 rfl rfl)
theorem dX9_stay_136 : decode cX9_stay 136 = .ok (.getfield 7, 3) := dk_180 0 7 (dk_at dksX9_stay_5 17 rfl rfl)
theorem dX9_stay_139 : decode cX9_stay 139 = .ok (.bipush 10, 2) := dk_16 10 (dk_at dksX9_stay_5 20 rfl rfl)
theorem dX9_stay_141 : decode cX9_stay 141 = .ok (.iload 5, 2) := dk_21 5 (dk_at dksX9_stay_5 22 rfl rfl)
theorem dX9_stay_143 : decode cX9_stay 143 = .ok (.iadd, 1) := dk_96 (dk_at dksX9_stay_6 0 rfl rfl)
theorem dX9_stay_144 : decode cX9_stay 144 = .ok (.iaload, 1) := dk_46 (dk_at dksX9_stay_6 1 rfl rfl)
theorem dX9_stay_145 : decode cX9_stay 145 = .ok (.ishl, 1) := dk_120 (dk_at dksX9_stay_6 2 rfl rfl)
theorem dX9_stay_146 : decode cX9_stay 146 = .ok (.goto 4, 3) := dk_167 0 4 (dk_at dksX9_stay_6 3 rfl rfl)
theorem dX9_stay_149 : decode cX9_stay 149 = .ok (.iconst 0, 1) := dk_3 (dk_at dksX9_stay_6 6 rfl rfl)
theorem dX9_stay_150 : decode cX9_stay 150 = .ok (.ior, 1) := dk_128 (dk_at dksX9_stay_6 7 rfl rfl)
theorem dX9_stay_151 : decode cX9_stay 151 = .ok (.istore 4, 2) := dk_54 4 (dk_at dksX9_stay_6 8 rfl rfl)
theorem dX9_stay_153 : decode cX9_stay 153 = .ok (.iinc 5 1, 3) := dk_132 5 1 (dk_at dksX9_stay_6 10 rfl rfl)
theorem dX9_stay_156 : decode cX9_stay 156 = .ok (.goto (-44), 3) := dk_167 255 212 (dk_at dksX9_stay_6 13 rfl rfl)
theorem dX9_stay_159 : decode cX9_stay 159 = .ok (.iload_n 2, 1) := dk_28 (dk_at dksX9_stay_6 16 rfl rfl)
theorem dX9_stay_160 : decode cX9_stay 160 = .ok (.ifCond .ne 10, 3) := dk_154 0 10 (dk_at dksX9_stay_6 17 rfl rfl)
theorem dX9_stay_163 : decode cX9_stay 163 = .ok (.iload_n 3, 1) := dk_29 (dk_at dksX9_stay_6 20 rfl rfl)
theorem dX9_stay_164 : decode cX9_stay 164 = .ok (.invokestatic 72, 3) := dk_184 0 72 (dk_at dksX9_stay_6 21 rfl rfl)
theorem dX9_stay_167 : decode cX9_stay 167 = .ok (.goto 5, 3) := dk_167 0 5 (dk_at dksX9_stay_7 0 rfl rfl)
theorem dX9_stay_170 : decode cX9_stay 170 = .ok (.iload 4, 2) := dk_21 4 (dk_at dksX9_stay_7 3 rfl rfl)
theorem dX9_stay_172 : decode cX9_stay 172 = .ok (.ireturn, 1) := dk_172 (dk_at dksX9_stay_7 5 rfl rfl)
abbrev cX9_isAhead : ByteArray := prog_11_method_50_code
def yX9_isAhead : MethodName := ⟨RX9, "isAhead", "(II)Z"⟩
def dkwX9_isAhead_0 : List UInt8 := [26, 27, 130, 61, 28, 28, 116, 126, 26, 126, 153, 0, 7, 4, 167, 0, 4, 3, 172]
abbrev dktX9_isAhead_0 : List UInt8 := dkwX9_isAhead_0 ++ []
theorem dksX9_isAhead_0 : cX9_isAhead.data.toList.drop 0 = dktX9_isAhead_0 := by decide +kernel
theorem dX9_isAhead_0 : decode cX9_isAhead 0 = .ok (.iload_n 0, 1) := dk_26 (dk_at dksX9_isAhead_0 0 rfl rfl)
theorem dX9_isAhead_1 : decode cX9_isAhead 1 = .ok (.iload_n 1, 1) := dk_27 (dk_at dksX9_isAhead_0 1 rfl rfl)
theorem dX9_isAhead_2 : decode cX9_isAhead 2 = .ok (.ixor, 1) := dk_130 (dk_at dksX9_isAhead_0 2 rfl rfl)
theorem dX9_isAhead_3 : decode cX9_isAhead 3 = .ok (.istore_n 2, 1) := dk_61 (dk_at dksX9_isAhead_0 3 rfl rfl)
theorem dX9_isAhead_4 : decode cX9_isAhead 4 = .ok (.iload_n 2, 1) := dk_28 (dk_at dksX9_isAhead_0 4 rfl rfl)
theorem dX9_isAhead_5 : decode cX9_isAhead 5 = .ok (.iload_n 2, 1) := dk_28 (dk_at dksX9_isAhead_0 5 rfl rfl)
theorem dX9_isAhead_6 : decode cX9_isAhead 6 = .ok (.ineg, 1) := dk_116 (dk_at dksX9_isAhead_0 6 rfl rfl)
theorem dX9_isAhead_7 : decode cX9_isAhead 7 = .ok (.iand, 1) := dk_126 (dk_at dksX9_isAhead_0 7 rfl rfl)
theorem dX9_isAhead_8 : decode cX9_isAhead 8 = .ok (.iload_n 0, 1) := dk_26 (dk_at dksX9_isAhead_0 8 rfl rfl)
theorem dX9_isAhead_9 : decode cX9_isAhead 9 = .ok (.iand, 1) := dk_126 (dk_at dksX9_isAhead_0 9 rfl rfl)
theorem dX9_isAhead_10 : decode cX9_isAhead 10 = .ok (.ifCond .eq 7, 3) := dk_153 0 7 (dk_at dksX9_isAhead_0 10 rfl rfl)
theorem dX9_isAhead_13 : decode cX9_isAhead 13 = .ok (.iconst 1, 1) := dk_4 (dk_at dksX9_isAhead_0 13 rfl rfl)
theorem dX9_isAhead_14 : decode cX9_isAhead 14 = .ok (.goto 4, 3) := dk_167 0 4 (dk_at dksX9_isAhead_0 14 rfl rfl)
theorem dX9_isAhead_17 : decode cX9_isAhead 17 = .ok (.iconst 0, 1) := dk_3 (dk_at dksX9_isAhead_0 17 rfl rfl)
theorem dX9_isAhead_18 : decode cX9_isAhead 18 = .ok (.ireturn, 1) := dk_172 (dk_at dksX9_isAhead_0 18 rfl rfl)
abbrev cX9_isOrder : ByteArray := prog_11_method_49_code
def yX9_isOrder : MethodName := ⟨RX9, "isOrder", "(II)Z"⟩
def dkwX9_isOrder_2 : List UInt8 := [167, 0, 4, 3, 62, 42, 21, 5, 28, 182, 0, 138, 54, 4, 132, 5, 1, 167, 255, 202, 29, 172]
abbrev dktX9_isOrder_2 : List UInt8 := dkwX9_isOrder_2 ++ []
def dkwX9_isOrder_1 : List UInt8 := [184, 0, 79, 153, 0, 34, 29, 153, 0, 19, 42, 21, 5, 28, 182, 0, 138, 21, 4, 164, 0, 7, 4]
abbrev dktX9_isOrder_1 : List UInt8 := dkwX9_isOrder_1 ++ dktX9_isOrder_2
def dkwX9_isOrder_0 : List UInt8 := [4, 62, 2, 54, 4, 3, 54, 5, 21, 5, 42, 180, 0, 7, 4, 46, 162, 0, 49, 27, 21, 5]
abbrev dktX9_isOrder_0 : List UInt8 := dkwX9_isOrder_0 ++ dktX9_isOrder_1
theorem dksX9_isOrder_0 : cX9_isOrder.data.toList.drop 0 = dktX9_isOrder_0 := by decide +kernel
theorem dksX9_isOrder_1 : cX9_isOrder.data.toList.drop 22 = dktX9_isOrder_1 := dk_seg dksX9_isOrder_0 22 rfl rfl
theorem dksX9_isOrder_2 : cX9_isOrder.data.toList.drop 45 = dktX9_isOrder_2 := dk_seg dksX9_isOrder_1 23 rfl rfl
theorem dX9_isOrder_0 : decode cX9_isOrder 0 = .ok (.iconst 1, 1) := dk_4 (dk_at dksX9_isOrder_0 0 rfl rfl)
theorem dX9_isOrder_1 : decode cX9_isOrder 1 = .ok (.istore_n 3, 1) := dk_62 (dk_at dksX9_isOrder_0 1 rfl rfl)
theorem dX9_isOrder_2 : decode cX9_isOrder 2 = .ok (.iconst (-1), 1) := dk_2 (dk_at dksX9_isOrder_0 2 rfl rfl)
theorem dX9_isOrder_3 : decode cX9_isOrder 3 = .ok (.istore 4, 2) := dk_54 4 (dk_at dksX9_isOrder_0 3 rfl rfl)
theorem dX9_isOrder_5 : decode cX9_isOrder 5 = .ok (.iconst 0, 1) := dk_3 (dk_at dksX9_isOrder_0 5 rfl rfl)
theorem dX9_isOrder_6 : decode cX9_isOrder 6 = .ok (.istore 5, 2) := dk_54 5 (dk_at dksX9_isOrder_0 6 rfl rfl)
theorem dX9_isOrder_8 : decode cX9_isOrder 8 = .ok (.iload 5, 2) := dk_21 5 (dk_at dksX9_isOrder_0 8 rfl rfl)
theorem dX9_isOrder_10 : decode cX9_isOrder 10 = .ok (.aload_n 0, 1) := dk_42 (dk_at dksX9_isOrder_0 10 rfl rfl)
theorem dX9_isOrder_11 : decode cX9_isOrder 11 = .ok (.getfield 7, 3) := dk_180 0 7 (dk_at dksX9_isOrder_0 11 rfl rfl)
theorem dX9_isOrder_14 : decode cX9_isOrder 14 = .ok (.iconst 1, 1) := dk_4 (dk_at dksX9_isOrder_0 14 rfl rfl)
theorem dX9_isOrder_15 : decode cX9_isOrder 15 = .ok (.iaload, 1) := dk_46 (dk_at dksX9_isOrder_0 15 rfl rfl)
theorem dX9_isOrder_16 : decode cX9_isOrder 16 = .ok (.if_icmp .ge 49, 3) := dk_162 0 49 (dk_at dksX9_isOrder_0 16 rfl rfl)
theorem dX9_isOrder_19 : decode cX9_isOrder 19 = .ok (.iload_n 1, 1) := dk_27 (dk_at dksX9_isOrder_0 19 rfl rfl)
theorem dX9_isOrder_20 : decode cX9_isOrder 20 = .ok (.iload 5, 2) := dk_21 5 (dk_at dksX9_isOrder_0 20 rfl rfl)
theorem dX9_isOrder_22 : decode cX9_isOrder 22 = .ok (.invokestatic 79, 3) := dk_184 0 79 (dk_at dksX9_isOrder_1 0 rfl rfl)
theorem dX9_isOrder_25 : decode cX9_isOrder 25 = .ok (.ifCond .eq 34, 3) := dk_153 0 34 (dk_at dksX9_isOrder_1 3 rfl rfl)
theorem dX9_isOrder_28 : decode cX9_isOrder 28 = .ok (.iload_n 3, 1) := dk_29 (dk_at dksX9_isOrder_1 6 rfl rfl)
theorem dX9_isOrder_29 : decode cX9_isOrder 29 = .ok (.ifCond .eq 19, 3) := dk_153 0 19 (dk_at dksX9_isOrder_1 7 rfl rfl)
theorem dX9_isOrder_32 : decode cX9_isOrder 32 = .ok (.aload_n 0, 1) := dk_42 (dk_at dksX9_isOrder_1 10 rfl rfl)
theorem dX9_isOrder_33 : decode cX9_isOrder 33 = .ok (.iload 5, 2) := dk_21 5 (dk_at dksX9_isOrder_1 11 rfl rfl)
theorem dX9_isOrder_35 : decode cX9_isOrder 35 = .ok (.iload_n 2, 1) := dk_28 (dk_at dksX9_isOrder_1 13 rfl rfl)
theorem dX9_isOrder_36 : decode cX9_isOrder 36 = .ok (.invokevirtual 138, 3) := dk_182 0 138 (dk_at dksX9_isOrder_1 14 rfl rfl)
theorem dX9_isOrder_39 : decode cX9_isOrder 39 = .ok (.iload 4, 2) := dk_21 4 (dk_at dksX9_isOrder_1 17 rfl rfl)
theorem dX9_isOrder_41 : decode cX9_isOrder 41 = .ok (.if_icmp .le 7, 3) := dk_164 0 7 (dk_at dksX9_isOrder_1 19 rfl rfl)
theorem dX9_isOrder_44 : decode cX9_isOrder 44 = .ok (.iconst 1, 1) := dk_4 (dk_at dksX9_isOrder_1 22 rfl rfl)
theorem dX9_isOrder_45 : decode cX9_isOrder 45 = .ok (.goto 4, 3) := dk_167 0 4 (dk_at dksX9_isOrder_2 0 rfl rfl)
theorem dX9_isOrder_48 : decode cX9_isOrder 48 = .ok (.iconst 0, 1) := dk_3 (dk_at dksX9_isOrder_2 3 rfl rfl)
theorem dX9_isOrder_49 : decode cX9_isOrder 49 = .ok (.istore_n 3, 1) := dk_62 (dk_at dksX9_isOrder_2 4 rfl rfl)
theorem dX9_isOrder_50 : decode cX9_isOrder 50 = .ok (.aload_n 0, 1) := dk_42 (dk_at dksX9_isOrder_2 5 rfl rfl)
theorem dX9_isOrder_51 : decode cX9_isOrder 51 = .ok (.iload 5, 2) := dk_21 5 (dk_at dksX9_isOrder_2 6 rfl rfl)
theorem dX9_isOrder_53 : decode cX9_isOrder 53 = .ok (.iload_n 2, 1) := dk_28 (dk_at dksX9_isOrder_2 8 rfl rfl)
theorem dX9_isOrder_54 : decode cX9_isOrder 54 = .ok (.invokevirtual 138, 3) := dk_182 0 138 (dk_at dksX9_isOrder_2 9 rfl rfl)
theorem dX9_isOrder_57 : decode cX9_isOrder 57 = .ok (.istore 4, 2) := dk_54 4 (dk_at dksX9_isOrder_2 12 rfl rfl)
theorem dX9_isOrder_59 : decode cX9_isOrder 59 = .ok (.iinc 5 1, 3) := dk_132 5 1 (dk_at dksX9_isOrder_2 14 rfl rfl)
theorem dX9_isOrder_62 : decode cX9_isOrder 62 = .ok (.goto (-54), 3) := dk_167 255 202 (dk_at dksX9_isOrder_2 17 rfl rfl)
theorem dX9_isOrder_65 : decode cX9_isOrder 65 = .ok (.iload_n 3, 1) := dk_29 (dk_at dksX9_isOrder_2 20 rfl rfl)
theorem dX9_isOrder_66 : decode cX9_isOrder 66 = .ok (.ireturn, 1) := dk_172 (dk_at dksX9_isOrder_2 21 rfl rfl)
abbrev cX9_ways : ByteArray := prog_11_method_54_code
def yX9_ways : MethodName := ⟨RX9, "ways", "()I"⟩
def dkwX9_ways_1 : List UInt8 := [4, 167, 0, 4, 3, 96, 60, 42, 182, 0, 151, 61, 167, 255, 232, 42, 182, 0, 135, 27, 172]
abbrev dktX9_ways_1 : List UInt8 := dkwX9_ways_1 ++ []
def dkwX9_ways_0 : List UInt8 := [42, 182, 0, 132, 42, 182, 0, 148, 3, 60, 4, 61, 28, 153, 0, 26, 27, 42, 182, 0, 116, 154, 0, 7]
abbrev dktX9_ways_0 : List UInt8 := dkwX9_ways_0 ++ dktX9_ways_1
theorem dksX9_ways_0 : cX9_ways.data.toList.drop 0 = dktX9_ways_0 := by decide +kernel
theorem dksX9_ways_1 : cX9_ways.data.toList.drop 24 = dktX9_ways_1 := dk_seg dksX9_ways_0 24 rfl rfl
theorem dX9_ways_0 : decode cX9_ways 0 = .ok (.aload_n 0, 1) := dk_42 (dk_at dksX9_ways_0 0 rfl rfl)
theorem dX9_ways_1 : decode cX9_ways 1 = .ok (.invokevirtual 132, 3) := dk_182 0 132 (dk_at dksX9_ways_0 1 rfl rfl)
theorem dX9_ways_4 : decode cX9_ways 4 = .ok (.aload_n 0, 1) := dk_42 (dk_at dksX9_ways_0 4 rfl rfl)
theorem dX9_ways_5 : decode cX9_ways 5 = .ok (.invokevirtual 148, 3) := dk_182 0 148 (dk_at dksX9_ways_0 5 rfl rfl)
theorem dX9_ways_8 : decode cX9_ways 8 = .ok (.iconst 0, 1) := dk_3 (dk_at dksX9_ways_0 8 rfl rfl)
theorem dX9_ways_9 : decode cX9_ways 9 = .ok (.istore_n 1, 1) := dk_60 (dk_at dksX9_ways_0 9 rfl rfl)
theorem dX9_ways_10 : decode cX9_ways 10 = .ok (.iconst 1, 1) := dk_4 (dk_at dksX9_ways_0 10 rfl rfl)
theorem dX9_ways_11 : decode cX9_ways 11 = .ok (.istore_n 2, 1) := dk_61 (dk_at dksX9_ways_0 11 rfl rfl)
theorem dX9_ways_12 : decode cX9_ways 12 = .ok (.iload_n 2, 1) := dk_28 (dk_at dksX9_ways_0 12 rfl rfl)
theorem dX9_ways_13 : decode cX9_ways 13 = .ok (.ifCond .eq 26, 3) := dk_153 0 26 (dk_at dksX9_ways_0 13 rfl rfl)
theorem dX9_ways_16 : decode cX9_ways 16 = .ok (.iload_n 1, 1) := dk_27 (dk_at dksX9_ways_0 16 rfl rfl)
theorem dX9_ways_17 : decode cX9_ways 17 = .ok (.aload_n 0, 1) := dk_42 (dk_at dksX9_ways_0 17 rfl rfl)
theorem dX9_ways_18 : decode cX9_ways 18 = .ok (.invokevirtual 116, 3) := dk_182 0 116 (dk_at dksX9_ways_0 18 rfl rfl)
theorem dX9_ways_21 : decode cX9_ways 21 = .ok (.ifCond .ne 7, 3) := dk_154 0 7 (dk_at dksX9_ways_0 21 rfl rfl)
theorem dX9_ways_24 : decode cX9_ways 24 = .ok (.iconst 1, 1) := dk_4 (dk_at dksX9_ways_1 0 rfl rfl)
theorem dX9_ways_25 : decode cX9_ways 25 = .ok (.goto 4, 3) := dk_167 0 4 (dk_at dksX9_ways_1 1 rfl rfl)
theorem dX9_ways_28 : decode cX9_ways 28 = .ok (.iconst 0, 1) := dk_3 (dk_at dksX9_ways_1 4 rfl rfl)
theorem dX9_ways_29 : decode cX9_ways 29 = .ok (.iadd, 1) := dk_96 (dk_at dksX9_ways_1 5 rfl rfl)
theorem dX9_ways_30 : decode cX9_ways 30 = .ok (.istore_n 1, 1) := dk_60 (dk_at dksX9_ways_1 6 rfl rfl)
theorem dX9_ways_31 : decode cX9_ways 31 = .ok (.aload_n 0, 1) := dk_42 (dk_at dksX9_ways_1 7 rfl rfl)
theorem dX9_ways_32 : decode cX9_ways 32 = .ok (.invokevirtual 151, 3) := dk_182 0 151 (dk_at dksX9_ways_1 8 rfl rfl)
theorem dX9_ways_35 : decode cX9_ways 35 = .ok (.istore_n 2, 1) := dk_61 (dk_at dksX9_ways_1 11 rfl rfl)
theorem dX9_ways_36 : decode cX9_ways 36 = .ok (.goto (-24), 3) := dk_167 255 232 (dk_at dksX9_ways_1 12 rfl rfl)
theorem dX9_ways_39 : decode cX9_ways 39 = .ok (.aload_n 0, 1) := dk_42 (dk_at dksX9_ways_1 15 rfl rfl)
theorem dX9_ways_40 : decode cX9_ways 40 = .ok (.invokevirtual 135, 3) := dk_182 0 135 (dk_at dksX9_ways_1 16 rfl rfl)
theorem dX9_ways_43 : decode cX9_ways 43 = .ok (.iload_n 1, 1) := dk_27 (dk_at dksX9_ways_1 19 rfl rfl)
theorem dX9_ways_44 : decode cX9_ways 44 = .ok (.ireturn, 1) := dk_172 (dk_at dksX9_ways_1 20 rfl rfl)
abbrev cX9_firstOrder : ByteArray := prog_11_method_52_code
def yX9_firstOrder : MethodName := ⟨RX9, "firstOrder", "()V"⟩
def dkwX9_firstOrder_1 : List UInt8 := [180, 0, 7, 16, 10, 28, 96, 29, 79, 132, 2, 1, 132, 3, 1, 167, 255, 226, 177]
abbrev dktX9_firstOrder_1 : List UInt8 := dkwX9_firstOrder_1 ++ []
def dkwX9_firstOrder_0 : List UInt8 := [42, 182, 0, 75, 60, 3, 61, 3, 62, 29, 16, 6, 162, 0, 30, 27, 29, 184, 0, 79, 153, 0, 16, 42]
abbrev dktX9_firstOrder_0 : List UInt8 := dkwX9_firstOrder_0 ++ dktX9_firstOrder_1
theorem dksX9_firstOrder_0 : cX9_firstOrder.data.toList.drop 0 = dktX9_firstOrder_0 := by decide +kernel
theorem dksX9_firstOrder_1 : cX9_firstOrder.data.toList.drop 24 = dktX9_firstOrder_1 := dk_seg dksX9_firstOrder_0 24 rfl rfl
theorem dX9_firstOrder_0 : decode cX9_firstOrder 0 = .ok (.aload_n 0, 1) := dk_42 (dk_at dksX9_firstOrder_0 0 rfl rfl)
theorem dX9_firstOrder_1 : decode cX9_firstOrder 1 = .ok (.invokevirtual 75, 3) := dk_182 0 75 (dk_at dksX9_firstOrder_0 1 rfl rfl)
theorem dX9_firstOrder_4 : decode cX9_firstOrder 4 = .ok (.istore_n 1, 1) := dk_60 (dk_at dksX9_firstOrder_0 4 rfl rfl)
theorem dX9_firstOrder_5 : decode cX9_firstOrder 5 = .ok (.iconst 0, 1) := dk_3 (dk_at dksX9_firstOrder_0 5 rfl rfl)
theorem dX9_firstOrder_6 : decode cX9_firstOrder 6 = .ok (.istore_n 2, 1) := dk_61 (dk_at dksX9_firstOrder_0 6 rfl rfl)
theorem dX9_firstOrder_7 : decode cX9_firstOrder 7 = .ok (.iconst 0, 1) := dk_3 (dk_at dksX9_firstOrder_0 7 rfl rfl)
theorem dX9_firstOrder_8 : decode cX9_firstOrder 8 = .ok (.istore_n 3, 1) := dk_62 (dk_at dksX9_firstOrder_0 8 rfl rfl)
theorem dX9_firstOrder_9 : decode cX9_firstOrder 9 = .ok (.iload_n 3, 1) := dk_29 (dk_at dksX9_firstOrder_0 9 rfl rfl)
theorem dX9_firstOrder_10 : decode cX9_firstOrder 10 = .ok (.bipush 6, 2) := dk_16 6 (dk_at dksX9_firstOrder_0 10 rfl rfl)
theorem dX9_firstOrder_12 : decode cX9_firstOrder 12 = .ok (.if_icmp .ge 30, 3) := dk_162 0 30 (dk_at dksX9_firstOrder_0 12 rfl rfl)
theorem dX9_firstOrder_15 : decode cX9_firstOrder 15 = .ok (.iload_n 1, 1) := dk_27 (dk_at dksX9_firstOrder_0 15 rfl rfl)
theorem dX9_firstOrder_16 : decode cX9_firstOrder 16 = .ok (.iload_n 3, 1) := dk_29 (dk_at dksX9_firstOrder_0 16 rfl rfl)
theorem dX9_firstOrder_17 : decode cX9_firstOrder 17 = .ok (.invokestatic 79, 3) := dk_184 0 79 (dk_at dksX9_firstOrder_0 17 rfl rfl)
theorem dX9_firstOrder_20 : decode cX9_firstOrder 20 = .ok (.ifCond .eq 16, 3) := dk_153 0 16 (dk_at dksX9_firstOrder_0 20 rfl rfl)
theorem dX9_firstOrder_23 : decode cX9_firstOrder 23 = .ok (.aload_n 0, 1) := dk_42 (dk_at dksX9_firstOrder_0 23 rfl rfl)
theorem dX9_firstOrder_24 : decode cX9_firstOrder 24 = .ok (.getfield 7, 3) := dk_180 0 7 (dk_at dksX9_firstOrder_1 0 rfl rfl)
theorem dX9_firstOrder_27 : decode cX9_firstOrder 27 = .ok (.bipush 10, 2) := dk_16 10 (dk_at dksX9_firstOrder_1 3 rfl rfl)
theorem dX9_firstOrder_29 : decode cX9_firstOrder 29 = .ok (.iload_n 2, 1) := dk_28 (dk_at dksX9_firstOrder_1 5 rfl rfl)
theorem dX9_firstOrder_30 : decode cX9_firstOrder 30 = .ok (.iadd, 1) := dk_96 (dk_at dksX9_firstOrder_1 6 rfl rfl)
theorem dX9_firstOrder_31 : decode cX9_firstOrder 31 = .ok (.iload_n 3, 1) := dk_29 (dk_at dksX9_firstOrder_1 7 rfl rfl)
theorem dX9_firstOrder_32 : decode cX9_firstOrder 32 = .ok (.iastore, 1) := dk_79 (dk_at dksX9_firstOrder_1 8 rfl rfl)
theorem dX9_firstOrder_33 : decode cX9_firstOrder 33 = .ok (.iinc 2 1, 3) := dk_132 2 1 (dk_at dksX9_firstOrder_1 9 rfl rfl)
theorem dX9_firstOrder_36 : decode cX9_firstOrder 36 = .ok (.iinc 3 1, 3) := dk_132 3 1 (dk_at dksX9_firstOrder_1 12 rfl rfl)
theorem dX9_firstOrder_39 : decode cX9_firstOrder 39 = .ok (.goto (-30), 3) := dk_167 255 226 (dk_at dksX9_firstOrder_1 15 rfl rfl)
theorem dX9_firstOrder_42 : decode cX9_firstOrder 42 = .ok (.return_, 1) := dk_177 (dk_at dksX9_firstOrder_1 18 rfl rfl)
abbrev cX9_nextOrder : ByteArray := prog_11_method_53_code
def yX9_nextOrder : MethodName := ⟨RX9, "nextOrder", "()Z"⟩
def dkwX9_nextOrder_8 : List UInt8 := [132, 5, 255, 167, 255, 201, 4, 172]
abbrev dktX9_nextOrder_8 : List UInt8 := dkwX9_nextOrder_8 ++ []
def dkwX9_nextOrder_7 : List UInt8 := [180, 0, 7, 16, 10, 21, 5, 96, 46, 79, 42, 180, 0, 7, 16, 10, 21, 5, 96, 29, 79, 132, 4, 1]
abbrev dktX9_nextOrder_7 : List UInt8 := dkwX9_nextOrder_7 ++ dktX9_nextOrder_8
def dkwX9_nextOrder_6 : List UInt8 := [162, 0, 54, 42, 180, 0, 7, 16, 10, 21, 4, 96, 46, 62, 42, 180, 0, 7, 16, 10, 21, 4, 96, 42]
abbrev dktX9_nextOrder_6 : List UInt8 := dkwX9_nextOrder_6 ++ dktX9_nextOrder_7
def dkwX9_nextOrder_5 : List UInt8 := [28, 96, 29, 79, 27, 4, 96, 54, 4, 42, 180, 0, 7, 4, 46, 4, 100, 54, 5, 21, 4, 21, 5]
abbrev dktX9_nextOrder_5 : List UInt8 := dkwX9_nextOrder_5 ++ dktX9_nextOrder_6
def dkwX9_nextOrder_4 : List UInt8 := [42, 180, 0, 7, 16, 10, 27, 96, 42, 180, 0, 7, 16, 10, 28, 96, 46, 79, 42, 180, 0, 7, 16, 10]
abbrev dktX9_nextOrder_4 : List UInt8 := dkwX9_nextOrder_4 ++ dktX9_nextOrder_5
def dkwX9_nextOrder_3 : List UInt8 := [16, 10, 27, 96, 46, 162, 0, 9, 132, 2, 255, 167, 255, 232, 42, 180, 0, 7, 16, 10, 27, 96, 46, 62]
abbrev dktX9_nextOrder_3 : List UInt8 := dkwX9_nextOrder_3 ++ dktX9_nextOrder_4
def dkwX9_nextOrder_2 : List UInt8 := [172, 42, 180, 0, 7, 4, 46, 4, 100, 61, 42, 180, 0, 7, 16, 10, 28, 96, 46, 42, 180, 0, 7]
abbrev dktX9_nextOrder_2 : List UInt8 := dkwX9_nextOrder_2 ++ dktX9_nextOrder_3
def dkwX9_nextOrder_1 : List UInt8 := [180, 0, 7, 16, 10, 27, 96, 4, 96, 46, 164, 0, 9, 132, 1, 255, 167, 255, 226, 27, 156, 0, 5, 3]
abbrev dktX9_nextOrder_1 : List UInt8 := dkwX9_nextOrder_1 ++ dktX9_nextOrder_2
def dkwX9_nextOrder_0 : List UInt8 := [42, 180, 0, 7, 4, 46, 5, 100, 60, 27, 155, 0, 32, 42, 180, 0, 7, 16, 10, 27, 96, 46, 42]
abbrev dktX9_nextOrder_0 : List UInt8 := dkwX9_nextOrder_0 ++ dktX9_nextOrder_1
theorem dksX9_nextOrder_0 : cX9_nextOrder.data.toList.drop 0 = dktX9_nextOrder_0 := by decide +kernel
theorem dksX9_nextOrder_1 : cX9_nextOrder.data.toList.drop 23 = dktX9_nextOrder_1 := dk_seg dksX9_nextOrder_0 23 rfl rfl
theorem dksX9_nextOrder_2 : cX9_nextOrder.data.toList.drop 47 = dktX9_nextOrder_2 := dk_seg dksX9_nextOrder_1 24 rfl rfl
theorem dksX9_nextOrder_3 : cX9_nextOrder.data.toList.drop 70 = dktX9_nextOrder_3 := dk_seg dksX9_nextOrder_2 23 rfl rfl
theorem dksX9_nextOrder_4 : cX9_nextOrder.data.toList.drop 94 = dktX9_nextOrder_4 := dk_seg dksX9_nextOrder_3 24 rfl rfl
theorem dksX9_nextOrder_5 : cX9_nextOrder.data.toList.drop 118 = dktX9_nextOrder_5 := dk_seg dksX9_nextOrder_4 24 rfl rfl
theorem dksX9_nextOrder_6 : cX9_nextOrder.data.toList.drop 141 = dktX9_nextOrder_6 := dk_seg dksX9_nextOrder_5 23 rfl rfl
theorem dksX9_nextOrder_7 : cX9_nextOrder.data.toList.drop 165 = dktX9_nextOrder_7 := dk_seg dksX9_nextOrder_6 24 rfl rfl
theorem dksX9_nextOrder_8 : cX9_nextOrder.data.toList.drop 189 = dktX9_nextOrder_8 := dk_seg dksX9_nextOrder_7 24 rfl rfl
theorem dX9_nextOrder_0 : decode cX9_nextOrder 0 = .ok (.aload_n 0, 1) := dk_42 (dk_at dksX9_nextOrder_0 0 rfl rfl)
theorem dX9_nextOrder_1 : decode cX9_nextOrder 1 = .ok (.getfield 7, 3) := dk_180 0 7 (dk_at dksX9_nextOrder_0 1 rfl rfl)
theorem dX9_nextOrder_4 : decode cX9_nextOrder 4 = .ok (.iconst 1, 1) := dk_4 (dk_at dksX9_nextOrder_0 4 rfl rfl)
theorem dX9_nextOrder_5 : decode cX9_nextOrder 5 = .ok (.iaload, 1) := dk_46 (dk_at dksX9_nextOrder_0 5 rfl rfl)
theorem dX9_nextOrder_6 : decode cX9_nextOrder 6 = .ok (.iconst 2, 1) := dk_5 (dk_at dksX9_nextOrder_0 6 rfl rfl)
theorem dX9_nextOrder_7 : decode cX9_nextOrder 7 = .ok (.isub, 1) := dk_100 (dk_at dksX9_nextOrder_0 7 rfl rfl)
theorem dX9_nextOrder_8 : decode cX9_nextOrder 8 = .ok (.istore_n 1, 1) := dk_60 (dk_at dksX9_nextOrder_0 8 rfl rfl)
theorem dX9_nextOrder_9 : decode cX9_nextOrder 9 = .ok (.iload_n 1, 1) := dk_27 (dk_at dksX9_nextOrder_0 9 rfl rfl)
theorem dX9_nextOrder_10 : decode cX9_nextOrder 10 = .ok (.ifCond .lt 32, 3) := dk_155 0 32 (dk_at dksX9_nextOrder_0 10 rfl rfl)
theorem dX9_nextOrder_13 : decode cX9_nextOrder 13 = .ok (.aload_n 0, 1) := dk_42 (dk_at dksX9_nextOrder_0 13 rfl rfl)
theorem dX9_nextOrder_14 : decode cX9_nextOrder 14 = .ok (.getfield 7, 3) := dk_180 0 7 (dk_at dksX9_nextOrder_0 14 rfl rfl)
theorem dX9_nextOrder_17 : decode cX9_nextOrder 17 = .ok (.bipush 10, 2) := dk_16 10 (dk_at dksX9_nextOrder_0 17 rfl rfl)
theorem dX9_nextOrder_19 : decode cX9_nextOrder 19 = .ok (.iload_n 1, 1) := dk_27 (dk_at dksX9_nextOrder_0 19 rfl rfl)
theorem dX9_nextOrder_20 : decode cX9_nextOrder 20 = .ok (.iadd, 1) := dk_96 (dk_at dksX9_nextOrder_0 20 rfl rfl)
theorem dX9_nextOrder_21 : decode cX9_nextOrder 21 = .ok (.iaload, 1) := dk_46 (dk_at dksX9_nextOrder_0 21 rfl rfl)
theorem dX9_nextOrder_22 : decode cX9_nextOrder 22 = .ok (.aload_n 0, 1) := dk_42 (dk_at dksX9_nextOrder_0 22 rfl rfl)
theorem dX9_nextOrder_23 : decode cX9_nextOrder 23 = .ok (.getfield 7, 3) := dk_180 0 7 (dk_at dksX9_nextOrder_1 0 rfl rfl)
theorem dX9_nextOrder_26 : decode cX9_nextOrder 26 = .ok (.bipush 10, 2) := dk_16 10 (dk_at dksX9_nextOrder_1 3 rfl rfl)
theorem dX9_nextOrder_28 : decode cX9_nextOrder 28 = .ok (.iload_n 1, 1) := dk_27 (dk_at dksX9_nextOrder_1 5 rfl rfl)
theorem dX9_nextOrder_29 : decode cX9_nextOrder 29 = .ok (.iadd, 1) := dk_96 (dk_at dksX9_nextOrder_1 6 rfl rfl)
theorem dX9_nextOrder_30 : decode cX9_nextOrder 30 = .ok (.iconst 1, 1) := dk_4 (dk_at dksX9_nextOrder_1 7 rfl rfl)
theorem dX9_nextOrder_31 : decode cX9_nextOrder 31 = .ok (.iadd, 1) := dk_96 (dk_at dksX9_nextOrder_1 8 rfl rfl)
theorem dX9_nextOrder_32 : decode cX9_nextOrder 32 = .ok (.iaload, 1) := dk_46 (dk_at dksX9_nextOrder_1 9 rfl rfl)
theorem dX9_nextOrder_33 : decode cX9_nextOrder 33 = .ok (.if_icmp .le 9, 3) := dk_164 0 9 (dk_at dksX9_nextOrder_1 10 rfl rfl)
theorem dX9_nextOrder_36 : decode cX9_nextOrder 36 = .ok (.iinc 1 (-1), 3) := dk_132 1 255 (dk_at dksX9_nextOrder_1 13 rfl rfl)
theorem dX9_nextOrder_39 : decode cX9_nextOrder 39 = .ok (.goto (-30), 3) := dk_167 255 226 (dk_at dksX9_nextOrder_1 16 rfl rfl)
theorem dX9_nextOrder_42 : decode cX9_nextOrder 42 = .ok (.iload_n 1, 1) := dk_27 (dk_at dksX9_nextOrder_1 19 rfl rfl)
theorem dX9_nextOrder_43 : decode cX9_nextOrder 43 = .ok (.ifCond .ge 5, 3) := dk_156 0 5 (dk_at dksX9_nextOrder_1 20 rfl rfl)
theorem dX9_nextOrder_46 : decode cX9_nextOrder 46 = .ok (.iconst 0, 1) := dk_3 (dk_at dksX9_nextOrder_1 23 rfl rfl)
theorem dX9_nextOrder_47 : decode cX9_nextOrder 47 = .ok (.ireturn, 1) := dk_172 (dk_at dksX9_nextOrder_2 0 rfl rfl)
theorem dX9_nextOrder_48 : decode cX9_nextOrder 48 = .ok (.aload_n 0, 1) := dk_42 (dk_at dksX9_nextOrder_2 1 rfl rfl)
theorem dX9_nextOrder_49 : decode cX9_nextOrder 49 = .ok (.getfield 7, 3) := dk_180 0 7 (dk_at dksX9_nextOrder_2 2 rfl rfl)
theorem dX9_nextOrder_52 : decode cX9_nextOrder 52 = .ok (.iconst 1, 1) := dk_4 (dk_at dksX9_nextOrder_2 5 rfl rfl)
theorem dX9_nextOrder_53 : decode cX9_nextOrder 53 = .ok (.iaload, 1) := dk_46 (dk_at dksX9_nextOrder_2 6 rfl rfl)
theorem dX9_nextOrder_54 : decode cX9_nextOrder 54 = .ok (.iconst 1, 1) := dk_4 (dk_at dksX9_nextOrder_2 7 rfl rfl)
theorem dX9_nextOrder_55 : decode cX9_nextOrder 55 = .ok (.isub, 1) := dk_100 (dk_at dksX9_nextOrder_2 8 rfl rfl)
theorem dX9_nextOrder_56 : decode cX9_nextOrder 56 = .ok (.istore_n 2, 1) := dk_61 (dk_at dksX9_nextOrder_2 9 rfl rfl)
theorem dX9_nextOrder_57 : decode cX9_nextOrder 57 = .ok (.aload_n 0, 1) := dk_42 (dk_at dksX9_nextOrder_2 10 rfl rfl)
theorem dX9_nextOrder_58 : decode cX9_nextOrder 58 = .ok (.getfield 7, 3) := dk_180 0 7 (dk_at dksX9_nextOrder_2 11 rfl rfl)
theorem dX9_nextOrder_61 : decode cX9_nextOrder 61 = .ok (.bipush 10, 2) := dk_16 10 (dk_at dksX9_nextOrder_2 14 rfl rfl)
theorem dX9_nextOrder_63 : decode cX9_nextOrder 63 = .ok (.iload_n 2, 1) := dk_28 (dk_at dksX9_nextOrder_2 16 rfl rfl)
theorem dX9_nextOrder_64 : decode cX9_nextOrder 64 = .ok (.iadd, 1) := dk_96 (dk_at dksX9_nextOrder_2 17 rfl rfl)
theorem dX9_nextOrder_65 : decode cX9_nextOrder 65 = .ok (.iaload, 1) := dk_46 (dk_at dksX9_nextOrder_2 18 rfl rfl)
theorem dX9_nextOrder_66 : decode cX9_nextOrder 66 = .ok (.aload_n 0, 1) := dk_42 (dk_at dksX9_nextOrder_2 19 rfl rfl)
theorem dX9_nextOrder_67 : decode cX9_nextOrder 67 = .ok (.getfield 7, 3) := dk_180 0 7 (dk_at dksX9_nextOrder_2 20 rfl rfl)
theorem dX9_nextOrder_70 : decode cX9_nextOrder 70 = .ok (.bipush 10, 2) := dk_16 10 (dk_at dksX9_nextOrder_3 0 rfl rfl)
theorem dX9_nextOrder_72 : decode cX9_nextOrder 72 = .ok (.iload_n 1, 1) := dk_27 (dk_at dksX9_nextOrder_3 2 rfl rfl)
theorem dX9_nextOrder_73 : decode cX9_nextOrder 73 = .ok (.iadd, 1) := dk_96 (dk_at dksX9_nextOrder_3 3 rfl rfl)
theorem dX9_nextOrder_74 : decode cX9_nextOrder 74 = .ok (.iaload, 1) := dk_46 (dk_at dksX9_nextOrder_3 4 rfl rfl)
theorem dX9_nextOrder_75 : decode cX9_nextOrder 75 = .ok (.if_icmp .ge 9, 3) := dk_162 0 9 (dk_at dksX9_nextOrder_3 5 rfl rfl)
theorem dX9_nextOrder_78 : decode cX9_nextOrder 78 = .ok (.iinc 2 (-1), 3) := dk_132 2 255 (dk_at dksX9_nextOrder_3 8 rfl rfl)
theorem dX9_nextOrder_81 : decode cX9_nextOrder 81 = .ok (.goto (-24), 3) := dk_167 255 232 (dk_at dksX9_nextOrder_3 11 rfl rfl)
theorem dX9_nextOrder_84 : decode cX9_nextOrder 84 = .ok (.aload_n 0, 1) := dk_42 (dk_at dksX9_nextOrder_3 14 rfl rfl)
theorem dX9_nextOrder_85 : decode cX9_nextOrder 85 = .ok (.getfield 7, 3) := dk_180 0 7 (dk_at dksX9_nextOrder_3 15 rfl rfl)
theorem dX9_nextOrder_88 : decode cX9_nextOrder 88 = .ok (.bipush 10, 2) := dk_16 10 (dk_at dksX9_nextOrder_3 18 rfl rfl)
theorem dX9_nextOrder_90 : decode cX9_nextOrder 90 = .ok (.iload_n 1, 1) := dk_27 (dk_at dksX9_nextOrder_3 20 rfl rfl)
theorem dX9_nextOrder_91 : decode cX9_nextOrder 91 = .ok (.iadd, 1) := dk_96 (dk_at dksX9_nextOrder_3 21 rfl rfl)
theorem dX9_nextOrder_92 : decode cX9_nextOrder 92 = .ok (.iaload, 1) := dk_46 (dk_at dksX9_nextOrder_3 22 rfl rfl)
theorem dX9_nextOrder_93 : decode cX9_nextOrder 93 = .ok (.istore_n 3, 1) := dk_62 (dk_at dksX9_nextOrder_3 23 rfl rfl)
theorem dX9_nextOrder_94 : decode cX9_nextOrder 94 = .ok (.aload_n 0, 1) := dk_42 (dk_at dksX9_nextOrder_4 0 rfl rfl)
theorem dX9_nextOrder_95 : decode cX9_nextOrder 95 = .ok (.getfield 7, 3) := dk_180 0 7 (dk_at dksX9_nextOrder_4 1 rfl rfl)
theorem dX9_nextOrder_98 : decode cX9_nextOrder 98 = .ok (.bipush 10, 2) := dk_16 10 (dk_at dksX9_nextOrder_4 4 rfl rfl)
theorem dX9_nextOrder_100 : decode cX9_nextOrder 100 = .ok (.iload_n 1, 1) := dk_27 (dk_at dksX9_nextOrder_4 6 rfl rfl)
theorem dX9_nextOrder_101 : decode cX9_nextOrder 101 = .ok (.iadd, 1) := dk_96 (dk_at dksX9_nextOrder_4 7 rfl rfl)
theorem dX9_nextOrder_102 : decode cX9_nextOrder 102 = .ok (.aload_n 0, 1) := dk_42 (dk_at dksX9_nextOrder_4 8 rfl rfl)
theorem dX9_nextOrder_103 : decode cX9_nextOrder 103 = .ok (.getfield 7, 3) := dk_180 0 7 (dk_at dksX9_nextOrder_4 9 rfl rfl)
theorem dX9_nextOrder_106 : decode cX9_nextOrder 106 = .ok (.bipush 10, 2) := dk_16 10 (dk_at dksX9_nextOrder_4 12 rfl rfl)
theorem dX9_nextOrder_108 : decode cX9_nextOrder 108 = .ok (.iload_n 2, 1) := dk_28 (dk_at dksX9_nextOrder_4 14 rfl rfl)
theorem dX9_nextOrder_109 : decode cX9_nextOrder 109 = .ok (.iadd, 1) := dk_96 (dk_at dksX9_nextOrder_4 15 rfl rfl)
theorem dX9_nextOrder_110 : decode cX9_nextOrder 110 = .ok (.iaload, 1) := dk_46 (dk_at dksX9_nextOrder_4 16 rfl rfl)
theorem dX9_nextOrder_111 : decode cX9_nextOrder 111 = .ok (.iastore, 1) := dk_79 (dk_at dksX9_nextOrder_4 17 rfl rfl)
theorem dX9_nextOrder_112 : decode cX9_nextOrder 112 = .ok (.aload_n 0, 1) := dk_42 (dk_at dksX9_nextOrder_4 18 rfl rfl)
theorem dX9_nextOrder_113 : decode cX9_nextOrder 113 = .ok (.getfield 7, 3) := dk_180 0 7 (dk_at dksX9_nextOrder_4 19 rfl rfl)
theorem dX9_nextOrder_116 : decode cX9_nextOrder 116 = .ok (.bipush 10, 2) := dk_16 10 (dk_at dksX9_nextOrder_4 22 rfl rfl)
theorem dX9_nextOrder_118 : decode cX9_nextOrder 118 = .ok (.iload_n 2, 1) := dk_28 (dk_at dksX9_nextOrder_5 0 rfl rfl)
theorem dX9_nextOrder_119 : decode cX9_nextOrder 119 = .ok (.iadd, 1) := dk_96 (dk_at dksX9_nextOrder_5 1 rfl rfl)
theorem dX9_nextOrder_120 : decode cX9_nextOrder 120 = .ok (.iload_n 3, 1) := dk_29 (dk_at dksX9_nextOrder_5 2 rfl rfl)
theorem dX9_nextOrder_121 : decode cX9_nextOrder 121 = .ok (.iastore, 1) := dk_79 (dk_at dksX9_nextOrder_5 3 rfl rfl)
theorem dX9_nextOrder_122 : decode cX9_nextOrder 122 = .ok (.iload_n 1, 1) := dk_27 (dk_at dksX9_nextOrder_5 4 rfl rfl)
theorem dX9_nextOrder_123 : decode cX9_nextOrder 123 = .ok (.iconst 1, 1) := dk_4 (dk_at dksX9_nextOrder_5 5 rfl rfl)
theorem dX9_nextOrder_124 : decode cX9_nextOrder 124 = .ok (.iadd, 1) := dk_96 (dk_at dksX9_nextOrder_5 6 rfl rfl)
theorem dX9_nextOrder_125 : decode cX9_nextOrder 125 = .ok (.istore 4, 2) := dk_54 4 (dk_at dksX9_nextOrder_5 7 rfl rfl)
theorem dX9_nextOrder_127 : decode cX9_nextOrder 127 = .ok (.aload_n 0, 1) := dk_42 (dk_at dksX9_nextOrder_5 9 rfl rfl)
theorem dX9_nextOrder_128 : decode cX9_nextOrder 128 = .ok (.getfield 7, 3) := dk_180 0 7 (dk_at dksX9_nextOrder_5 10 rfl rfl)
theorem dX9_nextOrder_131 : decode cX9_nextOrder 131 = .ok (.iconst 1, 1) := dk_4 (dk_at dksX9_nextOrder_5 13 rfl rfl)
theorem dX9_nextOrder_132 : decode cX9_nextOrder 132 = .ok (.iaload, 1) := dk_46 (dk_at dksX9_nextOrder_5 14 rfl rfl)
theorem dX9_nextOrder_133 : decode cX9_nextOrder 133 = .ok (.iconst 1, 1) := dk_4 (dk_at dksX9_nextOrder_5 15 rfl rfl)
theorem dX9_nextOrder_134 : decode cX9_nextOrder 134 = .ok (.isub, 1) := dk_100 (dk_at dksX9_nextOrder_5 16 rfl rfl)
theorem dX9_nextOrder_135 : decode cX9_nextOrder 135 = .ok (.istore 5, 2) := dk_54 5 (dk_at dksX9_nextOrder_5 17 rfl rfl)
theorem dX9_nextOrder_137 : decode cX9_nextOrder 137 = .ok (.iload 4, 2) := dk_21 4 (dk_at dksX9_nextOrder_5 19 rfl rfl)
theorem dX9_nextOrder_139 : decode cX9_nextOrder 139 = .ok (.iload 5, 2) := dk_21 5 (dk_at dksX9_nextOrder_5 21 rfl rfl)
theorem dX9_nextOrder_141 : decode cX9_nextOrder 141 = .ok (.if_icmp .ge 54, 3) := dk_162 0 54 (dk_at dksX9_nextOrder_6 0 rfl rfl)
theorem dX9_nextOrder_144 : decode cX9_nextOrder 144 = .ok (.aload_n 0, 1) := dk_42 (dk_at dksX9_nextOrder_6 3 rfl rfl)
theorem dX9_nextOrder_145 : decode cX9_nextOrder 145 = .ok (.getfield 7, 3) := dk_180 0 7 (dk_at dksX9_nextOrder_6 4 rfl rfl)
theorem dX9_nextOrder_148 : decode cX9_nextOrder 148 = .ok (.bipush 10, 2) := dk_16 10 (dk_at dksX9_nextOrder_6 7 rfl rfl)
theorem dX9_nextOrder_150 : decode cX9_nextOrder 150 = .ok (.iload 4, 2) := dk_21 4 (dk_at dksX9_nextOrder_6 9 rfl rfl)
theorem dX9_nextOrder_152 : decode cX9_nextOrder 152 = .ok (.iadd, 1) := dk_96 (dk_at dksX9_nextOrder_6 11 rfl rfl)
theorem dX9_nextOrder_153 : decode cX9_nextOrder 153 = .ok (.iaload, 1) := dk_46 (dk_at dksX9_nextOrder_6 12 rfl rfl)
theorem dX9_nextOrder_154 : decode cX9_nextOrder 154 = .ok (.istore_n 3, 1) := dk_62 (dk_at dksX9_nextOrder_6 13 rfl rfl)
theorem dX9_nextOrder_155 : decode cX9_nextOrder 155 = .ok (.aload_n 0, 1) := dk_42 (dk_at dksX9_nextOrder_6 14 rfl rfl)
theorem dX9_nextOrder_156 : decode cX9_nextOrder 156 = .ok (.getfield 7, 3) := dk_180 0 7 (dk_at dksX9_nextOrder_6 15 rfl rfl)
theorem dX9_nextOrder_159 : decode cX9_nextOrder 159 = .ok (.bipush 10, 2) := dk_16 10 (dk_at dksX9_nextOrder_6 18 rfl rfl)
theorem dX9_nextOrder_161 : decode cX9_nextOrder 161 = .ok (.iload 4, 2) := dk_21 4 (dk_at dksX9_nextOrder_6 20 rfl rfl)
theorem dX9_nextOrder_163 : decode cX9_nextOrder 163 = .ok (.iadd, 1) := dk_96 (dk_at dksX9_nextOrder_6 22 rfl rfl)
theorem dX9_nextOrder_164 : decode cX9_nextOrder 164 = .ok (.aload_n 0, 1) := dk_42 (dk_at dksX9_nextOrder_6 23 rfl rfl)
theorem dX9_nextOrder_165 : decode cX9_nextOrder 165 = .ok (.getfield 7, 3) := dk_180 0 7 (dk_at dksX9_nextOrder_7 0 rfl rfl)
theorem dX9_nextOrder_168 : decode cX9_nextOrder 168 = .ok (.bipush 10, 2) := dk_16 10 (dk_at dksX9_nextOrder_7 3 rfl rfl)
theorem dX9_nextOrder_170 : decode cX9_nextOrder 170 = .ok (.iload 5, 2) := dk_21 5 (dk_at dksX9_nextOrder_7 5 rfl rfl)
theorem dX9_nextOrder_172 : decode cX9_nextOrder 172 = .ok (.iadd, 1) := dk_96 (dk_at dksX9_nextOrder_7 7 rfl rfl)
theorem dX9_nextOrder_173 : decode cX9_nextOrder 173 = .ok (.iaload, 1) := dk_46 (dk_at dksX9_nextOrder_7 8 rfl rfl)
theorem dX9_nextOrder_174 : decode cX9_nextOrder 174 = .ok (.iastore, 1) := dk_79 (dk_at dksX9_nextOrder_7 9 rfl rfl)
theorem dX9_nextOrder_175 : decode cX9_nextOrder 175 = .ok (.aload_n 0, 1) := dk_42 (dk_at dksX9_nextOrder_7 10 rfl rfl)
theorem dX9_nextOrder_176 : decode cX9_nextOrder 176 = .ok (.getfield 7, 3) := dk_180 0 7 (dk_at dksX9_nextOrder_7 11 rfl rfl)
theorem dX9_nextOrder_179 : decode cX9_nextOrder 179 = .ok (.bipush 10, 2) := dk_16 10 (dk_at dksX9_nextOrder_7 14 rfl rfl)
theorem dX9_nextOrder_181 : decode cX9_nextOrder 181 = .ok (.iload 5, 2) := dk_21 5 (dk_at dksX9_nextOrder_7 16 rfl rfl)
theorem dX9_nextOrder_183 : decode cX9_nextOrder 183 = .ok (.iadd, 1) := dk_96 (dk_at dksX9_nextOrder_7 18 rfl rfl)
theorem dX9_nextOrder_184 : decode cX9_nextOrder 184 = .ok (.iload_n 3, 1) := dk_29 (dk_at dksX9_nextOrder_7 19 rfl rfl)
theorem dX9_nextOrder_185 : decode cX9_nextOrder 185 = .ok (.iastore, 1) := dk_79 (dk_at dksX9_nextOrder_7 20 rfl rfl)
theorem dX9_nextOrder_186 : decode cX9_nextOrder 186 = .ok (.iinc 4 1, 3) := dk_132 4 1 (dk_at dksX9_nextOrder_7 21 rfl rfl)
theorem dX9_nextOrder_189 : decode cX9_nextOrder 189 = .ok (.iinc 5 (-1), 3) := dk_132 5 255 (dk_at dksX9_nextOrder_8 0 rfl rfl)
theorem dX9_nextOrder_192 : decode cX9_nextOrder 192 = .ok (.goto (-55), 3) := dk_167 255 201 (dk_at dksX9_nextOrder_8 3 rfl rfl)
theorem dX9_nextOrder_195 : decode cX9_nextOrder 195 = .ok (.iconst 1, 1) := dk_4 (dk_at dksX9_nextOrder_8 6 rfl rfl)
theorem dX9_nextOrder_196 : decode cX9_nextOrder 196 = .ok (.ireturn, 1) := dk_172 (dk_at dksX9_nextOrder_8 7 rfl rfl)
abbrev cX9_ease : ByteArray := prog_11_method_55_code
def yX9_ease : MethodName := ⟨RX9, "ease", "(I)I"⟩
def dkwX9_ease_3 : List UInt8 := [167, 255, 210, 42, 182, 0, 135, 27, 2, 160, 0, 7, 28, 167, 0, 4, 29, 172]
abbrev dktX9_ease_3 : List UInt8 := dkwX9_ease_3 ++ []
def dkwX9_ease_2 : List UInt8 := [167, 0, 4, 29, 62, 21, 5, 28, 162, 0, 8, 21, 5, 167, 0, 4, 28, 61, 42, 182, 0, 151, 54, 4]
abbrev dktX9_ease_2 : List UInt8 := dkwX9_ease_2 ++ dktX9_ease_3
def dkwX9_ease_1 : List UInt8 := [21, 4, 153, 0, 47, 42, 182, 0, 116, 54, 5, 21, 5, 28, 162, 0, 11, 42, 27, 182, 0, 63]
abbrev dktX9_ease_1 : List UInt8 := dkwX9_ease_1 ++ dktX9_ease_2
def dkwX9_ease_0 : List UInt8 := [27, 2, 162, 0, 5, 2, 172, 42, 182, 0, 132, 42, 182, 0, 148, 16, 99, 61, 16, 252, 62, 4, 54, 4]
abbrev dktX9_ease_0 : List UInt8 := dkwX9_ease_0 ++ dktX9_ease_1
theorem dksX9_ease_0 : cX9_ease.data.toList.drop 0 = dktX9_ease_0 := by decide +kernel
theorem dksX9_ease_1 : cX9_ease.data.toList.drop 24 = dktX9_ease_1 := dk_seg dksX9_ease_0 24 rfl rfl
theorem dksX9_ease_2 : cX9_ease.data.toList.drop 46 = dktX9_ease_2 := dk_seg dksX9_ease_1 22 rfl rfl
theorem dksX9_ease_3 : cX9_ease.data.toList.drop 70 = dktX9_ease_3 := dk_seg dksX9_ease_2 24 rfl rfl
theorem dX9_ease_0 : decode cX9_ease 0 = .ok (.iload_n 1, 1) := dk_27 (dk_at dksX9_ease_0 0 rfl rfl)
theorem dX9_ease_1 : decode cX9_ease 1 = .ok (.iconst (-1), 1) := dk_2 (dk_at dksX9_ease_0 1 rfl rfl)
theorem dX9_ease_2 : decode cX9_ease 2 = .ok (.if_icmp .ge 5, 3) := dk_162 0 5 (dk_at dksX9_ease_0 2 rfl rfl)
theorem dX9_ease_5 : decode cX9_ease 5 = .ok (.iconst (-1), 1) := dk_2 (dk_at dksX9_ease_0 5 rfl rfl)
theorem dX9_ease_6 : decode cX9_ease 6 = .ok (.ireturn, 1) := dk_172 (dk_at dksX9_ease_0 6 rfl rfl)
theorem dX9_ease_7 : decode cX9_ease 7 = .ok (.aload_n 0, 1) := dk_42 (dk_at dksX9_ease_0 7 rfl rfl)
theorem dX9_ease_8 : decode cX9_ease 8 = .ok (.invokevirtual 132, 3) := dk_182 0 132 (dk_at dksX9_ease_0 8 rfl rfl)
theorem dX9_ease_11 : decode cX9_ease 11 = .ok (.aload_n 0, 1) := dk_42 (dk_at dksX9_ease_0 11 rfl rfl)
theorem dX9_ease_12 : decode cX9_ease 12 = .ok (.invokevirtual 148, 3) := dk_182 0 148 (dk_at dksX9_ease_0 12 rfl rfl)
theorem dX9_ease_15 : decode cX9_ease 15 = .ok (.bipush 99, 2) := dk_16 99 (dk_at dksX9_ease_0 15 rfl rfl)
theorem dX9_ease_17 : decode cX9_ease 17 = .ok (.istore_n 2, 1) := dk_61 (dk_at dksX9_ease_0 17 rfl rfl)
theorem dX9_ease_18 : decode cX9_ease 18 = .ok (.bipush (-4), 2) := dk_16 252 (dk_at dksX9_ease_0 18 rfl rfl)
theorem dX9_ease_20 : decode cX9_ease 20 = .ok (.istore_n 3, 1) := dk_62 (dk_at dksX9_ease_0 20 rfl rfl)
theorem dX9_ease_21 : decode cX9_ease 21 = .ok (.iconst 1, 1) := dk_4 (dk_at dksX9_ease_0 21 rfl rfl)
theorem dX9_ease_22 : decode cX9_ease 22 = .ok (.istore 4, 2) := dk_54 4 (dk_at dksX9_ease_0 22 rfl rfl)
theorem dX9_ease_24 : decode cX9_ease 24 = .ok (.iload 4, 2) := dk_21 4 (dk_at dksX9_ease_1 0 rfl rfl)
theorem dX9_ease_26 : decode cX9_ease 26 = .ok (.ifCond .eq 47, 3) := dk_153 0 47 (dk_at dksX9_ease_1 2 rfl rfl)
theorem dX9_ease_29 : decode cX9_ease 29 = .ok (.aload_n 0, 1) := dk_42 (dk_at dksX9_ease_1 5 rfl rfl)
theorem dX9_ease_30 : decode cX9_ease 30 = .ok (.invokevirtual 116, 3) := dk_182 0 116 (dk_at dksX9_ease_1 6 rfl rfl)
theorem dX9_ease_33 : decode cX9_ease 33 = .ok (.istore 5, 2) := dk_54 5 (dk_at dksX9_ease_1 9 rfl rfl)
theorem dX9_ease_35 : decode cX9_ease 35 = .ok (.iload 5, 2) := dk_21 5 (dk_at dksX9_ease_1 11 rfl rfl)
theorem dX9_ease_37 : decode cX9_ease 37 = .ok (.iload_n 2, 1) := dk_28 (dk_at dksX9_ease_1 13 rfl rfl)
theorem dX9_ease_38 : decode cX9_ease 38 = .ok (.if_icmp .ge 11, 3) := dk_162 0 11 (dk_at dksX9_ease_1 14 rfl rfl)
theorem dX9_ease_41 : decode cX9_ease 41 = .ok (.aload_n 0, 1) := dk_42 (dk_at dksX9_ease_1 17 rfl rfl)
theorem dX9_ease_42 : decode cX9_ease 42 = .ok (.iload_n 1, 1) := dk_27 (dk_at dksX9_ease_1 18 rfl rfl)
theorem dX9_ease_43 : decode cX9_ease 43 = .ok (.invokevirtual 63, 3) := dk_182 0 63 (dk_at dksX9_ease_1 19 rfl rfl)
theorem dX9_ease_46 : decode cX9_ease 46 = .ok (.goto 4, 3) := dk_167 0 4 (dk_at dksX9_ease_2 0 rfl rfl)
theorem dX9_ease_49 : decode cX9_ease 49 = .ok (.iload_n 3, 1) := dk_29 (dk_at dksX9_ease_2 3 rfl rfl)
theorem dX9_ease_50 : decode cX9_ease 50 = .ok (.istore_n 3, 1) := dk_62 (dk_at dksX9_ease_2 4 rfl rfl)
theorem dX9_ease_51 : decode cX9_ease 51 = .ok (.iload 5, 2) := dk_21 5 (dk_at dksX9_ease_2 5 rfl rfl)
theorem dX9_ease_53 : decode cX9_ease 53 = .ok (.iload_n 2, 1) := dk_28 (dk_at dksX9_ease_2 7 rfl rfl)
theorem dX9_ease_54 : decode cX9_ease 54 = .ok (.if_icmp .ge 8, 3) := dk_162 0 8 (dk_at dksX9_ease_2 8 rfl rfl)
theorem dX9_ease_57 : decode cX9_ease 57 = .ok (.iload 5, 2) := dk_21 5 (dk_at dksX9_ease_2 11 rfl rfl)
theorem dX9_ease_59 : decode cX9_ease 59 = .ok (.goto 4, 3) := dk_167 0 4 (dk_at dksX9_ease_2 13 rfl rfl)
theorem dX9_ease_62 : decode cX9_ease 62 = .ok (.iload_n 2, 1) := dk_28 (dk_at dksX9_ease_2 16 rfl rfl)
theorem dX9_ease_63 : decode cX9_ease 63 = .ok (.istore_n 2, 1) := dk_61 (dk_at dksX9_ease_2 17 rfl rfl)
theorem dX9_ease_64 : decode cX9_ease 64 = .ok (.aload_n 0, 1) := dk_42 (dk_at dksX9_ease_2 18 rfl rfl)
theorem dX9_ease_65 : decode cX9_ease 65 = .ok (.invokevirtual 151, 3) := dk_182 0 151 (dk_at dksX9_ease_2 19 rfl rfl)
theorem dX9_ease_68 : decode cX9_ease 68 = .ok (.istore 4, 2) := dk_54 4 (dk_at dksX9_ease_2 22 rfl rfl)
theorem dX9_ease_70 : decode cX9_ease 70 = .ok (.goto (-46), 3) := dk_167 255 210 (dk_at dksX9_ease_3 0 rfl rfl)
theorem dX9_ease_73 : decode cX9_ease 73 = .ok (.aload_n 0, 1) := dk_42 (dk_at dksX9_ease_3 3 rfl rfl)
theorem dX9_ease_74 : decode cX9_ease 74 = .ok (.invokevirtual 135, 3) := dk_182 0 135 (dk_at dksX9_ease_3 4 rfl rfl)
theorem dX9_ease_77 : decode cX9_ease 77 = .ok (.iload_n 1, 1) := dk_27 (dk_at dksX9_ease_3 7 rfl rfl)
theorem dX9_ease_78 : decode cX9_ease 78 = .ok (.iconst (-1), 1) := dk_2 (dk_at dksX9_ease_3 8 rfl rfl)
theorem dX9_ease_79 : decode cX9_ease 79 = .ok (.if_icmp .ne 7, 3) := dk_160 0 7 (dk_at dksX9_ease_3 9 rfl rfl)
theorem dX9_ease_82 : decode cX9_ease 82 = .ok (.iload_n 2, 1) := dk_28 (dk_at dksX9_ease_3 12 rfl rfl)
theorem dX9_ease_83 : decode cX9_ease 83 = .ok (.goto 4, 3) := dk_167 0 4 (dk_at dksX9_ease_3 13 rfl rfl)
theorem dX9_ease_86 : decode cX9_ease 86 = .ok (.iload_n 3, 1) := dk_29 (dk_at dksX9_ease_3 16 rfl rfl)
theorem dX9_ease_87 : decode cX9_ease 87 = .ok (.ireturn, 1) := dk_172 (dk_at dksX9_ease_3 17 rfl rfl)
abbrev cX9_left : ByteArray := prog_11_method_56_code
def yX9_left : MethodName := ⟨RX9, "left", "(II)I"⟩
def dkwX9_left_9 : List UInt8 := [21, 5, 172]
abbrev dktX9_left_9 : List UInt8 := dkwX9_left_9 ++ []
def dkwX9_left_8 : List UInt8 := [182, 0, 135, 28, 2, 160, 0, 7, 29, 167, 0, 16, 28, 16, 254, 160, 0, 8, 21, 4, 167, 0, 5]
abbrev dktX9_left_8 : List UInt8 := dkwX9_left_8 ++ dktX9_left_9
def dkwX9_left_7 : List UInt8 := [180, 0, 41, 21, 8, 46, 79, 132, 8, 1, 167, 255, 232, 42, 182, 0, 151, 54, 6, 167, 255, 113, 42]
abbrev dktX9_left_7 : List UInt8 := dkwX9_left_7 ++ dktX9_left_8
def dkwX9_left_6 : List UInt8 := [54, 4, 21, 7, 54, 5, 3, 54, 8, 21, 8, 16, 40, 162, 0, 23, 42, 180, 0, 7, 21, 8, 42]
abbrev dktX9_left_6 : List UInt8 := dkwX9_left_6 ++ dktX9_left_7
def dkwX9_left_5 : List UInt8 := [160, 0, 29, 42, 182, 0, 113, 21, 4, 164, 0, 20, 42, 180, 0, 7, 4, 46, 62, 42, 182, 0, 113]
abbrev dktX9_left_5 : List UInt8 := dkwX9_left_5 ++ dktX9_left_6
def dkwX9_left_4 : List UInt8 := [132, 8, 1, 167, 255, 243, 42, 180, 0, 7, 4, 46, 29, 163, 0, 22, 42, 180, 0, 7, 4, 46, 29]
abbrev dktX9_left_4 : List UInt8 := dkwX9_left_4 ++ dktX9_left_5
def dkwX9_left_3 : List UInt8 := [167, 255, 232, 42, 28, 182, 0, 63, 54, 7, 3, 54, 8, 21, 8, 27, 162, 0, 13, 42, 182, 0, 122]
abbrev dktX9_left_3 : List UInt8 := dkwX9_left_3 ++ dktX9_left_4
def dkwX9_left_2 : List UInt8 := [21, 7, 16, 40, 162, 0, 23, 42, 180, 0, 41, 21, 7, 42, 180, 0, 7, 21, 7, 46, 79, 132, 7, 1]
abbrev dktX9_left_2 : List UInt8 := dkwX9_left_2 ++ dktX9_left_3
def dkwX9_left_1 : List UInt8 := [182, 0, 148, 2, 62, 2, 54, 4, 16, 252, 54, 5, 4, 54, 6, 21, 6, 153, 0, 144, 3, 54, 7]
abbrev dktX9_left_1 : List UInt8 := dkwX9_left_1 ++ dktX9_left_2
def dkwX9_left_0 : List UInt8 := [27, 3, 16, 30, 184, 0, 44, 153, 0, 9, 28, 16, 254, 162, 0, 5, 2, 172, 42, 182, 0, 132, 42]
abbrev dktX9_left_0 : List UInt8 := dkwX9_left_0 ++ dktX9_left_1
theorem dksX9_left_0 : cX9_left.data.toList.drop 0 = dktX9_left_0 := by decide +kernel
theorem dksX9_left_1 : cX9_left.data.toList.drop 23 = dktX9_left_1 := dk_seg dksX9_left_0 23 rfl rfl
theorem dksX9_left_2 : cX9_left.data.toList.drop 46 = dktX9_left_2 := dk_seg dksX9_left_1 23 rfl rfl
theorem dksX9_left_3 : cX9_left.data.toList.drop 70 = dktX9_left_3 := dk_seg dksX9_left_2 24 rfl rfl
theorem dksX9_left_4 : cX9_left.data.toList.drop 93 = dktX9_left_4 := dk_seg dksX9_left_3 23 rfl rfl
theorem dksX9_left_5 : cX9_left.data.toList.drop 116 = dktX9_left_5 := dk_seg dksX9_left_4 23 rfl rfl
theorem dksX9_left_6 : cX9_left.data.toList.drop 139 = dktX9_left_6 := dk_seg dksX9_left_5 23 rfl rfl
theorem dksX9_left_7 : cX9_left.data.toList.drop 162 = dktX9_left_7 := dk_seg dksX9_left_6 23 rfl rfl
theorem dksX9_left_8 : cX9_left.data.toList.drop 185 = dktX9_left_8 := dk_seg dksX9_left_7 23 rfl rfl
theorem dksX9_left_9 : cX9_left.data.toList.drop 208 = dktX9_left_9 := dk_seg dksX9_left_8 23 rfl rfl
theorem dX9_left_0 : decode cX9_left 0 = .ok (.iload_n 1, 1) := dk_27 (dk_at dksX9_left_0 0 rfl rfl)
theorem dX9_left_1 : decode cX9_left 1 = .ok (.iconst 0, 1) := dk_3 (dk_at dksX9_left_0 1 rfl rfl)
theorem dX9_left_2 : decode cX9_left 2 = .ok (.bipush 30, 2) := dk_16 30 (dk_at dksX9_left_0 2 rfl rfl)
theorem dX9_left_4 : decode cX9_left 4 = .ok (.invokestatic 44, 3) := dk_184 0 44 (dk_at dksX9_left_0 4 rfl rfl)
theorem dX9_left_7 : decode cX9_left 7 = .ok (.ifCond .eq 9, 3) := dk_153 0 9 (dk_at dksX9_left_0 7 rfl rfl)
theorem dX9_left_10 : decode cX9_left 10 = .ok (.iload_n 2, 1) := dk_28 (dk_at dksX9_left_0 10 rfl rfl)
theorem dX9_left_11 : decode cX9_left 11 = .ok (.bipush (-2), 2) := dk_16 254 (dk_at dksX9_left_0 11 rfl rfl)
theorem dX9_left_13 : decode cX9_left 13 = .ok (.if_icmp .ge 5, 3) := dk_162 0 5 (dk_at dksX9_left_0 13 rfl rfl)
theorem dX9_left_16 : decode cX9_left 16 = .ok (.iconst (-1), 1) := dk_2 (dk_at dksX9_left_0 16 rfl rfl)
theorem dX9_left_17 : decode cX9_left 17 = .ok (.ireturn, 1) := dk_172 (dk_at dksX9_left_0 17 rfl rfl)
theorem dX9_left_18 : decode cX9_left 18 = .ok (.aload_n 0, 1) := dk_42 (dk_at dksX9_left_0 18 rfl rfl)
theorem dX9_left_19 : decode cX9_left 19 = .ok (.invokevirtual 132, 3) := dk_182 0 132 (dk_at dksX9_left_0 19 rfl rfl)
theorem dX9_left_22 : decode cX9_left 22 = .ok (.aload_n 0, 1) := dk_42 (dk_at dksX9_left_0 22 rfl rfl)
theorem dX9_left_23 : decode cX9_left 23 = .ok (.invokevirtual 148, 3) := dk_182 0 148 (dk_at dksX9_left_1 0 rfl rfl)
theorem dX9_left_26 : decode cX9_left 26 = .ok (.iconst (-1), 1) := dk_2 (dk_at dksX9_left_1 3 rfl rfl)
theorem dX9_left_27 : decode cX9_left 27 = .ok (.istore_n 3, 1) := dk_62 (dk_at dksX9_left_1 4 rfl rfl)
theorem dX9_left_28 : decode cX9_left 28 = .ok (.iconst (-1), 1) := dk_2 (dk_at dksX9_left_1 5 rfl rfl)
theorem dX9_left_29 : decode cX9_left 29 = .ok (.istore 4, 2) := dk_54 4 (dk_at dksX9_left_1 6 rfl rfl)
theorem dX9_left_31 : decode cX9_left 31 = .ok (.bipush (-4), 2) := dk_16 252 (dk_at dksX9_left_1 8 rfl rfl)
theorem dX9_left_33 : decode cX9_left 33 = .ok (.istore 5, 2) := dk_54 5 (dk_at dksX9_left_1 10 rfl rfl)
theorem dX9_left_35 : decode cX9_left 35 = .ok (.iconst 1, 1) := dk_4 (dk_at dksX9_left_1 12 rfl rfl)
theorem dX9_left_36 : decode cX9_left 36 = .ok (.istore 6, 2) := dk_54 6 (dk_at dksX9_left_1 13 rfl rfl)
theorem dX9_left_38 : decode cX9_left 38 = .ok (.iload 6, 2) := dk_21 6 (dk_at dksX9_left_1 15 rfl rfl)
theorem dX9_left_40 : decode cX9_left 40 = .ok (.ifCond .eq 144, 3) := dk_153 0 144 (dk_at dksX9_left_1 17 rfl rfl)
theorem dX9_left_43 : decode cX9_left 43 = .ok (.iconst 0, 1) := dk_3 (dk_at dksX9_left_1 20 rfl rfl)
theorem dX9_left_44 : decode cX9_left 44 = .ok (.istore 7, 2) := dk_54 7 (dk_at dksX9_left_1 21 rfl rfl)
theorem dX9_left_46 : decode cX9_left 46 = .ok (.iload 7, 2) := dk_21 7 (dk_at dksX9_left_2 0 rfl rfl)
theorem dX9_left_48 : decode cX9_left 48 = .ok (.bipush 40, 2) := dk_16 40 (dk_at dksX9_left_2 2 rfl rfl)
theorem dX9_left_50 : decode cX9_left 50 = .ok (.if_icmp .ge 23, 3) := dk_162 0 23 (dk_at dksX9_left_2 4 rfl rfl)
theorem dX9_left_53 : decode cX9_left 53 = .ok (.aload_n 0, 1) := dk_42 (dk_at dksX9_left_2 7 rfl rfl)
theorem dX9_left_54 : decode cX9_left 54 = .ok (.getfield 41, 3) := dk_180 0 41 (dk_at dksX9_left_2 8 rfl rfl)
theorem dX9_left_57 : decode cX9_left 57 = .ok (.iload 7, 2) := dk_21 7 (dk_at dksX9_left_2 11 rfl rfl)
theorem dX9_left_59 : decode cX9_left 59 = .ok (.aload_n 0, 1) := dk_42 (dk_at dksX9_left_2 13 rfl rfl)
theorem dX9_left_60 : decode cX9_left 60 = .ok (.getfield 7, 3) := dk_180 0 7 (dk_at dksX9_left_2 14 rfl rfl)
theorem dX9_left_63 : decode cX9_left 63 = .ok (.iload 7, 2) := dk_21 7 (dk_at dksX9_left_2 17 rfl rfl)
theorem dX9_left_65 : decode cX9_left 65 = .ok (.iaload, 1) := dk_46 (dk_at dksX9_left_2 19 rfl rfl)
theorem dX9_left_66 : decode cX9_left 66 = .ok (.iastore, 1) := dk_79 (dk_at dksX9_left_2 20 rfl rfl)
theorem dX9_left_67 : decode cX9_left 67 = .ok (.iinc 7 1, 3) := dk_132 7 1 (dk_at dksX9_left_2 21 rfl rfl)
theorem dX9_left_70 : decode cX9_left 70 = .ok (.goto (-24), 3) := dk_167 255 232 (dk_at dksX9_left_3 0 rfl rfl)
theorem dX9_left_73 : decode cX9_left 73 = .ok (.aload_n 0, 1) := dk_42 (dk_at dksX9_left_3 3 rfl rfl)
theorem dX9_left_74 : decode cX9_left 74 = .ok (.iload_n 2, 1) := dk_28 (dk_at dksX9_left_3 4 rfl rfl)
theorem dX9_left_75 : decode cX9_left 75 = .ok (.invokevirtual 63, 3) := dk_182 0 63 (dk_at dksX9_left_3 5 rfl rfl)
theorem dX9_left_78 : decode cX9_left 78 = .ok (.istore 7, 2) := dk_54 7 (dk_at dksX9_left_3 8 rfl rfl)
theorem dX9_left_80 : decode cX9_left 80 = .ok (.iconst 0, 1) := dk_3 (dk_at dksX9_left_3 10 rfl rfl)
theorem dX9_left_81 : decode cX9_left 81 = .ok (.istore 8, 2) := dk_54 8 (dk_at dksX9_left_3 11 rfl rfl)
theorem dX9_left_83 : decode cX9_left 83 = .ok (.iload 8, 2) := dk_21 8 (dk_at dksX9_left_3 13 rfl rfl)
theorem dX9_left_85 : decode cX9_left 85 = .ok (.iload_n 1, 1) := dk_27 (dk_at dksX9_left_3 15 rfl rfl)
theorem dX9_left_86 : decode cX9_left 86 = .ok (.if_icmp .ge 13, 3) := dk_162 0 13 (dk_at dksX9_left_3 16 rfl rfl)
theorem dX9_left_89 : decode cX9_left 89 = .ok (.aload_n 0, 1) := dk_42 (dk_at dksX9_left_3 19 rfl rfl)
theorem dX9_left_90 : decode cX9_left 90 = .ok (.invokevirtual 122, 3) := dk_182 0 122 (dk_at dksX9_left_3 20 rfl rfl)
theorem dX9_left_93 : decode cX9_left 93 = .ok (.iinc 8 1, 3) := dk_132 8 1 (dk_at dksX9_left_4 0 rfl rfl)
theorem dX9_left_96 : decode cX9_left 96 = .ok (.goto (-13), 3) := dk_167 255 243 (dk_at dksX9_left_4 3 rfl rfl)
theorem dX9_left_99 : decode cX9_left 99 = .ok (.aload_n 0, 1) := dk_42 (dk_at dksX9_left_4 6 rfl rfl)
theorem dX9_left_100 : decode cX9_left 100 = .ok (.getfield 7, 3) := dk_180 0 7 (dk_at dksX9_left_4 7 rfl rfl)
theorem dX9_left_103 : decode cX9_left 103 = .ok (.iconst 1, 1) := dk_4 (dk_at dksX9_left_4 10 rfl rfl)
theorem dX9_left_104 : decode cX9_left 104 = .ok (.iaload, 1) := dk_46 (dk_at dksX9_left_4 11 rfl rfl)
theorem dX9_left_105 : decode cX9_left 105 = .ok (.iload_n 3, 1) := dk_29 (dk_at dksX9_left_4 12 rfl rfl)
theorem dX9_left_106 : decode cX9_left 106 = .ok (.if_icmp .gt 22, 3) := dk_163 0 22 (dk_at dksX9_left_4 13 rfl rfl)
theorem dX9_left_109 : decode cX9_left 109 = .ok (.aload_n 0, 1) := dk_42 (dk_at dksX9_left_4 16 rfl rfl)
theorem dX9_left_110 : decode cX9_left 110 = .ok (.getfield 7, 3) := dk_180 0 7 (dk_at dksX9_left_4 17 rfl rfl)
theorem dX9_left_113 : decode cX9_left 113 = .ok (.iconst 1, 1) := dk_4 (dk_at dksX9_left_4 20 rfl rfl)
theorem dX9_left_114 : decode cX9_left 114 = .ok (.iaload, 1) := dk_46 (dk_at dksX9_left_4 21 rfl rfl)
theorem dX9_left_115 : decode cX9_left 115 = .ok (.iload_n 3, 1) := dk_29 (dk_at dksX9_left_4 22 rfl rfl)
theorem dX9_left_116 : decode cX9_left 116 = .ok (.if_icmp .ne 29, 3) := dk_160 0 29 (dk_at dksX9_left_5 0 rfl rfl)
theorem dX9_left_119 : decode cX9_left 119 = .ok (.aload_n 0, 1) := dk_42 (dk_at dksX9_left_5 3 rfl rfl)
theorem dX9_left_120 : decode cX9_left 120 = .ok (.invokevirtual 113, 3) := dk_182 0 113 (dk_at dksX9_left_5 4 rfl rfl)
theorem dX9_left_123 : decode cX9_left 123 = .ok (.iload 4, 2) := dk_21 4 (dk_at dksX9_left_5 7 rfl rfl)
theorem dX9_left_125 : decode cX9_left 125 = .ok (.if_icmp .le 20, 3) := dk_164 0 20 (dk_at dksX9_left_5 9 rfl rfl)
theorem dX9_left_128 : decode cX9_left 128 = .ok (.aload_n 0, 1) := dk_42 (dk_at dksX9_left_5 12 rfl rfl)
theorem dX9_left_129 : decode cX9_left 129 = .ok (.getfield 7, 3) := dk_180 0 7 (dk_at dksX9_left_5 13 rfl rfl)
theorem dX9_left_132 : decode cX9_left 132 = .ok (.iconst 1, 1) := dk_4 (dk_at dksX9_left_5 16 rfl rfl)
theorem dX9_left_133 : decode cX9_left 133 = .ok (.iaload, 1) := dk_46 (dk_at dksX9_left_5 17 rfl rfl)
theorem dX9_left_134 : decode cX9_left 134 = .ok (.istore_n 3, 1) := dk_62 (dk_at dksX9_left_5 18 rfl rfl)
theorem dX9_left_135 : decode cX9_left 135 = .ok (.aload_n 0, 1) := dk_42 (dk_at dksX9_left_5 19 rfl rfl)
theorem dX9_left_136 : decode cX9_left 136 = .ok (.invokevirtual 113, 3) := dk_182 0 113 (dk_at dksX9_left_5 20 rfl rfl)
theorem dX9_left_139 : decode cX9_left 139 = .ok (.istore 4, 2) := dk_54 4 (dk_at dksX9_left_6 0 rfl rfl)
theorem dX9_left_141 : decode cX9_left 141 = .ok (.iload 7, 2) := dk_21 7 (dk_at dksX9_left_6 2 rfl rfl)
theorem dX9_left_143 : decode cX9_left 143 = .ok (.istore 5, 2) := dk_54 5 (dk_at dksX9_left_6 4 rfl rfl)
theorem dX9_left_145 : decode cX9_left 145 = .ok (.iconst 0, 1) := dk_3 (dk_at dksX9_left_6 6 rfl rfl)
theorem dX9_left_146 : decode cX9_left 146 = .ok (.istore 8, 2) := dk_54 8 (dk_at dksX9_left_6 7 rfl rfl)
theorem dX9_left_148 : decode cX9_left 148 = .ok (.iload 8, 2) := dk_21 8 (dk_at dksX9_left_6 9 rfl rfl)
theorem dX9_left_150 : decode cX9_left 150 = .ok (.bipush 40, 2) := dk_16 40 (dk_at dksX9_left_6 11 rfl rfl)
theorem dX9_left_152 : decode cX9_left 152 = .ok (.if_icmp .ge 23, 3) := dk_162 0 23 (dk_at dksX9_left_6 13 rfl rfl)
theorem dX9_left_155 : decode cX9_left 155 = .ok (.aload_n 0, 1) := dk_42 (dk_at dksX9_left_6 16 rfl rfl)
theorem dX9_left_156 : decode cX9_left 156 = .ok (.getfield 7, 3) := dk_180 0 7 (dk_at dksX9_left_6 17 rfl rfl)
theorem dX9_left_159 : decode cX9_left 159 = .ok (.iload 8, 2) := dk_21 8 (dk_at dksX9_left_6 20 rfl rfl)
theorem dX9_left_161 : decode cX9_left 161 = .ok (.aload_n 0, 1) := dk_42 (dk_at dksX9_left_6 22 rfl rfl)
theorem dX9_left_162 : decode cX9_left 162 = .ok (.getfield 41, 3) := dk_180 0 41 (dk_at dksX9_left_7 0 rfl rfl)
theorem dX9_left_165 : decode cX9_left 165 = .ok (.iload 8, 2) := dk_21 8 (dk_at dksX9_left_7 3 rfl rfl)
theorem dX9_left_167 : decode cX9_left 167 = .ok (.iaload, 1) := dk_46 (dk_at dksX9_left_7 5 rfl rfl)
theorem dX9_left_168 : decode cX9_left 168 = .ok (.iastore, 1) := dk_79 (dk_at dksX9_left_7 6 rfl rfl)
theorem dX9_left_169 : decode cX9_left 169 = .ok (.iinc 8 1, 3) := dk_132 8 1 (dk_at dksX9_left_7 7 rfl rfl)
theorem dX9_left_172 : decode cX9_left 172 = .ok (.goto (-24), 3) := dk_167 255 232 (dk_at dksX9_left_7 10 rfl rfl)
theorem dX9_left_175 : decode cX9_left 175 = .ok (.aload_n 0, 1) := dk_42 (dk_at dksX9_left_7 13 rfl rfl)
theorem dX9_left_176 : decode cX9_left 176 = .ok (.invokevirtual 151, 3) := dk_182 0 151 (dk_at dksX9_left_7 14 rfl rfl)
theorem dX9_left_179 : decode cX9_left 179 = .ok (.istore 6, 2) := dk_54 6 (dk_at dksX9_left_7 17 rfl rfl)
theorem dX9_left_181 : decode cX9_left 181 = .ok (.goto (-143), 3) := dk_167 255 113 (dk_at dksX9_left_7 19 rfl rfl)
theorem dX9_left_184 : decode cX9_left 184 = .ok (.aload_n 0, 1) := dk_42 (dk_at dksX9_left_7 22 rfl rfl)
theorem dX9_left_185 : decode cX9_left 185 = .ok (.invokevirtual 135, 3) := dk_182 0 135 (dk_at dksX9_left_8 0 rfl rfl)
theorem dX9_left_188 : decode cX9_left 188 = .ok (.iload_n 2, 1) := dk_28 (dk_at dksX9_left_8 3 rfl rfl)
theorem dX9_left_189 : decode cX9_left 189 = .ok (.iconst (-1), 1) := dk_2 (dk_at dksX9_left_8 4 rfl rfl)
theorem dX9_left_190 : decode cX9_left 190 = .ok (.if_icmp .ne 7, 3) := dk_160 0 7 (dk_at dksX9_left_8 5 rfl rfl)
theorem dX9_left_193 : decode cX9_left 193 = .ok (.iload_n 3, 1) := dk_29 (dk_at dksX9_left_8 8 rfl rfl)
theorem dX9_left_194 : decode cX9_left 194 = .ok (.goto 16, 3) := dk_167 0 16 (dk_at dksX9_left_8 9 rfl rfl)
theorem dX9_left_197 : decode cX9_left 197 = .ok (.iload_n 2, 1) := dk_28 (dk_at dksX9_left_8 12 rfl rfl)
theorem dX9_left_198 : decode cX9_left 198 = .ok (.bipush (-2), 2) := dk_16 254 (dk_at dksX9_left_8 13 rfl rfl)
theorem dX9_left_200 : decode cX9_left 200 = .ok (.if_icmp .ne 8, 3) := dk_160 0 8 (dk_at dksX9_left_8 15 rfl rfl)
theorem dX9_left_203 : decode cX9_left 203 = .ok (.iload 4, 2) := dk_21 4 (dk_at dksX9_left_8 18 rfl rfl)
theorem dX9_left_205 : decode cX9_left 205 = .ok (.goto 5, 3) := dk_167 0 5 (dk_at dksX9_left_8 20 rfl rfl)
theorem dX9_left_208 : decode cX9_left 208 = .ok (.iload 5, 2) := dk_21 5 (dk_at dksX9_left_9 0 rfl rfl)
theorem dX9_left_210 : decode cX9_left 210 = .ok (.ireturn, 1) := dk_172 (dk_at dksX9_left_9 2 rfl rfl)
abbrev cX9_winter : ByteArray := prog_11_method_57_code
def yX9_winter : MethodName := ⟨RX9, "winter", "(III)I"⟩
def dkwX9_winter_11 : List UInt8 := [167, 255, 236, 29, 154, 0, 11, 21, 4, 21, 6, 108, 167, 0, 8, 21, 5, 21, 6, 108, 172]
abbrev dktX9_winter_11 : List UInt8 := dkwX9_winter_11 ++ []
def dkwX9_winter_10 : List UInt8 := [54, 7, 21, 7, 158, 0, 21, 21, 6, 21, 7, 112, 54, 8, 21, 7, 54, 6, 21, 8, 54, 7]
abbrev dktX9_winter_10 : List UInt8 := dkwX9_winter_10 ++ dktX9_winter_11
def dkwX9_winter_9 : List UInt8 := [153, 0, 8, 21, 7, 167, 0, 4, 3, 96, 54, 4, 132, 6, 1, 167, 255, 98, 21, 4, 54, 6, 21, 5]
abbrev dktX9_winter_9 : List UInt8 := dkwX9_winter_9 ++ dktX9_winter_10
def dkwX9_winter_8 : List UInt8 := [54, 9, 42, 180, 0, 7, 16, 10, 21, 10, 96, 46, 54, 8, 132, 10, 1, 167, 255, 159, 21, 4, 21, 9]
abbrev dktX9_winter_8 : List UInt8 := dkwX9_winter_8 ++ dktX9_winter_9
def dkwX9_winter_7 : List UInt8 := [21, 8, 42, 180, 0, 7, 16, 10, 21, 10, 96, 46, 182, 0, 56, 153, 0, 7, 4, 167, 0, 4, 3]
abbrev dktX9_winter_7 : List UInt8 := dkwX9_winter_7 ++ dktX9_winter_8
def dkwX9_winter_6 : List UInt8 := [21, 6, 21, 10, 184, 0, 79, 153, 0, 53, 21, 9, 153, 0, 33, 21, 8, 16, 252, 159, 0, 22, 42]
abbrev dktX9_winter_6 : List UInt8 := dkwX9_winter_6 ++ dktX9_winter_7
def dkwX9_winter_5 : List UInt8 := [21, 7, 21, 6, 21, 10, 184, 0, 79, 153, 0, 10, 16, 10, 28, 100, 167, 0, 4, 28, 104, 54, 7]
abbrev dktX9_winter_5 : List UInt8 := dkwX9_winter_5 ++ dktX9_winter_6
def dkwX9_winter_4 : List UInt8 := [161, 0, 7, 4, 167, 0, 4, 3, 54, 9, 3, 54, 10, 21, 10, 42, 180, 0, 7, 4, 46, 162, 0, 92]
abbrev dktX9_winter_4 : List UInt8 := dkwX9_winter_4 ++ dktX9_winter_5
def dkwX9_winter_3 : List UInt8 := [180, 0, 7, 4, 46, 120, 162, 0, 151, 4, 54, 7, 16, 252, 54, 8, 21, 6, 184, 0, 72, 27]
abbrev dktX9_winter_3 : List UInt8 := dkwX9_winter_3 ++ dktX9_winter_4
def dkwX9_winter_2 : List UInt8 := [46, 162, 0, 16, 21, 5, 16, 10, 104, 54, 5, 132, 6, 1, 167, 255, 235, 3, 54, 6, 21, 6, 4, 42]
abbrev dktX9_winter_2 : List UInt8 := dkwX9_winter_2 ++ dktX9_winter_3
def dkwX9_winter_1 : List UInt8 := [184, 0, 44, 154, 0, 5, 2, 172, 3, 54, 4, 4, 54, 5, 3, 54, 6, 21, 6, 42, 180, 0, 7, 4]
abbrev dktX9_winter_1 : List UInt8 := dkwX9_winter_1 ++ dktX9_winter_2
def dkwX9_winter_0 : List UInt8 := [27, 3, 16, 6, 184, 0, 44, 153, 0, 22, 28, 3, 16, 10, 184, 0, 44, 153, 0, 12, 29, 3, 4]
abbrev dktX9_winter_0 : List UInt8 := dkwX9_winter_0 ++ dktX9_winter_1
theorem dksX9_winter_0 : cX9_winter.data.toList.drop 0 = dktX9_winter_0 := by decide +kernel
theorem dksX9_winter_1 : cX9_winter.data.toList.drop 23 = dktX9_winter_1 := dk_seg dksX9_winter_0 23 rfl rfl
theorem dksX9_winter_2 : cX9_winter.data.toList.drop 47 = dktX9_winter_2 := dk_seg dksX9_winter_1 24 rfl rfl
theorem dksX9_winter_3 : cX9_winter.data.toList.drop 71 = dktX9_winter_3 := dk_seg dksX9_winter_2 24 rfl rfl
theorem dksX9_winter_4 : cX9_winter.data.toList.drop 93 = dktX9_winter_4 := dk_seg dksX9_winter_3 22 rfl rfl
theorem dksX9_winter_5 : cX9_winter.data.toList.drop 117 = dktX9_winter_5 := dk_seg dksX9_winter_4 24 rfl rfl
theorem dksX9_winter_6 : cX9_winter.data.toList.drop 140 = dktX9_winter_6 := dk_seg dksX9_winter_5 23 rfl rfl
theorem dksX9_winter_7 : cX9_winter.data.toList.drop 163 = dktX9_winter_7 := dk_seg dksX9_winter_6 23 rfl rfl
theorem dksX9_winter_8 : cX9_winter.data.toList.drop 186 = dktX9_winter_8 := dk_seg dksX9_winter_7 23 rfl rfl
theorem dksX9_winter_9 : cX9_winter.data.toList.drop 210 = dktX9_winter_9 := dk_seg dksX9_winter_8 24 rfl rfl
theorem dksX9_winter_10 : cX9_winter.data.toList.drop 234 = dktX9_winter_10 := dk_seg dksX9_winter_9 24 rfl rfl
theorem dksX9_winter_11 : cX9_winter.data.toList.drop 256 = dktX9_winter_11 := dk_seg dksX9_winter_10 22 rfl rfl
theorem dX9_winter_0 : decode cX9_winter 0 = .ok (.iload_n 1, 1) := dk_27 (dk_at dksX9_winter_0 0 rfl rfl)
theorem dX9_winter_1 : decode cX9_winter 1 = .ok (.iconst 0, 1) := dk_3 (dk_at dksX9_winter_0 1 rfl rfl)
theorem dX9_winter_2 : decode cX9_winter 2 = .ok (.bipush 6, 2) := dk_16 6 (dk_at dksX9_winter_0 2 rfl rfl)
theorem dX9_winter_4 : decode cX9_winter 4 = .ok (.invokestatic 44, 3) := dk_184 0 44 (dk_at dksX9_winter_0 4 rfl rfl)
theorem dX9_winter_7 : decode cX9_winter 7 = .ok (.ifCond .eq 22, 3) := dk_153 0 22 (dk_at dksX9_winter_0 7 rfl rfl)
theorem dX9_winter_10 : decode cX9_winter 10 = .ok (.iload_n 2, 1) := dk_28 (dk_at dksX9_winter_0 10 rfl rfl)
theorem dX9_winter_11 : decode cX9_winter 11 = .ok (.iconst 0, 1) := dk_3 (dk_at dksX9_winter_0 11 rfl rfl)
theorem dX9_winter_12 : decode cX9_winter 12 = .ok (.bipush 10, 2) := dk_16 10 (dk_at dksX9_winter_0 12 rfl rfl)
theorem dX9_winter_14 : decode cX9_winter 14 = .ok (.invokestatic 44, 3) := dk_184 0 44 (dk_at dksX9_winter_0 14 rfl rfl)
theorem dX9_winter_17 : decode cX9_winter 17 = .ok (.ifCond .eq 12, 3) := dk_153 0 12 (dk_at dksX9_winter_0 17 rfl rfl)
theorem dX9_winter_20 : decode cX9_winter 20 = .ok (.iload_n 3, 1) := dk_29 (dk_at dksX9_winter_0 20 rfl rfl)
theorem dX9_winter_21 : decode cX9_winter 21 = .ok (.iconst 0, 1) := dk_3 (dk_at dksX9_winter_0 21 rfl rfl)
theorem dX9_winter_22 : decode cX9_winter 22 = .ok (.iconst 1, 1) := dk_4 (dk_at dksX9_winter_0 22 rfl rfl)
theorem dX9_winter_23 : decode cX9_winter 23 = .ok (.invokestatic 44, 3) := dk_184 0 44 (dk_at dksX9_winter_1 0 rfl rfl)
theorem dX9_winter_26 : decode cX9_winter 26 = .ok (.ifCond .ne 5, 3) := dk_154 0 5 (dk_at dksX9_winter_1 3 rfl rfl)
theorem dX9_winter_29 : decode cX9_winter 29 = .ok (.iconst (-1), 1) := dk_2 (dk_at dksX9_winter_1 6 rfl rfl)
theorem dX9_winter_30 : decode cX9_winter 30 = .ok (.ireturn, 1) := dk_172 (dk_at dksX9_winter_1 7 rfl rfl)
theorem dX9_winter_31 : decode cX9_winter 31 = .ok (.iconst 0, 1) := dk_3 (dk_at dksX9_winter_1 8 rfl rfl)
theorem dX9_winter_32 : decode cX9_winter 32 = .ok (.istore 4, 2) := dk_54 4 (dk_at dksX9_winter_1 9 rfl rfl)
theorem dX9_winter_34 : decode cX9_winter 34 = .ok (.iconst 1, 1) := dk_4 (dk_at dksX9_winter_1 11 rfl rfl)
theorem dX9_winter_35 : decode cX9_winter 35 = .ok (.istore 5, 2) := dk_54 5 (dk_at dksX9_winter_1 12 rfl rfl)
theorem dX9_winter_37 : decode cX9_winter 37 = .ok (.iconst 0, 1) := dk_3 (dk_at dksX9_winter_1 14 rfl rfl)
theorem dX9_winter_38 : decode cX9_winter 38 = .ok (.istore 6, 2) := dk_54 6 (dk_at dksX9_winter_1 15 rfl rfl)
theorem dX9_winter_40 : decode cX9_winter 40 = .ok (.iload 6, 2) := dk_21 6 (dk_at dksX9_winter_1 17 rfl rfl)
theorem dX9_winter_42 : decode cX9_winter 42 = .ok (.aload_n 0, 1) := dk_42 (dk_at dksX9_winter_1 19 rfl rfl)
theorem dX9_winter_43 : decode cX9_winter 43 = .ok (.getfield 7, 3) := dk_180 0 7 (dk_at dksX9_winter_1 20 rfl rfl)
theorem dX9_winter_46 : decode cX9_winter 46 = .ok (.iconst 1, 1) := dk_4 (dk_at dksX9_winter_1 23 rfl rfl)
theorem dX9_winter_47 : decode cX9_winter 47 = .ok (.iaload, 1) := dk_46 (dk_at dksX9_winter_2 0 rfl rfl)
theorem dX9_winter_48 : decode cX9_winter 48 = .ok (.if_icmp .ge 16, 3) := dk_162 0 16 (dk_at dksX9_winter_2 1 rfl rfl)
theorem dX9_winter_51 : decode cX9_winter 51 = .ok (.iload 5, 2) := dk_21 5 (dk_at dksX9_winter_2 4 rfl rfl)
theorem dX9_winter_53 : decode cX9_winter 53 = .ok (.bipush 10, 2) := dk_16 10 (dk_at dksX9_winter_2 6 rfl rfl)
theorem dX9_winter_55 : decode cX9_winter 55 = .ok (.imul, 1) := dk_104 (dk_at dksX9_winter_2 8 rfl rfl)
theorem dX9_winter_56 : decode cX9_winter 56 = .ok (.istore 5, 2) := dk_54 5 (dk_at dksX9_winter_2 9 rfl rfl)
theorem dX9_winter_58 : decode cX9_winter 58 = .ok (.iinc 6 1, 3) := dk_132 6 1 (dk_at dksX9_winter_2 11 rfl rfl)
theorem dX9_winter_61 : decode cX9_winter 61 = .ok (.goto (-21), 3) := dk_167 255 235 (dk_at dksX9_winter_2 14 rfl rfl)
theorem dX9_winter_64 : decode cX9_winter 64 = .ok (.iconst 0, 1) := dk_3 (dk_at dksX9_winter_2 17 rfl rfl)
theorem dX9_winter_65 : decode cX9_winter 65 = .ok (.istore 6, 2) := dk_54 6 (dk_at dksX9_winter_2 18 rfl rfl)
theorem dX9_winter_67 : decode cX9_winter 67 = .ok (.iload 6, 2) := dk_21 6 (dk_at dksX9_winter_2 20 rfl rfl)
theorem dX9_winter_69 : decode cX9_winter 69 = .ok (.iconst 1, 1) := dk_4 (dk_at dksX9_winter_2 22 rfl rfl)
theorem dX9_winter_70 : decode cX9_winter 70 = .ok (.aload_n 0, 1) := dk_42 (dk_at dksX9_winter_2 23 rfl rfl)
theorem dX9_winter_71 : decode cX9_winter 71 = .ok (.getfield 7, 3) := dk_180 0 7 (dk_at dksX9_winter_3 0 rfl rfl)
theorem dX9_winter_74 : decode cX9_winter 74 = .ok (.iconst 1, 1) := dk_4 (dk_at dksX9_winter_3 3 rfl rfl)
theorem dX9_winter_75 : decode cX9_winter 75 = .ok (.iaload, 1) := dk_46 (dk_at dksX9_winter_3 4 rfl rfl)
theorem dX9_winter_76 : decode cX9_winter 76 = .ok (.ishl, 1) := dk_120 (dk_at dksX9_winter_3 5 rfl rfl)
theorem dX9_winter_77 : decode cX9_winter 77 = .ok (.if_icmp .ge 151, 3) := dk_162 0 151 (dk_at dksX9_winter_3 6 rfl rfl)
theorem dX9_winter_80 : decode cX9_winter 80 = .ok (.iconst 1, 1) := dk_4 (dk_at dksX9_winter_3 9 rfl rfl)
theorem dX9_winter_81 : decode cX9_winter 81 = .ok (.istore 7, 2) := dk_54 7 (dk_at dksX9_winter_3 10 rfl rfl)
theorem dX9_winter_83 : decode cX9_winter 83 = .ok (.bipush (-4), 2) := dk_16 252 (dk_at dksX9_winter_3 12 rfl rfl)
theorem dX9_winter_85 : decode cX9_winter 85 = .ok (.istore 8, 2) := dk_54 8 (dk_at dksX9_winter_3 14 rfl rfl)
theorem dX9_winter_87 : decode cX9_winter 87 = .ok (.iload 6, 2) := dk_21 6 (dk_at dksX9_winter_3 16 rfl rfl)
theorem dX9_winter_89 : decode cX9_winter 89 = .ok (.invokestatic 72, 3) := dk_184 0 72 (dk_at dksX9_winter_3 18 rfl rfl)
theorem dX9_winter_92 : decode cX9_winter 92 = .ok (.iload_n 1, 1) := dk_27 (dk_at dksX9_winter_3 21 rfl rfl)
theorem dX9_winter_93 : decode cX9_winter 93 = .ok (.if_icmp .lt 7, 3) := dk_161 0 7 (dk_at dksX9_winter_4 0 rfl rfl)
theorem dX9_winter_96 : decode cX9_winter 96 = .ok (.iconst 1, 1) := dk_4 (dk_at dksX9_winter_4 3 rfl rfl)
theorem dX9_winter_97 : decode cX9_winter 97 = .ok (.goto 4, 3) := dk_167 0 4 (dk_at dksX9_winter_4 4 rfl rfl)
theorem dX9_winter_100 : decode cX9_winter 100 = .ok (.iconst 0, 1) := dk_3 (dk_at dksX9_winter_4 7 rfl rfl)
theorem dX9_winter_101 : decode cX9_winter 101 = .ok (.istore 9, 2) := dk_54 9 (dk_at dksX9_winter_4 8 rfl rfl)
theorem dX9_winter_103 : decode cX9_winter 103 = .ok (.iconst 0, 1) := dk_3 (dk_at dksX9_winter_4 10 rfl rfl)
theorem dX9_winter_104 : decode cX9_winter 104 = .ok (.istore 10, 2) := dk_54 10 (dk_at dksX9_winter_4 11 rfl rfl)
theorem dX9_winter_106 : decode cX9_winter 106 = .ok (.iload 10, 2) := dk_21 10 (dk_at dksX9_winter_4 13 rfl rfl)
theorem dX9_winter_108 : decode cX9_winter 108 = .ok (.aload_n 0, 1) := dk_42 (dk_at dksX9_winter_4 15 rfl rfl)
theorem dX9_winter_109 : decode cX9_winter 109 = .ok (.getfield 7, 3) := dk_180 0 7 (dk_at dksX9_winter_4 16 rfl rfl)
theorem dX9_winter_112 : decode cX9_winter 112 = .ok (.iconst 1, 1) := dk_4 (dk_at dksX9_winter_4 19 rfl rfl)
theorem dX9_winter_113 : decode cX9_winter 113 = .ok (.iaload, 1) := dk_46 (dk_at dksX9_winter_4 20 rfl rfl)
theorem dX9_winter_114 : decode cX9_winter 114 = .ok (.if_icmp .ge 92, 3) := dk_162 0 92 (dk_at dksX9_winter_4 21 rfl rfl)
theorem dX9_winter_117 : decode cX9_winter 117 = .ok (.iload 7, 2) := dk_21 7 (dk_at dksX9_winter_5 0 rfl rfl)
theorem dX9_winter_119 : decode cX9_winter 119 = .ok (.iload 6, 2) := dk_21 6 (dk_at dksX9_winter_5 2 rfl rfl)
theorem dX9_winter_121 : decode cX9_winter 121 = .ok (.iload 10, 2) := dk_21 10 (dk_at dksX9_winter_5 4 rfl rfl)
theorem dX9_winter_123 : decode cX9_winter 123 = .ok (.invokestatic 79, 3) := dk_184 0 79 (dk_at dksX9_winter_5 6 rfl rfl)
theorem dX9_winter_126 : decode cX9_winter 126 = .ok (.ifCond .eq 10, 3) := dk_153 0 10 (dk_at dksX9_winter_5 9 rfl rfl)
theorem dX9_winter_129 : decode cX9_winter 129 = .ok (.bipush 10, 2) := dk_16 10 (dk_at dksX9_winter_5 12 rfl rfl)
theorem dX9_winter_131 : decode cX9_winter 131 = .ok (.iload_n 2, 1) := dk_28 (dk_at dksX9_winter_5 14 rfl rfl)
theorem dX9_winter_132 : decode cX9_winter 132 = .ok (.isub, 1) := dk_100 (dk_at dksX9_winter_5 15 rfl rfl)
theorem dX9_winter_133 : decode cX9_winter 133 = .ok (.goto 4, 3) := dk_167 0 4 (dk_at dksX9_winter_5 16 rfl rfl)
theorem dX9_winter_136 : decode cX9_winter 136 = .ok (.iload_n 2, 1) := dk_28 (dk_at dksX9_winter_5 19 rfl rfl)
theorem dX9_winter_137 : decode cX9_winter 137 = .ok (.imul, 1) := dk_104 (dk_at dksX9_winter_5 20 rfl rfl)
theorem dX9_winter_138 : decode cX9_winter 138 = .ok (.istore 7, 2) := dk_54 7 (dk_at dksX9_winter_5 21 rfl rfl)
theorem dX9_winter_140 : decode cX9_winter 140 = .ok (.iload 6, 2) := dk_21 6 (dk_at dksX9_winter_6 0 rfl rfl)
theorem dX9_winter_142 : decode cX9_winter 142 = .ok (.iload 10, 2) := dk_21 10 (dk_at dksX9_winter_6 2 rfl rfl)
theorem dX9_winter_144 : decode cX9_winter 144 = .ok (.invokestatic 79, 3) := dk_184 0 79 (dk_at dksX9_winter_6 4 rfl rfl)
theorem dX9_winter_147 : decode cX9_winter 147 = .ok (.ifCond .eq 53, 3) := dk_153 0 53 (dk_at dksX9_winter_6 7 rfl rfl)
theorem dX9_winter_150 : decode cX9_winter 150 = .ok (.iload 9, 2) := dk_21 9 (dk_at dksX9_winter_6 10 rfl rfl)
theorem dX9_winter_152 : decode cX9_winter 152 = .ok (.ifCond .eq 33, 3) := dk_153 0 33 (dk_at dksX9_winter_6 12 rfl rfl)
theorem dX9_winter_155 : decode cX9_winter 155 = .ok (.iload 8, 2) := dk_21 8 (dk_at dksX9_winter_6 15 rfl rfl)
theorem dX9_winter_157 : decode cX9_winter 157 = .ok (.bipush (-4), 2) := dk_16 252 (dk_at dksX9_winter_6 17 rfl rfl)
theorem dX9_winter_159 : decode cX9_winter 159 = .ok (.if_icmp .eq 22, 3) := dk_159 0 22 (dk_at dksX9_winter_6 19 rfl rfl)
theorem dX9_winter_162 : decode cX9_winter 162 = .ok (.aload_n 0, 1) := dk_42 (dk_at dksX9_winter_6 22 rfl rfl)
theorem dX9_winter_163 : decode cX9_winter 163 = .ok (.iload 8, 2) := dk_21 8 (dk_at dksX9_winter_7 0 rfl rfl)
theorem dX9_winter_165 : decode cX9_winter 165 = .ok (.aload_n 0, 1) := dk_42 (dk_at dksX9_winter_7 2 rfl rfl)
theorem dX9_winter_166 : decode cX9_winter 166 = .ok (.getfield 7, 3) := dk_180 0 7 (dk_at dksX9_winter_7 3 rfl rfl)
theorem dX9_winter_169 : decode cX9_winter 169 = .ok (.bipush 10, 2) := dk_16 10 (dk_at dksX9_winter_7 6 rfl rfl)
theorem dX9_winter_171 : decode cX9_winter 171 = .ok (.iload 10, 2) := dk_21 10 (dk_at dksX9_winter_7 8 rfl rfl)
theorem dX9_winter_173 : decode cX9_winter 173 = .ok (.iadd, 1) := dk_96 (dk_at dksX9_winter_7 10 rfl rfl)
theorem dX9_winter_174 : decode cX9_winter 174 = .ok (.iaload, 1) := dk_46 (dk_at dksX9_winter_7 11 rfl rfl)
theorem dX9_winter_175 : decode cX9_winter 175 = .ok (.invokevirtual 56, 3) := dk_182 0 56 (dk_at dksX9_winter_7 12 rfl rfl)
theorem dX9_winter_178 : decode cX9_winter 178 = .ok (.ifCond .eq 7, 3) := dk_153 0 7 (dk_at dksX9_winter_7 15 rfl rfl)
theorem dX9_winter_181 : decode cX9_winter 181 = .ok (.iconst 1, 1) := dk_4 (dk_at dksX9_winter_7 18 rfl rfl)
theorem dX9_winter_182 : decode cX9_winter 182 = .ok (.goto 4, 3) := dk_167 0 4 (dk_at dksX9_winter_7 19 rfl rfl)
theorem dX9_winter_185 : decode cX9_winter 185 = .ok (.iconst 0, 1) := dk_3 (dk_at dksX9_winter_7 22 rfl rfl)
theorem dX9_winter_186 : decode cX9_winter 186 = .ok (.istore 9, 2) := dk_54 9 (dk_at dksX9_winter_8 0 rfl rfl)
theorem dX9_winter_188 : decode cX9_winter 188 = .ok (.aload_n 0, 1) := dk_42 (dk_at dksX9_winter_8 2 rfl rfl)
theorem dX9_winter_189 : decode cX9_winter 189 = .ok (.getfield 7, 3) := dk_180 0 7 (dk_at dksX9_winter_8 3 rfl rfl)
theorem dX9_winter_192 : decode cX9_winter 192 = .ok (.bipush 10, 2) := dk_16 10 (dk_at dksX9_winter_8 6 rfl rfl)
theorem dX9_winter_194 : decode cX9_winter 194 = .ok (.iload 10, 2) := dk_21 10 (dk_at dksX9_winter_8 8 rfl rfl)
theorem dX9_winter_196 : decode cX9_winter 196 = .ok (.iadd, 1) := dk_96 (dk_at dksX9_winter_8 10 rfl rfl)
theorem dX9_winter_197 : decode cX9_winter 197 = .ok (.iaload, 1) := dk_46 (dk_at dksX9_winter_8 11 rfl rfl)
theorem dX9_winter_198 : decode cX9_winter 198 = .ok (.istore 8, 2) := dk_54 8 (dk_at dksX9_winter_8 12 rfl rfl)
theorem dX9_winter_200 : decode cX9_winter 200 = .ok (.iinc 10 1, 3) := dk_132 10 1 (dk_at dksX9_winter_8 14 rfl rfl)
theorem dX9_winter_203 : decode cX9_winter 203 = .ok (.goto (-97), 3) := dk_167 255 159 (dk_at dksX9_winter_8 17 rfl rfl)
theorem dX9_winter_206 : decode cX9_winter 206 = .ok (.iload 4, 2) := dk_21 4 (dk_at dksX9_winter_8 20 rfl rfl)
theorem dX9_winter_208 : decode cX9_winter 208 = .ok (.iload 9, 2) := dk_21 9 (dk_at dksX9_winter_8 22 rfl rfl)
theorem dX9_winter_210 : decode cX9_winter 210 = .ok (.ifCond .eq 8, 3) := dk_153 0 8 (dk_at dksX9_winter_9 0 rfl rfl)
theorem dX9_winter_213 : decode cX9_winter 213 = .ok (.iload 7, 2) := dk_21 7 (dk_at dksX9_winter_9 3 rfl rfl)
theorem dX9_winter_215 : decode cX9_winter 215 = .ok (.goto 4, 3) := dk_167 0 4 (dk_at dksX9_winter_9 5 rfl rfl)
theorem dX9_winter_218 : decode cX9_winter 218 = .ok (.iconst 0, 1) := dk_3 (dk_at dksX9_winter_9 8 rfl rfl)
theorem dX9_winter_219 : decode cX9_winter 219 = .ok (.iadd, 1) := dk_96 (dk_at dksX9_winter_9 9 rfl rfl)
theorem dX9_winter_220 : decode cX9_winter 220 = .ok (.istore 4, 2) := dk_54 4 (dk_at dksX9_winter_9 10 rfl rfl)
theorem dX9_winter_222 : decode cX9_winter 222 = .ok (.iinc 6 1, 3) := dk_132 6 1 (dk_at dksX9_winter_9 12 rfl rfl)
theorem dX9_winter_225 : decode cX9_winter 225 = .ok (.goto (-158), 3) := dk_167 255 98 (dk_at dksX9_winter_9 15 rfl rfl)
theorem dX9_winter_228 : decode cX9_winter 228 = .ok (.iload 4, 2) := dk_21 4 (dk_at dksX9_winter_9 18 rfl rfl)
theorem dX9_winter_230 : decode cX9_winter 230 = .ok (.istore 6, 2) := dk_54 6 (dk_at dksX9_winter_9 20 rfl rfl)
theorem dX9_winter_232 : decode cX9_winter 232 = .ok (.iload 5, 2) := dk_21 5 (dk_at dksX9_winter_9 22 rfl rfl)
theorem dX9_winter_234 : decode cX9_winter 234 = .ok (.istore 7, 2) := dk_54 7 (dk_at dksX9_winter_10 0 rfl rfl)
theorem dX9_winter_236 : decode cX9_winter 236 = .ok (.iload 7, 2) := dk_21 7 (dk_at dksX9_winter_10 2 rfl rfl)
theorem dX9_winter_238 : decode cX9_winter 238 = .ok (.ifCond .le 21, 3) := dk_158 0 21 (dk_at dksX9_winter_10 4 rfl rfl)
theorem dX9_winter_241 : decode cX9_winter 241 = .ok (.iload 6, 2) := dk_21 6 (dk_at dksX9_winter_10 7 rfl rfl)
theorem dX9_winter_243 : decode cX9_winter 243 = .ok (.iload 7, 2) := dk_21 7 (dk_at dksX9_winter_10 9 rfl rfl)
theorem dX9_winter_245 : decode cX9_winter 245 = .ok (.irem, 1) := dk_112 (dk_at dksX9_winter_10 11 rfl rfl)
theorem dX9_winter_246 : decode cX9_winter 246 = .ok (.istore 8, 2) := dk_54 8 (dk_at dksX9_winter_10 12 rfl rfl)
theorem dX9_winter_248 : decode cX9_winter 248 = .ok (.iload 7, 2) := dk_21 7 (dk_at dksX9_winter_10 14 rfl rfl)
theorem dX9_winter_250 : decode cX9_winter 250 = .ok (.istore 6, 2) := dk_54 6 (dk_at dksX9_winter_10 16 rfl rfl)
theorem dX9_winter_252 : decode cX9_winter 252 = .ok (.iload 8, 2) := dk_21 8 (dk_at dksX9_winter_10 18 rfl rfl)
theorem dX9_winter_254 : decode cX9_winter 254 = .ok (.istore 7, 2) := dk_54 7 (dk_at dksX9_winter_10 20 rfl rfl)
theorem dX9_winter_256 : decode cX9_winter 256 = .ok (.goto (-20), 3) := dk_167 255 236 (dk_at dksX9_winter_11 0 rfl rfl)
theorem dX9_winter_259 : decode cX9_winter 259 = .ok (.iload_n 3, 1) := dk_29 (dk_at dksX9_winter_11 3 rfl rfl)
theorem dX9_winter_260 : decode cX9_winter 260 = .ok (.ifCond .ne 11, 3) := dk_154 0 11 (dk_at dksX9_winter_11 4 rfl rfl)
theorem dX9_winter_263 : decode cX9_winter 263 = .ok (.iload 4, 2) := dk_21 4 (dk_at dksX9_winter_11 7 rfl rfl)
theorem dX9_winter_265 : decode cX9_winter 265 = .ok (.iload 6, 2) := dk_21 6 (dk_at dksX9_winter_11 9 rfl rfl)
theorem dX9_winter_267 : decode cX9_winter 267 = .ok (.idiv, 1) := dk_108 (dk_at dksX9_winter_11 11 rfl rfl)
theorem dX9_winter_268 : decode cX9_winter 268 = .ok (.goto 8, 3) := dk_167 0 8 (dk_at dksX9_winter_11 12 rfl rfl)
theorem dX9_winter_271 : decode cX9_winter 271 = .ok (.iload 5, 2) := dk_21 5 (dk_at dksX9_winter_11 15 rfl rfl)
theorem dX9_winter_273 : decode cX9_winter 273 = .ok (.iload 6, 2) := dk_21 6 (dk_at dksX9_winter_11 17 rfl rfl)
theorem dX9_winter_275 : decode cX9_winter 275 = .ok (.idiv, 1) := dk_108 (dk_at dksX9_winter_11 19 rfl rfl)
theorem dX9_winter_276 : decode cX9_winter 276 = .ok (.ireturn, 1) := dk_172 (dk_at dksX9_winter_11 20 rfl rfl)
abbrev cX9_image : ByteArray := prog_11_method_58_code
def yX9_image : MethodName := ⟨RX9, "image", "()I"⟩
def dkwX9_image_1 : List UInt8 := [167, 255, 234, 42, 4, 181, 0, 155, 4, 172]
abbrev dktX9_image_1 : List UInt8 := dkwX9_image_1 ++ []
def dkwX9_image_0 : List UInt8 := [3, 60, 27, 17, 0, 161, 162, 0, 21, 42, 180, 0, 13, 27, 42, 180, 0, 7, 27, 46, 79, 132, 1, 1]
abbrev dktX9_image_0 : List UInt8 := dkwX9_image_0 ++ dktX9_image_1
theorem dksX9_image_0 : cX9_image.data.toList.drop 0 = dktX9_image_0 := by decide +kernel
theorem dksX9_image_1 : cX9_image.data.toList.drop 24 = dktX9_image_1 := dk_seg dksX9_image_0 24 rfl rfl
theorem dX9_image_0 : decode cX9_image 0 = .ok (.iconst 0, 1) := dk_3 (dk_at dksX9_image_0 0 rfl rfl)
theorem dX9_image_1 : decode cX9_image 1 = .ok (.istore_n 1, 1) := dk_60 (dk_at dksX9_image_0 1 rfl rfl)
theorem dX9_image_2 : decode cX9_image 2 = .ok (.iload_n 1, 1) := dk_27 (dk_at dksX9_image_0 2 rfl rfl)
theorem dX9_image_3 : decode cX9_image 3 = .ok (.sipush 161, 3) := dk_17 0 161 (dk_at dksX9_image_0 3 rfl rfl)
theorem dX9_image_6 : decode cX9_image 6 = .ok (.if_icmp .ge 21, 3) := dk_162 0 21 (dk_at dksX9_image_0 6 rfl rfl)
theorem dX9_image_9 : decode cX9_image 9 = .ok (.aload_n 0, 1) := dk_42 (dk_at dksX9_image_0 9 rfl rfl)
theorem dX9_image_10 : decode cX9_image 10 = .ok (.getfield 13, 3) := dk_180 0 13 (dk_at dksX9_image_0 10 rfl rfl)
theorem dX9_image_13 : decode cX9_image 13 = .ok (.iload_n 1, 1) := dk_27 (dk_at dksX9_image_0 13 rfl rfl)
theorem dX9_image_14 : decode cX9_image 14 = .ok (.aload_n 0, 1) := dk_42 (dk_at dksX9_image_0 14 rfl rfl)
theorem dX9_image_15 : decode cX9_image 15 = .ok (.getfield 7, 3) := dk_180 0 7 (dk_at dksX9_image_0 15 rfl rfl)
theorem dX9_image_18 : decode cX9_image 18 = .ok (.iload_n 1, 1) := dk_27 (dk_at dksX9_image_0 18 rfl rfl)
theorem dX9_image_19 : decode cX9_image 19 = .ok (.iaload, 1) := dk_46 (dk_at dksX9_image_0 19 rfl rfl)
theorem dX9_image_20 : decode cX9_image 20 = .ok (.iastore, 1) := dk_79 (dk_at dksX9_image_0 20 rfl rfl)
theorem dX9_image_21 : decode cX9_image 21 = .ok (.iinc 1 1, 3) := dk_132 1 1 (dk_at dksX9_image_0 21 rfl rfl)
theorem dX9_image_24 : decode cX9_image 24 = .ok (.goto (-22), 3) := dk_167 255 234 (dk_at dksX9_image_1 0 rfl rfl)
theorem dX9_image_27 : decode cX9_image 27 = .ok (.aload_n 0, 1) := dk_42 (dk_at dksX9_image_1 3 rfl rfl)
theorem dX9_image_28 : decode cX9_image 28 = .ok (.iconst 1, 1) := dk_4 (dk_at dksX9_image_1 4 rfl rfl)
theorem dX9_image_29 : decode cX9_image 29 = .ok (.putfield 155, 3) := dk_181 0 155 (dk_at dksX9_image_1 5 rfl rfl)
theorem dX9_image_32 : decode cX9_image 32 = .ok (.iconst 1, 1) := dk_4 (dk_at dksX9_image_1 8 rfl rfl)
theorem dX9_image_33 : decode cX9_image 33 = .ok (.ireturn, 1) := dk_172 (dk_at dksX9_image_1 9 rfl rfl)
abbrev cX9_restore : ByteArray := prog_11_method_59_code
def yX9_restore : MethodName := ⟨RX9, "restore", "()I"⟩
def dkwX9_restore_1 : List UInt8 := [42, 180, 0, 13, 27, 46, 79, 132, 1, 1, 167, 255, 234, 4, 172]
abbrev dktX9_restore_1 : List UInt8 := dkwX9_restore_1 ++ []
def dkwX9_restore_0 : List UInt8 := [42, 180, 0, 155, 154, 0, 6, 16, 252, 172, 3, 60, 27, 17, 0, 161, 162, 0, 21, 42, 180, 0, 7, 27]
abbrev dktX9_restore_0 : List UInt8 := dkwX9_restore_0 ++ dktX9_restore_1
theorem dksX9_restore_0 : cX9_restore.data.toList.drop 0 = dktX9_restore_0 := by decide +kernel
theorem dksX9_restore_1 : cX9_restore.data.toList.drop 24 = dktX9_restore_1 := dk_seg dksX9_restore_0 24 rfl rfl
theorem dX9_restore_0 : decode cX9_restore 0 = .ok (.aload_n 0, 1) := dk_42 (dk_at dksX9_restore_0 0 rfl rfl)
theorem dX9_restore_1 : decode cX9_restore 1 = .ok (.getfield 155, 3) := dk_180 0 155 (dk_at dksX9_restore_0 1 rfl rfl)
theorem dX9_restore_4 : decode cX9_restore 4 = .ok (.ifCond .ne 6, 3) := dk_154 0 6 (dk_at dksX9_restore_0 4 rfl rfl)
theorem dX9_restore_7 : decode cX9_restore 7 = .ok (.bipush (-4), 2) := dk_16 252 (dk_at dksX9_restore_0 7 rfl rfl)
theorem dX9_restore_9 : decode cX9_restore 9 = .ok (.ireturn, 1) := dk_172 (dk_at dksX9_restore_0 9 rfl rfl)
theorem dX9_restore_10 : decode cX9_restore 10 = .ok (.iconst 0, 1) := dk_3 (dk_at dksX9_restore_0 10 rfl rfl)
theorem dX9_restore_11 : decode cX9_restore 11 = .ok (.istore_n 1, 1) := dk_60 (dk_at dksX9_restore_0 11 rfl rfl)
theorem dX9_restore_12 : decode cX9_restore 12 = .ok (.iload_n 1, 1) := dk_27 (dk_at dksX9_restore_0 12 rfl rfl)
theorem dX9_restore_13 : decode cX9_restore 13 = .ok (.sipush 161, 3) := dk_17 0 161 (dk_at dksX9_restore_0 13 rfl rfl)
theorem dX9_restore_16 : decode cX9_restore 16 = .ok (.if_icmp .ge 21, 3) := dk_162 0 21 (dk_at dksX9_restore_0 16 rfl rfl)
theorem dX9_restore_19 : decode cX9_restore 19 = .ok (.aload_n 0, 1) := dk_42 (dk_at dksX9_restore_0 19 rfl rfl)
theorem dX9_restore_20 : decode cX9_restore 20 = .ok (.getfield 7, 3) := dk_180 0 7 (dk_at dksX9_restore_0 20 rfl rfl)
theorem dX9_restore_23 : decode cX9_restore 23 = .ok (.iload_n 1, 1) := dk_27 (dk_at dksX9_restore_0 23 rfl rfl)
theorem dX9_restore_24 : decode cX9_restore 24 = .ok (.aload_n 0, 1) := dk_42 (dk_at dksX9_restore_1 0 rfl rfl)
theorem dX9_restore_25 : decode cX9_restore 25 = .ok (.getfield 13, 3) := dk_180 0 13 (dk_at dksX9_restore_1 1 rfl rfl)
theorem dX9_restore_28 : decode cX9_restore 28 = .ok (.iload_n 1, 1) := dk_27 (dk_at dksX9_restore_1 4 rfl rfl)
theorem dX9_restore_29 : decode cX9_restore 29 = .ok (.iaload, 1) := dk_46 (dk_at dksX9_restore_1 5 rfl rfl)
theorem dX9_restore_30 : decode cX9_restore 30 = .ok (.iastore, 1) := dk_79 (dk_at dksX9_restore_1 6 rfl rfl)
theorem dX9_restore_31 : decode cX9_restore 31 = .ok (.iinc 1 1, 3) := dk_132 1 1 (dk_at dksX9_restore_1 7 rfl rfl)
theorem dX9_restore_34 : decode cX9_restore 34 = .ok (.goto (-22), 3) := dk_167 255 234 (dk_at dksX9_restore_1 10 rfl rfl)
theorem dX9_restore_37 : decode cX9_restore 37 = .ok (.iconst 1, 1) := dk_4 (dk_at dksX9_restore_1 13 rfl rfl)
theorem dX9_restore_38 : decode cX9_restore 38 = .ok (.ireturn, 1) := dk_172 (dk_at dksX9_restore_1 14 rfl rfl)
abbrev cX9_failed : ByteArray := prog_11_method_64_code
def yX9_failed : MethodName := ⟨RX9, "failed", "(IIIIII)I"⟩
def dkwX9_failed_10 : List UInt8 := [21, 11, 172]
abbrev dktX9_failed_10 : List UInt8 := dkwX9_failed_10 ++ []
def dkwX9_failed_9 : List UInt8 := [167, 255, 198, 21, 6, 154, 0, 8, 21, 9, 167, 0, 16, 21, 6, 4, 160, 0, 8, 21, 10, 167, 0, 5]
abbrev dktX9_failed_9 : List UInt8 := dkwX9_failed_9 ++ dktX9_failed_10
def dkwX9_failed_8 : List UInt8 := [167, 0, 4, 3, 96, 54, 10, 21, 13, 153, 0, 8, 21, 12, 167, 0, 5, 21, 11, 54, 11, 132, 12, 255]
abbrev dktX9_failed_8 : List UInt8 := dkwX9_failed_8 ++ dktX9_failed_9
def dkwX9_failed_7 : List UInt8 := [27, 96, 21, 12, 79, 42, 27, 21, 8, 21, 5, 182, 0, 166, 54, 13, 21, 10, 21, 13, 153, 0, 7, 4]
abbrev dktX9_failed_7 : List UInt8 := dkwX9_failed_7 ++ dktX9_failed_8
def dkwX9_failed_6 : List UInt8 := [167, 255, 211, 3, 54, 10, 16, 252, 54, 11, 16, 60, 54, 12, 21, 12, 158, 0, 59, 42, 180, 0, 7, 7]
abbrev dktX9_failed_6 : List UInt8 := dkwX9_failed_6 ++ dktX9_failed_7
def dkwX9_failed_5 : List UInt8 := [21, 8, 21, 5, 182, 0, 166, 153, 0, 10, 4, 21, 10, 120, 167, 0, 4, 3, 128, 54, 9, 132, 10, 1]
abbrev dktX9_failed_5 : List UInt8 := dkwX9_failed_5 ++ dktX9_failed_6
def dkwX9_failed_4 : List UInt8 := [3, 54, 10, 21, 10, 7, 163, 0, 45, 42, 180, 0, 7, 16, 16, 27, 96, 21, 10, 79, 21, 9, 42, 27]
abbrev dktX9_failed_4 : List UInt8 := dkwX9_failed_4 ++ dktX9_failed_5
def dkwX9_failed_3 : List UInt8 := [16, 252, 160, 0, 6, 16, 254, 172, 42, 182, 0, 132, 16, 24, 28, 104, 21, 4, 96, 54, 8, 3, 54, 9]
abbrev dktX9_failed_3 : List UInt8 := dkwX9_failed_3 ++ dktX9_failed_4
def dkwX9_failed_2 : List UInt8 := [28, 29, 21, 4, 21, 5, 182, 0, 162, 54, 7, 21, 7, 153, 0, 6, 21, 7, 172, 42, 27, 182, 0, 59]
abbrev dktX9_failed_2 : List UInt8 := dkwX9_failed_2 ++ dktX9_failed_3
def dkwX9_failed_1 : List UInt8 := [21, 5, 4, 16, 8, 184, 0, 44, 153, 0, 13, 21, 6, 3, 5, 184, 0, 44, 154, 0, 5, 2, 172, 42]
abbrev dktX9_failed_1 : List UInt8 := dkwX9_failed_1 ++ dktX9_failed_2
def dkwX9_failed_0 : List UInt8 := [42, 27, 182, 0, 52, 153, 0, 40, 28, 184, 0, 159, 153, 0, 33, 29, 3, 6, 184, 0, 44, 153, 0, 24]
abbrev dktX9_failed_0 : List UInt8 := dkwX9_failed_0 ++ dktX9_failed_1
theorem dksX9_failed_0 : cX9_failed.data.toList.drop 0 = dktX9_failed_0 := by decide +kernel
theorem dksX9_failed_1 : cX9_failed.data.toList.drop 24 = dktX9_failed_1 := dk_seg dksX9_failed_0 24 rfl rfl
theorem dksX9_failed_2 : cX9_failed.data.toList.drop 48 = dktX9_failed_2 := dk_seg dksX9_failed_1 24 rfl rfl
theorem dksX9_failed_3 : cX9_failed.data.toList.drop 72 = dktX9_failed_3 := dk_seg dksX9_failed_2 24 rfl rfl
theorem dksX9_failed_4 : cX9_failed.data.toList.drop 96 = dktX9_failed_4 := dk_seg dksX9_failed_3 24 rfl rfl
theorem dksX9_failed_5 : cX9_failed.data.toList.drop 120 = dktX9_failed_5 := dk_seg dksX9_failed_4 24 rfl rfl
theorem dksX9_failed_6 : cX9_failed.data.toList.drop 144 = dktX9_failed_6 := dk_seg dksX9_failed_5 24 rfl rfl
theorem dksX9_failed_7 : cX9_failed.data.toList.drop 168 = dktX9_failed_7 := dk_seg dksX9_failed_6 24 rfl rfl
theorem dksX9_failed_8 : cX9_failed.data.toList.drop 192 = dktX9_failed_8 := dk_seg dksX9_failed_7 24 rfl rfl
theorem dksX9_failed_9 : cX9_failed.data.toList.drop 216 = dktX9_failed_9 := dk_seg dksX9_failed_8 24 rfl rfl
theorem dksX9_failed_10 : cX9_failed.data.toList.drop 240 = dktX9_failed_10 := dk_seg dksX9_failed_9 24 rfl rfl
theorem dX9_failed_0 : decode cX9_failed 0 = .ok (.aload_n 0, 1) := dk_42 (dk_at dksX9_failed_0 0 rfl rfl)
theorem dX9_failed_1 : decode cX9_failed 1 = .ok (.iload_n 1, 1) := dk_27 (dk_at dksX9_failed_0 1 rfl rfl)
theorem dX9_failed_2 : decode cX9_failed 2 = .ok (.invokevirtual 52, 3) := dk_182 0 52 (dk_at dksX9_failed_0 2 rfl rfl)
theorem dX9_failed_5 : decode cX9_failed 5 = .ok (.ifCond .eq 40, 3) := dk_153 0 40 (dk_at dksX9_failed_0 5 rfl rfl)
theorem dX9_failed_8 : decode cX9_failed 8 = .ok (.iload_n 2, 1) := dk_28 (dk_at dksX9_failed_0 8 rfl rfl)
theorem dX9_failed_9 : decode cX9_failed 9 = .ok (.invokestatic 159, 3) := dk_184 0 159 (dk_at dksX9_failed_0 9 rfl rfl)
theorem dX9_failed_12 : decode cX9_failed 12 = .ok (.ifCond .eq 33, 3) := dk_153 0 33 (dk_at dksX9_failed_0 12 rfl rfl)
theorem dX9_failed_15 : decode cX9_failed 15 = .ok (.iload_n 3, 1) := dk_29 (dk_at dksX9_failed_0 15 rfl rfl)
theorem dX9_failed_16 : decode cX9_failed 16 = .ok (.iconst 0, 1) := dk_3 (dk_at dksX9_failed_0 16 rfl rfl)
theorem dX9_failed_17 : decode cX9_failed 17 = .ok (.iconst 3, 1) := dk_6 (dk_at dksX9_failed_0 17 rfl rfl)
theorem dX9_failed_18 : decode cX9_failed 18 = .ok (.invokestatic 44, 3) := dk_184 0 44 (dk_at dksX9_failed_0 18 rfl rfl)
theorem dX9_failed_21 : decode cX9_failed 21 = .ok (.ifCond .eq 24, 3) := dk_153 0 24 (dk_at dksX9_failed_0 21 rfl rfl)
theorem dX9_failed_24 : decode cX9_failed 24 = .ok (.iload 5, 2) := dk_21 5 (dk_at dksX9_failed_1 0 rfl rfl)
theorem dX9_failed_26 : decode cX9_failed 26 = .ok (.iconst 1, 1) := dk_4 (dk_at dksX9_failed_1 2 rfl rfl)
theorem dX9_failed_27 : decode cX9_failed 27 = .ok (.bipush 8, 2) := dk_16 8 (dk_at dksX9_failed_1 3 rfl rfl)
theorem dX9_failed_29 : decode cX9_failed 29 = .ok (.invokestatic 44, 3) := dk_184 0 44 (dk_at dksX9_failed_1 5 rfl rfl)
theorem dX9_failed_32 : decode cX9_failed 32 = .ok (.ifCond .eq 13, 3) := dk_153 0 13 (dk_at dksX9_failed_1 8 rfl rfl)
theorem dX9_failed_35 : decode cX9_failed 35 = .ok (.iload 6, 2) := dk_21 6 (dk_at dksX9_failed_1 11 rfl rfl)
theorem dX9_failed_37 : decode cX9_failed 37 = .ok (.iconst 0, 1) := dk_3 (dk_at dksX9_failed_1 13 rfl rfl)
theorem dX9_failed_38 : decode cX9_failed 38 = .ok (.iconst 2, 1) := dk_5 (dk_at dksX9_failed_1 14 rfl rfl)
theorem dX9_failed_39 : decode cX9_failed 39 = .ok (.invokestatic 44, 3) := dk_184 0 44 (dk_at dksX9_failed_1 15 rfl rfl)
theorem dX9_failed_42 : decode cX9_failed 42 = .ok (.ifCond .ne 5, 3) := dk_154 0 5 (dk_at dksX9_failed_1 18 rfl rfl)
theorem dX9_failed_45 : decode cX9_failed 45 = .ok (.iconst (-1), 1) := dk_2 (dk_at dksX9_failed_1 21 rfl rfl)
theorem dX9_failed_46 : decode cX9_failed 46 = .ok (.ireturn, 1) := dk_172 (dk_at dksX9_failed_1 22 rfl rfl)
theorem dX9_failed_47 : decode cX9_failed 47 = .ok (.aload_n 0, 1) := dk_42 (dk_at dksX9_failed_1 23 rfl rfl)
theorem dX9_failed_48 : decode cX9_failed 48 = .ok (.iload_n 2, 1) := dk_28 (dk_at dksX9_failed_2 0 rfl rfl)
theorem dX9_failed_49 : decode cX9_failed 49 = .ok (.iload_n 3, 1) := dk_29 (dk_at dksX9_failed_2 1 rfl rfl)
theorem dX9_failed_50 : decode cX9_failed 50 = .ok (.iload 4, 2) := dk_21 4 (dk_at dksX9_failed_2 2 rfl rfl)
theorem dX9_failed_52 : decode cX9_failed 52 = .ok (.iload 5, 2) := dk_21 5 (dk_at dksX9_failed_2 4 rfl rfl)
theorem dX9_failed_54 : decode cX9_failed 54 = .ok (.invokevirtual 162, 3) := dk_182 0 162 (dk_at dksX9_failed_2 6 rfl rfl)
theorem dX9_failed_57 : decode cX9_failed 57 = .ok (.istore 7, 2) := dk_54 7 (dk_at dksX9_failed_2 9 rfl rfl)
theorem dX9_failed_59 : decode cX9_failed 59 = .ok (.iload 7, 2) := dk_21 7 (dk_at dksX9_failed_2 11 rfl rfl)
theorem dX9_failed_61 : decode cX9_failed 61 = .ok (.ifCond .eq 6, 3) := dk_153 0 6 (dk_at dksX9_failed_2 13 rfl rfl)
theorem dX9_failed_64 : decode cX9_failed 64 = .ok (.iload 7, 2) := dk_21 7 (dk_at dksX9_failed_2 16 rfl rfl)
theorem dX9_failed_66 : decode cX9_failed 66 = .ok (.ireturn, 1) := dk_172 (dk_at dksX9_failed_2 18 rfl rfl)
theorem dX9_failed_67 : decode cX9_failed 67 = .ok (.aload_n 0, 1) := dk_42 (dk_at dksX9_failed_2 19 rfl rfl)
theorem dX9_failed_68 : decode cX9_failed 68 = .ok (.iload_n 1, 1) := dk_27 (dk_at dksX9_failed_2 20 rfl rfl)
theorem dX9_failed_69 : decode cX9_failed 69 = .ok (.invokevirtual 59, 3) := dk_182 0 59 (dk_at dksX9_failed_2 21 rfl rfl)
theorem dX9_failed_72 : decode cX9_failed 72 = .ok (.bipush (-4), 2) := dk_16 252 (dk_at dksX9_failed_3 0 rfl rfl)
theorem dX9_failed_74 : decode cX9_failed 74 = .ok (.if_icmp .ne 6, 3) := dk_160 0 6 (dk_at dksX9_failed_3 2 rfl rfl)
theorem dX9_failed_77 : decode cX9_failed 77 = .ok (.bipush (-2), 2) := dk_16 254 (dk_at dksX9_failed_3 5 rfl rfl)
theorem dX9_failed_79 : decode cX9_failed 79 = .ok (.ireturn, 1) := dk_172 (dk_at dksX9_failed_3 7 rfl rfl)
theorem dX9_failed_80 : decode cX9_failed 80 = .ok (.aload_n 0, 1) := dk_42 (dk_at dksX9_failed_3 8 rfl rfl)
theorem dX9_failed_81 : decode cX9_failed 81 = .ok (.invokevirtual 132, 3) := dk_182 0 132 (dk_at dksX9_failed_3 9 rfl rfl)
theorem dX9_failed_84 : decode cX9_failed 84 = .ok (.bipush 24, 2) := dk_16 24 (dk_at dksX9_failed_3 12 rfl rfl)
theorem dX9_failed_86 : decode cX9_failed 86 = .ok (.iload_n 2, 1) := dk_28 (dk_at dksX9_failed_3 14 rfl rfl)
theorem dX9_failed_87 : decode cX9_failed 87 = .ok (.imul, 1) := dk_104 (dk_at dksX9_failed_3 15 rfl rfl)
theorem dX9_failed_88 : decode cX9_failed 88 = .ok (.iload 4, 2) := dk_21 4 (dk_at dksX9_failed_3 16 rfl rfl)
theorem dX9_failed_90 : decode cX9_failed 90 = .ok (.iadd, 1) := dk_96 (dk_at dksX9_failed_3 18 rfl rfl)
theorem dX9_failed_91 : decode cX9_failed 91 = .ok (.istore 8, 2) := dk_54 8 (dk_at dksX9_failed_3 19 rfl rfl)
theorem dX9_failed_93 : decode cX9_failed 93 = .ok (.iconst 0, 1) := dk_3 (dk_at dksX9_failed_3 21 rfl rfl)
theorem dX9_failed_94 : decode cX9_failed 94 = .ok (.istore 9, 2) := dk_54 9 (dk_at dksX9_failed_3 22 rfl rfl)
theorem dX9_failed_96 : decode cX9_failed 96 = .ok (.iconst 0, 1) := dk_3 (dk_at dksX9_failed_4 0 rfl rfl)
theorem dX9_failed_97 : decode cX9_failed 97 = .ok (.istore 10, 2) := dk_54 10 (dk_at dksX9_failed_4 1 rfl rfl)
theorem dX9_failed_99 : decode cX9_failed 99 = .ok (.iload 10, 2) := dk_21 10 (dk_at dksX9_failed_4 3 rfl rfl)
theorem dX9_failed_101 : decode cX9_failed 101 = .ok (.iconst 4, 1) := dk_7 (dk_at dksX9_failed_4 5 rfl rfl)
theorem dX9_failed_102 : decode cX9_failed 102 = .ok (.if_icmp .gt 45, 3) := dk_163 0 45 (dk_at dksX9_failed_4 6 rfl rfl)
theorem dX9_failed_105 : decode cX9_failed 105 = .ok (.aload_n 0, 1) := dk_42 (dk_at dksX9_failed_4 9 rfl rfl)
theorem dX9_failed_106 : decode cX9_failed 106 = .ok (.getfield 7, 3) := dk_180 0 7 (dk_at dksX9_failed_4 10 rfl rfl)
theorem dX9_failed_109 : decode cX9_failed 109 = .ok (.bipush 16, 2) := dk_16 16 (dk_at dksX9_failed_4 13 rfl rfl)
theorem dX9_failed_111 : decode cX9_failed 111 = .ok (.iload_n 1, 1) := dk_27 (dk_at dksX9_failed_4 15 rfl rfl)
theorem dX9_failed_112 : decode cX9_failed 112 = .ok (.iadd, 1) := dk_96 (dk_at dksX9_failed_4 16 rfl rfl)
theorem dX9_failed_113 : decode cX9_failed 113 = .ok (.iload 10, 2) := dk_21 10 (dk_at dksX9_failed_4 17 rfl rfl)
theorem dX9_failed_115 : decode cX9_failed 115 = .ok (.iastore, 1) := dk_79 (dk_at dksX9_failed_4 19 rfl rfl)
theorem dX9_failed_116 : decode cX9_failed 116 = .ok (.iload 9, 2) := dk_21 9 (dk_at dksX9_failed_4 20 rfl rfl)
theorem dX9_failed_118 : decode cX9_failed 118 = .ok (.aload_n 0, 1) := dk_42 (dk_at dksX9_failed_4 22 rfl rfl)
theorem dX9_failed_119 : decode cX9_failed 119 = .ok (.iload_n 1, 1) := dk_27 (dk_at dksX9_failed_4 23 rfl rfl)
theorem dX9_failed_120 : decode cX9_failed 120 = .ok (.iload 8, 2) := dk_21 8 (dk_at dksX9_failed_5 0 rfl rfl)
theorem dX9_failed_122 : decode cX9_failed 122 = .ok (.iload 5, 2) := dk_21 5 (dk_at dksX9_failed_5 2 rfl rfl)
theorem dX9_failed_124 : decode cX9_failed 124 = .ok (.invokevirtual 166, 3) := dk_182 0 166 (dk_at dksX9_failed_5 4 rfl rfl)
theorem dX9_failed_127 : decode cX9_failed 127 = .ok (.ifCond .eq 10, 3) := dk_153 0 10 (dk_at dksX9_failed_5 7 rfl rfl)
theorem dX9_failed_130 : decode cX9_failed 130 = .ok (.iconst 1, 1) := dk_4 (dk_at dksX9_failed_5 10 rfl rfl)
theorem dX9_failed_131 : decode cX9_failed 131 = .ok (.iload 10, 2) := dk_21 10 (dk_at dksX9_failed_5 11 rfl rfl)
theorem dX9_failed_133 : decode cX9_failed 133 = .ok (.ishl, 1) := dk_120 (dk_at dksX9_failed_5 13 rfl rfl)
theorem dX9_failed_134 : decode cX9_failed 134 = .ok (.goto 4, 3) := dk_167 0 4 (dk_at dksX9_failed_5 14 rfl rfl)
theorem dX9_failed_137 : decode cX9_failed 137 = .ok (.iconst 0, 1) := dk_3 (dk_at dksX9_failed_5 17 rfl rfl)
theorem dX9_failed_138 : decode cX9_failed 138 = .ok (.ior, 1) := dk_128 (dk_at dksX9_failed_5 18 rfl rfl)
theorem dX9_failed_139 : decode cX9_failed 139 = .ok (.istore 9, 2) := dk_54 9 (dk_at dksX9_failed_5 19 rfl rfl)
theorem dX9_failed_141 : decode cX9_failed 141 = .ok (.iinc 10 1, 3) := dk_132 10 1 (dk_at dksX9_failed_5 21 rfl rfl)
theorem dX9_failed_144 : decode cX9_failed 144 = .ok (.goto (-45), 3) := dk_167 255 211 (dk_at dksX9_failed_6 0 rfl rfl)
theorem dX9_failed_147 : decode cX9_failed 147 = .ok (.iconst 0, 1) := dk_3 (dk_at dksX9_failed_6 3 rfl rfl)
theorem dX9_failed_148 : decode cX9_failed 148 = .ok (.istore 10, 2) := dk_54 10 (dk_at dksX9_failed_6 4 rfl rfl)
theorem dX9_failed_150 : decode cX9_failed 150 = .ok (.bipush (-4), 2) := dk_16 252 (dk_at dksX9_failed_6 6 rfl rfl)
theorem dX9_failed_152 : decode cX9_failed 152 = .ok (.istore 11, 2) := dk_54 11 (dk_at dksX9_failed_6 8 rfl rfl)
theorem dX9_failed_154 : decode cX9_failed 154 = .ok (.bipush 60, 2) := dk_16 60 (dk_at dksX9_failed_6 10 rfl rfl)
theorem dX9_failed_156 : decode cX9_failed 156 = .ok (.istore 12, 2) := dk_54 12 (dk_at dksX9_failed_6 12 rfl rfl)
theorem dX9_failed_158 : decode cX9_failed 158 = .ok (.iload 12, 2) := dk_21 12 (dk_at dksX9_failed_6 14 rfl rfl)
theorem dX9_failed_160 : decode cX9_failed 160 = .ok (.ifCond .le 59, 3) := dk_158 0 59 (dk_at dksX9_failed_6 16 rfl rfl)
theorem dX9_failed_163 : decode cX9_failed 163 = .ok (.aload_n 0, 1) := dk_42 (dk_at dksX9_failed_6 19 rfl rfl)
theorem dX9_failed_164 : decode cX9_failed 164 = .ok (.getfield 7, 3) := dk_180 0 7 (dk_at dksX9_failed_6 20 rfl rfl)
theorem dX9_failed_167 : decode cX9_failed 167 = .ok (.iconst 4, 1) := dk_7 (dk_at dksX9_failed_6 23 rfl rfl)
theorem dX9_failed_168 : decode cX9_failed 168 = .ok (.iload_n 1, 1) := dk_27 (dk_at dksX9_failed_7 0 rfl rfl)
theorem dX9_failed_169 : decode cX9_failed 169 = .ok (.iadd, 1) := dk_96 (dk_at dksX9_failed_7 1 rfl rfl)
theorem dX9_failed_170 : decode cX9_failed 170 = .ok (.iload 12, 2) := dk_21 12 (dk_at dksX9_failed_7 2 rfl rfl)
theorem dX9_failed_172 : decode cX9_failed 172 = .ok (.iastore, 1) := dk_79 (dk_at dksX9_failed_7 4 rfl rfl)
theorem dX9_failed_173 : decode cX9_failed 173 = .ok (.aload_n 0, 1) := dk_42 (dk_at dksX9_failed_7 5 rfl rfl)
theorem dX9_failed_174 : decode cX9_failed 174 = .ok (.iload_n 1, 1) := dk_27 (dk_at dksX9_failed_7 6 rfl rfl)
theorem dX9_failed_175 : decode cX9_failed 175 = .ok (.iload 8, 2) := dk_21 8 (dk_at dksX9_failed_7 7 rfl rfl)
theorem dX9_failed_177 : decode cX9_failed 177 = .ok (.iload 5, 2) := dk_21 5 (dk_at dksX9_failed_7 9 rfl rfl)
theorem dX9_failed_179 : decode cX9_failed 179 = .ok (.invokevirtual 166, 3) := dk_182 0 166 (dk_at dksX9_failed_7 11 rfl rfl)
theorem dX9_failed_182 : decode cX9_failed 182 = .ok (.istore 13, 2) := dk_54 13 (dk_at dksX9_failed_7 14 rfl rfl)
theorem dX9_failed_184 : decode cX9_failed 184 = .ok (.iload 10, 2) := dk_21 10 (dk_at dksX9_failed_7 16 rfl rfl)
theorem dX9_failed_186 : decode cX9_failed 186 = .ok (.iload 13, 2) := dk_21 13 (dk_at dksX9_failed_7 18 rfl rfl)
theorem dX9_failed_188 : decode cX9_failed 188 = .ok (.ifCond .eq 7, 3) := dk_153 0 7 (dk_at dksX9_failed_7 20 rfl rfl)
theorem dX9_failed_191 : decode cX9_failed 191 = .ok (.iconst 1, 1) := dk_4 (dk_at dksX9_failed_7 23 rfl rfl)
theorem dX9_failed_192 : decode cX9_failed 192 = .ok (.goto 4, 3) := dk_167 0 4 (dk_at dksX9_failed_8 0 rfl rfl)
theorem dX9_failed_195 : decode cX9_failed 195 = .ok (.iconst 0, 1) := dk_3 (dk_at dksX9_failed_8 3 rfl rfl)
theorem dX9_failed_196 : decode cX9_failed 196 = .ok (.iadd, 1) := dk_96 (dk_at dksX9_failed_8 4 rfl rfl)
theorem dX9_failed_197 : decode cX9_failed 197 = .ok (.istore 10, 2) := dk_54 10 (dk_at dksX9_failed_8 5 rfl rfl)
theorem dX9_failed_199 : decode cX9_failed 199 = .ok (.iload 13, 2) := dk_21 13 (dk_at dksX9_failed_8 7 rfl rfl)
theorem dX9_failed_201 : decode cX9_failed 201 = .ok (.ifCond .eq 8, 3) := dk_153 0 8 (dk_at dksX9_failed_8 9 rfl rfl)
theorem dX9_failed_204 : decode cX9_failed 204 = .ok (.iload 12, 2) := dk_21 12 (dk_at dksX9_failed_8 12 rfl rfl)
theorem dX9_failed_206 : decode cX9_failed 206 = .ok (.goto 5, 3) := dk_167 0 5 (dk_at dksX9_failed_8 14 rfl rfl)
theorem dX9_failed_209 : decode cX9_failed 209 = .ok (.iload 11, 2) := dk_21 11 (dk_at dksX9_failed_8 17 rfl rfl)
theorem dX9_failed_211 : decode cX9_failed 211 = .ok (.istore 11, 2) := dk_54 11 (dk_at dksX9_failed_8 19 rfl rfl)
theorem dX9_failed_213 : decode cX9_failed 213 = .ok (.iinc 12 (-1), 3) := dk_132 12 255 (dk_at dksX9_failed_8 21 rfl rfl)
theorem dX9_failed_216 : decode cX9_failed 216 = .ok (.goto (-58), 3) := dk_167 255 198 (dk_at dksX9_failed_9 0 rfl rfl)
theorem dX9_failed_219 : decode cX9_failed 219 = .ok (.iload 6, 2) := dk_21 6 (dk_at dksX9_failed_9 3 rfl rfl)
theorem dX9_failed_221 : decode cX9_failed 221 = .ok (.ifCond .ne 8, 3) := dk_154 0 8 (dk_at dksX9_failed_9 5 rfl rfl)
theorem dX9_failed_224 : decode cX9_failed 224 = .ok (.iload 9, 2) := dk_21 9 (dk_at dksX9_failed_9 8 rfl rfl)
theorem dX9_failed_226 : decode cX9_failed 226 = .ok (.goto 16, 3) := dk_167 0 16 (dk_at dksX9_failed_9 10 rfl rfl)
theorem dX9_failed_229 : decode cX9_failed 229 = .ok (.iload 6, 2) := dk_21 6 (dk_at dksX9_failed_9 13 rfl rfl)
theorem dX9_failed_231 : decode cX9_failed 231 = .ok (.iconst 1, 1) := dk_4 (dk_at dksX9_failed_9 15 rfl rfl)
theorem dX9_failed_232 : decode cX9_failed 232 = .ok (.if_icmp .ne 8, 3) := dk_160 0 8 (dk_at dksX9_failed_9 16 rfl rfl)
theorem dX9_failed_235 : decode cX9_failed 235 = .ok (.iload 10, 2) := dk_21 10 (dk_at dksX9_failed_9 19 rfl rfl)
theorem dX9_failed_237 : decode cX9_failed 237 = .ok (.goto 5, 3) := dk_167 0 5 (dk_at dksX9_failed_9 21 rfl rfl)
theorem dX9_failed_240 : decode cX9_failed 240 = .ok (.iload 11, 2) := dk_21 11 (dk_at dksX9_failed_10 0 rfl rfl)
theorem dX9_failed_242 : decode cX9_failed 242 = .ok (.ireturn, 1) := dk_172 (dk_at dksX9_failed_10 2 rfl rfl)
abbrev cX9_isSheet : ByteArray := prog_11_method_60_code
def yX9_isSheet : MethodName := ⟨RX9, "isSheet", "(I)Z"⟩
def dkwX9_isSheet_0 : List UInt8 := [26, 3, 6, 184, 0, 44, 172]
abbrev dktX9_isSheet_0 : List UInt8 := dkwX9_isSheet_0 ++ []
theorem dksX9_isSheet_0 : cX9_isSheet.data.toList.drop 0 = dktX9_isSheet_0 := by decide +kernel
theorem dX9_isSheet_0 : decode cX9_isSheet 0 = .ok (.iload_n 0, 1) := dk_26 (dk_at dksX9_isSheet_0 0 rfl rfl)
theorem dX9_isSheet_1 : decode cX9_isSheet 1 = .ok (.iconst 0, 1) := dk_3 (dk_at dksX9_isSheet_0 1 rfl rfl)
theorem dX9_isSheet_2 : decode cX9_isSheet 2 = .ok (.iconst 3, 1) := dk_6 (dk_at dksX9_isSheet_0 2 rfl rfl)
theorem dX9_isSheet_3 : decode cX9_isSheet 3 = .ok (.invokestatic 44, 3) := dk_184 0 44 (dk_at dksX9_isSheet_0 3 rfl rfl)
theorem dX9_isSheet_6 : decode cX9_isSheet 6 = .ok (.ireturn, 1) := dk_172 (dk_at dksX9_isSheet_0 6 rfl rfl)
abbrev cX9_barred : ByteArray := prog_11_method_61_code
def yX9_barred : MethodName := ⟨RX9, "barred", "(IIII)I"⟩
def dkwX9_barred_2 : List UInt8 := [180, 0, 29, 27, 46, 21, 4, 100, 164, 0, 8, 16, 243, 167, 0, 4, 3, 172]
abbrev dktX9_barred_2 : List UInt8 := dkwX9_barred_2 ++ []
def dkwX9_barred_1 : List UInt8 := [172, 29, 155, 0, 32, 21, 4, 155, 0, 27, 21, 4, 42, 180, 0, 29, 27, 46, 163, 0, 16, 29, 42]
abbrev dktX9_barred_1 : List UInt8 := dkwX9_barred_1 ++ dktX9_barred_2
def dkwX9_barred_0 : List UInt8 := [42, 180, 0, 29, 27, 46, 156, 0, 6, 16, 245, 172, 42, 180, 0, 32, 27, 46, 28, 159, 0, 6, 16, 244]
abbrev dktX9_barred_0 : List UInt8 := dkwX9_barred_0 ++ dktX9_barred_1
theorem dksX9_barred_0 : cX9_barred.data.toList.drop 0 = dktX9_barred_0 := by decide +kernel
theorem dksX9_barred_1 : cX9_barred.data.toList.drop 24 = dktX9_barred_1 := dk_seg dksX9_barred_0 24 rfl rfl
theorem dksX9_barred_2 : cX9_barred.data.toList.drop 47 = dktX9_barred_2 := dk_seg dksX9_barred_1 23 rfl rfl
theorem dX9_barred_0 : decode cX9_barred 0 = .ok (.aload_n 0, 1) := dk_42 (dk_at dksX9_barred_0 0 rfl rfl)
theorem dX9_barred_1 : decode cX9_barred 1 = .ok (.getfield 29, 3) := dk_180 0 29 (dk_at dksX9_barred_0 1 rfl rfl)
theorem dX9_barred_4 : decode cX9_barred 4 = .ok (.iload_n 1, 1) := dk_27 (dk_at dksX9_barred_0 4 rfl rfl)
theorem dX9_barred_5 : decode cX9_barred 5 = .ok (.iaload, 1) := dk_46 (dk_at dksX9_barred_0 5 rfl rfl)
theorem dX9_barred_6 : decode cX9_barred 6 = .ok (.ifCond .ge 6, 3) := dk_156 0 6 (dk_at dksX9_barred_0 6 rfl rfl)
theorem dX9_barred_9 : decode cX9_barred 9 = .ok (.bipush (-11), 2) := dk_16 245 (dk_at dksX9_barred_0 9 rfl rfl)
theorem dX9_barred_11 : decode cX9_barred 11 = .ok (.ireturn, 1) := dk_172 (dk_at dksX9_barred_0 11 rfl rfl)
theorem dX9_barred_12 : decode cX9_barred 12 = .ok (.aload_n 0, 1) := dk_42 (dk_at dksX9_barred_0 12 rfl rfl)
theorem dX9_barred_13 : decode cX9_barred 13 = .ok (.getfield 32, 3) := dk_180 0 32 (dk_at dksX9_barred_0 13 rfl rfl)
theorem dX9_barred_16 : decode cX9_barred 16 = .ok (.iload_n 1, 1) := dk_27 (dk_at dksX9_barred_0 16 rfl rfl)
theorem dX9_barred_17 : decode cX9_barred 17 = .ok (.iaload, 1) := dk_46 (dk_at dksX9_barred_0 17 rfl rfl)
theorem dX9_barred_18 : decode cX9_barred 18 = .ok (.iload_n 2, 1) := dk_28 (dk_at dksX9_barred_0 18 rfl rfl)
theorem dX9_barred_19 : decode cX9_barred 19 = .ok (.if_icmp .eq 6, 3) := dk_159 0 6 (dk_at dksX9_barred_0 19 rfl rfl)
theorem dX9_barred_22 : decode cX9_barred 22 = .ok (.bipush (-12), 2) := dk_16 244 (dk_at dksX9_barred_0 22 rfl rfl)
theorem dX9_barred_24 : decode cX9_barred 24 = .ok (.ireturn, 1) := dk_172 (dk_at dksX9_barred_1 0 rfl rfl)
theorem dX9_barred_25 : decode cX9_barred 25 = .ok (.iload_n 3, 1) := dk_29 (dk_at dksX9_barred_1 1 rfl rfl)
theorem dX9_barred_26 : decode cX9_barred 26 = .ok (.ifCond .lt 32, 3) := dk_155 0 32 (dk_at dksX9_barred_1 2 rfl rfl)
theorem dX9_barred_29 : decode cX9_barred 29 = .ok (.iload 4, 2) := dk_21 4 (dk_at dksX9_barred_1 5 rfl rfl)
theorem dX9_barred_31 : decode cX9_barred 31 = .ok (.ifCond .lt 27, 3) := dk_155 0 27 (dk_at dksX9_barred_1 7 rfl rfl)
theorem dX9_barred_34 : decode cX9_barred 34 = .ok (.iload 4, 2) := dk_21 4 (dk_at dksX9_barred_1 10 rfl rfl)
theorem dX9_barred_36 : decode cX9_barred 36 = .ok (.aload_n 0, 1) := dk_42 (dk_at dksX9_barred_1 12 rfl rfl)
theorem dX9_barred_37 : decode cX9_barred 37 = .ok (.getfield 29, 3) := dk_180 0 29 (dk_at dksX9_barred_1 13 rfl rfl)
theorem dX9_barred_40 : decode cX9_barred 40 = .ok (.iload_n 1, 1) := dk_27 (dk_at dksX9_barred_1 16 rfl rfl)
theorem dX9_barred_41 : decode cX9_barred 41 = .ok (.iaload, 1) := dk_46 (dk_at dksX9_barred_1 17 rfl rfl)
theorem dX9_barred_42 : decode cX9_barred 42 = .ok (.if_icmp .gt 16, 3) := dk_163 0 16 (dk_at dksX9_barred_1 18 rfl rfl)
theorem dX9_barred_45 : decode cX9_barred 45 = .ok (.iload_n 3, 1) := dk_29 (dk_at dksX9_barred_1 21 rfl rfl)
theorem dX9_barred_46 : decode cX9_barred 46 = .ok (.aload_n 0, 1) := dk_42 (dk_at dksX9_barred_1 22 rfl rfl)
theorem dX9_barred_47 : decode cX9_barred 47 = .ok (.getfield 29, 3) := dk_180 0 29 (dk_at dksX9_barred_2 0 rfl rfl)
theorem dX9_barred_50 : decode cX9_barred 50 = .ok (.iload_n 1, 1) := dk_27 (dk_at dksX9_barred_2 3 rfl rfl)
theorem dX9_barred_51 : decode cX9_barred 51 = .ok (.iaload, 1) := dk_46 (dk_at dksX9_barred_2 4 rfl rfl)
theorem dX9_barred_52 : decode cX9_barred 52 = .ok (.iload 4, 2) := dk_21 4 (dk_at dksX9_barred_2 5 rfl rfl)
theorem dX9_barred_54 : decode cX9_barred 54 = .ok (.isub, 1) := dk_100 (dk_at dksX9_barred_2 7 rfl rfl)
theorem dX9_barred_55 : decode cX9_barred 55 = .ok (.if_icmp .le 8, 3) := dk_164 0 8 (dk_at dksX9_barred_2 8 rfl rfl)
theorem dX9_barred_58 : decode cX9_barred 58 = .ok (.bipush (-13), 2) := dk_16 243 (dk_at dksX9_barred_2 11 rfl rfl)
theorem dX9_barred_60 : decode cX9_barred 60 = .ok (.goto 4, 3) := dk_167 0 4 (dk_at dksX9_barred_2 13 rfl rfl)
theorem dX9_barred_63 : decode cX9_barred 63 = .ok (.iconst 0, 1) := dk_3 (dk_at dksX9_barred_2 16 rfl rfl)
theorem dX9_barred_64 : decode cX9_barred 64 = .ok (.ireturn, 1) := dk_172 (dk_at dksX9_barred_2 17 rfl rfl)
abbrev cX9_isSo : ByteArray := prog_11_method_63_code
def yX9_isSo : MethodName := ⟨RX9, "isSo", "(III)Z"⟩
def dkwX9_isSo_2 : List UInt8 := [167, 0, 4, 3, 54, 4, 132, 5, 1, 167, 255, 209, 42, 182, 0, 135, 21, 4, 172]
abbrev dktX9_isSo_2 : List UInt8 := dkwX9_isSo_2 ++ []
def dkwX9_isSo_1 : List UInt8 := [180, 0, 22, 28, 21, 5, 96, 47, 42, 180, 0, 7, 7, 27, 96, 46, 133, 148, 154, 0, 7, 4]
abbrev dktX9_isSo_1 : List UInt8 := dkwX9_isSo_1 ++ dktX9_isSo_2
def dkwX9_isSo_0 : List UInt8 := [4, 54, 4, 3, 54, 5, 21, 5, 29, 162, 0, 47, 21, 4, 153, 0, 42, 42, 182, 0, 122, 42]
abbrev dktX9_isSo_0 : List UInt8 := dkwX9_isSo_0 ++ dktX9_isSo_1
theorem dksX9_isSo_0 : cX9_isSo.data.toList.drop 0 = dktX9_isSo_0 := by decide +kernel
theorem dksX9_isSo_1 : cX9_isSo.data.toList.drop 22 = dktX9_isSo_1 := dk_seg dksX9_isSo_0 22 rfl rfl
theorem dksX9_isSo_2 : cX9_isSo.data.toList.drop 44 = dktX9_isSo_2 := dk_seg dksX9_isSo_1 22 rfl rfl
theorem dX9_isSo_0 : decode cX9_isSo 0 = .ok (.iconst 1, 1) := dk_4 (dk_at dksX9_isSo_0 0 rfl rfl)
theorem dX9_isSo_1 : decode cX9_isSo 1 = .ok (.istore 4, 2) := dk_54 4 (dk_at dksX9_isSo_0 1 rfl rfl)
theorem dX9_isSo_3 : decode cX9_isSo 3 = .ok (.iconst 0, 1) := dk_3 (dk_at dksX9_isSo_0 3 rfl rfl)
theorem dX9_isSo_4 : decode cX9_isSo 4 = .ok (.istore 5, 2) := dk_54 5 (dk_at dksX9_isSo_0 4 rfl rfl)
theorem dX9_isSo_6 : decode cX9_isSo 6 = .ok (.iload 5, 2) := dk_21 5 (dk_at dksX9_isSo_0 6 rfl rfl)
theorem dX9_isSo_8 : decode cX9_isSo 8 = .ok (.iload_n 3, 1) := dk_29 (dk_at dksX9_isSo_0 8 rfl rfl)
theorem dX9_isSo_9 : decode cX9_isSo 9 = .ok (.if_icmp .ge 47, 3) := dk_162 0 47 (dk_at dksX9_isSo_0 9 rfl rfl)
theorem dX9_isSo_12 : decode cX9_isSo 12 = .ok (.iload 4, 2) := dk_21 4 (dk_at dksX9_isSo_0 12 rfl rfl)
theorem dX9_isSo_14 : decode cX9_isSo 14 = .ok (.ifCond .eq 42, 3) := dk_153 0 42 (dk_at dksX9_isSo_0 14 rfl rfl)
theorem dX9_isSo_17 : decode cX9_isSo 17 = .ok (.aload_n 0, 1) := dk_42 (dk_at dksX9_isSo_0 17 rfl rfl)
theorem dX9_isSo_18 : decode cX9_isSo 18 = .ok (.invokevirtual 122, 3) := dk_182 0 122 (dk_at dksX9_isSo_0 18 rfl rfl)
theorem dX9_isSo_21 : decode cX9_isSo 21 = .ok (.aload_n 0, 1) := dk_42 (dk_at dksX9_isSo_0 21 rfl rfl)
theorem dX9_isSo_22 : decode cX9_isSo 22 = .ok (.getfield 22, 3) := dk_180 0 22 (dk_at dksX9_isSo_1 0 rfl rfl)
theorem dX9_isSo_25 : decode cX9_isSo 25 = .ok (.iload_n 2, 1) := dk_28 (dk_at dksX9_isSo_1 3 rfl rfl)
theorem dX9_isSo_26 : decode cX9_isSo 26 = .ok (.iload 5, 2) := dk_21 5 (dk_at dksX9_isSo_1 4 rfl rfl)
theorem dX9_isSo_28 : decode cX9_isSo 28 = .ok (.iadd, 1) := dk_96 (dk_at dksX9_isSo_1 6 rfl rfl)
theorem dX9_isSo_29 : decode cX9_isSo 29 = .ok (.laload, 1) := dk_47 (dk_at dksX9_isSo_1 7 rfl rfl)
theorem dX9_isSo_30 : decode cX9_isSo 30 = .ok (.aload_n 0, 1) := dk_42 (dk_at dksX9_isSo_1 8 rfl rfl)
theorem dX9_isSo_31 : decode cX9_isSo 31 = .ok (.getfield 7, 3) := dk_180 0 7 (dk_at dksX9_isSo_1 9 rfl rfl)
theorem dX9_isSo_34 : decode cX9_isSo 34 = .ok (.iconst 4, 1) := dk_7 (dk_at dksX9_isSo_1 12 rfl rfl)
theorem dX9_isSo_35 : decode cX9_isSo 35 = .ok (.iload_n 1, 1) := dk_27 (dk_at dksX9_isSo_1 13 rfl rfl)
theorem dX9_isSo_36 : decode cX9_isSo 36 = .ok (.iadd, 1) := dk_96 (dk_at dksX9_isSo_1 14 rfl rfl)
theorem dX9_isSo_37 : decode cX9_isSo 37 = .ok (.iaload, 1) := dk_46 (dk_at dksX9_isSo_1 15 rfl rfl)
theorem dX9_isSo_38 : decode cX9_isSo 38 = .ok (.i2l, 1) := dk_133 (dk_at dksX9_isSo_1 16 rfl rfl)
theorem dX9_isSo_39 : decode cX9_isSo 39 = .ok (.lcmp, 1) := dk_148 (dk_at dksX9_isSo_1 17 rfl rfl)
theorem dX9_isSo_40 : decode cX9_isSo 40 = .ok (.ifCond .ne 7, 3) := dk_154 0 7 (dk_at dksX9_isSo_1 18 rfl rfl)
theorem dX9_isSo_43 : decode cX9_isSo 43 = .ok (.iconst 1, 1) := dk_4 (dk_at dksX9_isSo_1 21 rfl rfl)
theorem dX9_isSo_44 : decode cX9_isSo 44 = .ok (.goto 4, 3) := dk_167 0 4 (dk_at dksX9_isSo_2 0 rfl rfl)
theorem dX9_isSo_47 : decode cX9_isSo 47 = .ok (.iconst 0, 1) := dk_3 (dk_at dksX9_isSo_2 3 rfl rfl)
theorem dX9_isSo_48 : decode cX9_isSo 48 = .ok (.istore 4, 2) := dk_54 4 (dk_at dksX9_isSo_2 4 rfl rfl)
theorem dX9_isSo_50 : decode cX9_isSo 50 = .ok (.iinc 5 1, 3) := dk_132 5 1 (dk_at dksX9_isSo_2 6 rfl rfl)
theorem dX9_isSo_53 : decode cX9_isSo 53 = .ok (.goto (-47), 3) := dk_167 255 209 (dk_at dksX9_isSo_2 9 rfl rfl)
theorem dX9_isSo_56 : decode cX9_isSo 56 = .ok (.aload_n 0, 1) := dk_42 (dk_at dksX9_isSo_2 12 rfl rfl)
theorem dX9_isSo_57 : decode cX9_isSo 57 = .ok (.invokevirtual 135, 3) := dk_182 0 135 (dk_at dksX9_isSo_2 13 rfl rfl)
theorem dX9_isSo_60 : decode cX9_isSo 60 = .ok (.iload 4, 2) := dk_21 4 (dk_at dksX9_isSo_2 16 rfl rfl)
theorem dX9_isSo_62 : decode cX9_isSo 62 = .ok (.ireturn, 1) := dk_172 (dk_at dksX9_isSo_2 18 rfl rfl)
abbrev cX9_film : ByteArray := prog_11_method_65_code
def yX9_film : MethodName := ⟨RX9, "film", "(IIIII)I"⟩
def dkwX9_film_4 : List UInt8 := [180, 0, 7, 7, 27, 96, 46, 133, 80, 132, 7, 1, 167, 255, 219, 42, 182, 0, 135, 28, 172]
abbrev dktX9_film_4 : List UInt8 := dkwX9_film_4 ++ []
def dkwX9_film_3 : List UInt8 := [162, 0, 37, 42, 182, 0, 122, 42, 180, 0, 22, 16, 24, 29, 104, 21, 5, 96, 21, 7, 96, 42]
abbrev dktX9_film_3 : List UInt8 := dkwX9_film_3 ++ dktX9_film_4
def dkwX9_film_2 : List UInt8 := [182, 0, 162, 54, 6, 21, 6, 153, 0, 6, 21, 6, 172, 42, 182, 0, 132, 3, 54, 7, 21, 7, 28]
abbrev dktX9_film_2 : List UInt8 := dkwX9_film_2 ++ dktX9_film_3
def dkwX9_film_1 : List UInt8 := [153, 0, 13, 21, 4, 3, 6, 184, 0, 44, 154, 0, 5, 2, 172, 42, 29, 21, 4, 21, 5, 28]
abbrev dktX9_film_1 : List UInt8 := dkwX9_film_1 ++ dktX9_film_2
def dkwX9_film_0 : List UInt8 := [42, 27, 182, 0, 52, 153, 0, 30, 28, 4, 16, 24, 184, 0, 44, 153, 0, 20, 29, 184, 0, 159]
abbrev dktX9_film_0 : List UInt8 := dkwX9_film_0 ++ dktX9_film_1
theorem dksX9_film_0 : cX9_film.data.toList.drop 0 = dktX9_film_0 := by decide +kernel
theorem dksX9_film_1 : cX9_film.data.toList.drop 22 = dktX9_film_1 := dk_seg dksX9_film_0 22 rfl rfl
theorem dksX9_film_2 : cX9_film.data.toList.drop 44 = dktX9_film_2 := dk_seg dksX9_film_1 22 rfl rfl
theorem dksX9_film_3 : cX9_film.data.toList.drop 67 = dktX9_film_3 := dk_seg dksX9_film_2 23 rfl rfl
theorem dksX9_film_4 : cX9_film.data.toList.drop 89 = dktX9_film_4 := dk_seg dksX9_film_3 22 rfl rfl
theorem dX9_film_0 : decode cX9_film 0 = .ok (.aload_n 0, 1) := dk_42 (dk_at dksX9_film_0 0 rfl rfl)
theorem dX9_film_1 : decode cX9_film 1 = .ok (.iload_n 1, 1) := dk_27 (dk_at dksX9_film_0 1 rfl rfl)
theorem dX9_film_2 : decode cX9_film 2 = .ok (.invokevirtual 52, 3) := dk_182 0 52 (dk_at dksX9_film_0 2 rfl rfl)
theorem dX9_film_5 : decode cX9_film 5 = .ok (.ifCond .eq 30, 3) := dk_153 0 30 (dk_at dksX9_film_0 5 rfl rfl)
theorem dX9_film_8 : decode cX9_film 8 = .ok (.iload_n 2, 1) := dk_28 (dk_at dksX9_film_0 8 rfl rfl)
theorem dX9_film_9 : decode cX9_film 9 = .ok (.iconst 1, 1) := dk_4 (dk_at dksX9_film_0 9 rfl rfl)
theorem dX9_film_10 : decode cX9_film 10 = .ok (.bipush 24, 2) := dk_16 24 (dk_at dksX9_film_0 10 rfl rfl)
theorem dX9_film_12 : decode cX9_film 12 = .ok (.invokestatic 44, 3) := dk_184 0 44 (dk_at dksX9_film_0 12 rfl rfl)
theorem dX9_film_15 : decode cX9_film 15 = .ok (.ifCond .eq 20, 3) := dk_153 0 20 (dk_at dksX9_film_0 15 rfl rfl)
theorem dX9_film_18 : decode cX9_film 18 = .ok (.iload_n 3, 1) := dk_29 (dk_at dksX9_film_0 18 rfl rfl)
theorem dX9_film_19 : decode cX9_film 19 = .ok (.invokestatic 159, 3) := dk_184 0 159 (dk_at dksX9_film_0 19 rfl rfl)
theorem dX9_film_22 : decode cX9_film 22 = .ok (.ifCond .eq 13, 3) := dk_153 0 13 (dk_at dksX9_film_1 0 rfl rfl)
theorem dX9_film_25 : decode cX9_film 25 = .ok (.iload 4, 2) := dk_21 4 (dk_at dksX9_film_1 3 rfl rfl)
theorem dX9_film_27 : decode cX9_film 27 = .ok (.iconst 0, 1) := dk_3 (dk_at dksX9_film_1 5 rfl rfl)
theorem dX9_film_28 : decode cX9_film 28 = .ok (.iconst 3, 1) := dk_6 (dk_at dksX9_film_1 6 rfl rfl)
theorem dX9_film_29 : decode cX9_film 29 = .ok (.invokestatic 44, 3) := dk_184 0 44 (dk_at dksX9_film_1 7 rfl rfl)
theorem dX9_film_32 : decode cX9_film 32 = .ok (.ifCond .ne 5, 3) := dk_154 0 5 (dk_at dksX9_film_1 10 rfl rfl)
theorem dX9_film_35 : decode cX9_film 35 = .ok (.iconst (-1), 1) := dk_2 (dk_at dksX9_film_1 13 rfl rfl)
theorem dX9_film_36 : decode cX9_film 36 = .ok (.ireturn, 1) := dk_172 (dk_at dksX9_film_1 14 rfl rfl)
theorem dX9_film_37 : decode cX9_film 37 = .ok (.aload_n 0, 1) := dk_42 (dk_at dksX9_film_1 15 rfl rfl)
theorem dX9_film_38 : decode cX9_film 38 = .ok (.iload_n 3, 1) := dk_29 (dk_at dksX9_film_1 16 rfl rfl)
theorem dX9_film_39 : decode cX9_film 39 = .ok (.iload 4, 2) := dk_21 4 (dk_at dksX9_film_1 17 rfl rfl)
theorem dX9_film_41 : decode cX9_film 41 = .ok (.iload 5, 2) := dk_21 5 (dk_at dksX9_film_1 19 rfl rfl)
theorem dX9_film_43 : decode cX9_film 43 = .ok (.iload_n 2, 1) := dk_28 (dk_at dksX9_film_1 21 rfl rfl)
theorem dX9_film_44 : decode cX9_film 44 = .ok (.invokevirtual 162, 3) := dk_182 0 162 (dk_at dksX9_film_2 0 rfl rfl)
theorem dX9_film_47 : decode cX9_film 47 = .ok (.istore 6, 2) := dk_54 6 (dk_at dksX9_film_2 3 rfl rfl)
theorem dX9_film_49 : decode cX9_film 49 = .ok (.iload 6, 2) := dk_21 6 (dk_at dksX9_film_2 5 rfl rfl)
theorem dX9_film_51 : decode cX9_film 51 = .ok (.ifCond .eq 6, 3) := dk_153 0 6 (dk_at dksX9_film_2 7 rfl rfl)
theorem dX9_film_54 : decode cX9_film 54 = .ok (.iload 6, 2) := dk_21 6 (dk_at dksX9_film_2 10 rfl rfl)
theorem dX9_film_56 : decode cX9_film 56 = .ok (.ireturn, 1) := dk_172 (dk_at dksX9_film_2 12 rfl rfl)
theorem dX9_film_57 : decode cX9_film 57 = .ok (.aload_n 0, 1) := dk_42 (dk_at dksX9_film_2 13 rfl rfl)
theorem dX9_film_58 : decode cX9_film 58 = .ok (.invokevirtual 132, 3) := dk_182 0 132 (dk_at dksX9_film_2 14 rfl rfl)
theorem dX9_film_61 : decode cX9_film 61 = .ok (.iconst 0, 1) := dk_3 (dk_at dksX9_film_2 17 rfl rfl)
theorem dX9_film_62 : decode cX9_film 62 = .ok (.istore 7, 2) := dk_54 7 (dk_at dksX9_film_2 18 rfl rfl)
theorem dX9_film_64 : decode cX9_film 64 = .ok (.iload 7, 2) := dk_21 7 (dk_at dksX9_film_2 20 rfl rfl)
theorem dX9_film_66 : decode cX9_film 66 = .ok (.iload_n 2, 1) := dk_28 (dk_at dksX9_film_2 22 rfl rfl)
theorem dX9_film_67 : decode cX9_film 67 = .ok (.if_icmp .ge 37, 3) := dk_162 0 37 (dk_at dksX9_film_3 0 rfl rfl)
theorem dX9_film_70 : decode cX9_film 70 = .ok (.aload_n 0, 1) := dk_42 (dk_at dksX9_film_3 3 rfl rfl)
theorem dX9_film_71 : decode cX9_film 71 = .ok (.invokevirtual 122, 3) := dk_182 0 122 (dk_at dksX9_film_3 4 rfl rfl)
theorem dX9_film_74 : decode cX9_film 74 = .ok (.aload_n 0, 1) := dk_42 (dk_at dksX9_film_3 7 rfl rfl)
theorem dX9_film_75 : decode cX9_film 75 = .ok (.getfield 22, 3) := dk_180 0 22 (dk_at dksX9_film_3 8 rfl rfl)
theorem dX9_film_78 : decode cX9_film 78 = .ok (.bipush 24, 2) := dk_16 24 (dk_at dksX9_film_3 11 rfl rfl)
theorem dX9_film_80 : decode cX9_film 80 = .ok (.iload_n 3, 1) := dk_29 (dk_at dksX9_film_3 13 rfl rfl)
theorem dX9_film_81 : decode cX9_film 81 = .ok (.imul, 1) := dk_104 (dk_at dksX9_film_3 14 rfl rfl)
theorem dX9_film_82 : decode cX9_film 82 = .ok (.iload 5, 2) := dk_21 5 (dk_at dksX9_film_3 15 rfl rfl)
theorem dX9_film_84 : decode cX9_film 84 = .ok (.iadd, 1) := dk_96 (dk_at dksX9_film_3 17 rfl rfl)
theorem dX9_film_85 : decode cX9_film 85 = .ok (.iload 7, 2) := dk_21 7 (dk_at dksX9_film_3 18 rfl rfl)
theorem dX9_film_87 : decode cX9_film 87 = .ok (.iadd, 1) := dk_96 (dk_at dksX9_film_3 20 rfl rfl)
theorem dX9_film_88 : decode cX9_film 88 = .ok (.aload_n 0, 1) := dk_42 (dk_at dksX9_film_3 21 rfl rfl)
theorem dX9_film_89 : decode cX9_film 89 = .ok (.getfield 7, 3) := dk_180 0 7 (dk_at dksX9_film_4 0 rfl rfl)
theorem dX9_film_92 : decode cX9_film 92 = .ok (.iconst 4, 1) := dk_7 (dk_at dksX9_film_4 3 rfl rfl)
theorem dX9_film_93 : decode cX9_film 93 = .ok (.iload_n 1, 1) := dk_27 (dk_at dksX9_film_4 4 rfl rfl)
theorem dX9_film_94 : decode cX9_film 94 = .ok (.iadd, 1) := dk_96 (dk_at dksX9_film_4 5 rfl rfl)
theorem dX9_film_95 : decode cX9_film 95 = .ok (.iaload, 1) := dk_46 (dk_at dksX9_film_4 6 rfl rfl)
theorem dX9_film_96 : decode cX9_film 96 = .ok (.i2l, 1) := dk_133 (dk_at dksX9_film_4 7 rfl rfl)
theorem dX9_film_97 : decode cX9_film 97 = .ok (.lastore, 1) := dk_80 (dk_at dksX9_film_4 8 rfl rfl)
theorem dX9_film_98 : decode cX9_film 98 = .ok (.iinc 7 1, 3) := dk_132 7 1 (dk_at dksX9_film_4 9 rfl rfl)
theorem dX9_film_101 : decode cX9_film 101 = .ok (.goto (-37), 3) := dk_167 255 219 (dk_at dksX9_film_4 12 rfl rfl)
theorem dX9_film_104 : decode cX9_film 104 = .ok (.aload_n 0, 1) := dk_42 (dk_at dksX9_film_4 15 rfl rfl)
theorem dX9_film_105 : decode cX9_film 105 = .ok (.invokevirtual 135, 3) := dk_182 0 135 (dk_at dksX9_film_4 16 rfl rfl)
theorem dX9_film_108 : decode cX9_film 108 = .ok (.iload_n 2, 1) := dk_28 (dk_at dksX9_film_4 19 rfl rfl)
theorem dX9_film_109 : decode cX9_film 109 = .ok (.ireturn, 1) := dk_172 (dk_at dksX9_film_4 20 rfl rfl)
abbrev cX9_sheet : ByteArray := prog_11_method_66_code
def yX9_sheet : MethodName := ⟨RX9, "sheet", "(III)I"⟩
def dkwX9_sheet_3 : List UInt8 := [167, 255, 233, 29, 172]
abbrev dktX9_sheet_3 : List UInt8 := dkwX9_sheet_3 ++ []
def dkwX9_sheet_2 : List UInt8 := [21, 4, 16, 24, 162, 0, 22, 42, 180, 0, 22, 16, 24, 27, 104, 21, 4, 96, 9, 80, 132, 4, 1]
abbrev dktX9_sheet_2 : List UInt8 := dkwX9_sheet_2 ++ dktX9_sheet_3
def dkwX9_sheet_1 : List UInt8 := [29, 156, 0, 6, 16, 242, 172, 42, 180, 0, 29, 27, 29, 79, 42, 180, 0, 32, 27, 28, 79, 3, 54, 4]
abbrev dktX9_sheet_1 : List UInt8 := dkwX9_sheet_1 ++ dktX9_sheet_2
def dkwX9_sheet_0 : List UInt8 := [27, 184, 0, 159, 153, 0, 18, 28, 3, 6, 184, 0, 44, 153, 0, 9, 29, 16, 24, 164, 0, 5, 2, 172]
abbrev dktX9_sheet_0 : List UInt8 := dkwX9_sheet_0 ++ dktX9_sheet_1
theorem dksX9_sheet_0 : cX9_sheet.data.toList.drop 0 = dktX9_sheet_0 := by decide +kernel
theorem dksX9_sheet_1 : cX9_sheet.data.toList.drop 24 = dktX9_sheet_1 := dk_seg dksX9_sheet_0 24 rfl rfl
theorem dksX9_sheet_2 : cX9_sheet.data.toList.drop 48 = dktX9_sheet_2 := dk_seg dksX9_sheet_1 24 rfl rfl
theorem dksX9_sheet_3 : cX9_sheet.data.toList.drop 71 = dktX9_sheet_3 := dk_seg dksX9_sheet_2 23 rfl rfl
theorem dX9_sheet_0 : decode cX9_sheet 0 = .ok (.iload_n 1, 1) := dk_27 (dk_at dksX9_sheet_0 0 rfl rfl)
theorem dX9_sheet_1 : decode cX9_sheet 1 = .ok (.invokestatic 159, 3) := dk_184 0 159 (dk_at dksX9_sheet_0 1 rfl rfl)
theorem dX9_sheet_4 : decode cX9_sheet 4 = .ok (.ifCond .eq 18, 3) := dk_153 0 18 (dk_at dksX9_sheet_0 4 rfl rfl)
theorem dX9_sheet_7 : decode cX9_sheet 7 = .ok (.iload_n 2, 1) := dk_28 (dk_at dksX9_sheet_0 7 rfl rfl)
theorem dX9_sheet_8 : decode cX9_sheet 8 = .ok (.iconst 0, 1) := dk_3 (dk_at dksX9_sheet_0 8 rfl rfl)
theorem dX9_sheet_9 : decode cX9_sheet 9 = .ok (.iconst 3, 1) := dk_6 (dk_at dksX9_sheet_0 9 rfl rfl)
theorem dX9_sheet_10 : decode cX9_sheet 10 = .ok (.invokestatic 44, 3) := dk_184 0 44 (dk_at dksX9_sheet_0 10 rfl rfl)
theorem dX9_sheet_13 : decode cX9_sheet 13 = .ok (.ifCond .eq 9, 3) := dk_153 0 9 (dk_at dksX9_sheet_0 13 rfl rfl)
theorem dX9_sheet_16 : decode cX9_sheet 16 = .ok (.iload_n 3, 1) := dk_29 (dk_at dksX9_sheet_0 16 rfl rfl)
theorem dX9_sheet_17 : decode cX9_sheet 17 = .ok (.bipush 24, 2) := dk_16 24 (dk_at dksX9_sheet_0 17 rfl rfl)
theorem dX9_sheet_19 : decode cX9_sheet 19 = .ok (.if_icmp .le 5, 3) := dk_164 0 5 (dk_at dksX9_sheet_0 19 rfl rfl)
theorem dX9_sheet_22 : decode cX9_sheet 22 = .ok (.iconst (-1), 1) := dk_2 (dk_at dksX9_sheet_0 22 rfl rfl)
theorem dX9_sheet_23 : decode cX9_sheet 23 = .ok (.ireturn, 1) := dk_172 (dk_at dksX9_sheet_0 23 rfl rfl)
theorem dX9_sheet_24 : decode cX9_sheet 24 = .ok (.iload_n 3, 1) := dk_29 (dk_at dksX9_sheet_1 0 rfl rfl)
theorem dX9_sheet_25 : decode cX9_sheet 25 = .ok (.ifCond .ge 6, 3) := dk_156 0 6 (dk_at dksX9_sheet_1 1 rfl rfl)
theorem dX9_sheet_28 : decode cX9_sheet 28 = .ok (.bipush (-14), 2) := dk_16 242 (dk_at dksX9_sheet_1 4 rfl rfl)
theorem dX9_sheet_30 : decode cX9_sheet 30 = .ok (.ireturn, 1) := dk_172 (dk_at dksX9_sheet_1 6 rfl rfl)
theorem dX9_sheet_31 : decode cX9_sheet 31 = .ok (.aload_n 0, 1) := dk_42 (dk_at dksX9_sheet_1 7 rfl rfl)
theorem dX9_sheet_32 : decode cX9_sheet 32 = .ok (.getfield 29, 3) := dk_180 0 29 (dk_at dksX9_sheet_1 8 rfl rfl)
theorem dX9_sheet_35 : decode cX9_sheet 35 = .ok (.iload_n 1, 1) := dk_27 (dk_at dksX9_sheet_1 11 rfl rfl)
theorem dX9_sheet_36 : decode cX9_sheet 36 = .ok (.iload_n 3, 1) := dk_29 (dk_at dksX9_sheet_1 12 rfl rfl)
theorem dX9_sheet_37 : decode cX9_sheet 37 = .ok (.iastore, 1) := dk_79 (dk_at dksX9_sheet_1 13 rfl rfl)
theorem dX9_sheet_38 : decode cX9_sheet 38 = .ok (.aload_n 0, 1) := dk_42 (dk_at dksX9_sheet_1 14 rfl rfl)
theorem dX9_sheet_39 : decode cX9_sheet 39 = .ok (.getfield 32, 3) := dk_180 0 32 (dk_at dksX9_sheet_1 15 rfl rfl)
theorem dX9_sheet_42 : decode cX9_sheet 42 = .ok (.iload_n 1, 1) := dk_27 (dk_at dksX9_sheet_1 18 rfl rfl)
theorem dX9_sheet_43 : decode cX9_sheet 43 = .ok (.iload_n 2, 1) := dk_28 (dk_at dksX9_sheet_1 19 rfl rfl)
theorem dX9_sheet_44 : decode cX9_sheet 44 = .ok (.iastore, 1) := dk_79 (dk_at dksX9_sheet_1 20 rfl rfl)
theorem dX9_sheet_45 : decode cX9_sheet 45 = .ok (.iconst 0, 1) := dk_3 (dk_at dksX9_sheet_1 21 rfl rfl)
theorem dX9_sheet_46 : decode cX9_sheet 46 = .ok (.istore 4, 2) := dk_54 4 (dk_at dksX9_sheet_1 22 rfl rfl)
theorem dX9_sheet_48 : decode cX9_sheet 48 = .ok (.iload 4, 2) := dk_21 4 (dk_at dksX9_sheet_2 0 rfl rfl)
theorem dX9_sheet_50 : decode cX9_sheet 50 = .ok (.bipush 24, 2) := dk_16 24 (dk_at dksX9_sheet_2 2 rfl rfl)
theorem dX9_sheet_52 : decode cX9_sheet 52 = .ok (.if_icmp .ge 22, 3) := dk_162 0 22 (dk_at dksX9_sheet_2 4 rfl rfl)
theorem dX9_sheet_55 : decode cX9_sheet 55 = .ok (.aload_n 0, 1) := dk_42 (dk_at dksX9_sheet_2 7 rfl rfl)
theorem dX9_sheet_56 : decode cX9_sheet 56 = .ok (.getfield 22, 3) := dk_180 0 22 (dk_at dksX9_sheet_2 8 rfl rfl)
theorem dX9_sheet_59 : decode cX9_sheet 59 = .ok (.bipush 24, 2) := dk_16 24 (dk_at dksX9_sheet_2 11 rfl rfl)
theorem dX9_sheet_61 : decode cX9_sheet 61 = .ok (.iload_n 1, 1) := dk_27 (dk_at dksX9_sheet_2 13 rfl rfl)
theorem dX9_sheet_62 : decode cX9_sheet 62 = .ok (.imul, 1) := dk_104 (dk_at dksX9_sheet_2 14 rfl rfl)
theorem dX9_sheet_63 : decode cX9_sheet 63 = .ok (.iload 4, 2) := dk_21 4 (dk_at dksX9_sheet_2 15 rfl rfl)
theorem dX9_sheet_65 : decode cX9_sheet 65 = .ok (.iadd, 1) := dk_96 (dk_at dksX9_sheet_2 17 rfl rfl)
theorem dX9_sheet_66 : decode cX9_sheet 66 = .ok (.lconst 0, 1) := dk_9 (dk_at dksX9_sheet_2 18 rfl rfl)
theorem dX9_sheet_67 : decode cX9_sheet 67 = .ok (.lastore, 1) := dk_80 (dk_at dksX9_sheet_2 19 rfl rfl)
theorem dX9_sheet_68 : decode cX9_sheet 68 = .ok (.iinc 4 1, 3) := dk_132 4 1 (dk_at dksX9_sheet_2 20 rfl rfl)
theorem dX9_sheet_71 : decode cX9_sheet 71 = .ok (.goto (-23), 3) := dk_167 255 233 (dk_at dksX9_sheet_3 0 rfl rfl)
theorem dX9_sheet_74 : decode cX9_sheet 74 = .ok (.iload_n 3, 1) := dk_29 (dk_at dksX9_sheet_3 3 rfl rfl)
theorem dX9_sheet_75 : decode cX9_sheet 75 = .ok (.ireturn, 1) := dk_172 (dk_at dksX9_sheet_3 4 rfl rfl)
abbrev cX9_drop : ByteArray := prog_11_method_67_code
def yX9_drop : MethodName := ⟨RX9, "drop", "(I)I"⟩
def dkwX9_drop_1 : List UInt8 := [180, 0, 29, 27, 46, 61, 42, 180, 0, 29, 27, 2, 79, 28, 172]
abbrev dktX9_drop_1 : List UInt8 := dkwX9_drop_1 ++ []
def dkwX9_drop_0 : List UInt8 := [27, 184, 0, 159, 154, 0, 5, 2, 172, 42, 180, 0, 29, 27, 46, 156, 0, 6, 16, 245, 172, 42]
abbrev dktX9_drop_0 : List UInt8 := dkwX9_drop_0 ++ dktX9_drop_1
theorem dksX9_drop_0 : cX9_drop.data.toList.drop 0 = dktX9_drop_0 := by decide +kernel
theorem dksX9_drop_1 : cX9_drop.data.toList.drop 22 = dktX9_drop_1 := dk_seg dksX9_drop_0 22 rfl rfl
theorem dX9_drop_0 : decode cX9_drop 0 = .ok (.iload_n 1, 1) := dk_27 (dk_at dksX9_drop_0 0 rfl rfl)
theorem dX9_drop_1 : decode cX9_drop 1 = .ok (.invokestatic 159, 3) := dk_184 0 159 (dk_at dksX9_drop_0 1 rfl rfl)
theorem dX9_drop_4 : decode cX9_drop 4 = .ok (.ifCond .ne 5, 3) := dk_154 0 5 (dk_at dksX9_drop_0 4 rfl rfl)
theorem dX9_drop_7 : decode cX9_drop 7 = .ok (.iconst (-1), 1) := dk_2 (dk_at dksX9_drop_0 7 rfl rfl)
theorem dX9_drop_8 : decode cX9_drop 8 = .ok (.ireturn, 1) := dk_172 (dk_at dksX9_drop_0 8 rfl rfl)
theorem dX9_drop_9 : decode cX9_drop 9 = .ok (.aload_n 0, 1) := dk_42 (dk_at dksX9_drop_0 9 rfl rfl)
theorem dX9_drop_10 : decode cX9_drop 10 = .ok (.getfield 29, 3) := dk_180 0 29 (dk_at dksX9_drop_0 10 rfl rfl)
theorem dX9_drop_13 : decode cX9_drop 13 = .ok (.iload_n 1, 1) := dk_27 (dk_at dksX9_drop_0 13 rfl rfl)
theorem dX9_drop_14 : decode cX9_drop 14 = .ok (.iaload, 1) := dk_46 (dk_at dksX9_drop_0 14 rfl rfl)
theorem dX9_drop_15 : decode cX9_drop 15 = .ok (.ifCond .ge 6, 3) := dk_156 0 6 (dk_at dksX9_drop_0 15 rfl rfl)
theorem dX9_drop_18 : decode cX9_drop 18 = .ok (.bipush (-11), 2) := dk_16 245 (dk_at dksX9_drop_0 18 rfl rfl)
theorem dX9_drop_20 : decode cX9_drop 20 = .ok (.ireturn, 1) := dk_172 (dk_at dksX9_drop_0 20 rfl rfl)
theorem dX9_drop_21 : decode cX9_drop 21 = .ok (.aload_n 0, 1) := dk_42 (dk_at dksX9_drop_0 21 rfl rfl)
theorem dX9_drop_22 : decode cX9_drop 22 = .ok (.getfield 29, 3) := dk_180 0 29 (dk_at dksX9_drop_1 0 rfl rfl)
theorem dX9_drop_25 : decode cX9_drop 25 = .ok (.iload_n 1, 1) := dk_27 (dk_at dksX9_drop_1 3 rfl rfl)
theorem dX9_drop_26 : decode cX9_drop 26 = .ok (.iaload, 1) := dk_46 (dk_at dksX9_drop_1 4 rfl rfl)
theorem dX9_drop_27 : decode cX9_drop 27 = .ok (.istore_n 2, 1) := dk_61 (dk_at dksX9_drop_1 5 rfl rfl)
theorem dX9_drop_28 : decode cX9_drop 28 = .ok (.aload_n 0, 1) := dk_42 (dk_at dksX9_drop_1 6 rfl rfl)
theorem dX9_drop_29 : decode cX9_drop 29 = .ok (.getfield 29, 3) := dk_180 0 29 (dk_at dksX9_drop_1 7 rfl rfl)
theorem dX9_drop_32 : decode cX9_drop 32 = .ok (.iload_n 1, 1) := dk_27 (dk_at dksX9_drop_1 10 rfl rfl)
theorem dX9_drop_33 : decode cX9_drop 33 = .ok (.iconst (-1), 1) := dk_2 (dk_at dksX9_drop_1 11 rfl rfl)
theorem dX9_drop_34 : decode cX9_drop 34 = .ok (.iastore, 1) := dk_79 (dk_at dksX9_drop_1 12 rfl rfl)
theorem dX9_drop_35 : decode cX9_drop 35 = .ok (.iload_n 2, 1) := dk_28 (dk_at dksX9_drop_1 13 rfl rfl)
theorem dX9_drop_36 : decode cX9_drop 36 = .ok (.ireturn, 1) := dk_172 (dk_at dksX9_drop_1 14 rfl rfl)
abbrev cX9_item : ByteArray := prog_11_method_68_code
def yX9_item : MethodName := ⟨RX9, "item", "(IIIJ)I"⟩
def dkwX9_item_2 : List UInt8 := [22, 4, 184, 0, 169, 80, 4, 172]
abbrev dktX9_item_2 : List UInt8 := dkwX9_item_2 ++ []
def dkwX9_item_1 : List UInt8 := [182, 0, 162, 54, 6, 21, 6, 153, 0, 6, 21, 6, 172, 42, 180, 0, 22, 16, 24, 27, 104, 29, 96, 28]
abbrev dktX9_item_1 : List UInt8 := dkwX9_item_1 ++ dktX9_item_2
def dkwX9_item_0 : List UInt8 := [27, 184, 0, 159, 153, 0, 12, 28, 3, 6, 184, 0, 44, 154, 0, 5, 2, 172, 42, 27, 28, 29, 4]
abbrev dktX9_item_0 : List UInt8 := dkwX9_item_0 ++ dktX9_item_1
theorem dksX9_item_0 : cX9_item.data.toList.drop 0 = dktX9_item_0 := by decide +kernel
theorem dksX9_item_1 : cX9_item.data.toList.drop 23 = dktX9_item_1 := dk_seg dksX9_item_0 23 rfl rfl
theorem dksX9_item_2 : cX9_item.data.toList.drop 47 = dktX9_item_2 := dk_seg dksX9_item_1 24 rfl rfl
theorem dX9_item_0 : decode cX9_item 0 = .ok (.iload_n 1, 1) := dk_27 (dk_at dksX9_item_0 0 rfl rfl)
theorem dX9_item_1 : decode cX9_item 1 = .ok (.invokestatic 159, 3) := dk_184 0 159 (dk_at dksX9_item_0 1 rfl rfl)
theorem dX9_item_4 : decode cX9_item 4 = .ok (.ifCond .eq 12, 3) := dk_153 0 12 (dk_at dksX9_item_0 4 rfl rfl)
theorem dX9_item_7 : decode cX9_item 7 = .ok (.iload_n 2, 1) := dk_28 (dk_at dksX9_item_0 7 rfl rfl)
theorem dX9_item_8 : decode cX9_item 8 = .ok (.iconst 0, 1) := dk_3 (dk_at dksX9_item_0 8 rfl rfl)
theorem dX9_item_9 : decode cX9_item 9 = .ok (.iconst 3, 1) := dk_6 (dk_at dksX9_item_0 9 rfl rfl)
theorem dX9_item_10 : decode cX9_item 10 = .ok (.invokestatic 44, 3) := dk_184 0 44 (dk_at dksX9_item_0 10 rfl rfl)
theorem dX9_item_13 : decode cX9_item 13 = .ok (.ifCond .ne 5, 3) := dk_154 0 5 (dk_at dksX9_item_0 13 rfl rfl)
theorem dX9_item_16 : decode cX9_item 16 = .ok (.iconst (-1), 1) := dk_2 (dk_at dksX9_item_0 16 rfl rfl)
theorem dX9_item_17 : decode cX9_item 17 = .ok (.ireturn, 1) := dk_172 (dk_at dksX9_item_0 17 rfl rfl)
theorem dX9_item_18 : decode cX9_item 18 = .ok (.aload_n 0, 1) := dk_42 (dk_at dksX9_item_0 18 rfl rfl)
theorem dX9_item_19 : decode cX9_item 19 = .ok (.iload_n 1, 1) := dk_27 (dk_at dksX9_item_0 19 rfl rfl)
theorem dX9_item_20 : decode cX9_item 20 = .ok (.iload_n 2, 1) := dk_28 (dk_at dksX9_item_0 20 rfl rfl)
theorem dX9_item_21 : decode cX9_item 21 = .ok (.iload_n 3, 1) := dk_29 (dk_at dksX9_item_0 21 rfl rfl)
theorem dX9_item_22 : decode cX9_item 22 = .ok (.iconst 1, 1) := dk_4 (dk_at dksX9_item_0 22 rfl rfl)
theorem dX9_item_23 : decode cX9_item 23 = .ok (.invokevirtual 162, 3) := dk_182 0 162 (dk_at dksX9_item_1 0 rfl rfl)
theorem dX9_item_26 : decode cX9_item 26 = .ok (.istore 6, 2) := dk_54 6 (dk_at dksX9_item_1 3 rfl rfl)
theorem dX9_item_28 : decode cX9_item 28 = .ok (.iload 6, 2) := dk_21 6 (dk_at dksX9_item_1 5 rfl rfl)
theorem dX9_item_30 : decode cX9_item 30 = .ok (.ifCond .eq 6, 3) := dk_153 0 6 (dk_at dksX9_item_1 7 rfl rfl)
theorem dX9_item_33 : decode cX9_item 33 = .ok (.iload 6, 2) := dk_21 6 (dk_at dksX9_item_1 10 rfl rfl)
theorem dX9_item_35 : decode cX9_item 35 = .ok (.ireturn, 1) := dk_172 (dk_at dksX9_item_1 12 rfl rfl)
theorem dX9_item_36 : decode cX9_item 36 = .ok (.aload_n 0, 1) := dk_42 (dk_at dksX9_item_1 13 rfl rfl)
theorem dX9_item_37 : decode cX9_item 37 = .ok (.getfield 22, 3) := dk_180 0 22 (dk_at dksX9_item_1 14 rfl rfl)
theorem dX9_item_40 : decode cX9_item 40 = .ok (.bipush 24, 2) := dk_16 24 (dk_at dksX9_item_1 17 rfl rfl)
theorem dX9_item_42 : decode cX9_item 42 = .ok (.iload_n 1, 1) := dk_27 (dk_at dksX9_item_1 19 rfl rfl)
theorem dX9_item_43 : decode cX9_item 43 = .ok (.imul, 1) := dk_104 (dk_at dksX9_item_1 20 rfl rfl)
theorem dX9_item_44 : decode cX9_item 44 = .ok (.iload_n 3, 1) := dk_29 (dk_at dksX9_item_1 21 rfl rfl)
theorem dX9_item_45 : decode cX9_item 45 = .ok (.iadd, 1) := dk_96 (dk_at dksX9_item_1 22 rfl rfl)
theorem dX9_item_46 : decode cX9_item 46 = .ok (.iload_n 2, 1) := dk_28 (dk_at dksX9_item_1 23 rfl rfl)
theorem dX9_item_47 : decode cX9_item 47 = .ok (.lload 4, 2) := dk_22 4 (dk_at dksX9_item_2 0 rfl rfl)
theorem dX9_item_49 : decode cX9_item 49 = .ok (.invokestatic 169, 3) := dk_184 0 169 (dk_at dksX9_item_2 2 rfl rfl)
theorem dX9_item_52 : decode cX9_item 52 = .ok (.lastore, 1) := dk_80 (dk_at dksX9_item_2 5 rfl rfl)
theorem dX9_item_53 : decode cX9_item 53 = .ok (.iconst 1, 1) := dk_4 (dk_at dksX9_item_2 6 rfl rfl)
theorem dX9_item_54 : decode cX9_item 54 = .ok (.ireturn, 1) := dk_172 (dk_at dksX9_item_2 7 rfl rfl)
abbrev cX9_cut : ByteArray := prog_11_method_62_code
def yX9_cut : MethodName := ⟨RX9, "cut", "(IJ)J"⟩
def dkwX9_cut_1 : List UInt8 := [5, 160, 0, 9, 31, 136, 133, 167, 0, 4, 31, 173]
abbrev dktX9_cut_1 : List UInt8 := dkwX9_cut_1 ++ []
def dkwX9_cut_0 : List UInt8 := [26, 154, 0, 10, 31, 136, 145, 133, 167, 0, 27, 26, 4, 160, 0, 10, 31, 136, 147, 133, 167, 0, 15, 26]
abbrev dktX9_cut_0 : List UInt8 := dkwX9_cut_0 ++ dktX9_cut_1
theorem dksX9_cut_0 : cX9_cut.data.toList.drop 0 = dktX9_cut_0 := by decide +kernel
theorem dksX9_cut_1 : cX9_cut.data.toList.drop 24 = dktX9_cut_1 := dk_seg dksX9_cut_0 24 rfl rfl
theorem dX9_cut_0 : decode cX9_cut 0 = .ok (.iload_n 0, 1) := dk_26 (dk_at dksX9_cut_0 0 rfl rfl)
theorem dX9_cut_1 : decode cX9_cut 1 = .ok (.ifCond .ne 10, 3) := dk_154 0 10 (dk_at dksX9_cut_0 1 rfl rfl)
theorem dX9_cut_4 : decode cX9_cut 4 = .ok (.lload_n 1, 1) := dk_31 (dk_at dksX9_cut_0 4 rfl rfl)
theorem dX9_cut_5 : decode cX9_cut 5 = .ok (.l2i, 1) := dk_136 (dk_at dksX9_cut_0 5 rfl rfl)
theorem dX9_cut_6 : decode cX9_cut 6 = .ok (.i2b, 1) := dk_145 (dk_at dksX9_cut_0 6 rfl rfl)
theorem dX9_cut_7 : decode cX9_cut 7 = .ok (.i2l, 1) := dk_133 (dk_at dksX9_cut_0 7 rfl rfl)
theorem dX9_cut_8 : decode cX9_cut 8 = .ok (.goto 27, 3) := dk_167 0 27 (dk_at dksX9_cut_0 8 rfl rfl)
theorem dX9_cut_11 : decode cX9_cut 11 = .ok (.iload_n 0, 1) := dk_26 (dk_at dksX9_cut_0 11 rfl rfl)
theorem dX9_cut_12 : decode cX9_cut 12 = .ok (.iconst 1, 1) := dk_4 (dk_at dksX9_cut_0 12 rfl rfl)
theorem dX9_cut_13 : decode cX9_cut 13 = .ok (.if_icmp .ne 10, 3) := dk_160 0 10 (dk_at dksX9_cut_0 13 rfl rfl)
theorem dX9_cut_16 : decode cX9_cut 16 = .ok (.lload_n 1, 1) := dk_31 (dk_at dksX9_cut_0 16 rfl rfl)
theorem dX9_cut_17 : decode cX9_cut 17 = .ok (.l2i, 1) := dk_136 (dk_at dksX9_cut_0 17 rfl rfl)
theorem dX9_cut_18 : decode cX9_cut 18 = .ok (.i2s, 1) := dk_147 (dk_at dksX9_cut_0 18 rfl rfl)
theorem dX9_cut_19 : decode cX9_cut 19 = .ok (.i2l, 1) := dk_133 (dk_at dksX9_cut_0 19 rfl rfl)
theorem dX9_cut_20 : decode cX9_cut 20 = .ok (.goto 15, 3) := dk_167 0 15 (dk_at dksX9_cut_0 20 rfl rfl)
theorem dX9_cut_23 : decode cX9_cut 23 = .ok (.iload_n 0, 1) := dk_26 (dk_at dksX9_cut_0 23 rfl rfl)
theorem dX9_cut_24 : decode cX9_cut 24 = .ok (.iconst 2, 1) := dk_5 (dk_at dksX9_cut_1 0 rfl rfl)
theorem dX9_cut_25 : decode cX9_cut 25 = .ok (.if_icmp .ne 9, 3) := dk_160 0 9 (dk_at dksX9_cut_1 1 rfl rfl)
theorem dX9_cut_28 : decode cX9_cut 28 = .ok (.lload_n 1, 1) := dk_31 (dk_at dksX9_cut_1 4 rfl rfl)
theorem dX9_cut_29 : decode cX9_cut 29 = .ok (.l2i, 1) := dk_136 (dk_at dksX9_cut_1 5 rfl rfl)
theorem dX9_cut_30 : decode cX9_cut 30 = .ok (.i2l, 1) := dk_133 (dk_at dksX9_cut_1 6 rfl rfl)
theorem dX9_cut_31 : decode cX9_cut 31 = .ok (.goto 4, 3) := dk_167 0 4 (dk_at dksX9_cut_1 7 rfl rfl)
theorem dX9_cut_34 : decode cX9_cut 34 = .ok (.lload_n 1, 1) := dk_31 (dk_at dksX9_cut_1 10 rfl rfl)
theorem dX9_cut_35 : decode cX9_cut 35 = .ok (.lreturn, 1) := dk_173 (dk_at dksX9_cut_1 11 rfl rfl)
abbrev cX9_copy : ByteArray := prog_11_method_69_code
def yX9_copy : MethodName := ⟨RX9, "copy", "(IIIII)I"⟩
def dkwX9_copy_7 : List UInt8 := [167, 255, 224, 21, 5, 172]
abbrev dktX9_copy_7 : List UInt8 := dkwX9_copy_7 ++ []
def dkwX9_copy_6 : List UInt8 := [180, 0, 22, 16, 24, 29, 104, 21, 4, 96, 21, 8, 96, 42, 180, 0, 26, 21, 8, 47, 80, 132, 8, 1]
abbrev dktX9_copy_6 : List UInt8 := dkwX9_copy_6 ++ dktX9_copy_7
def dkwX9_copy_5 : List UInt8 := [96, 21, 8, 96, 47, 80, 132, 8, 1, 167, 255, 225, 3, 54, 8, 21, 8, 21, 5, 162, 0, 31, 42]
abbrev dktX9_copy_5 : List UInt8 := dkwX9_copy_5 ++ dktX9_copy_6
def dkwX9_copy_4 : List UInt8 := [54, 8, 21, 8, 21, 5, 162, 0, 30, 42, 180, 0, 26, 21, 8, 42, 180, 0, 22, 16, 24, 27, 104, 28]
abbrev dktX9_copy_4 : List UInt8 := dkwX9_copy_4 ++ dktX9_copy_5
def dkwX9_copy_3 : List UInt8 := [21, 6, 154, 0, 8, 21, 7, 153, 0, 16, 21, 6, 153, 0, 8, 21, 6, 167, 0, 5, 21, 7, 172, 3]
abbrev dktX9_copy_3 : List UInt8 := dkwX9_copy_3 ++ dktX9_copy_4
def dkwX9_copy_2 : List UInt8 := [21, 5, 182, 0, 162, 54, 6, 42, 29, 42, 180, 0, 32, 29, 46, 21, 4, 21, 5, 182, 0, 162, 54, 7]
abbrev dktX9_copy_2 : List UInt8 := dkwX9_copy_2 ++ dktX9_copy_3
def dkwX9_copy_1 : List UInt8 := [155, 0, 12, 42, 180, 0, 29, 29, 46, 156, 0, 6, 16, 245, 172, 42, 27, 42, 180, 0, 32, 29, 46, 28]
abbrev dktX9_copy_1 : List UInt8 := dkwX9_copy_1 ++ dktX9_copy_2
def dkwX9_copy_0 : List UInt8 := [27, 184, 0, 159, 153, 0, 10, 29, 184, 0, 159, 154, 0, 5, 2, 172, 42, 180, 0, 29, 27, 46]
abbrev dktX9_copy_0 : List UInt8 := dkwX9_copy_0 ++ dktX9_copy_1
theorem dksX9_copy_0 : cX9_copy.data.toList.drop 0 = dktX9_copy_0 := by decide +kernel
theorem dksX9_copy_1 : cX9_copy.data.toList.drop 22 = dktX9_copy_1 := dk_seg dksX9_copy_0 22 rfl rfl
theorem dksX9_copy_2 : cX9_copy.data.toList.drop 46 = dktX9_copy_2 := dk_seg dksX9_copy_1 24 rfl rfl
theorem dksX9_copy_3 : cX9_copy.data.toList.drop 70 = dktX9_copy_3 := dk_seg dksX9_copy_2 24 rfl rfl
theorem dksX9_copy_4 : cX9_copy.data.toList.drop 94 = dktX9_copy_4 := dk_seg dksX9_copy_3 24 rfl rfl
theorem dksX9_copy_5 : cX9_copy.data.toList.drop 118 = dktX9_copy_5 := dk_seg dksX9_copy_4 24 rfl rfl
theorem dksX9_copy_6 : cX9_copy.data.toList.drop 141 = dktX9_copy_6 := dk_seg dksX9_copy_5 23 rfl rfl
theorem dksX9_copy_7 : cX9_copy.data.toList.drop 165 = dktX9_copy_7 := dk_seg dksX9_copy_6 24 rfl rfl
theorem dX9_copy_0 : decode cX9_copy 0 = .ok (.iload_n 1, 1) := dk_27 (dk_at dksX9_copy_0 0 rfl rfl)
theorem dX9_copy_1 : decode cX9_copy 1 = .ok (.invokestatic 159, 3) := dk_184 0 159 (dk_at dksX9_copy_0 1 rfl rfl)
theorem dX9_copy_4 : decode cX9_copy 4 = .ok (.ifCond .eq 10, 3) := dk_153 0 10 (dk_at dksX9_copy_0 4 rfl rfl)
theorem dX9_copy_7 : decode cX9_copy 7 = .ok (.iload_n 3, 1) := dk_29 (dk_at dksX9_copy_0 7 rfl rfl)
theorem dX9_copy_8 : decode cX9_copy 8 = .ok (.invokestatic 159, 3) := dk_184 0 159 (dk_at dksX9_copy_0 8 rfl rfl)
theorem dX9_copy_11 : decode cX9_copy 11 = .ok (.ifCond .ne 5, 3) := dk_154 0 5 (dk_at dksX9_copy_0 11 rfl rfl)
theorem dX9_copy_14 : decode cX9_copy 14 = .ok (.iconst (-1), 1) := dk_2 (dk_at dksX9_copy_0 14 rfl rfl)
theorem dX9_copy_15 : decode cX9_copy 15 = .ok (.ireturn, 1) := dk_172 (dk_at dksX9_copy_0 15 rfl rfl)
theorem dX9_copy_16 : decode cX9_copy 16 = .ok (.aload_n 0, 1) := dk_42 (dk_at dksX9_copy_0 16 rfl rfl)
theorem dX9_copy_17 : decode cX9_copy 17 = .ok (.getfield 29, 3) := dk_180 0 29 (dk_at dksX9_copy_0 17 rfl rfl)
theorem dX9_copy_20 : decode cX9_copy 20 = .ok (.iload_n 1, 1) := dk_27 (dk_at dksX9_copy_0 20 rfl rfl)
theorem dX9_copy_21 : decode cX9_copy 21 = .ok (.iaload, 1) := dk_46 (dk_at dksX9_copy_0 21 rfl rfl)
theorem dX9_copy_22 : decode cX9_copy 22 = .ok (.ifCond .lt 12, 3) := dk_155 0 12 (dk_at dksX9_copy_1 0 rfl rfl)
theorem dX9_copy_25 : decode cX9_copy 25 = .ok (.aload_n 0, 1) := dk_42 (dk_at dksX9_copy_1 3 rfl rfl)
theorem dX9_copy_26 : decode cX9_copy 26 = .ok (.getfield 29, 3) := dk_180 0 29 (dk_at dksX9_copy_1 4 rfl rfl)
theorem dX9_copy_29 : decode cX9_copy 29 = .ok (.iload_n 3, 1) := dk_29 (dk_at dksX9_copy_1 7 rfl rfl)
theorem dX9_copy_30 : decode cX9_copy 30 = .ok (.iaload, 1) := dk_46 (dk_at dksX9_copy_1 8 rfl rfl)
theorem dX9_copy_31 : decode cX9_copy 31 = .ok (.ifCond .ge 6, 3) := dk_156 0 6 (dk_at dksX9_copy_1 9 rfl rfl)
theorem dX9_copy_34 : decode cX9_copy 34 = .ok (.bipush (-11), 2) := dk_16 245 (dk_at dksX9_copy_1 12 rfl rfl)
theorem dX9_copy_36 : decode cX9_copy 36 = .ok (.ireturn, 1) := dk_172 (dk_at dksX9_copy_1 14 rfl rfl)
theorem dX9_copy_37 : decode cX9_copy 37 = .ok (.aload_n 0, 1) := dk_42 (dk_at dksX9_copy_1 15 rfl rfl)
theorem dX9_copy_38 : decode cX9_copy 38 = .ok (.iload_n 1, 1) := dk_27 (dk_at dksX9_copy_1 16 rfl rfl)
theorem dX9_copy_39 : decode cX9_copy 39 = .ok (.aload_n 0, 1) := dk_42 (dk_at dksX9_copy_1 17 rfl rfl)
theorem dX9_copy_40 : decode cX9_copy 40 = .ok (.getfield 32, 3) := dk_180 0 32 (dk_at dksX9_copy_1 18 rfl rfl)
theorem dX9_copy_43 : decode cX9_copy 43 = .ok (.iload_n 3, 1) := dk_29 (dk_at dksX9_copy_1 21 rfl rfl)
theorem dX9_copy_44 : decode cX9_copy 44 = .ok (.iaload, 1) := dk_46 (dk_at dksX9_copy_1 22 rfl rfl)
theorem dX9_copy_45 : decode cX9_copy 45 = .ok (.iload_n 2, 1) := dk_28 (dk_at dksX9_copy_1 23 rfl rfl)
theorem dX9_copy_46 : decode cX9_copy 46 = .ok (.iload 5, 2) := dk_21 5 (dk_at dksX9_copy_2 0 rfl rfl)
theorem dX9_copy_48 : decode cX9_copy 48 = .ok (.invokevirtual 162, 3) := dk_182 0 162 (dk_at dksX9_copy_2 2 rfl rfl)
theorem dX9_copy_51 : decode cX9_copy 51 = .ok (.istore 6, 2) := dk_54 6 (dk_at dksX9_copy_2 5 rfl rfl)
theorem dX9_copy_53 : decode cX9_copy 53 = .ok (.aload_n 0, 1) := dk_42 (dk_at dksX9_copy_2 7 rfl rfl)
theorem dX9_copy_54 : decode cX9_copy 54 = .ok (.iload_n 3, 1) := dk_29 (dk_at dksX9_copy_2 8 rfl rfl)
theorem dX9_copy_55 : decode cX9_copy 55 = .ok (.aload_n 0, 1) := dk_42 (dk_at dksX9_copy_2 9 rfl rfl)
theorem dX9_copy_56 : decode cX9_copy 56 = .ok (.getfield 32, 3) := dk_180 0 32 (dk_at dksX9_copy_2 10 rfl rfl)
theorem dX9_copy_59 : decode cX9_copy 59 = .ok (.iload_n 3, 1) := dk_29 (dk_at dksX9_copy_2 13 rfl rfl)
theorem dX9_copy_60 : decode cX9_copy 60 = .ok (.iaload, 1) := dk_46 (dk_at dksX9_copy_2 14 rfl rfl)
theorem dX9_copy_61 : decode cX9_copy 61 = .ok (.iload 4, 2) := dk_21 4 (dk_at dksX9_copy_2 15 rfl rfl)
theorem dX9_copy_63 : decode cX9_copy 63 = .ok (.iload 5, 2) := dk_21 5 (dk_at dksX9_copy_2 17 rfl rfl)
theorem dX9_copy_65 : decode cX9_copy 65 = .ok (.invokevirtual 162, 3) := dk_182 0 162 (dk_at dksX9_copy_2 19 rfl rfl)
theorem dX9_copy_68 : decode cX9_copy 68 = .ok (.istore 7, 2) := dk_54 7 (dk_at dksX9_copy_2 22 rfl rfl)
theorem dX9_copy_70 : decode cX9_copy 70 = .ok (.iload 6, 2) := dk_21 6 (dk_at dksX9_copy_3 0 rfl rfl)
theorem dX9_copy_72 : decode cX9_copy 72 = .ok (.ifCond .ne 8, 3) := dk_154 0 8 (dk_at dksX9_copy_3 2 rfl rfl)
theorem dX9_copy_75 : decode cX9_copy 75 = .ok (.iload 7, 2) := dk_21 7 (dk_at dksX9_copy_3 5 rfl rfl)
theorem dX9_copy_77 : decode cX9_copy 77 = .ok (.ifCond .eq 16, 3) := dk_153 0 16 (dk_at dksX9_copy_3 7 rfl rfl)
theorem dX9_copy_80 : decode cX9_copy 80 = .ok (.iload 6, 2) := dk_21 6 (dk_at dksX9_copy_3 10 rfl rfl)
theorem dX9_copy_82 : decode cX9_copy 82 = .ok (.ifCond .eq 8, 3) := dk_153 0 8 (dk_at dksX9_copy_3 12 rfl rfl)
theorem dX9_copy_85 : decode cX9_copy 85 = .ok (.iload 6, 2) := dk_21 6 (dk_at dksX9_copy_3 15 rfl rfl)
theorem dX9_copy_87 : decode cX9_copy 87 = .ok (.goto 5, 3) := dk_167 0 5 (dk_at dksX9_copy_3 17 rfl rfl)
theorem dX9_copy_90 : decode cX9_copy 90 = .ok (.iload 7, 2) := dk_21 7 (dk_at dksX9_copy_3 20 rfl rfl)
theorem dX9_copy_92 : decode cX9_copy 92 = .ok (.ireturn, 1) := dk_172 (dk_at dksX9_copy_3 22 rfl rfl)
theorem dX9_copy_93 : decode cX9_copy 93 = .ok (.iconst 0, 1) := dk_3 (dk_at dksX9_copy_3 23 rfl rfl)
theorem dX9_copy_94 : decode cX9_copy 94 = .ok (.istore 8, 2) := dk_54 8 (dk_at dksX9_copy_4 0 rfl rfl)
theorem dX9_copy_96 : decode cX9_copy 96 = .ok (.iload 8, 2) := dk_21 8 (dk_at dksX9_copy_4 2 rfl rfl)
theorem dX9_copy_98 : decode cX9_copy 98 = .ok (.iload 5, 2) := dk_21 5 (dk_at dksX9_copy_4 4 rfl rfl)
theorem dX9_copy_100 : decode cX9_copy 100 = .ok (.if_icmp .ge 30, 3) := dk_162 0 30 (dk_at dksX9_copy_4 6 rfl rfl)
theorem dX9_copy_103 : decode cX9_copy 103 = .ok (.aload_n 0, 1) := dk_42 (dk_at dksX9_copy_4 9 rfl rfl)
theorem dX9_copy_104 : decode cX9_copy 104 = .ok (.getfield 26, 3) := dk_180 0 26 (dk_at dksX9_copy_4 10 rfl rfl)
theorem dX9_copy_107 : decode cX9_copy 107 = .ok (.iload 8, 2) := dk_21 8 (dk_at dksX9_copy_4 13 rfl rfl)
theorem dX9_copy_109 : decode cX9_copy 109 = .ok (.aload_n 0, 1) := dk_42 (dk_at dksX9_copy_4 15 rfl rfl)
theorem dX9_copy_110 : decode cX9_copy 110 = .ok (.getfield 22, 3) := dk_180 0 22 (dk_at dksX9_copy_4 16 rfl rfl)
theorem dX9_copy_113 : decode cX9_copy 113 = .ok (.bipush 24, 2) := dk_16 24 (dk_at dksX9_copy_4 19 rfl rfl)
theorem dX9_copy_115 : decode cX9_copy 115 = .ok (.iload_n 1, 1) := dk_27 (dk_at dksX9_copy_4 21 rfl rfl)
theorem dX9_copy_116 : decode cX9_copy 116 = .ok (.imul, 1) := dk_104 (dk_at dksX9_copy_4 22 rfl rfl)
theorem dX9_copy_117 : decode cX9_copy 117 = .ok (.iload_n 2, 1) := dk_28 (dk_at dksX9_copy_4 23 rfl rfl)
theorem dX9_copy_118 : decode cX9_copy 118 = .ok (.iadd, 1) := dk_96 (dk_at dksX9_copy_5 0 rfl rfl)
theorem dX9_copy_119 : decode cX9_copy 119 = .ok (.iload 8, 2) := dk_21 8 (dk_at dksX9_copy_5 1 rfl rfl)
theorem dX9_copy_121 : decode cX9_copy 121 = .ok (.iadd, 1) := dk_96 (dk_at dksX9_copy_5 3 rfl rfl)
theorem dX9_copy_122 : decode cX9_copy 122 = .ok (.laload, 1) := dk_47 (dk_at dksX9_copy_5 4 rfl rfl)
theorem dX9_copy_123 : decode cX9_copy 123 = .ok (.lastore, 1) := dk_80 (dk_at dksX9_copy_5 5 rfl rfl)
theorem dX9_copy_124 : decode cX9_copy 124 = .ok (.iinc 8 1, 3) := dk_132 8 1 (dk_at dksX9_copy_5 6 rfl rfl)
theorem dX9_copy_127 : decode cX9_copy 127 = .ok (.goto (-31), 3) := dk_167 255 225 (dk_at dksX9_copy_5 9 rfl rfl)
theorem dX9_copy_130 : decode cX9_copy 130 = .ok (.iconst 0, 1) := dk_3 (dk_at dksX9_copy_5 12 rfl rfl)
theorem dX9_copy_131 : decode cX9_copy 131 = .ok (.istore 8, 2) := dk_54 8 (dk_at dksX9_copy_5 13 rfl rfl)
theorem dX9_copy_133 : decode cX9_copy 133 = .ok (.iload 8, 2) := dk_21 8 (dk_at dksX9_copy_5 15 rfl rfl)
theorem dX9_copy_135 : decode cX9_copy 135 = .ok (.iload 5, 2) := dk_21 5 (dk_at dksX9_copy_5 17 rfl rfl)
theorem dX9_copy_137 : decode cX9_copy 137 = .ok (.if_icmp .ge 31, 3) := dk_162 0 31 (dk_at dksX9_copy_5 19 rfl rfl)
theorem dX9_copy_140 : decode cX9_copy 140 = .ok (.aload_n 0, 1) := dk_42 (dk_at dksX9_copy_5 22 rfl rfl)
theorem dX9_copy_141 : decode cX9_copy 141 = .ok (.getfield 22, 3) := dk_180 0 22 (dk_at dksX9_copy_6 0 rfl rfl)
theorem dX9_copy_144 : decode cX9_copy 144 = .ok (.bipush 24, 2) := dk_16 24 (dk_at dksX9_copy_6 3 rfl rfl)
theorem dX9_copy_146 : decode cX9_copy 146 = .ok (.iload_n 3, 1) := dk_29 (dk_at dksX9_copy_6 5 rfl rfl)
theorem dX9_copy_147 : decode cX9_copy 147 = .ok (.imul, 1) := dk_104 (dk_at dksX9_copy_6 6 rfl rfl)
theorem dX9_copy_148 : decode cX9_copy 148 = .ok (.iload 4, 2) := dk_21 4 (dk_at dksX9_copy_6 7 rfl rfl)
theorem dX9_copy_150 : decode cX9_copy 150 = .ok (.iadd, 1) := dk_96 (dk_at dksX9_copy_6 9 rfl rfl)
theorem dX9_copy_151 : decode cX9_copy 151 = .ok (.iload 8, 2) := dk_21 8 (dk_at dksX9_copy_6 10 rfl rfl)
theorem dX9_copy_153 : decode cX9_copy 153 = .ok (.iadd, 1) := dk_96 (dk_at dksX9_copy_6 12 rfl rfl)
theorem dX9_copy_154 : decode cX9_copy 154 = .ok (.aload_n 0, 1) := dk_42 (dk_at dksX9_copy_6 13 rfl rfl)
theorem dX9_copy_155 : decode cX9_copy 155 = .ok (.getfield 26, 3) := dk_180 0 26 (dk_at dksX9_copy_6 14 rfl rfl)
theorem dX9_copy_158 : decode cX9_copy 158 = .ok (.iload 8, 2) := dk_21 8 (dk_at dksX9_copy_6 17 rfl rfl)
theorem dX9_copy_160 : decode cX9_copy 160 = .ok (.laload, 1) := dk_47 (dk_at dksX9_copy_6 19 rfl rfl)
theorem dX9_copy_161 : decode cX9_copy 161 = .ok (.lastore, 1) := dk_80 (dk_at dksX9_copy_6 20 rfl rfl)
theorem dX9_copy_162 : decode cX9_copy 162 = .ok (.iinc 8 1, 3) := dk_132 8 1 (dk_at dksX9_copy_6 21 rfl rfl)
theorem dX9_copy_165 : decode cX9_copy 165 = .ok (.goto (-32), 3) := dk_167 255 224 (dk_at dksX9_copy_7 0 rfl rfl)
theorem dX9_copy_168 : decode cX9_copy 168 = .ok (.iload 5, 2) := dk_21 5 (dk_at dksX9_copy_7 3 rfl rfl)
theorem dX9_copy_170 : decode cX9_copy 170 = .ok (.ireturn, 1) := dk_172 (dk_at dksX9_copy_7 5 rfl rfl)
theorem q65 : (Jvm.Cond.initialized "BattleBenchModel") ∈ lw_all := lw_g (lw_at lw_m1 12 rfl) rfl
theorem q812 : (Jvm.Cond.instantiable "BattleBenchModel" (14 : Nat)) ∈ lw_all := lw_g (lw_at lw_m4 39 rfl) rfl
theorem q814 : (Jvm.Cond.instanceMethod ({ cls := "BattleBenchModel", name := "<init>", desc := "()V" } : Jvm.MethodName)) ∈ lw_all := lw_g (lw_at lw_m4 41 rfl) rfl
theorem q815 : (Jvm.Cond.code ({ cls := "BattleBenchModel", name := "<init>", desc := "()V" } : Jvm.MethodName) prog_11_method_1_code (2 : Nat) (Option.none : Option Jvm.ClassFile.FieldType)) ∈ lw_all := lw_g (lw_at lw_m4 42 rfl) rfl
theorem q816 : (Jvm.Cond.methodLink "BattleBenchModel" (1 : Nat) ({ cls := "java/lang/Object", name := "<init>", desc := "()V" } : Jvm.MethodName)) ∈ lw_all := lw_g (lw_at lw_m4 43 rfl) rfl
theorem q817 : (Jvm.Cond.fieldLink "BattleBenchModel" (7 : Nat) "BattleBenchModel" "s" "[I") ∈ lw_all := lw_g (lw_at lw_m4 44 rfl) rfl
theorem q818 : (Jvm.Cond.fieldLink "BattleBenchModel" (13 : Nat) "BattleBenchModel" "images" "[I") ∈ lw_all := lw_g (lw_at lw_m4 45 rfl) rfl
theorem q819 : (Jvm.Cond.fieldLink "BattleBenchModel" (155 : Nat) "BattleBenchModel" "kept" "Z") ∈ lw_all := lw_g (lw_at lw_m4 46 rfl) rfl
theorem q820 : (Jvm.Cond.fieldLink "BattleBenchModel" (16 : Nat) "BattleBenchModel" "tape" "[I") ∈ lw_all := lw_g (lw_at lw_m4 47 rfl) rfl
theorem q821 : (Jvm.Cond.fieldLink "BattleBenchModel" (85 : Nat) "BattleBenchModel" "typed" "I") ∈ lw_all := lw_g (lw_at lw_m4 48 rfl) rfl
theorem q822 : (Jvm.Cond.fieldLink "BattleBenchModel" (19 : Nat) "BattleBenchModel" "draft" "[I") ∈ lw_all := lw_g (lw_at lw_m4 49 rfl) rfl
theorem q823 : (Jvm.Cond.fieldLink "BattleBenchModel" (89 : Nat) "BattleBenchModel" "at" "I") ∈ lw_all := lw_g (lw_at lw_m4 50 rfl) rfl
theorem q824 : (Jvm.Cond.fieldLink "BattleBenchModel" (22 : Nat) "BattleBenchModel" "items" "[J") ∈ lw_all := lw_g (lw_at lw_m4 51 rfl) rfl
theorem q825 : (Jvm.Cond.fieldLink "BattleBenchModel" (26 : Nat) "BattleBenchModel" "moved" "[J") ∈ lw_all := lw_g (lw_at lw_m4 52 rfl) rfl
theorem q826 : (Jvm.Cond.fieldLink "BattleBenchModel" (29 : Nat) "BattleBenchModel" "sizes" "[I") ∈ lw_all := lw_g (lw_at lw_m4 53 rfl) rfl
theorem q827 : (Jvm.Cond.fieldLink "BattleBenchModel" (32 : Nat) "BattleBenchModel" "lanes" "[I") ∈ lw_all := lw_g (lw_at lw_m4 54 rfl) rfl
theorem q828 : (Jvm.Cond.fieldLink "BattleBenchModel" (35 : Nat) "BattleBenchModel" "less" "[I") ∈ lw_all := lw_g (lw_at lw_m4 55 rfl) rfl
theorem q829 : (Jvm.Cond.fieldLink "BattleBenchModel" (38 : Nat) "BattleBenchModel" "aside" "[I") ∈ lw_all := lw_g (lw_at lw_m4 56 rfl) rfl
theorem q830 : (Jvm.Cond.fieldLink "BattleBenchModel" (41 : Nat) "BattleBenchModel" "order" "[I") ∈ lw_all := lw_g (lw_at lw_m4 57 rfl) rfl
theorem q831 : (Jvm.Cond.laysFinal "BattleBenchModel" "BattleBenchModel" "s" "[I") ∈ lw_all := lw_g (lw_at lw_m4 58 rfl) rfl
theorem q832 : (Jvm.Cond.soleField "BattleBenchModel" "s") ∈ lw_all := lw_g (lw_at lw_m4 59 rfl) rfl
theorem q833 : (Jvm.Cond.laysFinal "BattleBenchModel" "BattleBenchModel" "images" "[I") ∈ lw_all := lw_g (lw_at lw_m4 60 rfl) rfl
theorem q834 : (Jvm.Cond.soleField "BattleBenchModel" "images") ∈ lw_all := lw_g (lw_at lw_m4 61 rfl) rfl
theorem q835 : (Jvm.Cond.lays "BattleBenchModel" "BattleBenchModel" "kept" "Z") ∈ lw_all := lw_g (lw_at lw_m4 62 rfl) rfl
theorem q836 : (Jvm.Cond.soleField "BattleBenchModel" "kept") ∈ lw_all := lw_g (lw_at lw_m4 63 rfl) rfl
theorem q837 : (Jvm.Cond.laysFinal "BattleBenchModel" "BattleBenchModel" "tape" "[I") ∈ lw_all := lw_g (lw_at lw_m4 64 rfl) rfl
theorem q838 : (Jvm.Cond.soleField "BattleBenchModel" "tape") ∈ lw_all := lw_g (lw_at lw_m4 65 rfl) rfl
theorem q839 : (Jvm.Cond.lays "BattleBenchModel" "BattleBenchModel" "typed" "I") ∈ lw_all := lw_g (lw_at lw_m4 66 rfl) rfl
theorem q840 : (Jvm.Cond.soleField "BattleBenchModel" "typed") ∈ lw_all := lw_g (lw_at lw_m4 67 rfl) rfl
theorem q841 : (Jvm.Cond.laysFinal "BattleBenchModel" "BattleBenchModel" "draft" "[I") ∈ lw_all := lw_g (lw_at lw_m4 68 rfl) rfl
theorem q842 : (Jvm.Cond.soleField "BattleBenchModel" "draft") ∈ lw_all := lw_g (lw_at lw_m4 69 rfl) rfl
theorem q843 : (Jvm.Cond.lays "BattleBenchModel" "BattleBenchModel" "at" "I") ∈ lw_all := lw_g (lw_at lw_m4 70 rfl) rfl
theorem q844 : (Jvm.Cond.soleField "BattleBenchModel" "at") ∈ lw_all := lw_g (lw_at lw_m4 71 rfl) rfl
theorem q845 : (Jvm.Cond.laysFinal "BattleBenchModel" "BattleBenchModel" "items" "[J") ∈ lw_all := lw_g (lw_at lw_m4 72 rfl) rfl
theorem q846 : (Jvm.Cond.soleField "BattleBenchModel" "items") ∈ lw_all := lw_g (lw_at lw_m4 73 rfl) rfl
theorem q847 : (Jvm.Cond.laysFinal "BattleBenchModel" "BattleBenchModel" "moved" "[J") ∈ lw_all := lw_g (lw_at lw_m4 74 rfl) rfl
theorem q848 : (Jvm.Cond.soleField "BattleBenchModel" "moved") ∈ lw_all := lw_g (lw_at lw_m4 75 rfl) rfl
theorem q849 : (Jvm.Cond.laysFinal "BattleBenchModel" "BattleBenchModel" "sizes" "[I") ∈ lw_all := lw_g (lw_at lw_m4 76 rfl) rfl
theorem q850 : (Jvm.Cond.soleField "BattleBenchModel" "sizes") ∈ lw_all := lw_g (lw_at lw_m4 77 rfl) rfl
theorem q851 : (Jvm.Cond.laysFinal "BattleBenchModel" "BattleBenchModel" "lanes" "[I") ∈ lw_all := lw_g (lw_at lw_m4 78 rfl) rfl
theorem q852 : (Jvm.Cond.soleField "BattleBenchModel" "lanes") ∈ lw_all := lw_g (lw_at lw_m4 79 rfl) rfl
theorem q853 : (Jvm.Cond.laysFinal "BattleBenchModel" "BattleBenchModel" "less" "[I") ∈ lw_all := lw_g (lw_at lw_m4 80 rfl) rfl
theorem q854 : (Jvm.Cond.soleField "BattleBenchModel" "less") ∈ lw_all := lw_g (lw_at lw_m4 81 rfl) rfl
theorem q855 : (Jvm.Cond.laysFinal "BattleBenchModel" "BattleBenchModel" "aside" "[I") ∈ lw_all := lw_g (lw_at lw_m4 82 rfl) rfl
theorem q856 : (Jvm.Cond.soleField "BattleBenchModel" "aside") ∈ lw_all := lw_g (lw_at lw_m4 83 rfl) rfl
theorem q857 : (Jvm.Cond.laysFinal "BattleBenchModel" "BattleBenchModel" "order" "[I") ∈ lw_all := lw_g (lw_at lw_m4 84 rfl) rfl
theorem q858 : (Jvm.Cond.soleField "BattleBenchModel" "order") ∈ lw_all := lw_g (lw_at lw_m4 85 rfl) rfl
theorem q859 : (Jvm.Cond.superclass "BattleBenchModel" "java/lang/Object") ∈ lw_all := lw_g (lw_at lw_m4 86 rfl) rfl
theorem q861 : (Jvm.Cond.instanceMethod ({ cls := "BattleBenchModel", name := "man", desc := "(II)I" } : Jvm.MethodName)) ∈ lw_all := lw_g (lw_at lw_m4 88 rfl) rfl
theorem q862 : (Jvm.Cond.selects "BattleBenchModel" ({ cls := "BattleBenchModel", name := "man", desc := "(II)I" } : Jvm.MethodName) ({ cls := "BattleBenchModel", name := "man", desc := "(II)I" } : Jvm.MethodName)) ∈ lw_all := lw_g (lw_at lw_m4 89 rfl) rfl
theorem q863 : (Jvm.Cond.code ({ cls := "BattleBenchModel", name := "man", desc := "(II)I" } : Jvm.MethodName) prog_11_method_10_code (5 : Nat) (Option.some Jvm.ClassFile.FieldType.int)) ∈ lw_all := lw_g (lw_at lw_m4 90 rfl) rfl
theorem q864 : (Jvm.Cond.methodLink "BattleBenchModel" (44 : Nat) ({ cls := "BattleBenchModel", name := "in", desc := "(III)Z" } : Jvm.MethodName)) ∈ lw_all := lw_g (lw_at lw_m4 91 rfl) rfl
theorem q865 : (Jvm.Cond.static ({ cls := "BattleBenchModel", name := "in", desc := "(III)Z" } : Jvm.MethodName)) ∈ lw_all := lw_g (lw_at lw_m4 92 rfl) rfl
theorem q866 : (Jvm.Cond.code ({ cls := "BattleBenchModel", name := "in", desc := "(III)Z" } : Jvm.MethodName) prog_11_method_3_code (3 : Nat) (Option.some Jvm.ClassFile.FieldType.boolean)) ∈ lw_all := lw_g (lw_at lw_m4 93 rfl) rfl
theorem q867 : (Jvm.Cond.methodLink "BattleBenchModel" (48 : Nat) ({ cls := "BattleBenchModel", name := "isTaken", desc := "(II)Z" } : Jvm.MethodName)) ∈ lw_all := lw_g (lw_at lw_m4 94 rfl) rfl
theorem q868 : (Jvm.Cond.privateMethod ({ cls := "BattleBenchModel", name := "isTaken", desc := "(II)Z" } : Jvm.MethodName)) ∈ lw_tbl := lw_at lw_m4 95 rfl
theorem q869 : (Jvm.Cond.instanceMethod ({ cls := "BattleBenchModel", name := "isTaken", desc := "(II)Z" } : Jvm.MethodName)) ∈ lw_all := lw_g (lw_at lw_m4 96 rfl) rfl
theorem q870 : (Jvm.Cond.code ({ cls := "BattleBenchModel", name := "isTaken", desc := "(II)Z" } : Jvm.MethodName) prog_11_method_9_code (5 : Nat) (Option.some Jvm.ClassFile.FieldType.boolean)) ∈ lw_all := lw_g (lw_at lw_m4 97 rfl) rfl
theorem q872 : (Jvm.Cond.instanceMethod ({ cls := "BattleBenchModel", name := "stood", desc := "(III)I" } : Jvm.MethodName)) ∈ lw_all := lw_g (lw_at lw_m4 99 rfl) rfl
theorem q873 : (Jvm.Cond.selects "BattleBenchModel" ({ cls := "BattleBenchModel", name := "stood", desc := "(III)I" } : Jvm.MethodName) ({ cls := "BattleBenchModel", name := "stood", desc := "(III)I" } : Jvm.MethodName)) ∈ lw_all := lw_g (lw_at lw_m4 100 rfl) rfl
theorem q874 : (Jvm.Cond.code ({ cls := "BattleBenchModel", name := "stood", desc := "(III)I" } : Jvm.MethodName) prog_11_method_11_code (5 : Nat) (Option.some Jvm.ClassFile.FieldType.int)) ∈ lw_all := lw_g (lw_at lw_m4 101 rfl) rfl
theorem q875 : (Jvm.Cond.methodLink "BattleBenchModel" (52 : Nat) ({ cls := "BattleBenchModel", name := "isMan", desc := "(I)Z" } : Jvm.MethodName)) ∈ lw_all := lw_g (lw_at lw_m4 102 rfl) rfl
theorem q876 : (Jvm.Cond.privateMethod ({ cls := "BattleBenchModel", name := "isMan", desc := "(I)Z" } : Jvm.MethodName)) ∈ lw_tbl := lw_at lw_m4 103 rfl
theorem q877 : (Jvm.Cond.instanceMethod ({ cls := "BattleBenchModel", name := "isMan", desc := "(I)Z" } : Jvm.MethodName)) ∈ lw_all := lw_g (lw_at lw_m4 104 rfl) rfl
theorem q878 : (Jvm.Cond.code ({ cls := "BattleBenchModel", name := "isMan", desc := "(I)Z" } : Jvm.MethodName) prog_11_method_5_code (2 : Nat) (Option.some Jvm.ClassFile.FieldType.boolean)) ∈ lw_all := lw_g (lw_at lw_m4 105 rfl) rfl
theorem q880 : (Jvm.Cond.instanceMethod ({ cls := "BattleBenchModel", name := "of", desc := "(II)I" } : Jvm.MethodName)) ∈ lw_all := lw_g (lw_at lw_m4 107 rfl) rfl
theorem q881 : (Jvm.Cond.selects "BattleBenchModel" ({ cls := "BattleBenchModel", name := "of", desc := "(II)I" } : Jvm.MethodName) ({ cls := "BattleBenchModel", name := "of", desc := "(II)I" } : Jvm.MethodName)) ∈ lw_all := lw_g (lw_at lw_m4 108 rfl) rfl
theorem q882 : (Jvm.Cond.code ({ cls := "BattleBenchModel", name := "of", desc := "(II)I" } : Jvm.MethodName) prog_11_method_18_code (3 : Nat) (Option.some Jvm.ClassFile.FieldType.int)) ∈ lw_all := lw_g (lw_at lw_m4 109 rfl) rfl
theorem q883 : (Jvm.Cond.methodLink "BattleBenchModel" (59 : Nat) ({ cls := "BattleBenchModel", name := "seatOf", desc := "(I)I" } : Jvm.MethodName)) ∈ lw_all := lw_g (lw_at lw_m4 110 rfl) rfl
theorem q884 : (Jvm.Cond.privateMethod ({ cls := "BattleBenchModel", name := "seatOf", desc := "(I)I" } : Jvm.MethodName)) ∈ lw_tbl := lw_at lw_m4 111 rfl
theorem q885 : (Jvm.Cond.instanceMethod ({ cls := "BattleBenchModel", name := "seatOf", desc := "(I)I" } : Jvm.MethodName)) ∈ lw_all := lw_g (lw_at lw_m4 112 rfl) rfl
theorem q886 : (Jvm.Cond.code ({ cls := "BattleBenchModel", name := "seatOf", desc := "(I)I" } : Jvm.MethodName) prog_11_method_6_code (4 : Nat) (Option.some Jvm.ClassFile.FieldType.int)) ∈ lw_all := lw_g (lw_at lw_m4 113 rfl) rfl
theorem q887 : (Jvm.Cond.methodLink "BattleBenchModel" (69 : Nat) ({ cls := "BattleBenchModel", name := "allStoodBy", desc := "(I)I" } : Jvm.MethodName)) ∈ lw_all := lw_g (lw_at lw_m4 114 rfl) rfl
theorem q888 : (Jvm.Cond.privateMethod ({ cls := "BattleBenchModel", name := "allStoodBy", desc := "(I)I" } : Jvm.MethodName)) ∈ lw_tbl := lw_at lw_m4 115 rfl
theorem q889 : (Jvm.Cond.instanceMethod ({ cls := "BattleBenchModel", name := "allStoodBy", desc := "(I)I" } : Jvm.MethodName)) ∈ lw_all := lw_g (lw_at lw_m4 116 rfl) rfl
theorem q890 : (Jvm.Cond.code ({ cls := "BattleBenchModel", name := "allStoodBy", desc := "(I)I" } : Jvm.MethodName) prog_11_method_13_code (4 : Nat) (Option.some Jvm.ClassFile.FieldType.int)) ∈ lw_all := lw_g (lw_at lw_m4 117 rfl) rfl
theorem q891 : (Jvm.Cond.methodLink "BattleBenchModel" (56 : Nat) ({ cls := "BattleBenchModel", name := "stoodBy", desc := "(II)Z" } : Jvm.MethodName)) ∈ lw_all := lw_g (lw_at lw_m4 118 rfl) rfl
theorem q892 : (Jvm.Cond.privateMethod ({ cls := "BattleBenchModel", name := "stoodBy", desc := "(II)Z" } : Jvm.MethodName)) ∈ lw_tbl := lw_at lw_m4 119 rfl
theorem q893 : (Jvm.Cond.instanceMethod ({ cls := "BattleBenchModel", name := "stoodBy", desc := "(II)Z" } : Jvm.MethodName)) ∈ lw_all := lw_g (lw_at lw_m4 120 rfl) rfl
theorem q894 : (Jvm.Cond.code ({ cls := "BattleBenchModel", name := "stoodBy", desc := "(II)Z" } : Jvm.MethodName) prog_11_method_12_code (10 : Nat) (Option.some Jvm.ClassFile.FieldType.boolean)) ∈ lw_all := lw_g (lw_at lw_m4 121 rfl) rfl
theorem q895 : (Jvm.Cond.methodLink "BattleBenchModel" (66 : Nat) ({ cls := "BattleBenchModel", name := "allSitBy", desc := "(I)I" } : Jvm.MethodName)) ∈ lw_all := lw_g (lw_at lw_m4 122 rfl) rfl
theorem q896 : (Jvm.Cond.privateMethod ({ cls := "BattleBenchModel", name := "allSitBy", desc := "(I)I" } : Jvm.MethodName)) ∈ lw_tbl := lw_at lw_m4 123 rfl
theorem q897 : (Jvm.Cond.instanceMethod ({ cls := "BattleBenchModel", name := "allSitBy", desc := "(I)I" } : Jvm.MethodName)) ∈ lw_all := lw_g (lw_at lw_m4 124 rfl) rfl
theorem q898 : (Jvm.Cond.code ({ cls := "BattleBenchModel", name := "allSitBy", desc := "(I)I" } : Jvm.MethodName) prog_11_method_14_code (5 : Nat) (Option.some Jvm.ClassFile.FieldType.int)) ∈ lw_all := lw_g (lw_at lw_m4 125 rfl) rfl
theorem q899 : (Jvm.Cond.methodLink "BattleBenchModel" (63 : Nat) ({ cls := "BattleBenchModel", name := "onSeat", desc := "(I)I" } : Jvm.MethodName)) ∈ lw_all := lw_g (lw_at lw_m4 126 rfl) rfl
theorem q900 : (Jvm.Cond.privateMethod ({ cls := "BattleBenchModel", name := "onSeat", desc := "(I)I" } : Jvm.MethodName)) ∈ lw_tbl := lw_at lw_m4 127 rfl
theorem q901 : (Jvm.Cond.instanceMethod ({ cls := "BattleBenchModel", name := "onSeat", desc := "(I)I" } : Jvm.MethodName)) ∈ lw_all := lw_g (lw_at lw_m4 128 rfl) rfl
theorem q902 : (Jvm.Cond.code ({ cls := "BattleBenchModel", name := "onSeat", desc := "(I)I" } : Jvm.MethodName) prog_11_method_7_code (2 : Nat) (Option.some Jvm.ClassFile.FieldType.int)) ∈ lw_all := lw_g (lw_at lw_m4 129 rfl) rfl
theorem q903 : (Jvm.Cond.methodLink "BattleBenchModel" (82 : Nat) ({ cls := "BattleBenchModel", name := "fails", desc := "(I)I" } : Jvm.MethodName)) ∈ lw_all := lw_g (lw_at lw_m4 130 rfl) rfl
theorem q904 : (Jvm.Cond.privateMethod ({ cls := "BattleBenchModel", name := "fails", desc := "(I)I" } : Jvm.MethodName)) ∈ lw_tbl := lw_at lw_m4 131 rfl
theorem q905 : (Jvm.Cond.instanceMethod ({ cls := "BattleBenchModel", name := "fails", desc := "(I)I" } : Jvm.MethodName)) ∈ lw_all := lw_g (lw_at lw_m4 132 rfl) rfl
theorem q906 : (Jvm.Cond.code ({ cls := "BattleBenchModel", name := "fails", desc := "(I)I" } : Jvm.MethodName) prog_11_method_16_code (4 : Nat) (Option.some Jvm.ClassFile.FieldType.int)) ∈ lw_all := lw_g (lw_at lw_m4 133 rfl) rfl
theorem q907 : (Jvm.Cond.methodLink "BattleBenchModel" (72 : Nat) ({ cls := "BattleBenchModel", name := "ones", desc := "(I)I" } : Jvm.MethodName)) ∈ lw_all := lw_g (lw_at lw_m4 134 rfl) rfl
theorem q908 : (Jvm.Cond.static ({ cls := "BattleBenchModel", name := "ones", desc := "(I)I" } : Jvm.MethodName)) ∈ lw_all := lw_g (lw_at lw_m4 135 rfl) rfl
theorem q909 : (Jvm.Cond.code ({ cls := "BattleBenchModel", name := "ones", desc := "(I)I" } : Jvm.MethodName) prog_11_method_15_code (3 : Nat) (Option.some Jvm.ClassFile.FieldType.int)) ∈ lw_all := lw_g (lw_at lw_m4 136 rfl) rfl
theorem q911 : (Jvm.Cond.instanceMethod ({ cls := "BattleBenchModel", name := "seat", desc := "(I)I" } : Jvm.MethodName)) ∈ lw_all := lw_g (lw_at lw_m4 138 rfl) rfl
theorem q912 : (Jvm.Cond.selects "BattleBenchModel" ({ cls := "BattleBenchModel", name := "seat", desc := "(I)I" } : Jvm.MethodName) ({ cls := "BattleBenchModel", name := "seat", desc := "(I)I" } : Jvm.MethodName)) ∈ lw_all := lw_g (lw_at lw_m4 139 rfl) rfl
theorem q913 : (Jvm.Cond.code ({ cls := "BattleBenchModel", name := "seat", desc := "(I)I" } : Jvm.MethodName) prog_11_method_19_code (2 : Nat) (Option.some Jvm.ClassFile.FieldType.int)) ∈ lw_all := lw_g (lw_at lw_m4 140 rfl) rfl
theorem q915 : (Jvm.Cond.instanceMethod ({ cls := "BattleBenchModel", name := "type", desc := "(I)I" } : Jvm.MethodName)) ∈ lw_all := lw_g (lw_at lw_m4 142 rfl) rfl
theorem q916 : (Jvm.Cond.selects "BattleBenchModel" ({ cls := "BattleBenchModel", name := "type", desc := "(I)I" } : Jvm.MethodName) ({ cls := "BattleBenchModel", name := "type", desc := "(I)I" } : Jvm.MethodName)) ∈ lw_all := lw_g (lw_at lw_m4 143 rfl) rfl
theorem q917 : (Jvm.Cond.code ({ cls := "BattleBenchModel", name := "type", desc := "(I)I" } : Jvm.MethodName) prog_11_method_20_code (2 : Nat) (Option.some Jvm.ClassFile.FieldType.int)) ∈ lw_all := lw_g (lw_at lw_m4 144 rfl) rfl
theorem q919 : (Jvm.Cond.instanceMethod ({ cls := "BattleBenchModel", name := "read", desc := "()I" } : Jvm.MethodName)) ∈ lw_all := lw_g (lw_at lw_m4 146 rfl) rfl
theorem q920 : (Jvm.Cond.selects "BattleBenchModel" ({ cls := "BattleBenchModel", name := "read", desc := "()I" } : Jvm.MethodName) ({ cls := "BattleBenchModel", name := "read", desc := "()I" } : Jvm.MethodName)) ∈ lw_all := lw_g (lw_at lw_m4 147 rfl) rfl
theorem q921 : (Jvm.Cond.code ({ cls := "BattleBenchModel", name := "read", desc := "()I" } : Jvm.MethodName) prog_11_method_28_code (4 : Nat) (Option.some Jvm.ClassFile.FieldType.int)) ∈ lw_all := lw_g (lw_at lw_m4 148 rfl) rfl
theorem q922 : (Jvm.Cond.methodLink "BattleBenchModel" (110 : Nat) ({ cls := "BattleBenchModel", name := "readsAll", desc := "()I" } : Jvm.MethodName)) ∈ lw_all := lw_g (lw_at lw_m4 149 rfl) rfl
theorem q923 : (Jvm.Cond.privateMethod ({ cls := "BattleBenchModel", name := "readsAll", desc := "()I" } : Jvm.MethodName)) ∈ lw_tbl := lw_at lw_m4 150 rfl
theorem q924 : (Jvm.Cond.instanceMethod ({ cls := "BattleBenchModel", name := "readsAll", desc := "()I" } : Jvm.MethodName)) ∈ lw_all := lw_g (lw_at lw_m4 151 rfl) rfl
theorem q925 : (Jvm.Cond.code ({ cls := "BattleBenchModel", name := "readsAll", desc := "()I" } : Jvm.MethodName) prog_11_method_27_code (3 : Nat) (Option.some Jvm.ClassFile.FieldType.int)) ∈ lw_all := lw_g (lw_at lw_m4 152 rfl) rfl
theorem q926 : (Jvm.Cond.methodLink "BattleBenchModel" (107 : Nat) ({ cls := "BattleBenchModel", name := "readsMan", desc := "(I)Z" } : Jvm.MethodName)) ∈ lw_all := lw_g (lw_at lw_m4 153 rfl) rfl
theorem q927 : (Jvm.Cond.privateMethod ({ cls := "BattleBenchModel", name := "readsMan", desc := "(I)Z" } : Jvm.MethodName)) ∈ lw_tbl := lw_at lw_m4 154 rfl
theorem q928 : (Jvm.Cond.instanceMethod ({ cls := "BattleBenchModel", name := "readsMan", desc := "(I)Z" } : Jvm.MethodName)) ∈ lw_all := lw_g (lw_at lw_m4 155 rfl) rfl
theorem q929 : (Jvm.Cond.code ({ cls := "BattleBenchModel", name := "readsMan", desc := "(I)Z" } : Jvm.MethodName) prog_11_method_26_code (8 : Nat) (Option.some Jvm.ClassFile.FieldType.boolean)) ∈ lw_all := lw_g (lw_at lw_m4 156 rfl) rfl
theorem q930 : (Jvm.Cond.methodLink "BattleBenchModel" (95 : Nat) ({ cls := "BattleBenchModel", name := "skips", desc := "()I" } : Jvm.MethodName)) ∈ lw_all := lw_g (lw_at lw_m4 157 rfl) rfl
theorem q931 : (Jvm.Cond.privateMethod ({ cls := "BattleBenchModel", name := "skips", desc := "()I" } : Jvm.MethodName)) ∈ lw_tbl := lw_at lw_m4 158 rfl
theorem q932 : (Jvm.Cond.instanceMethod ({ cls := "BattleBenchModel", name := "skips", desc := "()I" } : Jvm.MethodName)) ∈ lw_all := lw_g (lw_at lw_m4 159 rfl) rfl
theorem q933 : (Jvm.Cond.code ({ cls := "BattleBenchModel", name := "skips", desc := "()I" } : Jvm.MethodName) prog_11_method_23_code (1 : Nat) (Option.some Jvm.ClassFile.FieldType.int)) ∈ lw_all := lw_g (lw_at lw_m4 160 rfl) rfl
theorem q934 : (Jvm.Cond.methodLink "BattleBenchModel" (92 : Nat) ({ cls := "BattleBenchModel", name := "letterAt", desc := "(I)I" } : Jvm.MethodName)) ∈ lw_all := lw_g (lw_at lw_m4 161 rfl) rfl
theorem q935 : (Jvm.Cond.privateMethod ({ cls := "BattleBenchModel", name := "letterAt", desc := "(I)I" } : Jvm.MethodName)) ∈ lw_tbl := lw_at lw_m4 162 rfl
theorem q936 : (Jvm.Cond.instanceMethod ({ cls := "BattleBenchModel", name := "letterAt", desc := "(I)I" } : Jvm.MethodName)) ∈ lw_all := lw_g (lw_at lw_m4 163 rfl) rfl
theorem q937 : (Jvm.Cond.code ({ cls := "BattleBenchModel", name := "letterAt", desc := "(I)I" } : Jvm.MethodName) prog_11_method_21_code (2 : Nat) (Option.some Jvm.ClassFile.FieldType.int)) ∈ lw_all := lw_g (lw_at lw_m4 164 rfl) rfl
theorem q938 : (Jvm.Cond.methodLink "BattleBenchModel" (98 : Nat) ({ cls := "BattleBenchModel", name := "kindBy", desc := "(I)I" } : Jvm.MethodName)) ∈ lw_all := lw_g (lw_at lw_m4 165 rfl) rfl
theorem q939 : (Jvm.Cond.static ({ cls := "BattleBenchModel", name := "kindBy", desc := "(I)I" } : Jvm.MethodName)) ∈ lw_all := lw_g (lw_at lw_m4 166 rfl) rfl
theorem q940 : (Jvm.Cond.code ({ cls := "BattleBenchModel", name := "kindBy", desc := "(I)I" } : Jvm.MethodName) prog_11_method_24_code (1 : Nat) (Option.some Jvm.ClassFile.FieldType.int)) ∈ lw_all := lw_g (lw_at lw_m4 167 rfl) rfl
theorem q941 : (Jvm.Cond.methodLink "BattleBenchModel" (101 : Nat) ({ cls := "BattleBenchModel", name := "isDigit", desc := "(I)Z" } : Jvm.MethodName)) ∈ lw_all := lw_g (lw_at lw_m4 168 rfl) rfl
theorem q942 : (Jvm.Cond.static ({ cls := "BattleBenchModel", name := "isDigit", desc := "(I)Z" } : Jvm.MethodName)) ∈ lw_all := lw_g (lw_at lw_m4 169 rfl) rfl
theorem q943 : (Jvm.Cond.code ({ cls := "BattleBenchModel", name := "isDigit", desc := "(I)Z" } : Jvm.MethodName) prog_11_method_22_code (1 : Nat) (Option.some Jvm.ClassFile.FieldType.boolean)) ∈ lw_all := lw_g (lw_at lw_m4 170 rfl) rfl
theorem q944 : (Jvm.Cond.methodLink "BattleBenchModel" (104 : Nat) ({ cls := "BattleBenchModel", name := "isTold", desc := "(III)Z" } : Jvm.MethodName)) ∈ lw_all := lw_g (lw_at lw_m4 171 rfl) rfl
theorem q945 : (Jvm.Cond.privateMethod ({ cls := "BattleBenchModel", name := "isTold", desc := "(III)Z" } : Jvm.MethodName)) ∈ lw_tbl := lw_at lw_m4 172 rfl
theorem q946 : (Jvm.Cond.instanceMethod ({ cls := "BattleBenchModel", name := "isTold", desc := "(III)Z" } : Jvm.MethodName)) ∈ lw_all := lw_g (lw_at lw_m4 173 rfl) rfl
theorem q947 : (Jvm.Cond.code ({ cls := "BattleBenchModel", name := "isTold", desc := "(III)Z" } : Jvm.MethodName) prog_11_method_25_code (6 : Nat) (Option.some Jvm.ClassFile.FieldType.boolean)) ∈ lw_all := lw_g (lw_at lw_m4 174 rfl) rfl
theorem q949 : (Jvm.Cond.instanceMethod ({ cls := "BattleBenchModel", name := "count", desc := "(I)I" } : Jvm.MethodName)) ∈ lw_all := lw_g (lw_at lw_m4 176 rfl) rfl
theorem q950 : (Jvm.Cond.selects "BattleBenchModel" ({ cls := "BattleBenchModel", name := "count", desc := "(I)I" } : Jvm.MethodName) ({ cls := "BattleBenchModel", name := "count", desc := "(I)I" } : Jvm.MethodName)) ∈ lw_all := lw_g (lw_at lw_m4 177 rfl) rfl
theorem q951 : (Jvm.Cond.code ({ cls := "BattleBenchModel", name := "count", desc := "(I)I" } : Jvm.MethodName) prog_11_method_31_code (2 : Nat) (Option.some Jvm.ClassFile.FieldType.int)) ∈ lw_all := lw_g (lw_at lw_m4 178 rfl) rfl
theorem q952 : (Jvm.Cond.methodLink "BattleBenchModel" (75 : Nat) ({ cls := "BattleBenchModel", name := "bench", desc := "()I" } : Jvm.MethodName)) ∈ lw_all := lw_g (lw_at lw_m4 179 rfl) rfl
theorem q953 : (Jvm.Cond.privateMethod ({ cls := "BattleBenchModel", name := "bench", desc := "()I" } : Jvm.MethodName)) ∈ lw_tbl := lw_at lw_m4 180 rfl
theorem q954 : (Jvm.Cond.instanceMethod ({ cls := "BattleBenchModel", name := "bench", desc := "()I" } : Jvm.MethodName)) ∈ lw_all := lw_g (lw_at lw_m4 181 rfl) rfl
theorem q955 : (Jvm.Cond.code ({ cls := "BattleBenchModel", name := "bench", desc := "()I" } : Jvm.MethodName) prog_11_method_8_code (3 : Nat) (Option.some Jvm.ClassFile.FieldType.int)) ∈ lw_all := lw_g (lw_at lw_m4 182 rfl) rfl
theorem q956 : (Jvm.Cond.methodLink "BattleBenchModel" (113 : Nat) ({ cls := "BattleBenchModel", name := "lives", desc := "()I" } : Jvm.MethodName)) ∈ lw_all := lw_g (lw_at lw_m4 183 rfl) rfl
theorem q957 : (Jvm.Cond.privateMethod ({ cls := "BattleBenchModel", name := "lives", desc := "()I" } : Jvm.MethodName)) ∈ lw_tbl := lw_at lw_m4 184 rfl
theorem q958 : (Jvm.Cond.instanceMethod ({ cls := "BattleBenchModel", name := "lives", desc := "()I" } : Jvm.MethodName)) ∈ lw_all := lw_g (lw_at lw_m4 185 rfl) rfl
theorem q959 : (Jvm.Cond.code ({ cls := "BattleBenchModel", name := "lives", desc := "()I" } : Jvm.MethodName) prog_11_method_29_code (3 : Nat) (Option.some Jvm.ClassFile.FieldType.int)) ∈ lw_all := lw_g (lw_at lw_m4 186 rfl) rfl
theorem q960 : (Jvm.Cond.methodLink "BattleBenchModel" (116 : Nat) ({ cls := "BattleBenchModel", name := "wrong", desc := "()I" } : Jvm.MethodName)) ∈ lw_all := lw_g (lw_at lw_m4 187 rfl) rfl
theorem q961 : (Jvm.Cond.privateMethod ({ cls := "BattleBenchModel", name := "wrong", desc := "()I" } : Jvm.MethodName)) ∈ lw_tbl := lw_at lw_m4 188 rfl
theorem q962 : (Jvm.Cond.instanceMethod ({ cls := "BattleBenchModel", name := "wrong", desc := "()I" } : Jvm.MethodName)) ∈ lw_all := lw_g (lw_at lw_m4 189 rfl) rfl
theorem q963 : (Jvm.Cond.code ({ cls := "BattleBenchModel", name := "wrong", desc := "()I" } : Jvm.MethodName) prog_11_method_30_code (3 : Nat) (Option.some Jvm.ClassFile.FieldType.int)) ∈ lw_all := lw_g (lw_at lw_m4 190 rfl) rfl
theorem q965 : (Jvm.Cond.instanceMethod ({ cls := "BattleBenchModel", name := "years", desc := "(I)I" } : Jvm.MethodName)) ∈ lw_all := lw_g (lw_at lw_m4 192 rfl) rfl
theorem q966 : (Jvm.Cond.selects "BattleBenchModel" ({ cls := "BattleBenchModel", name := "years", desc := "(I)I" } : Jvm.MethodName) ({ cls := "BattleBenchModel", name := "years", desc := "(I)I" } : Jvm.MethodName)) ∈ lw_all := lw_g (lw_at lw_m4 193 rfl) rfl
theorem q967 : (Jvm.Cond.code ({ cls := "BattleBenchModel", name := "years", desc := "(I)I" } : Jvm.MethodName) prog_11_method_33_code (3 : Nat) (Option.some Jvm.ClassFile.FieldType.int)) ∈ lw_all := lw_g (lw_at lw_m4 194 rfl) rfl
theorem q968 : (Jvm.Cond.methodLink "BattleBenchModel" (119 : Nat) ({ cls := "BattleBenchModel", name := "keeps", desc := "()V" } : Jvm.MethodName)) ∈ lw_all := lw_g (lw_at lw_m4 195 rfl) rfl
theorem q969 : (Jvm.Cond.privateMethod ({ cls := "BattleBenchModel", name := "keeps", desc := "()V" } : Jvm.MethodName)) ∈ lw_tbl := lw_at lw_m4 196 rfl
theorem q970 : (Jvm.Cond.instanceMethod ({ cls := "BattleBenchModel", name := "keeps", desc := "()V" } : Jvm.MethodName)) ∈ lw_all := lw_g (lw_at lw_m4 197 rfl) rfl
theorem q971 : (Jvm.Cond.code ({ cls := "BattleBenchModel", name := "keeps", desc := "()V" } : Jvm.MethodName) prog_11_method_32_code (2 : Nat) (Option.none : Option Jvm.ClassFile.FieldType)) ∈ lw_all := lw_g (lw_at lw_m4 198 rfl) rfl
theorem q972 : (Jvm.Cond.methodLink "BattleBenchModel" (122 : Nat) ({ cls := "BattleBenchModel", name := "passes", desc := "()V" } : Jvm.MethodName)) ∈ lw_all := lw_g (lw_at lw_m4 199 rfl) rfl
theorem q973 : (Jvm.Cond.privateMethod ({ cls := "BattleBenchModel", name := "passes", desc := "()V" } : Jvm.MethodName)) ∈ lw_tbl := lw_at lw_m4 200 rfl
theorem q974 : (Jvm.Cond.instanceMethod ({ cls := "BattleBenchModel", name := "passes", desc := "()V" } : Jvm.MethodName)) ∈ lw_all := lw_g (lw_at lw_m4 201 rfl) rfl
theorem q975 : (Jvm.Cond.code ({ cls := "BattleBenchModel", name := "passes", desc := "()V" } : Jvm.MethodName) prog_11_method_17_code (4 : Nat) (Option.none : Option Jvm.ClassFile.FieldType)) ∈ lw_all := lw_g (lw_at lw_m4 202 rfl) rfl
theorem q976 : (Jvm.Cond.methodLink "BattleBenchModel" (79 : Nat) ({ cls := "BattleBenchModel", name := "has", desc := "(II)Z" } : Jvm.MethodName)) ∈ lw_all := lw_g (lw_at lw_m4 203 rfl) rfl
theorem q977 : (Jvm.Cond.static ({ cls := "BattleBenchModel", name := "has", desc := "(II)Z" } : Jvm.MethodName)) ∈ lw_all := lw_g (lw_at lw_m4 204 rfl) rfl
theorem q978 : (Jvm.Cond.code ({ cls := "BattleBenchModel", name := "has", desc := "(II)Z" } : Jvm.MethodName) prog_11_method_4_code (2 : Nat) (Option.some Jvm.ClassFile.FieldType.boolean)) ∈ lw_all := lw_g (lw_at lw_m4 205 rfl) rfl
theorem q980 : (Jvm.Cond.instanceMethod ({ cls := "BattleBenchModel", name := "move", desc := "(I)I" } : Jvm.MethodName)) ∈ lw_all := lw_g (lw_at lw_m4 207 rfl) rfl
theorem q981 : (Jvm.Cond.selects "BattleBenchModel" ({ cls := "BattleBenchModel", name := "move", desc := "(I)I" } : Jvm.MethodName) ({ cls := "BattleBenchModel", name := "move", desc := "(I)I" } : Jvm.MethodName)) ∈ lw_all := lw_g (lw_at lw_m4 208 rfl) rfl
theorem q982 : (Jvm.Cond.code ({ cls := "BattleBenchModel", name := "move", desc := "(I)I" } : Jvm.MethodName) prog_11_method_35_code (2 : Nat) (Option.some Jvm.ClassFile.FieldType.int)) ∈ lw_all := lw_g (lw_at lw_m4 209 rfl) rfl
theorem q983 : (Jvm.Cond.methodLink "BattleBenchModel" (125 : Nat) ({ cls := "BattleBenchModel", name := "changes", desc := "(I)V" } : Jvm.MethodName)) ∈ lw_all := lw_g (lw_at lw_m4 210 rfl) rfl
theorem q984 : (Jvm.Cond.privateMethod ({ cls := "BattleBenchModel", name := "changes", desc := "(I)V" } : Jvm.MethodName)) ∈ lw_tbl := lw_at lw_m4 211 rfl
theorem q985 : (Jvm.Cond.instanceMethod ({ cls := "BattleBenchModel", name := "changes", desc := "(I)V" } : Jvm.MethodName)) ∈ lw_all := lw_g (lw_at lw_m4 212 rfl) rfl
theorem q986 : (Jvm.Cond.code ({ cls := "BattleBenchModel", name := "changes", desc := "(I)V" } : Jvm.MethodName) prog_11_method_34_code (3 : Nat) (Option.none : Option Jvm.ClassFile.FieldType)) ∈ lw_all := lw_g (lw_at lw_m4 213 rfl) rfl
theorem q988 : (Jvm.Cond.instanceMethod ({ cls := "BattleBenchModel", name := "nurse", desc := "(II)I" } : Jvm.MethodName)) ∈ lw_all := lw_g (lw_at lw_m4 215 rfl) rfl
theorem q989 : (Jvm.Cond.selects "BattleBenchModel" ({ cls := "BattleBenchModel", name := "nurse", desc := "(II)I" } : Jvm.MethodName) ({ cls := "BattleBenchModel", name := "nurse", desc := "(II)I" } : Jvm.MethodName)) ∈ lw_all := lw_g (lw_at lw_m4 216 rfl) rfl
theorem q990 : (Jvm.Cond.code ({ cls := "BattleBenchModel", name := "nurse", desc := "(II)I" } : Jvm.MethodName) prog_11_method_36_code (4 : Nat) (Option.some Jvm.ClassFile.FieldType.int)) ∈ lw_all := lw_g (lw_at lw_m4 217 rfl) rfl
theorem q992 : (Jvm.Cond.instanceMethod ({ cls := "BattleBenchModel", name := "drift", desc := "(I)I" } : Jvm.MethodName)) ∈ lw_all := lw_g (lw_at lw_m4 219 rfl) rfl
theorem q993 : (Jvm.Cond.selects "BattleBenchModel" ({ cls := "BattleBenchModel", name := "drift", desc := "(I)I" } : Jvm.MethodName) ({ cls := "BattleBenchModel", name := "drift", desc := "(I)I" } : Jvm.MethodName)) ∈ lw_all := lw_g (lw_at lw_m4 220 rfl) rfl
theorem q994 : (Jvm.Cond.code ({ cls := "BattleBenchModel", name := "drift", desc := "(I)I" } : Jvm.MethodName) prog_11_method_37_code (3 : Nat) (Option.some Jvm.ClassFile.FieldType.int)) ∈ lw_all := lw_g (lw_at lw_m4 221 rfl) rfl
theorem q995 : (Jvm.Cond.constant "BattleBenchModel" (129 : Nat) (1103515245 : Int32)) ∈ lw_all := lw_g (lw_at lw_m4 222 rfl) rfl
theorem q996 : (Jvm.Cond.constant "BattleBenchModel" (130 : Nat) (2147483647 : Int32)) ∈ lw_all := lw_g (lw_at lw_m4 223 rfl) rfl
theorem q997 : (Jvm.Cond.constant "BattleBenchModel" (131 : Nat) (65536 : Int32)) ∈ lw_all := lw_g (lw_at lw_m4 224 rfl) rfl
theorem q999 : (Jvm.Cond.instanceMethod ({ cls := "BattleBenchModel", name := "undo", desc := "()I" } : Jvm.MethodName)) ∈ lw_all := lw_g (lw_at lw_m4 226 rfl) rfl
theorem q1000 : (Jvm.Cond.selects "BattleBenchModel" ({ cls := "BattleBenchModel", name := "undo", desc := "()I" } : Jvm.MethodName) ({ cls := "BattleBenchModel", name := "undo", desc := "()I" } : Jvm.MethodName)) ∈ lw_all := lw_g (lw_at lw_m4 227 rfl) rfl
theorem q1001 : (Jvm.Cond.code ({ cls := "BattleBenchModel", name := "undo", desc := "()I" } : Jvm.MethodName) prog_11_method_38_code (2 : Nat) (Option.some Jvm.ClassFile.FieldType.int)) ∈ lw_all := lw_g (lw_at lw_m4 228 rfl) rfl
theorem q1003 : (Jvm.Cond.instanceMethod ({ cls := "BattleBenchModel", name := "seed", desc := "(I)I" } : Jvm.MethodName)) ∈ lw_all := lw_g (lw_at lw_m4 230 rfl) rfl
theorem q1004 : (Jvm.Cond.selects "BattleBenchModel" ({ cls := "BattleBenchModel", name := "seed", desc := "(I)I" } : Jvm.MethodName) ({ cls := "BattleBenchModel", name := "seed", desc := "(I)I" } : Jvm.MethodName)) ∈ lw_all := lw_g (lw_at lw_m4 231 rfl) rfl
theorem q1005 : (Jvm.Cond.code ({ cls := "BattleBenchModel", name := "seed", desc := "(I)I" } : Jvm.MethodName) prog_11_method_39_code (3 : Nat) (Option.some Jvm.ClassFile.FieldType.int)) ∈ lw_all := lw_g (lw_at lw_m4 232 rfl) rfl
theorem q1007 : (Jvm.Cond.instanceMethod ({ cls := "BattleBenchModel", name := "ahead", desc := "(II)I" } : Jvm.MethodName)) ∈ lw_all := lw_g (lw_at lw_m4 234 rfl) rfl
theorem q1008 : (Jvm.Cond.selects "BattleBenchModel" ({ cls := "BattleBenchModel", name := "ahead", desc := "(II)I" } : Jvm.MethodName) ({ cls := "BattleBenchModel", name := "ahead", desc := "(II)I" } : Jvm.MethodName)) ∈ lw_all := lw_g (lw_at lw_m4 235 rfl) rfl
theorem q1009 : (Jvm.Cond.code ({ cls := "BattleBenchModel", name := "ahead", desc := "(II)I" } : Jvm.MethodName) prog_11_method_42_code (4 : Nat) (Option.some Jvm.ClassFile.FieldType.int)) ∈ lw_all := lw_g (lw_at lw_m4 236 rfl) rfl
theorem q1010 : (Jvm.Cond.methodLink "BattleBenchModel" (132 : Nat) ({ cls := "BattleBenchModel", name := "holds", desc := "()V" } : Jvm.MethodName)) ∈ lw_all := lw_g (lw_at lw_m4 237 rfl) rfl
theorem q1011 : (Jvm.Cond.privateMethod ({ cls := "BattleBenchModel", name := "holds", desc := "()V" } : Jvm.MethodName)) ∈ lw_tbl := lw_at lw_m4 238 rfl
theorem q1012 : (Jvm.Cond.instanceMethod ({ cls := "BattleBenchModel", name := "holds", desc := "()V" } : Jvm.MethodName)) ∈ lw_all := lw_g (lw_at lw_m4 239 rfl) rfl
theorem q1013 : (Jvm.Cond.code ({ cls := "BattleBenchModel", name := "holds", desc := "()V" } : Jvm.MethodName) prog_11_method_40_code (2 : Nat) (Option.none : Option Jvm.ClassFile.FieldType)) ∈ lw_all := lw_g (lw_at lw_m5 0 rfl) rfl
theorem q1014 : (Jvm.Cond.methodLink "BattleBenchModel" (135 : Nat) ({ cls := "BattleBenchModel", name := "lets", desc := "()V" } : Jvm.MethodName)) ∈ lw_all := lw_g (lw_at lw_m5 1 rfl) rfl
theorem q1015 : (Jvm.Cond.privateMethod ({ cls := "BattleBenchModel", name := "lets", desc := "()V" } : Jvm.MethodName)) ∈ lw_tbl := lw_at lw_m5 2 rfl
theorem q1016 : (Jvm.Cond.instanceMethod ({ cls := "BattleBenchModel", name := "lets", desc := "()V" } : Jvm.MethodName)) ∈ lw_all := lw_g (lw_at lw_m5 3 rfl) rfl
theorem q1017 : (Jvm.Cond.code ({ cls := "BattleBenchModel", name := "lets", desc := "()V" } : Jvm.MethodName) prog_11_method_41_code (2 : Nat) (Option.none : Option Jvm.ClassFile.FieldType)) ∈ lw_all := lw_g (lw_at lw_m5 4 rfl) rfl
theorem q1019 : (Jvm.Cond.instanceMethod ({ cls := "BattleBenchModel", name := "then", desc := "(I)I" } : Jvm.MethodName)) ∈ lw_all := lw_g (lw_at lw_m5 6 rfl) rfl
theorem q1020 : (Jvm.Cond.selects "BattleBenchModel" ({ cls := "BattleBenchModel", name := "then", desc := "(I)I" } : Jvm.MethodName) ({ cls := "BattleBenchModel", name := "then", desc := "(I)I" } : Jvm.MethodName)) ∈ lw_all := lw_g (lw_at lw_m5 7 rfl) rfl
theorem q1021 : (Jvm.Cond.code ({ cls := "BattleBenchModel", name := "then", desc := "(I)I" } : Jvm.MethodName) prog_11_method_43_code (3 : Nat) (Option.some Jvm.ClassFile.FieldType.int)) ∈ lw_all := lw_g (lw_at lw_m5 8 rfl) rfl
theorem q1023 : (Jvm.Cond.instanceMethod ({ cls := "BattleBenchModel", name := "ends", desc := "(I)I" } : Jvm.MethodName)) ∈ lw_all := lw_g (lw_at lw_m5 10 rfl) rfl
theorem q1024 : (Jvm.Cond.selects "BattleBenchModel" ({ cls := "BattleBenchModel", name := "ends", desc := "(I)I" } : Jvm.MethodName) ({ cls := "BattleBenchModel", name := "ends", desc := "(I)I" } : Jvm.MethodName)) ∈ lw_all := lw_g (lw_at lw_m5 11 rfl) rfl
theorem q1025 : (Jvm.Cond.code ({ cls := "BattleBenchModel", name := "ends", desc := "(I)I" } : Jvm.MethodName) prog_11_method_44_code (3 : Nat) (Option.some Jvm.ClassFile.FieldType.int)) ∈ lw_all := lw_g (lw_at lw_m5 12 rfl) rfl
theorem q1027 : (Jvm.Cond.instanceMethod ({ cls := "BattleBenchModel", name := "lonely", desc := "()I" } : Jvm.MethodName)) ∈ lw_all := lw_g (lw_at lw_m5 14 rfl) rfl
theorem q1028 : (Jvm.Cond.selects "BattleBenchModel" ({ cls := "BattleBenchModel", name := "lonely", desc := "()I" } : Jvm.MethodName) ({ cls := "BattleBenchModel", name := "lonely", desc := "()I" } : Jvm.MethodName)) ∈ lw_all := lw_g (lw_at lw_m5 15 rfl) rfl
theorem q1029 : (Jvm.Cond.code ({ cls := "BattleBenchModel", name := "lonely", desc := "()I" } : Jvm.MethodName) prog_11_method_45_code (2 : Nat) (Option.some Jvm.ClassFile.FieldType.int)) ∈ lw_all := lw_g (lw_at lw_m5 16 rfl) rfl
theorem q1031 : (Jvm.Cond.instanceMethod ({ cls := "BattleBenchModel", name := "close", desc := "(II)I" } : Jvm.MethodName)) ∈ lw_all := lw_g (lw_at lw_m5 18 rfl) rfl
theorem q1032 : (Jvm.Cond.selects "BattleBenchModel" ({ cls := "BattleBenchModel", name := "close", desc := "(II)I" } : Jvm.MethodName) ({ cls := "BattleBenchModel", name := "close", desc := "(II)I" } : Jvm.MethodName)) ∈ lw_all := lw_g (lw_at lw_m5 19 rfl) rfl
theorem q1033 : (Jvm.Cond.code ({ cls := "BattleBenchModel", name := "close", desc := "(II)I" } : Jvm.MethodName) prog_11_method_46_code (4 : Nat) (Option.some Jvm.ClassFile.FieldType.int)) ∈ lw_all := lw_g (lw_at lw_m5 20 rfl) rfl
theorem q1035 : (Jvm.Cond.instanceMethod ({ cls := "BattleBenchModel", name := "swaps", desc := "(I)I" } : Jvm.MethodName)) ∈ lw_all := lw_g (lw_at lw_m5 22 rfl) rfl
theorem q1036 : (Jvm.Cond.selects "BattleBenchModel" ({ cls := "BattleBenchModel", name := "swaps", desc := "(I)I" } : Jvm.MethodName) ({ cls := "BattleBenchModel", name := "swaps", desc := "(I)I" } : Jvm.MethodName)) ∈ lw_all := lw_g (lw_at lw_m5 23 rfl) rfl
theorem q1037 : (Jvm.Cond.code ({ cls := "BattleBenchModel", name := "swaps", desc := "(I)I" } : Jvm.MethodName) prog_11_method_48_code (5 : Nat) (Option.some Jvm.ClassFile.FieldType.int)) ∈ lw_all := lw_g (lw_at lw_m5 24 rfl) rfl
theorem q1038 : (Jvm.Cond.methodLink "BattleBenchModel" (138 : Nat) ({ cls := "BattleBenchModel", name := "placeOn", desc := "(II)I" } : Jvm.MethodName)) ∈ lw_all := lw_g (lw_at lw_m5 25 rfl) rfl
theorem q1039 : (Jvm.Cond.privateMethod ({ cls := "BattleBenchModel", name := "placeOn", desc := "(II)I" } : Jvm.MethodName)) ∈ lw_tbl := lw_at lw_m5 26 rfl
theorem q1040 : (Jvm.Cond.instanceMethod ({ cls := "BattleBenchModel", name := "placeOn", desc := "(II)I" } : Jvm.MethodName)) ∈ lw_all := lw_g (lw_at lw_m5 27 rfl) rfl
theorem q1041 : (Jvm.Cond.code ({ cls := "BattleBenchModel", name := "placeOn", desc := "(II)I" } : Jvm.MethodName) prog_11_method_47_code (3 : Nat) (Option.some Jvm.ClassFile.FieldType.int)) ∈ lw_all := lw_g (lw_at lw_m5 28 rfl) rfl
theorem q1043 : (Jvm.Cond.instanceMethod ({ cls := "BattleBenchModel", name := "stay", desc := "(II)I" } : Jvm.MethodName)) ∈ lw_all := lw_g (lw_at lw_m5 30 rfl) rfl
theorem q1044 : (Jvm.Cond.selects "BattleBenchModel" ({ cls := "BattleBenchModel", name := "stay", desc := "(II)I" } : Jvm.MethodName) ({ cls := "BattleBenchModel", name := "stay", desc := "(II)I" } : Jvm.MethodName)) ∈ lw_all := lw_g (lw_at lw_m5 31 rfl) rfl
theorem q1045 : (Jvm.Cond.code ({ cls := "BattleBenchModel", name := "stay", desc := "(II)I" } : Jvm.MethodName) prog_11_method_51_code (6 : Nat) (Option.some Jvm.ClassFile.FieldType.int)) ∈ lw_all := lw_g (lw_at lw_m5 32 rfl) rfl
theorem q1046 : (Jvm.Cond.methodLink "BattleBenchModel" (142 : Nat) ({ cls := "BattleBenchModel", name := "isAhead", desc := "(II)Z" } : Jvm.MethodName)) ∈ lw_all := lw_g (lw_at lw_m5 33 rfl) rfl
theorem q1047 : (Jvm.Cond.static ({ cls := "BattleBenchModel", name := "isAhead", desc := "(II)Z" } : Jvm.MethodName)) ∈ lw_all := lw_g (lw_at lw_m5 34 rfl) rfl
theorem q1048 : (Jvm.Cond.code ({ cls := "BattleBenchModel", name := "isAhead", desc := "(II)Z" } : Jvm.MethodName) prog_11_method_50_code (3 : Nat) (Option.some Jvm.ClassFile.FieldType.boolean)) ∈ lw_all := lw_g (lw_at lw_m5 35 rfl) rfl
theorem q1049 : (Jvm.Cond.methodLink "BattleBenchModel" (145 : Nat) ({ cls := "BattleBenchModel", name := "isOrder", desc := "(II)Z" } : Jvm.MethodName)) ∈ lw_all := lw_g (lw_at lw_m5 36 rfl) rfl
theorem q1050 : (Jvm.Cond.privateMethod ({ cls := "BattleBenchModel", name := "isOrder", desc := "(II)Z" } : Jvm.MethodName)) ∈ lw_tbl := lw_at lw_m5 37 rfl
theorem q1051 : (Jvm.Cond.instanceMethod ({ cls := "BattleBenchModel", name := "isOrder", desc := "(II)Z" } : Jvm.MethodName)) ∈ lw_all := lw_g (lw_at lw_m5 38 rfl) rfl
theorem q1052 : (Jvm.Cond.code ({ cls := "BattleBenchModel", name := "isOrder", desc := "(II)Z" } : Jvm.MethodName) prog_11_method_49_code (6 : Nat) (Option.some Jvm.ClassFile.FieldType.boolean)) ∈ lw_all := lw_g (lw_at lw_m5 39 rfl) rfl
theorem q1054 : (Jvm.Cond.instanceMethod ({ cls := "BattleBenchModel", name := "ways", desc := "()I" } : Jvm.MethodName)) ∈ lw_all := lw_g (lw_at lw_m5 41 rfl) rfl
theorem q1055 : (Jvm.Cond.selects "BattleBenchModel" ({ cls := "BattleBenchModel", name := "ways", desc := "()I" } : Jvm.MethodName) ({ cls := "BattleBenchModel", name := "ways", desc := "()I" } : Jvm.MethodName)) ∈ lw_all := lw_g (lw_at lw_m5 42 rfl) rfl
theorem q1056 : (Jvm.Cond.code ({ cls := "BattleBenchModel", name := "ways", desc := "()I" } : Jvm.MethodName) prog_11_method_54_code (3 : Nat) (Option.some Jvm.ClassFile.FieldType.int)) ∈ lw_all := lw_g (lw_at lw_m5 43 rfl) rfl
theorem q1057 : (Jvm.Cond.methodLink "BattleBenchModel" (148 : Nat) ({ cls := "BattleBenchModel", name := "firstOrder", desc := "()V" } : Jvm.MethodName)) ∈ lw_all := lw_g (lw_at lw_m5 44 rfl) rfl
theorem q1058 : (Jvm.Cond.privateMethod ({ cls := "BattleBenchModel", name := "firstOrder", desc := "()V" } : Jvm.MethodName)) ∈ lw_tbl := lw_at lw_m5 45 rfl
theorem q1059 : (Jvm.Cond.instanceMethod ({ cls := "BattleBenchModel", name := "firstOrder", desc := "()V" } : Jvm.MethodName)) ∈ lw_all := lw_g (lw_at lw_m5 46 rfl) rfl
theorem q1060 : (Jvm.Cond.code ({ cls := "BattleBenchModel", name := "firstOrder", desc := "()V" } : Jvm.MethodName) prog_11_method_52_code (4 : Nat) (Option.none : Option Jvm.ClassFile.FieldType)) ∈ lw_all := lw_g (lw_at lw_m5 47 rfl) rfl
theorem q1061 : (Jvm.Cond.methodLink "BattleBenchModel" (151 : Nat) ({ cls := "BattleBenchModel", name := "nextOrder", desc := "()Z" } : Jvm.MethodName)) ∈ lw_all := lw_g (lw_at lw_m5 48 rfl) rfl
theorem q1062 : (Jvm.Cond.privateMethod ({ cls := "BattleBenchModel", name := "nextOrder", desc := "()Z" } : Jvm.MethodName)) ∈ lw_tbl := lw_at lw_m5 49 rfl
theorem q1063 : (Jvm.Cond.instanceMethod ({ cls := "BattleBenchModel", name := "nextOrder", desc := "()Z" } : Jvm.MethodName)) ∈ lw_all := lw_g (lw_at lw_m5 50 rfl) rfl
theorem q1064 : (Jvm.Cond.code ({ cls := "BattleBenchModel", name := "nextOrder", desc := "()Z" } : Jvm.MethodName) prog_11_method_53_code (6 : Nat) (Option.some Jvm.ClassFile.FieldType.boolean)) ∈ lw_all := lw_g (lw_at lw_m5 51 rfl) rfl
theorem q1066 : (Jvm.Cond.instanceMethod ({ cls := "BattleBenchModel", name := "ease", desc := "(I)I" } : Jvm.MethodName)) ∈ lw_all := lw_g (lw_at lw_m5 53 rfl) rfl
theorem q1067 : (Jvm.Cond.selects "BattleBenchModel" ({ cls := "BattleBenchModel", name := "ease", desc := "(I)I" } : Jvm.MethodName) ({ cls := "BattleBenchModel", name := "ease", desc := "(I)I" } : Jvm.MethodName)) ∈ lw_all := lw_g (lw_at lw_m5 54 rfl) rfl
theorem q1068 : (Jvm.Cond.code ({ cls := "BattleBenchModel", name := "ease", desc := "(I)I" } : Jvm.MethodName) prog_11_method_55_code (6 : Nat) (Option.some Jvm.ClassFile.FieldType.int)) ∈ lw_all := lw_g (lw_at lw_m5 55 rfl) rfl
theorem q1070 : (Jvm.Cond.instanceMethod ({ cls := "BattleBenchModel", name := "left", desc := "(II)I" } : Jvm.MethodName)) ∈ lw_all := lw_g (lw_at lw_m5 57 rfl) rfl
theorem q1071 : (Jvm.Cond.selects "BattleBenchModel" ({ cls := "BattleBenchModel", name := "left", desc := "(II)I" } : Jvm.MethodName) ({ cls := "BattleBenchModel", name := "left", desc := "(II)I" } : Jvm.MethodName)) ∈ lw_all := lw_g (lw_at lw_m5 58 rfl) rfl
theorem q1072 : (Jvm.Cond.code ({ cls := "BattleBenchModel", name := "left", desc := "(II)I" } : Jvm.MethodName) prog_11_method_56_code (9 : Nat) (Option.some Jvm.ClassFile.FieldType.int)) ∈ lw_all := lw_g (lw_at lw_m5 59 rfl) rfl
theorem q1074 : (Jvm.Cond.instanceMethod ({ cls := "BattleBenchModel", name := "winter", desc := "(III)I" } : Jvm.MethodName)) ∈ lw_all := lw_g (lw_at lw_m5 61 rfl) rfl
theorem q1075 : (Jvm.Cond.selects "BattleBenchModel" ({ cls := "BattleBenchModel", name := "winter", desc := "(III)I" } : Jvm.MethodName) ({ cls := "BattleBenchModel", name := "winter", desc := "(III)I" } : Jvm.MethodName)) ∈ lw_all := lw_g (lw_at lw_m5 62 rfl) rfl
theorem q1076 : (Jvm.Cond.code ({ cls := "BattleBenchModel", name := "winter", desc := "(III)I" } : Jvm.MethodName) prog_11_method_57_code (11 : Nat) (Option.some Jvm.ClassFile.FieldType.int)) ∈ lw_all := lw_g (lw_at lw_m5 63 rfl) rfl
theorem q1078 : (Jvm.Cond.instanceMethod ({ cls := "BattleBenchModel", name := "image", desc := "()I" } : Jvm.MethodName)) ∈ lw_all := lw_g (lw_at lw_m5 65 rfl) rfl
theorem q1079 : (Jvm.Cond.selects "BattleBenchModel" ({ cls := "BattleBenchModel", name := "image", desc := "()I" } : Jvm.MethodName) ({ cls := "BattleBenchModel", name := "image", desc := "()I" } : Jvm.MethodName)) ∈ lw_all := lw_g (lw_at lw_m5 66 rfl) rfl
theorem q1080 : (Jvm.Cond.code ({ cls := "BattleBenchModel", name := "image", desc := "()I" } : Jvm.MethodName) prog_11_method_58_code (2 : Nat) (Option.some Jvm.ClassFile.FieldType.int)) ∈ lw_all := lw_g (lw_at lw_m5 67 rfl) rfl
theorem q1082 : (Jvm.Cond.instanceMethod ({ cls := "BattleBenchModel", name := "restore", desc := "()I" } : Jvm.MethodName)) ∈ lw_all := lw_g (lw_at lw_m5 69 rfl) rfl
theorem q1083 : (Jvm.Cond.selects "BattleBenchModel" ({ cls := "BattleBenchModel", name := "restore", desc := "()I" } : Jvm.MethodName) ({ cls := "BattleBenchModel", name := "restore", desc := "()I" } : Jvm.MethodName)) ∈ lw_all := lw_g (lw_at lw_m5 70 rfl) rfl
theorem q1084 : (Jvm.Cond.code ({ cls := "BattleBenchModel", name := "restore", desc := "()I" } : Jvm.MethodName) prog_11_method_59_code (2 : Nat) (Option.some Jvm.ClassFile.FieldType.int)) ∈ lw_all := lw_g (lw_at lw_m5 71 rfl) rfl
theorem q1086 : (Jvm.Cond.instanceMethod ({ cls := "BattleBenchModel", name := "failed", desc := "(IIIIII)I" } : Jvm.MethodName)) ∈ lw_all := lw_g (lw_at lw_m5 73 rfl) rfl
theorem q1087 : (Jvm.Cond.selects "BattleBenchModel" ({ cls := "BattleBenchModel", name := "failed", desc := "(IIIIII)I" } : Jvm.MethodName) ({ cls := "BattleBenchModel", name := "failed", desc := "(IIIIII)I" } : Jvm.MethodName)) ∈ lw_all := lw_g (lw_at lw_m5 74 rfl) rfl
theorem q1088 : (Jvm.Cond.code ({ cls := "BattleBenchModel", name := "failed", desc := "(IIIIII)I" } : Jvm.MethodName) prog_11_method_64_code (14 : Nat) (Option.some Jvm.ClassFile.FieldType.int)) ∈ lw_all := lw_g (lw_at lw_m5 75 rfl) rfl
theorem q1089 : (Jvm.Cond.methodLink "BattleBenchModel" (159 : Nat) ({ cls := "BattleBenchModel", name := "isSheet", desc := "(I)Z" } : Jvm.MethodName)) ∈ lw_all := lw_g (lw_at lw_m5 76 rfl) rfl
theorem q1090 : (Jvm.Cond.static ({ cls := "BattleBenchModel", name := "isSheet", desc := "(I)Z" } : Jvm.MethodName)) ∈ lw_all := lw_g (lw_at lw_m5 77 rfl) rfl
theorem q1091 : (Jvm.Cond.code ({ cls := "BattleBenchModel", name := "isSheet", desc := "(I)Z" } : Jvm.MethodName) prog_11_method_60_code (1 : Nat) (Option.some Jvm.ClassFile.FieldType.boolean)) ∈ lw_all := lw_g (lw_at lw_m5 78 rfl) rfl
theorem q1092 : (Jvm.Cond.methodLink "BattleBenchModel" (162 : Nat) ({ cls := "BattleBenchModel", name := "barred", desc := "(IIII)I" } : Jvm.MethodName)) ∈ lw_all := lw_g (lw_at lw_m5 79 rfl) rfl
theorem q1093 : (Jvm.Cond.privateMethod ({ cls := "BattleBenchModel", name := "barred", desc := "(IIII)I" } : Jvm.MethodName)) ∈ lw_tbl := lw_at lw_m5 80 rfl
theorem q1094 : (Jvm.Cond.instanceMethod ({ cls := "BattleBenchModel", name := "barred", desc := "(IIII)I" } : Jvm.MethodName)) ∈ lw_all := lw_g (lw_at lw_m5 81 rfl) rfl
theorem q1095 : (Jvm.Cond.code ({ cls := "BattleBenchModel", name := "barred", desc := "(IIII)I" } : Jvm.MethodName) prog_11_method_61_code (5 : Nat) (Option.some Jvm.ClassFile.FieldType.int)) ∈ lw_all := lw_g (lw_at lw_m5 82 rfl) rfl
theorem q1096 : (Jvm.Cond.methodLink "BattleBenchModel" (166 : Nat) ({ cls := "BattleBenchModel", name := "isSo", desc := "(III)Z" } : Jvm.MethodName)) ∈ lw_all := lw_g (lw_at lw_m5 83 rfl) rfl
theorem q1097 : (Jvm.Cond.privateMethod ({ cls := "BattleBenchModel", name := "isSo", desc := "(III)Z" } : Jvm.MethodName)) ∈ lw_tbl := lw_at lw_m5 84 rfl
theorem q1098 : (Jvm.Cond.instanceMethod ({ cls := "BattleBenchModel", name := "isSo", desc := "(III)Z" } : Jvm.MethodName)) ∈ lw_all := lw_g (lw_at lw_m5 85 rfl) rfl
theorem q1099 : (Jvm.Cond.code ({ cls := "BattleBenchModel", name := "isSo", desc := "(III)Z" } : Jvm.MethodName) prog_11_method_63_code (6 : Nat) (Option.some Jvm.ClassFile.FieldType.boolean)) ∈ lw_all := lw_g (lw_at lw_m5 86 rfl) rfl
theorem q1101 : (Jvm.Cond.instanceMethod ({ cls := "BattleBenchModel", name := "film", desc := "(IIIII)I" } : Jvm.MethodName)) ∈ lw_all := lw_g (lw_at lw_m5 88 rfl) rfl
theorem q1102 : (Jvm.Cond.selects "BattleBenchModel" ({ cls := "BattleBenchModel", name := "film", desc := "(IIIII)I" } : Jvm.MethodName) ({ cls := "BattleBenchModel", name := "film", desc := "(IIIII)I" } : Jvm.MethodName)) ∈ lw_all := lw_g (lw_at lw_m5 89 rfl) rfl
theorem q1103 : (Jvm.Cond.code ({ cls := "BattleBenchModel", name := "film", desc := "(IIIII)I" } : Jvm.MethodName) prog_11_method_65_code (8 : Nat) (Option.some Jvm.ClassFile.FieldType.int)) ∈ lw_all := lw_g (lw_at lw_m5 90 rfl) rfl
theorem q1105 : (Jvm.Cond.instanceMethod ({ cls := "BattleBenchModel", name := "sheet", desc := "(III)I" } : Jvm.MethodName)) ∈ lw_all := lw_g (lw_at lw_m5 92 rfl) rfl
theorem q1106 : (Jvm.Cond.selects "BattleBenchModel" ({ cls := "BattleBenchModel", name := "sheet", desc := "(III)I" } : Jvm.MethodName) ({ cls := "BattleBenchModel", name := "sheet", desc := "(III)I" } : Jvm.MethodName)) ∈ lw_all := lw_g (lw_at lw_m5 93 rfl) rfl
theorem q1107 : (Jvm.Cond.code ({ cls := "BattleBenchModel", name := "sheet", desc := "(III)I" } : Jvm.MethodName) prog_11_method_66_code (5 : Nat) (Option.some Jvm.ClassFile.FieldType.int)) ∈ lw_all := lw_g (lw_at lw_m5 94 rfl) rfl
theorem q1109 : (Jvm.Cond.instanceMethod ({ cls := "BattleBenchModel", name := "drop", desc := "(I)I" } : Jvm.MethodName)) ∈ lw_all := lw_g (lw_at lw_m5 96 rfl) rfl
theorem q1110 : (Jvm.Cond.selects "BattleBenchModel" ({ cls := "BattleBenchModel", name := "drop", desc := "(I)I" } : Jvm.MethodName) ({ cls := "BattleBenchModel", name := "drop", desc := "(I)I" } : Jvm.MethodName)) ∈ lw_all := lw_g (lw_at lw_m5 97 rfl) rfl
theorem q1111 : (Jvm.Cond.code ({ cls := "BattleBenchModel", name := "drop", desc := "(I)I" } : Jvm.MethodName) prog_11_method_67_code (3 : Nat) (Option.some Jvm.ClassFile.FieldType.int)) ∈ lw_all := lw_g (lw_at lw_m5 98 rfl) rfl
theorem q1113 : (Jvm.Cond.instanceMethod ({ cls := "BattleBenchModel", name := "item", desc := "(IIIJ)I" } : Jvm.MethodName)) ∈ lw_all := lw_g (lw_at lw_m5 100 rfl) rfl
theorem q1114 : (Jvm.Cond.selects "BattleBenchModel" ({ cls := "BattleBenchModel", name := "item", desc := "(IIIJ)I" } : Jvm.MethodName) ({ cls := "BattleBenchModel", name := "item", desc := "(IIIJ)I" } : Jvm.MethodName)) ∈ lw_all := lw_g (lw_at lw_m5 101 rfl) rfl
theorem q1115 : (Jvm.Cond.code ({ cls := "BattleBenchModel", name := "item", desc := "(IIIJ)I" } : Jvm.MethodName) prog_11_method_68_code (7 : Nat) (Option.some Jvm.ClassFile.FieldType.int)) ∈ lw_all := lw_g (lw_at lw_m5 102 rfl) rfl
theorem q1116 : (Jvm.Cond.methodLink "BattleBenchModel" (169 : Nat) ({ cls := "BattleBenchModel", name := "cut", desc := "(IJ)J" } : Jvm.MethodName)) ∈ lw_all := lw_g (lw_at lw_m5 103 rfl) rfl
theorem q1117 : (Jvm.Cond.static ({ cls := "BattleBenchModel", name := "cut", desc := "(IJ)J" } : Jvm.MethodName)) ∈ lw_all := lw_g (lw_at lw_m5 104 rfl) rfl
theorem q1118 : (Jvm.Cond.code ({ cls := "BattleBenchModel", name := "cut", desc := "(IJ)J" } : Jvm.MethodName) prog_11_method_62_code (3 : Nat) (Option.some Jvm.ClassFile.FieldType.long)) ∈ lw_all := lw_g (lw_at lw_m5 105 rfl) rfl
theorem q1120 : (Jvm.Cond.instanceMethod ({ cls := "BattleBenchModel", name := "copy", desc := "(IIIII)I" } : Jvm.MethodName)) ∈ lw_all := lw_g (lw_at lw_m5 107 rfl) rfl
theorem q1121 : (Jvm.Cond.selects "BattleBenchModel" ({ cls := "BattleBenchModel", name := "copy", desc := "(IIIII)I" } : Jvm.MethodName) ({ cls := "BattleBenchModel", name := "copy", desc := "(IIIII)I" } : Jvm.MethodName)) ∈ lw_all := lw_g (lw_at lw_m5 108 rfl) rfl
theorem q1122 : (Jvm.Cond.code ({ cls := "BattleBenchModel", name := "copy", desc := "(IIIII)I" } : Jvm.MethodName) prog_11_method_69_code (9 : Nat) (Option.some Jvm.ClassFile.FieldType.int)) ∈ lw_all := lw_g (lw_at lw_m5 109 rfl) rfl
theorem in_X9 : ∀ w ∈ wsX90, w ∈ lw_all := lw_in wsX90 [831, 833, 835, 837, 839, 841, 843, 845, 847, 849, 851, 853, 855, 857] (by decide +kernel) (by decide +kernel)
