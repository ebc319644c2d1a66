set_option maxRecDepth 100000
/-! BattleBench$Bench -/
set_option maxRecDepth 100000
def RX6 : String := "BattleBench$Bench"
def TX6 : u_T := fun k => match k with
  | 0 => ("BattleBench$Bench", "ofKind", "[I", true)
  | 1 => ("BattleBench$Bench", "places", "[I", true)
  | 2 => ("BattleBench$Bench", "lives", "[I", true)
  | 3 => ("BattleBench$Bench", "seats", "[I", true)
  | 4 => ("BattleBench$Bench", "men", "I", false)
  | 5 => ("BattleBench$Bench", "many", "I", false)
  | 6 => ("BattleBench$Bench", "year", "I", false)
  | _ => ("BattleBench$Bench", "draw", "I", false)
def tyX6 : Nat → FieldType := fun k => match k with
  | 0 => .array .int
  | 1 => .array .int
  | 2 => .array .int
  | 3 => .array .int
  | 4 => .int
  | 5 => .int
  | 6 => .int
  | _ => .int
abbrev wsX60 : List Cond := u_ws RX6 TX6 8
theorem nmX6 : ∀ a, a < 8 → ∀ b, b < 8 → a ≠ b → (TX6 a).2.1 ≠ (TX6 b).2.1 := by decide +kernel
theorem tyX6_ok : ∀ k, k < 8 → parseFieldDescriptor (TX6 k).2.2.1 = some (tyX6 k) := by decide +kernel
abbrev cX6_init : ByteArray := prog_2_method_1_code
def yX6_init : MethodName := ⟨RX6, "<init>", "()V"⟩
def dkwX6_init_1 : List UInt8 := [188, 10, 181, 0, 18, 42, 16, 6, 188, 10, 181, 0, 21, 177]
abbrev dktX6_init_1 : List UInt8 := dkwX6_init_1 ++ []
def dkwX6_init_0 : List UInt8 := [42, 183, 0, 3, 42, 16, 6, 188, 10, 181, 0, 9, 42, 16, 18, 188, 10, 181, 0, 15, 42, 16, 6]
abbrev dktX6_init_0 : List UInt8 := dkwX6_init_0 ++ dktX6_init_1
theorem dksX6_init_0 : cX6_init.data.toList.drop 0 = dktX6_init_0 := by decide +kernel
theorem dksX6_init_1 : cX6_init.data.toList.drop 23 = dktX6_init_1 := dk_seg dksX6_init_0 23 rfl rfl
theorem dX6_init_0 : decode cX6_init 0 = .ok (.aload_n 0, 1) := dk_42 (dk_at dksX6_init_0 0 rfl rfl)
theorem dX6_init_1 : decode cX6_init 1 = .ok (.invokespecial 3, 3) := dk_183 0 3 (dk_at dksX6_init_0 1 rfl rfl)
theorem dX6_init_4 : decode cX6_init 4 = .ok (.aload_n 0, 1) := dk_42 (dk_at dksX6_init_0 4 rfl rfl)
theorem dX6_init_5 : decode cX6_init 5 = .ok (.bipush 6, 2) := dk_16 6 (dk_at dksX6_init_0 5 rfl rfl)
theorem dX6_init_7 : decode cX6_init 7 = .ok (.newarray .int, 2) := dk_188_10 (dk_at dksX6_init_0 7 rfl rfl)
theorem dX6_init_9 : decode cX6_init 9 = .ok (.putfield 9, 3) := dk_181 0 9 (dk_at dksX6_init_0 9 rfl rfl)
theorem dX6_init_12 : decode cX6_init 12 = .ok (.aload_n 0, 1) := dk_42 (dk_at dksX6_init_0 12 rfl rfl)
theorem dX6_init_13 : decode cX6_init 13 = .ok (.bipush 18, 2) := dk_16 18 (dk_at dksX6_init_0 13 rfl rfl)
theorem dX6_init_15 : decode cX6_init 15 = .ok (.newarray .int, 2) := dk_188_10 (dk_at dksX6_init_0 15 rfl rfl)
theorem dX6_init_17 : decode cX6_init 17 = .ok (.putfield 15, 3) := dk_181 0 15 (dk_at dksX6_init_0 17 rfl rfl)
theorem dX6_init_20 : decode cX6_init 20 = .ok (.aload_n 0, 1) := dk_42 (dk_at dksX6_init_0 20 rfl rfl)
theorem dX6_init_21 : decode cX6_init 21 = .ok (.bipush 6, 2) := dk_16 6 (dk_at dksX6_init_0 21 rfl rfl)
theorem dX6_init_23 : decode cX6_init 23 = .ok (.newarray .int, 2) := dk_188_10 (dk_at dksX6_init_1 0 rfl rfl)
theorem dX6_init_25 : decode cX6_init 25 = .ok (.putfield 18, 3) := dk_181 0 18 (dk_at dksX6_init_1 2 rfl rfl)
theorem dX6_init_28 : decode cX6_init 28 = .ok (.aload_n 0, 1) := dk_42 (dk_at dksX6_init_1 5 rfl rfl)
theorem dX6_init_29 : decode cX6_init 29 = .ok (.bipush 6, 2) := dk_16 6 (dk_at dksX6_init_1 6 rfl rfl)
theorem dX6_init_31 : decode cX6_init 31 = .ok (.newarray .int, 2) := dk_188_10 (dk_at dksX6_init_1 8 rfl rfl)
theorem dX6_init_33 : decode cX6_init 33 = .ok (.putfield 21, 3) := dk_181 0 21 (dk_at dksX6_init_1 10 rfl rfl)
theorem dX6_init_36 : decode cX6_init 36 = .ok (.return_, 1) := dk_177 (dk_at dksX6_init_1 13 rfl rfl)
abbrev cX6_manAt : ByteArray := prog_2_method_6_code
def yX6_manAt : MethodName := ⟨RX6, "manAt", "(II)I"⟩
def dkwX6_manAt_1 : List UInt8 := [132, 3, 1, 167, 255, 233, 16, 252, 172]
abbrev dktX6_manAt_1 : List UInt8 := dkwX6_manAt_1 ++ []
def dkwX6_manAt_0 : List UInt8 := [3, 62, 29, 42, 180, 0, 34, 162, 0, 21, 42, 29, 27, 182, 0, 47, 28, 160, 0, 5, 29, 172]
abbrev dktX6_manAt_0 : List UInt8 := dkwX6_manAt_0 ++ dktX6_manAt_1
theorem dksX6_manAt_0 : cX6_manAt.data.toList.drop 0 = dktX6_manAt_0 := by decide +kernel
theorem dksX6_manAt_1 : cX6_manAt.data.toList.drop 22 = dktX6_manAt_1 := dk_seg dksX6_manAt_0 22 rfl rfl
theorem dX6_manAt_0 : decode cX6_manAt 0 = .ok (.iconst 0, 1) := dk_3 (dk_at dksX6_manAt_0 0 rfl rfl)
theorem dX6_manAt_1 : decode cX6_manAt 1 = .ok (.istore_n 3, 1) := dk_62 (dk_at dksX6_manAt_0 1 rfl rfl)
theorem dX6_manAt_2 : decode cX6_manAt 2 = .ok (.iload_n 3, 1) := dk_29 (dk_at dksX6_manAt_0 2 rfl rfl)
theorem dX6_manAt_3 : decode cX6_manAt 3 = .ok (.aload_n 0, 1) := dk_42 (dk_at dksX6_manAt_0 3 rfl rfl)
theorem dX6_manAt_4 : decode cX6_manAt 4 = .ok (.getfield 34, 3) := dk_180 0 34 (dk_at dksX6_manAt_0 4 rfl rfl)
theorem dX6_manAt_7 : decode cX6_manAt 7 = .ok (.if_icmp .ge 21, 3) := dk_162 0 21 (dk_at dksX6_manAt_0 7 rfl rfl)
theorem dX6_manAt_10 : decode cX6_manAt 10 = .ok (.aload_n 0, 1) := dk_42 (dk_at dksX6_manAt_0 10 rfl rfl)
theorem dX6_manAt_11 : decode cX6_manAt 11 = .ok (.iload_n 3, 1) := dk_29 (dk_at dksX6_manAt_0 11 rfl rfl)
theorem dX6_manAt_12 : decode cX6_manAt 12 = .ok (.iload_n 1, 1) := dk_27 (dk_at dksX6_manAt_0 12 rfl rfl)
theorem dX6_manAt_13 : decode cX6_manAt 13 = .ok (.invokevirtual 47, 3) := dk_182 0 47 (dk_at dksX6_manAt_0 13 rfl rfl)
theorem dX6_manAt_16 : decode cX6_manAt 16 = .ok (.iload_n 2, 1) := dk_28 (dk_at dksX6_manAt_0 16 rfl rfl)
theorem dX6_manAt_17 : decode cX6_manAt 17 = .ok (.if_icmp .ne 5, 3) := dk_160 0 5 (dk_at dksX6_manAt_0 17 rfl rfl)
theorem dX6_manAt_20 : decode cX6_manAt 20 = .ok (.iload_n 3, 1) := dk_29 (dk_at dksX6_manAt_0 20 rfl rfl)
theorem dX6_manAt_21 : decode cX6_manAt 21 = .ok (.ireturn, 1) := dk_172 (dk_at dksX6_manAt_0 21 rfl rfl)
theorem dX6_manAt_22 : decode cX6_manAt 22 = .ok (.iinc 3 1, 3) := dk_132 3 1 (dk_at dksX6_manAt_1 0 rfl rfl)
theorem dX6_manAt_25 : decode cX6_manAt 25 = .ok (.goto (-23), 3) := dk_167 255 233 (dk_at dksX6_manAt_1 3 rfl rfl)
theorem dX6_manAt_28 : decode cX6_manAt 28 = .ok (.bipush (-4), 2) := dk_16 252 (dk_at dksX6_manAt_1 6 rfl rfl)
theorem dX6_manAt_30 : decode cX6_manAt 30 = .ok (.ireturn, 1) := dk_172 (dk_at dksX6_manAt_1 8 rfl rfl)
abbrev cX6_placeOf : ByteArray := prog_2_method_5_code
def yX6_placeOf : MethodName := ⟨RX6, "placeOf", "(II)I"⟩
def dkwX6_placeOf_0 : List UInt8 := [42, 180, 0, 15, 6, 27, 104, 28, 96, 46, 172]
abbrev dktX6_placeOf_0 : List UInt8 := dkwX6_placeOf_0 ++ []
theorem dksX6_placeOf_0 : cX6_placeOf.data.toList.drop 0 = dktX6_placeOf_0 := by decide +kernel
theorem dX6_placeOf_0 : decode cX6_placeOf 0 = .ok (.aload_n 0, 1) := dk_42 (dk_at dksX6_placeOf_0 0 rfl rfl)
theorem dX6_placeOf_1 : decode cX6_placeOf 1 = .ok (.getfield 15, 3) := dk_180 0 15 (dk_at dksX6_placeOf_0 1 rfl rfl)
theorem dX6_placeOf_4 : decode cX6_placeOf 4 = .ok (.iconst 3, 1) := dk_6 (dk_at dksX6_placeOf_0 4 rfl rfl)
theorem dX6_placeOf_5 : decode cX6_placeOf 5 = .ok (.iload_n 1, 1) := dk_27 (dk_at dksX6_placeOf_0 5 rfl rfl)
theorem dX6_placeOf_6 : decode cX6_placeOf 6 = .ok (.imul, 1) := dk_104 (dk_at dksX6_placeOf_0 6 rfl rfl)
theorem dX6_placeOf_7 : decode cX6_placeOf 7 = .ok (.iload_n 2, 1) := dk_28 (dk_at dksX6_placeOf_0 7 rfl rfl)
theorem dX6_placeOf_8 : decode cX6_placeOf 8 = .ok (.iadd, 1) := dk_96 (dk_at dksX6_placeOf_0 8 rfl rfl)
theorem dX6_placeOf_9 : decode cX6_placeOf 9 = .ok (.iaload, 1) := dk_46 (dk_at dksX6_placeOf_0 9 rfl rfl)
theorem dX6_placeOf_10 : decode cX6_placeOf 10 = .ok (.ireturn, 1) := dk_172 (dk_at dksX6_placeOf_0 10 rfl rfl)
abbrev cX6_add : ByteArray := prog_2_method_7_code
def yX6_add : MethodName := ⟨RX6, "add", "(II)V"⟩
def dkwX6_add_2 : List UInt8 := [4, 96, 181, 0, 34, 177]
abbrev dktX6_add_2 : List UInt8 := dkwX6_add_2 ++ []
def dkwX6_add_1 : List UInt8 := [42, 180, 0, 38, 42, 180, 0, 34, 79, 42, 89, 180, 0, 38, 4, 96, 181, 0, 38, 42, 89, 180, 0, 34]
abbrev dktX6_add_1 : List UInt8 := dkwX6_add_1 ++ dktX6_add_2
def dkwX6_add_0 : List UInt8 := [42, 180, 0, 9, 42, 180, 0, 34, 27, 79, 42, 180, 0, 18, 42, 180, 0, 34, 28, 79, 42, 180, 0, 21]
abbrev dktX6_add_0 : List UInt8 := dkwX6_add_0 ++ dktX6_add_1
theorem dksX6_add_0 : cX6_add.data.toList.drop 0 = dktX6_add_0 := by decide +kernel
theorem dksX6_add_1 : cX6_add.data.toList.drop 24 = dktX6_add_1 := dk_seg dksX6_add_0 24 rfl rfl
theorem dksX6_add_2 : cX6_add.data.toList.drop 48 = dktX6_add_2 := dk_seg dksX6_add_1 24 rfl rfl
theorem dX6_add_0 : decode cX6_add 0 = .ok (.aload_n 0, 1) := dk_42 (dk_at dksX6_add_0 0 rfl rfl)
theorem dX6_add_1 : decode cX6_add 1 = .ok (.getfield 9, 3) := dk_180 0 9 (dk_at dksX6_add_0 1 rfl rfl)
theorem dX6_add_4 : decode cX6_add 4 = .ok (.aload_n 0, 1) := dk_42 (dk_at dksX6_add_0 4 rfl rfl)
theorem dX6_add_5 : decode cX6_add 5 = .ok (.getfield 34, 3) := dk_180 0 34 (dk_at dksX6_add_0 5 rfl rfl)
theorem dX6_add_8 : decode cX6_add 8 = .ok (.iload_n 1, 1) := dk_27 (dk_at dksX6_add_0 8 rfl rfl)
theorem dX6_add_9 : decode cX6_add 9 = .ok (.iastore, 1) := dk_79 (dk_at dksX6_add_0 9 rfl rfl)
theorem dX6_add_10 : decode cX6_add 10 = .ok (.aload_n 0, 1) := dk_42 (dk_at dksX6_add_0 10 rfl rfl)
theorem dX6_add_11 : decode cX6_add 11 = .ok (.getfield 18, 3) := dk_180 0 18 (dk_at dksX6_add_0 11 rfl rfl)
theorem dX6_add_14 : decode cX6_add 14 = .ok (.aload_n 0, 1) := dk_42 (dk_at dksX6_add_0 14 rfl rfl)
theorem dX6_add_15 : decode cX6_add 15 = .ok (.getfield 34, 3) := dk_180 0 34 (dk_at dksX6_add_0 15 rfl rfl)
theorem dX6_add_18 : decode cX6_add 18 = .ok (.iload_n 2, 1) := dk_28 (dk_at dksX6_add_0 18 rfl rfl)
theorem dX6_add_19 : decode cX6_add 19 = .ok (.iastore, 1) := dk_79 (dk_at dksX6_add_0 19 rfl rfl)
theorem dX6_add_20 : decode cX6_add 20 = .ok (.aload_n 0, 1) := dk_42 (dk_at dksX6_add_0 20 rfl rfl)
theorem dX6_add_21 : decode cX6_add 21 = .ok (.getfield 21, 3) := dk_180 0 21 (dk_at dksX6_add_0 21 rfl rfl)
theorem dX6_add_24 : decode cX6_add 24 = .ok (.aload_n 0, 1) := dk_42 (dk_at dksX6_add_1 0 rfl rfl)
theorem dX6_add_25 : decode cX6_add 25 = .ok (.getfield 38, 3) := dk_180 0 38 (dk_at dksX6_add_1 1 rfl rfl)
theorem dX6_add_28 : decode cX6_add 28 = .ok (.aload_n 0, 1) := dk_42 (dk_at dksX6_add_1 4 rfl rfl)
theorem dX6_add_29 : decode cX6_add 29 = .ok (.getfield 34, 3) := dk_180 0 34 (dk_at dksX6_add_1 5 rfl rfl)
theorem dX6_add_32 : decode cX6_add 32 = .ok (.iastore, 1) := dk_79 (dk_at dksX6_add_1 8 rfl rfl)
theorem dX6_add_33 : decode cX6_add 33 = .ok (.aload_n 0, 1) := dk_42 (dk_at dksX6_add_1 9 rfl rfl)
theorem dX6_add_34 : decode cX6_add 34 = .ok (.dup, 1) := dk_89 (dk_at dksX6_add_1 10 rfl rfl)
theorem dX6_add_35 : decode cX6_add 35 = .ok (.getfield 38, 3) := dk_180 0 38 (dk_at dksX6_add_1 11 rfl rfl)
theorem dX6_add_38 : decode cX6_add 38 = .ok (.iconst 1, 1) := dk_4 (dk_at dksX6_add_1 14 rfl rfl)
theorem dX6_add_39 : decode cX6_add 39 = .ok (.iadd, 1) := dk_96 (dk_at dksX6_add_1 15 rfl rfl)
theorem dX6_add_40 : decode cX6_add 40 = .ok (.putfield 38, 3) := dk_181 0 38 (dk_at dksX6_add_1 16 rfl rfl)
theorem dX6_add_43 : decode cX6_add 43 = .ok (.aload_n 0, 1) := dk_42 (dk_at dksX6_add_1 19 rfl rfl)
theorem dX6_add_44 : decode cX6_add 44 = .ok (.dup, 1) := dk_89 (dk_at dksX6_add_1 20 rfl rfl)
theorem dX6_add_45 : decode cX6_add 45 = .ok (.getfield 34, 3) := dk_180 0 34 (dk_at dksX6_add_1 21 rfl rfl)
theorem dX6_add_48 : decode cX6_add 48 = .ok (.iconst 1, 1) := dk_4 (dk_at dksX6_add_2 0 rfl rfl)
theorem dX6_add_49 : decode cX6_add 49 = .ok (.iadd, 1) := dk_96 (dk_at dksX6_add_2 1 rfl rfl)
theorem dX6_add_50 : decode cX6_add 50 = .ok (.putfield 34, 3) := dk_181 0 34 (dk_at dksX6_add_2 2 rfl rfl)
theorem dX6_add_53 : decode cX6_add 53 = .ok (.return_, 1) := dk_177 (dk_at dksX6_add_2 5 rfl rfl)
abbrev cX6_seatOf : ByteArray := prog_2_method_9_code
def yX6_seatOf : MethodName := ⟨RX6, "seatOf", "(I)I"⟩
def dkwX6_seatOf_1 : List UInt8 := [132, 2, 1, 167, 255, 233, 16, 252, 172]
abbrev dktX6_seatOf_1 : List UInt8 := dkwX6_seatOf_1 ++ []
def dkwX6_seatOf_0 : List UInt8 := [3, 61, 28, 42, 180, 0, 38, 162, 0, 21, 42, 180, 0, 21, 28, 46, 27, 160, 0, 5, 28, 172]
abbrev dktX6_seatOf_0 : List UInt8 := dkwX6_seatOf_0 ++ dktX6_seatOf_1
theorem dksX6_seatOf_0 : cX6_seatOf.data.toList.drop 0 = dktX6_seatOf_0 := by decide +kernel
theorem dksX6_seatOf_1 : cX6_seatOf.data.toList.drop 22 = dktX6_seatOf_1 := dk_seg dksX6_seatOf_0 22 rfl rfl
theorem dX6_seatOf_0 : decode cX6_seatOf 0 = .ok (.iconst 0, 1) := dk_3 (dk_at dksX6_seatOf_0 0 rfl rfl)
theorem dX6_seatOf_1 : decode cX6_seatOf 1 = .ok (.istore_n 2, 1) := dk_61 (dk_at dksX6_seatOf_0 1 rfl rfl)
theorem dX6_seatOf_2 : decode cX6_seatOf 2 = .ok (.iload_n 2, 1) := dk_28 (dk_at dksX6_seatOf_0 2 rfl rfl)
theorem dX6_seatOf_3 : decode cX6_seatOf 3 = .ok (.aload_n 0, 1) := dk_42 (dk_at dksX6_seatOf_0 3 rfl rfl)
theorem dX6_seatOf_4 : decode cX6_seatOf 4 = .ok (.getfield 38, 3) := dk_180 0 38 (dk_at dksX6_seatOf_0 4 rfl rfl)
theorem dX6_seatOf_7 : decode cX6_seatOf 7 = .ok (.if_icmp .ge 21, 3) := dk_162 0 21 (dk_at dksX6_seatOf_0 7 rfl rfl)
theorem dX6_seatOf_10 : decode cX6_seatOf 10 = .ok (.aload_n 0, 1) := dk_42 (dk_at dksX6_seatOf_0 10 rfl rfl)
theorem dX6_seatOf_11 : decode cX6_seatOf 11 = .ok (.getfield 21, 3) := dk_180 0 21 (dk_at dksX6_seatOf_0 11 rfl rfl)
theorem dX6_seatOf_14 : decode cX6_seatOf 14 = .ok (.iload_n 2, 1) := dk_28 (dk_at dksX6_seatOf_0 14 rfl rfl)
theorem dX6_seatOf_15 : decode cX6_seatOf 15 = .ok (.iaload, 1) := dk_46 (dk_at dksX6_seatOf_0 15 rfl rfl)
theorem dX6_seatOf_16 : decode cX6_seatOf 16 = .ok (.iload_n 1, 1) := dk_27 (dk_at dksX6_seatOf_0 16 rfl rfl)
theorem dX6_seatOf_17 : decode cX6_seatOf 17 = .ok (.if_icmp .ne 5, 3) := dk_160 0 5 (dk_at dksX6_seatOf_0 17 rfl rfl)
theorem dX6_seatOf_20 : decode cX6_seatOf 20 = .ok (.iload_n 2, 1) := dk_28 (dk_at dksX6_seatOf_0 20 rfl rfl)
theorem dX6_seatOf_21 : decode cX6_seatOf 21 = .ok (.ireturn, 1) := dk_172 (dk_at dksX6_seatOf_0 21 rfl rfl)
theorem dX6_seatOf_22 : decode cX6_seatOf 22 = .ok (.iinc 2 1, 3) := dk_132 2 1 (dk_at dksX6_seatOf_1 0 rfl rfl)
theorem dX6_seatOf_25 : decode cX6_seatOf 25 = .ok (.goto (-23), 3) := dk_167 255 233 (dk_at dksX6_seatOf_1 3 rfl rfl)
theorem dX6_seatOf_28 : decode cX6_seatOf 28 = .ok (.bipush (-4), 2) := dk_16 252 (dk_at dksX6_seatOf_1 6 rfl rfl)
theorem dX6_seatOf_30 : decode cX6_seatOf 30 = .ok (.ireturn, 1) := dk_172 (dk_at dksX6_seatOf_1 8 rfl rfl)
abbrev cX6_stoodSet : ByteArray := prog_2_method_12_code
def yX6_stoodSet : MethodName := ⟨RX6, "stoodSet", "(I)I"⟩
def dkwX6_stoodSet_1 : List UInt8 := [120, 167, 0, 4, 3, 128, 61, 132, 3, 1, 167, 255, 226, 28, 172]
abbrev dktX6_stoodSet_1 : List UInt8 := dkwX6_stoodSet_1 ++ []
def dkwX6_stoodSet_0 : List UInt8 := [3, 61, 3, 62, 29, 42, 180, 0, 34, 162, 0, 28, 28, 42, 27, 29, 182, 0, 66, 153, 0, 9, 4, 29]
abbrev dktX6_stoodSet_0 : List UInt8 := dkwX6_stoodSet_0 ++ dktX6_stoodSet_1
theorem dksX6_stoodSet_0 : cX6_stoodSet.data.toList.drop 0 = dktX6_stoodSet_0 := by decide +kernel
theorem dksX6_stoodSet_1 : cX6_stoodSet.data.toList.drop 24 = dktX6_stoodSet_1 := dk_seg dksX6_stoodSet_0 24 rfl rfl
theorem dX6_stoodSet_0 : decode cX6_stoodSet 0 = .ok (.iconst 0, 1) := dk_3 (dk_at dksX6_stoodSet_0 0 rfl rfl)
theorem dX6_stoodSet_1 : decode cX6_stoodSet 1 = .ok (.istore_n 2, 1) := dk_61 (dk_at dksX6_stoodSet_0 1 rfl rfl)
theorem dX6_stoodSet_2 : decode cX6_stoodSet 2 = .ok (.iconst 0, 1) := dk_3 (dk_at dksX6_stoodSet_0 2 rfl rfl)
theorem dX6_stoodSet_3 : decode cX6_stoodSet 3 = .ok (.istore_n 3, 1) := dk_62 (dk_at dksX6_stoodSet_0 3 rfl rfl)
theorem dX6_stoodSet_4 : decode cX6_stoodSet 4 = .ok (.iload_n 3, 1) := dk_29 (dk_at dksX6_stoodSet_0 4 rfl rfl)
theorem dX6_stoodSet_5 : decode cX6_stoodSet 5 = .ok (.aload_n 0, 1) := dk_42 (dk_at dksX6_stoodSet_0 5 rfl rfl)
theorem dX6_stoodSet_6 : decode cX6_stoodSet 6 = .ok (.getfield 34, 3) := dk_180 0 34 (dk_at dksX6_stoodSet_0 6 rfl rfl)
theorem dX6_stoodSet_9 : decode cX6_stoodSet 9 = .ok (.if_icmp .ge 28, 3) := dk_162 0 28 (dk_at dksX6_stoodSet_0 9 rfl rfl)
theorem dX6_stoodSet_12 : decode cX6_stoodSet 12 = .ok (.iload_n 2, 1) := dk_28 (dk_at dksX6_stoodSet_0 12 rfl rfl)
theorem dX6_stoodSet_13 : decode cX6_stoodSet 13 = .ok (.aload_n 0, 1) := dk_42 (dk_at dksX6_stoodSet_0 13 rfl rfl)
theorem dX6_stoodSet_14 : decode cX6_stoodSet 14 = .ok (.iload_n 1, 1) := dk_27 (dk_at dksX6_stoodSet_0 14 rfl rfl)
theorem dX6_stoodSet_15 : decode cX6_stoodSet 15 = .ok (.iload_n 3, 1) := dk_29 (dk_at dksX6_stoodSet_0 15 rfl rfl)
theorem dX6_stoodSet_16 : decode cX6_stoodSet 16 = .ok (.invokevirtual 66, 3) := dk_182 0 66 (dk_at dksX6_stoodSet_0 16 rfl rfl)
theorem dX6_stoodSet_19 : decode cX6_stoodSet 19 = .ok (.ifCond .eq 9, 3) := dk_153 0 9 (dk_at dksX6_stoodSet_0 19 rfl rfl)
theorem dX6_stoodSet_22 : decode cX6_stoodSet 22 = .ok (.iconst 1, 1) := dk_4 (dk_at dksX6_stoodSet_0 22 rfl rfl)
theorem dX6_stoodSet_23 : decode cX6_stoodSet 23 = .ok (.iload_n 3, 1) := dk_29 (dk_at dksX6_stoodSet_0 23 rfl rfl)
theorem dX6_stoodSet_24 : decode cX6_stoodSet 24 = .ok (.ishl, 1) := dk_120 (dk_at dksX6_stoodSet_1 0 rfl rfl)
theorem dX6_stoodSet_25 : decode cX6_stoodSet 25 = .ok (.goto 4, 3) := dk_167 0 4 (dk_at dksX6_stoodSet_1 1 rfl rfl)
theorem dX6_stoodSet_28 : decode cX6_stoodSet 28 = .ok (.iconst 0, 1) := dk_3 (dk_at dksX6_stoodSet_1 4 rfl rfl)
theorem dX6_stoodSet_29 : decode cX6_stoodSet 29 = .ok (.ior, 1) := dk_128 (dk_at dksX6_stoodSet_1 5 rfl rfl)
theorem dX6_stoodSet_30 : decode cX6_stoodSet 30 = .ok (.istore_n 2, 1) := dk_61 (dk_at dksX6_stoodSet_1 6 rfl rfl)
theorem dX6_stoodSet_31 : decode cX6_stoodSet 31 = .ok (.iinc 3 1, 3) := dk_132 3 1 (dk_at dksX6_stoodSet_1 7 rfl rfl)
theorem dX6_stoodSet_34 : decode cX6_stoodSet 34 = .ok (.goto (-30), 3) := dk_167 255 226 (dk_at dksX6_stoodSet_1 10 rfl rfl)
theorem dX6_stoodSet_37 : decode cX6_stoodSet 37 = .ok (.iload_n 2, 1) := dk_28 (dk_at dksX6_stoodSet_1 13 rfl rfl)
theorem dX6_stoodSet_38 : decode cX6_stoodSet 38 = .ok (.ireturn, 1) := dk_172 (dk_at dksX6_stoodSet_1 14 rfl rfl)
abbrev cX6_stoodBy : ByteArray := prog_2_method_11_code
def yX6_stoodBy : MethodName := ⟨RX6, "stoodBy", "(II)Z"⟩
def dkwX6_stoodBy_2 : List UInt8 := [4, 167, 0, 4, 3, 172]
abbrev dktX6_stoodBy_2 : List UInt8 := dkwX6_stoodBy_2 ++ []
def dkwX6_stoodBy_1 : List UInt8 := [153, 0, 7, 4, 167, 0, 4, 3, 62, 132, 4, 1, 167, 255, 226, 27, 28, 159, 0, 11, 29, 153, 0, 7]
abbrev dktX6_stoodBy_1 : List UInt8 := dkwX6_stoodBy_1 ++ dktX6_stoodBy_2
def dkwX6_stoodBy_0 : List UInt8 := [3, 62, 3, 54, 4, 21, 4, 6, 162, 0, 30, 29, 154, 0, 14, 42, 27, 28, 21, 4, 182, 0, 62]
abbrev dktX6_stoodBy_0 : List UInt8 := dkwX6_stoodBy_0 ++ dktX6_stoodBy_1
theorem dksX6_stoodBy_0 : cX6_stoodBy.data.toList.drop 0 = dktX6_stoodBy_0 := by decide +kernel
theorem dksX6_stoodBy_1 : cX6_stoodBy.data.toList.drop 23 = dktX6_stoodBy_1 := dk_seg dksX6_stoodBy_0 23 rfl rfl
theorem dksX6_stoodBy_2 : cX6_stoodBy.data.toList.drop 47 = dktX6_stoodBy_2 := dk_seg dksX6_stoodBy_1 24 rfl rfl
theorem dX6_stoodBy_0 : decode cX6_stoodBy 0 = .ok (.iconst 0, 1) := dk_3 (dk_at dksX6_stoodBy_0 0 rfl rfl)
theorem dX6_stoodBy_1 : decode cX6_stoodBy 1 = .ok (.istore_n 3, 1) := dk_62 (dk_at dksX6_stoodBy_0 1 rfl rfl)
theorem dX6_stoodBy_2 : decode cX6_stoodBy 2 = .ok (.iconst 0, 1) := dk_3 (dk_at dksX6_stoodBy_0 2 rfl rfl)
theorem dX6_stoodBy_3 : decode cX6_stoodBy 3 = .ok (.istore 4, 2) := dk_54 4 (dk_at dksX6_stoodBy_0 3 rfl rfl)
theorem dX6_stoodBy_5 : decode cX6_stoodBy 5 = .ok (.iload 4, 2) := dk_21 4 (dk_at dksX6_stoodBy_0 5 rfl rfl)
theorem dX6_stoodBy_7 : decode cX6_stoodBy 7 = .ok (.iconst 3, 1) := dk_6 (dk_at dksX6_stoodBy_0 7 rfl rfl)
theorem dX6_stoodBy_8 : decode cX6_stoodBy 8 = .ok (.if_icmp .ge 30, 3) := dk_162 0 30 (dk_at dksX6_stoodBy_0 8 rfl rfl)
theorem dX6_stoodBy_11 : decode cX6_stoodBy 11 = .ok (.iload_n 3, 1) := dk_29 (dk_at dksX6_stoodBy_0 11 rfl rfl)
theorem dX6_stoodBy_12 : decode cX6_stoodBy 12 = .ok (.ifCond .ne 14, 3) := dk_154 0 14 (dk_at dksX6_stoodBy_0 12 rfl rfl)
theorem dX6_stoodBy_15 : decode cX6_stoodBy 15 = .ok (.aload_n 0, 1) := dk_42 (dk_at dksX6_stoodBy_0 15 rfl rfl)
theorem dX6_stoodBy_16 : decode cX6_stoodBy 16 = .ok (.iload_n 1, 1) := dk_27 (dk_at dksX6_stoodBy_0 16 rfl rfl)
theorem dX6_stoodBy_17 : decode cX6_stoodBy 17 = .ok (.iload_n 2, 1) := dk_28 (dk_at dksX6_stoodBy_0 17 rfl rfl)
theorem dX6_stoodBy_18 : decode cX6_stoodBy 18 = .ok (.iload 4, 2) := dk_21 4 (dk_at dksX6_stoodBy_0 18 rfl rfl)
theorem dX6_stoodBy_20 : decode cX6_stoodBy 20 = .ok (.invokevirtual 62, 3) := dk_182 0 62 (dk_at dksX6_stoodBy_0 20 rfl rfl)
theorem dX6_stoodBy_23 : decode cX6_stoodBy 23 = .ok (.ifCond .eq 7, 3) := dk_153 0 7 (dk_at dksX6_stoodBy_1 0 rfl rfl)
theorem dX6_stoodBy_26 : decode cX6_stoodBy 26 = .ok (.iconst 1, 1) := dk_4 (dk_at dksX6_stoodBy_1 3 rfl rfl)
theorem dX6_stoodBy_27 : decode cX6_stoodBy 27 = .ok (.goto 4, 3) := dk_167 0 4 (dk_at dksX6_stoodBy_1 4 rfl rfl)
theorem dX6_stoodBy_30 : decode cX6_stoodBy 30 = .ok (.iconst 0, 1) := dk_3 (dk_at dksX6_stoodBy_1 7 rfl rfl)
theorem dX6_stoodBy_31 : decode cX6_stoodBy 31 = .ok (.istore_n 3, 1) := dk_62 (dk_at dksX6_stoodBy_1 8 rfl rfl)
theorem dX6_stoodBy_32 : decode cX6_stoodBy 32 = .ok (.iinc 4 1, 3) := dk_132 4 1 (dk_at dksX6_stoodBy_1 9 rfl rfl)
theorem dX6_stoodBy_35 : decode cX6_stoodBy 35 = .ok (.goto (-30), 3) := dk_167 255 226 (dk_at dksX6_stoodBy_1 12 rfl rfl)
theorem dX6_stoodBy_38 : decode cX6_stoodBy 38 = .ok (.iload_n 1, 1) := dk_27 (dk_at dksX6_stoodBy_1 15 rfl rfl)
theorem dX6_stoodBy_39 : decode cX6_stoodBy 39 = .ok (.iload_n 2, 1) := dk_28 (dk_at dksX6_stoodBy_1 16 rfl rfl)
theorem dX6_stoodBy_40 : decode cX6_stoodBy 40 = .ok (.if_icmp .eq 11, 3) := dk_159 0 11 (dk_at dksX6_stoodBy_1 17 rfl rfl)
theorem dX6_stoodBy_43 : decode cX6_stoodBy 43 = .ok (.iload_n 3, 1) := dk_29 (dk_at dksX6_stoodBy_1 20 rfl rfl)
theorem dX6_stoodBy_44 : decode cX6_stoodBy 44 = .ok (.ifCond .eq 7, 3) := dk_153 0 7 (dk_at dksX6_stoodBy_1 21 rfl rfl)
theorem dX6_stoodBy_47 : decode cX6_stoodBy 47 = .ok (.iconst 1, 1) := dk_4 (dk_at dksX6_stoodBy_2 0 rfl rfl)
theorem dX6_stoodBy_48 : decode cX6_stoodBy 48 = .ok (.goto 4, 3) := dk_167 0 4 (dk_at dksX6_stoodBy_2 1 rfl rfl)
theorem dX6_stoodBy_51 : decode cX6_stoodBy 51 = .ok (.iconst 0, 1) := dk_3 (dk_at dksX6_stoodBy_2 4 rfl rfl)
theorem dX6_stoodBy_52 : decode cX6_stoodBy 52 = .ok (.ireturn, 1) := dk_172 (dk_at dksX6_stoodBy_2 5 rfl rfl)
abbrev cX6_stoodAt : ByteArray := prog_2_method_10_code
def yX6_stoodAt : MethodName := ⟨RX6, "stoodAt", "(III)Z"⟩
def dkwX6_stoodAt_3 : List UInt8 := [54, 6, 132, 7, 1, 167, 255, 224, 21, 6, 172]
abbrev dktX6_stoodAt_3 : List UInt8 := dkwX6_stoodAt_3 ++ []
def dkwX6_stoodAt_2 : List UInt8 := [162, 0, 31, 21, 6, 153, 0, 17, 42, 29, 21, 7, 182, 0, 59, 156, 0, 7, 4, 167, 0, 4, 3]
abbrev dktX6_stoodAt_2 : List UInt8 := dkwX6_stoodAt_2 ++ dktX6_stoodAt_3
def dkwX6_stoodAt_1 : List UInt8 := [28, 29, 182, 0, 47, 184, 0, 56, 54, 5, 4, 54, 6, 21, 4, 4, 96, 54, 7, 21, 7, 21, 5]
abbrev dktX6_stoodAt_1 : List UInt8 := dkwX6_stoodAt_1 ++ dktX6_stoodAt_2
def dkwX6_stoodAt_0 : List UInt8 := [42, 27, 29, 182, 0, 47, 42, 28, 29, 182, 0, 47, 184, 0, 51, 54, 4, 42, 27, 29, 182, 0, 47, 42]
abbrev dktX6_stoodAt_0 : List UInt8 := dkwX6_stoodAt_0 ++ dktX6_stoodAt_1
theorem dksX6_stoodAt_0 : cX6_stoodAt.data.toList.drop 0 = dktX6_stoodAt_0 := by decide +kernel
theorem dksX6_stoodAt_1 : cX6_stoodAt.data.toList.drop 24 = dktX6_stoodAt_1 := dk_seg dksX6_stoodAt_0 24 rfl rfl
theorem dksX6_stoodAt_2 : cX6_stoodAt.data.toList.drop 47 = dktX6_stoodAt_2 := dk_seg dksX6_stoodAt_1 23 rfl rfl
theorem dksX6_stoodAt_3 : cX6_stoodAt.data.toList.drop 70 = dktX6_stoodAt_3 := dk_seg dksX6_stoodAt_2 23 rfl rfl
theorem dX6_stoodAt_0 : decode cX6_stoodAt 0 = .ok (.aload_n 0, 1) := dk_42 (dk_at dksX6_stoodAt_0 0 rfl rfl)
theorem dX6_stoodAt_1 : decode cX6_stoodAt 1 = .ok (.iload_n 1, 1) := dk_27 (dk_at dksX6_stoodAt_0 1 rfl rfl)
theorem dX6_stoodAt_2 : decode cX6_stoodAt 2 = .ok (.iload_n 3, 1) := dk_29 (dk_at dksX6_stoodAt_0 2 rfl rfl)
theorem dX6_stoodAt_3 : decode cX6_stoodAt 3 = .ok (.invokevirtual 47, 3) := dk_182 0 47 (dk_at dksX6_stoodAt_0 3 rfl rfl)
theorem dX6_stoodAt_6 : decode cX6_stoodAt 6 = .ok (.aload_n 0, 1) := dk_42 (dk_at dksX6_stoodAt_0 6 rfl rfl)
theorem dX6_stoodAt_7 : decode cX6_stoodAt 7 = .ok (.iload_n 2, 1) := dk_28 (dk_at dksX6_stoodAt_0 7 rfl rfl)
theorem dX6_stoodAt_8 : decode cX6_stoodAt 8 = .ok (.iload_n 3, 1) := dk_29 (dk_at dksX6_stoodAt_0 8 rfl rfl)
theorem dX6_stoodAt_9 : decode cX6_stoodAt 9 = .ok (.invokevirtual 47, 3) := dk_182 0 47 (dk_at dksX6_stoodAt_0 9 rfl rfl)
theorem dX6_stoodAt_12 : decode cX6_stoodAt 12 = .ok (.invokestatic 51, 3) := dk_184 0 51 (dk_at dksX6_stoodAt_0 12 rfl rfl)
theorem dX6_stoodAt_15 : decode cX6_stoodAt 15 = .ok (.istore 4, 2) := dk_54 4 (dk_at dksX6_stoodAt_0 15 rfl rfl)
theorem dX6_stoodAt_17 : decode cX6_stoodAt 17 = .ok (.aload_n 0, 1) := dk_42 (dk_at dksX6_stoodAt_0 17 rfl rfl)
theorem dX6_stoodAt_18 : decode cX6_stoodAt 18 = .ok (.iload_n 1, 1) := dk_27 (dk_at dksX6_stoodAt_0 18 rfl rfl)
theorem dX6_stoodAt_19 : decode cX6_stoodAt 19 = .ok (.iload_n 3, 1) := dk_29 (dk_at dksX6_stoodAt_0 19 rfl rfl)
theorem dX6_stoodAt_20 : decode cX6_stoodAt 20 = .ok (.invokevirtual 47, 3) := dk_182 0 47 (dk_at dksX6_stoodAt_0 20 rfl rfl)
theorem dX6_stoodAt_23 : decode cX6_stoodAt 23 = .ok (.aload_n 0, 1) := dk_42 (dk_at dksX6_stoodAt_0 23 rfl rfl)
theorem dX6_stoodAt_24 : decode cX6_stoodAt 24 = .ok (.iload_n 2, 1) := dk_28 (dk_at dksX6_stoodAt_1 0 rfl rfl)
theorem dX6_stoodAt_25 : decode cX6_stoodAt 25 = .ok (.iload_n 3, 1) := dk_29 (dk_at dksX6_stoodAt_1 1 rfl rfl)
theorem dX6_stoodAt_26 : decode cX6_stoodAt 26 = .ok (.invokevirtual 47, 3) := dk_182 0 47 (dk_at dksX6_stoodAt_1 2 rfl rfl)
theorem dX6_stoodAt_29 : decode cX6_stoodAt 29 = .ok (.invokestatic 56, 3) := dk_184 0 56 (dk_at dksX6_stoodAt_1 5 rfl rfl)
theorem dX6_stoodAt_32 : decode cX6_stoodAt 32 = .ok (.istore 5, 2) := dk_54 5 (dk_at dksX6_stoodAt_1 8 rfl rfl)
theorem dX6_stoodAt_34 : decode cX6_stoodAt 34 = .ok (.iconst 1, 1) := dk_4 (dk_at dksX6_stoodAt_1 10 rfl rfl)
theorem dX6_stoodAt_35 : decode cX6_stoodAt 35 = .ok (.istore 6, 2) := dk_54 6 (dk_at dksX6_stoodAt_1 11 rfl rfl)
theorem dX6_stoodAt_37 : decode cX6_stoodAt 37 = .ok (.iload 4, 2) := dk_21 4 (dk_at dksX6_stoodAt_1 13 rfl rfl)
theorem dX6_stoodAt_39 : decode cX6_stoodAt 39 = .ok (.iconst 1, 1) := dk_4 (dk_at dksX6_stoodAt_1 15 rfl rfl)
theorem dX6_stoodAt_40 : decode cX6_stoodAt 40 = .ok (.iadd, 1) := dk_96 (dk_at dksX6_stoodAt_1 16 rfl rfl)
theorem dX6_stoodAt_41 : decode cX6_stoodAt 41 = .ok (.istore 7, 2) := dk_54 7 (dk_at dksX6_stoodAt_1 17 rfl rfl)
theorem dX6_stoodAt_43 : decode cX6_stoodAt 43 = .ok (.iload 7, 2) := dk_21 7 (dk_at dksX6_stoodAt_1 19 rfl rfl)
theorem dX6_stoodAt_45 : decode cX6_stoodAt 45 = .ok (.iload 5, 2) := dk_21 5 (dk_at dksX6_stoodAt_1 21 rfl rfl)
theorem dX6_stoodAt_47 : decode cX6_stoodAt 47 = .ok (.if_icmp .ge 31, 3) := dk_162 0 31 (dk_at dksX6_stoodAt_2 0 rfl rfl)
theorem dX6_stoodAt_50 : decode cX6_stoodAt 50 = .ok (.iload 6, 2) := dk_21 6 (dk_at dksX6_stoodAt_2 3 rfl rfl)
theorem dX6_stoodAt_52 : decode cX6_stoodAt 52 = .ok (.ifCond .eq 17, 3) := dk_153 0 17 (dk_at dksX6_stoodAt_2 5 rfl rfl)
theorem dX6_stoodAt_55 : decode cX6_stoodAt 55 = .ok (.aload_n 0, 1) := dk_42 (dk_at dksX6_stoodAt_2 8 rfl rfl)
theorem dX6_stoodAt_56 : decode cX6_stoodAt 56 = .ok (.iload_n 3, 1) := dk_29 (dk_at dksX6_stoodAt_2 9 rfl rfl)
theorem dX6_stoodAt_57 : decode cX6_stoodAt 57 = .ok (.iload 7, 2) := dk_21 7 (dk_at dksX6_stoodAt_2 10 rfl rfl)
theorem dX6_stoodAt_59 : decode cX6_stoodAt 59 = .ok (.invokevirtual 59, 3) := dk_182 0 59 (dk_at dksX6_stoodAt_2 12 rfl rfl)
theorem dX6_stoodAt_62 : decode cX6_stoodAt 62 = .ok (.ifCond .ge 7, 3) := dk_156 0 7 (dk_at dksX6_stoodAt_2 15 rfl rfl)
theorem dX6_stoodAt_65 : decode cX6_stoodAt 65 = .ok (.iconst 1, 1) := dk_4 (dk_at dksX6_stoodAt_2 18 rfl rfl)
theorem dX6_stoodAt_66 : decode cX6_stoodAt 66 = .ok (.goto 4, 3) := dk_167 0 4 (dk_at dksX6_stoodAt_2 19 rfl rfl)
theorem dX6_stoodAt_69 : decode cX6_stoodAt 69 = .ok (.iconst 0, 1) := dk_3 (dk_at dksX6_stoodAt_2 22 rfl rfl)
theorem dX6_stoodAt_70 : decode cX6_stoodAt 70 = .ok (.istore 6, 2) := dk_54 6 (dk_at dksX6_stoodAt_3 0 rfl rfl)
theorem dX6_stoodAt_72 : decode cX6_stoodAt 72 = .ok (.iinc 7 1, 3) := dk_132 7 1 (dk_at dksX6_stoodAt_3 2 rfl rfl)
theorem dX6_stoodAt_75 : decode cX6_stoodAt 75 = .ok (.goto (-32), 3) := dk_167 255 224 (dk_at dksX6_stoodAt_3 5 rfl rfl)
theorem dX6_stoodAt_78 : decode cX6_stoodAt 78 = .ok (.iload 6, 2) := dk_21 6 (dk_at dksX6_stoodAt_3 8 rfl rfl)
theorem dX6_stoodAt_80 : decode cX6_stoodAt 80 = .ok (.ireturn, 1) := dk_172 (dk_at dksX6_stoodAt_3 10 rfl rfl)
abbrev cX6_sitSet : ByteArray := prog_2_method_13_code
def yX6_sitSet : MethodName := ⟨RX6, "sitSet", "(I)I"⟩
def dkwX6_sitSet_2 : List UInt8 := [46, 120, 128, 167, 0, 4, 29, 172]
abbrev dktX6_sitSet_2 : List UInt8 := dkwX6_sitSet_2 ++ []
def dkwX6_sitSet_1 : List UInt8 := [62, 28, 155, 0, 28, 28, 42, 180, 0, 38, 4, 100, 162, 0, 18, 29, 4, 42, 180, 0, 21, 28, 4, 96]
abbrev dktX6_sitSet_1 : List UInt8 := dkwX6_sitSet_1 ++ dktX6_sitSet_2
def dkwX6_sitSet_0 : List UInt8 := [42, 27, 182, 0, 70, 61, 28, 158, 0, 16, 4, 42, 180, 0, 21, 28, 4, 100, 46, 120, 167, 0, 4, 3]
abbrev dktX6_sitSet_0 : List UInt8 := dkwX6_sitSet_0 ++ dktX6_sitSet_1
theorem dksX6_sitSet_0 : cX6_sitSet.data.toList.drop 0 = dktX6_sitSet_0 := by decide +kernel
theorem dksX6_sitSet_1 : cX6_sitSet.data.toList.drop 24 = dktX6_sitSet_1 := dk_seg dksX6_sitSet_0 24 rfl rfl
theorem dksX6_sitSet_2 : cX6_sitSet.data.toList.drop 48 = dktX6_sitSet_2 := dk_seg dksX6_sitSet_1 24 rfl rfl
theorem dX6_sitSet_0 : decode cX6_sitSet 0 = .ok (.aload_n 0, 1) := dk_42 (dk_at dksX6_sitSet_0 0 rfl rfl)
theorem dX6_sitSet_1 : decode cX6_sitSet 1 = .ok (.iload_n 1, 1) := dk_27 (dk_at dksX6_sitSet_0 1 rfl rfl)
theorem dX6_sitSet_2 : decode cX6_sitSet 2 = .ok (.invokevirtual 70, 3) := dk_182 0 70 (dk_at dksX6_sitSet_0 2 rfl rfl)
theorem dX6_sitSet_5 : decode cX6_sitSet 5 = .ok (.istore_n 2, 1) := dk_61 (dk_at dksX6_sitSet_0 5 rfl rfl)
theorem dX6_sitSet_6 : decode cX6_sitSet 6 = .ok (.iload_n 2, 1) := dk_28 (dk_at dksX6_sitSet_0 6 rfl rfl)
theorem dX6_sitSet_7 : decode cX6_sitSet 7 = .ok (.ifCond .le 16, 3) := dk_158 0 16 (dk_at dksX6_sitSet_0 7 rfl rfl)
theorem dX6_sitSet_10 : decode cX6_sitSet 10 = .ok (.iconst 1, 1) := dk_4 (dk_at dksX6_sitSet_0 10 rfl rfl)
theorem dX6_sitSet_11 : decode cX6_sitSet 11 = .ok (.aload_n 0, 1) := dk_42 (dk_at dksX6_sitSet_0 11 rfl rfl)
theorem dX6_sitSet_12 : decode cX6_sitSet 12 = .ok (.getfield 21, 3) := dk_180 0 21 (dk_at dksX6_sitSet_0 12 rfl rfl)
theorem dX6_sitSet_15 : decode cX6_sitSet 15 = .ok (.iload_n 2, 1) := dk_28 (dk_at dksX6_sitSet_0 15 rfl rfl)
theorem dX6_sitSet_16 : decode cX6_sitSet 16 = .ok (.iconst 1, 1) := dk_4 (dk_at dksX6_sitSet_0 16 rfl rfl)
theorem dX6_sitSet_17 : decode cX6_sitSet 17 = .ok (.isub, 1) := dk_100 (dk_at dksX6_sitSet_0 17 rfl rfl)
theorem dX6_sitSet_18 : decode cX6_sitSet 18 = .ok (.iaload, 1) := dk_46 (dk_at dksX6_sitSet_0 18 rfl rfl)
theorem dX6_sitSet_19 : decode cX6_sitSet 19 = .ok (.ishl, 1) := dk_120 (dk_at dksX6_sitSet_0 19 rfl rfl)
theorem dX6_sitSet_20 : decode cX6_sitSet 20 = .ok (.goto 4, 3) := dk_167 0 4 (dk_at dksX6_sitSet_0 20 rfl rfl)
theorem dX6_sitSet_23 : decode cX6_sitSet 23 = .ok (.iconst 0, 1) := dk_3 (dk_at dksX6_sitSet_0 23 rfl rfl)
theorem dX6_sitSet_24 : decode cX6_sitSet 24 = .ok (.istore_n 3, 1) := dk_62 (dk_at dksX6_sitSet_1 0 rfl rfl)
theorem dX6_sitSet_25 : decode cX6_sitSet 25 = .ok (.iload_n 2, 1) := dk_28 (dk_at dksX6_sitSet_1 1 rfl rfl)
theorem dX6_sitSet_26 : decode cX6_sitSet 26 = .ok (.ifCond .lt 28, 3) := dk_155 0 28 (dk_at dksX6_sitSet_1 2 rfl rfl)
theorem dX6_sitSet_29 : decode cX6_sitSet 29 = .ok (.iload_n 2, 1) := dk_28 (dk_at dksX6_sitSet_1 5 rfl rfl)
theorem dX6_sitSet_30 : decode cX6_sitSet 30 = .ok (.aload_n 0, 1) := dk_42 (dk_at dksX6_sitSet_1 6 rfl rfl)
theorem dX6_sitSet_31 : decode cX6_sitSet 31 = .ok (.getfield 38, 3) := dk_180 0 38 (dk_at dksX6_sitSet_1 7 rfl rfl)
theorem dX6_sitSet_34 : decode cX6_sitSet 34 = .ok (.iconst 1, 1) := dk_4 (dk_at dksX6_sitSet_1 10 rfl rfl)
theorem dX6_sitSet_35 : decode cX6_sitSet 35 = .ok (.isub, 1) := dk_100 (dk_at dksX6_sitSet_1 11 rfl rfl)
theorem dX6_sitSet_36 : decode cX6_sitSet 36 = .ok (.if_icmp .ge 18, 3) := dk_162 0 18 (dk_at dksX6_sitSet_1 12 rfl rfl)
theorem dX6_sitSet_39 : decode cX6_sitSet 39 = .ok (.iload_n 3, 1) := dk_29 (dk_at dksX6_sitSet_1 15 rfl rfl)
theorem dX6_sitSet_40 : decode cX6_sitSet 40 = .ok (.iconst 1, 1) := dk_4 (dk_at dksX6_sitSet_1 16 rfl rfl)
theorem dX6_sitSet_41 : decode cX6_sitSet 41 = .ok (.aload_n 0, 1) := dk_42 (dk_at dksX6_sitSet_1 17 rfl rfl)
theorem dX6_sitSet_42 : decode cX6_sitSet 42 = .ok (.getfield 21, 3) := dk_180 0 21 (dk_at dksX6_sitSet_1 18 rfl rfl)
theorem dX6_sitSet_45 : decode cX6_sitSet 45 = .ok (.iload_n 2, 1) := dk_28 (dk_at dksX6_sitSet_1 21 rfl rfl)
theorem dX6_sitSet_46 : decode cX6_sitSet 46 = .ok (.iconst 1, 1) := dk_4 (dk_at dksX6_sitSet_1 22 rfl rfl)
theorem dX6_sitSet_47 : decode cX6_sitSet 47 = .ok (.iadd, 1) := dk_96 (dk_at dksX6_sitSet_1 23 rfl rfl)
theorem dX6_sitSet_48 : decode cX6_sitSet 48 = .ok (.iaload, 1) := dk_46 (dk_at dksX6_sitSet_2 0 rfl rfl)
theorem dX6_sitSet_49 : decode cX6_sitSet 49 = .ok (.ishl, 1) := dk_120 (dk_at dksX6_sitSet_2 1 rfl rfl)
theorem dX6_sitSet_50 : decode cX6_sitSet 50 = .ok (.ior, 1) := dk_128 (dk_at dksX6_sitSet_2 2 rfl rfl)
theorem dX6_sitSet_51 : decode cX6_sitSet 51 = .ok (.goto 4, 3) := dk_167 0 4 (dk_at dksX6_sitSet_2 3 rfl rfl)
theorem dX6_sitSet_54 : decode cX6_sitSet 54 = .ok (.iload_n 3, 1) := dk_29 (dk_at dksX6_sitSet_2 6 rfl rfl)
theorem dX6_sitSet_55 : decode cX6_sitSet 55 = .ok (.ireturn, 1) := dk_172 (dk_at dksX6_sitSet_2 7 rfl rfl)
abbrev cX6_isAtEnd : ByteArray := prog_2_method_14_code
def yX6_isAtEnd : MethodName := ⟨RX6, "isAtEnd", "(I)Z"⟩
def dkwX6_isAtEnd_1 : List UInt8 := [3, 172]
abbrev dktX6_isAtEnd_1 : List UInt8 := dkwX6_isAtEnd_1 ++ []
def dkwX6_isAtEnd_0 : List UInt8 := [42, 27, 182, 0, 70, 61, 28, 153, 0, 13, 28, 42, 180, 0, 38, 4, 100, 160, 0, 7, 4, 167, 0, 4]
abbrev dktX6_isAtEnd_0 : List UInt8 := dkwX6_isAtEnd_0 ++ dktX6_isAtEnd_1
theorem dksX6_isAtEnd_0 : cX6_isAtEnd.data.toList.drop 0 = dktX6_isAtEnd_0 := by decide +kernel
theorem dksX6_isAtEnd_1 : cX6_isAtEnd.data.toList.drop 24 = dktX6_isAtEnd_1 := dk_seg dksX6_isAtEnd_0 24 rfl rfl
theorem dX6_isAtEnd_0 : decode cX6_isAtEnd 0 = .ok (.aload_n 0, 1) := dk_42 (dk_at dksX6_isAtEnd_0 0 rfl rfl)
theorem dX6_isAtEnd_1 : decode cX6_isAtEnd 1 = .ok (.iload_n 1, 1) := dk_27 (dk_at dksX6_isAtEnd_0 1 rfl rfl)
theorem dX6_isAtEnd_2 : decode cX6_isAtEnd 2 = .ok (.invokevirtual 70, 3) := dk_182 0 70 (dk_at dksX6_isAtEnd_0 2 rfl rfl)
theorem dX6_isAtEnd_5 : decode cX6_isAtEnd 5 = .ok (.istore_n 2, 1) := dk_61 (dk_at dksX6_isAtEnd_0 5 rfl rfl)
theorem dX6_isAtEnd_6 : decode cX6_isAtEnd 6 = .ok (.iload_n 2, 1) := dk_28 (dk_at dksX6_isAtEnd_0 6 rfl rfl)
theorem dX6_isAtEnd_7 : decode cX6_isAtEnd 7 = .ok (.ifCond .eq 13, 3) := dk_153 0 13 (dk_at dksX6_isAtEnd_0 7 rfl rfl)
theorem dX6_isAtEnd_10 : decode cX6_isAtEnd 10 = .ok (.iload_n 2, 1) := dk_28 (dk_at dksX6_isAtEnd_0 10 rfl rfl)
theorem dX6_isAtEnd_11 : decode cX6_isAtEnd 11 = .ok (.aload_n 0, 1) := dk_42 (dk_at dksX6_isAtEnd_0 11 rfl rfl)
theorem dX6_isAtEnd_12 : decode cX6_isAtEnd 12 = .ok (.getfield 38, 3) := dk_180 0 38 (dk_at dksX6_isAtEnd_0 12 rfl rfl)
theorem dX6_isAtEnd_15 : decode cX6_isAtEnd 15 = .ok (.iconst 1, 1) := dk_4 (dk_at dksX6_isAtEnd_0 15 rfl rfl)
theorem dX6_isAtEnd_16 : decode cX6_isAtEnd 16 = .ok (.isub, 1) := dk_100 (dk_at dksX6_isAtEnd_0 16 rfl rfl)
theorem dX6_isAtEnd_17 : decode cX6_isAtEnd 17 = .ok (.if_icmp .ne 7, 3) := dk_160 0 7 (dk_at dksX6_isAtEnd_0 17 rfl rfl)
theorem dX6_isAtEnd_20 : decode cX6_isAtEnd 20 = .ok (.iconst 1, 1) := dk_4 (dk_at dksX6_isAtEnd_0 20 rfl rfl)
theorem dX6_isAtEnd_21 : decode cX6_isAtEnd 21 = .ok (.goto 4, 3) := dk_167 0 4 (dk_at dksX6_isAtEnd_0 21 rfl rfl)
theorem dX6_isAtEnd_24 : decode cX6_isAtEnd 24 = .ok (.iconst 0, 1) := dk_3 (dk_at dksX6_isAtEnd_1 0 rfl rfl)
theorem dX6_isAtEnd_25 : decode cX6_isAtEnd 25 = .ok (.ireturn, 1) := dk_172 (dk_at dksX6_isAtEnd_1 1 rfl rfl)
abbrev cX6_takeFrom : ByteArray := prog_2_method_2_code
def yX6_takeFrom : MethodName := ⟨RX6, "takeFrom", "(LBattleBench$Bench;)V"⟩
def dkwX6_takeFrom_1 : List UInt8 := [3, 16, 18, 184, 0, 24, 42, 43, 182, 0, 30, 42, 43, 180, 0, 34, 181, 0, 34, 177]
abbrev dktX6_takeFrom_1 : List UInt8 := dkwX6_takeFrom_1 ++ []
def dkwX6_takeFrom_0 : List UInt8 := [43, 180, 0, 9, 3, 42, 180, 0, 9, 3, 16, 6, 184, 0, 24, 43, 180, 0, 15, 3, 42, 180, 0, 15]
abbrev dktX6_takeFrom_0 : List UInt8 := dkwX6_takeFrom_0 ++ dktX6_takeFrom_1
theorem dksX6_takeFrom_0 : cX6_takeFrom.data.toList.drop 0 = dktX6_takeFrom_0 := by decide +kernel
theorem dksX6_takeFrom_1 : cX6_takeFrom.data.toList.drop 24 = dktX6_takeFrom_1 := dk_seg dksX6_takeFrom_0 24 rfl rfl
theorem dX6_takeFrom_0 : decode cX6_takeFrom 0 = .ok (.aload_n 1, 1) := dk_43 (dk_at dksX6_takeFrom_0 0 rfl rfl)
theorem dX6_takeFrom_1 : decode cX6_takeFrom 1 = .ok (.getfield 9, 3) := dk_180 0 9 (dk_at dksX6_takeFrom_0 1 rfl rfl)
theorem dX6_takeFrom_4 : decode cX6_takeFrom 4 = .ok (.iconst 0, 1) := dk_3 (dk_at dksX6_takeFrom_0 4 rfl rfl)
theorem dX6_takeFrom_5 : decode cX6_takeFrom 5 = .ok (.aload_n 0, 1) := dk_42 (dk_at dksX6_takeFrom_0 5 rfl rfl)
theorem dX6_takeFrom_6 : decode cX6_takeFrom 6 = .ok (.getfield 9, 3) := dk_180 0 9 (dk_at dksX6_takeFrom_0 6 rfl rfl)
theorem dX6_takeFrom_9 : decode cX6_takeFrom 9 = .ok (.iconst 0, 1) := dk_3 (dk_at dksX6_takeFrom_0 9 rfl rfl)
theorem dX6_takeFrom_10 : decode cX6_takeFrom 10 = .ok (.bipush 6, 2) := dk_16 6 (dk_at dksX6_takeFrom_0 10 rfl rfl)
theorem dX6_takeFrom_12 : decode cX6_takeFrom 12 = .ok (.invokestatic 24, 3) := dk_184 0 24 (dk_at dksX6_takeFrom_0 12 rfl rfl)
theorem dX6_takeFrom_15 : decode cX6_takeFrom 15 = .ok (.aload_n 1, 1) := dk_43 (dk_at dksX6_takeFrom_0 15 rfl rfl)
theorem dX6_takeFrom_16 : decode cX6_takeFrom 16 = .ok (.getfield 15, 3) := dk_180 0 15 (dk_at dksX6_takeFrom_0 16 rfl rfl)
theorem dX6_takeFrom_19 : decode cX6_takeFrom 19 = .ok (.iconst 0, 1) := dk_3 (dk_at dksX6_takeFrom_0 19 rfl rfl)
theorem dX6_takeFrom_20 : decode cX6_takeFrom 20 = .ok (.aload_n 0, 1) := dk_42 (dk_at dksX6_takeFrom_0 20 rfl rfl)
theorem dX6_takeFrom_21 : decode cX6_takeFrom 21 = .ok (.getfield 15, 3) := dk_180 0 15 (dk_at dksX6_takeFrom_0 21 rfl rfl)
theorem dX6_takeFrom_24 : decode cX6_takeFrom 24 = .ok (.iconst 0, 1) := dk_3 (dk_at dksX6_takeFrom_1 0 rfl rfl)
theorem dX6_takeFrom_25 : decode cX6_takeFrom 25 = .ok (.bipush 18, 2) := dk_16 18 (dk_at dksX6_takeFrom_1 1 rfl rfl)
theorem dX6_takeFrom_27 : decode cX6_takeFrom 27 = .ok (.invokestatic 24, 3) := dk_184 0 24 (dk_at dksX6_takeFrom_1 3 rfl rfl)
theorem dX6_takeFrom_30 : decode cX6_takeFrom 30 = .ok (.aload_n 0, 1) := dk_42 (dk_at dksX6_takeFrom_1 6 rfl rfl)
theorem dX6_takeFrom_31 : decode cX6_takeFrom 31 = .ok (.aload_n 1, 1) := dk_43 (dk_at dksX6_takeFrom_1 7 rfl rfl)
theorem dX6_takeFrom_32 : decode cX6_takeFrom 32 = .ok (.invokevirtual 30, 3) := dk_182 0 30 (dk_at dksX6_takeFrom_1 8 rfl rfl)
theorem dX6_takeFrom_35 : decode cX6_takeFrom 35 = .ok (.aload_n 0, 1) := dk_42 (dk_at dksX6_takeFrom_1 11 rfl rfl)
theorem dX6_takeFrom_36 : decode cX6_takeFrom 36 = .ok (.aload_n 1, 1) := dk_43 (dk_at dksX6_takeFrom_1 12 rfl rfl)
theorem dX6_takeFrom_37 : decode cX6_takeFrom 37 = .ok (.getfield 34, 3) := dk_180 0 34 (dk_at dksX6_takeFrom_1 13 rfl rfl)
theorem dX6_takeFrom_40 : decode cX6_takeFrom 40 = .ok (.putfield 34, 3) := dk_181 0 34 (dk_at dksX6_takeFrom_1 16 rfl rfl)
theorem dX6_takeFrom_43 : decode cX6_takeFrom 43 = .ok (.return_, 1) := dk_177 (dk_at dksX6_takeFrom_1 19 rfl rfl)
abbrev cX6_takeYear : ByteArray := prog_2_method_3_code
def yX6_takeYear : MethodName := ⟨RX6, "takeYear", "(LBattleBench$Bench;)V"⟩
def dkwX6_takeYear_2 : List UInt8 := [180, 0, 44, 181, 0, 44, 177]
abbrev dktX6_takeYear_2 : List UInt8 := dkwX6_takeYear_2 ++ []
def dkwX6_takeYear_1 : List UInt8 := [3, 16, 6, 184, 0, 24, 42, 43, 180, 0, 38, 181, 0, 38, 42, 43, 180, 0, 41, 181, 0, 41, 42, 43]
abbrev dktX6_takeYear_1 : List UInt8 := dkwX6_takeYear_1 ++ dktX6_takeYear_2
def dkwX6_takeYear_0 : List UInt8 := [43, 180, 0, 18, 3, 42, 180, 0, 18, 3, 16, 6, 184, 0, 24, 43, 180, 0, 21, 3, 42, 180, 0, 21]
abbrev dktX6_takeYear_0 : List UInt8 := dkwX6_takeYear_0 ++ dktX6_takeYear_1
theorem dksX6_takeYear_0 : cX6_takeYear.data.toList.drop 0 = dktX6_takeYear_0 := by decide +kernel
theorem dksX6_takeYear_1 : cX6_takeYear.data.toList.drop 24 = dktX6_takeYear_1 := dk_seg dksX6_takeYear_0 24 rfl rfl
theorem dksX6_takeYear_2 : cX6_takeYear.data.toList.drop 48 = dktX6_takeYear_2 := dk_seg dksX6_takeYear_1 24 rfl rfl
theorem dX6_takeYear_0 : decode cX6_takeYear 0 = .ok (.aload_n 1, 1) := dk_43 (dk_at dksX6_takeYear_0 0 rfl rfl)
theorem dX6_takeYear_1 : decode cX6_takeYear 1 = .ok (.getfield 18, 3) := dk_180 0 18 (dk_at dksX6_takeYear_0 1 rfl rfl)
theorem dX6_takeYear_4 : decode cX6_takeYear 4 = .ok (.iconst 0, 1) := dk_3 (dk_at dksX6_takeYear_0 4 rfl rfl)
theorem dX6_takeYear_5 : decode cX6_takeYear 5 = .ok (.aload_n 0, 1) := dk_42 (dk_at dksX6_takeYear_0 5 rfl rfl)
theorem dX6_takeYear_6 : decode cX6_takeYear 6 = .ok (.getfield 18, 3) := dk_180 0 18 (dk_at dksX6_takeYear_0 6 rfl rfl)
theorem dX6_takeYear_9 : decode cX6_takeYear 9 = .ok (.iconst 0, 1) := dk_3 (dk_at dksX6_takeYear_0 9 rfl rfl)
theorem dX6_takeYear_10 : decode cX6_takeYear 10 = .ok (.bipush 6, 2) := dk_16 6 (dk_at dksX6_takeYear_0 10 rfl rfl)
theorem dX6_takeYear_12 : decode cX6_takeYear 12 = .ok (.invokestatic 24, 3) := dk_184 0 24 (dk_at dksX6_takeYear_0 12 rfl rfl)
theorem dX6_takeYear_15 : decode cX6_takeYear 15 = .ok (.aload_n 1, 1) := dk_43 (dk_at dksX6_takeYear_0 15 rfl rfl)
theorem dX6_takeYear_16 : decode cX6_takeYear 16 = .ok (.getfield 21, 3) := dk_180 0 21 (dk_at dksX6_takeYear_0 16 rfl rfl)
theorem dX6_takeYear_19 : decode cX6_takeYear 19 = .ok (.iconst 0, 1) := dk_3 (dk_at dksX6_takeYear_0 19 rfl rfl)
theorem dX6_takeYear_20 : decode cX6_takeYear 20 = .ok (.aload_n 0, 1) := dk_42 (dk_at dksX6_takeYear_0 20 rfl rfl)
theorem dX6_takeYear_21 : decode cX6_takeYear 21 = .ok (.getfield 21, 3) := dk_180 0 21 (dk_at dksX6_takeYear_0 21 rfl rfl)
theorem dX6_takeYear_24 : decode cX6_takeYear 24 = .ok (.iconst 0, 1) := dk_3 (dk_at dksX6_takeYear_1 0 rfl rfl)
theorem dX6_takeYear_25 : decode cX6_takeYear 25 = .ok (.bipush 6, 2) := dk_16 6 (dk_at dksX6_takeYear_1 1 rfl rfl)
theorem dX6_takeYear_27 : decode cX6_takeYear 27 = .ok (.invokestatic 24, 3) := dk_184 0 24 (dk_at dksX6_takeYear_1 3 rfl rfl)
theorem dX6_takeYear_30 : decode cX6_takeYear 30 = .ok (.aload_n 0, 1) := dk_42 (dk_at dksX6_takeYear_1 6 rfl rfl)
theorem dX6_takeYear_31 : decode cX6_takeYear 31 = .ok (.aload_n 1, 1) := dk_43 (dk_at dksX6_takeYear_1 7 rfl rfl)
theorem dX6_takeYear_32 : decode cX6_takeYear 32 = .ok (.getfield 38, 3) := dk_180 0 38 (dk_at dksX6_takeYear_1 8 rfl rfl)
theorem dX6_takeYear_35 : decode cX6_takeYear 35 = .ok (.putfield 38, 3) := dk_181 0 38 (dk_at dksX6_takeYear_1 11 rfl rfl)
theorem dX6_takeYear_38 : decode cX6_takeYear 38 = .ok (.aload_n 0, 1) := dk_42 (dk_at dksX6_takeYear_1 14 rfl rfl)
theorem dX6_takeYear_39 : decode cX6_takeYear 39 = .ok (.aload_n 1, 1) := dk_43 (dk_at dksX6_takeYear_1 15 rfl rfl)
theorem dX6_takeYear_40 : decode cX6_takeYear 40 = .ok (.getfield 41, 3) := dk_180 0 41 (dk_at dksX6_takeYear_1 16 rfl rfl)
theorem dX6_takeYear_43 : decode cX6_takeYear 43 = .ok (.putfield 41, 3) := dk_181 0 41 (dk_at dksX6_takeYear_1 19 rfl rfl)
theorem dX6_takeYear_46 : decode cX6_takeYear 46 = .ok (.aload_n 0, 1) := dk_42 (dk_at dksX6_takeYear_1 22 rfl rfl)
theorem dX6_takeYear_47 : decode cX6_takeYear 47 = .ok (.aload_n 1, 1) := dk_43 (dk_at dksX6_takeYear_1 23 rfl rfl)
theorem dX6_takeYear_48 : decode cX6_takeYear 48 = .ok (.getfield 44, 3) := dk_180 0 44 (dk_at dksX6_takeYear_2 0 rfl rfl)
theorem dX6_takeYear_51 : decode cX6_takeYear 51 = .ok (.putfield 44, 3) := dk_181 0 44 (dk_at dksX6_takeYear_2 3 rfl rfl)
theorem dX6_takeYear_54 : decode cX6_takeYear 54 = .ok (.return_, 1) := dk_177 (dk_at dksX6_takeYear_2 6 rfl rfl)
abbrev cX6_begin : ByteArray := prog_2_method_4_code
def yX6_begin : MethodName := ⟨RX6, "begin", "()V"⟩
def dkwX6_begin_0 : List UInt8 := [42, 3, 181, 0, 34, 42, 3, 181, 0, 38, 42, 3, 181, 0, 41, 177]
abbrev dktX6_begin_0 : List UInt8 := dkwX6_begin_0 ++ []
theorem dksX6_begin_0 : cX6_begin.data.toList.drop 0 = dktX6_begin_0 := by decide +kernel
theorem dX6_begin_0 : decode cX6_begin 0 = .ok (.aload_n 0, 1) := dk_42 (dk_at dksX6_begin_0 0 rfl rfl)
theorem dX6_begin_1 : decode cX6_begin 1 = .ok (.iconst 0, 1) := dk_3 (dk_at dksX6_begin_0 1 rfl rfl)
theorem dX6_begin_2 : decode cX6_begin 2 = .ok (.putfield 34, 3) := dk_181 0 34 (dk_at dksX6_begin_0 2 rfl rfl)
theorem dX6_begin_5 : decode cX6_begin 5 = .ok (.aload_n 0, 1) := dk_42 (dk_at dksX6_begin_0 5 rfl rfl)
theorem dX6_begin_6 : decode cX6_begin 6 = .ok (.iconst 0, 1) := dk_3 (dk_at dksX6_begin_0 6 rfl rfl)
theorem dX6_begin_7 : decode cX6_begin 7 = .ok (.putfield 38, 3) := dk_181 0 38 (dk_at dksX6_begin_0 7 rfl rfl)
theorem dX6_begin_10 : decode cX6_begin 10 = .ok (.aload_n 0, 1) := dk_42 (dk_at dksX6_begin_0 10 rfl rfl)
theorem dX6_begin_11 : decode cX6_begin 11 = .ok (.iconst 0, 1) := dk_3 (dk_at dksX6_begin_0 11 rfl rfl)
theorem dX6_begin_12 : decode cX6_begin 12 = .ok (.putfield 41, 3) := dk_181 0 41 (dk_at dksX6_begin_0 12 rfl rfl)
theorem dX6_begin_15 : decode cX6_begin 15 = .ok (.return_, 1) := dk_177 (dk_at dksX6_begin_0 15 rfl rfl)
abbrev cX6_onBench : ByteArray := prog_2_method_8_code
def yX6_onBench : MethodName := ⟨RX6, "onBench", "()I"⟩
def dkwX6_onBench_1 : List UInt8 := [132, 2, 1, 167, 255, 234, 27, 172]
abbrev dktX6_onBench_1 : List UInt8 := dkwX6_onBench_1 ++ []
def dkwX6_onBench_0 : List UInt8 := [3, 60, 3, 61, 28, 42, 180, 0, 38, 162, 0, 20, 27, 4, 42, 180, 0, 21, 28, 46, 120, 128, 60]
abbrev dktX6_onBench_0 : List UInt8 := dkwX6_onBench_0 ++ dktX6_onBench_1
theorem dksX6_onBench_0 : cX6_onBench.data.toList.drop 0 = dktX6_onBench_0 := by decide +kernel
theorem dksX6_onBench_1 : cX6_onBench.data.toList.drop 23 = dktX6_onBench_1 := dk_seg dksX6_onBench_0 23 rfl rfl
theorem dX6_onBench_0 : decode cX6_onBench 0 = .ok (.iconst 0, 1) := dk_3 (dk_at dksX6_onBench_0 0 rfl rfl)
theorem dX6_onBench_1 : decode cX6_onBench 1 = .ok (.istore_n 1, 1) := dk_60 (dk_at dksX6_onBench_0 1 rfl rfl)
theorem dX6_onBench_2 : decode cX6_onBench 2 = .ok (.iconst 0, 1) := dk_3 (dk_at dksX6_onBench_0 2 rfl rfl)
theorem dX6_onBench_3 : decode cX6_onBench 3 = .ok (.istore_n 2, 1) := dk_61 (dk_at dksX6_onBench_0 3 rfl rfl)
theorem dX6_onBench_4 : decode cX6_onBench 4 = .ok (.iload_n 2, 1) := dk_28 (dk_at dksX6_onBench_0 4 rfl rfl)
theorem dX6_onBench_5 : decode cX6_onBench 5 = .ok (.aload_n 0, 1) := dk_42 (dk_at dksX6_onBench_0 5 rfl rfl)
theorem dX6_onBench_6 : decode cX6_onBench 6 = .ok (.getfield 38, 3) := dk_180 0 38 (dk_at dksX6_onBench_0 6 rfl rfl)
theorem dX6_onBench_9 : decode cX6_onBench 9 = .ok (.if_icmp .ge 20, 3) := dk_162 0 20 (dk_at dksX6_onBench_0 9 rfl rfl)
theorem dX6_onBench_12 : decode cX6_onBench 12 = .ok (.iload_n 1, 1) := dk_27 (dk_at dksX6_onBench_0 12 rfl rfl)
theorem dX6_onBench_13 : decode cX6_onBench 13 = .ok (.iconst 1, 1) := dk_4 (dk_at dksX6_onBench_0 13 rfl rfl)
theorem dX6_onBench_14 : decode cX6_onBench 14 = .ok (.aload_n 0, 1) := dk_42 (dk_at dksX6_onBench_0 14 rfl rfl)
theorem dX6_onBench_15 : decode cX6_onBench 15 = .ok (.getfield 21, 3) := dk_180 0 21 (dk_at dksX6_onBench_0 15 rfl rfl)
theorem dX6_onBench_18 : decode cX6_onBench 18 = .ok (.iload_n 2, 1) := dk_28 (dk_at dksX6_onBench_0 18 rfl rfl)
theorem dX6_onBench_19 : decode cX6_onBench 19 = .ok (.iaload, 1) := dk_46 (dk_at dksX6_onBench_0 19 rfl rfl)
theorem dX6_onBench_20 : decode cX6_onBench 20 = .ok (.ishl, 1) := dk_120 (dk_at dksX6_onBench_0 20 rfl rfl)
theorem dX6_onBench_21 : decode cX6_onBench 21 = .ok (.ior, 1) := dk_128 (dk_at dksX6_onBench_0 21 rfl rfl)
theorem dX6_onBench_22 : decode cX6_onBench 22 = .ok (.istore_n 1, 1) := dk_60 (dk_at dksX6_onBench_0 22 rfl rfl)
theorem dX6_onBench_23 : decode cX6_onBench 23 = .ok (.iinc 2 1, 3) := dk_132 2 1 (dk_at dksX6_onBench_1 0 rfl rfl)
theorem dX6_onBench_26 : decode cX6_onBench 26 = .ok (.goto (-22), 3) := dk_167 255 234 (dk_at dksX6_onBench_1 3 rfl rfl)
theorem dX6_onBench_29 : decode cX6_onBench 29 = .ok (.iload_n 1, 1) := dk_27 (dk_at dksX6_onBench_1 6 rfl rfl)
theorem dX6_onBench_30 : decode cX6_onBench 30 = .ok (.ireturn, 1) := dk_172 (dk_at dksX6_onBench_1 7 rfl rfl)
abbrev cX6_closeUp : ByteArray := prog_2_method_16_code
def yX6_closeUp : MethodName := ⟨RX6, "closeUp", "()V"⟩
def dkwX6_closeUp_2 : List UInt8 := [42, 27, 181, 0, 38, 177]
abbrev dktX6_closeUp_2 : List UInt8 := dkwX6_closeUp_2 ++ []
def dkwX6_closeUp_1 : List UInt8 := [158, 0, 18, 42, 180, 0, 21, 27, 42, 180, 0, 21, 28, 46, 79, 132, 1, 1, 132, 2, 1, 167, 255, 216]
abbrev dktX6_closeUp_1 : List UInt8 := dkwX6_closeUp_1 ++ dktX6_closeUp_2
def dkwX6_closeUp_0 : List UInt8 := [3, 60, 3, 61, 28, 42, 180, 0, 38, 162, 0, 38, 42, 180, 0, 18, 42, 180, 0, 21, 28, 46, 46]
abbrev dktX6_closeUp_0 : List UInt8 := dkwX6_closeUp_0 ++ dktX6_closeUp_1
theorem dksX6_closeUp_0 : cX6_closeUp.data.toList.drop 0 = dktX6_closeUp_0 := by decide +kernel
theorem dksX6_closeUp_1 : cX6_closeUp.data.toList.drop 23 = dktX6_closeUp_1 := dk_seg dksX6_closeUp_0 23 rfl rfl
theorem dksX6_closeUp_2 : cX6_closeUp.data.toList.drop 47 = dktX6_closeUp_2 := dk_seg dksX6_closeUp_1 24 rfl rfl
theorem dX6_closeUp_0 : decode cX6_closeUp 0 = .ok (.iconst 0, 1) := dk_3 (dk_at dksX6_closeUp_0 0 rfl rfl)
theorem dX6_closeUp_1 : decode cX6_closeUp 1 = .ok (.istore_n 1, 1) := dk_60 (dk_at dksX6_closeUp_0 1 rfl rfl)
theorem dX6_closeUp_2 : decode cX6_closeUp 2 = .ok (.iconst 0, 1) := dk_3 (dk_at dksX6_closeUp_0 2 rfl rfl)
theorem dX6_closeUp_3 : decode cX6_closeUp 3 = .ok (.istore_n 2, 1) := dk_61 (dk_at dksX6_closeUp_0 3 rfl rfl)
theorem dX6_closeUp_4 : decode cX6_closeUp 4 = .ok (.iload_n 2, 1) := dk_28 (dk_at dksX6_closeUp_0 4 rfl rfl)
theorem dX6_closeUp_5 : decode cX6_closeUp 5 = .ok (.aload_n 0, 1) := dk_42 (dk_at dksX6_closeUp_0 5 rfl rfl)
theorem dX6_closeUp_6 : decode cX6_closeUp 6 = .ok (.getfield 38, 3) := dk_180 0 38 (dk_at dksX6_closeUp_0 6 rfl rfl)
theorem dX6_closeUp_9 : decode cX6_closeUp 9 = .ok (.if_icmp .ge 38, 3) := dk_162 0 38 (dk_at dksX6_closeUp_0 9 rfl rfl)
theorem dX6_closeUp_12 : decode cX6_closeUp 12 = .ok (.aload_n 0, 1) := dk_42 (dk_at dksX6_closeUp_0 12 rfl rfl)
theorem dX6_closeUp_13 : decode cX6_closeUp 13 = .ok (.getfield 18, 3) := dk_180 0 18 (dk_at dksX6_closeUp_0 13 rfl rfl)
theorem dX6_closeUp_16 : decode cX6_closeUp 16 = .ok (.aload_n 0, 1) := dk_42 (dk_at dksX6_closeUp_0 16 rfl rfl)
theorem dX6_closeUp_17 : decode cX6_closeUp 17 = .ok (.getfield 21, 3) := dk_180 0 21 (dk_at dksX6_closeUp_0 17 rfl rfl)
theorem dX6_closeUp_20 : decode cX6_closeUp 20 = .ok (.iload_n 2, 1) := dk_28 (dk_at dksX6_closeUp_0 20 rfl rfl)
theorem dX6_closeUp_21 : decode cX6_closeUp 21 = .ok (.iaload, 1) := dk_46 (dk_at dksX6_closeUp_0 21 rfl rfl)
theorem dX6_closeUp_22 : decode cX6_closeUp 22 = .ok (.iaload, 1) := dk_46 (dk_at dksX6_closeUp_0 22 rfl rfl)
theorem dX6_closeUp_23 : decode cX6_closeUp 23 = .ok (.ifCond .le 18, 3) := dk_158 0 18 (dk_at dksX6_closeUp_1 0 rfl rfl)
theorem dX6_closeUp_26 : decode cX6_closeUp 26 = .ok (.aload_n 0, 1) := dk_42 (dk_at dksX6_closeUp_1 3 rfl rfl)
theorem dX6_closeUp_27 : decode cX6_closeUp 27 = .ok (.getfield 21, 3) := dk_180 0 21 (dk_at dksX6_closeUp_1 4 rfl rfl)
theorem dX6_closeUp_30 : decode cX6_closeUp 30 = .ok (.iload_n 1, 1) := dk_27 (dk_at dksX6_closeUp_1 7 rfl rfl)
theorem dX6_closeUp_31 : decode cX6_closeUp 31 = .ok (.aload_n 0, 1) := dk_42 (dk_at dksX6_closeUp_1 8 rfl rfl)
theorem dX6_closeUp_32 : decode cX6_closeUp 32 = .ok (.getfield 21, 3) := dk_180 0 21 (dk_at dksX6_closeUp_1 9 rfl rfl)
theorem dX6_closeUp_35 : decode cX6_closeUp 35 = .ok (.iload_n 2, 1) := dk_28 (dk_at dksX6_closeUp_1 12 rfl rfl)
theorem dX6_closeUp_36 : decode cX6_closeUp 36 = .ok (.iaload, 1) := dk_46 (dk_at dksX6_closeUp_1 13 rfl rfl)
theorem dX6_closeUp_37 : decode cX6_closeUp 37 = .ok (.iastore, 1) := dk_79 (dk_at dksX6_closeUp_1 14 rfl rfl)
theorem dX6_closeUp_38 : decode cX6_closeUp 38 = .ok (.iinc 1 1, 3) := dk_132 1 1 (dk_at dksX6_closeUp_1 15 rfl rfl)
theorem dX6_closeUp_41 : decode cX6_closeUp 41 = .ok (.iinc 2 1, 3) := dk_132 2 1 (dk_at dksX6_closeUp_1 18 rfl rfl)
theorem dX6_closeUp_44 : decode cX6_closeUp 44 = .ok (.goto (-40), 3) := dk_167 255 216 (dk_at dksX6_closeUp_1 21 rfl rfl)
theorem dX6_closeUp_47 : decode cX6_closeUp 47 = .ok (.aload_n 0, 1) := dk_42 (dk_at dksX6_closeUp_2 0 rfl rfl)
theorem dX6_closeUp_48 : decode cX6_closeUp 48 = .ok (.iload_n 1, 1) := dk_27 (dk_at dksX6_closeUp_2 1 rfl rfl)
theorem dX6_closeUp_49 : decode cX6_closeUp 49 = .ok (.putfield 38, 3) := dk_181 0 38 (dk_at dksX6_closeUp_2 2 rfl rfl)
theorem dX6_closeUp_52 : decode cX6_closeUp 52 = .ok (.return_, 1) := dk_177 (dk_at dksX6_closeUp_2 5 rfl rfl)
abbrev cX6_change : ByteArray := prog_2_method_15_code
def yX6_change : MethodName := ⟨RX6, "change", "(I)V"⟩
def dkwX6_change_1 : List UInt8 := [180, 0, 21, 27, 4, 96, 28, 79, 177]
abbrev dktX6_change_1 : List UInt8 := dkwX6_change_1 ++ []
def dkwX6_change_0 : List UInt8 := [42, 180, 0, 21, 27, 46, 61, 42, 180, 0, 21, 27, 42, 180, 0, 21, 27, 4, 96, 46, 79, 42]
abbrev dktX6_change_0 : List UInt8 := dkwX6_change_0 ++ dktX6_change_1
theorem dksX6_change_0 : cX6_change.data.toList.drop 0 = dktX6_change_0 := by decide +kernel
theorem dksX6_change_1 : cX6_change.data.toList.drop 22 = dktX6_change_1 := dk_seg dksX6_change_0 22 rfl rfl
theorem dX6_change_0 : decode cX6_change 0 = .ok (.aload_n 0, 1) := dk_42 (dk_at dksX6_change_0 0 rfl rfl)
theorem dX6_change_1 : decode cX6_change 1 = .ok (.getfield 21, 3) := dk_180 0 21 (dk_at dksX6_change_0 1 rfl rfl)
theorem dX6_change_4 : decode cX6_change 4 = .ok (.iload_n 1, 1) := dk_27 (dk_at dksX6_change_0 4 rfl rfl)
theorem dX6_change_5 : decode cX6_change 5 = .ok (.iaload, 1) := dk_46 (dk_at dksX6_change_0 5 rfl rfl)
theorem dX6_change_6 : decode cX6_change 6 = .ok (.istore_n 2, 1) := dk_61 (dk_at dksX6_change_0 6 rfl rfl)
theorem dX6_change_7 : decode cX6_change 7 = .ok (.aload_n 0, 1) := dk_42 (dk_at dksX6_change_0 7 rfl rfl)
theorem dX6_change_8 : decode cX6_change 8 = .ok (.getfield 21, 3) := dk_180 0 21 (dk_at dksX6_change_0 8 rfl rfl)
theorem dX6_change_11 : decode cX6_change 11 = .ok (.iload_n 1, 1) := dk_27 (dk_at dksX6_change_0 11 rfl rfl)
theorem dX6_change_12 : decode cX6_change 12 = .ok (.aload_n 0, 1) := dk_42 (dk_at dksX6_change_0 12 rfl rfl)
theorem dX6_change_13 : decode cX6_change 13 = .ok (.getfield 21, 3) := dk_180 0 21 (dk_at dksX6_change_0 13 rfl rfl)
theorem dX6_change_16 : decode cX6_change 16 = .ok (.iload_n 1, 1) := dk_27 (dk_at dksX6_change_0 16 rfl rfl)
theorem dX6_change_17 : decode cX6_change 17 = .ok (.iconst 1, 1) := dk_4 (dk_at dksX6_change_0 17 rfl rfl)
theorem dX6_change_18 : decode cX6_change 18 = .ok (.iadd, 1) := dk_96 (dk_at dksX6_change_0 18 rfl rfl)
theorem dX6_change_19 : decode cX6_change 19 = .ok (.iaload, 1) := dk_46 (dk_at dksX6_change_0 19 rfl rfl)
theorem dX6_change_20 : decode cX6_change 20 = .ok (.iastore, 1) := dk_79 (dk_at dksX6_change_0 20 rfl rfl)
theorem dX6_change_21 : decode cX6_change 21 = .ok (.aload_n 0, 1) := dk_42 (dk_at dksX6_change_0 21 rfl rfl)
theorem dX6_change_22 : decode cX6_change 22 = .ok (.getfield 21, 3) := dk_180 0 21 (dk_at dksX6_change_1 0 rfl rfl)
theorem dX6_change_25 : decode cX6_change 25 = .ok (.iload_n 1, 1) := dk_27 (dk_at dksX6_change_1 3 rfl rfl)
theorem dX6_change_26 : decode cX6_change 26 = .ok (.iconst 1, 1) := dk_4 (dk_at dksX6_change_1 4 rfl rfl)
theorem dX6_change_27 : decode cX6_change 27 = .ok (.iadd, 1) := dk_96 (dk_at dksX6_change_1 5 rfl rfl)
theorem dX6_change_28 : decode cX6_change 28 = .ok (.iload_n 2, 1) := dk_28 (dk_at dksX6_change_1 6 rfl rfl)
theorem dX6_change_29 : decode cX6_change 29 = .ok (.iastore, 1) := dk_79 (dk_at dksX6_change_1 7 rfl rfl)
theorem dX6_change_30 : decode cX6_change 30 = .ok (.return_, 1) := dk_177 (dk_at dksX6_change_1 8 rfl rfl)
theorem q60 : (Jvm.Cond.initialized "BattleBench$Bench") ∈ lw_all := lw_g (lw_at lw_m1 7 rfl) rfl
theorem q122 : (Jvm.Cond.instantiable "BattleBench$Bench" (8 : Nat)) ∈ lw_all := lw_g (lw_at lw_m1 69 rfl) rfl
theorem q124 : (Jvm.Cond.instanceMethod ({ cls := "BattleBench$Bench", name := "<init>", desc := "()V" } : Jvm.MethodName)) ∈ lw_all := lw_g (lw_at lw_m1 71 rfl) rfl
theorem q125 : (Jvm.Cond.code ({ cls := "BattleBench$Bench", name := "<init>", desc := "()V" } : Jvm.MethodName) prog_2_method_1_code (1 : Nat) (Option.none : Option Jvm.ClassFile.FieldType)) ∈ lw_all := lw_g (lw_at lw_m1 72 rfl) rfl
theorem q126 : (Jvm.Cond.methodLink "BattleBench$Bench" (3 : Nat) ({ cls := "java/lang/Object", name := "<init>", desc := "()V" } : Jvm.MethodName)) ∈ lw_all := lw_g (lw_at lw_m1 73 rfl) rfl
theorem q127 : (Jvm.Cond.fieldLink "BattleBench$Bench" (9 : Nat) "BattleBench$Bench" "ofKind" "[I") ∈ lw_all := lw_g (lw_at lw_m1 74 rfl) rfl
theorem q129 : (Jvm.Cond.fieldLink "BattleBench$Bench" (15 : Nat) "BattleBench$Bench" "places" "[I") ∈ lw_all := lw_g (lw_at lw_m1 76 rfl) rfl
theorem q131 : (Jvm.Cond.fieldLink "BattleBench$Bench" (18 : Nat) "BattleBench$Bench" "lives" "[I") ∈ lw_all := lw_g (lw_at lw_m1 78 rfl) rfl
theorem q133 : (Jvm.Cond.fieldLink "BattleBench$Bench" (21 : Nat) "BattleBench$Bench" "seats" "[I") ∈ lw_all := lw_g (lw_at lw_m1 80 rfl) rfl
theorem q135 : (Jvm.Cond.fieldLink "BattleBench$Bench" (34 : Nat) "BattleBench$Bench" "men" "I") ∈ lw_all := lw_g (lw_at lw_m1 82 rfl) rfl
theorem q137 : (Jvm.Cond.fieldLink "BattleBench$Bench" (38 : Nat) "BattleBench$Bench" "many" "I") ∈ lw_all := lw_g (lw_at lw_m1 84 rfl) rfl
theorem q140 : (Jvm.Cond.fieldLink "BattleBench$Bench" (41 : Nat) "BattleBench$Bench" "year" "I") ∈ lw_all := lw_g (lw_at lw_m1 87 rfl) rfl
theorem q142 : (Jvm.Cond.fieldLink "BattleBench$Bench" (44 : Nat) "BattleBench$Bench" "draw" "I") ∈ lw_all := lw_g (lw_at lw_m1 89 rfl) rfl
theorem q144 : (Jvm.Cond.laysFinal "BattleBench$Bench" "BattleBench$Bench" "ofKind" "[I") ∈ lw_all := lw_g (lw_at lw_m1 91 rfl) rfl
theorem q145 : (Jvm.Cond.soleField "BattleBench$Bench" "ofKind") ∈ lw_all := lw_g (lw_at lw_m1 92 rfl) rfl
theorem q146 : (Jvm.Cond.laysFinal "BattleBench$Bench" "BattleBench$Bench" "places" "[I") ∈ lw_all := lw_g (lw_at lw_m1 93 rfl) rfl
theorem q147 : (Jvm.Cond.soleField "BattleBench$Bench" "places") ∈ lw_all := lw_g (lw_at lw_m1 94 rfl) rfl
theorem q148 : (Jvm.Cond.laysFinal "BattleBench$Bench" "BattleBench$Bench" "lives" "[I") ∈ lw_all := lw_g (lw_at lw_m1 95 rfl) rfl
theorem q149 : (Jvm.Cond.soleField "BattleBench$Bench" "lives") ∈ lw_all := lw_g (lw_at lw_m1 96 rfl) rfl
theorem q150 : (Jvm.Cond.laysFinal "BattleBench$Bench" "BattleBench$Bench" "seats" "[I") ∈ lw_all := lw_g (lw_at lw_m1 97 rfl) rfl
theorem q151 : (Jvm.Cond.soleField "BattleBench$Bench" "seats") ∈ lw_all := lw_g (lw_at lw_m1 98 rfl) rfl
theorem q152 : (Jvm.Cond.lays "BattleBench$Bench" "BattleBench$Bench" "men" "I") ∈ lw_all := lw_g (lw_at lw_m1 99 rfl) rfl
theorem q153 : (Jvm.Cond.soleField "BattleBench$Bench" "men") ∈ lw_all := lw_g (lw_at lw_m1 100 rfl) rfl
theorem q154 : (Jvm.Cond.lays "BattleBench$Bench" "BattleBench$Bench" "many" "I") ∈ lw_all := lw_g (lw_at lw_m1 101 rfl) rfl
theorem q155 : (Jvm.Cond.soleField "BattleBench$Bench" "many") ∈ lw_all := lw_g (lw_at lw_m1 102 rfl) rfl
theorem q156 : (Jvm.Cond.lays "BattleBench$Bench" "BattleBench$Bench" "year" "I") ∈ lw_all := lw_g (lw_at lw_m1 103 rfl) rfl
theorem q157 : (Jvm.Cond.soleField "BattleBench$Bench" "year") ∈ lw_all := lw_g (lw_at lw_m1 104 rfl) rfl
theorem q158 : (Jvm.Cond.lays "BattleBench$Bench" "BattleBench$Bench" "draw" "I") ∈ lw_all := lw_g (lw_at lw_m1 105 rfl) rfl
theorem q159 : (Jvm.Cond.soleField "BattleBench$Bench" "draw") ∈ lw_all := lw_g (lw_at lw_m1 106 rfl) rfl
theorem q160 : (Jvm.Cond.superclass "BattleBench$Bench" "java/lang/Object") ∈ lw_all := lw_g (lw_at lw_m1 107 rfl) rfl
theorem q321 : (Jvm.Cond.instanceMethod ({ cls := "BattleBench$Bench", name := "manAt", desc := "(II)I" } : Jvm.MethodName)) ∈ lw_all := lw_g (lw_at lw_m2 28 rfl) rfl
theorem q322 : (Jvm.Cond.selects "BattleBench$Bench" ({ cls := "BattleBench$Bench", name := "manAt", desc := "(II)I" } : Jvm.MethodName) ({ cls := "BattleBench$Bench", name := "manAt", desc := "(II)I" } : Jvm.MethodName)) ∈ lw_all := lw_g (lw_at lw_m2 29 rfl) rfl
theorem q323 : (Jvm.Cond.code ({ cls := "BattleBench$Bench", name := "manAt", desc := "(II)I" } : Jvm.MethodName) prog_2_method_6_code (4 : Nat) (Option.some Jvm.ClassFile.FieldType.int)) ∈ lw_all := lw_g (lw_at lw_m2 30 rfl) rfl
theorem q324 : (Jvm.Cond.methodLink "BattleBench$Bench" (47 : Nat) ({ cls := "BattleBench$Bench", name := "placeOf", desc := "(II)I" } : Jvm.MethodName)) ∈ lw_all := lw_g (lw_at lw_m2 31 rfl) rfl
theorem q325 : (Jvm.Cond.instanceMethod ({ cls := "BattleBench$Bench", name := "placeOf", desc := "(II)I" } : Jvm.MethodName)) ∈ lw_all := lw_g (lw_at lw_m2 32 rfl) rfl
theorem q326 : (Jvm.Cond.selects "BattleBench$Bench" ({ cls := "BattleBench$Bench", name := "placeOf", desc := "(II)I" } : Jvm.MethodName) ({ cls := "BattleBench$Bench", name := "placeOf", desc := "(II)I" } : Jvm.MethodName)) ∈ lw_all := lw_g (lw_at lw_m2 33 rfl) rfl
theorem q327 : (Jvm.Cond.code ({ cls := "BattleBench$Bench", name := "placeOf", desc := "(II)I" } : Jvm.MethodName) prog_2_method_5_code (3 : Nat) (Option.some Jvm.ClassFile.FieldType.int)) ∈ lw_all := lw_g (lw_at lw_m2 34 rfl) rfl
theorem q329 : (Jvm.Cond.instanceMethod ({ cls := "BattleBench$Bench", name := "add", desc := "(II)V" } : Jvm.MethodName)) ∈ lw_all := lw_g (lw_at lw_m2 36 rfl) rfl
theorem q330 : (Jvm.Cond.selects "BattleBench$Bench" ({ cls := "BattleBench$Bench", name := "add", desc := "(II)V" } : Jvm.MethodName) ({ cls := "BattleBench$Bench", name := "add", desc := "(II)V" } : Jvm.MethodName)) ∈ lw_all := lw_g (lw_at lw_m2 37 rfl) rfl
theorem q331 : (Jvm.Cond.code ({ cls := "BattleBench$Bench", name := "add", desc := "(II)V" } : Jvm.MethodName) prog_2_method_7_code (3 : Nat) (Option.none : Option Jvm.ClassFile.FieldType)) ∈ lw_all := lw_g (lw_at lw_m2 38 rfl) rfl
theorem q351 : (Jvm.Cond.instanceMethod ({ cls := "BattleBench$Bench", name := "seatOf", desc := "(I)I" } : Jvm.MethodName)) ∈ lw_all := lw_g (lw_at lw_m2 58 rfl) rfl
theorem q352 : (Jvm.Cond.selects "BattleBench$Bench" ({ cls := "BattleBench$Bench", name := "seatOf", desc := "(I)I" } : Jvm.MethodName) ({ cls := "BattleBench$Bench", name := "seatOf", desc := "(I)I" } : Jvm.MethodName)) ∈ lw_all := lw_g (lw_at lw_m2 59 rfl) rfl
theorem q353 : (Jvm.Cond.code ({ cls := "BattleBench$Bench", name := "seatOf", desc := "(I)I" } : Jvm.MethodName) prog_2_method_9_code (3 : Nat) (Option.some Jvm.ClassFile.FieldType.int)) ∈ lw_all := lw_g (lw_at lw_m2 60 rfl) rfl
theorem q355 : (Jvm.Cond.instanceMethod ({ cls := "BattleBench$Bench", name := "stoodSet", desc := "(I)I" } : Jvm.MethodName)) ∈ lw_all := lw_g (lw_at lw_m2 62 rfl) rfl
theorem q356 : (Jvm.Cond.selects "BattleBench$Bench" ({ cls := "BattleBench$Bench", name := "stoodSet", desc := "(I)I" } : Jvm.MethodName) ({ cls := "BattleBench$Bench", name := "stoodSet", desc := "(I)I" } : Jvm.MethodName)) ∈ lw_all := lw_g (lw_at lw_m2 63 rfl) rfl
theorem q357 : (Jvm.Cond.code ({ cls := "BattleBench$Bench", name := "stoodSet", desc := "(I)I" } : Jvm.MethodName) prog_2_method_12_code (4 : Nat) (Option.some Jvm.ClassFile.FieldType.int)) ∈ lw_all := lw_g (lw_at lw_m2 64 rfl) rfl
theorem q358 : (Jvm.Cond.methodLink "BattleBench$Bench" (66 : Nat) ({ cls := "BattleBench$Bench", name := "stoodBy", desc := "(II)Z" } : Jvm.MethodName)) ∈ lw_all := lw_g (lw_at lw_m2 65 rfl) rfl
theorem q359 : (Jvm.Cond.instanceMethod ({ cls := "BattleBench$Bench", name := "stoodBy", desc := "(II)Z" } : Jvm.MethodName)) ∈ lw_all := lw_g (lw_at lw_m2 66 rfl) rfl
theorem q360 : (Jvm.Cond.selects "BattleBench$Bench" ({ cls := "BattleBench$Bench", name := "stoodBy", desc := "(II)Z" } : Jvm.MethodName) ({ cls := "BattleBench$Bench", name := "stoodBy", desc := "(II)Z" } : Jvm.MethodName)) ∈ lw_all := lw_g (lw_at lw_m2 67 rfl) rfl
theorem q361 : (Jvm.Cond.code ({ cls := "BattleBench$Bench", name := "stoodBy", desc := "(II)Z" } : Jvm.MethodName) prog_2_method_11_code (5 : Nat) (Option.some Jvm.ClassFile.FieldType.boolean)) ∈ lw_all := lw_g (lw_at lw_m2 68 rfl) rfl
theorem q362 : (Jvm.Cond.methodLink "BattleBench$Bench" (62 : Nat) ({ cls := "BattleBench$Bench", name := "stoodAt", desc := "(III)Z" } : Jvm.MethodName)) ∈ lw_all := lw_g (lw_at lw_m2 69 rfl) rfl
theorem q363 : (Jvm.Cond.instanceMethod ({ cls := "BattleBench$Bench", name := "stoodAt", desc := "(III)Z" } : Jvm.MethodName)) ∈ lw_all := lw_g (lw_at lw_m2 70 rfl) rfl
theorem q364 : (Jvm.Cond.selects "BattleBench$Bench" ({ cls := "BattleBench$Bench", name := "stoodAt", desc := "(III)Z" } : Jvm.MethodName) ({ cls := "BattleBench$Bench", name := "stoodAt", desc := "(III)Z" } : Jvm.MethodName)) ∈ lw_all := lw_g (lw_at lw_m2 71 rfl) rfl
theorem q365 : (Jvm.Cond.code ({ cls := "BattleBench$Bench", name := "stoodAt", desc := "(III)Z" } : Jvm.MethodName) prog_2_method_10_code (8 : Nat) (Option.some Jvm.ClassFile.FieldType.boolean)) ∈ lw_all := lw_g (lw_at lw_m2 72 rfl) rfl
theorem q366 : (Jvm.Cond.methodLink "BattleBench$Bench" (51 : Nat) ({ cls := "java/lang/Math", name := "min", desc := "(II)I" } : Jvm.MethodName)) ∈ lw_all := lw_g (lw_at lw_m2 73 rfl) rfl
theorem q369 : (Jvm.Cond.methodLink "BattleBench$Bench" (56 : Nat) ({ cls := "java/lang/Math", name := "max", desc := "(II)I" } : Jvm.MethodName)) ∈ lw_all := lw_g (lw_at lw_m2 76 rfl) rfl
theorem q372 : (Jvm.Cond.methodLink "BattleBench$Bench" (59 : Nat) ({ cls := "BattleBench$Bench", name := "manAt", desc := "(II)I" } : Jvm.MethodName)) ∈ lw_all := lw_g (lw_at lw_m2 79 rfl) rfl
theorem q374 : (Jvm.Cond.instanceMethod ({ cls := "BattleBench$Bench", name := "sitSet", desc := "(I)I" } : Jvm.MethodName)) ∈ lw_all := lw_g (lw_at lw_m2 81 rfl) rfl
theorem q375 : (Jvm.Cond.selects "BattleBench$Bench" ({ cls := "BattleBench$Bench", name := "sitSet", desc := "(I)I" } : Jvm.MethodName) ({ cls := "BattleBench$Bench", name := "sitSet", desc := "(I)I" } : Jvm.MethodName)) ∈ lw_all := lw_g (lw_at lw_m2 82 rfl) rfl
theorem q376 : (Jvm.Cond.code ({ cls := "BattleBench$Bench", name := "sitSet", desc := "(I)I" } : Jvm.MethodName) prog_2_method_13_code (4 : Nat) (Option.some Jvm.ClassFile.FieldType.int)) ∈ lw_all := lw_g (lw_at lw_m2 83 rfl) rfl
theorem q377 : (Jvm.Cond.methodLink "BattleBench$Bench" (70 : Nat) ({ cls := "BattleBench$Bench", name := "seatOf", desc := "(I)I" } : Jvm.MethodName)) ∈ lw_all := lw_g (lw_at lw_m2 84 rfl) rfl
theorem q394 : (Jvm.Cond.instanceMethod ({ cls := "BattleBench$Bench", name := "isAtEnd", desc := "(I)Z" } : Jvm.MethodName)) ∈ lw_all := lw_g (lw_at lw_m2 101 rfl) rfl
theorem q395 : (Jvm.Cond.selects "BattleBench$Bench" ({ cls := "BattleBench$Bench", name := "isAtEnd", desc := "(I)Z" } : Jvm.MethodName) ({ cls := "BattleBench$Bench", name := "isAtEnd", desc := "(I)Z" } : Jvm.MethodName)) ∈ lw_all := lw_g (lw_at lw_m2 102 rfl) rfl
theorem q396 : (Jvm.Cond.code ({ cls := "BattleBench$Bench", name := "isAtEnd", desc := "(I)Z" } : Jvm.MethodName) prog_2_method_14_code (3 : Nat) (Option.some Jvm.ClassFile.FieldType.boolean)) ∈ lw_all := lw_g (lw_at lw_m2 103 rfl) rfl
theorem q435 : (Jvm.Cond.instanceMethod ({ cls := "BattleBench$Bench", name := "takeFrom", desc := "(LBattleBench$Bench;)V" } : Jvm.MethodName)) ∈ lw_all := lw_g (lw_at lw_m2 142 rfl) rfl
theorem q436 : (Jvm.Cond.selects "BattleBench$Bench" ({ cls := "BattleBench$Bench", name := "takeFrom", desc := "(LBattleBench$Bench;)V" } : Jvm.MethodName) ({ cls := "BattleBench$Bench", name := "takeFrom", desc := "(LBattleBench$Bench;)V" } : Jvm.MethodName)) ∈ lw_all := lw_g (lw_at lw_m2 143 rfl) rfl
theorem q437 : (Jvm.Cond.code ({ cls := "BattleBench$Bench", name := "takeFrom", desc := "(LBattleBench$Bench;)V" } : Jvm.MethodName) prog_2_method_2_code (2 : Nat) (Option.none : Option Jvm.ClassFile.FieldType)) ∈ lw_all := lw_g (lw_at lw_m2 144 rfl) rfl
theorem q438 : (Jvm.Cond.methodLink "BattleBench$Bench" (24 : Nat) ({ cls := "java/lang/System", name := "arraycopy", desc := "(Ljava/lang/Object;ILjava/lang/Object;II)V" } : Jvm.MethodName)) ∈ lw_all := lw_g (lw_at lw_m2 145 rfl) rfl
theorem q441 : (Jvm.Cond.methodLink "BattleBench$Bench" (30 : Nat) ({ cls := "BattleBench$Bench", name := "takeYear", desc := "(LBattleBench$Bench;)V" } : Jvm.MethodName)) ∈ lw_all := lw_g (lw_at lw_m2 148 rfl) rfl
theorem q442 : (Jvm.Cond.instanceMethod ({ cls := "BattleBench$Bench", name := "takeYear", desc := "(LBattleBench$Bench;)V" } : Jvm.MethodName)) ∈ lw_all := lw_g (lw_at lw_m2 149 rfl) rfl
theorem q443 : (Jvm.Cond.selects "BattleBench$Bench" ({ cls := "BattleBench$Bench", name := "takeYear", desc := "(LBattleBench$Bench;)V" } : Jvm.MethodName) ({ cls := "BattleBench$Bench", name := "takeYear", desc := "(LBattleBench$Bench;)V" } : Jvm.MethodName)) ∈ lw_all := lw_g (lw_at lw_m2 150 rfl) rfl
theorem q444 : (Jvm.Cond.code ({ cls := "BattleBench$Bench", name := "takeYear", desc := "(LBattleBench$Bench;)V" } : Jvm.MethodName) prog_2_method_3_code (2 : Nat) (Option.none : Option Jvm.ClassFile.FieldType)) ∈ lw_all := lw_g (lw_at lw_m2 151 rfl) rfl
theorem q446 : (Jvm.Cond.instanceMethod ({ cls := "BattleBench$Bench", name := "begin", desc := "()V" } : Jvm.MethodName)) ∈ lw_all := lw_g (lw_at lw_m2 153 rfl) rfl
theorem q447 : (Jvm.Cond.selects "BattleBench$Bench" ({ cls := "BattleBench$Bench", name := "begin", desc := "()V" } : Jvm.MethodName) ({ cls := "BattleBench$Bench", name := "begin", desc := "()V" } : Jvm.MethodName)) ∈ lw_all := lw_g (lw_at lw_m2 154 rfl) rfl
theorem q448 : (Jvm.Cond.code ({ cls := "BattleBench$Bench", name := "begin", desc := "()V" } : Jvm.MethodName) prog_2_method_4_code (1 : Nat) (Option.none : Option Jvm.ClassFile.FieldType)) ∈ lw_all := lw_g (lw_at lw_m2 155 rfl) rfl
theorem q487 : (Jvm.Cond.instanceMethod ({ cls := "BattleBench$Bench", name := "onBench", desc := "()I" } : Jvm.MethodName)) ∈ lw_all := lw_g (lw_at lw_m2 194 rfl) rfl
theorem q488 : (Jvm.Cond.selects "BattleBench$Bench" ({ cls := "BattleBench$Bench", name := "onBench", desc := "()I" } : Jvm.MethodName) ({ cls := "BattleBench$Bench", name := "onBench", desc := "()I" } : Jvm.MethodName)) ∈ lw_all := lw_g (lw_at lw_m2 195 rfl) rfl
theorem q489 : (Jvm.Cond.code ({ cls := "BattleBench$Bench", name := "onBench", desc := "()I" } : Jvm.MethodName) prog_2_method_8_code (3 : Nat) (Option.some Jvm.ClassFile.FieldType.int)) ∈ lw_all := lw_g (lw_at lw_m2 196 rfl) rfl
theorem q520 : (Jvm.Cond.instanceMethod ({ cls := "BattleBench$Bench", name := "closeUp", desc := "()V" } : Jvm.MethodName)) ∈ lw_all := lw_g (lw_at lw_m2 227 rfl) rfl
theorem q521 : (Jvm.Cond.selects "BattleBench$Bench" ({ cls := "BattleBench$Bench", name := "closeUp", desc := "()V" } : Jvm.MethodName) ({ cls := "BattleBench$Bench", name := "closeUp", desc := "()V" } : Jvm.MethodName)) ∈ lw_all := lw_g (lw_at lw_m2 228 rfl) rfl
theorem q522 : (Jvm.Cond.code ({ cls := "BattleBench$Bench", name := "closeUp", desc := "()V" } : Jvm.MethodName) prog_2_method_16_code (3 : Nat) (Option.none : Option Jvm.ClassFile.FieldType)) ∈ lw_all := lw_g (lw_at lw_m2 229 rfl) rfl
theorem q528 : (Jvm.Cond.instanceMethod ({ cls := "BattleBench$Bench", name := "change", desc := "(I)V" } : Jvm.MethodName)) ∈ lw_all := lw_g (lw_at lw_m2 235 rfl) rfl
theorem q529 : (Jvm.Cond.selects "BattleBench$Bench" ({ cls := "BattleBench$Bench", name := "change", desc := "(I)V" } : Jvm.MethodName) ({ cls := "BattleBench$Bench", name := "change", desc := "(I)V" } : Jvm.MethodName)) ∈ lw_all := lw_g (lw_at lw_m2 236 rfl) rfl
theorem q530 : (Jvm.Cond.code ({ cls := "BattleBench$Bench", name := "change", desc := "(I)V" } : Jvm.MethodName) prog_2_method_15_code (3 : Nat) (Option.none : Option Jvm.ClassFile.FieldType)) ∈ lw_all := lw_g (lw_at lw_m2 237 rfl) rfl
theorem in_X6 : ∀ w ∈ wsX60, w ∈ lw_all := lw_in wsX60 [144, 146, 148, 150, 152, 154, 156, 158] (by decide +kernel) (by decide +kernel)
