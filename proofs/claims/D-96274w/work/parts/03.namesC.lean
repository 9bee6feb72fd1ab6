/-! WithoutThem -/
set_option maxRecDepth 100000
def RX0 : String := "WithoutThem"
def TX0 : u_T := fun k => match k with
  | 0 => ("WithoutThem", "kinds", "[LWithoutThem$Kind;", true)
  | 1 => ("WithoutThem", "seekers", "[LWithoutThem$Seeker;", true)
  | 2 => ("WithoutThem", "house", "LWithoutThem$House;", true)
  | 3 => ("WithoutThem", "mind", "LWithoutThem$House;", true)
  | 4 => ("WithoutThem", "imaged", "LWithoutThem$House;", true)
  | 5 => ("WithoutThem", "hasImage", "Z", false)
  | 6 => ("WithoutThem", "row", "[B", true)
  | 7 => ("WithoutThem", "rowMany", "I", false)
  | 8 => ("WithoutThem", "letters", "[C", true)
  | 9 => ("WithoutThem", "letterMany", "I", false)
  | 10 => ("WithoutThem", "refused", "[I", true)
  | 11 => ("WithoutThem", "fewest", "[I", true)
  | 12 => ("WithoutThem", "means", "[J", true)
  | 13 => ("WithoutThem", "wayMany", "[I", true)
  | 14 => ("WithoutThem", "toGo", "[I", true)
  | 15 => ("WithoutThem", "order", "[I", true)
  | 16 => ("WithoutThem", "taken", "I", false)
  | _ => ("WithoutThem", "minutes", "I", false)
def tyX0 : Nat → FieldType := fun k => match k with
  | 0 => .array (.object "WithoutThem$Kind")
  | 1 => .array (.object "WithoutThem$Seeker")
  | 2 => .object "WithoutThem$House"
  | 3 => .object "WithoutThem$House"
  | 4 => .object "WithoutThem$House"
  | 5 => .boolean
  | 6 => .array .byte
  | 7 => .int
  | 8 => .array .char
  | 9 => .int
  | 10 => .array .int
  | 11 => .array .int
  | 12 => .array .long
  | 13 => .array .int
  | 14 => .array .int
  | 15 => .array .int
  | 16 => .int
  | _ => .int
abbrev wsX00 : List Cond := u_ws RX0 TX0 18
set_option maxRecDepth 100000 in
theorem nmX0 : ∀ a, a < 18 → ∀ b, b < 18 → a ≠ b → (TX0 a).2.1 ≠ (TX0 b).2.1 := by decide +kernel
set_option maxRecDepth 100000 in
theorem tyX0_ok : ∀ k, k < 18 → parseFieldDescriptor (TX0 k).2.2.1 = some (tyX0 k) := by decide +kernel
abbrev cX0_init : ByteArray := prog_1_method_9_code
def yX0_init : MethodName := ⟨RX0, "<init>", "()V"⟩
def dkwX0_init_10 : List UInt8 := [16, 10, 188, 10, 181, 0, 112, 177]
abbrev dktX0_init_10 : List UInt8 := dkwX0_init_10 ++ []
def dkwX0_init_9 : List UInt8 := [188, 11, 181, 0, 102, 42, 17, 4, 0, 188, 10, 181, 0, 106, 42, 17, 4, 0, 188, 10, 181, 0, 109, 42]
abbrev dktX0_init_9 : List UInt8 := dkwX0_init_9 ++ dktX0_init_10
def dkwX0_init_8 : List UInt8 := [181, 0, 91, 42, 16, 7, 188, 10, 181, 0, 95, 42, 17, 4, 0, 188, 10, 181, 0, 99, 42, 17, 4, 0]
abbrev dktX0_init_8 : List UInt8 := dkwX0_init_8 ++ dktX0_init_9
def dkwX0_init_7 : List UInt8 := [187, 0, 74, 89, 183, 0, 76, 181, 0, 84, 42, 16, 12, 188, 8, 181, 0, 87, 42, 16, 96, 188, 5]
abbrev dktX0_init_7 : List UInt8 := dkwX0_init_7 ++ dktX0_init_8
def dkwX0_init_6 : List UInt8 := [42, 187, 0, 74, 89, 183, 0, 76, 181, 0, 77, 42, 187, 0, 74, 89, 183, 0, 76, 181, 0, 81, 42]
abbrev dktX0_init_6 : List UInt8 := dkwX0_init_6 ++ dktX0_init_7
def dkwX0_init_5 : List UInt8 := [83, 89, 7, 187, 0, 64, 89, 183, 0, 66, 83, 89, 8, 187, 0, 67, 89, 183, 0, 69, 83, 181, 0, 70]
abbrev dktX0_init_5 : List UInt8 := dkwX0_init_5 ++ dktX0_init_6
def dkwX0_init_4 : List UInt8 := [89, 183, 0, 57, 83, 89, 5, 187, 0, 58, 89, 183, 0, 60, 83, 89, 6, 187, 0, 61, 89, 183, 0, 63]
abbrev dktX0_init_4 : List UInt8 := dkwX0_init_4 ++ dktX0_init_5
def dkwX0_init_3 : List UInt8 := [181, 0, 46, 42, 16, 6, 189, 0, 50, 89, 3, 187, 0, 52, 89, 183, 0, 54, 83, 89, 4, 187, 0, 55]
abbrev dktX0_init_3 : List UInt8 := dkwX0_init_3 ++ dktX0_init_4
def dkwX0_init_2 : List UInt8 := [183, 0, 39, 83, 89, 7, 187, 0, 40, 89, 183, 0, 42, 83, 89, 8, 187, 0, 43, 89, 183, 0, 45, 83]
abbrev dktX0_init_2 : List UInt8 := dkwX0_init_2 ++ dktX0_init_3
def dkwX0_init_1 : List UInt8 := [187, 0, 31, 89, 183, 0, 33, 83, 89, 5, 187, 0, 34, 89, 183, 0, 36, 83, 89, 6, 187, 0, 37, 89]
abbrev dktX0_init_1 : List UInt8 := dkwX0_init_1 ++ dktX0_init_2
def dkwX0_init_0 : List UInt8 := [42, 183, 0, 21, 42, 16, 6, 189, 0, 26, 89, 3, 187, 0, 28, 89, 183, 0, 30, 83, 89, 4]
abbrev dktX0_init_0 : List UInt8 := dkwX0_init_0 ++ dktX0_init_1
theorem dksX0_init_0 : cX0_init.data.toList.drop 0 = dktX0_init_0 := by decide +kernel
theorem dksX0_init_1 : cX0_init.data.toList.drop 22 = dktX0_init_1 := dk_seg dksX0_init_0 22 rfl rfl
theorem dksX0_init_2 : cX0_init.data.toList.drop 46 = dktX0_init_2 := dk_seg dksX0_init_1 24 rfl rfl
theorem dksX0_init_3 : cX0_init.data.toList.drop 70 = dktX0_init_3 := dk_seg dksX0_init_2 24 rfl rfl
theorem dksX0_init_4 : cX0_init.data.toList.drop 94 = dktX0_init_4 := dk_seg dksX0_init_3 24 rfl rfl
theorem dksX0_init_5 : cX0_init.data.toList.drop 118 = dktX0_init_5 := dk_seg dksX0_init_4 24 rfl rfl
theorem dksX0_init_6 : cX0_init.data.toList.drop 142 = dktX0_init_6 := dk_seg dksX0_init_5 24 rfl rfl
theorem dksX0_init_7 : cX0_init.data.toList.drop 165 = dktX0_init_7 := dk_seg dksX0_init_6 23 rfl rfl
theorem dksX0_init_8 : cX0_init.data.toList.drop 188 = dktX0_init_8 := dk_seg dksX0_init_7 23 rfl rfl
theorem dksX0_init_9 : cX0_init.data.toList.drop 212 = dktX0_init_9 := dk_seg dksX0_init_8 24 rfl rfl
theorem dksX0_init_10 : cX0_init.data.toList.drop 236 = dktX0_init_10 := dk_seg dksX0_init_9 24 rfl rfl
theorem dX0_init_0 : decode cX0_init 0 = .ok (.aload_n 0, 1) := dk_42 (dk_at dksX0_init_0 0 rfl rfl)
theorem dX0_init_1 : decode cX0_init 1 = .ok (.invokespecial 21, 3) := dk_183 0 21 (dk_at dksX0_init_0 1 rfl rfl)
theorem dX0_init_4 : decode cX0_init 4 = .ok (.aload_n 0, 1) := dk_42 (dk_at dksX0_init_0 4 rfl rfl)
theorem dX0_init_5 : decode cX0_init 5 = .ok (.bipush 6, 2) := dk_16 6 (dk_at dksX0_init_0 5 rfl rfl)
theorem dX0_init_7 : decode cX0_init 7 = .ok (.anewarray 26, 3) := dk_189 0 26 (dk_at dksX0_init_0 7 rfl rfl)
theorem dX0_init_10 : decode cX0_init 10 = .ok (.dup, 1) := dk_89 (dk_at dksX0_init_0 10 rfl rfl)
theorem dX0_init_11 : decode cX0_init 11 = .ok (.iconst 0, 1) := dk_3 (dk_at dksX0_init_0 11 rfl rfl)
theorem dX0_init_12 : decode cX0_init 12 = .ok (.new 28, 3) := dk_187 0 28 (dk_at dksX0_init_0 12 rfl rfl)
theorem dX0_init_15 : decode cX0_init 15 = .ok (.dup, 1) := dk_89 (dk_at dksX0_init_0 15 rfl rfl)
theorem dX0_init_16 : decode cX0_init 16 = .ok (.invokespecial 30, 3) := dk_183 0 30 (dk_at dksX0_init_0 16 rfl rfl)
theorem dX0_init_19 : decode cX0_init 19 = .ok (.aastore, 1) := dk_83 (dk_at dksX0_init_0 19 rfl rfl)
theorem dX0_init_20 : decode cX0_init 20 = .ok (.dup, 1) := dk_89 (dk_at dksX0_init_0 20 rfl rfl)
theorem dX0_init_21 : decode cX0_init 21 = .ok (.iconst 1, 1) := dk_4 (dk_at dksX0_init_0 21 rfl rfl)
theorem dX0_init_22 : decode cX0_init 22 = .ok (.new 31, 3) := dk_187 0 31 (dk_at dksX0_init_1 0 rfl rfl)
theorem dX0_init_25 : decode cX0_init 25 = .ok (.dup, 1) := dk_89 (dk_at dksX0_init_1 3 rfl rfl)
theorem dX0_init_26 : decode cX0_init 26 = .ok (.invokespecial 33, 3) := dk_183 0 33 (dk_at dksX0_init_1 4 rfl rfl)
theorem dX0_init_29 : decode cX0_init 29 = .ok (.aastore, 1) := dk_83 (dk_at dksX0_init_1 7 rfl rfl)
theorem dX0_init_30 : decode cX0_init 30 = .ok (.dup, 1) := dk_89 (dk_at dksX0_init_1 8 rfl rfl)
theorem dX0_init_31 : decode cX0_init 31 = .ok (.iconst 2, 1) := dk_5 (dk_at dksX0_init_1 9 rfl rfl)
theorem dX0_init_32 : decode cX0_init 32 = .ok (.new 34, 3) := dk_187 0 34 (dk_at dksX0_init_1 10 rfl rfl)
theorem dX0_init_35 : decode cX0_init 35 = .ok (.dup, 1) := dk_89 (dk_at dksX0_init_1 13 rfl rfl)
theorem dX0_init_36 : decode cX0_init 36 = .ok (.invokespecial 36, 3) := dk_183 0 36 (dk_at dksX0_init_1 14 rfl rfl)
theorem dX0_init_39 : decode cX0_init 39 = .ok (.aastore, 1) := dk_83 (dk_at dksX0_init_1 17 rfl rfl)
theorem dX0_init_40 : decode cX0_init 40 = .ok (.dup, 1) := dk_89 (dk_at dksX0_init_1 18 rfl rfl)
theorem dX0_init_41 : decode cX0_init 41 = .ok (.iconst 3, 1) := dk_6 (dk_at dksX0_init_1 19 rfl rfl)
theorem dX0_init_42 : decode cX0_init 42 = .ok (.new 37, 3) := dk_187 0 37 (dk_at dksX0_init_1 20 rfl rfl)
theorem dX0_init_45 : decode cX0_init 45 = .ok (.dup, 1) := dk_89 (dk_at dksX0_init_1 23 rfl rfl)
theorem dX0_init_46 : decode cX0_init 46 = .ok (.invokespecial 39, 3) := dk_183 0 39 (dk_at dksX0_init_2 0 rfl rfl)
theorem dX0_init_49 : decode cX0_init 49 = .ok (.aastore, 1) := dk_83 (dk_at dksX0_init_2 3 rfl rfl)
theorem dX0_init_50 : decode cX0_init 50 = .ok (.dup, 1) := dk_89 (dk_at dksX0_init_2 4 rfl rfl)
theorem dX0_init_51 : decode cX0_init 51 = .ok (.iconst 4, 1) := dk_7 (dk_at dksX0_init_2 5 rfl rfl)
theorem dX0_init_52 : decode cX0_init 52 = .ok (.new 40, 3) := dk_187 0 40 (dk_at dksX0_init_2 6 rfl rfl)
theorem dX0_init_55 : decode cX0_init 55 = .ok (.dup, 1) := dk_89 (dk_at dksX0_init_2 9 rfl rfl)
theorem dX0_init_56 : decode cX0_init 56 = .ok (.invokespecial 42, 3) := dk_183 0 42 (dk_at dksX0_init_2 10 rfl rfl)
theorem dX0_init_59 : decode cX0_init 59 = .ok (.aastore, 1) := dk_83 (dk_at dksX0_init_2 13 rfl rfl)
theorem dX0_init_60 : decode cX0_init 60 = .ok (.dup, 1) := dk_89 (dk_at dksX0_init_2 14 rfl rfl)
theorem dX0_init_61 : decode cX0_init 61 = .ok (.iconst 5, 1) := dk_8 (dk_at dksX0_init_2 15 rfl rfl)
theorem dX0_init_62 : decode cX0_init 62 = .ok (.new 43, 3) := dk_187 0 43 (dk_at dksX0_init_2 16 rfl rfl)
theorem dX0_init_65 : decode cX0_init 65 = .ok (.dup, 1) := dk_89 (dk_at dksX0_init_2 19 rfl rfl)
theorem dX0_init_66 : decode cX0_init 66 = .ok (.invokespecial 45, 3) := dk_183 0 45 (dk_at dksX0_init_2 20 rfl rfl)
theorem dX0_init_69 : decode cX0_init 69 = .ok (.aastore, 1) := dk_83 (dk_at dksX0_init_2 23 rfl rfl)
theorem dX0_init_70 : decode cX0_init 70 = .ok (.putfield 46, 3) := dk_181 0 46 (dk_at dksX0_init_3 0 rfl rfl)
theorem dX0_init_73 : decode cX0_init 73 = .ok (.aload_n 0, 1) := dk_42 (dk_at dksX0_init_3 3 rfl rfl)
theorem dX0_init_74 : decode cX0_init 74 = .ok (.bipush 6, 2) := dk_16 6 (dk_at dksX0_init_3 4 rfl rfl)
theorem dX0_init_76 : decode cX0_init 76 = .ok (.anewarray 50, 3) := dk_189 0 50 (dk_at dksX0_init_3 6 rfl rfl)
theorem dX0_init_79 : decode cX0_init 79 = .ok (.dup, 1) := dk_89 (dk_at dksX0_init_3 9 rfl rfl)
theorem dX0_init_80 : decode cX0_init 80 = .ok (.iconst 0, 1) := dk_3 (dk_at dksX0_init_3 10 rfl rfl)
theorem dX0_init_81 : decode cX0_init 81 = .ok (.new 52, 3) := dk_187 0 52 (dk_at dksX0_init_3 11 rfl rfl)
theorem dX0_init_84 : decode cX0_init 84 = .ok (.dup, 1) := dk_89 (dk_at dksX0_init_3 14 rfl rfl)
theorem dX0_init_85 : decode cX0_init 85 = .ok (.invokespecial 54, 3) := dk_183 0 54 (dk_at dksX0_init_3 15 rfl rfl)
theorem dX0_init_88 : decode cX0_init 88 = .ok (.aastore, 1) := dk_83 (dk_at dksX0_init_3 18 rfl rfl)
theorem dX0_init_89 : decode cX0_init 89 = .ok (.dup, 1) := dk_89 (dk_at dksX0_init_3 19 rfl rfl)
theorem dX0_init_90 : decode cX0_init 90 = .ok (.iconst 1, 1) := dk_4 (dk_at dksX0_init_3 20 rfl rfl)
theorem dX0_init_91 : decode cX0_init 91 = .ok (.new 55, 3) := dk_187 0 55 (dk_at dksX0_init_3 21 rfl rfl)
theorem dX0_init_94 : decode cX0_init 94 = .ok (.dup, 1) := dk_89 (dk_at dksX0_init_4 0 rfl rfl)
theorem dX0_init_95 : decode cX0_init 95 = .ok (.invokespecial 57, 3) := dk_183 0 57 (dk_at dksX0_init_4 1 rfl rfl)
theorem dX0_init_98 : decode cX0_init 98 = .ok (.aastore, 1) := dk_83 (dk_at dksX0_init_4 4 rfl rfl)
theorem dX0_init_99 : decode cX0_init 99 = .ok (.dup, 1) := dk_89 (dk_at dksX0_init_4 5 rfl rfl)
theorem dX0_init_100 : decode cX0_init 100 = .ok (.iconst 2, 1) := dk_5 (dk_at dksX0_init_4 6 rfl rfl)
theorem dX0_init_101 : decode cX0_init 101 = .ok (.new 58, 3) := dk_187 0 58 (dk_at dksX0_init_4 7 rfl rfl)
theorem dX0_init_104 : decode cX0_init 104 = .ok (.dup, 1) := dk_89 (dk_at dksX0_init_4 10 rfl rfl)
theorem dX0_init_105 : decode cX0_init 105 = .ok (.invokespecial 60, 3) := dk_183 0 60 (dk_at dksX0_init_4 11 rfl rfl)
theorem dX0_init_108 : decode cX0_init 108 = .ok (.aastore, 1) := dk_83 (dk_at dksX0_init_4 14 rfl rfl)
theorem dX0_init_109 : decode cX0_init 109 = .ok (.dup, 1) := dk_89 (dk_at dksX0_init_4 15 rfl rfl)
theorem dX0_init_110 : decode cX0_init 110 = .ok (.iconst 3, 1) := dk_6 (dk_at dksX0_init_4 16 rfl rfl)
theorem dX0_init_111 : decode cX0_init 111 = .ok (.new 61, 3) := dk_187 0 61 (dk_at dksX0_init_4 17 rfl rfl)
theorem dX0_init_114 : decode cX0_init 114 = .ok (.dup, 1) := dk_89 (dk_at dksX0_init_4 20 rfl rfl)
theorem dX0_init_115 : decode cX0_init 115 = .ok (.invokespecial 63, 3) := dk_183 0 63 (dk_at dksX0_init_4 21 rfl rfl)
theorem dX0_init_118 : decode cX0_init 118 = .ok (.aastore, 1) := dk_83 (dk_at dksX0_init_5 0 rfl rfl)
theorem dX0_init_119 : decode cX0_init 119 = .ok (.dup, 1) := dk_89 (dk_at dksX0_init_5 1 rfl rfl)
theorem dX0_init_120 : decode cX0_init 120 = .ok (.iconst 4, 1) := dk_7 (dk_at dksX0_init_5 2 rfl rfl)
theorem dX0_init_121 : decode cX0_init 121 = .ok (.new 64, 3) := dk_187 0 64 (dk_at dksX0_init_5 3 rfl rfl)
theorem dX0_init_124 : decode cX0_init 124 = .ok (.dup, 1) := dk_89 (dk_at dksX0_init_5 6 rfl rfl)
theorem dX0_init_125 : decode cX0_init 125 = .ok (.invokespecial 66, 3) := dk_183 0 66 (dk_at dksX0_init_5 7 rfl rfl)
theorem dX0_init_128 : decode cX0_init 128 = .ok (.aastore, 1) := dk_83 (dk_at dksX0_init_5 10 rfl rfl)
theorem dX0_init_129 : decode cX0_init 129 = .ok (.dup, 1) := dk_89 (dk_at dksX0_init_5 11 rfl rfl)
theorem dX0_init_130 : decode cX0_init 130 = .ok (.iconst 5, 1) := dk_8 (dk_at dksX0_init_5 12 rfl rfl)
theorem dX0_init_131 : decode cX0_init 131 = .ok (.new 67, 3) := dk_187 0 67 (dk_at dksX0_init_5 13 rfl rfl)
theorem dX0_init_134 : decode cX0_init 134 = .ok (.dup, 1) := dk_89 (dk_at dksX0_init_5 16 rfl rfl)
theorem dX0_init_135 : decode cX0_init 135 = .ok (.invokespecial 69, 3) := dk_183 0 69 (dk_at dksX0_init_5 17 rfl rfl)
theorem dX0_init_138 : decode cX0_init 138 = .ok (.aastore, 1) := dk_83 (dk_at dksX0_init_5 20 rfl rfl)
theorem dX0_init_139 : decode cX0_init 139 = .ok (.putfield 70, 3) := dk_181 0 70 (dk_at dksX0_init_5 21 rfl rfl)
theorem dX0_init_142 : decode cX0_init 142 = .ok (.aload_n 0, 1) := dk_42 (dk_at dksX0_init_6 0 rfl rfl)
theorem dX0_init_143 : decode cX0_init 143 = .ok (.new 74, 3) := dk_187 0 74 (dk_at dksX0_init_6 1 rfl rfl)
theorem dX0_init_146 : decode cX0_init 146 = .ok (.dup, 1) := dk_89 (dk_at dksX0_init_6 4 rfl rfl)
theorem dX0_init_147 : decode cX0_init 147 = .ok (.invokespecial 76, 3) := dk_183 0 76 (dk_at dksX0_init_6 5 rfl rfl)
theorem dX0_init_150 : decode cX0_init 150 = .ok (.putfield 77, 3) := dk_181 0 77 (dk_at dksX0_init_6 8 rfl rfl)
theorem dX0_init_153 : decode cX0_init 153 = .ok (.aload_n 0, 1) := dk_42 (dk_at dksX0_init_6 11 rfl rfl)
theorem dX0_init_154 : decode cX0_init 154 = .ok (.new 74, 3) := dk_187 0 74 (dk_at dksX0_init_6 12 rfl rfl)
theorem dX0_init_157 : decode cX0_init 157 = .ok (.dup, 1) := dk_89 (dk_at dksX0_init_6 15 rfl rfl)
theorem dX0_init_158 : decode cX0_init 158 = .ok (.invokespecial 76, 3) := dk_183 0 76 (dk_at dksX0_init_6 16 rfl rfl)
theorem dX0_init_161 : decode cX0_init 161 = .ok (.putfield 81, 3) := dk_181 0 81 (dk_at dksX0_init_6 19 rfl rfl)
theorem dX0_init_164 : decode cX0_init 164 = .ok (.aload_n 0, 1) := dk_42 (dk_at dksX0_init_6 22 rfl rfl)
theorem dX0_init_165 : decode cX0_init 165 = .ok (.new 74, 3) := dk_187 0 74 (dk_at dksX0_init_7 0 rfl rfl)
theorem dX0_init_168 : decode cX0_init 168 = .ok (.dup, 1) := dk_89 (dk_at dksX0_init_7 3 rfl rfl)
theorem dX0_init_169 : decode cX0_init 169 = .ok (.invokespecial 76, 3) := dk_183 0 76 (dk_at dksX0_init_7 4 rfl rfl)
theorem dX0_init_172 : decode cX0_init 172 = .ok (.putfield 84, 3) := dk_181 0 84 (dk_at dksX0_init_7 7 rfl rfl)
theorem dX0_init_175 : decode cX0_init 175 = .ok (.aload_n 0, 1) := dk_42 (dk_at dksX0_init_7 10 rfl rfl)
theorem dX0_init_176 : decode cX0_init 176 = .ok (.bipush 12, 2) := dk_16 12 (dk_at dksX0_init_7 11 rfl rfl)
theorem dX0_init_178 : decode cX0_init 178 = .ok (.newarray .byte, 2) := dk_188_8 (dk_at dksX0_init_7 13 rfl rfl)
theorem dX0_init_180 : decode cX0_init 180 = .ok (.putfield 87, 3) := dk_181 0 87 (dk_at dksX0_init_7 15 rfl rfl)
theorem dX0_init_183 : decode cX0_init 183 = .ok (.aload_n 0, 1) := dk_42 (dk_at dksX0_init_7 18 rfl rfl)
theorem dX0_init_184 : decode cX0_init 184 = .ok (.bipush 96, 2) := dk_16 96 (dk_at dksX0_init_7 19 rfl rfl)
theorem dX0_init_186 : decode cX0_init 186 = .ok (.newarray .char, 2) := dk_188_5 (dk_at dksX0_init_7 21 rfl rfl)
theorem dX0_init_188 : decode cX0_init 188 = .ok (.putfield 91, 3) := dk_181 0 91 (dk_at dksX0_init_8 0 rfl rfl)
theorem dX0_init_191 : decode cX0_init 191 = .ok (.aload_n 0, 1) := dk_42 (dk_at dksX0_init_8 3 rfl rfl)
theorem dX0_init_192 : decode cX0_init 192 = .ok (.bipush 7, 2) := dk_16 7 (dk_at dksX0_init_8 4 rfl rfl)
theorem dX0_init_194 : decode cX0_init 194 = .ok (.newarray .int, 2) := dk_188_10 (dk_at dksX0_init_8 6 rfl rfl)
theorem dX0_init_196 : decode cX0_init 196 = .ok (.putfield 95, 3) := dk_181 0 95 (dk_at dksX0_init_8 8 rfl rfl)
theorem dX0_init_199 : decode cX0_init 199 = .ok (.aload_n 0, 1) := dk_42 (dk_at dksX0_init_8 11 rfl rfl)
theorem dX0_init_200 : decode cX0_init 200 = .ok (.sipush 1024, 3) := dk_17 4 0 (dk_at dksX0_init_8 12 rfl rfl)
theorem dX0_init_203 : decode cX0_init 203 = .ok (.newarray .int, 2) := dk_188_10 (dk_at dksX0_init_8 15 rfl rfl)
theorem dX0_init_205 : decode cX0_init 205 = .ok (.putfield 99, 3) := dk_181 0 99 (dk_at dksX0_init_8 17 rfl rfl)
theorem dX0_init_208 : decode cX0_init 208 = .ok (.aload_n 0, 1) := dk_42 (dk_at dksX0_init_8 20 rfl rfl)
theorem dX0_init_209 : decode cX0_init 209 = .ok (.sipush 1024, 3) := dk_17 4 0 (dk_at dksX0_init_8 21 rfl rfl)
theorem dX0_init_212 : decode cX0_init 212 = .ok (.newarray .long, 2) := dk_188_11 (dk_at dksX0_init_9 0 rfl rfl)
theorem dX0_init_214 : decode cX0_init 214 = .ok (.putfield 102, 3) := dk_181 0 102 (dk_at dksX0_init_9 2 rfl rfl)
theorem dX0_init_217 : decode cX0_init 217 = .ok (.aload_n 0, 1) := dk_42 (dk_at dksX0_init_9 5 rfl rfl)
theorem dX0_init_218 : decode cX0_init 218 = .ok (.sipush 1024, 3) := dk_17 4 0 (dk_at dksX0_init_9 6 rfl rfl)
theorem dX0_init_221 : decode cX0_init 221 = .ok (.newarray .int, 2) := dk_188_10 (dk_at dksX0_init_9 9 rfl rfl)
theorem dX0_init_223 : decode cX0_init 223 = .ok (.putfield 106, 3) := dk_181 0 106 (dk_at dksX0_init_9 11 rfl rfl)
theorem dX0_init_226 : decode cX0_init 226 = .ok (.aload_n 0, 1) := dk_42 (dk_at dksX0_init_9 14 rfl rfl)
theorem dX0_init_227 : decode cX0_init 227 = .ok (.sipush 1024, 3) := dk_17 4 0 (dk_at dksX0_init_9 15 rfl rfl)
theorem dX0_init_230 : decode cX0_init 230 = .ok (.newarray .int, 2) := dk_188_10 (dk_at dksX0_init_9 18 rfl rfl)
theorem dX0_init_232 : decode cX0_init 232 = .ok (.putfield 109, 3) := dk_181 0 109 (dk_at dksX0_init_9 20 rfl rfl)
theorem dX0_init_235 : decode cX0_init 235 = .ok (.aload_n 0, 1) := dk_42 (dk_at dksX0_init_9 23 rfl rfl)
theorem dX0_init_236 : decode cX0_init 236 = .ok (.bipush 10, 2) := dk_16 10 (dk_at dksX0_init_10 0 rfl rfl)
theorem dX0_init_238 : decode cX0_init 238 = .ok (.newarray .int, 2) := dk_188_10 (dk_at dksX0_init_10 2 rfl rfl)
theorem dX0_init_240 : decode cX0_init 240 = .ok (.putfield 112, 3) := dk_181 0 112 (dk_at dksX0_init_10 4 rfl rfl)
theorem dX0_init_243 : decode cX0_init 243 = .ok (.return_, 1) := dk_177 (dk_at dksX0_init_10 7 rfl rfl)
abbrev cX0_letter : ByteArray := prog_1_method_55_code
def yX0_letter : MethodName := ⟨RX0, "letter", "(I)I"⟩
def dkwX0_letter_0 : List UInt8 := [42, 3, 27, 3, 3, 182, 1, 147, 172]
abbrev dktX0_letter_0 : List UInt8 := dkwX0_letter_0 ++ []
theorem dksX0_letter_0 : cX0_letter.data.toList.drop 0 = dktX0_letter_0 := by decide +kernel
theorem dX0_letter_0 : decode cX0_letter 0 = .ok (.aload_n 0, 1) := dk_42 (dk_at dksX0_letter_0 0 rfl rfl)
theorem dX0_letter_1 : decode cX0_letter 1 = .ok (.iconst 0, 1) := dk_3 (dk_at dksX0_letter_0 1 rfl rfl)
theorem dX0_letter_2 : decode cX0_letter 2 = .ok (.iload_n 1, 1) := dk_27 (dk_at dksX0_letter_0 2 rfl rfl)
theorem dX0_letter_3 : decode cX0_letter 3 = .ok (.iconst 0, 1) := dk_3 (dk_at dksX0_letter_0 3 rfl rfl)
theorem dX0_letter_4 : decode cX0_letter 4 = .ok (.iconst 0, 1) := dk_3 (dk_at dksX0_letter_0 4 rfl rfl)
theorem dX0_letter_5 : decode cX0_letter 5 = .ok (.invokevirtual 403, 3) := dk_182 1 147 (dk_at dksX0_letter_0 5 rfl rfl)
theorem dX0_letter_8 : decode cX0_letter 8 = .ok (.ireturn, 1) := dk_172 (dk_at dksX0_letter_0 8 rfl rfl)
abbrev cX0_act : ByteArray := prog_1_method_32_code
def yX0_act : MethodName := ⟨RX0, "act", "(IIII)I"⟩
def dkwX0_act_2 : List UInt8 := [182, 1, 1, 182, 1, 4, 172]
abbrev dktX0_act_2 : List UInt8 := dkwX0_act_2 ++ []
def dkwX0_act_1 : List UInt8 := [42, 27, 28, 29, 182, 0, 248, 167, 0, 10, 42, 27, 28, 29, 182, 0, 252, 172, 58, 5, 42, 25, 5]
abbrev dktX0_act_1 : List UInt8 := dkwX0_act_1 ++ dktX0_act_2
def dkwX0_act_0 : List UInt8 := [27, 16, 9, 162, 0, 15, 42, 27, 28, 29, 21, 4, 182, 0, 244, 167, 0, 26, 27, 16, 18, 162, 0, 13]
abbrev dktX0_act_0 : List UInt8 := dkwX0_act_0 ++ dktX0_act_1
theorem dksX0_act_0 : cX0_act.data.toList.drop 0 = dktX0_act_0 := by decide +kernel
theorem dksX0_act_1 : cX0_act.data.toList.drop 24 = dktX0_act_1 := dk_seg dksX0_act_0 24 rfl rfl
theorem dksX0_act_2 : cX0_act.data.toList.drop 47 = dktX0_act_2 := dk_seg dksX0_act_1 23 rfl rfl
theorem dX0_act_0 : decode cX0_act 0 = .ok (.iload_n 1, 1) := dk_27 (dk_at dksX0_act_0 0 rfl rfl)
theorem dX0_act_1 : decode cX0_act 1 = .ok (.bipush 9, 2) := dk_16 9 (dk_at dksX0_act_0 1 rfl rfl)
theorem dX0_act_3 : decode cX0_act 3 = .ok (.if_icmp .ge 15, 3) := dk_162 0 15 (dk_at dksX0_act_0 3 rfl rfl)
theorem dX0_act_6 : decode cX0_act 6 = .ok (.aload_n 0, 1) := dk_42 (dk_at dksX0_act_0 6 rfl rfl)
theorem dX0_act_7 : decode cX0_act 7 = .ok (.iload_n 1, 1) := dk_27 (dk_at dksX0_act_0 7 rfl rfl)
theorem dX0_act_8 : decode cX0_act 8 = .ok (.iload_n 2, 1) := dk_28 (dk_at dksX0_act_0 8 rfl rfl)
theorem dX0_act_9 : decode cX0_act 9 = .ok (.iload_n 3, 1) := dk_29 (dk_at dksX0_act_0 9 rfl rfl)
theorem dX0_act_10 : decode cX0_act 10 = .ok (.iload 4, 2) := dk_21 4 (dk_at dksX0_act_0 10 rfl rfl)
theorem dX0_act_12 : decode cX0_act 12 = .ok (.invokevirtual 244, 3) := dk_182 0 244 (dk_at dksX0_act_0 12 rfl rfl)
theorem dX0_act_15 : decode cX0_act 15 = .ok (.goto 26, 3) := dk_167 0 26 (dk_at dksX0_act_0 15 rfl rfl)
theorem dX0_act_18 : decode cX0_act 18 = .ok (.iload_n 1, 1) := dk_27 (dk_at dksX0_act_0 18 rfl rfl)
theorem dX0_act_19 : decode cX0_act 19 = .ok (.bipush 18, 2) := dk_16 18 (dk_at dksX0_act_0 19 rfl rfl)
theorem dX0_act_21 : decode cX0_act 21 = .ok (.if_icmp .ge 13, 3) := dk_162 0 13 (dk_at dksX0_act_0 21 rfl rfl)
theorem dX0_act_24 : decode cX0_act 24 = .ok (.aload_n 0, 1) := dk_42 (dk_at dksX0_act_1 0 rfl rfl)
theorem dX0_act_25 : decode cX0_act 25 = .ok (.iload_n 1, 1) := dk_27 (dk_at dksX0_act_1 1 rfl rfl)
theorem dX0_act_26 : decode cX0_act 26 = .ok (.iload_n 2, 1) := dk_28 (dk_at dksX0_act_1 2 rfl rfl)
theorem dX0_act_27 : decode cX0_act 27 = .ok (.iload_n 3, 1) := dk_29 (dk_at dksX0_act_1 3 rfl rfl)
theorem dX0_act_28 : decode cX0_act 28 = .ok (.invokevirtual 248, 3) := dk_182 0 248 (dk_at dksX0_act_1 4 rfl rfl)
theorem dX0_act_31 : decode cX0_act 31 = .ok (.goto 10, 3) := dk_167 0 10 (dk_at dksX0_act_1 7 rfl rfl)
theorem dX0_act_34 : decode cX0_act 34 = .ok (.aload_n 0, 1) := dk_42 (dk_at dksX0_act_1 10 rfl rfl)
theorem dX0_act_35 : decode cX0_act 35 = .ok (.iload_n 1, 1) := dk_27 (dk_at dksX0_act_1 11 rfl rfl)
theorem dX0_act_36 : decode cX0_act 36 = .ok (.iload_n 2, 1) := dk_28 (dk_at dksX0_act_1 12 rfl rfl)
theorem dX0_act_37 : decode cX0_act 37 = .ok (.iload_n 3, 1) := dk_29 (dk_at dksX0_act_1 13 rfl rfl)
theorem dX0_act_38 : decode cX0_act 38 = .ok (.invokevirtual 252, 3) := dk_182 0 252 (dk_at dksX0_act_1 14 rfl rfl)
theorem dX0_act_41 : decode cX0_act 41 = .ok (.ireturn, 1) := dk_172 (dk_at dksX0_act_1 17 rfl rfl)
theorem dX0_act_42 : decode cX0_act 42 = .ok (.astore 5, 2) := dk_58 5 (dk_at dksX0_act_1 18 rfl rfl)
theorem dX0_act_44 : decode cX0_act 44 = .ok (.aload_n 0, 1) := dk_42 (dk_at dksX0_act_1 20 rfl rfl)
theorem dX0_act_45 : decode cX0_act 45 = .ok (.aload 5, 2) := dk_25 5 (dk_at dksX0_act_1 21 rfl rfl)
theorem dX0_act_47 : decode cX0_act 47 = .ok (.invokevirtual 257, 3) := dk_182 1 1 (dk_at dksX0_act_2 0 rfl rfl)
theorem dX0_act_50 : decode cX0_act 50 = .ok (.invokevirtual 260, 3) := dk_182 1 4 (dk_at dksX0_act_2 3 rfl rfl)
theorem dX0_act_53 : decode cX0_act 53 = .ok (.ireturn, 1) := dk_172 (dk_at dksX0_act_2 6 rfl rfl)
abbrev cX0_ofHouse : ByteArray := prog_1_method_43_code
def yX0_ofHouse : MethodName := ⟨RX0, "ofHouse", "(IIII)I"⟩
def dkwX0_ofHouse_6 : List UInt8 := [42, 180, 0, 77, 42, 180, 0, 77, 180, 0, 154, 182, 0, 189, 172]
abbrev dktX0_ofHouse_6 : List UInt8 := dkwX0_ofHouse_6 ++ []
def dkwX0_ofHouse_5 : List UInt8 := [180, 0, 77, 180, 0, 154, 182, 1, 63, 172, 42, 28, 182, 1, 15, 42, 180, 0, 77, 28, 182, 1, 63, 172]
abbrev dktX0_ofHouse_5 : List UInt8 := dkwX0_ofHouse_5 ++ dktX0_ofHouse_6
def dkwX0_ofHouse_4 : List UInt8 := [42, 180, 0, 77, 180, 0, 154, 28, 122, 4, 126, 172, 42, 28, 182, 1, 60, 172, 42, 180, 0, 77, 42]
abbrev dktX0_ofHouse_4 : List UInt8 := dkwX0_ofHouse_4 ++ dktX0_ofHouse_5
def dkwX0_ofHouse_3 : List UInt8 := [182, 1, 57, 172, 42, 28, 182, 1, 24, 42, 180, 0, 77, 89, 180, 0, 154, 4, 28, 120, 130, 181, 0, 154]
abbrev dktX0_ofHouse_3 : List UInt8 := dkwX0_ofHouse_3 ++ dktX0_ofHouse_4
def dkwX0_ofHouse_2 : List UInt8 := [42, 28, 182, 1, 48, 172, 42, 182, 1, 51, 172, 42, 28, 29, 182, 1, 54, 172, 42, 28, 29, 21, 4]
abbrev dktX0_ofHouse_2 : List UInt8 := dkwX0_ofHouse_2 ++ dktX0_ofHouse_3
def dkwX0_ofHouse_1 : List UInt8 := [170, 0, 0, 0, 0, 0, 141, 0, 0, 0, 0, 0, 0, 0, 7, 0, 0, 0, 47, 0, 0, 0, 53, 0, 0, 0, 58, 0, 0, 0, 65, 0, 0, 0, 74, 0, 0, 0, 106, 0, 0, 0, 112, 0, 0, 0, 127]
abbrev dktX0_ofHouse_1 : List UInt8 := dkwX0_ofHouse_1 ++ dktX0_ofHouse_2
def dkwX0_ofHouse_0 : List UInt8 := [27]
abbrev dktX0_ofHouse_0 : List UInt8 := dkwX0_ofHouse_0 ++ dktX0_ofHouse_1
theorem dksX0_ofHouse_0 : cX0_ofHouse.data.toList.drop 0 = dktX0_ofHouse_0 := by decide +kernel
theorem dksX0_ofHouse_1 : cX0_ofHouse.data.toList.drop 1 = dktX0_ofHouse_1 := dk_seg dksX0_ofHouse_0 1 rfl rfl
theorem dksX0_ofHouse_2 : cX0_ofHouse.data.toList.drop 48 = dktX0_ofHouse_2 := dk_seg dksX0_ofHouse_1 47 rfl rfl
theorem dksX0_ofHouse_3 : cX0_ofHouse.data.toList.drop 71 = dktX0_ofHouse_3 := dk_seg dksX0_ofHouse_2 23 rfl rfl
theorem dksX0_ofHouse_4 : cX0_ofHouse.data.toList.drop 95 = dktX0_ofHouse_4 := dk_seg dksX0_ofHouse_3 24 rfl rfl
theorem dksX0_ofHouse_5 : cX0_ofHouse.data.toList.drop 118 = dktX0_ofHouse_5 := dk_seg dksX0_ofHouse_4 23 rfl rfl
theorem dksX0_ofHouse_6 : cX0_ofHouse.data.toList.drop 142 = dktX0_ofHouse_6 := dk_seg dksX0_ofHouse_5 24 rfl rfl
theorem dX0_ofHouse_0 : decode cX0_ofHouse 0 = .ok (.iload_n 1, 1) := dk_27 (dk_at dksX0_ofHouse_0 0 rfl rfl)
theorem dX0_ofHouse_1 : decode cX0_ofHouse 1 = .ok (.tableswitch 141 0 7 #[47, 53, 58, 65, 74, 106, 112, 127], 47) := by decide +kernel
theorem dX0_ofHouse_48 : decode cX0_ofHouse 48 = .ok (.aload_n 0, 1) := dk_42 (dk_at dksX0_ofHouse_2 0 rfl rfl)
theorem dX0_ofHouse_49 : decode cX0_ofHouse 49 = .ok (.iload_n 2, 1) := dk_28 (dk_at dksX0_ofHouse_2 1 rfl rfl)
theorem dX0_ofHouse_50 : decode cX0_ofHouse 50 = .ok (.invokevirtual 304, 3) := dk_182 1 48 (dk_at dksX0_ofHouse_2 2 rfl rfl)
theorem dX0_ofHouse_53 : decode cX0_ofHouse 53 = .ok (.ireturn, 1) := dk_172 (dk_at dksX0_ofHouse_2 5 rfl rfl)
theorem dX0_ofHouse_54 : decode cX0_ofHouse 54 = .ok (.aload_n 0, 1) := dk_42 (dk_at dksX0_ofHouse_2 6 rfl rfl)
theorem dX0_ofHouse_55 : decode cX0_ofHouse 55 = .ok (.invokevirtual 307, 3) := dk_182 1 51 (dk_at dksX0_ofHouse_2 7 rfl rfl)
theorem dX0_ofHouse_58 : decode cX0_ofHouse 58 = .ok (.ireturn, 1) := dk_172 (dk_at dksX0_ofHouse_2 10 rfl rfl)
theorem dX0_ofHouse_59 : decode cX0_ofHouse 59 = .ok (.aload_n 0, 1) := dk_42 (dk_at dksX0_ofHouse_2 11 rfl rfl)
theorem dX0_ofHouse_60 : decode cX0_ofHouse 60 = .ok (.iload_n 2, 1) := dk_28 (dk_at dksX0_ofHouse_2 12 rfl rfl)
theorem dX0_ofHouse_61 : decode cX0_ofHouse 61 = .ok (.iload_n 3, 1) := dk_29 (dk_at dksX0_ofHouse_2 13 rfl rfl)
theorem dX0_ofHouse_62 : decode cX0_ofHouse 62 = .ok (.invokevirtual 310, 3) := dk_182 1 54 (dk_at dksX0_ofHouse_2 14 rfl rfl)
theorem dX0_ofHouse_65 : decode cX0_ofHouse 65 = .ok (.ireturn, 1) := dk_172 (dk_at dksX0_ofHouse_2 17 rfl rfl)
theorem dX0_ofHouse_66 : decode cX0_ofHouse 66 = .ok (.aload_n 0, 1) := dk_42 (dk_at dksX0_ofHouse_2 18 rfl rfl)
theorem dX0_ofHouse_67 : decode cX0_ofHouse 67 = .ok (.iload_n 2, 1) := dk_28 (dk_at dksX0_ofHouse_2 19 rfl rfl)
theorem dX0_ofHouse_68 : decode cX0_ofHouse 68 = .ok (.iload_n 3, 1) := dk_29 (dk_at dksX0_ofHouse_2 20 rfl rfl)
theorem dX0_ofHouse_69 : decode cX0_ofHouse 69 = .ok (.iload 4, 2) := dk_21 4 (dk_at dksX0_ofHouse_2 21 rfl rfl)
theorem dX0_ofHouse_71 : decode cX0_ofHouse 71 = .ok (.invokevirtual 313, 3) := dk_182 1 57 (dk_at dksX0_ofHouse_3 0 rfl rfl)
theorem dX0_ofHouse_74 : decode cX0_ofHouse 74 = .ok (.ireturn, 1) := dk_172 (dk_at dksX0_ofHouse_3 3 rfl rfl)
theorem dX0_ofHouse_75 : decode cX0_ofHouse 75 = .ok (.aload_n 0, 1) := dk_42 (dk_at dksX0_ofHouse_3 4 rfl rfl)
theorem dX0_ofHouse_76 : decode cX0_ofHouse 76 = .ok (.iload_n 2, 1) := dk_28 (dk_at dksX0_ofHouse_3 5 rfl rfl)
theorem dX0_ofHouse_77 : decode cX0_ofHouse 77 = .ok (.invokevirtual 280, 3) := dk_182 1 24 (dk_at dksX0_ofHouse_3 6 rfl rfl)
theorem dX0_ofHouse_80 : decode cX0_ofHouse 80 = .ok (.aload_n 0, 1) := dk_42 (dk_at dksX0_ofHouse_3 9 rfl rfl)
theorem dX0_ofHouse_81 : decode cX0_ofHouse 81 = .ok (.getfield 77, 3) := dk_180 0 77 (dk_at dksX0_ofHouse_3 10 rfl rfl)
theorem dX0_ofHouse_84 : decode cX0_ofHouse 84 = .ok (.dup, 1) := dk_89 (dk_at dksX0_ofHouse_3 13 rfl rfl)
theorem dX0_ofHouse_85 : decode cX0_ofHouse 85 = .ok (.getfield 154, 3) := dk_180 0 154 (dk_at dksX0_ofHouse_3 14 rfl rfl)
theorem dX0_ofHouse_88 : decode cX0_ofHouse 88 = .ok (.iconst 1, 1) := dk_4 (dk_at dksX0_ofHouse_3 17 rfl rfl)
theorem dX0_ofHouse_89 : decode cX0_ofHouse 89 = .ok (.iload_n 2, 1) := dk_28 (dk_at dksX0_ofHouse_3 18 rfl rfl)
theorem dX0_ofHouse_90 : decode cX0_ofHouse 90 = .ok (.ishl, 1) := dk_120 (dk_at dksX0_ofHouse_3 19 rfl rfl)
theorem dX0_ofHouse_91 : decode cX0_ofHouse 91 = .ok (.ixor, 1) := dk_130 (dk_at dksX0_ofHouse_3 20 rfl rfl)
theorem dX0_ofHouse_92 : decode cX0_ofHouse 92 = .ok (.putfield 154, 3) := dk_181 0 154 (dk_at dksX0_ofHouse_3 21 rfl rfl)
theorem dX0_ofHouse_95 : decode cX0_ofHouse 95 = .ok (.aload_n 0, 1) := dk_42 (dk_at dksX0_ofHouse_4 0 rfl rfl)
theorem dX0_ofHouse_96 : decode cX0_ofHouse 96 = .ok (.getfield 77, 3) := dk_180 0 77 (dk_at dksX0_ofHouse_4 1 rfl rfl)
theorem dX0_ofHouse_99 : decode cX0_ofHouse 99 = .ok (.getfield 154, 3) := dk_180 0 154 (dk_at dksX0_ofHouse_4 4 rfl rfl)
theorem dX0_ofHouse_102 : decode cX0_ofHouse 102 = .ok (.iload_n 2, 1) := dk_28 (dk_at dksX0_ofHouse_4 7 rfl rfl)
theorem dX0_ofHouse_103 : decode cX0_ofHouse 103 = .ok (.ishr, 1) := dk_122 (dk_at dksX0_ofHouse_4 8 rfl rfl)
theorem dX0_ofHouse_104 : decode cX0_ofHouse 104 = .ok (.iconst 1, 1) := dk_4 (dk_at dksX0_ofHouse_4 9 rfl rfl)
theorem dX0_ofHouse_105 : decode cX0_ofHouse 105 = .ok (.iand, 1) := dk_126 (dk_at dksX0_ofHouse_4 10 rfl rfl)
theorem dX0_ofHouse_106 : decode cX0_ofHouse 106 = .ok (.ireturn, 1) := dk_172 (dk_at dksX0_ofHouse_4 11 rfl rfl)
theorem dX0_ofHouse_107 : decode cX0_ofHouse 107 = .ok (.aload_n 0, 1) := dk_42 (dk_at dksX0_ofHouse_4 12 rfl rfl)
theorem dX0_ofHouse_108 : decode cX0_ofHouse 108 = .ok (.iload_n 2, 1) := dk_28 (dk_at dksX0_ofHouse_4 13 rfl rfl)
theorem dX0_ofHouse_109 : decode cX0_ofHouse 109 = .ok (.invokevirtual 316, 3) := dk_182 1 60 (dk_at dksX0_ofHouse_4 14 rfl rfl)
theorem dX0_ofHouse_112 : decode cX0_ofHouse 112 = .ok (.ireturn, 1) := dk_172 (dk_at dksX0_ofHouse_4 17 rfl rfl)
theorem dX0_ofHouse_113 : decode cX0_ofHouse 113 = .ok (.aload_n 0, 1) := dk_42 (dk_at dksX0_ofHouse_4 18 rfl rfl)
theorem dX0_ofHouse_114 : decode cX0_ofHouse 114 = .ok (.getfield 77, 3) := dk_180 0 77 (dk_at dksX0_ofHouse_4 19 rfl rfl)
theorem dX0_ofHouse_117 : decode cX0_ofHouse 117 = .ok (.aload_n 0, 1) := dk_42 (dk_at dksX0_ofHouse_4 22 rfl rfl)
theorem dX0_ofHouse_118 : decode cX0_ofHouse 118 = .ok (.getfield 77, 3) := dk_180 0 77 (dk_at dksX0_ofHouse_5 0 rfl rfl)
theorem dX0_ofHouse_121 : decode cX0_ofHouse 121 = .ok (.getfield 154, 3) := dk_180 0 154 (dk_at dksX0_ofHouse_5 3 rfl rfl)
theorem dX0_ofHouse_124 : decode cX0_ofHouse 124 = .ok (.invokevirtual 319, 3) := dk_182 1 63 (dk_at dksX0_ofHouse_5 6 rfl rfl)
theorem dX0_ofHouse_127 : decode cX0_ofHouse 127 = .ok (.ireturn, 1) := dk_172 (dk_at dksX0_ofHouse_5 9 rfl rfl)
theorem dX0_ofHouse_128 : decode cX0_ofHouse 128 = .ok (.aload_n 0, 1) := dk_42 (dk_at dksX0_ofHouse_5 10 rfl rfl)
theorem dX0_ofHouse_129 : decode cX0_ofHouse 129 = .ok (.iload_n 2, 1) := dk_28 (dk_at dksX0_ofHouse_5 11 rfl rfl)
theorem dX0_ofHouse_130 : decode cX0_ofHouse 130 = .ok (.invokevirtual 271, 3) := dk_182 1 15 (dk_at dksX0_ofHouse_5 12 rfl rfl)
theorem dX0_ofHouse_133 : decode cX0_ofHouse 133 = .ok (.aload_n 0, 1) := dk_42 (dk_at dksX0_ofHouse_5 15 rfl rfl)
theorem dX0_ofHouse_134 : decode cX0_ofHouse 134 = .ok (.getfield 77, 3) := dk_180 0 77 (dk_at dksX0_ofHouse_5 16 rfl rfl)
theorem dX0_ofHouse_137 : decode cX0_ofHouse 137 = .ok (.iload_n 2, 1) := dk_28 (dk_at dksX0_ofHouse_5 19 rfl rfl)
theorem dX0_ofHouse_138 : decode cX0_ofHouse 138 = .ok (.invokevirtual 319, 3) := dk_182 1 63 (dk_at dksX0_ofHouse_5 20 rfl rfl)
theorem dX0_ofHouse_141 : decode cX0_ofHouse 141 = .ok (.ireturn, 1) := dk_172 (dk_at dksX0_ofHouse_5 23 rfl rfl)
theorem dX0_ofHouse_142 : decode cX0_ofHouse 142 = .ok (.aload_n 0, 1) := dk_42 (dk_at dksX0_ofHouse_6 0 rfl rfl)
theorem dX0_ofHouse_143 : decode cX0_ofHouse 143 = .ok (.getfield 77, 3) := dk_180 0 77 (dk_at dksX0_ofHouse_6 1 rfl rfl)
theorem dX0_ofHouse_146 : decode cX0_ofHouse 146 = .ok (.aload_n 0, 1) := dk_42 (dk_at dksX0_ofHouse_6 4 rfl rfl)
theorem dX0_ofHouse_147 : decode cX0_ofHouse 147 = .ok (.getfield 77, 3) := dk_180 0 77 (dk_at dksX0_ofHouse_6 5 rfl rfl)
theorem dX0_ofHouse_150 : decode cX0_ofHouse 150 = .ok (.getfield 154, 3) := dk_180 0 154 (dk_at dksX0_ofHouse_6 8 rfl rfl)
theorem dX0_ofHouse_153 : decode cX0_ofHouse 153 = .ok (.invokevirtual 189, 3) := dk_182 0 189 (dk_at dksX0_ofHouse_6 11 rfl rfl)
theorem dX0_ofHouse_156 : decode cX0_ofHouse 156 = .ok (.ireturn, 1) := dk_172 (dk_at dksX0_ofHouse_6 14 rfl rfl)
abbrev cX0_letterIt : ByteArray := prog_1_method_39_code
def yX0_letterIt : MethodName := ⟨RX0, "letterIt", "(I)I"⟩
def dkwX0_letterIt_2 : List UInt8 := [181, 0, 120, 42, 180, 0, 120, 172]
abbrev dktX0_letterIt_2 : List UInt8 := dkwX0_letterIt_2 ++ []
def dkwX0_letterIt_1 : List UInt8 := [16, 250, 184, 0, 9, 42, 180, 0, 91, 42, 180, 0, 120, 27, 146, 85, 42, 89, 180, 0, 120, 4, 96]
abbrev dktX0_letterIt_1 : List UInt8 := dkwX0_letterIt_1 ++ dktX0_letterIt_2
def dkwX0_letterIt_0 : List UInt8 := [27, 133, 9, 20, 1, 18, 184, 1, 20, 42, 180, 0, 120, 16, 96, 162, 0, 7, 4, 167, 0, 4, 3]
abbrev dktX0_letterIt_0 : List UInt8 := dkwX0_letterIt_0 ++ dktX0_letterIt_1
theorem dksX0_letterIt_0 : cX0_letterIt.data.toList.drop 0 = dktX0_letterIt_0 := by decide +kernel
theorem dksX0_letterIt_1 : cX0_letterIt.data.toList.drop 23 = dktX0_letterIt_1 := dk_seg dksX0_letterIt_0 23 rfl rfl
theorem dksX0_letterIt_2 : cX0_letterIt.data.toList.drop 46 = dktX0_letterIt_2 := dk_seg dksX0_letterIt_1 23 rfl rfl
theorem dX0_letterIt_0 : decode cX0_letterIt 0 = .ok (.iload_n 1, 1) := dk_27 (dk_at dksX0_letterIt_0 0 rfl rfl)
theorem dX0_letterIt_1 : decode cX0_letterIt 1 = .ok (.i2l, 1) := dk_133 (dk_at dksX0_letterIt_0 1 rfl rfl)
theorem dX0_letterIt_2 : decode cX0_letterIt 2 = .ok (.lconst 0, 1) := dk_9 (dk_at dksX0_letterIt_0 2 rfl rfl)
theorem dX0_letterIt_3 : decode cX0_letterIt 3 = .ok (.ldc2_w 274, 3) := dk_20 1 18 (dk_at dksX0_letterIt_0 3 rfl rfl)
theorem dX0_letterIt_6 : decode cX0_letterIt 6 = .ok (.invokestatic 276, 3) := dk_184 1 20 (dk_at dksX0_letterIt_0 6 rfl rfl)
theorem dX0_letterIt_9 : decode cX0_letterIt 9 = .ok (.aload_n 0, 1) := dk_42 (dk_at dksX0_letterIt_0 9 rfl rfl)
theorem dX0_letterIt_10 : decode cX0_letterIt 10 = .ok (.getfield 120, 3) := dk_180 0 120 (dk_at dksX0_letterIt_0 10 rfl rfl)
theorem dX0_letterIt_13 : decode cX0_letterIt 13 = .ok (.bipush 96, 2) := dk_16 96 (dk_at dksX0_letterIt_0 13 rfl rfl)
theorem dX0_letterIt_15 : decode cX0_letterIt 15 = .ok (.if_icmp .ge 7, 3) := dk_162 0 7 (dk_at dksX0_letterIt_0 15 rfl rfl)
theorem dX0_letterIt_18 : decode cX0_letterIt 18 = .ok (.iconst 1, 1) := dk_4 (dk_at dksX0_letterIt_0 18 rfl rfl)
theorem dX0_letterIt_19 : decode cX0_letterIt 19 = .ok (.goto 4, 3) := dk_167 0 4 (dk_at dksX0_letterIt_0 19 rfl rfl)
theorem dX0_letterIt_22 : decode cX0_letterIt 22 = .ok (.iconst 0, 1) := dk_3 (dk_at dksX0_letterIt_0 22 rfl rfl)
theorem dX0_letterIt_23 : decode cX0_letterIt 23 = .ok (.bipush (-6), 2) := dk_16 250 (dk_at dksX0_letterIt_1 0 rfl rfl)
theorem dX0_letterIt_25 : decode cX0_letterIt 25 = .ok (.invokestatic 9, 3) := dk_184 0 9 (dk_at dksX0_letterIt_1 2 rfl rfl)
theorem dX0_letterIt_28 : decode cX0_letterIt 28 = .ok (.aload_n 0, 1) := dk_42 (dk_at dksX0_letterIt_1 5 rfl rfl)
theorem dX0_letterIt_29 : decode cX0_letterIt 29 = .ok (.getfield 91, 3) := dk_180 0 91 (dk_at dksX0_letterIt_1 6 rfl rfl)
theorem dX0_letterIt_32 : decode cX0_letterIt 32 = .ok (.aload_n 0, 1) := dk_42 (dk_at dksX0_letterIt_1 9 rfl rfl)
theorem dX0_letterIt_33 : decode cX0_letterIt 33 = .ok (.getfield 120, 3) := dk_180 0 120 (dk_at dksX0_letterIt_1 10 rfl rfl)
theorem dX0_letterIt_36 : decode cX0_letterIt 36 = .ok (.iload_n 1, 1) := dk_27 (dk_at dksX0_letterIt_1 13 rfl rfl)
theorem dX0_letterIt_37 : decode cX0_letterIt 37 = .ok (.i2c, 1) := dk_146 (dk_at dksX0_letterIt_1 14 rfl rfl)
theorem dX0_letterIt_38 : decode cX0_letterIt 38 = .ok (.castore, 1) := dk_85 (dk_at dksX0_letterIt_1 15 rfl rfl)
theorem dX0_letterIt_39 : decode cX0_letterIt 39 = .ok (.aload_n 0, 1) := dk_42 (dk_at dksX0_letterIt_1 16 rfl rfl)
theorem dX0_letterIt_40 : decode cX0_letterIt 40 = .ok (.dup, 1) := dk_89 (dk_at dksX0_letterIt_1 17 rfl rfl)
theorem dX0_letterIt_41 : decode cX0_letterIt 41 = .ok (.getfield 120, 3) := dk_180 0 120 (dk_at dksX0_letterIt_1 18 rfl rfl)
theorem dX0_letterIt_44 : decode cX0_letterIt 44 = .ok (.iconst 1, 1) := dk_4 (dk_at dksX0_letterIt_1 21 rfl rfl)
theorem dX0_letterIt_45 : decode cX0_letterIt 45 = .ok (.iadd, 1) := dk_96 (dk_at dksX0_letterIt_1 22 rfl rfl)
theorem dX0_letterIt_46 : decode cX0_letterIt 46 = .ok (.putfield 120, 3) := dk_181 0 120 (dk_at dksX0_letterIt_2 0 rfl rfl)
theorem dX0_letterIt_49 : decode cX0_letterIt 49 = .ok (.aload_n 0, 1) := dk_42 (dk_at dksX0_letterIt_2 3 rfl rfl)
theorem dX0_letterIt_50 : decode cX0_letterIt 50 = .ok (.getfield 120, 3) := dk_180 0 120 (dk_at dksX0_letterIt_2 4 rfl rfl)
theorem dX0_letterIt_53 : decode cX0_letterIt 53 = .ok (.ireturn, 1) := dk_172 (dk_at dksX0_letterIt_2 7 rfl rfl)
abbrev cX0_within : ByteArray := prog_1_method_3_code
def yX0_within : MethodName := ⟨RX0, "within", "(JJJ)V"⟩
def dkwX0_within_1 : List UInt8 := [167, 0, 4, 3, 16, 250, 184, 0, 9, 177]
abbrev dktX0_within_1 : List UInt8 := dkwX0_within_1 ++ []
def dkwX0_within_0 : List UInt8 := [30, 32, 148, 155, 0, 7, 4, 167, 0, 4, 3, 16, 252, 184, 0, 9, 30, 22, 4, 148, 157, 0, 7, 4]
abbrev dktX0_within_0 : List UInt8 := dkwX0_within_0 ++ dktX0_within_1
theorem dksX0_within_0 : cX0_within.data.toList.drop 0 = dktX0_within_0 := by decide +kernel
theorem dksX0_within_1 : cX0_within.data.toList.drop 24 = dktX0_within_1 := dk_seg dksX0_within_0 24 rfl rfl
theorem dX0_within_0 : decode cX0_within 0 = .ok (.lload_n 0, 1) := dk_30 (dk_at dksX0_within_0 0 rfl rfl)
theorem dX0_within_1 : decode cX0_within 1 = .ok (.lload_n 2, 1) := dk_32 (dk_at dksX0_within_0 1 rfl rfl)
theorem dX0_within_2 : decode cX0_within 2 = .ok (.lcmp, 1) := dk_148 (dk_at dksX0_within_0 2 rfl rfl)
theorem dX0_within_3 : decode cX0_within 3 = .ok (.ifCond .lt 7, 3) := dk_155 0 7 (dk_at dksX0_within_0 3 rfl rfl)
theorem dX0_within_6 : decode cX0_within 6 = .ok (.iconst 1, 1) := dk_4 (dk_at dksX0_within_0 6 rfl rfl)
theorem dX0_within_7 : decode cX0_within 7 = .ok (.goto 4, 3) := dk_167 0 4 (dk_at dksX0_within_0 7 rfl rfl)
theorem dX0_within_10 : decode cX0_within 10 = .ok (.iconst 0, 1) := dk_3 (dk_at dksX0_within_0 10 rfl rfl)
theorem dX0_within_11 : decode cX0_within 11 = .ok (.bipush (-4), 2) := dk_16 252 (dk_at dksX0_within_0 11 rfl rfl)
theorem dX0_within_13 : decode cX0_within 13 = .ok (.invokestatic 9, 3) := dk_184 0 9 (dk_at dksX0_within_0 13 rfl rfl)
theorem dX0_within_16 : decode cX0_within 16 = .ok (.lload_n 0, 1) := dk_30 (dk_at dksX0_within_0 16 rfl rfl)
theorem dX0_within_17 : decode cX0_within 17 = .ok (.lload 4, 2) := dk_22 4 (dk_at dksX0_within_0 17 rfl rfl)
theorem dX0_within_19 : decode cX0_within 19 = .ok (.lcmp, 1) := dk_148 (dk_at dksX0_within_0 19 rfl rfl)
theorem dX0_within_20 : decode cX0_within 20 = .ok (.ifCond .gt 7, 3) := dk_157 0 7 (dk_at dksX0_within_0 20 rfl rfl)
theorem dX0_within_23 : decode cX0_within 23 = .ok (.iconst 1, 1) := dk_4 (dk_at dksX0_within_0 23 rfl rfl)
theorem dX0_within_24 : decode cX0_within 24 = .ok (.goto 4, 3) := dk_167 0 4 (dk_at dksX0_within_1 0 rfl rfl)
theorem dX0_within_27 : decode cX0_within 27 = .ok (.iconst 0, 1) := dk_3 (dk_at dksX0_within_1 3 rfl rfl)
theorem dX0_within_28 : decode cX0_within 28 = .ok (.bipush (-6), 2) := dk_16 250 (dk_at dksX0_within_1 4 rfl rfl)
theorem dX0_within_30 : decode cX0_within 30 = .ok (.invokestatic 9, 3) := dk_184 0 9 (dk_at dksX0_within_1 6 rfl rfl)
theorem dX0_within_33 : decode cX0_within 33 = .ok (.return_, 1) := dk_177 (dk_at dksX0_within_1 9 rfl rfl)
abbrev cX0_must : ByteArray := prog_1_method_2_code
def yX0_must : MethodName := ⟨RX0, "must", "(ZI)V"⟩
def dkwX0_must_0 : List UInt8 := [26, 154, 0, 12, 187, 0, 3, 89, 27, 183, 0, 5, 191, 177]
abbrev dktX0_must_0 : List UInt8 := dkwX0_must_0 ++ []
theorem dksX0_must_0 : cX0_must.data.toList.drop 0 = dktX0_must_0 := by decide +kernel
theorem dX0_must_0 : decode cX0_must 0 = .ok (.iload_n 0, 1) := dk_26 (dk_at dksX0_must_0 0 rfl rfl)
theorem dX0_must_1 : decode cX0_must 1 = .ok (.ifCond .ne 12, 3) := dk_154 0 12 (dk_at dksX0_must_0 1 rfl rfl)
theorem dX0_must_4 : decode cX0_must 4 = .ok (.new 3, 3) := dk_187 0 3 (dk_at dksX0_must_0 4 rfl rfl)
theorem dX0_must_7 : decode cX0_must 7 = .ok (.dup, 1) := dk_89 (dk_at dksX0_must_0 7 rfl rfl)
theorem dX0_must_8 : decode cX0_must 8 = .ok (.iload_n 1, 1) := dk_27 (dk_at dksX0_must_0 8 rfl rfl)
theorem dX0_must_9 : decode cX0_must 9 = .ok (.invokespecial 5, 3) := dk_183 0 5 (dk_at dksX0_must_0 9 rfl rfl)
theorem dX0_must_12 : decode cX0_must 12 = .ok (.athrow, 1) := dk_191 (dk_at dksX0_must_0 12 rfl rfl)
theorem dX0_must_13 : decode cX0_must 13 = .ok (.return_, 1) := dk_177 (dk_at dksX0_must_0 13 rfl rfl)
abbrev cX0_readHouse : ByteArray := prog_1_method_10_code
def yX0_readHouse : MethodName := ⟨RX0, "readHouse", "()I"⟩
def dkwX0_readHouse_4 : List UInt8 := [191, 132, 4, 1, 167, 255, 214, 42, 180, 0, 77, 42, 180, 0, 81, 182, 0, 136, 29, 172]
abbrev dktX0_readHouse_4 : List UInt8 := dkwX0_readHouse_4 ++ []
def dkwX0_readHouse_3 : List UInt8 := [182, 0, 140, 154, 0, 22, 187, 0, 144, 89, 17, 248, 48, 44, 21, 4, 50, 180, 0, 146, 100, 183, 0, 149]
abbrev dktX0_readHouse_3 : List UInt8 := dkwX0_readHouse_3 ++ dktX0_readHouse_4
def dkwX0_readHouse_2 : List UInt8 := [180, 0, 77, 182, 0, 136, 3, 54, 4, 21, 4, 29, 162, 0, 42, 44, 21, 4, 50, 42, 180, 0, 81]
abbrev dktX0_readHouse_2 : List UInt8 := dkwX0_readHouse_2 ++ dktX0_readHouse_3
def dkwX0_readHouse_1 : List UInt8 := [43, 182, 0, 126, 83, 132, 3, 1, 43, 180, 0, 130, 43, 180, 0, 133, 161, 255, 238, 42, 180, 0, 81, 42]
abbrev dktX0_readHouse_1 : List UInt8 := dkwX0_readHouse_1 ++ dktX0_readHouse_2
def dkwX0_readHouse_0 : List UInt8 := [187, 0, 115, 89, 42, 183, 0, 117, 76, 42, 3, 181, 0, 120, 16, 96, 189, 0, 124, 77, 3, 62, 44, 29]
abbrev dktX0_readHouse_0 : List UInt8 := dkwX0_readHouse_0 ++ dktX0_readHouse_1
theorem dksX0_readHouse_0 : cX0_readHouse.data.toList.drop 0 = dktX0_readHouse_0 := by decide +kernel
theorem dksX0_readHouse_1 : cX0_readHouse.data.toList.drop 24 = dktX0_readHouse_1 := dk_seg dksX0_readHouse_0 24 rfl rfl
theorem dksX0_readHouse_2 : cX0_readHouse.data.toList.drop 48 = dktX0_readHouse_2 := dk_seg dksX0_readHouse_1 24 rfl rfl
theorem dksX0_readHouse_3 : cX0_readHouse.data.toList.drop 71 = dktX0_readHouse_3 := dk_seg dksX0_readHouse_2 23 rfl rfl
theorem dksX0_readHouse_4 : cX0_readHouse.data.toList.drop 95 = dktX0_readHouse_4 := dk_seg dksX0_readHouse_3 24 rfl rfl
theorem dX0_readHouse_0 : decode cX0_readHouse 0 = .ok (.new 115, 3) := dk_187 0 115 (dk_at dksX0_readHouse_0 0 rfl rfl)
theorem dX0_readHouse_3 : decode cX0_readHouse 3 = .ok (.dup, 1) := dk_89 (dk_at dksX0_readHouse_0 3 rfl rfl)
theorem dX0_readHouse_4 : decode cX0_readHouse 4 = .ok (.aload_n 0, 1) := dk_42 (dk_at dksX0_readHouse_0 4 rfl rfl)
theorem dX0_readHouse_5 : decode cX0_readHouse 5 = .ok (.invokespecial 117, 3) := dk_183 0 117 (dk_at dksX0_readHouse_0 5 rfl rfl)
theorem dX0_readHouse_8 : decode cX0_readHouse 8 = .ok (.astore_n 1, 1) := dk_76 (dk_at dksX0_readHouse_0 8 rfl rfl)
theorem dX0_readHouse_9 : decode cX0_readHouse 9 = .ok (.aload_n 0, 1) := dk_42 (dk_at dksX0_readHouse_0 9 rfl rfl)
theorem dX0_readHouse_10 : decode cX0_readHouse 10 = .ok (.iconst 0, 1) := dk_3 (dk_at dksX0_readHouse_0 10 rfl rfl)
theorem dX0_readHouse_11 : decode cX0_readHouse 11 = .ok (.putfield 120, 3) := dk_181 0 120 (dk_at dksX0_readHouse_0 11 rfl rfl)
theorem dX0_readHouse_14 : decode cX0_readHouse 14 = .ok (.bipush 96, 2) := dk_16 96 (dk_at dksX0_readHouse_0 14 rfl rfl)
theorem dX0_readHouse_16 : decode cX0_readHouse 16 = .ok (.anewarray 124, 3) := dk_189 0 124 (dk_at dksX0_readHouse_0 16 rfl rfl)
theorem dX0_readHouse_19 : decode cX0_readHouse 19 = .ok (.astore_n 2, 1) := dk_77 (dk_at dksX0_readHouse_0 19 rfl rfl)
theorem dX0_readHouse_20 : decode cX0_readHouse 20 = .ok (.iconst 0, 1) := dk_3 (dk_at dksX0_readHouse_0 20 rfl rfl)
theorem dX0_readHouse_21 : decode cX0_readHouse 21 = .ok (.istore_n 3, 1) := dk_62 (dk_at dksX0_readHouse_0 21 rfl rfl)
theorem dX0_readHouse_22 : decode cX0_readHouse 22 = .ok (.aload_n 2, 1) := dk_44 (dk_at dksX0_readHouse_0 22 rfl rfl)
theorem dX0_readHouse_23 : decode cX0_readHouse 23 = .ok (.iload_n 3, 1) := dk_29 (dk_at dksX0_readHouse_0 23 rfl rfl)
theorem dX0_readHouse_24 : decode cX0_readHouse 24 = .ok (.aload_n 1, 1) := dk_43 (dk_at dksX0_readHouse_1 0 rfl rfl)
theorem dX0_readHouse_25 : decode cX0_readHouse 25 = .ok (.invokevirtual 126, 3) := dk_182 0 126 (dk_at dksX0_readHouse_1 1 rfl rfl)
theorem dX0_readHouse_28 : decode cX0_readHouse 28 = .ok (.aastore, 1) := dk_83 (dk_at dksX0_readHouse_1 4 rfl rfl)
theorem dX0_readHouse_29 : decode cX0_readHouse 29 = .ok (.iinc 3 1, 3) := dk_132 3 1 (dk_at dksX0_readHouse_1 5 rfl rfl)
theorem dX0_readHouse_32 : decode cX0_readHouse 32 = .ok (.aload_n 1, 1) := dk_43 (dk_at dksX0_readHouse_1 8 rfl rfl)
theorem dX0_readHouse_33 : decode cX0_readHouse 33 = .ok (.getfield 130, 3) := dk_180 0 130 (dk_at dksX0_readHouse_1 9 rfl rfl)
theorem dX0_readHouse_36 : decode cX0_readHouse 36 = .ok (.aload_n 1, 1) := dk_43 (dk_at dksX0_readHouse_1 12 rfl rfl)
theorem dX0_readHouse_37 : decode cX0_readHouse 37 = .ok (.getfield 133, 3) := dk_180 0 133 (dk_at dksX0_readHouse_1 13 rfl rfl)
theorem dX0_readHouse_40 : decode cX0_readHouse 40 = .ok (.if_icmp .lt (-18), 3) := dk_161 255 238 (dk_at dksX0_readHouse_1 16 rfl rfl)
theorem dX0_readHouse_43 : decode cX0_readHouse 43 = .ok (.aload_n 0, 1) := dk_42 (dk_at dksX0_readHouse_1 19 rfl rfl)
theorem dX0_readHouse_44 : decode cX0_readHouse 44 = .ok (.getfield 81, 3) := dk_180 0 81 (dk_at dksX0_readHouse_1 20 rfl rfl)
theorem dX0_readHouse_47 : decode cX0_readHouse 47 = .ok (.aload_n 0, 1) := dk_42 (dk_at dksX0_readHouse_1 23 rfl rfl)
theorem dX0_readHouse_48 : decode cX0_readHouse 48 = .ok (.getfield 77, 3) := dk_180 0 77 (dk_at dksX0_readHouse_2 0 rfl rfl)
theorem dX0_readHouse_51 : decode cX0_readHouse 51 = .ok (.invokevirtual 136, 3) := dk_182 0 136 (dk_at dksX0_readHouse_2 3 rfl rfl)
theorem dX0_readHouse_54 : decode cX0_readHouse 54 = .ok (.iconst 0, 1) := dk_3 (dk_at dksX0_readHouse_2 6 rfl rfl)
theorem dX0_readHouse_55 : decode cX0_readHouse 55 = .ok (.istore 4, 2) := dk_54 4 (dk_at dksX0_readHouse_2 7 rfl rfl)
theorem dX0_readHouse_57 : decode cX0_readHouse 57 = .ok (.iload 4, 2) := dk_21 4 (dk_at dksX0_readHouse_2 9 rfl rfl)
theorem dX0_readHouse_59 : decode cX0_readHouse 59 = .ok (.iload_n 3, 1) := dk_29 (dk_at dksX0_readHouse_2 11 rfl rfl)
theorem dX0_readHouse_60 : decode cX0_readHouse 60 = .ok (.if_icmp .ge 42, 3) := dk_162 0 42 (dk_at dksX0_readHouse_2 12 rfl rfl)
theorem dX0_readHouse_63 : decode cX0_readHouse 63 = .ok (.aload_n 2, 1) := dk_44 (dk_at dksX0_readHouse_2 15 rfl rfl)
theorem dX0_readHouse_64 : decode cX0_readHouse 64 = .ok (.iload 4, 2) := dk_21 4 (dk_at dksX0_readHouse_2 16 rfl rfl)
theorem dX0_readHouse_66 : decode cX0_readHouse 66 = .ok (.aaload, 1) := dk_50 (dk_at dksX0_readHouse_2 18 rfl rfl)
theorem dX0_readHouse_67 : decode cX0_readHouse 67 = .ok (.aload_n 0, 1) := dk_42 (dk_at dksX0_readHouse_2 19 rfl rfl)
theorem dX0_readHouse_68 : decode cX0_readHouse 68 = .ok (.getfield 81, 3) := dk_180 0 81 (dk_at dksX0_readHouse_2 20 rfl rfl)
theorem dX0_readHouse_71 : decode cX0_readHouse 71 = .ok (.invokevirtual 140, 3) := dk_182 0 140 (dk_at dksX0_readHouse_3 0 rfl rfl)
theorem dX0_readHouse_74 : decode cX0_readHouse 74 = .ok (.ifCond .ne 22, 3) := dk_154 0 22 (dk_at dksX0_readHouse_3 3 rfl rfl)
theorem dX0_readHouse_77 : decode cX0_readHouse 77 = .ok (.new 144, 3) := dk_187 0 144 (dk_at dksX0_readHouse_3 6 rfl rfl)
theorem dX0_readHouse_80 : decode cX0_readHouse 80 = .ok (.dup, 1) := dk_89 (dk_at dksX0_readHouse_3 9 rfl rfl)
theorem dX0_readHouse_81 : decode cX0_readHouse 81 = .ok (.sipush (-2000), 3) := dk_17 248 48 (dk_at dksX0_readHouse_3 10 rfl rfl)
theorem dX0_readHouse_84 : decode cX0_readHouse 84 = .ok (.aload_n 2, 1) := dk_44 (dk_at dksX0_readHouse_3 13 rfl rfl)
theorem dX0_readHouse_85 : decode cX0_readHouse 85 = .ok (.iload 4, 2) := dk_21 4 (dk_at dksX0_readHouse_3 14 rfl rfl)
theorem dX0_readHouse_87 : decode cX0_readHouse 87 = .ok (.aaload, 1) := dk_50 (dk_at dksX0_readHouse_3 16 rfl rfl)
theorem dX0_readHouse_88 : decode cX0_readHouse 88 = .ok (.getfield 146, 3) := dk_180 0 146 (dk_at dksX0_readHouse_3 17 rfl rfl)
theorem dX0_readHouse_91 : decode cX0_readHouse 91 = .ok (.isub, 1) := dk_100 (dk_at dksX0_readHouse_3 20 rfl rfl)
theorem dX0_readHouse_92 : decode cX0_readHouse 92 = .ok (.invokespecial 149, 3) := dk_183 0 149 (dk_at dksX0_readHouse_3 21 rfl rfl)
theorem dX0_readHouse_95 : decode cX0_readHouse 95 = .ok (.athrow, 1) := dk_191 (dk_at dksX0_readHouse_4 0 rfl rfl)
theorem dX0_readHouse_96 : decode cX0_readHouse 96 = .ok (.iinc 4 1, 3) := dk_132 4 1 (dk_at dksX0_readHouse_4 1 rfl rfl)
theorem dX0_readHouse_99 : decode cX0_readHouse 99 = .ok (.goto (-42), 3) := dk_167 255 214 (dk_at dksX0_readHouse_4 4 rfl rfl)
theorem dX0_readHouse_102 : decode cX0_readHouse 102 = .ok (.aload_n 0, 1) := dk_42 (dk_at dksX0_readHouse_4 7 rfl rfl)
theorem dX0_readHouse_103 : decode cX0_readHouse 103 = .ok (.getfield 77, 3) := dk_180 0 77 (dk_at dksX0_readHouse_4 8 rfl rfl)
theorem dX0_readHouse_106 : decode cX0_readHouse 106 = .ok (.aload_n 0, 1) := dk_42 (dk_at dksX0_readHouse_4 11 rfl rfl)
theorem dX0_readHouse_107 : decode cX0_readHouse 107 = .ok (.getfield 81, 3) := dk_180 0 81 (dk_at dksX0_readHouse_4 12 rfl rfl)
theorem dX0_readHouse_110 : decode cX0_readHouse 110 = .ok (.invokevirtual 136, 3) := dk_182 0 136 (dk_at dksX0_readHouse_4 15 rfl rfl)
theorem dX0_readHouse_113 : decode cX0_readHouse 113 = .ok (.iload_n 3, 1) := dk_29 (dk_at dksX0_readHouse_4 18 rfl rfl)
theorem dX0_readHouse_114 : decode cX0_readHouse 114 = .ok (.ireturn, 1) := dk_172 (dk_at dksX0_readHouse_4 19 rfl rfl)
abbrev cX0_in : ByteArray := prog_1_method_1_code
def yX0_in : MethodName := ⟨RX0, "in", "(JJJ)Z"⟩
def dkwX0_in_0 : List UInt8 := [30, 32, 148, 155, 0, 14, 30, 22, 4, 148, 157, 0, 7, 4, 167, 0, 4, 3, 172]
abbrev dktX0_in_0 : List UInt8 := dkwX0_in_0 ++ []
theorem dksX0_in_0 : cX0_in.data.toList.drop 0 = dktX0_in_0 := by decide +kernel
theorem dX0_in_0 : decode cX0_in 0 = .ok (.lload_n 0, 1) := dk_30 (dk_at dksX0_in_0 0 rfl rfl)
theorem dX0_in_1 : decode cX0_in 1 = .ok (.lload_n 2, 1) := dk_32 (dk_at dksX0_in_0 1 rfl rfl)
theorem dX0_in_2 : decode cX0_in 2 = .ok (.lcmp, 1) := dk_148 (dk_at dksX0_in_0 2 rfl rfl)
theorem dX0_in_3 : decode cX0_in 3 = .ok (.ifCond .lt 14, 3) := dk_155 0 14 (dk_at dksX0_in_0 3 rfl rfl)
theorem dX0_in_6 : decode cX0_in 6 = .ok (.lload_n 0, 1) := dk_30 (dk_at dksX0_in_0 6 rfl rfl)
theorem dX0_in_7 : decode cX0_in 7 = .ok (.lload 4, 2) := dk_22 4 (dk_at dksX0_in_0 7 rfl rfl)
theorem dX0_in_9 : decode cX0_in 9 = .ok (.lcmp, 1) := dk_148 (dk_at dksX0_in_0 9 rfl rfl)
theorem dX0_in_10 : decode cX0_in 10 = .ok (.ifCond .gt 7, 3) := dk_157 0 7 (dk_at dksX0_in_0 10 rfl rfl)
theorem dX0_in_13 : decode cX0_in 13 = .ok (.iconst 1, 1) := dk_4 (dk_at dksX0_in_0 13 rfl rfl)
theorem dX0_in_14 : decode cX0_in 14 = .ok (.goto 4, 3) := dk_167 0 4 (dk_at dksX0_in_0 14 rfl rfl)
theorem dX0_in_17 : decode cX0_in 17 = .ok (.iconst 0, 1) := dk_3 (dk_at dksX0_in_0 17 rfl rfl)
theorem dX0_in_18 : decode cX0_in 18 = .ok (.ireturn, 1) := dk_172 (dk_at dksX0_in_0 18 rfl rfl)
abbrev cX0_thingTold : ByteArray := prog_1_method_40_code
def yX0_thingTold : MethodName := ⟨RX0, "thingTold", "(II)I"⟩
def dkwX0_thingTold_5 : List UInt8 := [180, 0, 77, 180, 0, 154, 182, 0, 167, 172, 42, 180, 0, 77, 180, 0, 154, 27, 122, 4, 126, 172]
abbrev dktX0_thingTold_5 : List UInt8 := dkwX0_thingTold_5 ++ []
def dkwX0_thingTold_4 : List UInt8 := [180, 1, 36, 27, 46, 172, 42, 180, 0, 77, 180, 1, 39, 27, 46, 172, 42, 180, 0, 77, 27, 42]
abbrev dktX0_thingTold_4 : List UInt8 := dkwX0_thingTold_4 ++ dktX0_thingTold_5
def dkwX0_thingTold_3 : List UInt8 := [180, 0, 77, 180, 0, 195, 27, 46, 172, 42, 180, 0, 77, 180, 0, 207, 27, 46, 172, 42, 180, 0, 77]
abbrev dktX0_thingTold_3 : List UInt8 := dkwX0_thingTold_3 ++ dktX0_thingTold_4
def dkwX0_thingTold_2 : List UInt8 := [42, 180, 0, 77, 180, 1, 29, 27, 50, 182, 1, 32, 172, 42, 180, 0, 77, 180, 1, 34, 27, 46, 172, 42]
abbrev dktX0_thingTold_2 : List UInt8 := dkwX0_thingTold_2 ++ dktX0_thingTold_3
def dkwX0_thingTold_1 : List UInt8 := [170, 0, 0, 0, 0, 0, 0, 123, 0, 0, 0, 0, 0, 0, 0, 6, 0, 0, 0, 44, 0, 0, 0, 57, 0, 0, 0, 67, 0, 0, 0, 77, 0, 0, 0, 87, 0, 0, 0, 97, 0, 0, 0, 107]
abbrev dktX0_thingTold_1 : List UInt8 := dkwX0_thingTold_1 ++ dktX0_thingTold_2
def dkwX0_thingTold_0 : List UInt8 := [42, 27, 182, 1, 24, 28, 133, 9, 20, 1, 27, 184, 0, 13, 16, 254, 184, 0, 9, 28]
abbrev dktX0_thingTold_0 : List UInt8 := dkwX0_thingTold_0 ++ dktX0_thingTold_1
theorem dksX0_thingTold_0 : cX0_thingTold.data.toList.drop 0 = dktX0_thingTold_0 := by decide +kernel
theorem dksX0_thingTold_1 : cX0_thingTold.data.toList.drop 20 = dktX0_thingTold_1 := dk_seg dksX0_thingTold_0 20 rfl rfl
theorem dksX0_thingTold_2 : cX0_thingTold.data.toList.drop 64 = dktX0_thingTold_2 := dk_seg dksX0_thingTold_1 44 rfl rfl
theorem dksX0_thingTold_3 : cX0_thingTold.data.toList.drop 88 = dktX0_thingTold_3 := dk_seg dksX0_thingTold_2 24 rfl rfl
theorem dksX0_thingTold_4 : cX0_thingTold.data.toList.drop 111 = dktX0_thingTold_4 := dk_seg dksX0_thingTold_3 23 rfl rfl
theorem dksX0_thingTold_5 : cX0_thingTold.data.toList.drop 133 = dktX0_thingTold_5 := dk_seg dksX0_thingTold_4 22 rfl rfl
theorem dX0_thingTold_0 : decode cX0_thingTold 0 = .ok (.aload_n 0, 1) := dk_42 (dk_at dksX0_thingTold_0 0 rfl rfl)
theorem dX0_thingTold_1 : decode cX0_thingTold 1 = .ok (.iload_n 1, 1) := dk_27 (dk_at dksX0_thingTold_0 1 rfl rfl)
theorem dX0_thingTold_2 : decode cX0_thingTold 2 = .ok (.invokevirtual 280, 3) := dk_182 1 24 (dk_at dksX0_thingTold_0 2 rfl rfl)
theorem dX0_thingTold_5 : decode cX0_thingTold 5 = .ok (.iload_n 2, 1) := dk_28 (dk_at dksX0_thingTold_0 5 rfl rfl)
theorem dX0_thingTold_6 : decode cX0_thingTold 6 = .ok (.i2l, 1) := dk_133 (dk_at dksX0_thingTold_0 6 rfl rfl)
theorem dX0_thingTold_7 : decode cX0_thingTold 7 = .ok (.lconst 0, 1) := dk_9 (dk_at dksX0_thingTold_0 7 rfl rfl)
theorem dX0_thingTold_8 : decode cX0_thingTold 8 = .ok (.ldc2_w 283, 3) := dk_20 1 27 (dk_at dksX0_thingTold_0 8 rfl rfl)
theorem dX0_thingTold_11 : decode cX0_thingTold 11 = .ok (.invokestatic 13, 3) := dk_184 0 13 (dk_at dksX0_thingTold_0 11 rfl rfl)
theorem dX0_thingTold_14 : decode cX0_thingTold 14 = .ok (.bipush (-2), 2) := dk_16 254 (dk_at dksX0_thingTold_0 14 rfl rfl)
theorem dX0_thingTold_16 : decode cX0_thingTold 16 = .ok (.invokestatic 9, 3) := dk_184 0 9 (dk_at dksX0_thingTold_0 16 rfl rfl)
theorem dX0_thingTold_19 : decode cX0_thingTold 19 = .ok (.iload_n 2, 1) := dk_28 (dk_at dksX0_thingTold_0 19 rfl rfl)
theorem dX0_thingTold_20 : decode cX0_thingTold 20 = .ok (.tableswitch 123 0 6 #[44, 57, 67, 77, 87, 97, 107], 44) := by decide +kernel
theorem dX0_thingTold_64 : decode cX0_thingTold 64 = .ok (.aload_n 0, 1) := dk_42 (dk_at dksX0_thingTold_2 0 rfl rfl)
theorem dX0_thingTold_65 : decode cX0_thingTold 65 = .ok (.getfield 77, 3) := dk_180 0 77 (dk_at dksX0_thingTold_2 1 rfl rfl)
theorem dX0_thingTold_68 : decode cX0_thingTold 68 = .ok (.getfield 285, 3) := dk_180 1 29 (dk_at dksX0_thingTold_2 4 rfl rfl)
theorem dX0_thingTold_71 : decode cX0_thingTold 71 = .ok (.iload_n 1, 1) := dk_27 (dk_at dksX0_thingTold_2 7 rfl rfl)
theorem dX0_thingTold_72 : decode cX0_thingTold 72 = .ok (.aaload, 1) := dk_50 (dk_at dksX0_thingTold_2 8 rfl rfl)
theorem dX0_thingTold_73 : decode cX0_thingTold 73 = .ok (.invokevirtual 288, 3) := dk_182 1 32 (dk_at dksX0_thingTold_2 9 rfl rfl)
theorem dX0_thingTold_76 : decode cX0_thingTold 76 = .ok (.ireturn, 1) := dk_172 (dk_at dksX0_thingTold_2 12 rfl rfl)
theorem dX0_thingTold_77 : decode cX0_thingTold 77 = .ok (.aload_n 0, 1) := dk_42 (dk_at dksX0_thingTold_2 13 rfl rfl)
theorem dX0_thingTold_78 : decode cX0_thingTold 78 = .ok (.getfield 77, 3) := dk_180 0 77 (dk_at dksX0_thingTold_2 14 rfl rfl)
theorem dX0_thingTold_81 : decode cX0_thingTold 81 = .ok (.getfield 290, 3) := dk_180 1 34 (dk_at dksX0_thingTold_2 17 rfl rfl)
theorem dX0_thingTold_84 : decode cX0_thingTold 84 = .ok (.iload_n 1, 1) := dk_27 (dk_at dksX0_thingTold_2 20 rfl rfl)
theorem dX0_thingTold_85 : decode cX0_thingTold 85 = .ok (.iaload, 1) := dk_46 (dk_at dksX0_thingTold_2 21 rfl rfl)
theorem dX0_thingTold_86 : decode cX0_thingTold 86 = .ok (.ireturn, 1) := dk_172 (dk_at dksX0_thingTold_2 22 rfl rfl)
theorem dX0_thingTold_87 : decode cX0_thingTold 87 = .ok (.aload_n 0, 1) := dk_42 (dk_at dksX0_thingTold_2 23 rfl rfl)
theorem dX0_thingTold_88 : decode cX0_thingTold 88 = .ok (.getfield 77, 3) := dk_180 0 77 (dk_at dksX0_thingTold_3 0 rfl rfl)
theorem dX0_thingTold_91 : decode cX0_thingTold 91 = .ok (.getfield 195, 3) := dk_180 0 195 (dk_at dksX0_thingTold_3 3 rfl rfl)
theorem dX0_thingTold_94 : decode cX0_thingTold 94 = .ok (.iload_n 1, 1) := dk_27 (dk_at dksX0_thingTold_3 6 rfl rfl)
theorem dX0_thingTold_95 : decode cX0_thingTold 95 = .ok (.iaload, 1) := dk_46 (dk_at dksX0_thingTold_3 7 rfl rfl)
theorem dX0_thingTold_96 : decode cX0_thingTold 96 = .ok (.ireturn, 1) := dk_172 (dk_at dksX0_thingTold_3 8 rfl rfl)
theorem dX0_thingTold_97 : decode cX0_thingTold 97 = .ok (.aload_n 0, 1) := dk_42 (dk_at dksX0_thingTold_3 9 rfl rfl)
theorem dX0_thingTold_98 : decode cX0_thingTold 98 = .ok (.getfield 77, 3) := dk_180 0 77 (dk_at dksX0_thingTold_3 10 rfl rfl)
theorem dX0_thingTold_101 : decode cX0_thingTold 101 = .ok (.getfield 207, 3) := dk_180 0 207 (dk_at dksX0_thingTold_3 13 rfl rfl)
theorem dX0_thingTold_104 : decode cX0_thingTold 104 = .ok (.iload_n 1, 1) := dk_27 (dk_at dksX0_thingTold_3 16 rfl rfl)
theorem dX0_thingTold_105 : decode cX0_thingTold 105 = .ok (.iaload, 1) := dk_46 (dk_at dksX0_thingTold_3 17 rfl rfl)
theorem dX0_thingTold_106 : decode cX0_thingTold 106 = .ok (.ireturn, 1) := dk_172 (dk_at dksX0_thingTold_3 18 rfl rfl)
theorem dX0_thingTold_107 : decode cX0_thingTold 107 = .ok (.aload_n 0, 1) := dk_42 (dk_at dksX0_thingTold_3 19 rfl rfl)
theorem dX0_thingTold_108 : decode cX0_thingTold 108 = .ok (.getfield 77, 3) := dk_180 0 77 (dk_at dksX0_thingTold_3 20 rfl rfl)
theorem dX0_thingTold_111 : decode cX0_thingTold 111 = .ok (.getfield 292, 3) := dk_180 1 36 (dk_at dksX0_thingTold_4 0 rfl rfl)
theorem dX0_thingTold_114 : decode cX0_thingTold 114 = .ok (.iload_n 1, 1) := dk_27 (dk_at dksX0_thingTold_4 3 rfl rfl)
theorem dX0_thingTold_115 : decode cX0_thingTold 115 = .ok (.iaload, 1) := dk_46 (dk_at dksX0_thingTold_4 4 rfl rfl)
theorem dX0_thingTold_116 : decode cX0_thingTold 116 = .ok (.ireturn, 1) := dk_172 (dk_at dksX0_thingTold_4 5 rfl rfl)
theorem dX0_thingTold_117 : decode cX0_thingTold 117 = .ok (.aload_n 0, 1) := dk_42 (dk_at dksX0_thingTold_4 6 rfl rfl)
theorem dX0_thingTold_118 : decode cX0_thingTold 118 = .ok (.getfield 77, 3) := dk_180 0 77 (dk_at dksX0_thingTold_4 7 rfl rfl)
theorem dX0_thingTold_121 : decode cX0_thingTold 121 = .ok (.getfield 295, 3) := dk_180 1 39 (dk_at dksX0_thingTold_4 10 rfl rfl)
theorem dX0_thingTold_124 : decode cX0_thingTold 124 = .ok (.iload_n 1, 1) := dk_27 (dk_at dksX0_thingTold_4 13 rfl rfl)
theorem dX0_thingTold_125 : decode cX0_thingTold 125 = .ok (.iaload, 1) := dk_46 (dk_at dksX0_thingTold_4 14 rfl rfl)
theorem dX0_thingTold_126 : decode cX0_thingTold 126 = .ok (.ireturn, 1) := dk_172 (dk_at dksX0_thingTold_4 15 rfl rfl)
theorem dX0_thingTold_127 : decode cX0_thingTold 127 = .ok (.aload_n 0, 1) := dk_42 (dk_at dksX0_thingTold_4 16 rfl rfl)
theorem dX0_thingTold_128 : decode cX0_thingTold 128 = .ok (.getfield 77, 3) := dk_180 0 77 (dk_at dksX0_thingTold_4 17 rfl rfl)
theorem dX0_thingTold_131 : decode cX0_thingTold 131 = .ok (.iload_n 1, 1) := dk_27 (dk_at dksX0_thingTold_4 20 rfl rfl)
theorem dX0_thingTold_132 : decode cX0_thingTold 132 = .ok (.aload_n 0, 1) := dk_42 (dk_at dksX0_thingTold_4 21 rfl rfl)
theorem dX0_thingTold_133 : decode cX0_thingTold 133 = .ok (.getfield 77, 3) := dk_180 0 77 (dk_at dksX0_thingTold_5 0 rfl rfl)
theorem dX0_thingTold_136 : decode cX0_thingTold 136 = .ok (.getfield 154, 3) := dk_180 0 154 (dk_at dksX0_thingTold_5 3 rfl rfl)
theorem dX0_thingTold_139 : decode cX0_thingTold 139 = .ok (.invokevirtual 167, 3) := dk_182 0 167 (dk_at dksX0_thingTold_5 6 rfl rfl)
theorem dX0_thingTold_142 : decode cX0_thingTold 142 = .ok (.ireturn, 1) := dk_172 (dk_at dksX0_thingTold_5 9 rfl rfl)
theorem dX0_thingTold_143 : decode cX0_thingTold 143 = .ok (.aload_n 0, 1) := dk_42 (dk_at dksX0_thingTold_5 10 rfl rfl)
theorem dX0_thingTold_144 : decode cX0_thingTold 144 = .ok (.getfield 77, 3) := dk_180 0 77 (dk_at dksX0_thingTold_5 11 rfl rfl)
theorem dX0_thingTold_147 : decode cX0_thingTold 147 = .ok (.getfield 154, 3) := dk_180 0 154 (dk_at dksX0_thingTold_5 14 rfl rfl)
theorem dX0_thingTold_150 : decode cX0_thingTold 150 = .ok (.iload_n 1, 1) := dk_27 (dk_at dksX0_thingTold_5 17 rfl rfl)
theorem dX0_thingTold_151 : decode cX0_thingTold 151 = .ok (.ishr, 1) := dk_122 (dk_at dksX0_thingTold_5 18 rfl rfl)
theorem dX0_thingTold_152 : decode cX0_thingTold 152 = .ok (.iconst 1, 1) := dk_4 (dk_at dksX0_thingTold_5 19 rfl rfl)
theorem dX0_thingTold_153 : decode cX0_thingTold 153 = .ok (.iand, 1) := dk_126 (dk_at dksX0_thingTold_5 20 rfl rfl)
theorem dX0_thingTold_154 : decode cX0_thingTold 154 = .ok (.ireturn, 1) := dk_172 (dk_at dksX0_thingTold_5 21 rfl rfl)
abbrev cX0_mustBeThing : ByteArray := prog_1_method_34_code
def yX0_mustBeThing : MethodName := ⟨RX0, "mustBeThing", "(I)V"⟩
def dkwX0_mustBeThing_0 : List UInt8 := [27, 42, 180, 0, 77, 180, 0, 160, 184, 1, 9, 177]
abbrev dktX0_mustBeThing_0 : List UInt8 := dkwX0_mustBeThing_0 ++ []
theorem dksX0_mustBeThing_0 : cX0_mustBeThing.data.toList.drop 0 = dktX0_mustBeThing_0 := by decide +kernel
theorem dX0_mustBeThing_0 : decode cX0_mustBeThing 0 = .ok (.iload_n 1, 1) := dk_27 (dk_at dksX0_mustBeThing_0 0 rfl rfl)
theorem dX0_mustBeThing_1 : decode cX0_mustBeThing 1 = .ok (.aload_n 0, 1) := dk_42 (dk_at dksX0_mustBeThing_0 1 rfl rfl)
theorem dX0_mustBeThing_2 : decode cX0_mustBeThing 2 = .ok (.getfield 77, 3) := dk_180 0 77 (dk_at dksX0_mustBeThing_0 2 rfl rfl)
theorem dX0_mustBeThing_5 : decode cX0_mustBeThing 5 = .ok (.getfield 160, 3) := dk_180 0 160 (dk_at dksX0_mustBeThing_0 5 rfl rfl)
theorem dX0_mustBeThing_8 : decode cX0_mustBeThing 8 = .ok (.invokestatic 265, 3) := dk_184 1 9 (dk_at dksX0_mustBeThing_0 8 rfl rfl)
theorem dX0_mustBeThing_11 : decode cX0_mustBeThing 11 = .ok (.return_, 1) := dk_177 (dk_at dksX0_mustBeThing_0 11 rfl rfl)
abbrev cX0_mustBe : ByteArray := prog_1_method_4_code
def yX0_mustBe : MethodName := ⟨RX0, "mustBe", "(II)V"⟩
def dkwX0_mustBe_0 : List UInt8 := [26, 133, 9, 27, 4, 100, 133, 184, 0, 13, 2, 184, 0, 9, 177]
abbrev dktX0_mustBe_0 : List UInt8 := dkwX0_mustBe_0 ++ []
theorem dksX0_mustBe_0 : cX0_mustBe.data.toList.drop 0 = dktX0_mustBe_0 := by decide +kernel
theorem dX0_mustBe_0 : decode cX0_mustBe 0 = .ok (.iload_n 0, 1) := dk_26 (dk_at dksX0_mustBe_0 0 rfl rfl)
theorem dX0_mustBe_1 : decode cX0_mustBe 1 = .ok (.i2l, 1) := dk_133 (dk_at dksX0_mustBe_0 1 rfl rfl)
theorem dX0_mustBe_2 : decode cX0_mustBe 2 = .ok (.lconst 0, 1) := dk_9 (dk_at dksX0_mustBe_0 2 rfl rfl)
theorem dX0_mustBe_3 : decode cX0_mustBe 3 = .ok (.iload_n 1, 1) := dk_27 (dk_at dksX0_mustBe_0 3 rfl rfl)
theorem dX0_mustBe_4 : decode cX0_mustBe 4 = .ok (.iconst 1, 1) := dk_4 (dk_at dksX0_mustBe_0 4 rfl rfl)
theorem dX0_mustBe_5 : decode cX0_mustBe 5 = .ok (.isub, 1) := dk_100 (dk_at dksX0_mustBe_0 5 rfl rfl)
theorem dX0_mustBe_6 : decode cX0_mustBe 6 = .ok (.i2l, 1) := dk_133 (dk_at dksX0_mustBe_0 6 rfl rfl)
theorem dX0_mustBe_7 : decode cX0_mustBe 7 = .ok (.invokestatic 13, 3) := dk_184 0 13 (dk_at dksX0_mustBe_0 7 rfl rfl)
theorem dX0_mustBe_10 : decode cX0_mustBe 10 = .ok (.iconst (-1), 1) := dk_2 (dk_at dksX0_mustBe_0 10 rfl rfl)
theorem dX0_mustBe_11 : decode cX0_mustBe 11 = .ok (.invokestatic 9, 3) := dk_184 0 9 (dk_at dksX0_mustBe_0 11 rfl rfl)
theorem dX0_mustBe_14 : decode cX0_mustBe 14 = .ok (.return_, 1) := dk_177 (dk_at dksX0_mustBe_0 14 rfl rfl)
abbrev cX0_has : ByteArray := prog_1_method_5_code
def yX0_has : MethodName := ⟨RX0, "has", "(II)Z"⟩
def dkwX0_has_0 : List UInt8 := [26, 27, 122, 4, 126, 4, 160, 0, 7, 4, 167, 0, 4, 3, 172]
abbrev dktX0_has_0 : List UInt8 := dkwX0_has_0 ++ []
theorem dksX0_has_0 : cX0_has.data.toList.drop 0 = dktX0_has_0 := by decide +kernel
theorem dX0_has_0 : decode cX0_has 0 = .ok (.iload_n 0, 1) := dk_26 (dk_at dksX0_has_0 0 rfl rfl)
theorem dX0_has_1 : decode cX0_has 1 = .ok (.iload_n 1, 1) := dk_27 (dk_at dksX0_has_0 1 rfl rfl)
theorem dX0_has_2 : decode cX0_has 2 = .ok (.ishr, 1) := dk_122 (dk_at dksX0_has_0 2 rfl rfl)
theorem dX0_has_3 : decode cX0_has 3 = .ok (.iconst 1, 1) := dk_4 (dk_at dksX0_has_0 3 rfl rfl)
theorem dX0_has_4 : decode cX0_has 4 = .ok (.iand, 1) := dk_126 (dk_at dksX0_has_0 4 rfl rfl)
theorem dX0_has_5 : decode cX0_has 5 = .ok (.iconst 1, 1) := dk_4 (dk_at dksX0_has_0 5 rfl rfl)
theorem dX0_has_6 : decode cX0_has 6 = .ok (.if_icmp .ne 7, 3) := dk_160 0 7 (dk_at dksX0_has_0 6 rfl rfl)
theorem dX0_has_9 : decode cX0_has 9 = .ok (.iconst 1, 1) := dk_4 (dk_at dksX0_has_0 9 rfl rfl)
theorem dX0_has_10 : decode cX0_has 10 = .ok (.goto 4, 3) := dk_167 0 4 (dk_at dksX0_has_0 10 rfl rfl)
theorem dX0_has_13 : decode cX0_has 13 = .ok (.iconst 0, 1) := dk_3 (dk_at dksX0_has_0 13 rfl rfl)
theorem dX0_has_14 : decode cX0_has 14 = .ok (.ireturn, 1) := dk_172 (dk_at dksX0_has_0 14 rfl rfl)
abbrev cX0_ones : ByteArray := prog_1_method_6_code
def yX0_ones : MethodName := ⟨RX0, "ones", "(I)I"⟩
def dkwX0_ones_0 : List UInt8 := [3, 60, 26, 61, 28, 153, 0, 15, 132, 1, 1, 28, 28, 4, 100, 126, 61, 167, 255, 243, 27, 172]
abbrev dktX0_ones_0 : List UInt8 := dkwX0_ones_0 ++ []
theorem dksX0_ones_0 : cX0_ones.data.toList.drop 0 = dktX0_ones_0 := by decide +kernel
theorem dX0_ones_0 : decode cX0_ones 0 = .ok (.iconst 0, 1) := dk_3 (dk_at dksX0_ones_0 0 rfl rfl)
theorem dX0_ones_1 : decode cX0_ones 1 = .ok (.istore_n 1, 1) := dk_60 (dk_at dksX0_ones_0 1 rfl rfl)
theorem dX0_ones_2 : decode cX0_ones 2 = .ok (.iload_n 0, 1) := dk_26 (dk_at dksX0_ones_0 2 rfl rfl)
theorem dX0_ones_3 : decode cX0_ones 3 = .ok (.istore_n 2, 1) := dk_61 (dk_at dksX0_ones_0 3 rfl rfl)
theorem dX0_ones_4 : decode cX0_ones 4 = .ok (.iload_n 2, 1) := dk_28 (dk_at dksX0_ones_0 4 rfl rfl)
theorem dX0_ones_5 : decode cX0_ones 5 = .ok (.ifCond .eq 15, 3) := dk_153 0 15 (dk_at dksX0_ones_0 5 rfl rfl)
theorem dX0_ones_8 : decode cX0_ones 8 = .ok (.iinc 1 1, 3) := dk_132 1 1 (dk_at dksX0_ones_0 8 rfl rfl)
theorem dX0_ones_11 : decode cX0_ones 11 = .ok (.iload_n 2, 1) := dk_28 (dk_at dksX0_ones_0 11 rfl rfl)
theorem dX0_ones_12 : decode cX0_ones 12 = .ok (.iload_n 2, 1) := dk_28 (dk_at dksX0_ones_0 12 rfl rfl)
theorem dX0_ones_13 : decode cX0_ones 13 = .ok (.iconst 1, 1) := dk_4 (dk_at dksX0_ones_0 13 rfl rfl)
theorem dX0_ones_14 : decode cX0_ones 14 = .ok (.isub, 1) := dk_100 (dk_at dksX0_ones_0 14 rfl rfl)
theorem dX0_ones_15 : decode cX0_ones 15 = .ok (.iand, 1) := dk_126 (dk_at dksX0_ones_0 15 rfl rfl)
theorem dX0_ones_16 : decode cX0_ones 16 = .ok (.istore_n 2, 1) := dk_61 (dk_at dksX0_ones_0 16 rfl rfl)
theorem dX0_ones_17 : decode cX0_ones 17 = .ok (.goto (-13), 3) := dk_167 255 243 (dk_at dksX0_ones_0 17 rfl rfl)
theorem dX0_ones_20 : decode cX0_ones 20 = .ok (.iload_n 1, 1) := dk_27 (dk_at dksX0_ones_0 20 rfl rfl)
theorem dX0_ones_21 : decode cX0_ones 21 = .ok (.ireturn, 1) := dk_172 (dk_at dksX0_ones_0 21 rfl rfl)
abbrev cX0_needIt : ByteArray := prog_1_method_41_code
def yX0_needIt : MethodName := ⟨RX0, "needIt", "(III)I"⟩
def dkwX0_needIt_2 : List UInt8 := [180, 1, 39, 58, 4, 25, 4, 27, 92, 46, 4, 28, 120, 130, 79, 25, 4, 27, 46, 28, 122, 4, 126, 172]
abbrev dktX0_needIt_2 : List UInt8 := dkwX0_needIt_2 ++ []
def dkwX0_needIt_1 : List UInt8 := [29, 184, 1, 42, 29, 154, 0, 13, 42, 180, 0, 77, 180, 1, 36, 167, 0, 10, 42, 180, 0, 77]
abbrev dktX0_needIt_1 : List UInt8 := dkwX0_needIt_1 ++ dktX0_needIt_2
def dkwX0_needIt_0 : List UInt8 := [42, 27, 182, 1, 24, 42, 28, 182, 1, 24, 27, 28, 159, 0, 7, 4, 167, 0, 4, 3, 2, 184, 0, 9]
abbrev dktX0_needIt_0 : List UInt8 := dkwX0_needIt_0 ++ dktX0_needIt_1
theorem dksX0_needIt_0 : cX0_needIt.data.toList.drop 0 = dktX0_needIt_0 := by decide +kernel
theorem dksX0_needIt_1 : cX0_needIt.data.toList.drop 24 = dktX0_needIt_1 := dk_seg dksX0_needIt_0 24 rfl rfl
theorem dksX0_needIt_2 : cX0_needIt.data.toList.drop 46 = dktX0_needIt_2 := dk_seg dksX0_needIt_1 22 rfl rfl
theorem dX0_needIt_0 : decode cX0_needIt 0 = .ok (.aload_n 0, 1) := dk_42 (dk_at dksX0_needIt_0 0 rfl rfl)
theorem dX0_needIt_1 : decode cX0_needIt 1 = .ok (.iload_n 1, 1) := dk_27 (dk_at dksX0_needIt_0 1 rfl rfl)
theorem dX0_needIt_2 : decode cX0_needIt 2 = .ok (.invokevirtual 280, 3) := dk_182 1 24 (dk_at dksX0_needIt_0 2 rfl rfl)
theorem dX0_needIt_5 : decode cX0_needIt 5 = .ok (.aload_n 0, 1) := dk_42 (dk_at dksX0_needIt_0 5 rfl rfl)
theorem dX0_needIt_6 : decode cX0_needIt 6 = .ok (.iload_n 2, 1) := dk_28 (dk_at dksX0_needIt_0 6 rfl rfl)
theorem dX0_needIt_7 : decode cX0_needIt 7 = .ok (.invokevirtual 280, 3) := dk_182 1 24 (dk_at dksX0_needIt_0 7 rfl rfl)
theorem dX0_needIt_10 : decode cX0_needIt 10 = .ok (.iload_n 1, 1) := dk_27 (dk_at dksX0_needIt_0 10 rfl rfl)
theorem dX0_needIt_11 : decode cX0_needIt 11 = .ok (.iload_n 2, 1) := dk_28 (dk_at dksX0_needIt_0 11 rfl rfl)
theorem dX0_needIt_12 : decode cX0_needIt 12 = .ok (.if_icmp .eq 7, 3) := dk_159 0 7 (dk_at dksX0_needIt_0 12 rfl rfl)
theorem dX0_needIt_15 : decode cX0_needIt 15 = .ok (.iconst 1, 1) := dk_4 (dk_at dksX0_needIt_0 15 rfl rfl)
theorem dX0_needIt_16 : decode cX0_needIt 16 = .ok (.goto 4, 3) := dk_167 0 4 (dk_at dksX0_needIt_0 16 rfl rfl)
theorem dX0_needIt_19 : decode cX0_needIt 19 = .ok (.iconst 0, 1) := dk_3 (dk_at dksX0_needIt_0 19 rfl rfl)
theorem dX0_needIt_20 : decode cX0_needIt 20 = .ok (.iconst (-1), 1) := dk_2 (dk_at dksX0_needIt_0 20 rfl rfl)
theorem dX0_needIt_21 : decode cX0_needIt 21 = .ok (.invokestatic 9, 3) := dk_184 0 9 (dk_at dksX0_needIt_0 21 rfl rfl)
theorem dX0_needIt_24 : decode cX0_needIt 24 = .ok (.iload_n 3, 1) := dk_29 (dk_at dksX0_needIt_1 0 rfl rfl)
theorem dX0_needIt_25 : decode cX0_needIt 25 = .ok (.invokestatic 298, 3) := dk_184 1 42 (dk_at dksX0_needIt_1 1 rfl rfl)
theorem dX0_needIt_28 : decode cX0_needIt 28 = .ok (.iload_n 3, 1) := dk_29 (dk_at dksX0_needIt_1 4 rfl rfl)
theorem dX0_needIt_29 : decode cX0_needIt 29 = .ok (.ifCond .ne 13, 3) := dk_154 0 13 (dk_at dksX0_needIt_1 5 rfl rfl)
theorem dX0_needIt_32 : decode cX0_needIt 32 = .ok (.aload_n 0, 1) := dk_42 (dk_at dksX0_needIt_1 8 rfl rfl)
theorem dX0_needIt_33 : decode cX0_needIt 33 = .ok (.getfield 77, 3) := dk_180 0 77 (dk_at dksX0_needIt_1 9 rfl rfl)
theorem dX0_needIt_36 : decode cX0_needIt 36 = .ok (.getfield 292, 3) := dk_180 1 36 (dk_at dksX0_needIt_1 12 rfl rfl)
theorem dX0_needIt_39 : decode cX0_needIt 39 = .ok (.goto 10, 3) := dk_167 0 10 (dk_at dksX0_needIt_1 15 rfl rfl)
theorem dX0_needIt_42 : decode cX0_needIt 42 = .ok (.aload_n 0, 1) := dk_42 (dk_at dksX0_needIt_1 18 rfl rfl)
theorem dX0_needIt_43 : decode cX0_needIt 43 = .ok (.getfield 77, 3) := dk_180 0 77 (dk_at dksX0_needIt_1 19 rfl rfl)
theorem dX0_needIt_46 : decode cX0_needIt 46 = .ok (.getfield 295, 3) := dk_180 1 39 (dk_at dksX0_needIt_2 0 rfl rfl)
theorem dX0_needIt_49 : decode cX0_needIt 49 = .ok (.astore 4, 2) := dk_58 4 (dk_at dksX0_needIt_2 3 rfl rfl)
theorem dX0_needIt_51 : decode cX0_needIt 51 = .ok (.aload 4, 2) := dk_25 4 (dk_at dksX0_needIt_2 5 rfl rfl)
theorem dX0_needIt_53 : decode cX0_needIt 53 = .ok (.iload_n 1, 1) := dk_27 (dk_at dksX0_needIt_2 7 rfl rfl)
theorem dX0_needIt_54 : decode cX0_needIt 54 = .ok (.dup2, 1) := dk_92 (dk_at dksX0_needIt_2 8 rfl rfl)
theorem dX0_needIt_55 : decode cX0_needIt 55 = .ok (.iaload, 1) := dk_46 (dk_at dksX0_needIt_2 9 rfl rfl)
theorem dX0_needIt_56 : decode cX0_needIt 56 = .ok (.iconst 1, 1) := dk_4 (dk_at dksX0_needIt_2 10 rfl rfl)
theorem dX0_needIt_57 : decode cX0_needIt 57 = .ok (.iload_n 2, 1) := dk_28 (dk_at dksX0_needIt_2 11 rfl rfl)
theorem dX0_needIt_58 : decode cX0_needIt 58 = .ok (.ishl, 1) := dk_120 (dk_at dksX0_needIt_2 12 rfl rfl)
theorem dX0_needIt_59 : decode cX0_needIt 59 = .ok (.ixor, 1) := dk_130 (dk_at dksX0_needIt_2 13 rfl rfl)
theorem dX0_needIt_60 : decode cX0_needIt 60 = .ok (.iastore, 1) := dk_79 (dk_at dksX0_needIt_2 14 rfl rfl)
theorem dX0_needIt_61 : decode cX0_needIt 61 = .ok (.aload 4, 2) := dk_25 4 (dk_at dksX0_needIt_2 15 rfl rfl)
theorem dX0_needIt_63 : decode cX0_needIt 63 = .ok (.iload_n 1, 1) := dk_27 (dk_at dksX0_needIt_2 17 rfl rfl)
theorem dX0_needIt_64 : decode cX0_needIt 64 = .ok (.iaload, 1) := dk_46 (dk_at dksX0_needIt_2 18 rfl rfl)
theorem dX0_needIt_65 : decode cX0_needIt 65 = .ok (.iload_n 2, 1) := dk_28 (dk_at dksX0_needIt_2 19 rfl rfl)
theorem dX0_needIt_66 : decode cX0_needIt 66 = .ok (.ishr, 1) := dk_122 (dk_at dksX0_needIt_2 20 rfl rfl)
theorem dX0_needIt_67 : decode cX0_needIt 67 = .ok (.iconst 1, 1) := dk_4 (dk_at dksX0_needIt_2 21 rfl rfl)
theorem dX0_needIt_68 : decode cX0_needIt 68 = .ok (.iand, 1) := dk_126 (dk_at dksX0_needIt_2 22 rfl rfl)
theorem dX0_needIt_69 : decode cX0_needIt 69 = .ok (.ireturn, 1) := dk_172 (dk_at dksX0_needIt_2 23 rfl rfl)
abbrev cX0_mustBeBit : ByteArray := prog_1_method_36_code
def yX0_mustBeBit : MethodName := ⟨RX0, "mustBeBit", "(I)V"⟩
def dkwX0_mustBeBit_0 : List UInt8 := [26, 133, 9, 10, 184, 0, 13, 16, 254, 184, 0, 9, 177]
abbrev dktX0_mustBeBit_0 : List UInt8 := dkwX0_mustBeBit_0 ++ []
theorem dksX0_mustBeBit_0 : cX0_mustBeBit.data.toList.drop 0 = dktX0_mustBeBit_0 := by decide +kernel
theorem dX0_mustBeBit_0 : decode cX0_mustBeBit 0 = .ok (.iload_n 0, 1) := dk_26 (dk_at dksX0_mustBeBit_0 0 rfl rfl)
theorem dX0_mustBeBit_1 : decode cX0_mustBeBit 1 = .ok (.i2l, 1) := dk_133 (dk_at dksX0_mustBeBit_0 1 rfl rfl)
theorem dX0_mustBeBit_2 : decode cX0_mustBeBit 2 = .ok (.lconst 0, 1) := dk_9 (dk_at dksX0_mustBeBit_0 2 rfl rfl)
theorem dX0_mustBeBit_3 : decode cX0_mustBeBit 3 = .ok (.lconst 1, 1) := dk_10 (dk_at dksX0_mustBeBit_0 3 rfl rfl)
theorem dX0_mustBeBit_4 : decode cX0_mustBeBit 4 = .ok (.invokestatic 13, 3) := dk_184 0 13 (dk_at dksX0_mustBeBit_0 4 rfl rfl)
theorem dX0_mustBeBit_7 : decode cX0_mustBeBit 7 = .ok (.bipush (-2), 2) := dk_16 254 (dk_at dksX0_mustBeBit_0 7 rfl rfl)
theorem dX0_mustBeBit_9 : decode cX0_mustBeBit 9 = .ok (.invokestatic 9, 3) := dk_184 0 9 (dk_at dksX0_mustBeBit_0 9 rfl rfl)
theorem dX0_mustBeBit_12 : decode cX0_mustBeBit 12 = .ok (.return_, 1) := dk_177 (dk_at dksX0_mustBeBit_0 12 rfl rfl)
abbrev cX0_takeIt : ByteArray := prog_1_method_42_code
def yX0_takeIt : MethodName := ⟨RX0, "takeIt", "(I)I"⟩
def dkwX0_takeIt_4 : List UInt8 := [181, 0, 154, 42, 180, 0, 77, 180, 1, 45, 172]
abbrev dktX0_takeIt_4 : List UInt8 := dkwX0_takeIt_4 ++ []
def dkwX0_takeIt_3 : List UInt8 := [180, 0, 77, 89, 180, 1, 45, 28, 96, 181, 1, 45, 42, 180, 0, 77, 89, 180, 0, 154, 4, 27, 120, 128]
abbrev dktX0_takeIt_3 : List UInt8 := dkwX0_takeIt_3 ++ dktX0_takeIt_4
def dkwX0_takeIt_2 : List UInt8 := [180, 1, 45, 28, 96, 17, 39, 15, 163, 0, 7, 4, 167, 0, 4, 3, 16, 250, 184, 0, 9, 42]
abbrev dktX0_takeIt_2 : List UInt8 := dkwX0_takeIt_2 ++ dktX0_takeIt_3
def dkwX0_takeIt_1 : List UInt8 := [184, 0, 9, 42, 180, 0, 77, 27, 42, 180, 0, 77, 180, 0, 154, 182, 0, 167, 61, 42, 180, 0, 77]
abbrev dktX0_takeIt_1 : List UInt8 := dkwX0_takeIt_1 ++ dktX0_takeIt_2
def dkwX0_takeIt_0 : List UInt8 := [42, 27, 182, 1, 24, 42, 180, 0, 77, 27, 42, 180, 0, 77, 180, 0, 154, 182, 0, 163, 16, 253]
abbrev dktX0_takeIt_0 : List UInt8 := dkwX0_takeIt_0 ++ dktX0_takeIt_1
theorem dksX0_takeIt_0 : cX0_takeIt.data.toList.drop 0 = dktX0_takeIt_0 := by decide +kernel
theorem dksX0_takeIt_1 : cX0_takeIt.data.toList.drop 22 = dktX0_takeIt_1 := dk_seg dksX0_takeIt_0 22 rfl rfl
theorem dksX0_takeIt_2 : cX0_takeIt.data.toList.drop 45 = dktX0_takeIt_2 := dk_seg dksX0_takeIt_1 23 rfl rfl
theorem dksX0_takeIt_3 : cX0_takeIt.data.toList.drop 67 = dktX0_takeIt_3 := dk_seg dksX0_takeIt_2 22 rfl rfl
theorem dksX0_takeIt_4 : cX0_takeIt.data.toList.drop 91 = dktX0_takeIt_4 := dk_seg dksX0_takeIt_3 24 rfl rfl
theorem dX0_takeIt_0 : decode cX0_takeIt 0 = .ok (.aload_n 0, 1) := dk_42 (dk_at dksX0_takeIt_0 0 rfl rfl)
theorem dX0_takeIt_1 : decode cX0_takeIt 1 = .ok (.iload_n 1, 1) := dk_27 (dk_at dksX0_takeIt_0 1 rfl rfl)
theorem dX0_takeIt_2 : decode cX0_takeIt 2 = .ok (.invokevirtual 280, 3) := dk_182 1 24 (dk_at dksX0_takeIt_0 2 rfl rfl)
theorem dX0_takeIt_5 : decode cX0_takeIt 5 = .ok (.aload_n 0, 1) := dk_42 (dk_at dksX0_takeIt_0 5 rfl rfl)
theorem dX0_takeIt_6 : decode cX0_takeIt 6 = .ok (.getfield 77, 3) := dk_180 0 77 (dk_at dksX0_takeIt_0 6 rfl rfl)
theorem dX0_takeIt_9 : decode cX0_takeIt 9 = .ok (.iload_n 1, 1) := dk_27 (dk_at dksX0_takeIt_0 9 rfl rfl)
theorem dX0_takeIt_10 : decode cX0_takeIt 10 = .ok (.aload_n 0, 1) := dk_42 (dk_at dksX0_takeIt_0 10 rfl rfl)
theorem dX0_takeIt_11 : decode cX0_takeIt 11 = .ok (.getfield 77, 3) := dk_180 0 77 (dk_at dksX0_takeIt_0 11 rfl rfl)
theorem dX0_takeIt_14 : decode cX0_takeIt 14 = .ok (.getfield 154, 3) := dk_180 0 154 (dk_at dksX0_takeIt_0 14 rfl rfl)
theorem dX0_takeIt_17 : decode cX0_takeIt 17 = .ok (.invokevirtual 163, 3) := dk_182 0 163 (dk_at dksX0_takeIt_0 17 rfl rfl)
theorem dX0_takeIt_20 : decode cX0_takeIt 20 = .ok (.bipush (-3), 2) := dk_16 253 (dk_at dksX0_takeIt_0 20 rfl rfl)
theorem dX0_takeIt_22 : decode cX0_takeIt 22 = .ok (.invokestatic 9, 3) := dk_184 0 9 (dk_at dksX0_takeIt_1 0 rfl rfl)
theorem dX0_takeIt_25 : decode cX0_takeIt 25 = .ok (.aload_n 0, 1) := dk_42 (dk_at dksX0_takeIt_1 3 rfl rfl)
theorem dX0_takeIt_26 : decode cX0_takeIt 26 = .ok (.getfield 77, 3) := dk_180 0 77 (dk_at dksX0_takeIt_1 4 rfl rfl)
theorem dX0_takeIt_29 : decode cX0_takeIt 29 = .ok (.iload_n 1, 1) := dk_27 (dk_at dksX0_takeIt_1 7 rfl rfl)
theorem dX0_takeIt_30 : decode cX0_takeIt 30 = .ok (.aload_n 0, 1) := dk_42 (dk_at dksX0_takeIt_1 8 rfl rfl)
theorem dX0_takeIt_31 : decode cX0_takeIt 31 = .ok (.getfield 77, 3) := dk_180 0 77 (dk_at dksX0_takeIt_1 9 rfl rfl)
theorem dX0_takeIt_34 : decode cX0_takeIt 34 = .ok (.getfield 154, 3) := dk_180 0 154 (dk_at dksX0_takeIt_1 12 rfl rfl)
theorem dX0_takeIt_37 : decode cX0_takeIt 37 = .ok (.invokevirtual 167, 3) := dk_182 0 167 (dk_at dksX0_takeIt_1 15 rfl rfl)
theorem dX0_takeIt_40 : decode cX0_takeIt 40 = .ok (.istore_n 2, 1) := dk_61 (dk_at dksX0_takeIt_1 18 rfl rfl)
theorem dX0_takeIt_41 : decode cX0_takeIt 41 = .ok (.aload_n 0, 1) := dk_42 (dk_at dksX0_takeIt_1 19 rfl rfl)
theorem dX0_takeIt_42 : decode cX0_takeIt 42 = .ok (.getfield 77, 3) := dk_180 0 77 (dk_at dksX0_takeIt_1 20 rfl rfl)
theorem dX0_takeIt_45 : decode cX0_takeIt 45 = .ok (.getfield 301, 3) := dk_180 1 45 (dk_at dksX0_takeIt_2 0 rfl rfl)
theorem dX0_takeIt_48 : decode cX0_takeIt 48 = .ok (.iload_n 2, 1) := dk_28 (dk_at dksX0_takeIt_2 3 rfl rfl)
theorem dX0_takeIt_49 : decode cX0_takeIt 49 = .ok (.iadd, 1) := dk_96 (dk_at dksX0_takeIt_2 4 rfl rfl)
theorem dX0_takeIt_50 : decode cX0_takeIt 50 = .ok (.sipush 9999, 3) := dk_17 39 15 (dk_at dksX0_takeIt_2 5 rfl rfl)
theorem dX0_takeIt_53 : decode cX0_takeIt 53 = .ok (.if_icmp .gt 7, 3) := dk_163 0 7 (dk_at dksX0_takeIt_2 8 rfl rfl)
theorem dX0_takeIt_56 : decode cX0_takeIt 56 = .ok (.iconst 1, 1) := dk_4 (dk_at dksX0_takeIt_2 11 rfl rfl)
theorem dX0_takeIt_57 : decode cX0_takeIt 57 = .ok (.goto 4, 3) := dk_167 0 4 (dk_at dksX0_takeIt_2 12 rfl rfl)
theorem dX0_takeIt_60 : decode cX0_takeIt 60 = .ok (.iconst 0, 1) := dk_3 (dk_at dksX0_takeIt_2 15 rfl rfl)
theorem dX0_takeIt_61 : decode cX0_takeIt 61 = .ok (.bipush (-6), 2) := dk_16 250 (dk_at dksX0_takeIt_2 16 rfl rfl)
theorem dX0_takeIt_63 : decode cX0_takeIt 63 = .ok (.invokestatic 9, 3) := dk_184 0 9 (dk_at dksX0_takeIt_2 18 rfl rfl)
theorem dX0_takeIt_66 : decode cX0_takeIt 66 = .ok (.aload_n 0, 1) := dk_42 (dk_at dksX0_takeIt_2 21 rfl rfl)
theorem dX0_takeIt_67 : decode cX0_takeIt 67 = .ok (.getfield 77, 3) := dk_180 0 77 (dk_at dksX0_takeIt_3 0 rfl rfl)
theorem dX0_takeIt_70 : decode cX0_takeIt 70 = .ok (.dup, 1) := dk_89 (dk_at dksX0_takeIt_3 3 rfl rfl)
theorem dX0_takeIt_71 : decode cX0_takeIt 71 = .ok (.getfield 301, 3) := dk_180 1 45 (dk_at dksX0_takeIt_3 4 rfl rfl)
theorem dX0_takeIt_74 : decode cX0_takeIt 74 = .ok (.iload_n 2, 1) := dk_28 (dk_at dksX0_takeIt_3 7 rfl rfl)
theorem dX0_takeIt_75 : decode cX0_takeIt 75 = .ok (.iadd, 1) := dk_96 (dk_at dksX0_takeIt_3 8 rfl rfl)
theorem dX0_takeIt_76 : decode cX0_takeIt 76 = .ok (.putfield 301, 3) := dk_181 1 45 (dk_at dksX0_takeIt_3 9 rfl rfl)
theorem dX0_takeIt_79 : decode cX0_takeIt 79 = .ok (.aload_n 0, 1) := dk_42 (dk_at dksX0_takeIt_3 12 rfl rfl)
theorem dX0_takeIt_80 : decode cX0_takeIt 80 = .ok (.getfield 77, 3) := dk_180 0 77 (dk_at dksX0_takeIt_3 13 rfl rfl)
theorem dX0_takeIt_83 : decode cX0_takeIt 83 = .ok (.dup, 1) := dk_89 (dk_at dksX0_takeIt_3 16 rfl rfl)
theorem dX0_takeIt_84 : decode cX0_takeIt 84 = .ok (.getfield 154, 3) := dk_180 0 154 (dk_at dksX0_takeIt_3 17 rfl rfl)
theorem dX0_takeIt_87 : decode cX0_takeIt 87 = .ok (.iconst 1, 1) := dk_4 (dk_at dksX0_takeIt_3 20 rfl rfl)
theorem dX0_takeIt_88 : decode cX0_takeIt 88 = .ok (.iload_n 1, 1) := dk_27 (dk_at dksX0_takeIt_3 21 rfl rfl)
theorem dX0_takeIt_89 : decode cX0_takeIt 89 = .ok (.ishl, 1) := dk_120 (dk_at dksX0_takeIt_3 22 rfl rfl)
theorem dX0_takeIt_90 : decode cX0_takeIt 90 = .ok (.ior, 1) := dk_128 (dk_at dksX0_takeIt_3 23 rfl rfl)
theorem dX0_takeIt_91 : decode cX0_takeIt 91 = .ok (.putfield 154, 3) := dk_181 0 154 (dk_at dksX0_takeIt_4 0 rfl rfl)
theorem dX0_takeIt_94 : decode cX0_takeIt 94 = .ok (.aload_n 0, 1) := dk_42 (dk_at dksX0_takeIt_4 3 rfl rfl)
theorem dX0_takeIt_95 : decode cX0_takeIt 95 = .ok (.getfield 77, 3) := dk_180 0 77 (dk_at dksX0_takeIt_4 4 rfl rfl)
theorem dX0_takeIt_98 : decode cX0_takeIt 98 = .ok (.getfield 301, 3) := dk_180 1 45 (dk_at dksX0_takeIt_4 7 rfl rfl)
theorem dX0_takeIt_101 : decode cX0_takeIt 101 = .ok (.ireturn, 1) := dk_172 (dk_at dksX0_takeIt_4 10 rfl rfl)
abbrev cX0_mustBeSet : ByteArray := prog_1_method_35_code
def yX0_mustBeSet : MethodName := ⟨RX0, "mustBeSet", "(I)V"⟩
def dkwX0_mustBeSet_0 : List UInt8 := [27, 133, 9, 42, 180, 0, 77, 182, 0, 150, 133, 184, 0, 13, 2, 184, 0, 9, 177]
abbrev dktX0_mustBeSet_0 : List UInt8 := dkwX0_mustBeSet_0 ++ []
theorem dksX0_mustBeSet_0 : cX0_mustBeSet.data.toList.drop 0 = dktX0_mustBeSet_0 := by decide +kernel
theorem dX0_mustBeSet_0 : decode cX0_mustBeSet 0 = .ok (.iload_n 1, 1) := dk_27 (dk_at dksX0_mustBeSet_0 0 rfl rfl)
theorem dX0_mustBeSet_1 : decode cX0_mustBeSet 1 = .ok (.i2l, 1) := dk_133 (dk_at dksX0_mustBeSet_0 1 rfl rfl)
theorem dX0_mustBeSet_2 : decode cX0_mustBeSet 2 = .ok (.lconst 0, 1) := dk_9 (dk_at dksX0_mustBeSet_0 2 rfl rfl)
theorem dX0_mustBeSet_3 : decode cX0_mustBeSet 3 = .ok (.aload_n 0, 1) := dk_42 (dk_at dksX0_mustBeSet_0 3 rfl rfl)
theorem dX0_mustBeSet_4 : decode cX0_mustBeSet 4 = .ok (.getfield 77, 3) := dk_180 0 77 (dk_at dksX0_mustBeSet_0 4 rfl rfl)
theorem dX0_mustBeSet_7 : decode cX0_mustBeSet 7 = .ok (.invokevirtual 150, 3) := dk_182 0 150 (dk_at dksX0_mustBeSet_0 7 rfl rfl)
theorem dX0_mustBeSet_10 : decode cX0_mustBeSet 10 = .ok (.i2l, 1) := dk_133 (dk_at dksX0_mustBeSet_0 10 rfl rfl)
theorem dX0_mustBeSet_11 : decode cX0_mustBeSet 11 = .ok (.invokestatic 13, 3) := dk_184 0 13 (dk_at dksX0_mustBeSet_0 11 rfl rfl)
theorem dX0_mustBeSet_14 : decode cX0_mustBeSet 14 = .ok (.iconst (-1), 1) := dk_2 (dk_at dksX0_mustBeSet_0 14 rfl rfl)
theorem dX0_mustBeSet_15 : decode cX0_mustBeSet 15 = .ok (.invokestatic 9, 3) := dk_184 0 9 (dk_at dksX0_mustBeSet_0 15 rfl rfl)
theorem dX0_mustBeSet_18 : decode cX0_mustBeSet 18 = .ok (.return_, 1) := dk_177 (dk_at dksX0_mustBeSet_0 18 rfl rfl)
abbrev cX0_ofSets : ByteArray := prog_1_method_48_code
def yX0_ofSets : MethodName := ⟨RX0, "ofSets", "(III)I"⟩
def dkwX0_ofSets_4 : List UInt8 := [182, 1, 75, 42, 28, 182, 1, 102, 172, 42, 28, 29, 182, 1, 105, 172]
abbrev dktX0_ofSets_4 : List UInt8 := dkwX0_ofSets_4 ++ []
def dkwX0_ofSets_3 : List UInt8 := [182, 1, 93, 172, 42, 28, 182, 1, 96, 172, 42, 28, 182, 1, 75, 42, 28, 182, 1, 99, 172, 42, 28]
abbrev dktX0_ofSets_3 : List UInt8 := dkwX0_ofSets_3 ++ dktX0_ofSets_4
def dkwX0_ofSets_2 : List UInt8 := [42, 28, 29, 182, 1, 81, 172, 42, 182, 1, 84, 172, 42, 28, 182, 1, 87, 172, 42, 182, 1, 90, 172, 42]
abbrev dktX0_ofSets_2 : List UInt8 := dkwX0_ofSets_2 ++ dktX0_ofSets_3
def dkwX0_ofSets_1 : List UInt8 := [170, 0, 0, 0, 0, 0, 103, 0, 0, 0, 9, 0, 0, 0, 16, 0, 0, 0, 47, 0, 0, 0, 54, 0, 0, 0, 59, 0, 0, 0, 65, 0, 0, 0, 70, 0, 0, 0, 75, 0, 0, 0, 81, 0, 0, 0, 92]
abbrev dktX0_ofSets_1 : List UInt8 := dkwX0_ofSets_1 ++ dktX0_ofSets_2
def dkwX0_ofSets_0 : List UInt8 := [27]
abbrev dktX0_ofSets_0 : List UInt8 := dkwX0_ofSets_0 ++ dktX0_ofSets_1
theorem dksX0_ofSets_0 : cX0_ofSets.data.toList.drop 0 = dktX0_ofSets_0 := by decide +kernel
theorem dksX0_ofSets_1 : cX0_ofSets.data.toList.drop 1 = dktX0_ofSets_1 := dk_seg dksX0_ofSets_0 1 rfl rfl
theorem dksX0_ofSets_2 : cX0_ofSets.data.toList.drop 48 = dktX0_ofSets_2 := dk_seg dksX0_ofSets_1 47 rfl rfl
theorem dksX0_ofSets_3 : cX0_ofSets.data.toList.drop 72 = dktX0_ofSets_3 := dk_seg dksX0_ofSets_2 24 rfl rfl
theorem dksX0_ofSets_4 : cX0_ofSets.data.toList.drop 95 = dktX0_ofSets_4 := dk_seg dksX0_ofSets_3 23 rfl rfl
theorem dX0_ofSets_0 : decode cX0_ofSets 0 = .ok (.iload_n 1, 1) := dk_27 (dk_at dksX0_ofSets_0 0 rfl rfl)
theorem dX0_ofSets_1 : decode cX0_ofSets 1 = .ok (.tableswitch 103 9 16 #[47, 54, 59, 65, 70, 75, 81, 92], 47) := by decide +kernel
theorem dX0_ofSets_48 : decode cX0_ofSets 48 = .ok (.aload_n 0, 1) := dk_42 (dk_at dksX0_ofSets_2 0 rfl rfl)
theorem dX0_ofSets_49 : decode cX0_ofSets 49 = .ok (.iload_n 2, 1) := dk_28 (dk_at dksX0_ofSets_2 1 rfl rfl)
theorem dX0_ofSets_50 : decode cX0_ofSets 50 = .ok (.iload_n 3, 1) := dk_29 (dk_at dksX0_ofSets_2 2 rfl rfl)
theorem dX0_ofSets_51 : decode cX0_ofSets 51 = .ok (.invokevirtual 337, 3) := dk_182 1 81 (dk_at dksX0_ofSets_2 3 rfl rfl)
theorem dX0_ofSets_54 : decode cX0_ofSets 54 = .ok (.ireturn, 1) := dk_172 (dk_at dksX0_ofSets_2 6 rfl rfl)
theorem dX0_ofSets_55 : decode cX0_ofSets 55 = .ok (.aload_n 0, 1) := dk_42 (dk_at dksX0_ofSets_2 7 rfl rfl)
theorem dX0_ofSets_56 : decode cX0_ofSets 56 = .ok (.invokevirtual 340, 3) := dk_182 1 84 (dk_at dksX0_ofSets_2 8 rfl rfl)
theorem dX0_ofSets_59 : decode cX0_ofSets 59 = .ok (.ireturn, 1) := dk_172 (dk_at dksX0_ofSets_2 11 rfl rfl)
theorem dX0_ofSets_60 : decode cX0_ofSets 60 = .ok (.aload_n 0, 1) := dk_42 (dk_at dksX0_ofSets_2 12 rfl rfl)
theorem dX0_ofSets_61 : decode cX0_ofSets 61 = .ok (.iload_n 2, 1) := dk_28 (dk_at dksX0_ofSets_2 13 rfl rfl)
theorem dX0_ofSets_62 : decode cX0_ofSets 62 = .ok (.invokevirtual 343, 3) := dk_182 1 87 (dk_at dksX0_ofSets_2 14 rfl rfl)
theorem dX0_ofSets_65 : decode cX0_ofSets 65 = .ok (.ireturn, 1) := dk_172 (dk_at dksX0_ofSets_2 17 rfl rfl)
theorem dX0_ofSets_66 : decode cX0_ofSets 66 = .ok (.aload_n 0, 1) := dk_42 (dk_at dksX0_ofSets_2 18 rfl rfl)
theorem dX0_ofSets_67 : decode cX0_ofSets 67 = .ok (.invokevirtual 346, 3) := dk_182 1 90 (dk_at dksX0_ofSets_2 19 rfl rfl)
theorem dX0_ofSets_70 : decode cX0_ofSets 70 = .ok (.ireturn, 1) := dk_172 (dk_at dksX0_ofSets_2 22 rfl rfl)
theorem dX0_ofSets_71 : decode cX0_ofSets 71 = .ok (.aload_n 0, 1) := dk_42 (dk_at dksX0_ofSets_2 23 rfl rfl)
theorem dX0_ofSets_72 : decode cX0_ofSets 72 = .ok (.invokevirtual 349, 3) := dk_182 1 93 (dk_at dksX0_ofSets_3 0 rfl rfl)
theorem dX0_ofSets_75 : decode cX0_ofSets 75 = .ok (.ireturn, 1) := dk_172 (dk_at dksX0_ofSets_3 3 rfl rfl)
theorem dX0_ofSets_76 : decode cX0_ofSets 76 = .ok (.aload_n 0, 1) := dk_42 (dk_at dksX0_ofSets_3 4 rfl rfl)
theorem dX0_ofSets_77 : decode cX0_ofSets 77 = .ok (.iload_n 2, 1) := dk_28 (dk_at dksX0_ofSets_3 5 rfl rfl)
theorem dX0_ofSets_78 : decode cX0_ofSets 78 = .ok (.invokevirtual 352, 3) := dk_182 1 96 (dk_at dksX0_ofSets_3 6 rfl rfl)
theorem dX0_ofSets_81 : decode cX0_ofSets 81 = .ok (.ireturn, 1) := dk_172 (dk_at dksX0_ofSets_3 9 rfl rfl)
theorem dX0_ofSets_82 : decode cX0_ofSets 82 = .ok (.aload_n 0, 1) := dk_42 (dk_at dksX0_ofSets_3 10 rfl rfl)
theorem dX0_ofSets_83 : decode cX0_ofSets 83 = .ok (.iload_n 2, 1) := dk_28 (dk_at dksX0_ofSets_3 11 rfl rfl)
theorem dX0_ofSets_84 : decode cX0_ofSets 84 = .ok (.invokevirtual 331, 3) := dk_182 1 75 (dk_at dksX0_ofSets_3 12 rfl rfl)
theorem dX0_ofSets_87 : decode cX0_ofSets 87 = .ok (.aload_n 0, 1) := dk_42 (dk_at dksX0_ofSets_3 15 rfl rfl)
theorem dX0_ofSets_88 : decode cX0_ofSets 88 = .ok (.iload_n 2, 1) := dk_28 (dk_at dksX0_ofSets_3 16 rfl rfl)
theorem dX0_ofSets_89 : decode cX0_ofSets 89 = .ok (.invokevirtual 355, 3) := dk_182 1 99 (dk_at dksX0_ofSets_3 17 rfl rfl)
theorem dX0_ofSets_92 : decode cX0_ofSets 92 = .ok (.ireturn, 1) := dk_172 (dk_at dksX0_ofSets_3 20 rfl rfl)
theorem dX0_ofSets_93 : decode cX0_ofSets 93 = .ok (.aload_n 0, 1) := dk_42 (dk_at dksX0_ofSets_3 21 rfl rfl)
theorem dX0_ofSets_94 : decode cX0_ofSets 94 = .ok (.iload_n 2, 1) := dk_28 (dk_at dksX0_ofSets_3 22 rfl rfl)
theorem dX0_ofSets_95 : decode cX0_ofSets 95 = .ok (.invokevirtual 331, 3) := dk_182 1 75 (dk_at dksX0_ofSets_4 0 rfl rfl)
theorem dX0_ofSets_98 : decode cX0_ofSets 98 = .ok (.aload_n 0, 1) := dk_42 (dk_at dksX0_ofSets_4 3 rfl rfl)
theorem dX0_ofSets_99 : decode cX0_ofSets 99 = .ok (.iload_n 2, 1) := dk_28 (dk_at dksX0_ofSets_4 4 rfl rfl)
theorem dX0_ofSets_100 : decode cX0_ofSets 100 = .ok (.invokevirtual 358, 3) := dk_182 1 102 (dk_at dksX0_ofSets_4 5 rfl rfl)
theorem dX0_ofSets_103 : decode cX0_ofSets 103 = .ok (.ireturn, 1) := dk_172 (dk_at dksX0_ofSets_4 8 rfl rfl)
theorem dX0_ofSets_104 : decode cX0_ofSets 104 = .ok (.aload_n 0, 1) := dk_42 (dk_at dksX0_ofSets_4 9 rfl rfl)
theorem dX0_ofSets_105 : decode cX0_ofSets 105 = .ok (.iload_n 2, 1) := dk_28 (dk_at dksX0_ofSets_4 10 rfl rfl)
theorem dX0_ofSets_106 : decode cX0_ofSets 106 = .ok (.iload_n 3, 1) := dk_29 (dk_at dksX0_ofSets_4 11 rfl rfl)
theorem dX0_ofSets_107 : decode cX0_ofSets 107 = .ok (.invokevirtual 361, 3) := dk_182 1 105 (dk_at dksX0_ofSets_4 12 rfl rfl)
theorem dX0_ofSets_110 : decode cX0_ofSets 110 = .ok (.ireturn, 1) := dk_172 (dk_at dksX0_ofSets_4 15 rfl rfl)
abbrev cX0_soonestTold : ByteArray := prog_1_method_44_code
def yX0_soonestTold : MethodName := ⟨RX0, "soonestTold", "(II)I"⟩
def dkwX0_soonestTold_1 : List UInt8 := [182, 1, 66, 167, 0, 15, 29, 18, 157, 161, 0, 8, 16, 247, 167, 0, 4, 29, 172]
abbrev dktX0_soonestTold_1 : List UInt8 := dkwX0_soonestTold_1 ++ []
def dkwX0_soonestTold_0 : List UInt8 := [42, 27, 182, 1, 15, 28, 184, 1, 42, 42, 27, 182, 0, 185, 62, 28, 4, 160, 0, 11, 42, 27]
abbrev dktX0_soonestTold_0 : List UInt8 := dkwX0_soonestTold_0 ++ dktX0_soonestTold_1
theorem dksX0_soonestTold_0 : cX0_soonestTold.data.toList.drop 0 = dktX0_soonestTold_0 := by decide +kernel
theorem dksX0_soonestTold_1 : cX0_soonestTold.data.toList.drop 22 = dktX0_soonestTold_1 := dk_seg dksX0_soonestTold_0 22 rfl rfl
theorem dX0_soonestTold_0 : decode cX0_soonestTold 0 = .ok (.aload_n 0, 1) := dk_42 (dk_at dksX0_soonestTold_0 0 rfl rfl)
theorem dX0_soonestTold_1 : decode cX0_soonestTold 1 = .ok (.iload_n 1, 1) := dk_27 (dk_at dksX0_soonestTold_0 1 rfl rfl)
theorem dX0_soonestTold_2 : decode cX0_soonestTold 2 = .ok (.invokevirtual 271, 3) := dk_182 1 15 (dk_at dksX0_soonestTold_0 2 rfl rfl)
theorem dX0_soonestTold_5 : decode cX0_soonestTold 5 = .ok (.iload_n 2, 1) := dk_28 (dk_at dksX0_soonestTold_0 5 rfl rfl)
theorem dX0_soonestTold_6 : decode cX0_soonestTold 6 = .ok (.invokestatic 298, 3) := dk_184 1 42 (dk_at dksX0_soonestTold_0 6 rfl rfl)
theorem dX0_soonestTold_9 : decode cX0_soonestTold 9 = .ok (.aload_n 0, 1) := dk_42 (dk_at dksX0_soonestTold_0 9 rfl rfl)
theorem dX0_soonestTold_10 : decode cX0_soonestTold 10 = .ok (.iload_n 1, 1) := dk_27 (dk_at dksX0_soonestTold_0 10 rfl rfl)
theorem dX0_soonestTold_11 : decode cX0_soonestTold 11 = .ok (.invokevirtual 185, 3) := dk_182 0 185 (dk_at dksX0_soonestTold_0 11 rfl rfl)
theorem dX0_soonestTold_14 : decode cX0_soonestTold 14 = .ok (.istore_n 3, 1) := dk_62 (dk_at dksX0_soonestTold_0 14 rfl rfl)
theorem dX0_soonestTold_15 : decode cX0_soonestTold 15 = .ok (.iload_n 2, 1) := dk_28 (dk_at dksX0_soonestTold_0 15 rfl rfl)
theorem dX0_soonestTold_16 : decode cX0_soonestTold 16 = .ok (.iconst 1, 1) := dk_4 (dk_at dksX0_soonestTold_0 16 rfl rfl)
theorem dX0_soonestTold_17 : decode cX0_soonestTold 17 = .ok (.if_icmp .ne 11, 3) := dk_160 0 11 (dk_at dksX0_soonestTold_0 17 rfl rfl)
theorem dX0_soonestTold_20 : decode cX0_soonestTold 20 = .ok (.aload_n 0, 1) := dk_42 (dk_at dksX0_soonestTold_0 20 rfl rfl)
theorem dX0_soonestTold_21 : decode cX0_soonestTold 21 = .ok (.iload_n 1, 1) := dk_27 (dk_at dksX0_soonestTold_0 21 rfl rfl)
theorem dX0_soonestTold_22 : decode cX0_soonestTold 22 = .ok (.invokevirtual 322, 3) := dk_182 1 66 (dk_at dksX0_soonestTold_1 0 rfl rfl)
theorem dX0_soonestTold_25 : decode cX0_soonestTold 25 = .ok (.goto 15, 3) := dk_167 0 15 (dk_at dksX0_soonestTold_1 3 rfl rfl)
theorem dX0_soonestTold_28 : decode cX0_soonestTold 28 = .ok (.iload_n 3, 1) := dk_29 (dk_at dksX0_soonestTold_1 6 rfl rfl)
theorem dX0_soonestTold_29 : decode cX0_soonestTold 29 = .ok (.ldc 157, 2) := dk_18 157 (dk_at dksX0_soonestTold_1 7 rfl rfl)
theorem dX0_soonestTold_31 : decode cX0_soonestTold 31 = .ok (.if_icmp .lt 8, 3) := dk_161 0 8 (dk_at dksX0_soonestTold_1 9 rfl rfl)
theorem dX0_soonestTold_34 : decode cX0_soonestTold 34 = .ok (.bipush (-9), 2) := dk_16 247 (dk_at dksX0_soonestTold_1 12 rfl rfl)
theorem dX0_soonestTold_36 : decode cX0_soonestTold 36 = .ok (.goto 4, 3) := dk_167 0 4 (dk_at dksX0_soonestTold_1 14 rfl rfl)
theorem dX0_soonestTold_39 : decode cX0_soonestTold 39 = .ok (.iload_n 3, 1) := dk_29 (dk_at dksX0_soonestTold_1 17 rfl rfl)
theorem dX0_soonestTold_40 : decode cX0_soonestTold 40 = .ok (.ireturn, 1) := dk_172 (dk_at dksX0_soonestTold_1 18 rfl rfl)
abbrev cX0_soonestFor : ByteArray := prog_1_method_12_code
def yX0_soonestFor : MethodName := ⟨RX0, "soonestFor", "(I)I"⟩
def dkwX0_soonestFor_2 : List UInt8 := [167, 255, 219, 28, 172]
abbrev dktX0_soonestFor_2 : List UInt8 := dkwX0_soonestFor_2 ++ []
def dkwX0_soonestFor_1 : List UInt8 := [126, 154, 0, 16, 28, 42, 180, 0, 99, 29, 46, 184, 0, 171, 167, 0, 4, 28, 61, 132, 3, 1]
abbrev dktX0_soonestFor_1 : List UInt8 := dkwX0_soonestFor_1 ++ dktX0_soonestFor_2
def dkwX0_soonestFor_0 : List UInt8 := [42, 182, 0, 182, 18, 157, 61, 3, 62, 29, 42, 180, 0, 77, 182, 0, 150, 163, 0, 32, 27, 29, 2, 130]
abbrev dktX0_soonestFor_0 : List UInt8 := dkwX0_soonestFor_0 ++ dktX0_soonestFor_1
theorem dksX0_soonestFor_0 : cX0_soonestFor.data.toList.drop 0 = dktX0_soonestFor_0 := by decide +kernel
theorem dksX0_soonestFor_1 : cX0_soonestFor.data.toList.drop 24 = dktX0_soonestFor_1 := dk_seg dksX0_soonestFor_0 24 rfl rfl
theorem dksX0_soonestFor_2 : cX0_soonestFor.data.toList.drop 46 = dktX0_soonestFor_2 := dk_seg dksX0_soonestFor_1 22 rfl rfl
theorem dX0_soonestFor_0 : decode cX0_soonestFor 0 = .ok (.aload_n 0, 1) := dk_42 (dk_at dksX0_soonestFor_0 0 rfl rfl)
theorem dX0_soonestFor_1 : decode cX0_soonestFor 1 = .ok (.invokevirtual 182, 3) := dk_182 0 182 (dk_at dksX0_soonestFor_0 1 rfl rfl)
theorem dX0_soonestFor_4 : decode cX0_soonestFor 4 = .ok (.ldc 157, 2) := dk_18 157 (dk_at dksX0_soonestFor_0 4 rfl rfl)
theorem dX0_soonestFor_6 : decode cX0_soonestFor 6 = .ok (.istore_n 2, 1) := dk_61 (dk_at dksX0_soonestFor_0 6 rfl rfl)
theorem dX0_soonestFor_7 : decode cX0_soonestFor 7 = .ok (.iconst 0, 1) := dk_3 (dk_at dksX0_soonestFor_0 7 rfl rfl)
theorem dX0_soonestFor_8 : decode cX0_soonestFor 8 = .ok (.istore_n 3, 1) := dk_62 (dk_at dksX0_soonestFor_0 8 rfl rfl)
theorem dX0_soonestFor_9 : decode cX0_soonestFor 9 = .ok (.iload_n 3, 1) := dk_29 (dk_at dksX0_soonestFor_0 9 rfl rfl)
theorem dX0_soonestFor_10 : decode cX0_soonestFor 10 = .ok (.aload_n 0, 1) := dk_42 (dk_at dksX0_soonestFor_0 10 rfl rfl)
theorem dX0_soonestFor_11 : decode cX0_soonestFor 11 = .ok (.getfield 77, 3) := dk_180 0 77 (dk_at dksX0_soonestFor_0 11 rfl rfl)
theorem dX0_soonestFor_14 : decode cX0_soonestFor 14 = .ok (.invokevirtual 150, 3) := dk_182 0 150 (dk_at dksX0_soonestFor_0 14 rfl rfl)
theorem dX0_soonestFor_17 : decode cX0_soonestFor 17 = .ok (.if_icmp .gt 32, 3) := dk_163 0 32 (dk_at dksX0_soonestFor_0 17 rfl rfl)
theorem dX0_soonestFor_20 : decode cX0_soonestFor 20 = .ok (.iload_n 1, 1) := dk_27 (dk_at dksX0_soonestFor_0 20 rfl rfl)
theorem dX0_soonestFor_21 : decode cX0_soonestFor 21 = .ok (.iload_n 3, 1) := dk_29 (dk_at dksX0_soonestFor_0 21 rfl rfl)
theorem dX0_soonestFor_22 : decode cX0_soonestFor 22 = .ok (.iconst (-1), 1) := dk_2 (dk_at dksX0_soonestFor_0 22 rfl rfl)
theorem dX0_soonestFor_23 : decode cX0_soonestFor 23 = .ok (.ixor, 1) := dk_130 (dk_at dksX0_soonestFor_0 23 rfl rfl)
theorem dX0_soonestFor_24 : decode cX0_soonestFor 24 = .ok (.iand, 1) := dk_126 (dk_at dksX0_soonestFor_1 0 rfl rfl)
theorem dX0_soonestFor_25 : decode cX0_soonestFor 25 = .ok (.ifCond .ne 16, 3) := dk_154 0 16 (dk_at dksX0_soonestFor_1 1 rfl rfl)
theorem dX0_soonestFor_28 : decode cX0_soonestFor 28 = .ok (.iload_n 2, 1) := dk_28 (dk_at dksX0_soonestFor_1 4 rfl rfl)
theorem dX0_soonestFor_29 : decode cX0_soonestFor 29 = .ok (.aload_n 0, 1) := dk_42 (dk_at dksX0_soonestFor_1 5 rfl rfl)
theorem dX0_soonestFor_30 : decode cX0_soonestFor 30 = .ok (.getfield 99, 3) := dk_180 0 99 (dk_at dksX0_soonestFor_1 6 rfl rfl)
theorem dX0_soonestFor_33 : decode cX0_soonestFor 33 = .ok (.iload_n 3, 1) := dk_29 (dk_at dksX0_soonestFor_1 9 rfl rfl)
theorem dX0_soonestFor_34 : decode cX0_soonestFor 34 = .ok (.iaload, 1) := dk_46 (dk_at dksX0_soonestFor_1 10 rfl rfl)
theorem dX0_soonestFor_35 : decode cX0_soonestFor 35 = .ok (.invokestatic 171, 3) := dk_184 0 171 (dk_at dksX0_soonestFor_1 11 rfl rfl)
theorem dX0_soonestFor_38 : decode cX0_soonestFor 38 = .ok (.goto 4, 3) := dk_167 0 4 (dk_at dksX0_soonestFor_1 14 rfl rfl)
theorem dX0_soonestFor_41 : decode cX0_soonestFor 41 = .ok (.iload_n 2, 1) := dk_28 (dk_at dksX0_soonestFor_1 17 rfl rfl)
theorem dX0_soonestFor_42 : decode cX0_soonestFor 42 = .ok (.istore_n 2, 1) := dk_61 (dk_at dksX0_soonestFor_1 18 rfl rfl)
theorem dX0_soonestFor_43 : decode cX0_soonestFor 43 = .ok (.iinc 3 1, 3) := dk_132 3 1 (dk_at dksX0_soonestFor_1 19 rfl rfl)
theorem dX0_soonestFor_46 : decode cX0_soonestFor 46 = .ok (.goto (-37), 3) := dk_167 255 219 (dk_at dksX0_soonestFor_2 0 rfl rfl)
theorem dX0_soonestFor_49 : decode cX0_soonestFor 49 = .ok (.iload_n 2, 1) := dk_28 (dk_at dksX0_soonestFor_2 3 rfl rfl)
theorem dX0_soonestFor_50 : decode cX0_soonestFor 50 = .ok (.ireturn, 1) := dk_172 (dk_at dksX0_soonestFor_2 4 rfl rfl)
abbrev cX0_findOrders : ByteArray := prog_1_method_11_code
def yX0_findOrders : MethodName := ⟨RX0, "findOrders", "()V"⟩
def dkwX0_findOrders_10 : List UInt8 := [132, 1, 1, 167, 255, 119, 177]
abbrev dktX0_findOrders_10 : List UInt8 := dkwX0_findOrders_10 ++ []
def dkwX0_findOrders_9 : List UInt8 := [80, 42, 180, 0, 106, 29, 92, 46, 42, 180, 0, 106, 27, 46, 96, 79, 132, 2, 1, 167, 255, 138]
abbrev dktX0_findOrders_9 : List UInt8 := dkwX0_findOrders_9 ++ dktX0_findOrders_10
def dkwX0_findOrders_8 : List UInt8 := [180, 0, 102, 29, 47, 42, 180, 0, 102, 27, 47, 42, 180, 0, 77, 28, 27, 182, 0, 176, 97, 184, 0, 180]
abbrev dktX0_findOrders_8 : List UInt8 := dkwX0_findOrders_8 ++ dktX0_findOrders_9
def dkwX0_findOrders_7 : List UInt8 := [27, 46, 42, 180, 0, 77, 28, 27, 182, 0, 167, 96, 184, 0, 171, 79, 42, 180, 0, 102, 29, 42]
abbrev dktX0_findOrders_7 : List UInt8 := dkwX0_findOrders_7 ++ dktX0_findOrders_8
def dkwX0_findOrders_6 : List UInt8 := [153, 0, 86, 27, 4, 28, 120, 128, 62, 42, 180, 0, 99, 29, 42, 180, 0, 99, 29, 46, 42, 180, 0, 99]
abbrev dktX0_findOrders_6 : List UInt8 := dkwX0_findOrders_6 ++ dktX0_findOrders_7
def dkwX0_findOrders_5 : List UInt8 := [180, 0, 160, 162, 0, 113, 42, 180, 0, 106, 27, 46, 158, 0, 98, 42, 180, 0, 77, 28, 27, 182, 0, 163]
abbrev dktX0_findOrders_5 : List UInt8 := dkwX0_findOrders_5 ++ dktX0_findOrders_6
def dkwX0_findOrders_4 : List UInt8 := [180, 0, 154, 60, 27, 42, 180, 0, 77, 182, 0, 150, 163, 0, 132, 3, 61, 28, 42, 180, 0, 77]
abbrev dktX0_findOrders_4 : List UInt8 := dkwX0_findOrders_4 ++ dktX0_findOrders_5
def dkwX0_findOrders_3 : List UInt8 := [180, 0, 154, 160, 0, 7, 4, 167, 0, 4, 3, 79, 132, 1, 1, 167, 255, 173, 42, 180, 0, 77]
abbrev dktX0_findOrders_3 : List UInt8 := dkwX0_findOrders_3 ++ dktX0_findOrders_4
def dkwX0_findOrders_2 : List UInt8 := [180, 0, 154, 160, 0, 7, 9, 167, 0, 6, 20, 0, 158, 80, 42, 180, 0, 106, 27, 27, 42, 180, 0, 77]
abbrev dktX0_findOrders_2 : List UInt8 := dkwX0_findOrders_2 ++ dktX0_findOrders_3
def dkwX0_findOrders_1 : List UInt8 := [180, 0, 154, 160, 0, 7, 3, 167, 0, 5, 18, 157, 79, 42, 180, 0, 102, 27, 27, 42, 180, 0, 77]
abbrev dktX0_findOrders_1 : List UInt8 := dkwX0_findOrders_1 ++ dktX0_findOrders_2
def dkwX0_findOrders_0 : List UInt8 := [3, 60, 27, 42, 180, 0, 77, 182, 0, 150, 163, 0, 78, 42, 180, 0, 99, 27, 27, 42, 180, 0, 77]
abbrev dktX0_findOrders_0 : List UInt8 := dkwX0_findOrders_0 ++ dktX0_findOrders_1
theorem dksX0_findOrders_0 : cX0_findOrders.data.toList.drop 0 = dktX0_findOrders_0 := by decide +kernel
theorem dksX0_findOrders_1 : cX0_findOrders.data.toList.drop 23 = dktX0_findOrders_1 := dk_seg dksX0_findOrders_0 23 rfl rfl
theorem dksX0_findOrders_2 : cX0_findOrders.data.toList.drop 46 = dktX0_findOrders_2 := dk_seg dksX0_findOrders_1 23 rfl rfl
theorem dksX0_findOrders_3 : cX0_findOrders.data.toList.drop 70 = dktX0_findOrders_3 := dk_seg dksX0_findOrders_2 24 rfl rfl
theorem dksX0_findOrders_4 : cX0_findOrders.data.toList.drop 92 = dktX0_findOrders_4 := dk_seg dksX0_findOrders_3 22 rfl rfl
theorem dksX0_findOrders_5 : cX0_findOrders.data.toList.drop 114 = dktX0_findOrders_5 := dk_seg dksX0_findOrders_4 22 rfl rfl
theorem dksX0_findOrders_6 : cX0_findOrders.data.toList.drop 138 = dktX0_findOrders_6 := dk_seg dksX0_findOrders_5 24 rfl rfl
theorem dksX0_findOrders_7 : cX0_findOrders.data.toList.drop 162 = dktX0_findOrders_7 := dk_seg dksX0_findOrders_6 24 rfl rfl
theorem dksX0_findOrders_8 : cX0_findOrders.data.toList.drop 184 = dktX0_findOrders_8 := dk_seg dksX0_findOrders_7 22 rfl rfl
theorem dksX0_findOrders_9 : cX0_findOrders.data.toList.drop 208 = dktX0_findOrders_9 := dk_seg dksX0_findOrders_8 24 rfl rfl
theorem dksX0_findOrders_10 : cX0_findOrders.data.toList.drop 230 = dktX0_findOrders_10 := dk_seg dksX0_findOrders_9 22 rfl rfl
theorem dX0_findOrders_0 : decode cX0_findOrders 0 = .ok (.iconst 0, 1) := dk_3 (dk_at dksX0_findOrders_0 0 rfl rfl)
theorem dX0_findOrders_1 : decode cX0_findOrders 1 = .ok (.istore_n 1, 1) := dk_60 (dk_at dksX0_findOrders_0 1 rfl rfl)
theorem dX0_findOrders_2 : decode cX0_findOrders 2 = .ok (.iload_n 1, 1) := dk_27 (dk_at dksX0_findOrders_0 2 rfl rfl)
theorem dX0_findOrders_3 : decode cX0_findOrders 3 = .ok (.aload_n 0, 1) := dk_42 (dk_at dksX0_findOrders_0 3 rfl rfl)
theorem dX0_findOrders_4 : decode cX0_findOrders 4 = .ok (.getfield 77, 3) := dk_180 0 77 (dk_at dksX0_findOrders_0 4 rfl rfl)
theorem dX0_findOrders_7 : decode cX0_findOrders 7 = .ok (.invokevirtual 150, 3) := dk_182 0 150 (dk_at dksX0_findOrders_0 7 rfl rfl)
theorem dX0_findOrders_10 : decode cX0_findOrders 10 = .ok (.if_icmp .gt 78, 3) := dk_163 0 78 (dk_at dksX0_findOrders_0 10 rfl rfl)
theorem dX0_findOrders_13 : decode cX0_findOrders 13 = .ok (.aload_n 0, 1) := dk_42 (dk_at dksX0_findOrders_0 13 rfl rfl)
theorem dX0_findOrders_14 : decode cX0_findOrders 14 = .ok (.getfield 99, 3) := dk_180 0 99 (dk_at dksX0_findOrders_0 14 rfl rfl)
theorem dX0_findOrders_17 : decode cX0_findOrders 17 = .ok (.iload_n 1, 1) := dk_27 (dk_at dksX0_findOrders_0 17 rfl rfl)
theorem dX0_findOrders_18 : decode cX0_findOrders 18 = .ok (.iload_n 1, 1) := dk_27 (dk_at dksX0_findOrders_0 18 rfl rfl)
theorem dX0_findOrders_19 : decode cX0_findOrders 19 = .ok (.aload_n 0, 1) := dk_42 (dk_at dksX0_findOrders_0 19 rfl rfl)
theorem dX0_findOrders_20 : decode cX0_findOrders 20 = .ok (.getfield 77, 3) := dk_180 0 77 (dk_at dksX0_findOrders_0 20 rfl rfl)
theorem dX0_findOrders_23 : decode cX0_findOrders 23 = .ok (.getfield 154, 3) := dk_180 0 154 (dk_at dksX0_findOrders_1 0 rfl rfl)
theorem dX0_findOrders_26 : decode cX0_findOrders 26 = .ok (.if_icmp .ne 7, 3) := dk_160 0 7 (dk_at dksX0_findOrders_1 3 rfl rfl)
theorem dX0_findOrders_29 : decode cX0_findOrders 29 = .ok (.iconst 0, 1) := dk_3 (dk_at dksX0_findOrders_1 6 rfl rfl)
theorem dX0_findOrders_30 : decode cX0_findOrders 30 = .ok (.goto 5, 3) := dk_167 0 5 (dk_at dksX0_findOrders_1 7 rfl rfl)
theorem dX0_findOrders_33 : decode cX0_findOrders 33 = .ok (.ldc 157, 2) := dk_18 157 (dk_at dksX0_findOrders_1 10 rfl rfl)
theorem dX0_findOrders_35 : decode cX0_findOrders 35 = .ok (.iastore, 1) := dk_79 (dk_at dksX0_findOrders_1 12 rfl rfl)
theorem dX0_findOrders_36 : decode cX0_findOrders 36 = .ok (.aload_n 0, 1) := dk_42 (dk_at dksX0_findOrders_1 13 rfl rfl)
theorem dX0_findOrders_37 : decode cX0_findOrders 37 = .ok (.getfield 102, 3) := dk_180 0 102 (dk_at dksX0_findOrders_1 14 rfl rfl)
theorem dX0_findOrders_40 : decode cX0_findOrders 40 = .ok (.iload_n 1, 1) := dk_27 (dk_at dksX0_findOrders_1 17 rfl rfl)
theorem dX0_findOrders_41 : decode cX0_findOrders 41 = .ok (.iload_n 1, 1) := dk_27 (dk_at dksX0_findOrders_1 18 rfl rfl)
theorem dX0_findOrders_42 : decode cX0_findOrders 42 = .ok (.aload_n 0, 1) := dk_42 (dk_at dksX0_findOrders_1 19 rfl rfl)
theorem dX0_findOrders_43 : decode cX0_findOrders 43 = .ok (.getfield 77, 3) := dk_180 0 77 (dk_at dksX0_findOrders_1 20 rfl rfl)
theorem dX0_findOrders_46 : decode cX0_findOrders 46 = .ok (.getfield 154, 3) := dk_180 0 154 (dk_at dksX0_findOrders_2 0 rfl rfl)
theorem dX0_findOrders_49 : decode cX0_findOrders 49 = .ok (.if_icmp .ne 7, 3) := dk_160 0 7 (dk_at dksX0_findOrders_2 3 rfl rfl)
theorem dX0_findOrders_52 : decode cX0_findOrders 52 = .ok (.lconst 0, 1) := dk_9 (dk_at dksX0_findOrders_2 6 rfl rfl)
theorem dX0_findOrders_53 : decode cX0_findOrders 53 = .ok (.goto 6, 3) := dk_167 0 6 (dk_at dksX0_findOrders_2 7 rfl rfl)
theorem dX0_findOrders_56 : decode cX0_findOrders 56 = .ok (.ldc2_w 158, 3) := dk_20 0 158 (dk_at dksX0_findOrders_2 10 rfl rfl)
theorem dX0_findOrders_59 : decode cX0_findOrders 59 = .ok (.lastore, 1) := dk_80 (dk_at dksX0_findOrders_2 13 rfl rfl)
theorem dX0_findOrders_60 : decode cX0_findOrders 60 = .ok (.aload_n 0, 1) := dk_42 (dk_at dksX0_findOrders_2 14 rfl rfl)
theorem dX0_findOrders_61 : decode cX0_findOrders 61 = .ok (.getfield 106, 3) := dk_180 0 106 (dk_at dksX0_findOrders_2 15 rfl rfl)
theorem dX0_findOrders_64 : decode cX0_findOrders 64 = .ok (.iload_n 1, 1) := dk_27 (dk_at dksX0_findOrders_2 18 rfl rfl)
theorem dX0_findOrders_65 : decode cX0_findOrders 65 = .ok (.iload_n 1, 1) := dk_27 (dk_at dksX0_findOrders_2 19 rfl rfl)
theorem dX0_findOrders_66 : decode cX0_findOrders 66 = .ok (.aload_n 0, 1) := dk_42 (dk_at dksX0_findOrders_2 20 rfl rfl)
theorem dX0_findOrders_67 : decode cX0_findOrders 67 = .ok (.getfield 77, 3) := dk_180 0 77 (dk_at dksX0_findOrders_2 21 rfl rfl)
theorem dX0_findOrders_70 : decode cX0_findOrders 70 = .ok (.getfield 154, 3) := dk_180 0 154 (dk_at dksX0_findOrders_3 0 rfl rfl)
theorem dX0_findOrders_73 : decode cX0_findOrders 73 = .ok (.if_icmp .ne 7, 3) := dk_160 0 7 (dk_at dksX0_findOrders_3 3 rfl rfl)
theorem dX0_findOrders_76 : decode cX0_findOrders 76 = .ok (.iconst 1, 1) := dk_4 (dk_at dksX0_findOrders_3 6 rfl rfl)
theorem dX0_findOrders_77 : decode cX0_findOrders 77 = .ok (.goto 4, 3) := dk_167 0 4 (dk_at dksX0_findOrders_3 7 rfl rfl)
theorem dX0_findOrders_80 : decode cX0_findOrders 80 = .ok (.iconst 0, 1) := dk_3 (dk_at dksX0_findOrders_3 10 rfl rfl)
theorem dX0_findOrders_81 : decode cX0_findOrders 81 = .ok (.iastore, 1) := dk_79 (dk_at dksX0_findOrders_3 11 rfl rfl)
theorem dX0_findOrders_82 : decode cX0_findOrders 82 = .ok (.iinc 1 1, 3) := dk_132 1 1 (dk_at dksX0_findOrders_3 12 rfl rfl)
theorem dX0_findOrders_85 : decode cX0_findOrders 85 = .ok (.goto (-83), 3) := dk_167 255 173 (dk_at dksX0_findOrders_3 15 rfl rfl)
theorem dX0_findOrders_88 : decode cX0_findOrders 88 = .ok (.aload_n 0, 1) := dk_42 (dk_at dksX0_findOrders_3 18 rfl rfl)
theorem dX0_findOrders_89 : decode cX0_findOrders 89 = .ok (.getfield 77, 3) := dk_180 0 77 (dk_at dksX0_findOrders_3 19 rfl rfl)
theorem dX0_findOrders_92 : decode cX0_findOrders 92 = .ok (.getfield 154, 3) := dk_180 0 154 (dk_at dksX0_findOrders_4 0 rfl rfl)
theorem dX0_findOrders_95 : decode cX0_findOrders 95 = .ok (.istore_n 1, 1) := dk_60 (dk_at dksX0_findOrders_4 3 rfl rfl)
theorem dX0_findOrders_96 : decode cX0_findOrders 96 = .ok (.iload_n 1, 1) := dk_27 (dk_at dksX0_findOrders_4 4 rfl rfl)
theorem dX0_findOrders_97 : decode cX0_findOrders 97 = .ok (.aload_n 0, 1) := dk_42 (dk_at dksX0_findOrders_4 5 rfl rfl)
theorem dX0_findOrders_98 : decode cX0_findOrders 98 = .ok (.getfield 77, 3) := dk_180 0 77 (dk_at dksX0_findOrders_4 6 rfl rfl)
theorem dX0_findOrders_101 : decode cX0_findOrders 101 = .ok (.invokevirtual 150, 3) := dk_182 0 150 (dk_at dksX0_findOrders_4 9 rfl rfl)
theorem dX0_findOrders_104 : decode cX0_findOrders 104 = .ok (.if_icmp .gt 132, 3) := dk_163 0 132 (dk_at dksX0_findOrders_4 12 rfl rfl)
theorem dX0_findOrders_107 : decode cX0_findOrders 107 = .ok (.iconst 0, 1) := dk_3 (dk_at dksX0_findOrders_4 15 rfl rfl)
theorem dX0_findOrders_108 : decode cX0_findOrders 108 = .ok (.istore_n 2, 1) := dk_61 (dk_at dksX0_findOrders_4 16 rfl rfl)
theorem dX0_findOrders_109 : decode cX0_findOrders 109 = .ok (.iload_n 2, 1) := dk_28 (dk_at dksX0_findOrders_4 17 rfl rfl)
theorem dX0_findOrders_110 : decode cX0_findOrders 110 = .ok (.aload_n 0, 1) := dk_42 (dk_at dksX0_findOrders_4 18 rfl rfl)
theorem dX0_findOrders_111 : decode cX0_findOrders 111 = .ok (.getfield 77, 3) := dk_180 0 77 (dk_at dksX0_findOrders_4 19 rfl rfl)
theorem dX0_findOrders_114 : decode cX0_findOrders 114 = .ok (.getfield 160, 3) := dk_180 0 160 (dk_at dksX0_findOrders_5 0 rfl rfl)
theorem dX0_findOrders_117 : decode cX0_findOrders 117 = .ok (.if_icmp .ge 113, 3) := dk_162 0 113 (dk_at dksX0_findOrders_5 3 rfl rfl)
theorem dX0_findOrders_120 : decode cX0_findOrders 120 = .ok (.aload_n 0, 1) := dk_42 (dk_at dksX0_findOrders_5 6 rfl rfl)
theorem dX0_findOrders_121 : decode cX0_findOrders 121 = .ok (.getfield 106, 3) := dk_180 0 106 (dk_at dksX0_findOrders_5 7 rfl rfl)
theorem dX0_findOrders_124 : decode cX0_findOrders 124 = .ok (.iload_n 1, 1) := dk_27 (dk_at dksX0_findOrders_5 10 rfl rfl)
theorem dX0_findOrders_125 : decode cX0_findOrders 125 = .ok (.iaload, 1) := dk_46 (dk_at dksX0_findOrders_5 11 rfl rfl)
theorem dX0_findOrders_126 : decode cX0_findOrders 126 = .ok (.ifCond .le 98, 3) := dk_158 0 98 (dk_at dksX0_findOrders_5 12 rfl rfl)
theorem dX0_findOrders_129 : decode cX0_findOrders 129 = .ok (.aload_n 0, 1) := dk_42 (dk_at dksX0_findOrders_5 15 rfl rfl)
theorem dX0_findOrders_130 : decode cX0_findOrders 130 = .ok (.getfield 77, 3) := dk_180 0 77 (dk_at dksX0_findOrders_5 16 rfl rfl)
theorem dX0_findOrders_133 : decode cX0_findOrders 133 = .ok (.iload_n 2, 1) := dk_28 (dk_at dksX0_findOrders_5 19 rfl rfl)
theorem dX0_findOrders_134 : decode cX0_findOrders 134 = .ok (.iload_n 1, 1) := dk_27 (dk_at dksX0_findOrders_5 20 rfl rfl)
theorem dX0_findOrders_135 : decode cX0_findOrders 135 = .ok (.invokevirtual 163, 3) := dk_182 0 163 (dk_at dksX0_findOrders_5 21 rfl rfl)
theorem dX0_findOrders_138 : decode cX0_findOrders 138 = .ok (.ifCond .eq 86, 3) := dk_153 0 86 (dk_at dksX0_findOrders_6 0 rfl rfl)
theorem dX0_findOrders_141 : decode cX0_findOrders 141 = .ok (.iload_n 1, 1) := dk_27 (dk_at dksX0_findOrders_6 3 rfl rfl)
theorem dX0_findOrders_142 : decode cX0_findOrders 142 = .ok (.iconst 1, 1) := dk_4 (dk_at dksX0_findOrders_6 4 rfl rfl)
theorem dX0_findOrders_143 : decode cX0_findOrders 143 = .ok (.iload_n 2, 1) := dk_28 (dk_at dksX0_findOrders_6 5 rfl rfl)
theorem dX0_findOrders_144 : decode cX0_findOrders 144 = .ok (.ishl, 1) := dk_120 (dk_at dksX0_findOrders_6 6 rfl rfl)
theorem dX0_findOrders_145 : decode cX0_findOrders 145 = .ok (.ior, 1) := dk_128 (dk_at dksX0_findOrders_6 7 rfl rfl)
theorem dX0_findOrders_146 : decode cX0_findOrders 146 = .ok (.istore_n 3, 1) := dk_62 (dk_at dksX0_findOrders_6 8 rfl rfl)
theorem dX0_findOrders_147 : decode cX0_findOrders 147 = .ok (.aload_n 0, 1) := dk_42 (dk_at dksX0_findOrders_6 9 rfl rfl)
theorem dX0_findOrders_148 : decode cX0_findOrders 148 = .ok (.getfield 99, 3) := dk_180 0 99 (dk_at dksX0_findOrders_6 10 rfl rfl)
theorem dX0_findOrders_151 : decode cX0_findOrders 151 = .ok (.iload_n 3, 1) := dk_29 (dk_at dksX0_findOrders_6 13 rfl rfl)
theorem dX0_findOrders_152 : decode cX0_findOrders 152 = .ok (.aload_n 0, 1) := dk_42 (dk_at dksX0_findOrders_6 14 rfl rfl)
theorem dX0_findOrders_153 : decode cX0_findOrders 153 = .ok (.getfield 99, 3) := dk_180 0 99 (dk_at dksX0_findOrders_6 15 rfl rfl)
theorem dX0_findOrders_156 : decode cX0_findOrders 156 = .ok (.iload_n 3, 1) := dk_29 (dk_at dksX0_findOrders_6 18 rfl rfl)
theorem dX0_findOrders_157 : decode cX0_findOrders 157 = .ok (.iaload, 1) := dk_46 (dk_at dksX0_findOrders_6 19 rfl rfl)
theorem dX0_findOrders_158 : decode cX0_findOrders 158 = .ok (.aload_n 0, 1) := dk_42 (dk_at dksX0_findOrders_6 20 rfl rfl)
theorem dX0_findOrders_159 : decode cX0_findOrders 159 = .ok (.getfield 99, 3) := dk_180 0 99 (dk_at dksX0_findOrders_6 21 rfl rfl)
theorem dX0_findOrders_162 : decode cX0_findOrders 162 = .ok (.iload_n 1, 1) := dk_27 (dk_at dksX0_findOrders_7 0 rfl rfl)
theorem dX0_findOrders_163 : decode cX0_findOrders 163 = .ok (.iaload, 1) := dk_46 (dk_at dksX0_findOrders_7 1 rfl rfl)
theorem dX0_findOrders_164 : decode cX0_findOrders 164 = .ok (.aload_n 0, 1) := dk_42 (dk_at dksX0_findOrders_7 2 rfl rfl)
theorem dX0_findOrders_165 : decode cX0_findOrders 165 = .ok (.getfield 77, 3) := dk_180 0 77 (dk_at dksX0_findOrders_7 3 rfl rfl)
theorem dX0_findOrders_168 : decode cX0_findOrders 168 = .ok (.iload_n 2, 1) := dk_28 (dk_at dksX0_findOrders_7 6 rfl rfl)
theorem dX0_findOrders_169 : decode cX0_findOrders 169 = .ok (.iload_n 1, 1) := dk_27 (dk_at dksX0_findOrders_7 7 rfl rfl)
theorem dX0_findOrders_170 : decode cX0_findOrders 170 = .ok (.invokevirtual 167, 3) := dk_182 0 167 (dk_at dksX0_findOrders_7 8 rfl rfl)
theorem dX0_findOrders_173 : decode cX0_findOrders 173 = .ok (.iadd, 1) := dk_96 (dk_at dksX0_findOrders_7 11 rfl rfl)
theorem dX0_findOrders_174 : decode cX0_findOrders 174 = .ok (.invokestatic 171, 3) := dk_184 0 171 (dk_at dksX0_findOrders_7 12 rfl rfl)
theorem dX0_findOrders_177 : decode cX0_findOrders 177 = .ok (.iastore, 1) := dk_79 (dk_at dksX0_findOrders_7 15 rfl rfl)
theorem dX0_findOrders_178 : decode cX0_findOrders 178 = .ok (.aload_n 0, 1) := dk_42 (dk_at dksX0_findOrders_7 16 rfl rfl)
theorem dX0_findOrders_179 : decode cX0_findOrders 179 = .ok (.getfield 102, 3) := dk_180 0 102 (dk_at dksX0_findOrders_7 17 rfl rfl)
theorem dX0_findOrders_182 : decode cX0_findOrders 182 = .ok (.iload_n 3, 1) := dk_29 (dk_at dksX0_findOrders_7 20 rfl rfl)
theorem dX0_findOrders_183 : decode cX0_findOrders 183 = .ok (.aload_n 0, 1) := dk_42 (dk_at dksX0_findOrders_7 21 rfl rfl)
theorem dX0_findOrders_184 : decode cX0_findOrders 184 = .ok (.getfield 102, 3) := dk_180 0 102 (dk_at dksX0_findOrders_8 0 rfl rfl)
theorem dX0_findOrders_187 : decode cX0_findOrders 187 = .ok (.iload_n 3, 1) := dk_29 (dk_at dksX0_findOrders_8 3 rfl rfl)
theorem dX0_findOrders_188 : decode cX0_findOrders 188 = .ok (.laload, 1) := dk_47 (dk_at dksX0_findOrders_8 4 rfl rfl)
theorem dX0_findOrders_189 : decode cX0_findOrders 189 = .ok (.aload_n 0, 1) := dk_42 (dk_at dksX0_findOrders_8 5 rfl rfl)
theorem dX0_findOrders_190 : decode cX0_findOrders 190 = .ok (.getfield 102, 3) := dk_180 0 102 (dk_at dksX0_findOrders_8 6 rfl rfl)
theorem dX0_findOrders_193 : decode cX0_findOrders 193 = .ok (.iload_n 1, 1) := dk_27 (dk_at dksX0_findOrders_8 9 rfl rfl)
theorem dX0_findOrders_194 : decode cX0_findOrders 194 = .ok (.laload, 1) := dk_47 (dk_at dksX0_findOrders_8 10 rfl rfl)
theorem dX0_findOrders_195 : decode cX0_findOrders 195 = .ok (.aload_n 0, 1) := dk_42 (dk_at dksX0_findOrders_8 11 rfl rfl)
theorem dX0_findOrders_196 : decode cX0_findOrders 196 = .ok (.getfield 77, 3) := dk_180 0 77 (dk_at dksX0_findOrders_8 12 rfl rfl)
theorem dX0_findOrders_199 : decode cX0_findOrders 199 = .ok (.iload_n 2, 1) := dk_28 (dk_at dksX0_findOrders_8 15 rfl rfl)
theorem dX0_findOrders_200 : decode cX0_findOrders 200 = .ok (.iload_n 1, 1) := dk_27 (dk_at dksX0_findOrders_8 16 rfl rfl)
theorem dX0_findOrders_201 : decode cX0_findOrders 201 = .ok (.invokevirtual 176, 3) := dk_182 0 176 (dk_at dksX0_findOrders_8 17 rfl rfl)
theorem dX0_findOrders_204 : decode cX0_findOrders 204 = .ok (.ladd, 1) := dk_97 (dk_at dksX0_findOrders_8 20 rfl rfl)
theorem dX0_findOrders_205 : decode cX0_findOrders 205 = .ok (.invokestatic 180, 3) := dk_184 0 180 (dk_at dksX0_findOrders_8 21 rfl rfl)
theorem dX0_findOrders_208 : decode cX0_findOrders 208 = .ok (.lastore, 1) := dk_80 (dk_at dksX0_findOrders_9 0 rfl rfl)
theorem dX0_findOrders_209 : decode cX0_findOrders 209 = .ok (.aload_n 0, 1) := dk_42 (dk_at dksX0_findOrders_9 1 rfl rfl)
theorem dX0_findOrders_210 : decode cX0_findOrders 210 = .ok (.getfield 106, 3) := dk_180 0 106 (dk_at dksX0_findOrders_9 2 rfl rfl)
theorem dX0_findOrders_213 : decode cX0_findOrders 213 = .ok (.iload_n 3, 1) := dk_29 (dk_at dksX0_findOrders_9 5 rfl rfl)
theorem dX0_findOrders_214 : decode cX0_findOrders 214 = .ok (.dup2, 1) := dk_92 (dk_at dksX0_findOrders_9 6 rfl rfl)
theorem dX0_findOrders_215 : decode cX0_findOrders 215 = .ok (.iaload, 1) := dk_46 (dk_at dksX0_findOrders_9 7 rfl rfl)
theorem dX0_findOrders_216 : decode cX0_findOrders 216 = .ok (.aload_n 0, 1) := dk_42 (dk_at dksX0_findOrders_9 8 rfl rfl)
theorem dX0_findOrders_217 : decode cX0_findOrders 217 = .ok (.getfield 106, 3) := dk_180 0 106 (dk_at dksX0_findOrders_9 9 rfl rfl)
theorem dX0_findOrders_220 : decode cX0_findOrders 220 = .ok (.iload_n 1, 1) := dk_27 (dk_at dksX0_findOrders_9 12 rfl rfl)
theorem dX0_findOrders_221 : decode cX0_findOrders 221 = .ok (.iaload, 1) := dk_46 (dk_at dksX0_findOrders_9 13 rfl rfl)
theorem dX0_findOrders_222 : decode cX0_findOrders 222 = .ok (.iadd, 1) := dk_96 (dk_at dksX0_findOrders_9 14 rfl rfl)
theorem dX0_findOrders_223 : decode cX0_findOrders 223 = .ok (.iastore, 1) := dk_79 (dk_at dksX0_findOrders_9 15 rfl rfl)
theorem dX0_findOrders_224 : decode cX0_findOrders 224 = .ok (.iinc 2 1, 3) := dk_132 2 1 (dk_at dksX0_findOrders_9 16 rfl rfl)
theorem dX0_findOrders_227 : decode cX0_findOrders 227 = .ok (.goto (-118), 3) := dk_167 255 138 (dk_at dksX0_findOrders_9 19 rfl rfl)
theorem dX0_findOrders_230 : decode cX0_findOrders 230 = .ok (.iinc 1 1, 3) := dk_132 1 1 (dk_at dksX0_findOrders_10 0 rfl rfl)
theorem dX0_findOrders_233 : decode cX0_findOrders 233 = .ok (.goto (-137), 3) := dk_167 255 119 (dk_at dksX0_findOrders_10 3 rfl rfl)
theorem dX0_findOrders_236 : decode cX0_findOrders 236 = .ok (.return_, 1) := dk_177 (dk_at dksX0_findOrders_10 6 rfl rfl)
abbrev cX0_firstFor : ByteArray := prog_1_method_13_code
def yX0_firstFor : MethodName := ⟨RX0, "firstFor", "(I)I"⟩
def dkwX0_firstFor_8 : List UInt8 := [180, 0, 77, 180, 0, 154, 4, 29, 120, 128, 46, 96, 28, 159, 0, 9, 132, 3, 1, 167, 255, 199, 29, 172]
abbrev dktX0_firstFor_8 : List UInt8 := dkwX0_firstFor_8 ++ []
def dkwX0_firstFor_7 : List UInt8 := [153, 0, 39, 42, 180, 0, 77, 29, 42, 180, 0, 77, 180, 0, 154, 182, 0, 167, 42, 180, 0, 109, 42]
abbrev dktX0_firstFor_7 : List UInt8 := dkwX0_firstFor_7 ++ dktX0_firstFor_8
def dkwX0_firstFor_6 : List UInt8 := [132, 3, 255, 167, 255, 145, 3, 62, 42, 180, 0, 77, 29, 42, 180, 0, 77, 180, 0, 154, 182, 0, 163]
abbrev dktX0_firstFor_6 : List UInt8 := dkwX0_firstFor_6 ++ dktX0_firstFor_7
def dkwX0_firstFor_5 : List UInt8 := [182, 0, 167, 96, 184, 0, 171, 167, 0, 9, 42, 180, 0, 109, 29, 46, 79, 132, 4, 1, 167, 255, 178]
abbrev dktX0_firstFor_5 : List UInt8 := dkwX0_firstFor_5 ++ dktX0_firstFor_6
def dkwX0_firstFor_4 : List UInt8 := [180, 0, 109, 29, 46, 42, 180, 0, 109, 29, 4, 21, 4, 120, 128, 46, 42, 180, 0, 77, 21, 4, 29]
abbrev dktX0_firstFor_4 : List UInt8 := dkwX0_firstFor_4 ++ dktX0_firstFor_5
def dkwX0_firstFor_3 : List UInt8 := [180, 0, 77, 21, 4, 29, 182, 0, 163, 54, 5, 42, 180, 0, 109, 29, 21, 5, 153, 0, 37, 42]
abbrev dktX0_firstFor_3 : List UInt8 := dkwX0_firstFor_3 ++ dktX0_firstFor_4
def dkwX0_firstFor_2 : List UInt8 := [167, 0, 5, 18, 157, 79, 3, 54, 4, 21, 4, 42, 180, 0, 77, 180, 0, 160, 162, 0, 72, 42]
abbrev dktX0_firstFor_2 : List UInt8 := dkwX0_firstFor_2 ++ dktX0_firstFor_3
def dkwX0_firstFor_1 : List UInt8 := [182, 0, 150, 62, 29, 155, 0, 113, 42, 180, 0, 109, 29, 27, 29, 2, 130, 126, 154, 0, 7, 3]
abbrev dktX0_firstFor_1 : List UInt8 := dkwX0_firstFor_1 ++ dktX0_firstFor_2
def dkwX0_firstFor_0 : List UInt8 := [42, 27, 182, 0, 185, 61, 28, 153, 0, 9, 28, 18, 157, 161, 0, 6, 16, 247, 172, 42, 180, 0, 77]
abbrev dktX0_firstFor_0 : List UInt8 := dkwX0_firstFor_0 ++ dktX0_firstFor_1
theorem dksX0_firstFor_0 : cX0_firstFor.data.toList.drop 0 = dktX0_firstFor_0 := by decide +kernel
theorem dksX0_firstFor_1 : cX0_firstFor.data.toList.drop 23 = dktX0_firstFor_1 := dk_seg dksX0_firstFor_0 23 rfl rfl
theorem dksX0_firstFor_2 : cX0_firstFor.data.toList.drop 45 = dktX0_firstFor_2 := dk_seg dksX0_firstFor_1 22 rfl rfl
theorem dksX0_firstFor_3 : cX0_firstFor.data.toList.drop 67 = dktX0_firstFor_3 := dk_seg dksX0_firstFor_2 22 rfl rfl
theorem dksX0_firstFor_4 : cX0_firstFor.data.toList.drop 89 = dktX0_firstFor_4 := dk_seg dksX0_firstFor_3 22 rfl rfl
theorem dksX0_firstFor_5 : cX0_firstFor.data.toList.drop 112 = dktX0_firstFor_5 := dk_seg dksX0_firstFor_4 23 rfl rfl
theorem dksX0_firstFor_6 : cX0_firstFor.data.toList.drop 135 = dktX0_firstFor_6 := dk_seg dksX0_firstFor_5 23 rfl rfl
theorem dksX0_firstFor_7 : cX0_firstFor.data.toList.drop 158 = dktX0_firstFor_7 := dk_seg dksX0_firstFor_6 23 rfl rfl
theorem dksX0_firstFor_8 : cX0_firstFor.data.toList.drop 181 = dktX0_firstFor_8 := dk_seg dksX0_firstFor_7 23 rfl rfl
theorem dX0_firstFor_0 : decode cX0_firstFor 0 = .ok (.aload_n 0, 1) := dk_42 (dk_at dksX0_firstFor_0 0 rfl rfl)
theorem dX0_firstFor_1 : decode cX0_firstFor 1 = .ok (.iload_n 1, 1) := dk_27 (dk_at dksX0_firstFor_0 1 rfl rfl)
theorem dX0_firstFor_2 : decode cX0_firstFor 2 = .ok (.invokevirtual 185, 3) := dk_182 0 185 (dk_at dksX0_firstFor_0 2 rfl rfl)
theorem dX0_firstFor_5 : decode cX0_firstFor 5 = .ok (.istore_n 2, 1) := dk_61 (dk_at dksX0_firstFor_0 5 rfl rfl)
theorem dX0_firstFor_6 : decode cX0_firstFor 6 = .ok (.iload_n 2, 1) := dk_28 (dk_at dksX0_firstFor_0 6 rfl rfl)
theorem dX0_firstFor_7 : decode cX0_firstFor 7 = .ok (.ifCond .eq 9, 3) := dk_153 0 9 (dk_at dksX0_firstFor_0 7 rfl rfl)
theorem dX0_firstFor_10 : decode cX0_firstFor 10 = .ok (.iload_n 2, 1) := dk_28 (dk_at dksX0_firstFor_0 10 rfl rfl)
theorem dX0_firstFor_11 : decode cX0_firstFor 11 = .ok (.ldc 157, 2) := dk_18 157 (dk_at dksX0_firstFor_0 11 rfl rfl)
theorem dX0_firstFor_13 : decode cX0_firstFor 13 = .ok (.if_icmp .lt 6, 3) := dk_161 0 6 (dk_at dksX0_firstFor_0 13 rfl rfl)
theorem dX0_firstFor_16 : decode cX0_firstFor 16 = .ok (.bipush (-9), 2) := dk_16 247 (dk_at dksX0_firstFor_0 16 rfl rfl)
theorem dX0_firstFor_18 : decode cX0_firstFor 18 = .ok (.ireturn, 1) := dk_172 (dk_at dksX0_firstFor_0 18 rfl rfl)
theorem dX0_firstFor_19 : decode cX0_firstFor 19 = .ok (.aload_n 0, 1) := dk_42 (dk_at dksX0_firstFor_0 19 rfl rfl)
theorem dX0_firstFor_20 : decode cX0_firstFor 20 = .ok (.getfield 77, 3) := dk_180 0 77 (dk_at dksX0_firstFor_0 20 rfl rfl)
theorem dX0_firstFor_23 : decode cX0_firstFor 23 = .ok (.invokevirtual 150, 3) := dk_182 0 150 (dk_at dksX0_firstFor_1 0 rfl rfl)
theorem dX0_firstFor_26 : decode cX0_firstFor 26 = .ok (.istore_n 3, 1) := dk_62 (dk_at dksX0_firstFor_1 3 rfl rfl)
theorem dX0_firstFor_27 : decode cX0_firstFor 27 = .ok (.iload_n 3, 1) := dk_29 (dk_at dksX0_firstFor_1 4 rfl rfl)
theorem dX0_firstFor_28 : decode cX0_firstFor 28 = .ok (.ifCond .lt 113, 3) := dk_155 0 113 (dk_at dksX0_firstFor_1 5 rfl rfl)
theorem dX0_firstFor_31 : decode cX0_firstFor 31 = .ok (.aload_n 0, 1) := dk_42 (dk_at dksX0_firstFor_1 8 rfl rfl)
theorem dX0_firstFor_32 : decode cX0_firstFor 32 = .ok (.getfield 109, 3) := dk_180 0 109 (dk_at dksX0_firstFor_1 9 rfl rfl)
theorem dX0_firstFor_35 : decode cX0_firstFor 35 = .ok (.iload_n 3, 1) := dk_29 (dk_at dksX0_firstFor_1 12 rfl rfl)
theorem dX0_firstFor_36 : decode cX0_firstFor 36 = .ok (.iload_n 1, 1) := dk_27 (dk_at dksX0_firstFor_1 13 rfl rfl)
theorem dX0_firstFor_37 : decode cX0_firstFor 37 = .ok (.iload_n 3, 1) := dk_29 (dk_at dksX0_firstFor_1 14 rfl rfl)
theorem dX0_firstFor_38 : decode cX0_firstFor 38 = .ok (.iconst (-1), 1) := dk_2 (dk_at dksX0_firstFor_1 15 rfl rfl)
theorem dX0_firstFor_39 : decode cX0_firstFor 39 = .ok (.ixor, 1) := dk_130 (dk_at dksX0_firstFor_1 16 rfl rfl)
theorem dX0_firstFor_40 : decode cX0_firstFor 40 = .ok (.iand, 1) := dk_126 (dk_at dksX0_firstFor_1 17 rfl rfl)
theorem dX0_firstFor_41 : decode cX0_firstFor 41 = .ok (.ifCond .ne 7, 3) := dk_154 0 7 (dk_at dksX0_firstFor_1 18 rfl rfl)
theorem dX0_firstFor_44 : decode cX0_firstFor 44 = .ok (.iconst 0, 1) := dk_3 (dk_at dksX0_firstFor_1 21 rfl rfl)
theorem dX0_firstFor_45 : decode cX0_firstFor 45 = .ok (.goto 5, 3) := dk_167 0 5 (dk_at dksX0_firstFor_2 0 rfl rfl)
theorem dX0_firstFor_48 : decode cX0_firstFor 48 = .ok (.ldc 157, 2) := dk_18 157 (dk_at dksX0_firstFor_2 3 rfl rfl)
theorem dX0_firstFor_50 : decode cX0_firstFor 50 = .ok (.iastore, 1) := dk_79 (dk_at dksX0_firstFor_2 5 rfl rfl)
theorem dX0_firstFor_51 : decode cX0_firstFor 51 = .ok (.iconst 0, 1) := dk_3 (dk_at dksX0_firstFor_2 6 rfl rfl)
theorem dX0_firstFor_52 : decode cX0_firstFor 52 = .ok (.istore 4, 2) := dk_54 4 (dk_at dksX0_firstFor_2 7 rfl rfl)
theorem dX0_firstFor_54 : decode cX0_firstFor 54 = .ok (.iload 4, 2) := dk_21 4 (dk_at dksX0_firstFor_2 9 rfl rfl)
theorem dX0_firstFor_56 : decode cX0_firstFor 56 = .ok (.aload_n 0, 1) := dk_42 (dk_at dksX0_firstFor_2 11 rfl rfl)
theorem dX0_firstFor_57 : decode cX0_firstFor 57 = .ok (.getfield 77, 3) := dk_180 0 77 (dk_at dksX0_firstFor_2 12 rfl rfl)
theorem dX0_firstFor_60 : decode cX0_firstFor 60 = .ok (.getfield 160, 3) := dk_180 0 160 (dk_at dksX0_firstFor_2 15 rfl rfl)
theorem dX0_firstFor_63 : decode cX0_firstFor 63 = .ok (.if_icmp .ge 72, 3) := dk_162 0 72 (dk_at dksX0_firstFor_2 18 rfl rfl)
theorem dX0_firstFor_66 : decode cX0_firstFor 66 = .ok (.aload_n 0, 1) := dk_42 (dk_at dksX0_firstFor_2 21 rfl rfl)
theorem dX0_firstFor_67 : decode cX0_firstFor 67 = .ok (.getfield 77, 3) := dk_180 0 77 (dk_at dksX0_firstFor_3 0 rfl rfl)
theorem dX0_firstFor_70 : decode cX0_firstFor 70 = .ok (.iload 4, 2) := dk_21 4 (dk_at dksX0_firstFor_3 3 rfl rfl)
theorem dX0_firstFor_72 : decode cX0_firstFor 72 = .ok (.iload_n 3, 1) := dk_29 (dk_at dksX0_firstFor_3 5 rfl rfl)
theorem dX0_firstFor_73 : decode cX0_firstFor 73 = .ok (.invokevirtual 163, 3) := dk_182 0 163 (dk_at dksX0_firstFor_3 6 rfl rfl)
theorem dX0_firstFor_76 : decode cX0_firstFor 76 = .ok (.istore 5, 2) := dk_54 5 (dk_at dksX0_firstFor_3 9 rfl rfl)
theorem dX0_firstFor_78 : decode cX0_firstFor 78 = .ok (.aload_n 0, 1) := dk_42 (dk_at dksX0_firstFor_3 11 rfl rfl)
theorem dX0_firstFor_79 : decode cX0_firstFor 79 = .ok (.getfield 109, 3) := dk_180 0 109 (dk_at dksX0_firstFor_3 12 rfl rfl)
theorem dX0_firstFor_82 : decode cX0_firstFor 82 = .ok (.iload_n 3, 1) := dk_29 (dk_at dksX0_firstFor_3 15 rfl rfl)
theorem dX0_firstFor_83 : decode cX0_firstFor 83 = .ok (.iload 5, 2) := dk_21 5 (dk_at dksX0_firstFor_3 16 rfl rfl)
theorem dX0_firstFor_85 : decode cX0_firstFor 85 = .ok (.ifCond .eq 37, 3) := dk_153 0 37 (dk_at dksX0_firstFor_3 18 rfl rfl)
theorem dX0_firstFor_88 : decode cX0_firstFor 88 = .ok (.aload_n 0, 1) := dk_42 (dk_at dksX0_firstFor_3 21 rfl rfl)
theorem dX0_firstFor_89 : decode cX0_firstFor 89 = .ok (.getfield 109, 3) := dk_180 0 109 (dk_at dksX0_firstFor_4 0 rfl rfl)
theorem dX0_firstFor_92 : decode cX0_firstFor 92 = .ok (.iload_n 3, 1) := dk_29 (dk_at dksX0_firstFor_4 3 rfl rfl)
theorem dX0_firstFor_93 : decode cX0_firstFor 93 = .ok (.iaload, 1) := dk_46 (dk_at dksX0_firstFor_4 4 rfl rfl)
theorem dX0_firstFor_94 : decode cX0_firstFor 94 = .ok (.aload_n 0, 1) := dk_42 (dk_at dksX0_firstFor_4 5 rfl rfl)
theorem dX0_firstFor_95 : decode cX0_firstFor 95 = .ok (.getfield 109, 3) := dk_180 0 109 (dk_at dksX0_firstFor_4 6 rfl rfl)
theorem dX0_firstFor_98 : decode cX0_firstFor 98 = .ok (.iload_n 3, 1) := dk_29 (dk_at dksX0_firstFor_4 9 rfl rfl)
theorem dX0_firstFor_99 : decode cX0_firstFor 99 = .ok (.iconst 1, 1) := dk_4 (dk_at dksX0_firstFor_4 10 rfl rfl)
theorem dX0_firstFor_100 : decode cX0_firstFor 100 = .ok (.iload 4, 2) := dk_21 4 (dk_at dksX0_firstFor_4 11 rfl rfl)
theorem dX0_firstFor_102 : decode cX0_firstFor 102 = .ok (.ishl, 1) := dk_120 (dk_at dksX0_firstFor_4 13 rfl rfl)
theorem dX0_firstFor_103 : decode cX0_firstFor 103 = .ok (.ior, 1) := dk_128 (dk_at dksX0_firstFor_4 14 rfl rfl)
theorem dX0_firstFor_104 : decode cX0_firstFor 104 = .ok (.iaload, 1) := dk_46 (dk_at dksX0_firstFor_4 15 rfl rfl)
theorem dX0_firstFor_105 : decode cX0_firstFor 105 = .ok (.aload_n 0, 1) := dk_42 (dk_at dksX0_firstFor_4 16 rfl rfl)
theorem dX0_firstFor_106 : decode cX0_firstFor 106 = .ok (.getfield 77, 3) := dk_180 0 77 (dk_at dksX0_firstFor_4 17 rfl rfl)
theorem dX0_firstFor_109 : decode cX0_firstFor 109 = .ok (.iload 4, 2) := dk_21 4 (dk_at dksX0_firstFor_4 20 rfl rfl)
theorem dX0_firstFor_111 : decode cX0_firstFor 111 = .ok (.iload_n 3, 1) := dk_29 (dk_at dksX0_firstFor_4 22 rfl rfl)
theorem dX0_firstFor_112 : decode cX0_firstFor 112 = .ok (.invokevirtual 167, 3) := dk_182 0 167 (dk_at dksX0_firstFor_5 0 rfl rfl)
theorem dX0_firstFor_115 : decode cX0_firstFor 115 = .ok (.iadd, 1) := dk_96 (dk_at dksX0_firstFor_5 3 rfl rfl)
theorem dX0_firstFor_116 : decode cX0_firstFor 116 = .ok (.invokestatic 171, 3) := dk_184 0 171 (dk_at dksX0_firstFor_5 4 rfl rfl)
theorem dX0_firstFor_119 : decode cX0_firstFor 119 = .ok (.goto 9, 3) := dk_167 0 9 (dk_at dksX0_firstFor_5 7 rfl rfl)
theorem dX0_firstFor_122 : decode cX0_firstFor 122 = .ok (.aload_n 0, 1) := dk_42 (dk_at dksX0_firstFor_5 10 rfl rfl)
theorem dX0_firstFor_123 : decode cX0_firstFor 123 = .ok (.getfield 109, 3) := dk_180 0 109 (dk_at dksX0_firstFor_5 11 rfl rfl)
theorem dX0_firstFor_126 : decode cX0_firstFor 126 = .ok (.iload_n 3, 1) := dk_29 (dk_at dksX0_firstFor_5 14 rfl rfl)
theorem dX0_firstFor_127 : decode cX0_firstFor 127 = .ok (.iaload, 1) := dk_46 (dk_at dksX0_firstFor_5 15 rfl rfl)
theorem dX0_firstFor_128 : decode cX0_firstFor 128 = .ok (.iastore, 1) := dk_79 (dk_at dksX0_firstFor_5 16 rfl rfl)
theorem dX0_firstFor_129 : decode cX0_firstFor 129 = .ok (.iinc 4 1, 3) := dk_132 4 1 (dk_at dksX0_firstFor_5 17 rfl rfl)
theorem dX0_firstFor_132 : decode cX0_firstFor 132 = .ok (.goto (-78), 3) := dk_167 255 178 (dk_at dksX0_firstFor_5 20 rfl rfl)
theorem dX0_firstFor_135 : decode cX0_firstFor 135 = .ok (.iinc 3 (-1), 3) := dk_132 3 255 (dk_at dksX0_firstFor_6 0 rfl rfl)
theorem dX0_firstFor_138 : decode cX0_firstFor 138 = .ok (.goto (-111), 3) := dk_167 255 145 (dk_at dksX0_firstFor_6 3 rfl rfl)
theorem dX0_firstFor_141 : decode cX0_firstFor 141 = .ok (.iconst 0, 1) := dk_3 (dk_at dksX0_firstFor_6 6 rfl rfl)
theorem dX0_firstFor_142 : decode cX0_firstFor 142 = .ok (.istore_n 3, 1) := dk_62 (dk_at dksX0_firstFor_6 7 rfl rfl)
theorem dX0_firstFor_143 : decode cX0_firstFor 143 = .ok (.aload_n 0, 1) := dk_42 (dk_at dksX0_firstFor_6 8 rfl rfl)
theorem dX0_firstFor_144 : decode cX0_firstFor 144 = .ok (.getfield 77, 3) := dk_180 0 77 (dk_at dksX0_firstFor_6 9 rfl rfl)
theorem dX0_firstFor_147 : decode cX0_firstFor 147 = .ok (.iload_n 3, 1) := dk_29 (dk_at dksX0_firstFor_6 12 rfl rfl)
theorem dX0_firstFor_148 : decode cX0_firstFor 148 = .ok (.aload_n 0, 1) := dk_42 (dk_at dksX0_firstFor_6 13 rfl rfl)
theorem dX0_firstFor_149 : decode cX0_firstFor 149 = .ok (.getfield 77, 3) := dk_180 0 77 (dk_at dksX0_firstFor_6 14 rfl rfl)
theorem dX0_firstFor_152 : decode cX0_firstFor 152 = .ok (.getfield 154, 3) := dk_180 0 154 (dk_at dksX0_firstFor_6 17 rfl rfl)
theorem dX0_firstFor_155 : decode cX0_firstFor 155 = .ok (.invokevirtual 163, 3) := dk_182 0 163 (dk_at dksX0_firstFor_6 20 rfl rfl)
theorem dX0_firstFor_158 : decode cX0_firstFor 158 = .ok (.ifCond .eq 39, 3) := dk_153 0 39 (dk_at dksX0_firstFor_7 0 rfl rfl)
theorem dX0_firstFor_161 : decode cX0_firstFor 161 = .ok (.aload_n 0, 1) := dk_42 (dk_at dksX0_firstFor_7 3 rfl rfl)
theorem dX0_firstFor_162 : decode cX0_firstFor 162 = .ok (.getfield 77, 3) := dk_180 0 77 (dk_at dksX0_firstFor_7 4 rfl rfl)
theorem dX0_firstFor_165 : decode cX0_firstFor 165 = .ok (.iload_n 3, 1) := dk_29 (dk_at dksX0_firstFor_7 7 rfl rfl)
theorem dX0_firstFor_166 : decode cX0_firstFor 166 = .ok (.aload_n 0, 1) := dk_42 (dk_at dksX0_firstFor_7 8 rfl rfl)
theorem dX0_firstFor_167 : decode cX0_firstFor 167 = .ok (.getfield 77, 3) := dk_180 0 77 (dk_at dksX0_firstFor_7 9 rfl rfl)
theorem dX0_firstFor_170 : decode cX0_firstFor 170 = .ok (.getfield 154, 3) := dk_180 0 154 (dk_at dksX0_firstFor_7 12 rfl rfl)
theorem dX0_firstFor_173 : decode cX0_firstFor 173 = .ok (.invokevirtual 167, 3) := dk_182 0 167 (dk_at dksX0_firstFor_7 15 rfl rfl)
theorem dX0_firstFor_176 : decode cX0_firstFor 176 = .ok (.aload_n 0, 1) := dk_42 (dk_at dksX0_firstFor_7 18 rfl rfl)
theorem dX0_firstFor_177 : decode cX0_firstFor 177 = .ok (.getfield 109, 3) := dk_180 0 109 (dk_at dksX0_firstFor_7 19 rfl rfl)
theorem dX0_firstFor_180 : decode cX0_firstFor 180 = .ok (.aload_n 0, 1) := dk_42 (dk_at dksX0_firstFor_7 22 rfl rfl)
theorem dX0_firstFor_181 : decode cX0_firstFor 181 = .ok (.getfield 77, 3) := dk_180 0 77 (dk_at dksX0_firstFor_8 0 rfl rfl)
theorem dX0_firstFor_184 : decode cX0_firstFor 184 = .ok (.getfield 154, 3) := dk_180 0 154 (dk_at dksX0_firstFor_8 3 rfl rfl)
theorem dX0_firstFor_187 : decode cX0_firstFor 187 = .ok (.iconst 1, 1) := dk_4 (dk_at dksX0_firstFor_8 6 rfl rfl)
theorem dX0_firstFor_188 : decode cX0_firstFor 188 = .ok (.iload_n 3, 1) := dk_29 (dk_at dksX0_firstFor_8 7 rfl rfl)
theorem dX0_firstFor_189 : decode cX0_firstFor 189 = .ok (.ishl, 1) := dk_120 (dk_at dksX0_firstFor_8 8 rfl rfl)
theorem dX0_firstFor_190 : decode cX0_firstFor 190 = .ok (.ior, 1) := dk_128 (dk_at dksX0_firstFor_8 9 rfl rfl)
theorem dX0_firstFor_191 : decode cX0_firstFor 191 = .ok (.iaload, 1) := dk_46 (dk_at dksX0_firstFor_8 10 rfl rfl)
theorem dX0_firstFor_192 : decode cX0_firstFor 192 = .ok (.iadd, 1) := dk_96 (dk_at dksX0_firstFor_8 11 rfl rfl)
theorem dX0_firstFor_193 : decode cX0_firstFor 193 = .ok (.iload_n 2, 1) := dk_28 (dk_at dksX0_firstFor_8 12 rfl rfl)
theorem dX0_firstFor_194 : decode cX0_firstFor 194 = .ok (.if_icmp .eq 9, 3) := dk_159 0 9 (dk_at dksX0_firstFor_8 13 rfl rfl)
theorem dX0_firstFor_197 : decode cX0_firstFor 197 = .ok (.iinc 3 1, 3) := dk_132 3 1 (dk_at dksX0_firstFor_8 16 rfl rfl)
theorem dX0_firstFor_200 : decode cX0_firstFor 200 = .ok (.goto (-57), 3) := dk_167 255 199 (dk_at dksX0_firstFor_8 19 rfl rfl)
theorem dX0_firstFor_203 : decode cX0_firstFor 203 = .ok (.iload_n 3, 1) := dk_29 (dk_at dksX0_firstFor_8 22 rfl rfl)
theorem dX0_firstFor_204 : decode cX0_firstFor 204 = .ok (.ireturn, 1) := dk_172 (dk_at dksX0_firstFor_8 23 rfl rfl)
abbrev cX0_ringedBits : ByteArray := prog_1_method_17_code
def yX0_ringedBits : MethodName := ⟨RX0, "ringedBits", "()I"⟩
def dkwX0_ringedBits_6 : List UInt8 := [167, 0, 4, 3, 128, 61, 132, 4, 1, 167, 255, 132, 132, 3, 1, 167, 255, 112, 28, 172]
abbrev dktX0_ringedBits_6 : List UInt8 := dkwX0_ringedBits_6 ++ []
def dkwX0_ringedBits_5 : List UInt8 := [184, 0, 192, 153, 0, 7, 4, 167, 0, 4, 3, 54, 5, 28, 21, 5, 153, 0, 9, 4, 29, 120]
abbrev dktX0_ringedBits_5 : List UInt8 := dkwX0_ringedBits_5 ++ dktX0_ringedBits_6
def dkwX0_ringedBits_4 : List UInt8 := [153, 0, 33, 42, 180, 0, 77, 42, 180, 0, 77, 180, 0, 154, 4, 21, 4, 120, 128, 182, 0, 189, 29]
abbrev dktX0_ringedBits_4 : List UInt8 := dkwX0_ringedBits_4 ++ dktX0_ringedBits_5
def dkwX0_ringedBits_3 : List UInt8 := [42, 180, 0, 77, 42, 180, 0, 77, 180, 0, 154, 4, 29, 120, 128, 182, 0, 189, 21, 4, 184, 0, 192]
abbrev dktX0_ringedBits_3 : List UInt8 := dkwX0_ringedBits_3 ++ dktX0_ringedBits_4
def dkwX0_ringedBits_2 : List UInt8 := [153, 0, 16, 27, 21, 4, 184, 0, 192, 153, 0, 7, 4, 167, 0, 4, 3, 54, 5, 21, 5, 153, 0, 59]
abbrev dktX0_ringedBits_2 : List UInt8 := dkwX0_ringedBits_2 ++ dktX0_ringedBits_3
def dkwX0_ringedBits_1 : List UInt8 := [21, 4, 42, 180, 0, 77, 180, 0, 160, 162, 0, 118, 29, 21, 4, 159, 0, 24, 27, 29, 184, 0, 192]
abbrev dktX0_ringedBits_1 : List UInt8 := dkwX0_ringedBits_1 ++ dktX0_ringedBits_2
def dkwX0_ringedBits_0 : List UInt8 := [42, 182, 0, 204, 60, 3, 61, 3, 62, 29, 42, 180, 0, 77, 180, 0, 160, 162, 0, 139, 3, 54, 4]
abbrev dktX0_ringedBits_0 : List UInt8 := dkwX0_ringedBits_0 ++ dktX0_ringedBits_1
theorem dksX0_ringedBits_0 : cX0_ringedBits.data.toList.drop 0 = dktX0_ringedBits_0 := by decide +kernel
theorem dksX0_ringedBits_1 : cX0_ringedBits.data.toList.drop 23 = dktX0_ringedBits_1 := dk_seg dksX0_ringedBits_0 23 rfl rfl
theorem dksX0_ringedBits_2 : cX0_ringedBits.data.toList.drop 46 = dktX0_ringedBits_2 := dk_seg dksX0_ringedBits_1 23 rfl rfl
theorem dksX0_ringedBits_3 : cX0_ringedBits.data.toList.drop 70 = dktX0_ringedBits_3 := dk_seg dksX0_ringedBits_2 24 rfl rfl
theorem dksX0_ringedBits_4 : cX0_ringedBits.data.toList.drop 93 = dktX0_ringedBits_4 := dk_seg dksX0_ringedBits_3 23 rfl rfl
theorem dksX0_ringedBits_5 : cX0_ringedBits.data.toList.drop 116 = dktX0_ringedBits_5 := dk_seg dksX0_ringedBits_4 23 rfl rfl
theorem dksX0_ringedBits_6 : cX0_ringedBits.data.toList.drop 138 = dktX0_ringedBits_6 := dk_seg dksX0_ringedBits_5 22 rfl rfl
theorem dX0_ringedBits_0 : decode cX0_ringedBits 0 = .ok (.aload_n 0, 1) := dk_42 (dk_at dksX0_ringedBits_0 0 rfl rfl)
theorem dX0_ringedBits_1 : decode cX0_ringedBits 1 = .ok (.invokevirtual 204, 3) := dk_182 0 204 (dk_at dksX0_ringedBits_0 1 rfl rfl)
theorem dX0_ringedBits_4 : decode cX0_ringedBits 4 = .ok (.istore_n 1, 1) := dk_60 (dk_at dksX0_ringedBits_0 4 rfl rfl)
theorem dX0_ringedBits_5 : decode cX0_ringedBits 5 = .ok (.iconst 0, 1) := dk_3 (dk_at dksX0_ringedBits_0 5 rfl rfl)
theorem dX0_ringedBits_6 : decode cX0_ringedBits 6 = .ok (.istore_n 2, 1) := dk_61 (dk_at dksX0_ringedBits_0 6 rfl rfl)
theorem dX0_ringedBits_7 : decode cX0_ringedBits 7 = .ok (.iconst 0, 1) := dk_3 (dk_at dksX0_ringedBits_0 7 rfl rfl)
theorem dX0_ringedBits_8 : decode cX0_ringedBits 8 = .ok (.istore_n 3, 1) := dk_62 (dk_at dksX0_ringedBits_0 8 rfl rfl)
theorem dX0_ringedBits_9 : decode cX0_ringedBits 9 = .ok (.iload_n 3, 1) := dk_29 (dk_at dksX0_ringedBits_0 9 rfl rfl)
theorem dX0_ringedBits_10 : decode cX0_ringedBits 10 = .ok (.aload_n 0, 1) := dk_42 (dk_at dksX0_ringedBits_0 10 rfl rfl)
theorem dX0_ringedBits_11 : decode cX0_ringedBits 11 = .ok (.getfield 77, 3) := dk_180 0 77 (dk_at dksX0_ringedBits_0 11 rfl rfl)
theorem dX0_ringedBits_14 : decode cX0_ringedBits 14 = .ok (.getfield 160, 3) := dk_180 0 160 (dk_at dksX0_ringedBits_0 14 rfl rfl)
theorem dX0_ringedBits_17 : decode cX0_ringedBits 17 = .ok (.if_icmp .ge 139, 3) := dk_162 0 139 (dk_at dksX0_ringedBits_0 17 rfl rfl)
theorem dX0_ringedBits_20 : decode cX0_ringedBits 20 = .ok (.iconst 0, 1) := dk_3 (dk_at dksX0_ringedBits_0 20 rfl rfl)
theorem dX0_ringedBits_21 : decode cX0_ringedBits 21 = .ok (.istore 4, 2) := dk_54 4 (dk_at dksX0_ringedBits_0 21 rfl rfl)
theorem dX0_ringedBits_23 : decode cX0_ringedBits 23 = .ok (.iload 4, 2) := dk_21 4 (dk_at dksX0_ringedBits_1 0 rfl rfl)
theorem dX0_ringedBits_25 : decode cX0_ringedBits 25 = .ok (.aload_n 0, 1) := dk_42 (dk_at dksX0_ringedBits_1 2 rfl rfl)
theorem dX0_ringedBits_26 : decode cX0_ringedBits 26 = .ok (.getfield 77, 3) := dk_180 0 77 (dk_at dksX0_ringedBits_1 3 rfl rfl)
theorem dX0_ringedBits_29 : decode cX0_ringedBits 29 = .ok (.getfield 160, 3) := dk_180 0 160 (dk_at dksX0_ringedBits_1 6 rfl rfl)
theorem dX0_ringedBits_32 : decode cX0_ringedBits 32 = .ok (.if_icmp .ge 118, 3) := dk_162 0 118 (dk_at dksX0_ringedBits_1 9 rfl rfl)
theorem dX0_ringedBits_35 : decode cX0_ringedBits 35 = .ok (.iload_n 3, 1) := dk_29 (dk_at dksX0_ringedBits_1 12 rfl rfl)
theorem dX0_ringedBits_36 : decode cX0_ringedBits 36 = .ok (.iload 4, 2) := dk_21 4 (dk_at dksX0_ringedBits_1 13 rfl rfl)
theorem dX0_ringedBits_38 : decode cX0_ringedBits 38 = .ok (.if_icmp .eq 24, 3) := dk_159 0 24 (dk_at dksX0_ringedBits_1 15 rfl rfl)
theorem dX0_ringedBits_41 : decode cX0_ringedBits 41 = .ok (.iload_n 1, 1) := dk_27 (dk_at dksX0_ringedBits_1 18 rfl rfl)
theorem dX0_ringedBits_42 : decode cX0_ringedBits 42 = .ok (.iload_n 3, 1) := dk_29 (dk_at dksX0_ringedBits_1 19 rfl rfl)
theorem dX0_ringedBits_43 : decode cX0_ringedBits 43 = .ok (.invokestatic 192, 3) := dk_184 0 192 (dk_at dksX0_ringedBits_1 20 rfl rfl)
theorem dX0_ringedBits_46 : decode cX0_ringedBits 46 = .ok (.ifCond .eq 16, 3) := dk_153 0 16 (dk_at dksX0_ringedBits_2 0 rfl rfl)
theorem dX0_ringedBits_49 : decode cX0_ringedBits 49 = .ok (.iload_n 1, 1) := dk_27 (dk_at dksX0_ringedBits_2 3 rfl rfl)
theorem dX0_ringedBits_50 : decode cX0_ringedBits 50 = .ok (.iload 4, 2) := dk_21 4 (dk_at dksX0_ringedBits_2 4 rfl rfl)
theorem dX0_ringedBits_52 : decode cX0_ringedBits 52 = .ok (.invokestatic 192, 3) := dk_184 0 192 (dk_at dksX0_ringedBits_2 6 rfl rfl)
theorem dX0_ringedBits_55 : decode cX0_ringedBits 55 = .ok (.ifCond .eq 7, 3) := dk_153 0 7 (dk_at dksX0_ringedBits_2 9 rfl rfl)
theorem dX0_ringedBits_58 : decode cX0_ringedBits 58 = .ok (.iconst 1, 1) := dk_4 (dk_at dksX0_ringedBits_2 12 rfl rfl)
theorem dX0_ringedBits_59 : decode cX0_ringedBits 59 = .ok (.goto 4, 3) := dk_167 0 4 (dk_at dksX0_ringedBits_2 13 rfl rfl)
theorem dX0_ringedBits_62 : decode cX0_ringedBits 62 = .ok (.iconst 0, 1) := dk_3 (dk_at dksX0_ringedBits_2 16 rfl rfl)
theorem dX0_ringedBits_63 : decode cX0_ringedBits 63 = .ok (.istore 5, 2) := dk_54 5 (dk_at dksX0_ringedBits_2 17 rfl rfl)
theorem dX0_ringedBits_65 : decode cX0_ringedBits 65 = .ok (.iload 5, 2) := dk_21 5 (dk_at dksX0_ringedBits_2 19 rfl rfl)
theorem dX0_ringedBits_67 : decode cX0_ringedBits 67 = .ok (.ifCond .eq 59, 3) := dk_153 0 59 (dk_at dksX0_ringedBits_2 21 rfl rfl)
theorem dX0_ringedBits_70 : decode cX0_ringedBits 70 = .ok (.aload_n 0, 1) := dk_42 (dk_at dksX0_ringedBits_3 0 rfl rfl)
theorem dX0_ringedBits_71 : decode cX0_ringedBits 71 = .ok (.getfield 77, 3) := dk_180 0 77 (dk_at dksX0_ringedBits_3 1 rfl rfl)
theorem dX0_ringedBits_74 : decode cX0_ringedBits 74 = .ok (.aload_n 0, 1) := dk_42 (dk_at dksX0_ringedBits_3 4 rfl rfl)
theorem dX0_ringedBits_75 : decode cX0_ringedBits 75 = .ok (.getfield 77, 3) := dk_180 0 77 (dk_at dksX0_ringedBits_3 5 rfl rfl)
theorem dX0_ringedBits_78 : decode cX0_ringedBits 78 = .ok (.getfield 154, 3) := dk_180 0 154 (dk_at dksX0_ringedBits_3 8 rfl rfl)
theorem dX0_ringedBits_81 : decode cX0_ringedBits 81 = .ok (.iconst 1, 1) := dk_4 (dk_at dksX0_ringedBits_3 11 rfl rfl)
theorem dX0_ringedBits_82 : decode cX0_ringedBits 82 = .ok (.iload_n 3, 1) := dk_29 (dk_at dksX0_ringedBits_3 12 rfl rfl)
theorem dX0_ringedBits_83 : decode cX0_ringedBits 83 = .ok (.ishl, 1) := dk_120 (dk_at dksX0_ringedBits_3 13 rfl rfl)
theorem dX0_ringedBits_84 : decode cX0_ringedBits 84 = .ok (.ior, 1) := dk_128 (dk_at dksX0_ringedBits_3 14 rfl rfl)
theorem dX0_ringedBits_85 : decode cX0_ringedBits 85 = .ok (.invokevirtual 189, 3) := dk_182 0 189 (dk_at dksX0_ringedBits_3 15 rfl rfl)
theorem dX0_ringedBits_88 : decode cX0_ringedBits 88 = .ok (.iload 4, 2) := dk_21 4 (dk_at dksX0_ringedBits_3 18 rfl rfl)
theorem dX0_ringedBits_90 : decode cX0_ringedBits 90 = .ok (.invokestatic 192, 3) := dk_184 0 192 (dk_at dksX0_ringedBits_3 20 rfl rfl)
theorem dX0_ringedBits_93 : decode cX0_ringedBits 93 = .ok (.ifCond .eq 33, 3) := dk_153 0 33 (dk_at dksX0_ringedBits_4 0 rfl rfl)
theorem dX0_ringedBits_96 : decode cX0_ringedBits 96 = .ok (.aload_n 0, 1) := dk_42 (dk_at dksX0_ringedBits_4 3 rfl rfl)
theorem dX0_ringedBits_97 : decode cX0_ringedBits 97 = .ok (.getfield 77, 3) := dk_180 0 77 (dk_at dksX0_ringedBits_4 4 rfl rfl)
theorem dX0_ringedBits_100 : decode cX0_ringedBits 100 = .ok (.aload_n 0, 1) := dk_42 (dk_at dksX0_ringedBits_4 7 rfl rfl)
theorem dX0_ringedBits_101 : decode cX0_ringedBits 101 = .ok (.getfield 77, 3) := dk_180 0 77 (dk_at dksX0_ringedBits_4 8 rfl rfl)
theorem dX0_ringedBits_104 : decode cX0_ringedBits 104 = .ok (.getfield 154, 3) := dk_180 0 154 (dk_at dksX0_ringedBits_4 11 rfl rfl)
theorem dX0_ringedBits_107 : decode cX0_ringedBits 107 = .ok (.iconst 1, 1) := dk_4 (dk_at dksX0_ringedBits_4 14 rfl rfl)
theorem dX0_ringedBits_108 : decode cX0_ringedBits 108 = .ok (.iload 4, 2) := dk_21 4 (dk_at dksX0_ringedBits_4 15 rfl rfl)
theorem dX0_ringedBits_110 : decode cX0_ringedBits 110 = .ok (.ishl, 1) := dk_120 (dk_at dksX0_ringedBits_4 17 rfl rfl)
theorem dX0_ringedBits_111 : decode cX0_ringedBits 111 = .ok (.ior, 1) := dk_128 (dk_at dksX0_ringedBits_4 18 rfl rfl)
theorem dX0_ringedBits_112 : decode cX0_ringedBits 112 = .ok (.invokevirtual 189, 3) := dk_182 0 189 (dk_at dksX0_ringedBits_4 19 rfl rfl)
theorem dX0_ringedBits_115 : decode cX0_ringedBits 115 = .ok (.iload_n 3, 1) := dk_29 (dk_at dksX0_ringedBits_4 22 rfl rfl)
theorem dX0_ringedBits_116 : decode cX0_ringedBits 116 = .ok (.invokestatic 192, 3) := dk_184 0 192 (dk_at dksX0_ringedBits_5 0 rfl rfl)
theorem dX0_ringedBits_119 : decode cX0_ringedBits 119 = .ok (.ifCond .eq 7, 3) := dk_153 0 7 (dk_at dksX0_ringedBits_5 3 rfl rfl)
theorem dX0_ringedBits_122 : decode cX0_ringedBits 122 = .ok (.iconst 1, 1) := dk_4 (dk_at dksX0_ringedBits_5 6 rfl rfl)
theorem dX0_ringedBits_123 : decode cX0_ringedBits 123 = .ok (.goto 4, 3) := dk_167 0 4 (dk_at dksX0_ringedBits_5 7 rfl rfl)
theorem dX0_ringedBits_126 : decode cX0_ringedBits 126 = .ok (.iconst 0, 1) := dk_3 (dk_at dksX0_ringedBits_5 10 rfl rfl)
theorem dX0_ringedBits_127 : decode cX0_ringedBits 127 = .ok (.istore 5, 2) := dk_54 5 (dk_at dksX0_ringedBits_5 11 rfl rfl)
theorem dX0_ringedBits_129 : decode cX0_ringedBits 129 = .ok (.iload_n 2, 1) := dk_28 (dk_at dksX0_ringedBits_5 13 rfl rfl)
theorem dX0_ringedBits_130 : decode cX0_ringedBits 130 = .ok (.iload 5, 2) := dk_21 5 (dk_at dksX0_ringedBits_5 14 rfl rfl)
theorem dX0_ringedBits_132 : decode cX0_ringedBits 132 = .ok (.ifCond .eq 9, 3) := dk_153 0 9 (dk_at dksX0_ringedBits_5 16 rfl rfl)
theorem dX0_ringedBits_135 : decode cX0_ringedBits 135 = .ok (.iconst 1, 1) := dk_4 (dk_at dksX0_ringedBits_5 19 rfl rfl)
theorem dX0_ringedBits_136 : decode cX0_ringedBits 136 = .ok (.iload_n 3, 1) := dk_29 (dk_at dksX0_ringedBits_5 20 rfl rfl)
theorem dX0_ringedBits_137 : decode cX0_ringedBits 137 = .ok (.ishl, 1) := dk_120 (dk_at dksX0_ringedBits_5 21 rfl rfl)
theorem dX0_ringedBits_138 : decode cX0_ringedBits 138 = .ok (.goto 4, 3) := dk_167 0 4 (dk_at dksX0_ringedBits_6 0 rfl rfl)
theorem dX0_ringedBits_141 : decode cX0_ringedBits 141 = .ok (.iconst 0, 1) := dk_3 (dk_at dksX0_ringedBits_6 3 rfl rfl)
theorem dX0_ringedBits_142 : decode cX0_ringedBits 142 = .ok (.ior, 1) := dk_128 (dk_at dksX0_ringedBits_6 4 rfl rfl)
theorem dX0_ringedBits_143 : decode cX0_ringedBits 143 = .ok (.istore_n 2, 1) := dk_61 (dk_at dksX0_ringedBits_6 5 rfl rfl)
theorem dX0_ringedBits_144 : decode cX0_ringedBits 144 = .ok (.iinc 4 1, 3) := dk_132 4 1 (dk_at dksX0_ringedBits_6 6 rfl rfl)
theorem dX0_ringedBits_147 : decode cX0_ringedBits 147 = .ok (.goto (-124), 3) := dk_167 255 132 (dk_at dksX0_ringedBits_6 9 rfl rfl)
theorem dX0_ringedBits_150 : decode cX0_ringedBits 150 = .ok (.iinc 3 1, 3) := dk_132 3 1 (dk_at dksX0_ringedBits_6 12 rfl rfl)
theorem dX0_ringedBits_153 : decode cX0_ringedBits 153 = .ok (.goto (-144), 3) := dk_167 255 112 (dk_at dksX0_ringedBits_6 15 rfl rfl)
theorem dX0_ringedBits_156 : decode cX0_ringedBits 156 = .ok (.iload_n 2, 1) := dk_28 (dk_at dksX0_ringedBits_6 18 rfl rfl)
theorem dX0_ringedBits_157 : decode cX0_ringedBits 157 = .ok (.ireturn, 1) := dk_172 (dk_at dksX0_ringedBits_6 19 rfl rfl)
abbrev cX0_barred : ByteArray := prog_1_method_16_code
def yX0_barred : MethodName := ⟨RX0, "barred", "()I"⟩
def dkwX0_barred_1 : List UInt8 := [172]
abbrev dktX0_barred_1 : List UInt8 := dkwX0_barred_1 ++ []
def dkwX0_barred_0 : List UInt8 := [42, 180, 0, 77, 182, 0, 150, 42, 180, 0, 77, 42, 180, 0, 77, 180, 0, 154, 182, 0, 189, 2, 130, 126]
abbrev dktX0_barred_0 : List UInt8 := dkwX0_barred_0 ++ dktX0_barred_1
theorem dksX0_barred_0 : cX0_barred.data.toList.drop 0 = dktX0_barred_0 := by decide +kernel
theorem dksX0_barred_1 : cX0_barred.data.toList.drop 24 = dktX0_barred_1 := dk_seg dksX0_barred_0 24 rfl rfl
theorem dX0_barred_0 : decode cX0_barred 0 = .ok (.aload_n 0, 1) := dk_42 (dk_at dksX0_barred_0 0 rfl rfl)
theorem dX0_barred_1 : decode cX0_barred 1 = .ok (.getfield 77, 3) := dk_180 0 77 (dk_at dksX0_barred_0 1 rfl rfl)
theorem dX0_barred_4 : decode cX0_barred 4 = .ok (.invokevirtual 150, 3) := dk_182 0 150 (dk_at dksX0_barred_0 4 rfl rfl)
theorem dX0_barred_7 : decode cX0_barred 7 = .ok (.aload_n 0, 1) := dk_42 (dk_at dksX0_barred_0 7 rfl rfl)
theorem dX0_barred_8 : decode cX0_barred 8 = .ok (.getfield 77, 3) := dk_180 0 77 (dk_at dksX0_barred_0 8 rfl rfl)
theorem dX0_barred_11 : decode cX0_barred 11 = .ok (.aload_n 0, 1) := dk_42 (dk_at dksX0_barred_0 11 rfl rfl)
theorem dX0_barred_12 : decode cX0_barred 12 = .ok (.getfield 77, 3) := dk_180 0 77 (dk_at dksX0_barred_0 12 rfl rfl)
theorem dX0_barred_15 : decode cX0_barred 15 = .ok (.getfield 154, 3) := dk_180 0 154 (dk_at dksX0_barred_0 15 rfl rfl)
theorem dX0_barred_18 : decode cX0_barred 18 = .ok (.invokevirtual 189, 3) := dk_182 0 189 (dk_at dksX0_barred_0 18 rfl rfl)
theorem dX0_barred_21 : decode cX0_barred 21 = .ok (.iconst (-1), 1) := dk_2 (dk_at dksX0_barred_0 21 rfl rfl)
theorem dX0_barred_22 : decode cX0_barred 22 = .ok (.ixor, 1) := dk_130 (dk_at dksX0_barred_0 22 rfl rfl)
theorem dX0_barred_23 : decode cX0_barred 23 = .ok (.iand, 1) := dk_126 (dk_at dksX0_barred_0 23 rfl rfl)
theorem dX0_barred_24 : decode cX0_barred 24 = .ok (.ireturn, 1) := dk_172 (dk_at dksX0_barred_1 0 rfl rfl)
abbrev cX0_begTold : ByteArray := prog_1_method_45_code
def yX0_begTold : MethodName := ⟨RX0, "begTold", "(I)I"⟩
def dkwX0_begTold_0 : List UInt8 := [27, 184, 1, 42, 42, 182, 1, 69, 61, 27, 154, 0, 11, 42, 28, 182, 0, 210, 167, 0, 4, 28, 172]
abbrev dktX0_begTold_0 : List UInt8 := dkwX0_begTold_0 ++ []
theorem dksX0_begTold_0 : cX0_begTold.data.toList.drop 0 = dktX0_begTold_0 := by decide +kernel
theorem dX0_begTold_0 : decode cX0_begTold 0 = .ok (.iload_n 1, 1) := dk_27 (dk_at dksX0_begTold_0 0 rfl rfl)
theorem dX0_begTold_1 : decode cX0_begTold 1 = .ok (.invokestatic 298, 3) := dk_184 1 42 (dk_at dksX0_begTold_0 1 rfl rfl)
theorem dX0_begTold_4 : decode cX0_begTold 4 = .ok (.aload_n 0, 1) := dk_42 (dk_at dksX0_begTold_0 4 rfl rfl)
theorem dX0_begTold_5 : decode cX0_begTold 5 = .ok (.invokevirtual 325, 3) := dk_182 1 69 (dk_at dksX0_begTold_0 5 rfl rfl)
theorem dX0_begTold_8 : decode cX0_begTold 8 = .ok (.istore_n 2, 1) := dk_61 (dk_at dksX0_begTold_0 8 rfl rfl)
theorem dX0_begTold_9 : decode cX0_begTold 9 = .ok (.iload_n 1, 1) := dk_27 (dk_at dksX0_begTold_0 9 rfl rfl)
theorem dX0_begTold_10 : decode cX0_begTold 10 = .ok (.ifCond .ne 11, 3) := dk_154 0 11 (dk_at dksX0_begTold_0 10 rfl rfl)
theorem dX0_begTold_13 : decode cX0_begTold 13 = .ok (.aload_n 0, 1) := dk_42 (dk_at dksX0_begTold_0 13 rfl rfl)
theorem dX0_begTold_14 : decode cX0_begTold 14 = .ok (.iload_n 2, 1) := dk_28 (dk_at dksX0_begTold_0 14 rfl rfl)
theorem dX0_begTold_15 : decode cX0_begTold 15 = .ok (.invokevirtual 210, 3) := dk_182 0 210 (dk_at dksX0_begTold_0 15 rfl rfl)
theorem dX0_begTold_18 : decode cX0_begTold 18 = .ok (.goto 4, 3) := dk_167 0 4 (dk_at dksX0_begTold_0 18 rfl rfl)
theorem dX0_begTold_21 : decode cX0_begTold 21 = .ok (.iload_n 2, 1) := dk_28 (dk_at dksX0_begTold_0 21 rfl rfl)
theorem dX0_begTold_22 : decode cX0_begTold 22 = .ok (.ireturn, 1) := dk_172 (dk_at dksX0_begTold_0 22 rfl rfl)
abbrev cX0_leastBegged : ByteArray := prog_1_method_19_code
def yX0_leastBegged : MethodName := ⟨RX0, "leastBegged", "()I"⟩
def dkwX0_leastBegged_3 : List UInt8 := [167, 0, 4, 27, 60, 132, 2, 1, 167, 255, 181, 27, 172]
abbrev dktX0_leastBegged_3 : List UInt8 := dkwX0_leastBegged_3 ++ []
def dkwX0_leastBegged_2 : List UInt8 := [29, 153, 0, 26, 27, 16, 247, 159, 0, 16, 42, 28, 182, 0, 210, 42, 27, 182, 0, 210, 162, 0, 7, 28]
abbrev dktX0_leastBegged_2 : List UInt8 := dkwX0_leastBegged_2 ++ dktX0_leastBegged_3
def dkwX0_leastBegged_1 : List UInt8 := [180, 0, 154, 28, 128, 182, 0, 189, 42, 180, 0, 77, 182, 0, 150, 160, 0, 7, 4, 167, 0, 4, 3, 62]
abbrev dktX0_leastBegged_1 : List UInt8 := dkwX0_leastBegged_1 ++ dktX0_leastBegged_2
def dkwX0_leastBegged_0 : List UInt8 := [16, 247, 60, 3, 61, 28, 42, 180, 0, 77, 182, 0, 150, 163, 0, 70, 42, 180, 0, 77, 42, 180, 0, 77]
abbrev dktX0_leastBegged_0 : List UInt8 := dkwX0_leastBegged_0 ++ dktX0_leastBegged_1
theorem dksX0_leastBegged_0 : cX0_leastBegged.data.toList.drop 0 = dktX0_leastBegged_0 := by decide +kernel
theorem dksX0_leastBegged_1 : cX0_leastBegged.data.toList.drop 24 = dktX0_leastBegged_1 := dk_seg dksX0_leastBegged_0 24 rfl rfl
theorem dksX0_leastBegged_2 : cX0_leastBegged.data.toList.drop 48 = dktX0_leastBegged_2 := dk_seg dksX0_leastBegged_1 24 rfl rfl
theorem dksX0_leastBegged_3 : cX0_leastBegged.data.toList.drop 72 = dktX0_leastBegged_3 := dk_seg dksX0_leastBegged_2 24 rfl rfl
theorem dX0_leastBegged_0 : decode cX0_leastBegged 0 = .ok (.bipush (-9), 2) := dk_16 247 (dk_at dksX0_leastBegged_0 0 rfl rfl)
theorem dX0_leastBegged_2 : decode cX0_leastBegged 2 = .ok (.istore_n 1, 1) := dk_60 (dk_at dksX0_leastBegged_0 2 rfl rfl)
theorem dX0_leastBegged_3 : decode cX0_leastBegged 3 = .ok (.iconst 0, 1) := dk_3 (dk_at dksX0_leastBegged_0 3 rfl rfl)
theorem dX0_leastBegged_4 : decode cX0_leastBegged 4 = .ok (.istore_n 2, 1) := dk_61 (dk_at dksX0_leastBegged_0 4 rfl rfl)
theorem dX0_leastBegged_5 : decode cX0_leastBegged 5 = .ok (.iload_n 2, 1) := dk_28 (dk_at dksX0_leastBegged_0 5 rfl rfl)
theorem dX0_leastBegged_6 : decode cX0_leastBegged 6 = .ok (.aload_n 0, 1) := dk_42 (dk_at dksX0_leastBegged_0 6 rfl rfl)
theorem dX0_leastBegged_7 : decode cX0_leastBegged 7 = .ok (.getfield 77, 3) := dk_180 0 77 (dk_at dksX0_leastBegged_0 7 rfl rfl)
theorem dX0_leastBegged_10 : decode cX0_leastBegged 10 = .ok (.invokevirtual 150, 3) := dk_182 0 150 (dk_at dksX0_leastBegged_0 10 rfl rfl)
theorem dX0_leastBegged_13 : decode cX0_leastBegged 13 = .ok (.if_icmp .gt 70, 3) := dk_163 0 70 (dk_at dksX0_leastBegged_0 13 rfl rfl)
theorem dX0_leastBegged_16 : decode cX0_leastBegged 16 = .ok (.aload_n 0, 1) := dk_42 (dk_at dksX0_leastBegged_0 16 rfl rfl)
theorem dX0_leastBegged_17 : decode cX0_leastBegged 17 = .ok (.getfield 77, 3) := dk_180 0 77 (dk_at dksX0_leastBegged_0 17 rfl rfl)
theorem dX0_leastBegged_20 : decode cX0_leastBegged 20 = .ok (.aload_n 0, 1) := dk_42 (dk_at dksX0_leastBegged_0 20 rfl rfl)
theorem dX0_leastBegged_21 : decode cX0_leastBegged 21 = .ok (.getfield 77, 3) := dk_180 0 77 (dk_at dksX0_leastBegged_0 21 rfl rfl)
theorem dX0_leastBegged_24 : decode cX0_leastBegged 24 = .ok (.getfield 154, 3) := dk_180 0 154 (dk_at dksX0_leastBegged_1 0 rfl rfl)
theorem dX0_leastBegged_27 : decode cX0_leastBegged 27 = .ok (.iload_n 2, 1) := dk_28 (dk_at dksX0_leastBegged_1 3 rfl rfl)
theorem dX0_leastBegged_28 : decode cX0_leastBegged 28 = .ok (.ior, 1) := dk_128 (dk_at dksX0_leastBegged_1 4 rfl rfl)
theorem dX0_leastBegged_29 : decode cX0_leastBegged 29 = .ok (.invokevirtual 189, 3) := dk_182 0 189 (dk_at dksX0_leastBegged_1 5 rfl rfl)
theorem dX0_leastBegged_32 : decode cX0_leastBegged 32 = .ok (.aload_n 0, 1) := dk_42 (dk_at dksX0_leastBegged_1 8 rfl rfl)
theorem dX0_leastBegged_33 : decode cX0_leastBegged 33 = .ok (.getfield 77, 3) := dk_180 0 77 (dk_at dksX0_leastBegged_1 9 rfl rfl)
theorem dX0_leastBegged_36 : decode cX0_leastBegged 36 = .ok (.invokevirtual 150, 3) := dk_182 0 150 (dk_at dksX0_leastBegged_1 12 rfl rfl)
theorem dX0_leastBegged_39 : decode cX0_leastBegged 39 = .ok (.if_icmp .ne 7, 3) := dk_160 0 7 (dk_at dksX0_leastBegged_1 15 rfl rfl)
theorem dX0_leastBegged_42 : decode cX0_leastBegged 42 = .ok (.iconst 1, 1) := dk_4 (dk_at dksX0_leastBegged_1 18 rfl rfl)
theorem dX0_leastBegged_43 : decode cX0_leastBegged 43 = .ok (.goto 4, 3) := dk_167 0 4 (dk_at dksX0_leastBegged_1 19 rfl rfl)
theorem dX0_leastBegged_46 : decode cX0_leastBegged 46 = .ok (.iconst 0, 1) := dk_3 (dk_at dksX0_leastBegged_1 22 rfl rfl)
theorem dX0_leastBegged_47 : decode cX0_leastBegged 47 = .ok (.istore_n 3, 1) := dk_62 (dk_at dksX0_leastBegged_1 23 rfl rfl)
theorem dX0_leastBegged_48 : decode cX0_leastBegged 48 = .ok (.iload_n 3, 1) := dk_29 (dk_at dksX0_leastBegged_2 0 rfl rfl)
theorem dX0_leastBegged_49 : decode cX0_leastBegged 49 = .ok (.ifCond .eq 26, 3) := dk_153 0 26 (dk_at dksX0_leastBegged_2 1 rfl rfl)
theorem dX0_leastBegged_52 : decode cX0_leastBegged 52 = .ok (.iload_n 1, 1) := dk_27 (dk_at dksX0_leastBegged_2 4 rfl rfl)
theorem dX0_leastBegged_53 : decode cX0_leastBegged 53 = .ok (.bipush (-9), 2) := dk_16 247 (dk_at dksX0_leastBegged_2 5 rfl rfl)
theorem dX0_leastBegged_55 : decode cX0_leastBegged 55 = .ok (.if_icmp .eq 16, 3) := dk_159 0 16 (dk_at dksX0_leastBegged_2 7 rfl rfl)
theorem dX0_leastBegged_58 : decode cX0_leastBegged 58 = .ok (.aload_n 0, 1) := dk_42 (dk_at dksX0_leastBegged_2 10 rfl rfl)
theorem dX0_leastBegged_59 : decode cX0_leastBegged 59 = .ok (.iload_n 2, 1) := dk_28 (dk_at dksX0_leastBegged_2 11 rfl rfl)
theorem dX0_leastBegged_60 : decode cX0_leastBegged 60 = .ok (.invokevirtual 210, 3) := dk_182 0 210 (dk_at dksX0_leastBegged_2 12 rfl rfl)
theorem dX0_leastBegged_63 : decode cX0_leastBegged 63 = .ok (.aload_n 0, 1) := dk_42 (dk_at dksX0_leastBegged_2 15 rfl rfl)
theorem dX0_leastBegged_64 : decode cX0_leastBegged 64 = .ok (.iload_n 1, 1) := dk_27 (dk_at dksX0_leastBegged_2 16 rfl rfl)
theorem dX0_leastBegged_65 : decode cX0_leastBegged 65 = .ok (.invokevirtual 210, 3) := dk_182 0 210 (dk_at dksX0_leastBegged_2 17 rfl rfl)
theorem dX0_leastBegged_68 : decode cX0_leastBegged 68 = .ok (.if_icmp .ge 7, 3) := dk_162 0 7 (dk_at dksX0_leastBegged_2 20 rfl rfl)
theorem dX0_leastBegged_71 : decode cX0_leastBegged 71 = .ok (.iload_n 2, 1) := dk_28 (dk_at dksX0_leastBegged_2 23 rfl rfl)
theorem dX0_leastBegged_72 : decode cX0_leastBegged 72 = .ok (.goto 4, 3) := dk_167 0 4 (dk_at dksX0_leastBegged_3 0 rfl rfl)
theorem dX0_leastBegged_75 : decode cX0_leastBegged 75 = .ok (.iload_n 1, 1) := dk_27 (dk_at dksX0_leastBegged_3 3 rfl rfl)
theorem dX0_leastBegged_76 : decode cX0_leastBegged 76 = .ok (.istore_n 1, 1) := dk_60 (dk_at dksX0_leastBegged_3 4 rfl rfl)
theorem dX0_leastBegged_77 : decode cX0_leastBegged 77 = .ok (.iinc 2 1, 3) := dk_132 2 1 (dk_at dksX0_leastBegged_3 5 rfl rfl)
theorem dX0_leastBegged_80 : decode cX0_leastBegged 80 = .ok (.goto (-75), 3) := dk_167 255 181 (dk_at dksX0_leastBegged_3 8 rfl rfl)
theorem dX0_leastBegged_83 : decode cX0_leastBegged 83 = .ok (.iload_n 1, 1) := dk_27 (dk_at dksX0_leastBegged_3 11 rfl rfl)
theorem dX0_leastBegged_84 : decode cX0_leastBegged 84 = .ok (.ireturn, 1) := dk_172 (dk_at dksX0_leastBegged_3 12 rfl rfl)
abbrev cX0_costOf : ByteArray := prog_1_method_18_code
def yX0_costOf : MethodName := ⟨RX0, "costOf", "(I)I"⟩
def dkwX0_costOf_1 : List UInt8 := [42, 180, 0, 77, 180, 0, 207, 29, 46, 167, 0, 4, 3, 96, 61, 132, 3, 1, 167, 255, 218, 28, 172]
abbrev dktX0_costOf_1 : List UInt8 := dkwX0_costOf_1 ++ []
def dkwX0_costOf_0 : List UInt8 := [3, 61, 3, 62, 29, 42, 180, 0, 77, 180, 0, 160, 162, 0, 33, 28, 27, 29, 184, 0, 192, 153, 0, 15]
abbrev dktX0_costOf_0 : List UInt8 := dkwX0_costOf_0 ++ dktX0_costOf_1
theorem dksX0_costOf_0 : cX0_costOf.data.toList.drop 0 = dktX0_costOf_0 := by decide +kernel
theorem dksX0_costOf_1 : cX0_costOf.data.toList.drop 24 = dktX0_costOf_1 := dk_seg dksX0_costOf_0 24 rfl rfl
theorem dX0_costOf_0 : decode cX0_costOf 0 = .ok (.iconst 0, 1) := dk_3 (dk_at dksX0_costOf_0 0 rfl rfl)
theorem dX0_costOf_1 : decode cX0_costOf 1 = .ok (.istore_n 2, 1) := dk_61 (dk_at dksX0_costOf_0 1 rfl rfl)
theorem dX0_costOf_2 : decode cX0_costOf 2 = .ok (.iconst 0, 1) := dk_3 (dk_at dksX0_costOf_0 2 rfl rfl)
theorem dX0_costOf_3 : decode cX0_costOf 3 = .ok (.istore_n 3, 1) := dk_62 (dk_at dksX0_costOf_0 3 rfl rfl)
theorem dX0_costOf_4 : decode cX0_costOf 4 = .ok (.iload_n 3, 1) := dk_29 (dk_at dksX0_costOf_0 4 rfl rfl)
theorem dX0_costOf_5 : decode cX0_costOf 5 = .ok (.aload_n 0, 1) := dk_42 (dk_at dksX0_costOf_0 5 rfl rfl)
theorem dX0_costOf_6 : decode cX0_costOf 6 = .ok (.getfield 77, 3) := dk_180 0 77 (dk_at dksX0_costOf_0 6 rfl rfl)
theorem dX0_costOf_9 : decode cX0_costOf 9 = .ok (.getfield 160, 3) := dk_180 0 160 (dk_at dksX0_costOf_0 9 rfl rfl)
theorem dX0_costOf_12 : decode cX0_costOf 12 = .ok (.if_icmp .ge 33, 3) := dk_162 0 33 (dk_at dksX0_costOf_0 12 rfl rfl)
theorem dX0_costOf_15 : decode cX0_costOf 15 = .ok (.iload_n 2, 1) := dk_28 (dk_at dksX0_costOf_0 15 rfl rfl)
theorem dX0_costOf_16 : decode cX0_costOf 16 = .ok (.iload_n 1, 1) := dk_27 (dk_at dksX0_costOf_0 16 rfl rfl)
theorem dX0_costOf_17 : decode cX0_costOf 17 = .ok (.iload_n 3, 1) := dk_29 (dk_at dksX0_costOf_0 17 rfl rfl)
theorem dX0_costOf_18 : decode cX0_costOf 18 = .ok (.invokestatic 192, 3) := dk_184 0 192 (dk_at dksX0_costOf_0 18 rfl rfl)
theorem dX0_costOf_21 : decode cX0_costOf 21 = .ok (.ifCond .eq 15, 3) := dk_153 0 15 (dk_at dksX0_costOf_0 21 rfl rfl)
theorem dX0_costOf_24 : decode cX0_costOf 24 = .ok (.aload_n 0, 1) := dk_42 (dk_at dksX0_costOf_1 0 rfl rfl)
theorem dX0_costOf_25 : decode cX0_costOf 25 = .ok (.getfield 77, 3) := dk_180 0 77 (dk_at dksX0_costOf_1 1 rfl rfl)
theorem dX0_costOf_28 : decode cX0_costOf 28 = .ok (.getfield 207, 3) := dk_180 0 207 (dk_at dksX0_costOf_1 4 rfl rfl)
theorem dX0_costOf_31 : decode cX0_costOf 31 = .ok (.iload_n 3, 1) := dk_29 (dk_at dksX0_costOf_1 7 rfl rfl)
theorem dX0_costOf_32 : decode cX0_costOf 32 = .ok (.iaload, 1) := dk_46 (dk_at dksX0_costOf_1 8 rfl rfl)
theorem dX0_costOf_33 : decode cX0_costOf 33 = .ok (.goto 4, 3) := dk_167 0 4 (dk_at dksX0_costOf_1 9 rfl rfl)
theorem dX0_costOf_36 : decode cX0_costOf 36 = .ok (.iconst 0, 1) := dk_3 (dk_at dksX0_costOf_1 12 rfl rfl)
theorem dX0_costOf_37 : decode cX0_costOf 37 = .ok (.iadd, 1) := dk_96 (dk_at dksX0_costOf_1 13 rfl rfl)
theorem dX0_costOf_38 : decode cX0_costOf 38 = .ok (.istore_n 2, 1) := dk_61 (dk_at dksX0_costOf_1 14 rfl rfl)
theorem dX0_costOf_39 : decode cX0_costOf 39 = .ok (.iinc 3 1, 3) := dk_132 3 1 (dk_at dksX0_costOf_1 15 rfl rfl)
theorem dX0_costOf_42 : decode cX0_costOf 42 = .ok (.goto (-38), 3) := dk_167 255 218 (dk_at dksX0_costOf_1 18 rfl rfl)
theorem dX0_costOf_45 : decode cX0_costOf 45 = .ok (.iload_n 2, 1) := dk_28 (dk_at dksX0_costOf_1 21 rfl rfl)
theorem dX0_costOf_46 : decode cX0_costOf 46 = .ok (.ireturn, 1) := dk_172 (dk_at dksX0_costOf_1 22 rfl rfl)
abbrev cX0_fewestNails : ByteArray := prog_1_method_20_code
def yX0_fewestNails : MethodName := ⟨RX0, "fewestNails", "()I"⟩
def dkwX0_fewestNails_3 : List UInt8 := [167, 255, 191, 27, 172]
abbrev dktX0_fewestNails_3 : List UInt8 := dkwX0_fewestNails_3 ++ []
def dkwX0_fewestNails_2 : List UInt8 := [159, 0, 14, 28, 184, 0, 213, 27, 184, 0, 213, 162, 0, 7, 28, 167, 0, 4, 27, 60, 132, 2, 1]
abbrev dktX0_fewestNails_2 : List UInt8 := dkwX0_fewestNails_2 ++ dktX0_fewestNails_3
def dkwX0_fewestNails_1 : List UInt8 := [42, 180, 0, 77, 182, 0, 150, 160, 0, 7, 4, 167, 0, 4, 3, 62, 29, 153, 0, 24, 27, 16, 247]
abbrev dktX0_fewestNails_1 : List UInt8 := dkwX0_fewestNails_1 ++ dktX0_fewestNails_2
def dkwX0_fewestNails_0 : List UInt8 := [16, 247, 60, 3, 61, 28, 42, 180, 0, 77, 182, 0, 150, 163, 0, 60, 42, 180, 0, 77, 28, 182, 0, 189]
abbrev dktX0_fewestNails_0 : List UInt8 := dkwX0_fewestNails_0 ++ dktX0_fewestNails_1
theorem dksX0_fewestNails_0 : cX0_fewestNails.data.toList.drop 0 = dktX0_fewestNails_0 := by decide +kernel
theorem dksX0_fewestNails_1 : cX0_fewestNails.data.toList.drop 24 = dktX0_fewestNails_1 := dk_seg dksX0_fewestNails_0 24 rfl rfl
theorem dksX0_fewestNails_2 : cX0_fewestNails.data.toList.drop 47 = dktX0_fewestNails_2 := dk_seg dksX0_fewestNails_1 23 rfl rfl
theorem dksX0_fewestNails_3 : cX0_fewestNails.data.toList.drop 70 = dktX0_fewestNails_3 := dk_seg dksX0_fewestNails_2 23 rfl rfl
theorem dX0_fewestNails_0 : decode cX0_fewestNails 0 = .ok (.bipush (-9), 2) := dk_16 247 (dk_at dksX0_fewestNails_0 0 rfl rfl)
theorem dX0_fewestNails_2 : decode cX0_fewestNails 2 = .ok (.istore_n 1, 1) := dk_60 (dk_at dksX0_fewestNails_0 2 rfl rfl)
theorem dX0_fewestNails_3 : decode cX0_fewestNails 3 = .ok (.iconst 0, 1) := dk_3 (dk_at dksX0_fewestNails_0 3 rfl rfl)
theorem dX0_fewestNails_4 : decode cX0_fewestNails 4 = .ok (.istore_n 2, 1) := dk_61 (dk_at dksX0_fewestNails_0 4 rfl rfl)
theorem dX0_fewestNails_5 : decode cX0_fewestNails 5 = .ok (.iload_n 2, 1) := dk_28 (dk_at dksX0_fewestNails_0 5 rfl rfl)
theorem dX0_fewestNails_6 : decode cX0_fewestNails 6 = .ok (.aload_n 0, 1) := dk_42 (dk_at dksX0_fewestNails_0 6 rfl rfl)
theorem dX0_fewestNails_7 : decode cX0_fewestNails 7 = .ok (.getfield 77, 3) := dk_180 0 77 (dk_at dksX0_fewestNails_0 7 rfl rfl)
theorem dX0_fewestNails_10 : decode cX0_fewestNails 10 = .ok (.invokevirtual 150, 3) := dk_182 0 150 (dk_at dksX0_fewestNails_0 10 rfl rfl)
theorem dX0_fewestNails_13 : decode cX0_fewestNails 13 = .ok (.if_icmp .gt 60, 3) := dk_163 0 60 (dk_at dksX0_fewestNails_0 13 rfl rfl)
theorem dX0_fewestNails_16 : decode cX0_fewestNails 16 = .ok (.aload_n 0, 1) := dk_42 (dk_at dksX0_fewestNails_0 16 rfl rfl)
theorem dX0_fewestNails_17 : decode cX0_fewestNails 17 = .ok (.getfield 77, 3) := dk_180 0 77 (dk_at dksX0_fewestNails_0 17 rfl rfl)
theorem dX0_fewestNails_20 : decode cX0_fewestNails 20 = .ok (.iload_n 2, 1) := dk_28 (dk_at dksX0_fewestNails_0 20 rfl rfl)
theorem dX0_fewestNails_21 : decode cX0_fewestNails 21 = .ok (.invokevirtual 189, 3) := dk_182 0 189 (dk_at dksX0_fewestNails_0 21 rfl rfl)
theorem dX0_fewestNails_24 : decode cX0_fewestNails 24 = .ok (.aload_n 0, 1) := dk_42 (dk_at dksX0_fewestNails_1 0 rfl rfl)
theorem dX0_fewestNails_25 : decode cX0_fewestNails 25 = .ok (.getfield 77, 3) := dk_180 0 77 (dk_at dksX0_fewestNails_1 1 rfl rfl)
theorem dX0_fewestNails_28 : decode cX0_fewestNails 28 = .ok (.invokevirtual 150, 3) := dk_182 0 150 (dk_at dksX0_fewestNails_1 4 rfl rfl)
theorem dX0_fewestNails_31 : decode cX0_fewestNails 31 = .ok (.if_icmp .ne 7, 3) := dk_160 0 7 (dk_at dksX0_fewestNails_1 7 rfl rfl)
theorem dX0_fewestNails_34 : decode cX0_fewestNails 34 = .ok (.iconst 1, 1) := dk_4 (dk_at dksX0_fewestNails_1 10 rfl rfl)
theorem dX0_fewestNails_35 : decode cX0_fewestNails 35 = .ok (.goto 4, 3) := dk_167 0 4 (dk_at dksX0_fewestNails_1 11 rfl rfl)
theorem dX0_fewestNails_38 : decode cX0_fewestNails 38 = .ok (.iconst 0, 1) := dk_3 (dk_at dksX0_fewestNails_1 14 rfl rfl)
theorem dX0_fewestNails_39 : decode cX0_fewestNails 39 = .ok (.istore_n 3, 1) := dk_62 (dk_at dksX0_fewestNails_1 15 rfl rfl)
theorem dX0_fewestNails_40 : decode cX0_fewestNails 40 = .ok (.iload_n 3, 1) := dk_29 (dk_at dksX0_fewestNails_1 16 rfl rfl)
theorem dX0_fewestNails_41 : decode cX0_fewestNails 41 = .ok (.ifCond .eq 24, 3) := dk_153 0 24 (dk_at dksX0_fewestNails_1 17 rfl rfl)
theorem dX0_fewestNails_44 : decode cX0_fewestNails 44 = .ok (.iload_n 1, 1) := dk_27 (dk_at dksX0_fewestNails_1 20 rfl rfl)
theorem dX0_fewestNails_45 : decode cX0_fewestNails 45 = .ok (.bipush (-9), 2) := dk_16 247 (dk_at dksX0_fewestNails_1 21 rfl rfl)
theorem dX0_fewestNails_47 : decode cX0_fewestNails 47 = .ok (.if_icmp .eq 14, 3) := dk_159 0 14 (dk_at dksX0_fewestNails_2 0 rfl rfl)
theorem dX0_fewestNails_50 : decode cX0_fewestNails 50 = .ok (.iload_n 2, 1) := dk_28 (dk_at dksX0_fewestNails_2 3 rfl rfl)
theorem dX0_fewestNails_51 : decode cX0_fewestNails 51 = .ok (.invokestatic 213, 3) := dk_184 0 213 (dk_at dksX0_fewestNails_2 4 rfl rfl)
theorem dX0_fewestNails_54 : decode cX0_fewestNails 54 = .ok (.iload_n 1, 1) := dk_27 (dk_at dksX0_fewestNails_2 7 rfl rfl)
theorem dX0_fewestNails_55 : decode cX0_fewestNails 55 = .ok (.invokestatic 213, 3) := dk_184 0 213 (dk_at dksX0_fewestNails_2 8 rfl rfl)
theorem dX0_fewestNails_58 : decode cX0_fewestNails 58 = .ok (.if_icmp .ge 7, 3) := dk_162 0 7 (dk_at dksX0_fewestNails_2 11 rfl rfl)
theorem dX0_fewestNails_61 : decode cX0_fewestNails 61 = .ok (.iload_n 2, 1) := dk_28 (dk_at dksX0_fewestNails_2 14 rfl rfl)
theorem dX0_fewestNails_62 : decode cX0_fewestNails 62 = .ok (.goto 4, 3) := dk_167 0 4 (dk_at dksX0_fewestNails_2 15 rfl rfl)
theorem dX0_fewestNails_65 : decode cX0_fewestNails 65 = .ok (.iload_n 1, 1) := dk_27 (dk_at dksX0_fewestNails_2 18 rfl rfl)
theorem dX0_fewestNails_66 : decode cX0_fewestNails 66 = .ok (.istore_n 1, 1) := dk_60 (dk_at dksX0_fewestNails_2 19 rfl rfl)
theorem dX0_fewestNails_67 : decode cX0_fewestNails 67 = .ok (.iinc 2 1, 3) := dk_132 2 1 (dk_at dksX0_fewestNails_2 20 rfl rfl)
theorem dX0_fewestNails_70 : decode cX0_fewestNails 70 = .ok (.goto (-65), 3) := dk_167 255 191 (dk_at dksX0_fewestNails_3 0 rfl rfl)
theorem dX0_fewestNails_73 : decode cX0_fewestNails 73 = .ok (.iload_n 1, 1) := dk_27 (dk_at dksX0_fewestNails_3 3 rfl rfl)
theorem dX0_fewestNails_74 : decode cX0_fewestNails 74 = .ok (.ireturn, 1) := dk_172 (dk_at dksX0_fewestNails_3 4 rfl rfl)
abbrev cX0_bestSpare : ByteArray := prog_1_method_21_code
def yX0_bestSpare : MethodName := ⟨RX0, "bestSpare", "()I"⟩
def dkwX0_bestSpare_3 : List UInt8 := [167, 0, 4, 27, 60, 28, 21, 4, 184, 0, 216, 61, 132, 3, 1, 167, 255, 182, 27, 172]
abbrev dktX0_bestSpare_3 : List UInt8 := dkwX0_bestSpare_3 ++ []
def dkwX0_bestSpare_2 : List UInt8 := [180, 0, 154, 4, 29, 120, 128, 182, 0, 189, 184, 0, 213, 54, 4, 21, 4, 28, 164, 0, 7, 29]
abbrev dktX0_bestSpare_2 : List UInt8 := dkwX0_bestSpare_2 ++ dktX0_bestSpare_3
def dkwX0_bestSpare_1 : List UInt8 := [180, 0, 154, 29, 184, 0, 192, 153, 0, 7, 3, 167, 0, 24, 42, 180, 0, 77, 42, 180, 0, 77]
abbrev dktX0_bestSpare_1 : List UInt8 := dkwX0_bestSpare_1 ++ dktX0_bestSpare_2
def dkwX0_bestSpare_0 : List UInt8 := [16, 247, 60, 3, 61, 3, 62, 29, 42, 180, 0, 77, 180, 0, 160, 162, 0, 69, 42, 180, 0, 77]
abbrev dktX0_bestSpare_0 : List UInt8 := dkwX0_bestSpare_0 ++ dktX0_bestSpare_1
theorem dksX0_bestSpare_0 : cX0_bestSpare.data.toList.drop 0 = dktX0_bestSpare_0 := by decide +kernel
theorem dksX0_bestSpare_1 : cX0_bestSpare.data.toList.drop 22 = dktX0_bestSpare_1 := dk_seg dksX0_bestSpare_0 22 rfl rfl
theorem dksX0_bestSpare_2 : cX0_bestSpare.data.toList.drop 44 = dktX0_bestSpare_2 := dk_seg dksX0_bestSpare_1 22 rfl rfl
theorem dksX0_bestSpare_3 : cX0_bestSpare.data.toList.drop 66 = dktX0_bestSpare_3 := dk_seg dksX0_bestSpare_2 22 rfl rfl
theorem dX0_bestSpare_0 : decode cX0_bestSpare 0 = .ok (.bipush (-9), 2) := dk_16 247 (dk_at dksX0_bestSpare_0 0 rfl rfl)
theorem dX0_bestSpare_2 : decode cX0_bestSpare 2 = .ok (.istore_n 1, 1) := dk_60 (dk_at dksX0_bestSpare_0 2 rfl rfl)
theorem dX0_bestSpare_3 : decode cX0_bestSpare 3 = .ok (.iconst 0, 1) := dk_3 (dk_at dksX0_bestSpare_0 3 rfl rfl)
theorem dX0_bestSpare_4 : decode cX0_bestSpare 4 = .ok (.istore_n 2, 1) := dk_61 (dk_at dksX0_bestSpare_0 4 rfl rfl)
theorem dX0_bestSpare_5 : decode cX0_bestSpare 5 = .ok (.iconst 0, 1) := dk_3 (dk_at dksX0_bestSpare_0 5 rfl rfl)
theorem dX0_bestSpare_6 : decode cX0_bestSpare 6 = .ok (.istore_n 3, 1) := dk_62 (dk_at dksX0_bestSpare_0 6 rfl rfl)
theorem dX0_bestSpare_7 : decode cX0_bestSpare 7 = .ok (.iload_n 3, 1) := dk_29 (dk_at dksX0_bestSpare_0 7 rfl rfl)
theorem dX0_bestSpare_8 : decode cX0_bestSpare 8 = .ok (.aload_n 0, 1) := dk_42 (dk_at dksX0_bestSpare_0 8 rfl rfl)
theorem dX0_bestSpare_9 : decode cX0_bestSpare 9 = .ok (.getfield 77, 3) := dk_180 0 77 (dk_at dksX0_bestSpare_0 9 rfl rfl)
theorem dX0_bestSpare_12 : decode cX0_bestSpare 12 = .ok (.getfield 160, 3) := dk_180 0 160 (dk_at dksX0_bestSpare_0 12 rfl rfl)
theorem dX0_bestSpare_15 : decode cX0_bestSpare 15 = .ok (.if_icmp .ge 69, 3) := dk_162 0 69 (dk_at dksX0_bestSpare_0 15 rfl rfl)
theorem dX0_bestSpare_18 : decode cX0_bestSpare 18 = .ok (.aload_n 0, 1) := dk_42 (dk_at dksX0_bestSpare_0 18 rfl rfl)
theorem dX0_bestSpare_19 : decode cX0_bestSpare 19 = .ok (.getfield 77, 3) := dk_180 0 77 (dk_at dksX0_bestSpare_0 19 rfl rfl)
theorem dX0_bestSpare_22 : decode cX0_bestSpare 22 = .ok (.getfield 154, 3) := dk_180 0 154 (dk_at dksX0_bestSpare_1 0 rfl rfl)
theorem dX0_bestSpare_25 : decode cX0_bestSpare 25 = .ok (.iload_n 3, 1) := dk_29 (dk_at dksX0_bestSpare_1 3 rfl rfl)
theorem dX0_bestSpare_26 : decode cX0_bestSpare 26 = .ok (.invokestatic 192, 3) := dk_184 0 192 (dk_at dksX0_bestSpare_1 4 rfl rfl)
theorem dX0_bestSpare_29 : decode cX0_bestSpare 29 = .ok (.ifCond .eq 7, 3) := dk_153 0 7 (dk_at dksX0_bestSpare_1 7 rfl rfl)
theorem dX0_bestSpare_32 : decode cX0_bestSpare 32 = .ok (.iconst 0, 1) := dk_3 (dk_at dksX0_bestSpare_1 10 rfl rfl)
theorem dX0_bestSpare_33 : decode cX0_bestSpare 33 = .ok (.goto 24, 3) := dk_167 0 24 (dk_at dksX0_bestSpare_1 11 rfl rfl)
theorem dX0_bestSpare_36 : decode cX0_bestSpare 36 = .ok (.aload_n 0, 1) := dk_42 (dk_at dksX0_bestSpare_1 14 rfl rfl)
theorem dX0_bestSpare_37 : decode cX0_bestSpare 37 = .ok (.getfield 77, 3) := dk_180 0 77 (dk_at dksX0_bestSpare_1 15 rfl rfl)
theorem dX0_bestSpare_40 : decode cX0_bestSpare 40 = .ok (.aload_n 0, 1) := dk_42 (dk_at dksX0_bestSpare_1 18 rfl rfl)
theorem dX0_bestSpare_41 : decode cX0_bestSpare 41 = .ok (.getfield 77, 3) := dk_180 0 77 (dk_at dksX0_bestSpare_1 19 rfl rfl)
theorem dX0_bestSpare_44 : decode cX0_bestSpare 44 = .ok (.getfield 154, 3) := dk_180 0 154 (dk_at dksX0_bestSpare_2 0 rfl rfl)
theorem dX0_bestSpare_47 : decode cX0_bestSpare 47 = .ok (.iconst 1, 1) := dk_4 (dk_at dksX0_bestSpare_2 3 rfl rfl)
theorem dX0_bestSpare_48 : decode cX0_bestSpare 48 = .ok (.iload_n 3, 1) := dk_29 (dk_at dksX0_bestSpare_2 4 rfl rfl)
theorem dX0_bestSpare_49 : decode cX0_bestSpare 49 = .ok (.ishl, 1) := dk_120 (dk_at dksX0_bestSpare_2 5 rfl rfl)
theorem dX0_bestSpare_50 : decode cX0_bestSpare 50 = .ok (.ior, 1) := dk_128 (dk_at dksX0_bestSpare_2 6 rfl rfl)
theorem dX0_bestSpare_51 : decode cX0_bestSpare 51 = .ok (.invokevirtual 189, 3) := dk_182 0 189 (dk_at dksX0_bestSpare_2 7 rfl rfl)
theorem dX0_bestSpare_54 : decode cX0_bestSpare 54 = .ok (.invokestatic 213, 3) := dk_184 0 213 (dk_at dksX0_bestSpare_2 10 rfl rfl)
theorem dX0_bestSpare_57 : decode cX0_bestSpare 57 = .ok (.istore 4, 2) := dk_54 4 (dk_at dksX0_bestSpare_2 13 rfl rfl)
theorem dX0_bestSpare_59 : decode cX0_bestSpare 59 = .ok (.iload 4, 2) := dk_21 4 (dk_at dksX0_bestSpare_2 15 rfl rfl)
theorem dX0_bestSpare_61 : decode cX0_bestSpare 61 = .ok (.iload_n 2, 1) := dk_28 (dk_at dksX0_bestSpare_2 17 rfl rfl)
theorem dX0_bestSpare_62 : decode cX0_bestSpare 62 = .ok (.if_icmp .le 7, 3) := dk_164 0 7 (dk_at dksX0_bestSpare_2 18 rfl rfl)
theorem dX0_bestSpare_65 : decode cX0_bestSpare 65 = .ok (.iload_n 3, 1) := dk_29 (dk_at dksX0_bestSpare_2 21 rfl rfl)
theorem dX0_bestSpare_66 : decode cX0_bestSpare 66 = .ok (.goto 4, 3) := dk_167 0 4 (dk_at dksX0_bestSpare_3 0 rfl rfl)
theorem dX0_bestSpare_69 : decode cX0_bestSpare 69 = .ok (.iload_n 1, 1) := dk_27 (dk_at dksX0_bestSpare_3 3 rfl rfl)
theorem dX0_bestSpare_70 : decode cX0_bestSpare 70 = .ok (.istore_n 1, 1) := dk_60 (dk_at dksX0_bestSpare_3 4 rfl rfl)
theorem dX0_bestSpare_71 : decode cX0_bestSpare 71 = .ok (.iload_n 2, 1) := dk_28 (dk_at dksX0_bestSpare_3 5 rfl rfl)
theorem dX0_bestSpare_72 : decode cX0_bestSpare 72 = .ok (.iload 4, 2) := dk_21 4 (dk_at dksX0_bestSpare_3 6 rfl rfl)
theorem dX0_bestSpare_74 : decode cX0_bestSpare 74 = .ok (.invokestatic 216, 3) := dk_184 0 216 (dk_at dksX0_bestSpare_3 8 rfl rfl)
theorem dX0_bestSpare_77 : decode cX0_bestSpare 77 = .ok (.istore_n 2, 1) := dk_61 (dk_at dksX0_bestSpare_3 11 rfl rfl)
theorem dX0_bestSpare_78 : decode cX0_bestSpare 78 = .ok (.iinc 3 1, 3) := dk_132 3 1 (dk_at dksX0_bestSpare_3 12 rfl rfl)
theorem dX0_bestSpare_81 : decode cX0_bestSpare 81 = .ok (.goto (-74), 3) := dk_167 255 182 (dk_at dksX0_bestSpare_3 15 rfl rfl)
theorem dX0_bestSpare_84 : decode cX0_bestSpare 84 = .ok (.iload_n 1, 1) := dk_27 (dk_at dksX0_bestSpare_3 18 rfl rfl)
theorem dX0_bestSpare_85 : decode cX0_bestSpare 85 = .ok (.ireturn, 1) := dk_172 (dk_at dksX0_bestSpare_3 19 rfl rfl)
abbrev cX0_doesTold : ByteArray := prog_1_method_46_code
def yX0_doesTold : MethodName := ⟨RX0, "doesTold", "(I)I"⟩
def dkwX0_doesTold_0 : List UInt8 := [42, 27, 182, 1, 24, 42, 27, 182, 1, 72, 172]
abbrev dktX0_doesTold_0 : List UInt8 := dkwX0_doesTold_0 ++ []
theorem dksX0_doesTold_0 : cX0_doesTold.data.toList.drop 0 = dktX0_doesTold_0 := by decide +kernel
theorem dX0_doesTold_0 : decode cX0_doesTold 0 = .ok (.aload_n 0, 1) := dk_42 (dk_at dksX0_doesTold_0 0 rfl rfl)
theorem dX0_doesTold_1 : decode cX0_doesTold 1 = .ok (.iload_n 1, 1) := dk_27 (dk_at dksX0_doesTold_0 1 rfl rfl)
theorem dX0_doesTold_2 : decode cX0_doesTold 2 = .ok (.invokevirtual 280, 3) := dk_182 1 24 (dk_at dksX0_doesTold_0 2 rfl rfl)
theorem dX0_doesTold_5 : decode cX0_doesTold 5 = .ok (.aload_n 0, 1) := dk_42 (dk_at dksX0_doesTold_0 5 rfl rfl)
theorem dX0_doesTold_6 : decode cX0_doesTold 6 = .ok (.iload_n 1, 1) := dk_27 (dk_at dksX0_doesTold_0 6 rfl rfl)
theorem dX0_doesTold_7 : decode cX0_doesTold 7 = .ok (.invokevirtual 328, 3) := dk_182 1 72 (dk_at dksX0_doesTold_0 7 rfl rfl)
theorem dX0_doesTold_10 : decode cX0_doesTold 10 = .ok (.ireturn, 1) := dk_172 (dk_at dksX0_doesTold_0 10 rfl rfl)
abbrev cX0_doesFor : ByteArray := prog_1_method_22_code
def yX0_doesFor : MethodName := ⟨RX0, "doesFor", "(I)I"⟩
def dkwX0_doesFor_1 : List UInt8 := [61, 28, 42, 180, 0, 77, 42, 180, 0, 77, 180, 0, 154, 4, 27, 120, 182, 0, 219, 2, 130, 126, 172]
abbrev dktX0_doesFor_1 : List UInt8 := dkwX0_doesFor_1 ++ []
def dkwX0_doesFor_0 : List UInt8 := [42, 180, 0, 77, 42, 180, 0, 77, 180, 0, 154, 182, 0, 189, 42, 180, 0, 77, 180, 0, 154, 2, 130, 126]
abbrev dktX0_doesFor_0 : List UInt8 := dkwX0_doesFor_0 ++ dktX0_doesFor_1
theorem dksX0_doesFor_0 : cX0_doesFor.data.toList.drop 0 = dktX0_doesFor_0 := by decide +kernel
theorem dksX0_doesFor_1 : cX0_doesFor.data.toList.drop 24 = dktX0_doesFor_1 := dk_seg dksX0_doesFor_0 24 rfl rfl
theorem dX0_doesFor_0 : decode cX0_doesFor 0 = .ok (.aload_n 0, 1) := dk_42 (dk_at dksX0_doesFor_0 0 rfl rfl)
theorem dX0_doesFor_1 : decode cX0_doesFor 1 = .ok (.getfield 77, 3) := dk_180 0 77 (dk_at dksX0_doesFor_0 1 rfl rfl)
theorem dX0_doesFor_4 : decode cX0_doesFor 4 = .ok (.aload_n 0, 1) := dk_42 (dk_at dksX0_doesFor_0 4 rfl rfl)
theorem dX0_doesFor_5 : decode cX0_doesFor 5 = .ok (.getfield 77, 3) := dk_180 0 77 (dk_at dksX0_doesFor_0 5 rfl rfl)
theorem dX0_doesFor_8 : decode cX0_doesFor 8 = .ok (.getfield 154, 3) := dk_180 0 154 (dk_at dksX0_doesFor_0 8 rfl rfl)
theorem dX0_doesFor_11 : decode cX0_doesFor 11 = .ok (.invokevirtual 189, 3) := dk_182 0 189 (dk_at dksX0_doesFor_0 11 rfl rfl)
theorem dX0_doesFor_14 : decode cX0_doesFor 14 = .ok (.aload_n 0, 1) := dk_42 (dk_at dksX0_doesFor_0 14 rfl rfl)
theorem dX0_doesFor_15 : decode cX0_doesFor 15 = .ok (.getfield 77, 3) := dk_180 0 77 (dk_at dksX0_doesFor_0 15 rfl rfl)
theorem dX0_doesFor_18 : decode cX0_doesFor 18 = .ok (.getfield 154, 3) := dk_180 0 154 (dk_at dksX0_doesFor_0 18 rfl rfl)
theorem dX0_doesFor_21 : decode cX0_doesFor 21 = .ok (.iconst (-1), 1) := dk_2 (dk_at dksX0_doesFor_0 21 rfl rfl)
theorem dX0_doesFor_22 : decode cX0_doesFor 22 = .ok (.ixor, 1) := dk_130 (dk_at dksX0_doesFor_0 22 rfl rfl)
theorem dX0_doesFor_23 : decode cX0_doesFor 23 = .ok (.iand, 1) := dk_126 (dk_at dksX0_doesFor_0 23 rfl rfl)
theorem dX0_doesFor_24 : decode cX0_doesFor 24 = .ok (.istore_n 2, 1) := dk_61 (dk_at dksX0_doesFor_1 0 rfl rfl)
theorem dX0_doesFor_25 : decode cX0_doesFor 25 = .ok (.iload_n 2, 1) := dk_28 (dk_at dksX0_doesFor_1 1 rfl rfl)
theorem dX0_doesFor_26 : decode cX0_doesFor 26 = .ok (.aload_n 0, 1) := dk_42 (dk_at dksX0_doesFor_1 2 rfl rfl)
theorem dX0_doesFor_27 : decode cX0_doesFor 27 = .ok (.getfield 77, 3) := dk_180 0 77 (dk_at dksX0_doesFor_1 3 rfl rfl)
theorem dX0_doesFor_30 : decode cX0_doesFor 30 = .ok (.aload_n 0, 1) := dk_42 (dk_at dksX0_doesFor_1 6 rfl rfl)
theorem dX0_doesFor_31 : decode cX0_doesFor 31 = .ok (.getfield 77, 3) := dk_180 0 77 (dk_at dksX0_doesFor_1 7 rfl rfl)
theorem dX0_doesFor_34 : decode cX0_doesFor 34 = .ok (.getfield 154, 3) := dk_180 0 154 (dk_at dksX0_doesFor_1 10 rfl rfl)
theorem dX0_doesFor_37 : decode cX0_doesFor 37 = .ok (.iconst 1, 1) := dk_4 (dk_at dksX0_doesFor_1 13 rfl rfl)
theorem dX0_doesFor_38 : decode cX0_doesFor 38 = .ok (.iload_n 1, 1) := dk_27 (dk_at dksX0_doesFor_1 14 rfl rfl)
theorem dX0_doesFor_39 : decode cX0_doesFor 39 = .ok (.ishl, 1) := dk_120 (dk_at dksX0_doesFor_1 15 rfl rfl)
theorem dX0_doesFor_40 : decode cX0_doesFor 40 = .ok (.invokevirtual 219, 3) := dk_182 0 219 (dk_at dksX0_doesFor_1 16 rfl rfl)
theorem dX0_doesFor_43 : decode cX0_doesFor 43 = .ok (.iconst (-1), 1) := dk_2 (dk_at dksX0_doesFor_1 19 rfl rfl)
theorem dX0_doesFor_44 : decode cX0_doesFor 44 = .ok (.ixor, 1) := dk_130 (dk_at dksX0_doesFor_1 20 rfl rfl)
theorem dX0_doesFor_45 : decode cX0_doesFor 45 = .ok (.iand, 1) := dk_126 (dk_at dksX0_doesFor_1 21 rfl rfl)
theorem dX0_doesFor_46 : decode cX0_doesFor 46 = .ok (.ireturn, 1) := dk_172 (dk_at dksX0_doesFor_1 22 rfl rfl)
abbrev cX0_mustHoldHand : ByteArray := prog_1_method_38_code
def yX0_mustHoldHand : MethodName := ⟨RX0, "mustHoldHand", "(I)V"⟩
def dkwX0_mustHoldHand_1 : List UInt8 := [16, 253, 184, 0, 9, 177]
abbrev dktX0_mustHoldHand_1 : List UInt8 := dkwX0_mustHoldHand_1 ++ []
def dkwX0_mustHoldHand_0 : List UInt8 := [42, 27, 182, 1, 15, 42, 180, 0, 77, 180, 0, 154, 27, 2, 130, 126, 154, 0, 7, 4, 167, 0, 4, 3]
abbrev dktX0_mustHoldHand_0 : List UInt8 := dkwX0_mustHoldHand_0 ++ dktX0_mustHoldHand_1
theorem dksX0_mustHoldHand_0 : cX0_mustHoldHand.data.toList.drop 0 = dktX0_mustHoldHand_0 := by decide +kernel
theorem dksX0_mustHoldHand_1 : cX0_mustHoldHand.data.toList.drop 24 = dktX0_mustHoldHand_1 := dk_seg dksX0_mustHoldHand_0 24 rfl rfl
theorem dX0_mustHoldHand_0 : decode cX0_mustHoldHand 0 = .ok (.aload_n 0, 1) := dk_42 (dk_at dksX0_mustHoldHand_0 0 rfl rfl)
theorem dX0_mustHoldHand_1 : decode cX0_mustHoldHand 1 = .ok (.iload_n 1, 1) := dk_27 (dk_at dksX0_mustHoldHand_0 1 rfl rfl)
theorem dX0_mustHoldHand_2 : decode cX0_mustHoldHand 2 = .ok (.invokevirtual 271, 3) := dk_182 1 15 (dk_at dksX0_mustHoldHand_0 2 rfl rfl)
theorem dX0_mustHoldHand_5 : decode cX0_mustHoldHand 5 = .ok (.aload_n 0, 1) := dk_42 (dk_at dksX0_mustHoldHand_0 5 rfl rfl)
theorem dX0_mustHoldHand_6 : decode cX0_mustHoldHand 6 = .ok (.getfield 77, 3) := dk_180 0 77 (dk_at dksX0_mustHoldHand_0 6 rfl rfl)
theorem dX0_mustHoldHand_9 : decode cX0_mustHoldHand 9 = .ok (.getfield 154, 3) := dk_180 0 154 (dk_at dksX0_mustHoldHand_0 9 rfl rfl)
theorem dX0_mustHoldHand_12 : decode cX0_mustHoldHand 12 = .ok (.iload_n 1, 1) := dk_27 (dk_at dksX0_mustHoldHand_0 12 rfl rfl)
theorem dX0_mustHoldHand_13 : decode cX0_mustHoldHand 13 = .ok (.iconst (-1), 1) := dk_2 (dk_at dksX0_mustHoldHand_0 13 rfl rfl)
theorem dX0_mustHoldHand_14 : decode cX0_mustHoldHand 14 = .ok (.ixor, 1) := dk_130 (dk_at dksX0_mustHoldHand_0 14 rfl rfl)
theorem dX0_mustHoldHand_15 : decode cX0_mustHoldHand 15 = .ok (.iand, 1) := dk_126 (dk_at dksX0_mustHoldHand_0 15 rfl rfl)
theorem dX0_mustHoldHand_16 : decode cX0_mustHoldHand 16 = .ok (.ifCond .ne 7, 3) := dk_154 0 7 (dk_at dksX0_mustHoldHand_0 16 rfl rfl)
theorem dX0_mustHoldHand_19 : decode cX0_mustHoldHand 19 = .ok (.iconst 1, 1) := dk_4 (dk_at dksX0_mustHoldHand_0 19 rfl rfl)
theorem dX0_mustHoldHand_20 : decode cX0_mustHoldHand 20 = .ok (.goto 4, 3) := dk_167 0 4 (dk_at dksX0_mustHoldHand_0 20 rfl rfl)
theorem dX0_mustHoldHand_23 : decode cX0_mustHoldHand 23 = .ok (.iconst 0, 1) := dk_3 (dk_at dksX0_mustHoldHand_0 23 rfl rfl)
theorem dX0_mustHoldHand_24 : decode cX0_mustHoldHand 24 = .ok (.bipush (-3), 2) := dk_16 253 (dk_at dksX0_mustHoldHand_1 0 rfl rfl)
theorem dX0_mustHoldHand_26 : decode cX0_mustHoldHand 26 = .ok (.invokestatic 9, 3) := dk_184 0 9 (dk_at dksX0_mustHoldHand_1 2 rfl rfl)
theorem dX0_mustHoldHand_29 : decode cX0_mustHoldHand 29 = .ok (.return_, 1) := dk_177 (dk_at dksX0_mustHoldHand_1 5 rfl rfl)
abbrev cX0_waysTo : ByteArray := prog_1_method_23_code
def yX0_waysTo : MethodName := ⟨RX0, "waysTo", "(I)I"⟩
def dkwX0_waysTo_0 : List UInt8 := [42, 182, 0, 182, 42, 180, 0, 106, 27, 46, 172]
abbrev dktX0_waysTo_0 : List UInt8 := dkwX0_waysTo_0 ++ []
theorem dksX0_waysTo_0 : cX0_waysTo.data.toList.drop 0 = dktX0_waysTo_0 := by decide +kernel
theorem dX0_waysTo_0 : decode cX0_waysTo 0 = .ok (.aload_n 0, 1) := dk_42 (dk_at dksX0_waysTo_0 0 rfl rfl)
theorem dX0_waysTo_1 : decode cX0_waysTo 1 = .ok (.invokevirtual 182, 3) := dk_182 0 182 (dk_at dksX0_waysTo_0 1 rfl rfl)
theorem dX0_waysTo_4 : decode cX0_waysTo 4 = .ok (.aload_n 0, 1) := dk_42 (dk_at dksX0_waysTo_0 4 rfl rfl)
theorem dX0_waysTo_5 : decode cX0_waysTo 5 = .ok (.getfield 106, 3) := dk_180 0 106 (dk_at dksX0_waysTo_0 5 rfl rfl)
theorem dX0_waysTo_8 : decode cX0_waysTo 8 = .ok (.iload_n 1, 1) := dk_27 (dk_at dksX0_waysTo_0 8 rfl rfl)
theorem dX0_waysTo_9 : decode cX0_waysTo 9 = .ok (.iaload, 1) := dk_46 (dk_at dksX0_waysTo_0 9 rfl rfl)
theorem dX0_waysTo_10 : decode cX0_waysTo 10 = .ok (.ireturn, 1) := dk_172 (dk_at dksX0_waysTo_0 10 rfl rfl)
abbrev cX0_mustFor : ByteArray := prog_1_method_24_code
def yX0_mustFor : MethodName := ⟨RX0, "mustFor", "(I)I"⟩
def dkwX0_mustFor_2 : List UInt8 := [29, 120, 167, 0, 4, 3, 128, 61, 132, 3, 1, 167, 255, 201, 28, 172]
abbrev dktX0_mustFor_2 : List UInt8 := dkwX0_mustFor_2 ++ []
def dkwX0_mustFor_1 : List UInt8 := [130, 126, 29, 184, 0, 192, 54, 4, 28, 21, 4, 153, 0, 18, 42, 27, 29, 182, 0, 222, 154, 0, 9, 4]
abbrev dktX0_mustFor_1 : List UInt8 := dkwX0_mustFor_1 ++ dktX0_mustFor_2
def dkwX0_mustFor_0 : List UInt8 := [3, 61, 3, 62, 29, 42, 180, 0, 77, 180, 0, 160, 162, 0, 50, 27, 42, 180, 0, 77, 180, 0, 154, 2]
abbrev dktX0_mustFor_0 : List UInt8 := dkwX0_mustFor_0 ++ dktX0_mustFor_1
theorem dksX0_mustFor_0 : cX0_mustFor.data.toList.drop 0 = dktX0_mustFor_0 := by decide +kernel
theorem dksX0_mustFor_1 : cX0_mustFor.data.toList.drop 24 = dktX0_mustFor_1 := dk_seg dksX0_mustFor_0 24 rfl rfl
theorem dksX0_mustFor_2 : cX0_mustFor.data.toList.drop 48 = dktX0_mustFor_2 := dk_seg dksX0_mustFor_1 24 rfl rfl
theorem dX0_mustFor_0 : decode cX0_mustFor 0 = .ok (.iconst 0, 1) := dk_3 (dk_at dksX0_mustFor_0 0 rfl rfl)
theorem dX0_mustFor_1 : decode cX0_mustFor 1 = .ok (.istore_n 2, 1) := dk_61 (dk_at dksX0_mustFor_0 1 rfl rfl)
theorem dX0_mustFor_2 : decode cX0_mustFor 2 = .ok (.iconst 0, 1) := dk_3 (dk_at dksX0_mustFor_0 2 rfl rfl)
theorem dX0_mustFor_3 : decode cX0_mustFor 3 = .ok (.istore_n 3, 1) := dk_62 (dk_at dksX0_mustFor_0 3 rfl rfl)
theorem dX0_mustFor_4 : decode cX0_mustFor 4 = .ok (.iload_n 3, 1) := dk_29 (dk_at dksX0_mustFor_0 4 rfl rfl)
theorem dX0_mustFor_5 : decode cX0_mustFor 5 = .ok (.aload_n 0, 1) := dk_42 (dk_at dksX0_mustFor_0 5 rfl rfl)
theorem dX0_mustFor_6 : decode cX0_mustFor 6 = .ok (.getfield 77, 3) := dk_180 0 77 (dk_at dksX0_mustFor_0 6 rfl rfl)
theorem dX0_mustFor_9 : decode cX0_mustFor 9 = .ok (.getfield 160, 3) := dk_180 0 160 (dk_at dksX0_mustFor_0 9 rfl rfl)
theorem dX0_mustFor_12 : decode cX0_mustFor 12 = .ok (.if_icmp .ge 50, 3) := dk_162 0 50 (dk_at dksX0_mustFor_0 12 rfl rfl)
theorem dX0_mustFor_15 : decode cX0_mustFor 15 = .ok (.iload_n 1, 1) := dk_27 (dk_at dksX0_mustFor_0 15 rfl rfl)
theorem dX0_mustFor_16 : decode cX0_mustFor 16 = .ok (.aload_n 0, 1) := dk_42 (dk_at dksX0_mustFor_0 16 rfl rfl)
theorem dX0_mustFor_17 : decode cX0_mustFor 17 = .ok (.getfield 77, 3) := dk_180 0 77 (dk_at dksX0_mustFor_0 17 rfl rfl)
theorem dX0_mustFor_20 : decode cX0_mustFor 20 = .ok (.getfield 154, 3) := dk_180 0 154 (dk_at dksX0_mustFor_0 20 rfl rfl)
theorem dX0_mustFor_23 : decode cX0_mustFor 23 = .ok (.iconst (-1), 1) := dk_2 (dk_at dksX0_mustFor_0 23 rfl rfl)
theorem dX0_mustFor_24 : decode cX0_mustFor 24 = .ok (.ixor, 1) := dk_130 (dk_at dksX0_mustFor_1 0 rfl rfl)
theorem dX0_mustFor_25 : decode cX0_mustFor 25 = .ok (.iand, 1) := dk_126 (dk_at dksX0_mustFor_1 1 rfl rfl)
theorem dX0_mustFor_26 : decode cX0_mustFor 26 = .ok (.iload_n 3, 1) := dk_29 (dk_at dksX0_mustFor_1 2 rfl rfl)
theorem dX0_mustFor_27 : decode cX0_mustFor 27 = .ok (.invokestatic 192, 3) := dk_184 0 192 (dk_at dksX0_mustFor_1 3 rfl rfl)
theorem dX0_mustFor_30 : decode cX0_mustFor 30 = .ok (.istore 4, 2) := dk_54 4 (dk_at dksX0_mustFor_1 6 rfl rfl)
theorem dX0_mustFor_32 : decode cX0_mustFor 32 = .ok (.iload_n 2, 1) := dk_28 (dk_at dksX0_mustFor_1 8 rfl rfl)
theorem dX0_mustFor_33 : decode cX0_mustFor 33 = .ok (.iload 4, 2) := dk_21 4 (dk_at dksX0_mustFor_1 9 rfl rfl)
theorem dX0_mustFor_35 : decode cX0_mustFor 35 = .ok (.ifCond .eq 18, 3) := dk_153 0 18 (dk_at dksX0_mustFor_1 11 rfl rfl)
theorem dX0_mustFor_38 : decode cX0_mustFor 38 = .ok (.aload_n 0, 1) := dk_42 (dk_at dksX0_mustFor_1 14 rfl rfl)
theorem dX0_mustFor_39 : decode cX0_mustFor 39 = .ok (.iload_n 1, 1) := dk_27 (dk_at dksX0_mustFor_1 15 rfl rfl)
theorem dX0_mustFor_40 : decode cX0_mustFor 40 = .ok (.iload_n 3, 1) := dk_29 (dk_at dksX0_mustFor_1 16 rfl rfl)
theorem dX0_mustFor_41 : decode cX0_mustFor 41 = .ok (.invokevirtual 222, 3) := dk_182 0 222 (dk_at dksX0_mustFor_1 17 rfl rfl)
theorem dX0_mustFor_44 : decode cX0_mustFor 44 = .ok (.ifCond .ne 9, 3) := dk_154 0 9 (dk_at dksX0_mustFor_1 20 rfl rfl)
theorem dX0_mustFor_47 : decode cX0_mustFor 47 = .ok (.iconst 1, 1) := dk_4 (dk_at dksX0_mustFor_1 23 rfl rfl)
theorem dX0_mustFor_48 : decode cX0_mustFor 48 = .ok (.iload_n 3, 1) := dk_29 (dk_at dksX0_mustFor_2 0 rfl rfl)
theorem dX0_mustFor_49 : decode cX0_mustFor 49 = .ok (.ishl, 1) := dk_120 (dk_at dksX0_mustFor_2 1 rfl rfl)
theorem dX0_mustFor_50 : decode cX0_mustFor 50 = .ok (.goto 4, 3) := dk_167 0 4 (dk_at dksX0_mustFor_2 2 rfl rfl)
theorem dX0_mustFor_53 : decode cX0_mustFor 53 = .ok (.iconst 0, 1) := dk_3 (dk_at dksX0_mustFor_2 5 rfl rfl)
theorem dX0_mustFor_54 : decode cX0_mustFor 54 = .ok (.ior, 1) := dk_128 (dk_at dksX0_mustFor_2 6 rfl rfl)
theorem dX0_mustFor_55 : decode cX0_mustFor 55 = .ok (.istore_n 2, 1) := dk_61 (dk_at dksX0_mustFor_2 7 rfl rfl)
theorem dX0_mustFor_56 : decode cX0_mustFor 56 = .ok (.iinc 3 1, 3) := dk_132 3 1 (dk_at dksX0_mustFor_2 8 rfl rfl)
theorem dX0_mustFor_59 : decode cX0_mustFor 59 = .ok (.goto (-55), 3) := dk_167 255 201 (dk_at dksX0_mustFor_2 11 rfl rfl)
theorem dX0_mustFor_62 : decode cX0_mustFor 62 = .ok (.iload_n 2, 1) := dk_28 (dk_at dksX0_mustFor_2 14 rfl rfl)
theorem dX0_mustFor_63 : decode cX0_mustFor 63 = .ok (.ireturn, 1) := dk_172 (dk_at dksX0_mustFor_2 15 rfl rfl)
abbrev cX0_isWayBut : ByteArray := prog_1_method_25_code
def yX0_isWayBut : MethodName := ⟨RX0, "isWayBut", "(II)Z"⟩
def dkwX0_isWayBut_1 : List UInt8 := [180, 0, 154, 29, 182, 0, 219, 2, 130, 126, 154, 0, 7, 4, 167, 0, 4, 3, 172]
abbrev dktX0_isWayBut_1 : List UInt8 := dkwX0_isWayBut_1 ++ []
def dkwX0_isWayBut_0 : List UInt8 := [27, 2, 130, 4, 28, 120, 128, 62, 27, 4, 28, 120, 2, 130, 126, 42, 180, 0, 77, 42, 180, 0, 77]
abbrev dktX0_isWayBut_0 : List UInt8 := dkwX0_isWayBut_0 ++ dktX0_isWayBut_1
theorem dksX0_isWayBut_0 : cX0_isWayBut.data.toList.drop 0 = dktX0_isWayBut_0 := by decide +kernel
theorem dksX0_isWayBut_1 : cX0_isWayBut.data.toList.drop 23 = dktX0_isWayBut_1 := dk_seg dksX0_isWayBut_0 23 rfl rfl
theorem dX0_isWayBut_0 : decode cX0_isWayBut 0 = .ok (.iload_n 1, 1) := dk_27 (dk_at dksX0_isWayBut_0 0 rfl rfl)
theorem dX0_isWayBut_1 : decode cX0_isWayBut 1 = .ok (.iconst (-1), 1) := dk_2 (dk_at dksX0_isWayBut_0 1 rfl rfl)
theorem dX0_isWayBut_2 : decode cX0_isWayBut 2 = .ok (.ixor, 1) := dk_130 (dk_at dksX0_isWayBut_0 2 rfl rfl)
theorem dX0_isWayBut_3 : decode cX0_isWayBut 3 = .ok (.iconst 1, 1) := dk_4 (dk_at dksX0_isWayBut_0 3 rfl rfl)
theorem dX0_isWayBut_4 : decode cX0_isWayBut 4 = .ok (.iload_n 2, 1) := dk_28 (dk_at dksX0_isWayBut_0 4 rfl rfl)
theorem dX0_isWayBut_5 : decode cX0_isWayBut 5 = .ok (.ishl, 1) := dk_120 (dk_at dksX0_isWayBut_0 5 rfl rfl)
theorem dX0_isWayBut_6 : decode cX0_isWayBut 6 = .ok (.ior, 1) := dk_128 (dk_at dksX0_isWayBut_0 6 rfl rfl)
theorem dX0_isWayBut_7 : decode cX0_isWayBut 7 = .ok (.istore_n 3, 1) := dk_62 (dk_at dksX0_isWayBut_0 7 rfl rfl)
theorem dX0_isWayBut_8 : decode cX0_isWayBut 8 = .ok (.iload_n 1, 1) := dk_27 (dk_at dksX0_isWayBut_0 8 rfl rfl)
theorem dX0_isWayBut_9 : decode cX0_isWayBut 9 = .ok (.iconst 1, 1) := dk_4 (dk_at dksX0_isWayBut_0 9 rfl rfl)
theorem dX0_isWayBut_10 : decode cX0_isWayBut 10 = .ok (.iload_n 2, 1) := dk_28 (dk_at dksX0_isWayBut_0 10 rfl rfl)
theorem dX0_isWayBut_11 : decode cX0_isWayBut 11 = .ok (.ishl, 1) := dk_120 (dk_at dksX0_isWayBut_0 11 rfl rfl)
theorem dX0_isWayBut_12 : decode cX0_isWayBut 12 = .ok (.iconst (-1), 1) := dk_2 (dk_at dksX0_isWayBut_0 12 rfl rfl)
theorem dX0_isWayBut_13 : decode cX0_isWayBut 13 = .ok (.ixor, 1) := dk_130 (dk_at dksX0_isWayBut_0 13 rfl rfl)
theorem dX0_isWayBut_14 : decode cX0_isWayBut 14 = .ok (.iand, 1) := dk_126 (dk_at dksX0_isWayBut_0 14 rfl rfl)
theorem dX0_isWayBut_15 : decode cX0_isWayBut 15 = .ok (.aload_n 0, 1) := dk_42 (dk_at dksX0_isWayBut_0 15 rfl rfl)
theorem dX0_isWayBut_16 : decode cX0_isWayBut 16 = .ok (.getfield 77, 3) := dk_180 0 77 (dk_at dksX0_isWayBut_0 16 rfl rfl)
theorem dX0_isWayBut_19 : decode cX0_isWayBut 19 = .ok (.aload_n 0, 1) := dk_42 (dk_at dksX0_isWayBut_0 19 rfl rfl)
theorem dX0_isWayBut_20 : decode cX0_isWayBut 20 = .ok (.getfield 77, 3) := dk_180 0 77 (dk_at dksX0_isWayBut_0 20 rfl rfl)
theorem dX0_isWayBut_23 : decode cX0_isWayBut 23 = .ok (.getfield 154, 3) := dk_180 0 154 (dk_at dksX0_isWayBut_1 0 rfl rfl)
theorem dX0_isWayBut_26 : decode cX0_isWayBut 26 = .ok (.iload_n 3, 1) := dk_29 (dk_at dksX0_isWayBut_1 3 rfl rfl)
theorem dX0_isWayBut_27 : decode cX0_isWayBut 27 = .ok (.invokevirtual 219, 3) := dk_182 0 219 (dk_at dksX0_isWayBut_1 4 rfl rfl)
theorem dX0_isWayBut_30 : decode cX0_isWayBut 30 = .ok (.iconst (-1), 1) := dk_2 (dk_at dksX0_isWayBut_1 7 rfl rfl)
theorem dX0_isWayBut_31 : decode cX0_isWayBut 31 = .ok (.ixor, 1) := dk_130 (dk_at dksX0_isWayBut_1 8 rfl rfl)
theorem dX0_isWayBut_32 : decode cX0_isWayBut 32 = .ok (.iand, 1) := dk_126 (dk_at dksX0_isWayBut_1 9 rfl rfl)
theorem dX0_isWayBut_33 : decode cX0_isWayBut 33 = .ok (.ifCond .ne 7, 3) := dk_154 0 7 (dk_at dksX0_isWayBut_1 10 rfl rfl)
theorem dX0_isWayBut_36 : decode cX0_isWayBut 36 = .ok (.iconst 1, 1) := dk_4 (dk_at dksX0_isWayBut_1 13 rfl rfl)
theorem dX0_isWayBut_37 : decode cX0_isWayBut 37 = .ok (.goto 4, 3) := dk_167 0 4 (dk_at dksX0_isWayBut_1 14 rfl rfl)
theorem dX0_isWayBut_40 : decode cX0_isWayBut 40 = .ok (.iconst 0, 1) := dk_3 (dk_at dksX0_isWayBut_1 17 rfl rfl)
theorem dX0_isWayBut_41 : decode cX0_isWayBut 41 = .ok (.ireturn, 1) := dk_172 (dk_at dksX0_isWayBut_1 18 rfl rfl)
abbrev cX0_halfwayTold : ByteArray := prog_1_method_47_code
def yX0_halfwayTold : MethodName := ⟨RX0, "halfwayTold", "(II)I"⟩
def dkwX0_halfwayTold_1 : List UInt8 := [184, 1, 20, 42, 27, 28, 182, 1, 78, 172]
abbrev dktX0_halfwayTold_1 : List UInt8 := dkwX0_halfwayTold_1 ++ []
def dkwX0_halfwayTold_0 : List UInt8 := [42, 27, 182, 1, 75, 28, 133, 9, 27, 42, 180, 0, 77, 180, 0, 154, 2, 130, 126, 184, 0, 213, 133]
abbrev dktX0_halfwayTold_0 : List UInt8 := dkwX0_halfwayTold_0 ++ dktX0_halfwayTold_1
theorem dksX0_halfwayTold_0 : cX0_halfwayTold.data.toList.drop 0 = dktX0_halfwayTold_0 := by decide +kernel
theorem dksX0_halfwayTold_1 : cX0_halfwayTold.data.toList.drop 23 = dktX0_halfwayTold_1 := dk_seg dksX0_halfwayTold_0 23 rfl rfl
theorem dX0_halfwayTold_0 : decode cX0_halfwayTold 0 = .ok (.aload_n 0, 1) := dk_42 (dk_at dksX0_halfwayTold_0 0 rfl rfl)
theorem dX0_halfwayTold_1 : decode cX0_halfwayTold 1 = .ok (.iload_n 1, 1) := dk_27 (dk_at dksX0_halfwayTold_0 1 rfl rfl)
theorem dX0_halfwayTold_2 : decode cX0_halfwayTold 2 = .ok (.invokevirtual 331, 3) := dk_182 1 75 (dk_at dksX0_halfwayTold_0 2 rfl rfl)
theorem dX0_halfwayTold_5 : decode cX0_halfwayTold 5 = .ok (.iload_n 2, 1) := dk_28 (dk_at dksX0_halfwayTold_0 5 rfl rfl)
theorem dX0_halfwayTold_6 : decode cX0_halfwayTold 6 = .ok (.i2l, 1) := dk_133 (dk_at dksX0_halfwayTold_0 6 rfl rfl)
theorem dX0_halfwayTold_7 : decode cX0_halfwayTold 7 = .ok (.lconst 0, 1) := dk_9 (dk_at dksX0_halfwayTold_0 7 rfl rfl)
theorem dX0_halfwayTold_8 : decode cX0_halfwayTold 8 = .ok (.iload_n 1, 1) := dk_27 (dk_at dksX0_halfwayTold_0 8 rfl rfl)
theorem dX0_halfwayTold_9 : decode cX0_halfwayTold 9 = .ok (.aload_n 0, 1) := dk_42 (dk_at dksX0_halfwayTold_0 9 rfl rfl)
theorem dX0_halfwayTold_10 : decode cX0_halfwayTold 10 = .ok (.getfield 77, 3) := dk_180 0 77 (dk_at dksX0_halfwayTold_0 10 rfl rfl)
theorem dX0_halfwayTold_13 : decode cX0_halfwayTold 13 = .ok (.getfield 154, 3) := dk_180 0 154 (dk_at dksX0_halfwayTold_0 13 rfl rfl)
theorem dX0_halfwayTold_16 : decode cX0_halfwayTold 16 = .ok (.iconst (-1), 1) := dk_2 (dk_at dksX0_halfwayTold_0 16 rfl rfl)
theorem dX0_halfwayTold_17 : decode cX0_halfwayTold 17 = .ok (.ixor, 1) := dk_130 (dk_at dksX0_halfwayTold_0 17 rfl rfl)
theorem dX0_halfwayTold_18 : decode cX0_halfwayTold 18 = .ok (.iand, 1) := dk_126 (dk_at dksX0_halfwayTold_0 18 rfl rfl)
theorem dX0_halfwayTold_19 : decode cX0_halfwayTold 19 = .ok (.invokestatic 213, 3) := dk_184 0 213 (dk_at dksX0_halfwayTold_0 19 rfl rfl)
theorem dX0_halfwayTold_22 : decode cX0_halfwayTold 22 = .ok (.i2l, 1) := dk_133 (dk_at dksX0_halfwayTold_0 22 rfl rfl)
theorem dX0_halfwayTold_23 : decode cX0_halfwayTold 23 = .ok (.invokestatic 276, 3) := dk_184 1 20 (dk_at dksX0_halfwayTold_1 0 rfl rfl)
theorem dX0_halfwayTold_26 : decode cX0_halfwayTold 26 = .ok (.aload_n 0, 1) := dk_42 (dk_at dksX0_halfwayTold_1 3 rfl rfl)
theorem dX0_halfwayTold_27 : decode cX0_halfwayTold 27 = .ok (.iload_n 1, 1) := dk_27 (dk_at dksX0_halfwayTold_1 4 rfl rfl)
theorem dX0_halfwayTold_28 : decode cX0_halfwayTold 28 = .ok (.iload_n 2, 1) := dk_28 (dk_at dksX0_halfwayTold_1 5 rfl rfl)
theorem dX0_halfwayTold_29 : decode cX0_halfwayTold 29 = .ok (.invokevirtual 334, 3) := dk_182 1 78 (dk_at dksX0_halfwayTold_1 6 rfl rfl)
theorem dX0_halfwayTold_32 : decode cX0_halfwayTold 32 = .ok (.ireturn, 1) := dk_172 (dk_at dksX0_halfwayTold_1 9 rfl rfl)
abbrev cX0_halfwayFor : ByteArray := prog_1_method_26_code
def yX0_halfwayFor : MethodName := ⟨RX0, "halfwayFor", "(II)I"⟩
def dkwX0_halfwayFor_8 : List UInt8 := [21, 4, 167, 0, 4, 2, 126, 62, 132, 4, 1, 167, 255, 180, 29, 172]
abbrev dktX0_halfwayFor_8 : List UInt8 := dkwX0_halfwayFor_8 ++ []
def dkwX0_halfwayFor_7 : List UInt8 := [180, 0, 154, 184, 0, 213, 28, 96, 160, 0, 7, 4, 167, 0, 4, 3, 54, 5, 29, 21, 5, 153, 0, 8]
abbrev dktX0_halfwayFor_7 : List UInt8 := dkwX0_halfwayFor_7 ++ dktX0_halfwayFor_8
def dkwX0_halfwayFor_6 : List UInt8 := [158, 0, 37, 42, 180, 0, 109, 21, 4, 46, 158, 0, 27, 21, 4, 184, 0, 213, 42, 180, 0, 77]
abbrev dktX0_halfwayFor_6 : List UInt8 := dkwX0_halfwayFor_6 ++ dktX0_halfwayFor_7
def dkwX0_halfwayFor_5 : List UInt8 := [62, 3, 54, 4, 21, 4, 42, 180, 0, 77, 182, 0, 150, 163, 0, 70, 42, 180, 0, 106, 21, 4, 46]
abbrev dktX0_halfwayFor_5 : List UInt8 := dkwX0_halfwayFor_5 ++ dktX0_halfwayFor_6
def dkwX0_halfwayFor_4 : List UInt8 := [21, 4, 120, 128, 46, 167, 0, 4, 3, 128, 79, 132, 4, 1, 167, 255, 195, 132, 3, 255, 167, 255, 166, 27]
abbrev dktX0_halfwayFor_4 : List UInt8 := dkwX0_halfwayFor_4 ++ dktX0_halfwayFor_5
def dkwX0_halfwayFor_3 : List UInt8 := [21, 4, 29, 182, 0, 163, 153, 0, 26, 27, 21, 4, 184, 0, 192, 153, 0, 17, 42, 180, 0, 109, 29, 4]
abbrev dktX0_halfwayFor_3 : List UInt8 := dkwX0_halfwayFor_3 ++ dktX0_halfwayFor_4
def dkwX0_halfwayFor_2 : List UInt8 := [21, 4, 42, 180, 0, 77, 180, 0, 160, 162, 0, 55, 42, 180, 0, 109, 29, 92, 46, 42, 180, 0, 77]
abbrev dktX0_halfwayFor_2 : List UInt8 := dkwX0_halfwayFor_2 ++ dktX0_halfwayFor_3
def dkwX0_halfwayFor_1 : List UInt8 := [29, 155, 0, 92, 42, 180, 0, 109, 29, 29, 27, 160, 0, 7, 4, 167, 0, 4, 3, 79, 3, 54, 4]
abbrev dktX0_halfwayFor_1 : List UInt8 := dkwX0_halfwayFor_1 ++ dktX0_halfwayFor_2
def dkwX0_halfwayFor_0 : List UInt8 := [42, 182, 0, 182, 42, 180, 0, 106, 27, 46, 154, 0, 6, 16, 247, 172, 42, 180, 0, 77, 182, 0, 150, 62]
abbrev dktX0_halfwayFor_0 : List UInt8 := dkwX0_halfwayFor_0 ++ dktX0_halfwayFor_1
theorem dksX0_halfwayFor_0 : cX0_halfwayFor.data.toList.drop 0 = dktX0_halfwayFor_0 := by decide +kernel
theorem dksX0_halfwayFor_1 : cX0_halfwayFor.data.toList.drop 24 = dktX0_halfwayFor_1 := dk_seg dksX0_halfwayFor_0 24 rfl rfl
theorem dksX0_halfwayFor_2 : cX0_halfwayFor.data.toList.drop 47 = dktX0_halfwayFor_2 := dk_seg dksX0_halfwayFor_1 23 rfl rfl
theorem dksX0_halfwayFor_3 : cX0_halfwayFor.data.toList.drop 70 = dktX0_halfwayFor_3 := dk_seg dksX0_halfwayFor_2 23 rfl rfl
theorem dksX0_halfwayFor_4 : cX0_halfwayFor.data.toList.drop 94 = dktX0_halfwayFor_4 := dk_seg dksX0_halfwayFor_3 24 rfl rfl
theorem dksX0_halfwayFor_5 : cX0_halfwayFor.data.toList.drop 118 = dktX0_halfwayFor_5 := dk_seg dksX0_halfwayFor_4 24 rfl rfl
theorem dksX0_halfwayFor_6 : cX0_halfwayFor.data.toList.drop 141 = dktX0_halfwayFor_6 := dk_seg dksX0_halfwayFor_5 23 rfl rfl
theorem dksX0_halfwayFor_7 : cX0_halfwayFor.data.toList.drop 163 = dktX0_halfwayFor_7 := dk_seg dksX0_halfwayFor_6 22 rfl rfl
theorem dksX0_halfwayFor_8 : cX0_halfwayFor.data.toList.drop 187 = dktX0_halfwayFor_8 := dk_seg dksX0_halfwayFor_7 24 rfl rfl
theorem dX0_halfwayFor_0 : decode cX0_halfwayFor 0 = .ok (.aload_n 0, 1) := dk_42 (dk_at dksX0_halfwayFor_0 0 rfl rfl)
theorem dX0_halfwayFor_1 : decode cX0_halfwayFor 1 = .ok (.invokevirtual 182, 3) := dk_182 0 182 (dk_at dksX0_halfwayFor_0 1 rfl rfl)
theorem dX0_halfwayFor_4 : decode cX0_halfwayFor 4 = .ok (.aload_n 0, 1) := dk_42 (dk_at dksX0_halfwayFor_0 4 rfl rfl)
theorem dX0_halfwayFor_5 : decode cX0_halfwayFor 5 = .ok (.getfield 106, 3) := dk_180 0 106 (dk_at dksX0_halfwayFor_0 5 rfl rfl)
theorem dX0_halfwayFor_8 : decode cX0_halfwayFor 8 = .ok (.iload_n 1, 1) := dk_27 (dk_at dksX0_halfwayFor_0 8 rfl rfl)
theorem dX0_halfwayFor_9 : decode cX0_halfwayFor 9 = .ok (.iaload, 1) := dk_46 (dk_at dksX0_halfwayFor_0 9 rfl rfl)
theorem dX0_halfwayFor_10 : decode cX0_halfwayFor 10 = .ok (.ifCond .ne 6, 3) := dk_154 0 6 (dk_at dksX0_halfwayFor_0 10 rfl rfl)
theorem dX0_halfwayFor_13 : decode cX0_halfwayFor 13 = .ok (.bipush (-9), 2) := dk_16 247 (dk_at dksX0_halfwayFor_0 13 rfl rfl)
theorem dX0_halfwayFor_15 : decode cX0_halfwayFor 15 = .ok (.ireturn, 1) := dk_172 (dk_at dksX0_halfwayFor_0 15 rfl rfl)
theorem dX0_halfwayFor_16 : decode cX0_halfwayFor 16 = .ok (.aload_n 0, 1) := dk_42 (dk_at dksX0_halfwayFor_0 16 rfl rfl)
theorem dX0_halfwayFor_17 : decode cX0_halfwayFor 17 = .ok (.getfield 77, 3) := dk_180 0 77 (dk_at dksX0_halfwayFor_0 17 rfl rfl)
theorem dX0_halfwayFor_20 : decode cX0_halfwayFor 20 = .ok (.invokevirtual 150, 3) := dk_182 0 150 (dk_at dksX0_halfwayFor_0 20 rfl rfl)
theorem dX0_halfwayFor_23 : decode cX0_halfwayFor 23 = .ok (.istore_n 3, 1) := dk_62 (dk_at dksX0_halfwayFor_0 23 rfl rfl)
theorem dX0_halfwayFor_24 : decode cX0_halfwayFor 24 = .ok (.iload_n 3, 1) := dk_29 (dk_at dksX0_halfwayFor_1 0 rfl rfl)
theorem dX0_halfwayFor_25 : decode cX0_halfwayFor 25 = .ok (.ifCond .lt 92, 3) := dk_155 0 92 (dk_at dksX0_halfwayFor_1 1 rfl rfl)
theorem dX0_halfwayFor_28 : decode cX0_halfwayFor 28 = .ok (.aload_n 0, 1) := dk_42 (dk_at dksX0_halfwayFor_1 4 rfl rfl)
theorem dX0_halfwayFor_29 : decode cX0_halfwayFor 29 = .ok (.getfield 109, 3) := dk_180 0 109 (dk_at dksX0_halfwayFor_1 5 rfl rfl)
theorem dX0_halfwayFor_32 : decode cX0_halfwayFor 32 = .ok (.iload_n 3, 1) := dk_29 (dk_at dksX0_halfwayFor_1 8 rfl rfl)
theorem dX0_halfwayFor_33 : decode cX0_halfwayFor 33 = .ok (.iload_n 3, 1) := dk_29 (dk_at dksX0_halfwayFor_1 9 rfl rfl)
theorem dX0_halfwayFor_34 : decode cX0_halfwayFor 34 = .ok (.iload_n 1, 1) := dk_27 (dk_at dksX0_halfwayFor_1 10 rfl rfl)
theorem dX0_halfwayFor_35 : decode cX0_halfwayFor 35 = .ok (.if_icmp .ne 7, 3) := dk_160 0 7 (dk_at dksX0_halfwayFor_1 11 rfl rfl)
theorem dX0_halfwayFor_38 : decode cX0_halfwayFor 38 = .ok (.iconst 1, 1) := dk_4 (dk_at dksX0_halfwayFor_1 14 rfl rfl)
theorem dX0_halfwayFor_39 : decode cX0_halfwayFor 39 = .ok (.goto 4, 3) := dk_167 0 4 (dk_at dksX0_halfwayFor_1 15 rfl rfl)
theorem dX0_halfwayFor_42 : decode cX0_halfwayFor 42 = .ok (.iconst 0, 1) := dk_3 (dk_at dksX0_halfwayFor_1 18 rfl rfl)
theorem dX0_halfwayFor_43 : decode cX0_halfwayFor 43 = .ok (.iastore, 1) := dk_79 (dk_at dksX0_halfwayFor_1 19 rfl rfl)
theorem dX0_halfwayFor_44 : decode cX0_halfwayFor 44 = .ok (.iconst 0, 1) := dk_3 (dk_at dksX0_halfwayFor_1 20 rfl rfl)
theorem dX0_halfwayFor_45 : decode cX0_halfwayFor 45 = .ok (.istore 4, 2) := dk_54 4 (dk_at dksX0_halfwayFor_1 21 rfl rfl)
theorem dX0_halfwayFor_47 : decode cX0_halfwayFor 47 = .ok (.iload 4, 2) := dk_21 4 (dk_at dksX0_halfwayFor_2 0 rfl rfl)
theorem dX0_halfwayFor_49 : decode cX0_halfwayFor 49 = .ok (.aload_n 0, 1) := dk_42 (dk_at dksX0_halfwayFor_2 2 rfl rfl)
theorem dX0_halfwayFor_50 : decode cX0_halfwayFor 50 = .ok (.getfield 77, 3) := dk_180 0 77 (dk_at dksX0_halfwayFor_2 3 rfl rfl)
theorem dX0_halfwayFor_53 : decode cX0_halfwayFor 53 = .ok (.getfield 160, 3) := dk_180 0 160 (dk_at dksX0_halfwayFor_2 6 rfl rfl)
theorem dX0_halfwayFor_56 : decode cX0_halfwayFor 56 = .ok (.if_icmp .ge 55, 3) := dk_162 0 55 (dk_at dksX0_halfwayFor_2 9 rfl rfl)
theorem dX0_halfwayFor_59 : decode cX0_halfwayFor 59 = .ok (.aload_n 0, 1) := dk_42 (dk_at dksX0_halfwayFor_2 12 rfl rfl)
theorem dX0_halfwayFor_60 : decode cX0_halfwayFor 60 = .ok (.getfield 109, 3) := dk_180 0 109 (dk_at dksX0_halfwayFor_2 13 rfl rfl)
theorem dX0_halfwayFor_63 : decode cX0_halfwayFor 63 = .ok (.iload_n 3, 1) := dk_29 (dk_at dksX0_halfwayFor_2 16 rfl rfl)
theorem dX0_halfwayFor_64 : decode cX0_halfwayFor 64 = .ok (.dup2, 1) := dk_92 (dk_at dksX0_halfwayFor_2 17 rfl rfl)
theorem dX0_halfwayFor_65 : decode cX0_halfwayFor 65 = .ok (.iaload, 1) := dk_46 (dk_at dksX0_halfwayFor_2 18 rfl rfl)
theorem dX0_halfwayFor_66 : decode cX0_halfwayFor 66 = .ok (.aload_n 0, 1) := dk_42 (dk_at dksX0_halfwayFor_2 19 rfl rfl)
theorem dX0_halfwayFor_67 : decode cX0_halfwayFor 67 = .ok (.getfield 77, 3) := dk_180 0 77 (dk_at dksX0_halfwayFor_2 20 rfl rfl)
theorem dX0_halfwayFor_70 : decode cX0_halfwayFor 70 = .ok (.iload 4, 2) := dk_21 4 (dk_at dksX0_halfwayFor_3 0 rfl rfl)
theorem dX0_halfwayFor_72 : decode cX0_halfwayFor 72 = .ok (.iload_n 3, 1) := dk_29 (dk_at dksX0_halfwayFor_3 2 rfl rfl)
theorem dX0_halfwayFor_73 : decode cX0_halfwayFor 73 = .ok (.invokevirtual 163, 3) := dk_182 0 163 (dk_at dksX0_halfwayFor_3 3 rfl rfl)
theorem dX0_halfwayFor_76 : decode cX0_halfwayFor 76 = .ok (.ifCond .eq 26, 3) := dk_153 0 26 (dk_at dksX0_halfwayFor_3 6 rfl rfl)
theorem dX0_halfwayFor_79 : decode cX0_halfwayFor 79 = .ok (.iload_n 1, 1) := dk_27 (dk_at dksX0_halfwayFor_3 9 rfl rfl)
theorem dX0_halfwayFor_80 : decode cX0_halfwayFor 80 = .ok (.iload 4, 2) := dk_21 4 (dk_at dksX0_halfwayFor_3 10 rfl rfl)
theorem dX0_halfwayFor_82 : decode cX0_halfwayFor 82 = .ok (.invokestatic 192, 3) := dk_184 0 192 (dk_at dksX0_halfwayFor_3 12 rfl rfl)
theorem dX0_halfwayFor_85 : decode cX0_halfwayFor 85 = .ok (.ifCond .eq 17, 3) := dk_153 0 17 (dk_at dksX0_halfwayFor_3 15 rfl rfl)
theorem dX0_halfwayFor_88 : decode cX0_halfwayFor 88 = .ok (.aload_n 0, 1) := dk_42 (dk_at dksX0_halfwayFor_3 18 rfl rfl)
theorem dX0_halfwayFor_89 : decode cX0_halfwayFor 89 = .ok (.getfield 109, 3) := dk_180 0 109 (dk_at dksX0_halfwayFor_3 19 rfl rfl)
theorem dX0_halfwayFor_92 : decode cX0_halfwayFor 92 = .ok (.iload_n 3, 1) := dk_29 (dk_at dksX0_halfwayFor_3 22 rfl rfl)
theorem dX0_halfwayFor_93 : decode cX0_halfwayFor 93 = .ok (.iconst 1, 1) := dk_4 (dk_at dksX0_halfwayFor_3 23 rfl rfl)
theorem dX0_halfwayFor_94 : decode cX0_halfwayFor 94 = .ok (.iload 4, 2) := dk_21 4 (dk_at dksX0_halfwayFor_4 0 rfl rfl)
theorem dX0_halfwayFor_96 : decode cX0_halfwayFor 96 = .ok (.ishl, 1) := dk_120 (dk_at dksX0_halfwayFor_4 2 rfl rfl)
theorem dX0_halfwayFor_97 : decode cX0_halfwayFor 97 = .ok (.ior, 1) := dk_128 (dk_at dksX0_halfwayFor_4 3 rfl rfl)
theorem dX0_halfwayFor_98 : decode cX0_halfwayFor 98 = .ok (.iaload, 1) := dk_46 (dk_at dksX0_halfwayFor_4 4 rfl rfl)
theorem dX0_halfwayFor_99 : decode cX0_halfwayFor 99 = .ok (.goto 4, 3) := dk_167 0 4 (dk_at dksX0_halfwayFor_4 5 rfl rfl)
theorem dX0_halfwayFor_102 : decode cX0_halfwayFor 102 = .ok (.iconst 0, 1) := dk_3 (dk_at dksX0_halfwayFor_4 8 rfl rfl)
theorem dX0_halfwayFor_103 : decode cX0_halfwayFor 103 = .ok (.ior, 1) := dk_128 (dk_at dksX0_halfwayFor_4 9 rfl rfl)
theorem dX0_halfwayFor_104 : decode cX0_halfwayFor 104 = .ok (.iastore, 1) := dk_79 (dk_at dksX0_halfwayFor_4 10 rfl rfl)
theorem dX0_halfwayFor_105 : decode cX0_halfwayFor 105 = .ok (.iinc 4 1, 3) := dk_132 4 1 (dk_at dksX0_halfwayFor_4 11 rfl rfl)
theorem dX0_halfwayFor_108 : decode cX0_halfwayFor 108 = .ok (.goto (-61), 3) := dk_167 255 195 (dk_at dksX0_halfwayFor_4 14 rfl rfl)
theorem dX0_halfwayFor_111 : decode cX0_halfwayFor 111 = .ok (.iinc 3 (-1), 3) := dk_132 3 255 (dk_at dksX0_halfwayFor_4 17 rfl rfl)
theorem dX0_halfwayFor_114 : decode cX0_halfwayFor 114 = .ok (.goto (-90), 3) := dk_167 255 166 (dk_at dksX0_halfwayFor_4 20 rfl rfl)
theorem dX0_halfwayFor_117 : decode cX0_halfwayFor 117 = .ok (.iload_n 1, 1) := dk_27 (dk_at dksX0_halfwayFor_4 23 rfl rfl)
theorem dX0_halfwayFor_118 : decode cX0_halfwayFor 118 = .ok (.istore_n 3, 1) := dk_62 (dk_at dksX0_halfwayFor_5 0 rfl rfl)
theorem dX0_halfwayFor_119 : decode cX0_halfwayFor 119 = .ok (.iconst 0, 1) := dk_3 (dk_at dksX0_halfwayFor_5 1 rfl rfl)
theorem dX0_halfwayFor_120 : decode cX0_halfwayFor 120 = .ok (.istore 4, 2) := dk_54 4 (dk_at dksX0_halfwayFor_5 2 rfl rfl)
theorem dX0_halfwayFor_122 : decode cX0_halfwayFor 122 = .ok (.iload 4, 2) := dk_21 4 (dk_at dksX0_halfwayFor_5 4 rfl rfl)
theorem dX0_halfwayFor_124 : decode cX0_halfwayFor 124 = .ok (.aload_n 0, 1) := dk_42 (dk_at dksX0_halfwayFor_5 6 rfl rfl)
theorem dX0_halfwayFor_125 : decode cX0_halfwayFor 125 = .ok (.getfield 77, 3) := dk_180 0 77 (dk_at dksX0_halfwayFor_5 7 rfl rfl)
theorem dX0_halfwayFor_128 : decode cX0_halfwayFor 128 = .ok (.invokevirtual 150, 3) := dk_182 0 150 (dk_at dksX0_halfwayFor_5 10 rfl rfl)
theorem dX0_halfwayFor_131 : decode cX0_halfwayFor 131 = .ok (.if_icmp .gt 70, 3) := dk_163 0 70 (dk_at dksX0_halfwayFor_5 13 rfl rfl)
theorem dX0_halfwayFor_134 : decode cX0_halfwayFor 134 = .ok (.aload_n 0, 1) := dk_42 (dk_at dksX0_halfwayFor_5 16 rfl rfl)
theorem dX0_halfwayFor_135 : decode cX0_halfwayFor 135 = .ok (.getfield 106, 3) := dk_180 0 106 (dk_at dksX0_halfwayFor_5 17 rfl rfl)
theorem dX0_halfwayFor_138 : decode cX0_halfwayFor 138 = .ok (.iload 4, 2) := dk_21 4 (dk_at dksX0_halfwayFor_5 20 rfl rfl)
theorem dX0_halfwayFor_140 : decode cX0_halfwayFor 140 = .ok (.iaload, 1) := dk_46 (dk_at dksX0_halfwayFor_5 22 rfl rfl)
theorem dX0_halfwayFor_141 : decode cX0_halfwayFor 141 = .ok (.ifCond .le 37, 3) := dk_158 0 37 (dk_at dksX0_halfwayFor_6 0 rfl rfl)
theorem dX0_halfwayFor_144 : decode cX0_halfwayFor 144 = .ok (.aload_n 0, 1) := dk_42 (dk_at dksX0_halfwayFor_6 3 rfl rfl)
theorem dX0_halfwayFor_145 : decode cX0_halfwayFor 145 = .ok (.getfield 109, 3) := dk_180 0 109 (dk_at dksX0_halfwayFor_6 4 rfl rfl)
theorem dX0_halfwayFor_148 : decode cX0_halfwayFor 148 = .ok (.iload 4, 2) := dk_21 4 (dk_at dksX0_halfwayFor_6 7 rfl rfl)
theorem dX0_halfwayFor_150 : decode cX0_halfwayFor 150 = .ok (.iaload, 1) := dk_46 (dk_at dksX0_halfwayFor_6 9 rfl rfl)
theorem dX0_halfwayFor_151 : decode cX0_halfwayFor 151 = .ok (.ifCond .le 27, 3) := dk_158 0 27 (dk_at dksX0_halfwayFor_6 10 rfl rfl)
theorem dX0_halfwayFor_154 : decode cX0_halfwayFor 154 = .ok (.iload 4, 2) := dk_21 4 (dk_at dksX0_halfwayFor_6 13 rfl rfl)
theorem dX0_halfwayFor_156 : decode cX0_halfwayFor 156 = .ok (.invokestatic 213, 3) := dk_184 0 213 (dk_at dksX0_halfwayFor_6 15 rfl rfl)
theorem dX0_halfwayFor_159 : decode cX0_halfwayFor 159 = .ok (.aload_n 0, 1) := dk_42 (dk_at dksX0_halfwayFor_6 18 rfl rfl)
theorem dX0_halfwayFor_160 : decode cX0_halfwayFor 160 = .ok (.getfield 77, 3) := dk_180 0 77 (dk_at dksX0_halfwayFor_6 19 rfl rfl)
theorem dX0_halfwayFor_163 : decode cX0_halfwayFor 163 = .ok (.getfield 154, 3) := dk_180 0 154 (dk_at dksX0_halfwayFor_7 0 rfl rfl)
theorem dX0_halfwayFor_166 : decode cX0_halfwayFor 166 = .ok (.invokestatic 213, 3) := dk_184 0 213 (dk_at dksX0_halfwayFor_7 3 rfl rfl)
theorem dX0_halfwayFor_169 : decode cX0_halfwayFor 169 = .ok (.iload_n 2, 1) := dk_28 (dk_at dksX0_halfwayFor_7 6 rfl rfl)
theorem dX0_halfwayFor_170 : decode cX0_halfwayFor 170 = .ok (.iadd, 1) := dk_96 (dk_at dksX0_halfwayFor_7 7 rfl rfl)
theorem dX0_halfwayFor_171 : decode cX0_halfwayFor 171 = .ok (.if_icmp .ne 7, 3) := dk_160 0 7 (dk_at dksX0_halfwayFor_7 8 rfl rfl)
theorem dX0_halfwayFor_174 : decode cX0_halfwayFor 174 = .ok (.iconst 1, 1) := dk_4 (dk_at dksX0_halfwayFor_7 11 rfl rfl)
theorem dX0_halfwayFor_175 : decode cX0_halfwayFor 175 = .ok (.goto 4, 3) := dk_167 0 4 (dk_at dksX0_halfwayFor_7 12 rfl rfl)
theorem dX0_halfwayFor_178 : decode cX0_halfwayFor 178 = .ok (.iconst 0, 1) := dk_3 (dk_at dksX0_halfwayFor_7 15 rfl rfl)
theorem dX0_halfwayFor_179 : decode cX0_halfwayFor 179 = .ok (.istore 5, 2) := dk_54 5 (dk_at dksX0_halfwayFor_7 16 rfl rfl)
theorem dX0_halfwayFor_181 : decode cX0_halfwayFor 181 = .ok (.iload_n 3, 1) := dk_29 (dk_at dksX0_halfwayFor_7 18 rfl rfl)
theorem dX0_halfwayFor_182 : decode cX0_halfwayFor 182 = .ok (.iload 5, 2) := dk_21 5 (dk_at dksX0_halfwayFor_7 19 rfl rfl)
theorem dX0_halfwayFor_184 : decode cX0_halfwayFor 184 = .ok (.ifCond .eq 8, 3) := dk_153 0 8 (dk_at dksX0_halfwayFor_7 21 rfl rfl)
theorem dX0_halfwayFor_187 : decode cX0_halfwayFor 187 = .ok (.iload 4, 2) := dk_21 4 (dk_at dksX0_halfwayFor_8 0 rfl rfl)
theorem dX0_halfwayFor_189 : decode cX0_halfwayFor 189 = .ok (.goto 4, 3) := dk_167 0 4 (dk_at dksX0_halfwayFor_8 2 rfl rfl)
theorem dX0_halfwayFor_192 : decode cX0_halfwayFor 192 = .ok (.iconst (-1), 1) := dk_2 (dk_at dksX0_halfwayFor_8 5 rfl rfl)
theorem dX0_halfwayFor_193 : decode cX0_halfwayFor 193 = .ok (.iand, 1) := dk_126 (dk_at dksX0_halfwayFor_8 6 rfl rfl)
theorem dX0_halfwayFor_194 : decode cX0_halfwayFor 194 = .ok (.istore_n 3, 1) := dk_62 (dk_at dksX0_halfwayFor_8 7 rfl rfl)
theorem dX0_halfwayFor_195 : decode cX0_halfwayFor 195 = .ok (.iinc 4 1, 3) := dk_132 4 1 (dk_at dksX0_halfwayFor_8 8 rfl rfl)
theorem dX0_halfwayFor_198 : decode cX0_halfwayFor 198 = .ok (.goto (-76), 3) := dk_167 255 180 (dk_at dksX0_halfwayFor_8 11 rfl rfl)
theorem dX0_halfwayFor_201 : decode cX0_halfwayFor 201 = .ok (.iload_n 3, 1) := dk_29 (dk_at dksX0_halfwayFor_8 14 rfl rfl)
theorem dX0_halfwayFor_202 : decode cX0_halfwayFor 202 = .ok (.ireturn, 1) := dk_172 (dk_at dksX0_halfwayFor_8 15 rfl rfl)
abbrev cX0_ofRest : ByteArray := prog_1_method_51_code
def yX0_ofRest : MethodName := ⟨RX0, "ofRest", "(III)I"⟩
def dkwX0_ofRest_7 : List UInt8 := [42, 180, 0, 77, 42, 180, 0, 84, 182, 0, 136, 42, 180, 0, 77, 180, 1, 45, 172]
abbrev dktX0_ofRest_7 : List UInt8 := dkwX0_ofRest_7 ++ []
def dkwX0_ofRest_6 : List UInt8 := [42, 180, 0, 77, 182, 0, 136, 42, 180, 0, 77, 180, 1, 45, 172, 42, 180, 1, 128, 16, 253, 184, 0, 9]
abbrev dktX0_ofRest_6 : List UInt8 := dkwX0_ofRest_6 ++ dktX0_ofRest_7
def dkwX0_ofRest_5 : List UInt8 := [182, 1, 122, 172, 28, 184, 1, 108, 42, 28, 29, 182, 1, 125, 172, 42, 4, 181, 1, 128, 42, 180, 0, 84]
abbrev dktX0_ofRest_5 : List UInt8 := dkwX0_ofRest_5 ++ dktX0_ofRest_6
def dkwX0_ofRest_4 : List UInt8 := [180, 0, 241, 28, 145, 84, 42, 89, 180, 0, 241, 4, 96, 181, 0, 241, 42, 180, 0, 241, 172, 42]
abbrev dktX0_ofRest_4 : List UInt8 := dkwX0_ofRest_4 ++ dktX0_ofRest_5
def dkwX0_ofRest_3 : List UInt8 := [180, 0, 241, 16, 12, 162, 0, 7, 4, 167, 0, 4, 3, 16, 250, 184, 0, 9, 42, 180, 0, 87, 42]
abbrev dktX0_ofRest_3 : List UInt8 := dkwX0_ofRest_3 ++ dktX0_ofRest_4
def dkwX0_ofRest_2 : List UInt8 := [42, 28, 29, 182, 1, 114, 172, 42, 28, 182, 1, 117, 172, 28, 133, 9, 20, 1, 120, 184, 1, 20, 42]
abbrev dktX0_ofRest_2 : List UInt8 := dkwX0_ofRest_2 ++ dktX0_ofRest_3
def dkwX0_ofRest_1 : List UInt8 := [170, 0, 0, 0, 0, 0, 146, 0, 0, 0, 18, 0, 0, 0, 23, 0, 0, 0, 39, 0, 0, 0, 46, 0, 0, 0, 52, 0, 0, 0, 106, 0, 0, 0, 111, 0, 0, 0, 122]
abbrev dktX0_ofRest_1 : List UInt8 := dkwX0_ofRest_1 ++ dktX0_ofRest_2
def dkwX0_ofRest_0 : List UInt8 := [27]
abbrev dktX0_ofRest_0 : List UInt8 := dkwX0_ofRest_0 ++ dktX0_ofRest_1
theorem dksX0_ofRest_0 : cX0_ofRest.data.toList.drop 0 = dktX0_ofRest_0 := by decide +kernel
theorem dksX0_ofRest_1 : cX0_ofRest.data.toList.drop 1 = dktX0_ofRest_1 := dk_seg dksX0_ofRest_0 1 rfl rfl
theorem dksX0_ofRest_2 : cX0_ofRest.data.toList.drop 40 = dktX0_ofRest_2 := dk_seg dksX0_ofRest_1 39 rfl rfl
theorem dksX0_ofRest_3 : cX0_ofRest.data.toList.drop 63 = dktX0_ofRest_3 := dk_seg dksX0_ofRest_2 23 rfl rfl
theorem dksX0_ofRest_4 : cX0_ofRest.data.toList.drop 86 = dktX0_ofRest_4 := dk_seg dksX0_ofRest_3 23 rfl rfl
theorem dksX0_ofRest_5 : cX0_ofRest.data.toList.drop 108 = dktX0_ofRest_5 := dk_seg dksX0_ofRest_4 22 rfl rfl
theorem dksX0_ofRest_6 : cX0_ofRest.data.toList.drop 132 = dktX0_ofRest_6 := dk_seg dksX0_ofRest_5 24 rfl rfl
theorem dksX0_ofRest_7 : cX0_ofRest.data.toList.drop 156 = dktX0_ofRest_7 := dk_seg dksX0_ofRest_6 24 rfl rfl
theorem dX0_ofRest_0 : decode cX0_ofRest 0 = .ok (.iload_n 1, 1) := dk_27 (dk_at dksX0_ofRest_0 0 rfl rfl)
theorem dX0_ofRest_1 : decode cX0_ofRest 1 = .ok (.tableswitch 146 18 23 #[39, 46, 52, 106, 111, 122], 39) := by decide +kernel
theorem dX0_ofRest_40 : decode cX0_ofRest 40 = .ok (.aload_n 0, 1) := dk_42 (dk_at dksX0_ofRest_2 0 rfl rfl)
theorem dX0_ofRest_41 : decode cX0_ofRest 41 = .ok (.iload_n 2, 1) := dk_28 (dk_at dksX0_ofRest_2 1 rfl rfl)
theorem dX0_ofRest_42 : decode cX0_ofRest 42 = .ok (.iload_n 3, 1) := dk_29 (dk_at dksX0_ofRest_2 2 rfl rfl)
theorem dX0_ofRest_43 : decode cX0_ofRest 43 = .ok (.invokevirtual 370, 3) := dk_182 1 114 (dk_at dksX0_ofRest_2 3 rfl rfl)
theorem dX0_ofRest_46 : decode cX0_ofRest 46 = .ok (.ireturn, 1) := dk_172 (dk_at dksX0_ofRest_2 6 rfl rfl)
theorem dX0_ofRest_47 : decode cX0_ofRest 47 = .ok (.aload_n 0, 1) := dk_42 (dk_at dksX0_ofRest_2 7 rfl rfl)
theorem dX0_ofRest_48 : decode cX0_ofRest 48 = .ok (.iload_n 2, 1) := dk_28 (dk_at dksX0_ofRest_2 8 rfl rfl)
theorem dX0_ofRest_49 : decode cX0_ofRest 49 = .ok (.invokevirtual 373, 3) := dk_182 1 117 (dk_at dksX0_ofRest_2 9 rfl rfl)
theorem dX0_ofRest_52 : decode cX0_ofRest 52 = .ok (.ireturn, 1) := dk_172 (dk_at dksX0_ofRest_2 12 rfl rfl)
theorem dX0_ofRest_53 : decode cX0_ofRest 53 = .ok (.iload_n 2, 1) := dk_28 (dk_at dksX0_ofRest_2 13 rfl rfl)
theorem dX0_ofRest_54 : decode cX0_ofRest 54 = .ok (.i2l, 1) := dk_133 (dk_at dksX0_ofRest_2 14 rfl rfl)
theorem dX0_ofRest_55 : decode cX0_ofRest 55 = .ok (.lconst 0, 1) := dk_9 (dk_at dksX0_ofRest_2 15 rfl rfl)
theorem dX0_ofRest_56 : decode cX0_ofRest 56 = .ok (.ldc2_w 376, 3) := dk_20 1 120 (dk_at dksX0_ofRest_2 16 rfl rfl)
theorem dX0_ofRest_59 : decode cX0_ofRest 59 = .ok (.invokestatic 276, 3) := dk_184 1 20 (dk_at dksX0_ofRest_2 19 rfl rfl)
theorem dX0_ofRest_62 : decode cX0_ofRest 62 = .ok (.aload_n 0, 1) := dk_42 (dk_at dksX0_ofRest_2 22 rfl rfl)
theorem dX0_ofRest_63 : decode cX0_ofRest 63 = .ok (.getfield 241, 3) := dk_180 0 241 (dk_at dksX0_ofRest_3 0 rfl rfl)
theorem dX0_ofRest_66 : decode cX0_ofRest 66 = .ok (.bipush 12, 2) := dk_16 12 (dk_at dksX0_ofRest_3 3 rfl rfl)
theorem dX0_ofRest_68 : decode cX0_ofRest 68 = .ok (.if_icmp .ge 7, 3) := dk_162 0 7 (dk_at dksX0_ofRest_3 5 rfl rfl)
theorem dX0_ofRest_71 : decode cX0_ofRest 71 = .ok (.iconst 1, 1) := dk_4 (dk_at dksX0_ofRest_3 8 rfl rfl)
theorem dX0_ofRest_72 : decode cX0_ofRest 72 = .ok (.goto 4, 3) := dk_167 0 4 (dk_at dksX0_ofRest_3 9 rfl rfl)
theorem dX0_ofRest_75 : decode cX0_ofRest 75 = .ok (.iconst 0, 1) := dk_3 (dk_at dksX0_ofRest_3 12 rfl rfl)
theorem dX0_ofRest_76 : decode cX0_ofRest 76 = .ok (.bipush (-6), 2) := dk_16 250 (dk_at dksX0_ofRest_3 13 rfl rfl)
theorem dX0_ofRest_78 : decode cX0_ofRest 78 = .ok (.invokestatic 9, 3) := dk_184 0 9 (dk_at dksX0_ofRest_3 15 rfl rfl)
theorem dX0_ofRest_81 : decode cX0_ofRest 81 = .ok (.aload_n 0, 1) := dk_42 (dk_at dksX0_ofRest_3 18 rfl rfl)
theorem dX0_ofRest_82 : decode cX0_ofRest 82 = .ok (.getfield 87, 3) := dk_180 0 87 (dk_at dksX0_ofRest_3 19 rfl rfl)
theorem dX0_ofRest_85 : decode cX0_ofRest 85 = .ok (.aload_n 0, 1) := dk_42 (dk_at dksX0_ofRest_3 22 rfl rfl)
theorem dX0_ofRest_86 : decode cX0_ofRest 86 = .ok (.getfield 241, 3) := dk_180 0 241 (dk_at dksX0_ofRest_4 0 rfl rfl)
theorem dX0_ofRest_89 : decode cX0_ofRest 89 = .ok (.iload_n 2, 1) := dk_28 (dk_at dksX0_ofRest_4 3 rfl rfl)
theorem dX0_ofRest_90 : decode cX0_ofRest 90 = .ok (.i2b, 1) := dk_145 (dk_at dksX0_ofRest_4 4 rfl rfl)
theorem dX0_ofRest_91 : decode cX0_ofRest 91 = .ok (.bastore, 1) := dk_84 (dk_at dksX0_ofRest_4 5 rfl rfl)
theorem dX0_ofRest_92 : decode cX0_ofRest 92 = .ok (.aload_n 0, 1) := dk_42 (dk_at dksX0_ofRest_4 6 rfl rfl)
theorem dX0_ofRest_93 : decode cX0_ofRest 93 = .ok (.dup, 1) := dk_89 (dk_at dksX0_ofRest_4 7 rfl rfl)
theorem dX0_ofRest_94 : decode cX0_ofRest 94 = .ok (.getfield 241, 3) := dk_180 0 241 (dk_at dksX0_ofRest_4 8 rfl rfl)
theorem dX0_ofRest_97 : decode cX0_ofRest 97 = .ok (.iconst 1, 1) := dk_4 (dk_at dksX0_ofRest_4 11 rfl rfl)
theorem dX0_ofRest_98 : decode cX0_ofRest 98 = .ok (.iadd, 1) := dk_96 (dk_at dksX0_ofRest_4 12 rfl rfl)
theorem dX0_ofRest_99 : decode cX0_ofRest 99 = .ok (.putfield 241, 3) := dk_181 0 241 (dk_at dksX0_ofRest_4 13 rfl rfl)
theorem dX0_ofRest_102 : decode cX0_ofRest 102 = .ok (.aload_n 0, 1) := dk_42 (dk_at dksX0_ofRest_4 16 rfl rfl)
theorem dX0_ofRest_103 : decode cX0_ofRest 103 = .ok (.getfield 241, 3) := dk_180 0 241 (dk_at dksX0_ofRest_4 17 rfl rfl)
theorem dX0_ofRest_106 : decode cX0_ofRest 106 = .ok (.ireturn, 1) := dk_172 (dk_at dksX0_ofRest_4 20 rfl rfl)
theorem dX0_ofRest_107 : decode cX0_ofRest 107 = .ok (.aload_n 0, 1) := dk_42 (dk_at dksX0_ofRest_4 21 rfl rfl)
theorem dX0_ofRest_108 : decode cX0_ofRest 108 = .ok (.invokevirtual 378, 3) := dk_182 1 122 (dk_at dksX0_ofRest_5 0 rfl rfl)
theorem dX0_ofRest_111 : decode cX0_ofRest 111 = .ok (.ireturn, 1) := dk_172 (dk_at dksX0_ofRest_5 3 rfl rfl)
theorem dX0_ofRest_112 : decode cX0_ofRest 112 = .ok (.iload_n 2, 1) := dk_28 (dk_at dksX0_ofRest_5 4 rfl rfl)
theorem dX0_ofRest_113 : decode cX0_ofRest 113 = .ok (.invokestatic 364, 3) := dk_184 1 108 (dk_at dksX0_ofRest_5 5 rfl rfl)
theorem dX0_ofRest_116 : decode cX0_ofRest 116 = .ok (.aload_n 0, 1) := dk_42 (dk_at dksX0_ofRest_5 8 rfl rfl)
theorem dX0_ofRest_117 : decode cX0_ofRest 117 = .ok (.iload_n 2, 1) := dk_28 (dk_at dksX0_ofRest_5 9 rfl rfl)
theorem dX0_ofRest_118 : decode cX0_ofRest 118 = .ok (.iload_n 3, 1) := dk_29 (dk_at dksX0_ofRest_5 10 rfl rfl)
theorem dX0_ofRest_119 : decode cX0_ofRest 119 = .ok (.invokevirtual 381, 3) := dk_182 1 125 (dk_at dksX0_ofRest_5 11 rfl rfl)
theorem dX0_ofRest_122 : decode cX0_ofRest 122 = .ok (.ireturn, 1) := dk_172 (dk_at dksX0_ofRest_5 14 rfl rfl)
theorem dX0_ofRest_123 : decode cX0_ofRest 123 = .ok (.aload_n 0, 1) := dk_42 (dk_at dksX0_ofRest_5 15 rfl rfl)
theorem dX0_ofRest_124 : decode cX0_ofRest 124 = .ok (.iconst 1, 1) := dk_4 (dk_at dksX0_ofRest_5 16 rfl rfl)
theorem dX0_ofRest_125 : decode cX0_ofRest 125 = .ok (.putfield 384, 3) := dk_181 1 128 (dk_at dksX0_ofRest_5 17 rfl rfl)
theorem dX0_ofRest_128 : decode cX0_ofRest 128 = .ok (.aload_n 0, 1) := dk_42 (dk_at dksX0_ofRest_5 20 rfl rfl)
theorem dX0_ofRest_129 : decode cX0_ofRest 129 = .ok (.getfield 84, 3) := dk_180 0 84 (dk_at dksX0_ofRest_5 21 rfl rfl)
theorem dX0_ofRest_132 : decode cX0_ofRest 132 = .ok (.aload_n 0, 1) := dk_42 (dk_at dksX0_ofRest_6 0 rfl rfl)
theorem dX0_ofRest_133 : decode cX0_ofRest 133 = .ok (.getfield 77, 3) := dk_180 0 77 (dk_at dksX0_ofRest_6 1 rfl rfl)
theorem dX0_ofRest_136 : decode cX0_ofRest 136 = .ok (.invokevirtual 136, 3) := dk_182 0 136 (dk_at dksX0_ofRest_6 4 rfl rfl)
theorem dX0_ofRest_139 : decode cX0_ofRest 139 = .ok (.aload_n 0, 1) := dk_42 (dk_at dksX0_ofRest_6 7 rfl rfl)
theorem dX0_ofRest_140 : decode cX0_ofRest 140 = .ok (.getfield 77, 3) := dk_180 0 77 (dk_at dksX0_ofRest_6 8 rfl rfl)
theorem dX0_ofRest_143 : decode cX0_ofRest 143 = .ok (.getfield 301, 3) := dk_180 1 45 (dk_at dksX0_ofRest_6 11 rfl rfl)
theorem dX0_ofRest_146 : decode cX0_ofRest 146 = .ok (.ireturn, 1) := dk_172 (dk_at dksX0_ofRest_6 14 rfl rfl)
theorem dX0_ofRest_147 : decode cX0_ofRest 147 = .ok (.aload_n 0, 1) := dk_42 (dk_at dksX0_ofRest_6 15 rfl rfl)
theorem dX0_ofRest_148 : decode cX0_ofRest 148 = .ok (.getfield 384, 3) := dk_180 1 128 (dk_at dksX0_ofRest_6 16 rfl rfl)
theorem dX0_ofRest_151 : decode cX0_ofRest 151 = .ok (.bipush (-3), 2) := dk_16 253 (dk_at dksX0_ofRest_6 19 rfl rfl)
theorem dX0_ofRest_153 : decode cX0_ofRest 153 = .ok (.invokestatic 9, 3) := dk_184 0 9 (dk_at dksX0_ofRest_6 21 rfl rfl)
theorem dX0_ofRest_156 : decode cX0_ofRest 156 = .ok (.aload_n 0, 1) := dk_42 (dk_at dksX0_ofRest_7 0 rfl rfl)
theorem dX0_ofRest_157 : decode cX0_ofRest 157 = .ok (.getfield 77, 3) := dk_180 0 77 (dk_at dksX0_ofRest_7 1 rfl rfl)
theorem dX0_ofRest_160 : decode cX0_ofRest 160 = .ok (.aload_n 0, 1) := dk_42 (dk_at dksX0_ofRest_7 4 rfl rfl)
theorem dX0_ofRest_161 : decode cX0_ofRest 161 = .ok (.getfield 84, 3) := dk_180 0 84 (dk_at dksX0_ofRest_7 5 rfl rfl)
theorem dX0_ofRest_164 : decode cX0_ofRest 164 = .ok (.invokevirtual 136, 3) := dk_182 0 136 (dk_at dksX0_ofRest_7 8 rfl rfl)
theorem dX0_ofRest_167 : decode cX0_ofRest 167 = .ok (.aload_n 0, 1) := dk_42 (dk_at dksX0_ofRest_7 11 rfl rfl)
theorem dX0_ofRest_168 : decode cX0_ofRest 168 = .ok (.getfield 77, 3) := dk_180 0 77 (dk_at dksX0_ofRest_7 12 rfl rfl)
theorem dX0_ofRest_171 : decode cX0_ofRest 171 = .ok (.getfield 301, 3) := dk_180 1 45 (dk_at dksX0_ofRest_7 15 rfl rfl)
theorem dX0_ofRest_174 : decode cX0_ofRest 174 = .ok (.ireturn, 1) := dk_172 (dk_at dksX0_ofRest_7 18 rfl rfl)
abbrev cX0_seekerTold : ByteArray := prog_1_method_49_code
def yX0_seekerTold : MethodName := ⟨RX0, "seekerTold", "(II)I"⟩
def dkwX0_seekerTold_1 : List UInt8 := [42, 180, 0, 229, 162, 0, 12, 42, 180, 0, 112, 28, 46, 167, 0, 5, 16, 247, 172]
abbrev dktX0_seekerTold_1 : List UInt8 := dkwX0_seekerTold_1 ++ []
def dkwX0_seekerTold_0 : List UInt8 := [27, 184, 1, 108, 28, 155, 0, 7, 4, 167, 0, 4, 3, 16, 252, 184, 0, 9, 42, 27, 182, 1, 111, 28]
abbrev dktX0_seekerTold_0 : List UInt8 := dkwX0_seekerTold_0 ++ dktX0_seekerTold_1
theorem dksX0_seekerTold_0 : cX0_seekerTold.data.toList.drop 0 = dktX0_seekerTold_0 := by decide +kernel
theorem dksX0_seekerTold_1 : cX0_seekerTold.data.toList.drop 24 = dktX0_seekerTold_1 := dk_seg dksX0_seekerTold_0 24 rfl rfl
theorem dX0_seekerTold_0 : decode cX0_seekerTold 0 = .ok (.iload_n 1, 1) := dk_27 (dk_at dksX0_seekerTold_0 0 rfl rfl)
theorem dX0_seekerTold_1 : decode cX0_seekerTold 1 = .ok (.invokestatic 364, 3) := dk_184 1 108 (dk_at dksX0_seekerTold_0 1 rfl rfl)
theorem dX0_seekerTold_4 : decode cX0_seekerTold 4 = .ok (.iload_n 2, 1) := dk_28 (dk_at dksX0_seekerTold_0 4 rfl rfl)
theorem dX0_seekerTold_5 : decode cX0_seekerTold 5 = .ok (.ifCond .lt 7, 3) := dk_155 0 7 (dk_at dksX0_seekerTold_0 5 rfl rfl)
theorem dX0_seekerTold_8 : decode cX0_seekerTold 8 = .ok (.iconst 1, 1) := dk_4 (dk_at dksX0_seekerTold_0 8 rfl rfl)
theorem dX0_seekerTold_9 : decode cX0_seekerTold 9 = .ok (.goto 4, 3) := dk_167 0 4 (dk_at dksX0_seekerTold_0 9 rfl rfl)
theorem dX0_seekerTold_12 : decode cX0_seekerTold 12 = .ok (.iconst 0, 1) := dk_3 (dk_at dksX0_seekerTold_0 12 rfl rfl)
theorem dX0_seekerTold_13 : decode cX0_seekerTold 13 = .ok (.bipush (-4), 2) := dk_16 252 (dk_at dksX0_seekerTold_0 13 rfl rfl)
theorem dX0_seekerTold_15 : decode cX0_seekerTold 15 = .ok (.invokestatic 9, 3) := dk_184 0 9 (dk_at dksX0_seekerTold_0 15 rfl rfl)
theorem dX0_seekerTold_18 : decode cX0_seekerTold 18 = .ok (.aload_n 0, 1) := dk_42 (dk_at dksX0_seekerTold_0 18 rfl rfl)
theorem dX0_seekerTold_19 : decode cX0_seekerTold 19 = .ok (.iload_n 1, 1) := dk_27 (dk_at dksX0_seekerTold_0 19 rfl rfl)
theorem dX0_seekerTold_20 : decode cX0_seekerTold 20 = .ok (.invokevirtual 367, 3) := dk_182 1 111 (dk_at dksX0_seekerTold_0 20 rfl rfl)
theorem dX0_seekerTold_23 : decode cX0_seekerTold 23 = .ok (.iload_n 2, 1) := dk_28 (dk_at dksX0_seekerTold_0 23 rfl rfl)
theorem dX0_seekerTold_24 : decode cX0_seekerTold 24 = .ok (.aload_n 0, 1) := dk_42 (dk_at dksX0_seekerTold_1 0 rfl rfl)
theorem dX0_seekerTold_25 : decode cX0_seekerTold 25 = .ok (.getfield 229, 3) := dk_180 0 229 (dk_at dksX0_seekerTold_1 1 rfl rfl)
theorem dX0_seekerTold_28 : decode cX0_seekerTold 28 = .ok (.if_icmp .ge 12, 3) := dk_162 0 12 (dk_at dksX0_seekerTold_1 4 rfl rfl)
theorem dX0_seekerTold_31 : decode cX0_seekerTold 31 = .ok (.aload_n 0, 1) := dk_42 (dk_at dksX0_seekerTold_1 7 rfl rfl)
theorem dX0_seekerTold_32 : decode cX0_seekerTold 32 = .ok (.getfield 112, 3) := dk_180 0 112 (dk_at dksX0_seekerTold_1 8 rfl rfl)
theorem dX0_seekerTold_35 : decode cX0_seekerTold 35 = .ok (.iload_n 2, 1) := dk_28 (dk_at dksX0_seekerTold_1 11 rfl rfl)
theorem dX0_seekerTold_36 : decode cX0_seekerTold 36 = .ok (.iaload, 1) := dk_46 (dk_at dksX0_seekerTold_1 12 rfl rfl)
theorem dX0_seekerTold_37 : decode cX0_seekerTold 37 = .ok (.goto 5, 3) := dk_167 0 5 (dk_at dksX0_seekerTold_1 13 rfl rfl)
theorem dX0_seekerTold_40 : decode cX0_seekerTold 40 = .ok (.bipush (-9), 2) := dk_16 247 (dk_at dksX0_seekerTold_1 16 rfl rfl)
theorem dX0_seekerTold_42 : decode cX0_seekerTold 42 = .ok (.ireturn, 1) := dk_172 (dk_at dksX0_seekerTold_1 18 rfl rfl)
abbrev cX0_mustBeSeeker : ByteArray := prog_1_method_37_code
def yX0_mustBeSeeker : MethodName := ⟨RX0, "mustBeSeeker", "(I)V"⟩
def dkwX0_mustBeSeeker_0 : List UInt8 := [26, 133, 9, 20, 1, 13, 184, 0, 13, 16, 254, 184, 0, 9, 177]
abbrev dktX0_mustBeSeeker_0 : List UInt8 := dkwX0_mustBeSeeker_0 ++ []
theorem dksX0_mustBeSeeker_0 : cX0_mustBeSeeker.data.toList.drop 0 = dktX0_mustBeSeeker_0 := by decide +kernel
theorem dX0_mustBeSeeker_0 : decode cX0_mustBeSeeker 0 = .ok (.iload_n 0, 1) := dk_26 (dk_at dksX0_mustBeSeeker_0 0 rfl rfl)
theorem dX0_mustBeSeeker_1 : decode cX0_mustBeSeeker 1 = .ok (.i2l, 1) := dk_133 (dk_at dksX0_mustBeSeeker_0 1 rfl rfl)
theorem dX0_mustBeSeeker_2 : decode cX0_mustBeSeeker 2 = .ok (.lconst 0, 1) := dk_9 (dk_at dksX0_mustBeSeeker_0 2 rfl rfl)
theorem dX0_mustBeSeeker_3 : decode cX0_mustBeSeeker 3 = .ok (.ldc2_w 269, 3) := dk_20 1 13 (dk_at dksX0_mustBeSeeker_0 3 rfl rfl)
theorem dX0_mustBeSeeker_6 : decode cX0_mustBeSeeker 6 = .ok (.invokestatic 13, 3) := dk_184 0 13 (dk_at dksX0_mustBeSeeker_0 6 rfl rfl)
theorem dX0_mustBeSeeker_9 : decode cX0_mustBeSeeker 9 = .ok (.bipush (-2), 2) := dk_16 254 (dk_at dksX0_mustBeSeeker_0 9 rfl rfl)
theorem dX0_mustBeSeeker_11 : decode cX0_mustBeSeeker 11 = .ok (.invokestatic 9, 3) := dk_184 0 9 (dk_at dksX0_mustBeSeeker_0 11 rfl rfl)
theorem dX0_mustBeSeeker_14 : decode cX0_mustBeSeeker 14 = .ok (.return_, 1) := dk_177 (dk_at dksX0_mustBeSeeker_0 14 rfl rfl)
abbrev cX0_seek : ByteArray := prog_1_method_28_code
def yX0_seek : MethodName := ⟨RX0, "seek", "(I)V"⟩
def dkwX0_seek_3 : List UInt8 := [120, 128, 61, 42, 27, 28, 182, 0, 235, 62, 167, 255, 199, 177]
abbrev dktX0_seek_3 : List UInt8 := dkwX0_seek_3 ++ []
def dkwX0_seek_2 : List UInt8 := [181, 0, 229, 42, 89, 180, 0, 232, 42, 180, 0, 77, 29, 28, 182, 0, 167, 96, 181, 0, 232, 28, 4, 29]
abbrev dktX0_seek_2 : List UInt8 := dkwX0_seek_2 ++ dktX0_seek_3
def dkwX0_seek_1 : List UInt8 := [62, 29, 16, 247, 159, 0, 57, 42, 180, 0, 112, 42, 180, 0, 229, 29, 79, 42, 89, 180, 0, 229, 4, 96]
abbrev dktX0_seek_1 : List UInt8 := dkwX0_seek_1 ++ dktX0_seek_2
def dkwX0_seek_0 : List UInt8 := [42, 180, 0, 77, 180, 0, 154, 61, 42, 3, 181, 0, 229, 42, 3, 181, 0, 232, 42, 27, 28, 182, 0, 235]
abbrev dktX0_seek_0 : List UInt8 := dkwX0_seek_0 ++ dktX0_seek_1
theorem dksX0_seek_0 : cX0_seek.data.toList.drop 0 = dktX0_seek_0 := by decide +kernel
theorem dksX0_seek_1 : cX0_seek.data.toList.drop 24 = dktX0_seek_1 := dk_seg dksX0_seek_0 24 rfl rfl
theorem dksX0_seek_2 : cX0_seek.data.toList.drop 48 = dktX0_seek_2 := dk_seg dksX0_seek_1 24 rfl rfl
theorem dksX0_seek_3 : cX0_seek.data.toList.drop 72 = dktX0_seek_3 := dk_seg dksX0_seek_2 24 rfl rfl
theorem dX0_seek_0 : decode cX0_seek 0 = .ok (.aload_n 0, 1) := dk_42 (dk_at dksX0_seek_0 0 rfl rfl)
theorem dX0_seek_1 : decode cX0_seek 1 = .ok (.getfield 77, 3) := dk_180 0 77 (dk_at dksX0_seek_0 1 rfl rfl)
theorem dX0_seek_4 : decode cX0_seek 4 = .ok (.getfield 154, 3) := dk_180 0 154 (dk_at dksX0_seek_0 4 rfl rfl)
theorem dX0_seek_7 : decode cX0_seek 7 = .ok (.istore_n 2, 1) := dk_61 (dk_at dksX0_seek_0 7 rfl rfl)
theorem dX0_seek_8 : decode cX0_seek 8 = .ok (.aload_n 0, 1) := dk_42 (dk_at dksX0_seek_0 8 rfl rfl)
theorem dX0_seek_9 : decode cX0_seek 9 = .ok (.iconst 0, 1) := dk_3 (dk_at dksX0_seek_0 9 rfl rfl)
theorem dX0_seek_10 : decode cX0_seek 10 = .ok (.putfield 229, 3) := dk_181 0 229 (dk_at dksX0_seek_0 10 rfl rfl)
theorem dX0_seek_13 : decode cX0_seek 13 = .ok (.aload_n 0, 1) := dk_42 (dk_at dksX0_seek_0 13 rfl rfl)
theorem dX0_seek_14 : decode cX0_seek 14 = .ok (.iconst 0, 1) := dk_3 (dk_at dksX0_seek_0 14 rfl rfl)
theorem dX0_seek_15 : decode cX0_seek 15 = .ok (.putfield 232, 3) := dk_181 0 232 (dk_at dksX0_seek_0 15 rfl rfl)
theorem dX0_seek_18 : decode cX0_seek 18 = .ok (.aload_n 0, 1) := dk_42 (dk_at dksX0_seek_0 18 rfl rfl)
theorem dX0_seek_19 : decode cX0_seek 19 = .ok (.iload_n 1, 1) := dk_27 (dk_at dksX0_seek_0 19 rfl rfl)
theorem dX0_seek_20 : decode cX0_seek 20 = .ok (.iload_n 2, 1) := dk_28 (dk_at dksX0_seek_0 20 rfl rfl)
theorem dX0_seek_21 : decode cX0_seek 21 = .ok (.invokevirtual 235, 3) := dk_182 0 235 (dk_at dksX0_seek_0 21 rfl rfl)
theorem dX0_seek_24 : decode cX0_seek 24 = .ok (.istore_n 3, 1) := dk_62 (dk_at dksX0_seek_1 0 rfl rfl)
theorem dX0_seek_25 : decode cX0_seek 25 = .ok (.iload_n 3, 1) := dk_29 (dk_at dksX0_seek_1 1 rfl rfl)
theorem dX0_seek_26 : decode cX0_seek 26 = .ok (.bipush (-9), 2) := dk_16 247 (dk_at dksX0_seek_1 2 rfl rfl)
theorem dX0_seek_28 : decode cX0_seek 28 = .ok (.if_icmp .eq 57, 3) := dk_159 0 57 (dk_at dksX0_seek_1 4 rfl rfl)
theorem dX0_seek_31 : decode cX0_seek 31 = .ok (.aload_n 0, 1) := dk_42 (dk_at dksX0_seek_1 7 rfl rfl)
theorem dX0_seek_32 : decode cX0_seek 32 = .ok (.getfield 112, 3) := dk_180 0 112 (dk_at dksX0_seek_1 8 rfl rfl)
theorem dX0_seek_35 : decode cX0_seek 35 = .ok (.aload_n 0, 1) := dk_42 (dk_at dksX0_seek_1 11 rfl rfl)
theorem dX0_seek_36 : decode cX0_seek 36 = .ok (.getfield 229, 3) := dk_180 0 229 (dk_at dksX0_seek_1 12 rfl rfl)
theorem dX0_seek_39 : decode cX0_seek 39 = .ok (.iload_n 3, 1) := dk_29 (dk_at dksX0_seek_1 15 rfl rfl)
theorem dX0_seek_40 : decode cX0_seek 40 = .ok (.iastore, 1) := dk_79 (dk_at dksX0_seek_1 16 rfl rfl)
theorem dX0_seek_41 : decode cX0_seek 41 = .ok (.aload_n 0, 1) := dk_42 (dk_at dksX0_seek_1 17 rfl rfl)
theorem dX0_seek_42 : decode cX0_seek 42 = .ok (.dup, 1) := dk_89 (dk_at dksX0_seek_1 18 rfl rfl)
theorem dX0_seek_43 : decode cX0_seek 43 = .ok (.getfield 229, 3) := dk_180 0 229 (dk_at dksX0_seek_1 19 rfl rfl)
theorem dX0_seek_46 : decode cX0_seek 46 = .ok (.iconst 1, 1) := dk_4 (dk_at dksX0_seek_1 22 rfl rfl)
theorem dX0_seek_47 : decode cX0_seek 47 = .ok (.iadd, 1) := dk_96 (dk_at dksX0_seek_1 23 rfl rfl)
theorem dX0_seek_48 : decode cX0_seek 48 = .ok (.putfield 229, 3) := dk_181 0 229 (dk_at dksX0_seek_2 0 rfl rfl)
theorem dX0_seek_51 : decode cX0_seek 51 = .ok (.aload_n 0, 1) := dk_42 (dk_at dksX0_seek_2 3 rfl rfl)
theorem dX0_seek_52 : decode cX0_seek 52 = .ok (.dup, 1) := dk_89 (dk_at dksX0_seek_2 4 rfl rfl)
theorem dX0_seek_53 : decode cX0_seek 53 = .ok (.getfield 232, 3) := dk_180 0 232 (dk_at dksX0_seek_2 5 rfl rfl)
theorem dX0_seek_56 : decode cX0_seek 56 = .ok (.aload_n 0, 1) := dk_42 (dk_at dksX0_seek_2 8 rfl rfl)
theorem dX0_seek_57 : decode cX0_seek 57 = .ok (.getfield 77, 3) := dk_180 0 77 (dk_at dksX0_seek_2 9 rfl rfl)
theorem dX0_seek_60 : decode cX0_seek 60 = .ok (.iload_n 3, 1) := dk_29 (dk_at dksX0_seek_2 12 rfl rfl)
theorem dX0_seek_61 : decode cX0_seek 61 = .ok (.iload_n 2, 1) := dk_28 (dk_at dksX0_seek_2 13 rfl rfl)
theorem dX0_seek_62 : decode cX0_seek 62 = .ok (.invokevirtual 167, 3) := dk_182 0 167 (dk_at dksX0_seek_2 14 rfl rfl)
theorem dX0_seek_65 : decode cX0_seek 65 = .ok (.iadd, 1) := dk_96 (dk_at dksX0_seek_2 17 rfl rfl)
theorem dX0_seek_66 : decode cX0_seek 66 = .ok (.putfield 232, 3) := dk_181 0 232 (dk_at dksX0_seek_2 18 rfl rfl)
theorem dX0_seek_69 : decode cX0_seek 69 = .ok (.iload_n 2, 1) := dk_28 (dk_at dksX0_seek_2 21 rfl rfl)
theorem dX0_seek_70 : decode cX0_seek 70 = .ok (.iconst 1, 1) := dk_4 (dk_at dksX0_seek_2 22 rfl rfl)
theorem dX0_seek_71 : decode cX0_seek 71 = .ok (.iload_n 3, 1) := dk_29 (dk_at dksX0_seek_2 23 rfl rfl)
theorem dX0_seek_72 : decode cX0_seek 72 = .ok (.ishl, 1) := dk_120 (dk_at dksX0_seek_3 0 rfl rfl)
theorem dX0_seek_73 : decode cX0_seek 73 = .ok (.ior, 1) := dk_128 (dk_at dksX0_seek_3 1 rfl rfl)
theorem dX0_seek_74 : decode cX0_seek 74 = .ok (.istore_n 2, 1) := dk_61 (dk_at dksX0_seek_3 2 rfl rfl)
theorem dX0_seek_75 : decode cX0_seek 75 = .ok (.aload_n 0, 1) := dk_42 (dk_at dksX0_seek_3 3 rfl rfl)
theorem dX0_seek_76 : decode cX0_seek 76 = .ok (.iload_n 1, 1) := dk_27 (dk_at dksX0_seek_3 4 rfl rfl)
theorem dX0_seek_77 : decode cX0_seek 77 = .ok (.iload_n 2, 1) := dk_28 (dk_at dksX0_seek_3 5 rfl rfl)
theorem dX0_seek_78 : decode cX0_seek 78 = .ok (.invokevirtual 235, 3) := dk_182 0 235 (dk_at dksX0_seek_3 6 rfl rfl)
theorem dX0_seek_81 : decode cX0_seek 81 = .ok (.istore_n 3, 1) := dk_62 (dk_at dksX0_seek_3 9 rfl rfl)
theorem dX0_seek_82 : decode cX0_seek 82 = .ok (.goto (-57), 3) := dk_167 255 199 (dk_at dksX0_seek_3 10 rfl rfl)
theorem dX0_seek_85 : decode cX0_seek 85 = .ok (.return_, 1) := dk_177 (dk_at dksX0_seek_3 13 rfl rfl)
abbrev cX0_rather : ByteArray := prog_1_method_27_code
def yX0_rather : MethodName := ⟨RX0, "rather", "(II)I"⟩
def dkwX0_rather_3 : List UInt8 := [162, 0, 8, 21, 4, 167, 0, 4, 29, 62, 132, 4, 1, 167, 255, 177, 29, 172]
abbrev dktX0_rather_3 : List UInt8 := dkwX0_rather_3 ++ []
def dkwX0_rather_2 : List UInt8 := [180, 0, 77, 21, 4, 28, 182, 0, 225, 42, 180, 0, 70, 27, 50, 42, 180, 0, 77, 29, 28, 182, 0, 225]
abbrev dktX0_rather_2 : List UInt8 := dkwX0_rather_2 ++ dktX0_rather_3
def dkwX0_rather_1 : List UInt8 := [28, 182, 0, 163, 54, 5, 21, 5, 153, 0, 48, 29, 16, 247, 159, 0, 37, 42, 180, 0, 70, 27, 50, 42]
abbrev dktX0_rather_1 : List UInt8 := dkwX0_rather_1 ++ dktX0_rather_2
def dkwX0_rather_0 : List UInt8 := [16, 247, 62, 3, 54, 4, 21, 4, 42, 180, 0, 77, 180, 0, 160, 162, 0, 73, 42, 180, 0, 77, 21, 4]
abbrev dktX0_rather_0 : List UInt8 := dkwX0_rather_0 ++ dktX0_rather_1
theorem dksX0_rather_0 : cX0_rather.data.toList.drop 0 = dktX0_rather_0 := by decide +kernel
theorem dksX0_rather_1 : cX0_rather.data.toList.drop 24 = dktX0_rather_1 := dk_seg dksX0_rather_0 24 rfl rfl
theorem dksX0_rather_2 : cX0_rather.data.toList.drop 48 = dktX0_rather_2 := dk_seg dksX0_rather_1 24 rfl rfl
theorem dksX0_rather_3 : cX0_rather.data.toList.drop 72 = dktX0_rather_3 := dk_seg dksX0_rather_2 24 rfl rfl
theorem dX0_rather_0 : decode cX0_rather 0 = .ok (.bipush (-9), 2) := dk_16 247 (dk_at dksX0_rather_0 0 rfl rfl)
theorem dX0_rather_2 : decode cX0_rather 2 = .ok (.istore_n 3, 1) := dk_62 (dk_at dksX0_rather_0 2 rfl rfl)
theorem dX0_rather_3 : decode cX0_rather 3 = .ok (.iconst 0, 1) := dk_3 (dk_at dksX0_rather_0 3 rfl rfl)
theorem dX0_rather_4 : decode cX0_rather 4 = .ok (.istore 4, 2) := dk_54 4 (dk_at dksX0_rather_0 4 rfl rfl)
theorem dX0_rather_6 : decode cX0_rather 6 = .ok (.iload 4, 2) := dk_21 4 (dk_at dksX0_rather_0 6 rfl rfl)
theorem dX0_rather_8 : decode cX0_rather 8 = .ok (.aload_n 0, 1) := dk_42 (dk_at dksX0_rather_0 8 rfl rfl)
theorem dX0_rather_9 : decode cX0_rather 9 = .ok (.getfield 77, 3) := dk_180 0 77 (dk_at dksX0_rather_0 9 rfl rfl)
theorem dX0_rather_12 : decode cX0_rather 12 = .ok (.getfield 160, 3) := dk_180 0 160 (dk_at dksX0_rather_0 12 rfl rfl)
theorem dX0_rather_15 : decode cX0_rather 15 = .ok (.if_icmp .ge 73, 3) := dk_162 0 73 (dk_at dksX0_rather_0 15 rfl rfl)
theorem dX0_rather_18 : decode cX0_rather 18 = .ok (.aload_n 0, 1) := dk_42 (dk_at dksX0_rather_0 18 rfl rfl)
theorem dX0_rather_19 : decode cX0_rather 19 = .ok (.getfield 77, 3) := dk_180 0 77 (dk_at dksX0_rather_0 19 rfl rfl)
theorem dX0_rather_22 : decode cX0_rather 22 = .ok (.iload 4, 2) := dk_21 4 (dk_at dksX0_rather_0 22 rfl rfl)
theorem dX0_rather_24 : decode cX0_rather 24 = .ok (.iload_n 2, 1) := dk_28 (dk_at dksX0_rather_1 0 rfl rfl)
theorem dX0_rather_25 : decode cX0_rather 25 = .ok (.invokevirtual 163, 3) := dk_182 0 163 (dk_at dksX0_rather_1 1 rfl rfl)
theorem dX0_rather_28 : decode cX0_rather 28 = .ok (.istore 5, 2) := dk_54 5 (dk_at dksX0_rather_1 4 rfl rfl)
theorem dX0_rather_30 : decode cX0_rather 30 = .ok (.iload 5, 2) := dk_21 5 (dk_at dksX0_rather_1 6 rfl rfl)
theorem dX0_rather_32 : decode cX0_rather 32 = .ok (.ifCond .eq 48, 3) := dk_153 0 48 (dk_at dksX0_rather_1 8 rfl rfl)
theorem dX0_rather_35 : decode cX0_rather 35 = .ok (.iload_n 3, 1) := dk_29 (dk_at dksX0_rather_1 11 rfl rfl)
theorem dX0_rather_36 : decode cX0_rather 36 = .ok (.bipush (-9), 2) := dk_16 247 (dk_at dksX0_rather_1 12 rfl rfl)
theorem dX0_rather_38 : decode cX0_rather 38 = .ok (.if_icmp .eq 37, 3) := dk_159 0 37 (dk_at dksX0_rather_1 14 rfl rfl)
theorem dX0_rather_41 : decode cX0_rather 41 = .ok (.aload_n 0, 1) := dk_42 (dk_at dksX0_rather_1 17 rfl rfl)
theorem dX0_rather_42 : decode cX0_rather 42 = .ok (.getfield 70, 3) := dk_180 0 70 (dk_at dksX0_rather_1 18 rfl rfl)
theorem dX0_rather_45 : decode cX0_rather 45 = .ok (.iload_n 1, 1) := dk_27 (dk_at dksX0_rather_1 21 rfl rfl)
theorem dX0_rather_46 : decode cX0_rather 46 = .ok (.aaload, 1) := dk_50 (dk_at dksX0_rather_1 22 rfl rfl)
theorem dX0_rather_47 : decode cX0_rather 47 = .ok (.aload_n 0, 1) := dk_42 (dk_at dksX0_rather_1 23 rfl rfl)
theorem dX0_rather_48 : decode cX0_rather 48 = .ok (.getfield 77, 3) := dk_180 0 77 (dk_at dksX0_rather_2 0 rfl rfl)
theorem dX0_rather_51 : decode cX0_rather 51 = .ok (.iload 4, 2) := dk_21 4 (dk_at dksX0_rather_2 3 rfl rfl)
theorem dX0_rather_53 : decode cX0_rather 53 = .ok (.iload_n 2, 1) := dk_28 (dk_at dksX0_rather_2 5 rfl rfl)
theorem dX0_rather_54 : decode cX0_rather 54 = .ok (.invokevirtual 225, 3) := dk_182 0 225 (dk_at dksX0_rather_2 6 rfl rfl)
theorem dX0_rather_57 : decode cX0_rather 57 = .ok (.aload_n 0, 1) := dk_42 (dk_at dksX0_rather_2 9 rfl rfl)
theorem dX0_rather_58 : decode cX0_rather 58 = .ok (.getfield 70, 3) := dk_180 0 70 (dk_at dksX0_rather_2 10 rfl rfl)
theorem dX0_rather_61 : decode cX0_rather 61 = .ok (.iload_n 1, 1) := dk_27 (dk_at dksX0_rather_2 13 rfl rfl)
theorem dX0_rather_62 : decode cX0_rather 62 = .ok (.aaload, 1) := dk_50 (dk_at dksX0_rather_2 14 rfl rfl)
theorem dX0_rather_63 : decode cX0_rather 63 = .ok (.aload_n 0, 1) := dk_42 (dk_at dksX0_rather_2 15 rfl rfl)
theorem dX0_rather_64 : decode cX0_rather 64 = .ok (.getfield 77, 3) := dk_180 0 77 (dk_at dksX0_rather_2 16 rfl rfl)
theorem dX0_rather_67 : decode cX0_rather 67 = .ok (.iload_n 3, 1) := dk_29 (dk_at dksX0_rather_2 19 rfl rfl)
theorem dX0_rather_68 : decode cX0_rather 68 = .ok (.iload_n 2, 1) := dk_28 (dk_at dksX0_rather_2 20 rfl rfl)
theorem dX0_rather_69 : decode cX0_rather 69 = .ok (.invokevirtual 225, 3) := dk_182 0 225 (dk_at dksX0_rather_2 21 rfl rfl)
theorem dX0_rather_72 : decode cX0_rather 72 = .ok (.if_icmp .ge 8, 3) := dk_162 0 8 (dk_at dksX0_rather_3 0 rfl rfl)
theorem dX0_rather_75 : decode cX0_rather 75 = .ok (.iload 4, 2) := dk_21 4 (dk_at dksX0_rather_3 3 rfl rfl)
theorem dX0_rather_77 : decode cX0_rather 77 = .ok (.goto 4, 3) := dk_167 0 4 (dk_at dksX0_rather_3 5 rfl rfl)
theorem dX0_rather_80 : decode cX0_rather 80 = .ok (.iload_n 3, 1) := dk_29 (dk_at dksX0_rather_3 8 rfl rfl)
theorem dX0_rather_81 : decode cX0_rather 81 = .ok (.istore_n 3, 1) := dk_62 (dk_at dksX0_rather_3 9 rfl rfl)
theorem dX0_rather_82 : decode cX0_rather 82 = .ok (.iinc 4 1, 3) := dk_132 4 1 (dk_at dksX0_rather_3 10 rfl rfl)
theorem dX0_rather_85 : decode cX0_rather 85 = .ok (.goto (-79), 3) := dk_167 255 177 (dk_at dksX0_rather_3 13 rfl rfl)
theorem dX0_rather_88 : decode cX0_rather 88 = .ok (.iload_n 3, 1) := dk_29 (dk_at dksX0_rather_3 16 rfl rfl)
theorem dX0_rather_89 : decode cX0_rather 89 = .ok (.ireturn, 1) := dk_172 (dk_at dksX0_rather_3 17 rfl rfl)
abbrev cX0_seeksTold : ByteArray := prog_1_method_50_code
def yX0_seeksTold : MethodName := ⟨RX0, "seeksTold", "(I)I"⟩
def dkwX0_seeksTold_0 : List UInt8 := [27, 184, 1, 108, 42, 27, 182, 1, 111, 42, 180, 0, 232, 172]
abbrev dktX0_seeksTold_0 : List UInt8 := dkwX0_seeksTold_0 ++ []
theorem dksX0_seeksTold_0 : cX0_seeksTold.data.toList.drop 0 = dktX0_seeksTold_0 := by decide +kernel
theorem dX0_seeksTold_0 : decode cX0_seeksTold 0 = .ok (.iload_n 1, 1) := dk_27 (dk_at dksX0_seeksTold_0 0 rfl rfl)
theorem dX0_seeksTold_1 : decode cX0_seeksTold 1 = .ok (.invokestatic 364, 3) := dk_184 1 108 (dk_at dksX0_seeksTold_0 1 rfl rfl)
theorem dX0_seeksTold_4 : decode cX0_seeksTold 4 = .ok (.aload_n 0, 1) := dk_42 (dk_at dksX0_seeksTold_0 4 rfl rfl)
theorem dX0_seeksTold_5 : decode cX0_seeksTold 5 = .ok (.iload_n 1, 1) := dk_27 (dk_at dksX0_seeksTold_0 5 rfl rfl)
theorem dX0_seeksTold_6 : decode cX0_seeksTold 6 = .ok (.invokevirtual 367, 3) := dk_182 1 111 (dk_at dksX0_seeksTold_0 6 rfl rfl)
theorem dX0_seeksTold_9 : decode cX0_seeksTold 9 = .ok (.aload_n 0, 1) := dk_42 (dk_at dksX0_seeksTold_0 9 rfl rfl)
theorem dX0_seeksTold_10 : decode cX0_seeksTold 10 = .ok (.getfield 232, 3) := dk_180 0 232 (dk_at dksX0_seeksTold_0 10 rfl rfl)
theorem dX0_seeksTold_13 : decode cX0_seeksTold 13 = .ok (.ireturn, 1) := dk_172 (dk_at dksX0_seeksTold_0 13 rfl rfl)
abbrev cX0_judgeRow : ByteArray := prog_1_method_30_code
def yX0_judgeRow : MethodName := ⟨RX0, "judgeRow", "()I"⟩
def dkwX0_judgeRow_3 : List UInt8 := [61, 132, 3, 1, 167, 255, 202, 16, 247, 172]
abbrev dktX0_judgeRow_3 : List UInt8 := dkwX0_judgeRow_3 ++ []
def dkwX0_judgeRow_2 : List UInt8 := [180, 0, 87, 29, 51, 28, 182, 0, 163, 154, 0, 5, 29, 172, 28, 4, 42, 180, 0, 87, 29, 51, 120, 128]
abbrev dktX0_judgeRow_2 : List UInt8 := dkwX0_judgeRow_2 ++ dktX0_judgeRow_3
def dkwX0_judgeRow_1 : List UInt8 := [162, 0, 55, 42, 180, 0, 87, 29, 51, 42, 180, 0, 77, 180, 0, 160, 162, 0, 20, 42, 180, 0, 77, 42]
abbrev dktX0_judgeRow_1 : List UInt8 := dkwX0_judgeRow_1 ++ dktX0_judgeRow_2
def dkwX0_judgeRow_0 : List UInt8 := [42, 180, 0, 241, 60, 42, 3, 181, 0, 241, 42, 180, 0, 77, 180, 0, 154, 61, 3, 62, 29, 27]
abbrev dktX0_judgeRow_0 : List UInt8 := dkwX0_judgeRow_0 ++ dktX0_judgeRow_1
theorem dksX0_judgeRow_0 : cX0_judgeRow.data.toList.drop 0 = dktX0_judgeRow_0 := by decide +kernel
theorem dksX0_judgeRow_1 : cX0_judgeRow.data.toList.drop 22 = dktX0_judgeRow_1 := dk_seg dksX0_judgeRow_0 22 rfl rfl
theorem dksX0_judgeRow_2 : cX0_judgeRow.data.toList.drop 46 = dktX0_judgeRow_2 := dk_seg dksX0_judgeRow_1 24 rfl rfl
theorem dksX0_judgeRow_3 : cX0_judgeRow.data.toList.drop 70 = dktX0_judgeRow_3 := dk_seg dksX0_judgeRow_2 24 rfl rfl
theorem dX0_judgeRow_0 : decode cX0_judgeRow 0 = .ok (.aload_n 0, 1) := dk_42 (dk_at dksX0_judgeRow_0 0 rfl rfl)
theorem dX0_judgeRow_1 : decode cX0_judgeRow 1 = .ok (.getfield 241, 3) := dk_180 0 241 (dk_at dksX0_judgeRow_0 1 rfl rfl)
theorem dX0_judgeRow_4 : decode cX0_judgeRow 4 = .ok (.istore_n 1, 1) := dk_60 (dk_at dksX0_judgeRow_0 4 rfl rfl)
theorem dX0_judgeRow_5 : decode cX0_judgeRow 5 = .ok (.aload_n 0, 1) := dk_42 (dk_at dksX0_judgeRow_0 5 rfl rfl)
theorem dX0_judgeRow_6 : decode cX0_judgeRow 6 = .ok (.iconst 0, 1) := dk_3 (dk_at dksX0_judgeRow_0 6 rfl rfl)
theorem dX0_judgeRow_7 : decode cX0_judgeRow 7 = .ok (.putfield 241, 3) := dk_181 0 241 (dk_at dksX0_judgeRow_0 7 rfl rfl)
theorem dX0_judgeRow_10 : decode cX0_judgeRow 10 = .ok (.aload_n 0, 1) := dk_42 (dk_at dksX0_judgeRow_0 10 rfl rfl)
theorem dX0_judgeRow_11 : decode cX0_judgeRow 11 = .ok (.getfield 77, 3) := dk_180 0 77 (dk_at dksX0_judgeRow_0 11 rfl rfl)
theorem dX0_judgeRow_14 : decode cX0_judgeRow 14 = .ok (.getfield 154, 3) := dk_180 0 154 (dk_at dksX0_judgeRow_0 14 rfl rfl)
theorem dX0_judgeRow_17 : decode cX0_judgeRow 17 = .ok (.istore_n 2, 1) := dk_61 (dk_at dksX0_judgeRow_0 17 rfl rfl)
theorem dX0_judgeRow_18 : decode cX0_judgeRow 18 = .ok (.iconst 0, 1) := dk_3 (dk_at dksX0_judgeRow_0 18 rfl rfl)
theorem dX0_judgeRow_19 : decode cX0_judgeRow 19 = .ok (.istore_n 3, 1) := dk_62 (dk_at dksX0_judgeRow_0 19 rfl rfl)
theorem dX0_judgeRow_20 : decode cX0_judgeRow 20 = .ok (.iload_n 3, 1) := dk_29 (dk_at dksX0_judgeRow_0 20 rfl rfl)
theorem dX0_judgeRow_21 : decode cX0_judgeRow 21 = .ok (.iload_n 1, 1) := dk_27 (dk_at dksX0_judgeRow_0 21 rfl rfl)
theorem dX0_judgeRow_22 : decode cX0_judgeRow 22 = .ok (.if_icmp .ge 55, 3) := dk_162 0 55 (dk_at dksX0_judgeRow_1 0 rfl rfl)
theorem dX0_judgeRow_25 : decode cX0_judgeRow 25 = .ok (.aload_n 0, 1) := dk_42 (dk_at dksX0_judgeRow_1 3 rfl rfl)
theorem dX0_judgeRow_26 : decode cX0_judgeRow 26 = .ok (.getfield 87, 3) := dk_180 0 87 (dk_at dksX0_judgeRow_1 4 rfl rfl)
theorem dX0_judgeRow_29 : decode cX0_judgeRow 29 = .ok (.iload_n 3, 1) := dk_29 (dk_at dksX0_judgeRow_1 7 rfl rfl)
theorem dX0_judgeRow_30 : decode cX0_judgeRow 30 = .ok (.baload, 1) := dk_51 (dk_at dksX0_judgeRow_1 8 rfl rfl)
theorem dX0_judgeRow_31 : decode cX0_judgeRow 31 = .ok (.aload_n 0, 1) := dk_42 (dk_at dksX0_judgeRow_1 9 rfl rfl)
theorem dX0_judgeRow_32 : decode cX0_judgeRow 32 = .ok (.getfield 77, 3) := dk_180 0 77 (dk_at dksX0_judgeRow_1 10 rfl rfl)
theorem dX0_judgeRow_35 : decode cX0_judgeRow 35 = .ok (.getfield 160, 3) := dk_180 0 160 (dk_at dksX0_judgeRow_1 13 rfl rfl)
theorem dX0_judgeRow_38 : decode cX0_judgeRow 38 = .ok (.if_icmp .ge 20, 3) := dk_162 0 20 (dk_at dksX0_judgeRow_1 16 rfl rfl)
theorem dX0_judgeRow_41 : decode cX0_judgeRow 41 = .ok (.aload_n 0, 1) := dk_42 (dk_at dksX0_judgeRow_1 19 rfl rfl)
theorem dX0_judgeRow_42 : decode cX0_judgeRow 42 = .ok (.getfield 77, 3) := dk_180 0 77 (dk_at dksX0_judgeRow_1 20 rfl rfl)
theorem dX0_judgeRow_45 : decode cX0_judgeRow 45 = .ok (.aload_n 0, 1) := dk_42 (dk_at dksX0_judgeRow_1 23 rfl rfl)
theorem dX0_judgeRow_46 : decode cX0_judgeRow 46 = .ok (.getfield 87, 3) := dk_180 0 87 (dk_at dksX0_judgeRow_2 0 rfl rfl)
theorem dX0_judgeRow_49 : decode cX0_judgeRow 49 = .ok (.iload_n 3, 1) := dk_29 (dk_at dksX0_judgeRow_2 3 rfl rfl)
theorem dX0_judgeRow_50 : decode cX0_judgeRow 50 = .ok (.baload, 1) := dk_51 (dk_at dksX0_judgeRow_2 4 rfl rfl)
theorem dX0_judgeRow_51 : decode cX0_judgeRow 51 = .ok (.iload_n 2, 1) := dk_28 (dk_at dksX0_judgeRow_2 5 rfl rfl)
theorem dX0_judgeRow_52 : decode cX0_judgeRow 52 = .ok (.invokevirtual 163, 3) := dk_182 0 163 (dk_at dksX0_judgeRow_2 6 rfl rfl)
theorem dX0_judgeRow_55 : decode cX0_judgeRow 55 = .ok (.ifCond .ne 5, 3) := dk_154 0 5 (dk_at dksX0_judgeRow_2 9 rfl rfl)
theorem dX0_judgeRow_58 : decode cX0_judgeRow 58 = .ok (.iload_n 3, 1) := dk_29 (dk_at dksX0_judgeRow_2 12 rfl rfl)
theorem dX0_judgeRow_59 : decode cX0_judgeRow 59 = .ok (.ireturn, 1) := dk_172 (dk_at dksX0_judgeRow_2 13 rfl rfl)
theorem dX0_judgeRow_60 : decode cX0_judgeRow 60 = .ok (.iload_n 2, 1) := dk_28 (dk_at dksX0_judgeRow_2 14 rfl rfl)
theorem dX0_judgeRow_61 : decode cX0_judgeRow 61 = .ok (.iconst 1, 1) := dk_4 (dk_at dksX0_judgeRow_2 15 rfl rfl)
theorem dX0_judgeRow_62 : decode cX0_judgeRow 62 = .ok (.aload_n 0, 1) := dk_42 (dk_at dksX0_judgeRow_2 16 rfl rfl)
theorem dX0_judgeRow_63 : decode cX0_judgeRow 63 = .ok (.getfield 87, 3) := dk_180 0 87 (dk_at dksX0_judgeRow_2 17 rfl rfl)
theorem dX0_judgeRow_66 : decode cX0_judgeRow 66 = .ok (.iload_n 3, 1) := dk_29 (dk_at dksX0_judgeRow_2 20 rfl rfl)
theorem dX0_judgeRow_67 : decode cX0_judgeRow 67 = .ok (.baload, 1) := dk_51 (dk_at dksX0_judgeRow_2 21 rfl rfl)
theorem dX0_judgeRow_68 : decode cX0_judgeRow 68 = .ok (.ishl, 1) := dk_120 (dk_at dksX0_judgeRow_2 22 rfl rfl)
theorem dX0_judgeRow_69 : decode cX0_judgeRow 69 = .ok (.ior, 1) := dk_128 (dk_at dksX0_judgeRow_2 23 rfl rfl)
theorem dX0_judgeRow_70 : decode cX0_judgeRow 70 = .ok (.istore_n 2, 1) := dk_61 (dk_at dksX0_judgeRow_3 0 rfl rfl)
theorem dX0_judgeRow_71 : decode cX0_judgeRow 71 = .ok (.iinc 3 1, 3) := dk_132 3 1 (dk_at dksX0_judgeRow_3 1 rfl rfl)
theorem dX0_judgeRow_74 : decode cX0_judgeRow 74 = .ok (.goto (-54), 3) := dk_167 255 202 (dk_at dksX0_judgeRow_3 4 rfl rfl)
theorem dX0_judgeRow_77 : decode cX0_judgeRow 77 = .ok (.bipush (-9), 2) := dk_16 247 (dk_at dksX0_judgeRow_3 7 rfl rfl)
theorem dX0_judgeRow_79 : decode cX0_judgeRow 79 = .ok (.ireturn, 1) := dk_172 (dk_at dksX0_judgeRow_3 9 rfl rfl)
abbrev cX0_byLots : ByteArray := prog_1_method_29_code
def yX0_byLots : MethodName := ⟨RX0, "byLots", "(II)I"⟩
def dkwX0_byLots_4 : List UInt8 := [54, 4, 42, 27, 21, 4, 182, 0, 235, 54, 6, 132, 7, 1, 167, 255, 173, 21, 5, 172]
abbrev dktX0_byLots_4 : List UInt8 := dkwX0_byLots_4 ++ []
def dkwX0_byLots_3 : List UInt8 := [16, 10, 112, 42, 180, 0, 77, 180, 0, 195, 21, 6, 46, 162, 0, 21, 21, 4, 4, 21, 6, 120, 128]
abbrev dktX0_byLots_3 : List UInt8 := dkwX0_byLots_3 ++ dktX0_byLots_4
def dkwX0_byLots_2 : List UInt8 := [21, 5, 42, 180, 0, 77, 21, 6, 21, 4, 182, 0, 167, 96, 54, 5, 29, 18, 240, 126, 17, 1, 0, 108]
abbrev dktX0_byLots_2 : List UInt8 := dkwX0_byLots_2 ++ dktX0_byLots_3
def dkwX0_byLots_1 : List UInt8 := [54, 7, 21, 7, 16, 60, 162, 0, 82, 21, 6, 16, 247, 159, 0, 75, 29, 18, 238, 104, 18, 239, 96, 62]
abbrev dktX0_byLots_1 : List UInt8 := dkwX0_byLots_1 ++ dktX0_byLots_2
def dkwX0_byLots_0 : List UInt8 := [28, 62, 42, 180, 0, 77, 180, 0, 154, 54, 4, 3, 54, 5, 42, 27, 21, 4, 182, 0, 235, 54, 6, 3]
abbrev dktX0_byLots_0 : List UInt8 := dkwX0_byLots_0 ++ dktX0_byLots_1
theorem dksX0_byLots_0 : cX0_byLots.data.toList.drop 0 = dktX0_byLots_0 := by decide +kernel
theorem dksX0_byLots_1 : cX0_byLots.data.toList.drop 24 = dktX0_byLots_1 := dk_seg dksX0_byLots_0 24 rfl rfl
theorem dksX0_byLots_2 : cX0_byLots.data.toList.drop 48 = dktX0_byLots_2 := dk_seg dksX0_byLots_1 24 rfl rfl
theorem dksX0_byLots_3 : cX0_byLots.data.toList.drop 72 = dktX0_byLots_3 := dk_seg dksX0_byLots_2 24 rfl rfl
theorem dksX0_byLots_4 : cX0_byLots.data.toList.drop 95 = dktX0_byLots_4 := dk_seg dksX0_byLots_3 23 rfl rfl
theorem dX0_byLots_0 : decode cX0_byLots 0 = .ok (.iload_n 2, 1) := dk_28 (dk_at dksX0_byLots_0 0 rfl rfl)
theorem dX0_byLots_1 : decode cX0_byLots 1 = .ok (.istore_n 3, 1) := dk_62 (dk_at dksX0_byLots_0 1 rfl rfl)
theorem dX0_byLots_2 : decode cX0_byLots 2 = .ok (.aload_n 0, 1) := dk_42 (dk_at dksX0_byLots_0 2 rfl rfl)
theorem dX0_byLots_3 : decode cX0_byLots 3 = .ok (.getfield 77, 3) := dk_180 0 77 (dk_at dksX0_byLots_0 3 rfl rfl)
theorem dX0_byLots_6 : decode cX0_byLots 6 = .ok (.getfield 154, 3) := dk_180 0 154 (dk_at dksX0_byLots_0 6 rfl rfl)
theorem dX0_byLots_9 : decode cX0_byLots 9 = .ok (.istore 4, 2) := dk_54 4 (dk_at dksX0_byLots_0 9 rfl rfl)
theorem dX0_byLots_11 : decode cX0_byLots 11 = .ok (.iconst 0, 1) := dk_3 (dk_at dksX0_byLots_0 11 rfl rfl)
theorem dX0_byLots_12 : decode cX0_byLots 12 = .ok (.istore 5, 2) := dk_54 5 (dk_at dksX0_byLots_0 12 rfl rfl)
theorem dX0_byLots_14 : decode cX0_byLots 14 = .ok (.aload_n 0, 1) := dk_42 (dk_at dksX0_byLots_0 14 rfl rfl)
theorem dX0_byLots_15 : decode cX0_byLots 15 = .ok (.iload_n 1, 1) := dk_27 (dk_at dksX0_byLots_0 15 rfl rfl)
theorem dX0_byLots_16 : decode cX0_byLots 16 = .ok (.iload 4, 2) := dk_21 4 (dk_at dksX0_byLots_0 16 rfl rfl)
theorem dX0_byLots_18 : decode cX0_byLots 18 = .ok (.invokevirtual 235, 3) := dk_182 0 235 (dk_at dksX0_byLots_0 18 rfl rfl)
theorem dX0_byLots_21 : decode cX0_byLots 21 = .ok (.istore 6, 2) := dk_54 6 (dk_at dksX0_byLots_0 21 rfl rfl)
theorem dX0_byLots_23 : decode cX0_byLots 23 = .ok (.iconst 0, 1) := dk_3 (dk_at dksX0_byLots_0 23 rfl rfl)
theorem dX0_byLots_24 : decode cX0_byLots 24 = .ok (.istore 7, 2) := dk_54 7 (dk_at dksX0_byLots_1 0 rfl rfl)
theorem dX0_byLots_26 : decode cX0_byLots 26 = .ok (.iload 7, 2) := dk_21 7 (dk_at dksX0_byLots_1 2 rfl rfl)
theorem dX0_byLots_28 : decode cX0_byLots 28 = .ok (.bipush 60, 2) := dk_16 60 (dk_at dksX0_byLots_1 4 rfl rfl)
theorem dX0_byLots_30 : decode cX0_byLots 30 = .ok (.if_icmp .ge 82, 3) := dk_162 0 82 (dk_at dksX0_byLots_1 6 rfl rfl)
theorem dX0_byLots_33 : decode cX0_byLots 33 = .ok (.iload 6, 2) := dk_21 6 (dk_at dksX0_byLots_1 9 rfl rfl)
theorem dX0_byLots_35 : decode cX0_byLots 35 = .ok (.bipush (-9), 2) := dk_16 247 (dk_at dksX0_byLots_1 11 rfl rfl)
theorem dX0_byLots_37 : decode cX0_byLots 37 = .ok (.if_icmp .eq 75, 3) := dk_159 0 75 (dk_at dksX0_byLots_1 13 rfl rfl)
theorem dX0_byLots_40 : decode cX0_byLots 40 = .ok (.iload_n 3, 1) := dk_29 (dk_at dksX0_byLots_1 16 rfl rfl)
theorem dX0_byLots_41 : decode cX0_byLots 41 = .ok (.ldc 238, 2) := dk_18 238 (dk_at dksX0_byLots_1 17 rfl rfl)
theorem dX0_byLots_43 : decode cX0_byLots 43 = .ok (.imul, 1) := dk_104 (dk_at dksX0_byLots_1 19 rfl rfl)
theorem dX0_byLots_44 : decode cX0_byLots 44 = .ok (.ldc 239, 2) := dk_18 239 (dk_at dksX0_byLots_1 20 rfl rfl)
theorem dX0_byLots_46 : decode cX0_byLots 46 = .ok (.iadd, 1) := dk_96 (dk_at dksX0_byLots_1 22 rfl rfl)
theorem dX0_byLots_47 : decode cX0_byLots 47 = .ok (.istore_n 3, 1) := dk_62 (dk_at dksX0_byLots_1 23 rfl rfl)
theorem dX0_byLots_48 : decode cX0_byLots 48 = .ok (.iload 5, 2) := dk_21 5 (dk_at dksX0_byLots_2 0 rfl rfl)
theorem dX0_byLots_50 : decode cX0_byLots 50 = .ok (.aload_n 0, 1) := dk_42 (dk_at dksX0_byLots_2 2 rfl rfl)
theorem dX0_byLots_51 : decode cX0_byLots 51 = .ok (.getfield 77, 3) := dk_180 0 77 (dk_at dksX0_byLots_2 3 rfl rfl)
theorem dX0_byLots_54 : decode cX0_byLots 54 = .ok (.iload 6, 2) := dk_21 6 (dk_at dksX0_byLots_2 6 rfl rfl)
theorem dX0_byLots_56 : decode cX0_byLots 56 = .ok (.iload 4, 2) := dk_21 4 (dk_at dksX0_byLots_2 8 rfl rfl)
theorem dX0_byLots_58 : decode cX0_byLots 58 = .ok (.invokevirtual 167, 3) := dk_182 0 167 (dk_at dksX0_byLots_2 10 rfl rfl)
theorem dX0_byLots_61 : decode cX0_byLots 61 = .ok (.iadd, 1) := dk_96 (dk_at dksX0_byLots_2 13 rfl rfl)
theorem dX0_byLots_62 : decode cX0_byLots 62 = .ok (.istore 5, 2) := dk_54 5 (dk_at dksX0_byLots_2 14 rfl rfl)
theorem dX0_byLots_64 : decode cX0_byLots 64 = .ok (.iload_n 3, 1) := dk_29 (dk_at dksX0_byLots_2 16 rfl rfl)
theorem dX0_byLots_65 : decode cX0_byLots 65 = .ok (.ldc 240, 2) := dk_18 240 (dk_at dksX0_byLots_2 17 rfl rfl)
theorem dX0_byLots_67 : decode cX0_byLots 67 = .ok (.iand, 1) := dk_126 (dk_at dksX0_byLots_2 19 rfl rfl)
theorem dX0_byLots_68 : decode cX0_byLots 68 = .ok (.sipush 256, 3) := dk_17 1 0 (dk_at dksX0_byLots_2 20 rfl rfl)
theorem dX0_byLots_71 : decode cX0_byLots 71 = .ok (.idiv, 1) := dk_108 (dk_at dksX0_byLots_2 23 rfl rfl)
theorem dX0_byLots_72 : decode cX0_byLots 72 = .ok (.bipush 10, 2) := dk_16 10 (dk_at dksX0_byLots_3 0 rfl rfl)
theorem dX0_byLots_74 : decode cX0_byLots 74 = .ok (.irem, 1) := dk_112 (dk_at dksX0_byLots_3 2 rfl rfl)
theorem dX0_byLots_75 : decode cX0_byLots 75 = .ok (.aload_n 0, 1) := dk_42 (dk_at dksX0_byLots_3 3 rfl rfl)
theorem dX0_byLots_76 : decode cX0_byLots 76 = .ok (.getfield 77, 3) := dk_180 0 77 (dk_at dksX0_byLots_3 4 rfl rfl)
theorem dX0_byLots_79 : decode cX0_byLots 79 = .ok (.getfield 195, 3) := dk_180 0 195 (dk_at dksX0_byLots_3 7 rfl rfl)
theorem dX0_byLots_82 : decode cX0_byLots 82 = .ok (.iload 6, 2) := dk_21 6 (dk_at dksX0_byLots_3 10 rfl rfl)
theorem dX0_byLots_84 : decode cX0_byLots 84 = .ok (.iaload, 1) := dk_46 (dk_at dksX0_byLots_3 12 rfl rfl)
theorem dX0_byLots_85 : decode cX0_byLots 85 = .ok (.if_icmp .ge 21, 3) := dk_162 0 21 (dk_at dksX0_byLots_3 13 rfl rfl)
theorem dX0_byLots_88 : decode cX0_byLots 88 = .ok (.iload 4, 2) := dk_21 4 (dk_at dksX0_byLots_3 16 rfl rfl)
theorem dX0_byLots_90 : decode cX0_byLots 90 = .ok (.iconst 1, 1) := dk_4 (dk_at dksX0_byLots_3 18 rfl rfl)
theorem dX0_byLots_91 : decode cX0_byLots 91 = .ok (.iload 6, 2) := dk_21 6 (dk_at dksX0_byLots_3 19 rfl rfl)
theorem dX0_byLots_93 : decode cX0_byLots 93 = .ok (.ishl, 1) := dk_120 (dk_at dksX0_byLots_3 21 rfl rfl)
theorem dX0_byLots_94 : decode cX0_byLots 94 = .ok (.ior, 1) := dk_128 (dk_at dksX0_byLots_3 22 rfl rfl)
theorem dX0_byLots_95 : decode cX0_byLots 95 = .ok (.istore 4, 2) := dk_54 4 (dk_at dksX0_byLots_4 0 rfl rfl)
theorem dX0_byLots_97 : decode cX0_byLots 97 = .ok (.aload_n 0, 1) := dk_42 (dk_at dksX0_byLots_4 2 rfl rfl)
theorem dX0_byLots_98 : decode cX0_byLots 98 = .ok (.iload_n 1, 1) := dk_27 (dk_at dksX0_byLots_4 3 rfl rfl)
theorem dX0_byLots_99 : decode cX0_byLots 99 = .ok (.iload 4, 2) := dk_21 4 (dk_at dksX0_byLots_4 4 rfl rfl)
theorem dX0_byLots_101 : decode cX0_byLots 101 = .ok (.invokevirtual 235, 3) := dk_182 0 235 (dk_at dksX0_byLots_4 6 rfl rfl)
theorem dX0_byLots_104 : decode cX0_byLots 104 = .ok (.istore 6, 2) := dk_54 6 (dk_at dksX0_byLots_4 9 rfl rfl)
theorem dX0_byLots_106 : decode cX0_byLots 106 = .ok (.iinc 7 1, 3) := dk_132 7 1 (dk_at dksX0_byLots_4 11 rfl rfl)
theorem dX0_byLots_109 : decode cX0_byLots 109 = .ok (.goto (-83), 3) := dk_167 255 173 (dk_at dksX0_byLots_4 14 rfl rfl)
theorem dX0_byLots_112 : decode cX0_byLots 112 = .ok (.iload 5, 2) := dk_21 5 (dk_at dksX0_byLots_4 17 rfl rfl)
theorem dX0_byLots_114 : decode cX0_byLots 114 = .ok (.ireturn, 1) := dk_172 (dk_at dksX0_byLots_4 19 rfl rfl)
abbrev cX0_refuse : ByteArray := prog_1_method_31_code
def yX0_refuse : MethodName := ⟨RX0, "refuse", "(I)I"⟩
def dkwX0_refuse_0 : List UInt8 := [27, 16, 236, 164, 0, 14, 42, 180, 0, 95, 27, 116, 92, 46, 4, 96, 79, 27, 172]
abbrev dktX0_refuse_0 : List UInt8 := dkwX0_refuse_0 ++ []
theorem dksX0_refuse_0 : cX0_refuse.data.toList.drop 0 = dktX0_refuse_0 := by decide +kernel
theorem dX0_refuse_0 : decode cX0_refuse 0 = .ok (.iload_n 1, 1) := dk_27 (dk_at dksX0_refuse_0 0 rfl rfl)
theorem dX0_refuse_1 : decode cX0_refuse 1 = .ok (.bipush (-20), 2) := dk_16 236 (dk_at dksX0_refuse_0 1 rfl rfl)
theorem dX0_refuse_3 : decode cX0_refuse 3 = .ok (.if_icmp .le 14, 3) := dk_164 0 14 (dk_at dksX0_refuse_0 3 rfl rfl)
theorem dX0_refuse_6 : decode cX0_refuse 6 = .ok (.aload_n 0, 1) := dk_42 (dk_at dksX0_refuse_0 6 rfl rfl)
theorem dX0_refuse_7 : decode cX0_refuse 7 = .ok (.getfield 95, 3) := dk_180 0 95 (dk_at dksX0_refuse_0 7 rfl rfl)
theorem dX0_refuse_10 : decode cX0_refuse 10 = .ok (.iload_n 1, 1) := dk_27 (dk_at dksX0_refuse_0 10 rfl rfl)
theorem dX0_refuse_11 : decode cX0_refuse 11 = .ok (.ineg, 1) := dk_116 (dk_at dksX0_refuse_0 11 rfl rfl)
theorem dX0_refuse_12 : decode cX0_refuse 12 = .ok (.dup2, 1) := dk_92 (dk_at dksX0_refuse_0 12 rfl rfl)
theorem dX0_refuse_13 : decode cX0_refuse 13 = .ok (.iaload, 1) := dk_46 (dk_at dksX0_refuse_0 13 rfl rfl)
theorem dX0_refuse_14 : decode cX0_refuse 14 = .ok (.iconst 1, 1) := dk_4 (dk_at dksX0_refuse_0 14 rfl rfl)
theorem dX0_refuse_15 : decode cX0_refuse 15 = .ok (.iadd, 1) := dk_96 (dk_at dksX0_refuse_0 15 rfl rfl)
theorem dX0_refuse_16 : decode cX0_refuse 16 = .ok (.iastore, 1) := dk_79 (dk_at dksX0_refuse_0 16 rfl rfl)
theorem dX0_refuse_17 : decode cX0_refuse 17 = .ok (.iload_n 1, 1) := dk_27 (dk_at dksX0_refuse_0 17 rfl rfl)
theorem dX0_refuse_18 : decode cX0_refuse 18 = .ok (.ireturn, 1) := dk_172 (dk_at dksX0_refuse_0 18 rfl rfl)
abbrev cX0_house : ByteArray := prog_1_method_56_code
def yX0_house : MethodName := ⟨RX0, "house", "()I"⟩
def dkwX0_house_0 : List UInt8 := [42, 4, 3, 3, 3, 182, 1, 147, 172]
abbrev dktX0_house_0 : List UInt8 := dkwX0_house_0 ++ []
theorem dksX0_house_0 : cX0_house.data.toList.drop 0 = dktX0_house_0 := by decide +kernel
theorem dX0_house_0 : decode cX0_house 0 = .ok (.aload_n 0, 1) := dk_42 (dk_at dksX0_house_0 0 rfl rfl)
theorem dX0_house_1 : decode cX0_house 1 = .ok (.iconst 1, 1) := dk_4 (dk_at dksX0_house_0 1 rfl rfl)
theorem dX0_house_2 : decode cX0_house 2 = .ok (.iconst 0, 1) := dk_3 (dk_at dksX0_house_0 2 rfl rfl)
theorem dX0_house_3 : decode cX0_house 3 = .ok (.iconst 0, 1) := dk_3 (dk_at dksX0_house_0 3 rfl rfl)
theorem dX0_house_4 : decode cX0_house 4 = .ok (.iconst 0, 1) := dk_3 (dk_at dksX0_house_0 4 rfl rfl)
theorem dX0_house_5 : decode cX0_house 5 = .ok (.invokevirtual 403, 3) := dk_182 1 147 (dk_at dksX0_house_0 5 rfl rfl)
theorem dX0_house_8 : decode cX0_house 8 = .ok (.ireturn, 1) := dk_172 (dk_at dksX0_house_0 8 rfl rfl)
abbrev cX0_thing : ByteArray := prog_1_method_57_code
def yX0_thing : MethodName := ⟨RX0, "thing", "(II)I"⟩
def dkwX0_thing_0 : List UInt8 := [42, 5, 27, 28, 3, 182, 1, 147, 172]
abbrev dktX0_thing_0 : List UInt8 := dkwX0_thing_0 ++ []
theorem dksX0_thing_0 : cX0_thing.data.toList.drop 0 = dktX0_thing_0 := by decide +kernel
theorem dX0_thing_0 : decode cX0_thing 0 = .ok (.aload_n 0, 1) := dk_42 (dk_at dksX0_thing_0 0 rfl rfl)
theorem dX0_thing_1 : decode cX0_thing 1 = .ok (.iconst 2, 1) := dk_5 (dk_at dksX0_thing_0 1 rfl rfl)
theorem dX0_thing_2 : decode cX0_thing 2 = .ok (.iload_n 1, 1) := dk_27 (dk_at dksX0_thing_0 2 rfl rfl)
theorem dX0_thing_3 : decode cX0_thing 3 = .ok (.iload_n 2, 1) := dk_28 (dk_at dksX0_thing_0 3 rfl rfl)
theorem dX0_thing_4 : decode cX0_thing 4 = .ok (.iconst 0, 1) := dk_3 (dk_at dksX0_thing_0 4 rfl rfl)
theorem dX0_thing_5 : decode cX0_thing 5 = .ok (.invokevirtual 403, 3) := dk_182 1 147 (dk_at dksX0_thing_0 5 rfl rfl)
theorem dX0_thing_8 : decode cX0_thing 8 = .ok (.ireturn, 1) := dk_172 (dk_at dksX0_thing_0 8 rfl rfl)
abbrev cX0_need : ByteArray := prog_1_method_58_code
def yX0_need : MethodName := ⟨RX0, "need", "(III)I"⟩
def dkwX0_need_0 : List UInt8 := [42, 6, 27, 28, 29, 182, 1, 147, 172]
abbrev dktX0_need_0 : List UInt8 := dkwX0_need_0 ++ []
theorem dksX0_need_0 : cX0_need.data.toList.drop 0 = dktX0_need_0 := by decide +kernel
theorem dX0_need_0 : decode cX0_need 0 = .ok (.aload_n 0, 1) := dk_42 (dk_at dksX0_need_0 0 rfl rfl)
theorem dX0_need_1 : decode cX0_need 1 = .ok (.iconst 3, 1) := dk_6 (dk_at dksX0_need_0 1 rfl rfl)
theorem dX0_need_2 : decode cX0_need 2 = .ok (.iload_n 1, 1) := dk_27 (dk_at dksX0_need_0 2 rfl rfl)
theorem dX0_need_3 : decode cX0_need 3 = .ok (.iload_n 2, 1) := dk_28 (dk_at dksX0_need_0 3 rfl rfl)
theorem dX0_need_4 : decode cX0_need 4 = .ok (.iload_n 3, 1) := dk_29 (dk_at dksX0_need_0 4 rfl rfl)
theorem dX0_need_5 : decode cX0_need 5 = .ok (.invokevirtual 403, 3) := dk_182 1 147 (dk_at dksX0_need_0 5 rfl rfl)
theorem dX0_need_8 : decode cX0_need 8 = .ok (.ireturn, 1) := dk_172 (dk_at dksX0_need_0 8 rfl rfl)
abbrev cX0_hand : ByteArray := prog_1_method_59_code
def yX0_hand : MethodName := ⟨RX0, "hand", "(I)I"⟩
def dkwX0_hand_0 : List UInt8 := [42, 7, 27, 3, 3, 182, 1, 147, 172]
abbrev dktX0_hand_0 : List UInt8 := dkwX0_hand_0 ++ []
theorem dksX0_hand_0 : cX0_hand.data.toList.drop 0 = dktX0_hand_0 := by decide +kernel
theorem dX0_hand_0 : decode cX0_hand 0 = .ok (.aload_n 0, 1) := dk_42 (dk_at dksX0_hand_0 0 rfl rfl)
theorem dX0_hand_1 : decode cX0_hand 1 = .ok (.iconst 4, 1) := dk_7 (dk_at dksX0_hand_0 1 rfl rfl)
theorem dX0_hand_2 : decode cX0_hand 2 = .ok (.iload_n 1, 1) := dk_27 (dk_at dksX0_hand_0 2 rfl rfl)
theorem dX0_hand_3 : decode cX0_hand 3 = .ok (.iconst 0, 1) := dk_3 (dk_at dksX0_hand_0 3 rfl rfl)
theorem dX0_hand_4 : decode cX0_hand 4 = .ok (.iconst 0, 1) := dk_3 (dk_at dksX0_hand_0 4 rfl rfl)
theorem dX0_hand_5 : decode cX0_hand 5 = .ok (.invokevirtual 403, 3) := dk_182 1 147 (dk_at dksX0_hand_0 5 rfl rfl)
theorem dX0_hand_8 : decode cX0_hand 8 = .ok (.ireturn, 1) := dk_172 (dk_at dksX0_hand_0 8 rfl rfl)
abbrev cX0_take : ByteArray := prog_1_method_60_code
def yX0_take : MethodName := ⟨RX0, "take", "(I)I"⟩
def dkwX0_take_0 : List UInt8 := [42, 8, 27, 3, 3, 182, 1, 147, 172]
abbrev dktX0_take_0 : List UInt8 := dkwX0_take_0 ++ []
theorem dksX0_take_0 : cX0_take.data.toList.drop 0 = dktX0_take_0 := by decide +kernel
theorem dX0_take_0 : decode cX0_take 0 = .ok (.aload_n 0, 1) := dk_42 (dk_at dksX0_take_0 0 rfl rfl)
theorem dX0_take_1 : decode cX0_take 1 = .ok (.iconst 5, 1) := dk_8 (dk_at dksX0_take_0 1 rfl rfl)
theorem dX0_take_2 : decode cX0_take 2 = .ok (.iload_n 1, 1) := dk_27 (dk_at dksX0_take_0 2 rfl rfl)
theorem dX0_take_3 : decode cX0_take 3 = .ok (.iconst 0, 1) := dk_3 (dk_at dksX0_take_0 3 rfl rfl)
theorem dX0_take_4 : decode cX0_take 4 = .ok (.iconst 0, 1) := dk_3 (dk_at dksX0_take_0 4 rfl rfl)
theorem dX0_take_5 : decode cX0_take 5 = .ok (.invokevirtual 403, 3) := dk_182 1 147 (dk_at dksX0_take_0 5 rfl rfl)
theorem dX0_take_8 : decode cX0_take 8 = .ok (.ireturn, 1) := dk_172 (dk_at dksX0_take_0 8 rfl rfl)
abbrev cX0_may : ByteArray := prog_1_method_61_code
def yX0_may : MethodName := ⟨RX0, "may", "()I"⟩
def dkwX0_may_0 : List UInt8 := [42, 16, 6, 3, 3, 3, 182, 1, 147, 172]
abbrev dktX0_may_0 : List UInt8 := dkwX0_may_0 ++ []
theorem dksX0_may_0 : cX0_may.data.toList.drop 0 = dktX0_may_0 := by decide +kernel
theorem dX0_may_0 : decode cX0_may 0 = .ok (.aload_n 0, 1) := dk_42 (dk_at dksX0_may_0 0 rfl rfl)
theorem dX0_may_1 : decode cX0_may 1 = .ok (.bipush 6, 2) := dk_16 6 (dk_at dksX0_may_0 1 rfl rfl)
theorem dX0_may_3 : decode cX0_may 3 = .ok (.iconst 0, 1) := dk_3 (dk_at dksX0_may_0 3 rfl rfl)
theorem dX0_may_4 : decode cX0_may 4 = .ok (.iconst 0, 1) := dk_3 (dk_at dksX0_may_0 4 rfl rfl)
theorem dX0_may_5 : decode cX0_may 5 = .ok (.iconst 0, 1) := dk_3 (dk_at dksX0_may_0 5 rfl rfl)
theorem dX0_may_6 : decode cX0_may 6 = .ok (.invokevirtual 403, 3) := dk_182 1 147 (dk_at dksX0_may_0 6 rfl rfl)
theorem dX0_may_9 : decode cX0_may 9 = .ok (.ireturn, 1) := dk_172 (dk_at dksX0_may_0 9 rfl rfl)
abbrev cX0_with : ByteArray := prog_1_method_62_code
def yX0_with : MethodName := ⟨RX0, "with", "(I)I"⟩
def dkwX0_with_0 : List UInt8 := [42, 16, 7, 27, 3, 3, 182, 1, 147, 172]
abbrev dktX0_with_0 : List UInt8 := dkwX0_with_0 ++ []
theorem dksX0_with_0 : cX0_with.data.toList.drop 0 = dktX0_with_0 := by decide +kernel
theorem dX0_with_0 : decode cX0_with 0 = .ok (.aload_n 0, 1) := dk_42 (dk_at dksX0_with_0 0 rfl rfl)
theorem dX0_with_1 : decode cX0_with 1 = .ok (.bipush 7, 2) := dk_16 7 (dk_at dksX0_with_0 1 rfl rfl)
theorem dX0_with_3 : decode cX0_with 3 = .ok (.iload_n 1, 1) := dk_27 (dk_at dksX0_with_0 3 rfl rfl)
theorem dX0_with_4 : decode cX0_with 4 = .ok (.iconst 0, 1) := dk_3 (dk_at dksX0_with_0 4 rfl rfl)
theorem dX0_with_5 : decode cX0_with 5 = .ok (.iconst 0, 1) := dk_3 (dk_at dksX0_with_0 5 rfl rfl)
theorem dX0_with_6 : decode cX0_with 6 = .ok (.invokevirtual 403, 3) := dk_182 1 147 (dk_at dksX0_with_0 6 rfl rfl)
theorem dX0_with_9 : decode cX0_with 9 = .ok (.ireturn, 1) := dk_172 (dk_at dksX0_with_0 9 rfl rfl)
abbrev cX0_reach : ByteArray := prog_1_method_63_code
def yX0_reach : MethodName := ⟨RX0, "reach", "()I"⟩
def dkwX0_reach_0 : List UInt8 := [42, 16, 8, 3, 3, 3, 182, 1, 147, 172]
abbrev dktX0_reach_0 : List UInt8 := dkwX0_reach_0 ++ []
theorem dksX0_reach_0 : cX0_reach.data.toList.drop 0 = dktX0_reach_0 := by decide +kernel
theorem dX0_reach_0 : decode cX0_reach 0 = .ok (.aload_n 0, 1) := dk_42 (dk_at dksX0_reach_0 0 rfl rfl)
theorem dX0_reach_1 : decode cX0_reach 1 = .ok (.bipush 8, 2) := dk_16 8 (dk_at dksX0_reach_0 1 rfl rfl)
theorem dX0_reach_3 : decode cX0_reach 3 = .ok (.iconst 0, 1) := dk_3 (dk_at dksX0_reach_0 3 rfl rfl)
theorem dX0_reach_4 : decode cX0_reach 4 = .ok (.iconst 0, 1) := dk_3 (dk_at dksX0_reach_0 4 rfl rfl)
theorem dX0_reach_5 : decode cX0_reach 5 = .ok (.iconst 0, 1) := dk_3 (dk_at dksX0_reach_0 5 rfl rfl)
theorem dX0_reach_6 : decode cX0_reach 6 = .ok (.invokevirtual 403, 3) := dk_182 1 147 (dk_at dksX0_reach_0 6 rfl rfl)
theorem dX0_reach_9 : decode cX0_reach 9 = .ok (.ireturn, 1) := dk_172 (dk_at dksX0_reach_0 9 rfl rfl)
abbrev cX0_soonest : ByteArray := prog_1_method_64_code
def yX0_soonest : MethodName := ⟨RX0, "soonest", "(II)I"⟩
def dkwX0_soonest_0 : List UInt8 := [42, 16, 9, 27, 28, 3, 182, 1, 147, 172]
abbrev dktX0_soonest_0 : List UInt8 := dkwX0_soonest_0 ++ []
theorem dksX0_soonest_0 : cX0_soonest.data.toList.drop 0 = dktX0_soonest_0 := by decide +kernel
theorem dX0_soonest_0 : decode cX0_soonest 0 = .ok (.aload_n 0, 1) := dk_42 (dk_at dksX0_soonest_0 0 rfl rfl)
theorem dX0_soonest_1 : decode cX0_soonest 1 = .ok (.bipush 9, 2) := dk_16 9 (dk_at dksX0_soonest_0 1 rfl rfl)
theorem dX0_soonest_3 : decode cX0_soonest 3 = .ok (.iload_n 1, 1) := dk_27 (dk_at dksX0_soonest_0 3 rfl rfl)
theorem dX0_soonest_4 : decode cX0_soonest 4 = .ok (.iload_n 2, 1) := dk_28 (dk_at dksX0_soonest_0 4 rfl rfl)
theorem dX0_soonest_5 : decode cX0_soonest 5 = .ok (.iconst 0, 1) := dk_3 (dk_at dksX0_soonest_0 5 rfl rfl)
theorem dX0_soonest_6 : decode cX0_soonest 6 = .ok (.invokevirtual 403, 3) := dk_182 1 147 (dk_at dksX0_soonest_0 6 rfl rfl)
theorem dX0_soonest_9 : decode cX0_soonest 9 = .ok (.ireturn, 1) := dk_172 (dk_at dksX0_soonest_0 9 rfl rfl)
abbrev cX0_mean : ByteArray := prog_1_method_65_code
def yX0_mean : MethodName := ⟨RX0, "mean", "(II)J"⟩
def dkwX0_mean_0 : List UInt8 := [42, 27, 28, 182, 1, 150, 173]
abbrev dktX0_mean_0 : List UInt8 := dkwX0_mean_0 ++ []
theorem dksX0_mean_0 : cX0_mean.data.toList.drop 0 = dktX0_mean_0 := by decide +kernel
theorem dX0_mean_0 : decode cX0_mean 0 = .ok (.aload_n 0, 1) := dk_42 (dk_at dksX0_mean_0 0 rfl rfl)
theorem dX0_mean_1 : decode cX0_mean 1 = .ok (.iload_n 1, 1) := dk_27 (dk_at dksX0_mean_0 1 rfl rfl)
theorem dX0_mean_2 : decode cX0_mean 2 = .ok (.iload_n 2, 1) := dk_28 (dk_at dksX0_mean_0 2 rfl rfl)
theorem dX0_mean_3 : decode cX0_mean 3 = .ok (.invokevirtual 406, 3) := dk_182 1 150 (dk_at dksX0_mean_0 3 rfl rfl)
theorem dX0_mean_6 : decode cX0_mean 6 = .ok (.lreturn, 1) := dk_173 (dk_at dksX0_mean_0 6 rfl rfl)
abbrev cX0_meanTold : ByteArray := prog_1_method_52_code
def yX0_meanTold : MethodName := ⟨RX0, "meanTold", "(II)J"⟩
def dkwX0_meanTold_1 : List UInt8 := [45, 182, 1, 138, 173]
abbrev dktX0_meanTold_1 : List UInt8 := dkwX0_meanTold_1 ++ []
def dkwX0_meanTold_0 : List UInt8 := [42, 27, 182, 1, 15, 28, 184, 1, 42, 42, 27, 182, 1, 132, 20, 1, 136, 28, 184, 0, 200, 173, 78, 42]
abbrev dktX0_meanTold_0 : List UInt8 := dkwX0_meanTold_0 ++ dktX0_meanTold_1
theorem dksX0_meanTold_0 : cX0_meanTold.data.toList.drop 0 = dktX0_meanTold_0 := by decide +kernel
theorem dksX0_meanTold_1 : cX0_meanTold.data.toList.drop 24 = dktX0_meanTold_1 := dk_seg dksX0_meanTold_0 24 rfl rfl
theorem dX0_meanTold_0 : decode cX0_meanTold 0 = .ok (.aload_n 0, 1) := dk_42 (dk_at dksX0_meanTold_0 0 rfl rfl)
theorem dX0_meanTold_1 : decode cX0_meanTold 1 = .ok (.iload_n 1, 1) := dk_27 (dk_at dksX0_meanTold_0 1 rfl rfl)
theorem dX0_meanTold_2 : decode cX0_meanTold 2 = .ok (.invokevirtual 271, 3) := dk_182 1 15 (dk_at dksX0_meanTold_0 2 rfl rfl)
theorem dX0_meanTold_5 : decode cX0_meanTold 5 = .ok (.iload_n 2, 1) := dk_28 (dk_at dksX0_meanTold_0 5 rfl rfl)
theorem dX0_meanTold_6 : decode cX0_meanTold 6 = .ok (.invokestatic 298, 3) := dk_184 1 42 (dk_at dksX0_meanTold_0 6 rfl rfl)
theorem dX0_meanTold_9 : decode cX0_meanTold 9 = .ok (.aload_n 0, 1) := dk_42 (dk_at dksX0_meanTold_0 9 rfl rfl)
theorem dX0_meanTold_10 : decode cX0_meanTold 10 = .ok (.iload_n 1, 1) := dk_27 (dk_at dksX0_meanTold_0 10 rfl rfl)
theorem dX0_meanTold_11 : decode cX0_meanTold 11 = .ok (.invokevirtual 388, 3) := dk_182 1 132 (dk_at dksX0_meanTold_0 11 rfl rfl)
theorem dX0_meanTold_14 : decode cX0_meanTold 14 = .ok (.ldc2_w 392, 3) := dk_20 1 136 (dk_at dksX0_meanTold_0 14 rfl rfl)
theorem dX0_meanTold_17 : decode cX0_meanTold 17 = .ok (.iload_n 2, 1) := dk_28 (dk_at dksX0_meanTold_0 17 rfl rfl)
theorem dX0_meanTold_18 : decode cX0_meanTold 18 = .ok (.invokestatic 200, 3) := dk_184 0 200 (dk_at dksX0_meanTold_0 18 rfl rfl)
theorem dX0_meanTold_21 : decode cX0_meanTold 21 = .ok (.lreturn, 1) := dk_173 (dk_at dksX0_meanTold_0 21 rfl rfl)
theorem dX0_meanTold_22 : decode cX0_meanTold 22 = .ok (.astore_n 3, 1) := dk_78 (dk_at dksX0_meanTold_0 22 rfl rfl)
theorem dX0_meanTold_23 : decode cX0_meanTold 23 = .ok (.aload_n 0, 1) := dk_42 (dk_at dksX0_meanTold_0 23 rfl rfl)
theorem dX0_meanTold_24 : decode cX0_meanTold 24 = .ok (.aload_n 3, 1) := dk_45 (dk_at dksX0_meanTold_1 0 rfl rfl)
theorem dX0_meanTold_25 : decode cX0_meanTold 25 = .ok (.invokevirtual 394, 3) := dk_182 1 138 (dk_at dksX0_meanTold_1 1 rfl rfl)
theorem dX0_meanTold_28 : decode cX0_meanTold 28 = .ok (.lreturn, 1) := dk_173 (dk_at dksX0_meanTold_1 4 rfl rfl)
abbrev cX0_meanFor : ByteArray := prog_1_method_14_code
def yX0_meanFor : MethodName := ⟨RX0, "meanFor", "(I)J"⟩
def dkwX0_meanFor_2 : List UInt8 := [132, 4, 1, 167, 255, 216, 32, 20, 0, 158, 148, 155, 0, 7, 9, 167, 0, 4, 32, 173]
abbrev dktX0_meanFor_2 : List UInt8 := dkwX0_meanFor_2 ++ []
def dkwX0_meanFor_1 : List UInt8 := [21, 4, 2, 130, 126, 154, 0, 17, 32, 42, 180, 0, 102, 21, 4, 47, 184, 0, 180, 167, 0, 4, 32, 65]
abbrev dktX0_meanFor_1 : List UInt8 := dkwX0_meanFor_1 ++ dktX0_meanFor_2
def dkwX0_meanFor_0 : List UInt8 := [42, 182, 0, 182, 20, 0, 158, 65, 3, 54, 4, 21, 4, 42, 180, 0, 77, 182, 0, 150, 163, 0, 34, 27]
abbrev dktX0_meanFor_0 : List UInt8 := dkwX0_meanFor_0 ++ dktX0_meanFor_1
theorem dksX0_meanFor_0 : cX0_meanFor.data.toList.drop 0 = dktX0_meanFor_0 := by decide +kernel
theorem dksX0_meanFor_1 : cX0_meanFor.data.toList.drop 24 = dktX0_meanFor_1 := dk_seg dksX0_meanFor_0 24 rfl rfl
theorem dksX0_meanFor_2 : cX0_meanFor.data.toList.drop 48 = dktX0_meanFor_2 := dk_seg dksX0_meanFor_1 24 rfl rfl
theorem dX0_meanFor_0 : decode cX0_meanFor 0 = .ok (.aload_n 0, 1) := dk_42 (dk_at dksX0_meanFor_0 0 rfl rfl)
theorem dX0_meanFor_1 : decode cX0_meanFor 1 = .ok (.invokevirtual 182, 3) := dk_182 0 182 (dk_at dksX0_meanFor_0 1 rfl rfl)
theorem dX0_meanFor_4 : decode cX0_meanFor 4 = .ok (.ldc2_w 158, 3) := dk_20 0 158 (dk_at dksX0_meanFor_0 4 rfl rfl)
theorem dX0_meanFor_7 : decode cX0_meanFor 7 = .ok (.lstore_n 2, 1) := dk_65 (dk_at dksX0_meanFor_0 7 rfl rfl)
theorem dX0_meanFor_8 : decode cX0_meanFor 8 = .ok (.iconst 0, 1) := dk_3 (dk_at dksX0_meanFor_0 8 rfl rfl)
theorem dX0_meanFor_9 : decode cX0_meanFor 9 = .ok (.istore 4, 2) := dk_54 4 (dk_at dksX0_meanFor_0 9 rfl rfl)
theorem dX0_meanFor_11 : decode cX0_meanFor 11 = .ok (.iload 4, 2) := dk_21 4 (dk_at dksX0_meanFor_0 11 rfl rfl)
theorem dX0_meanFor_13 : decode cX0_meanFor 13 = .ok (.aload_n 0, 1) := dk_42 (dk_at dksX0_meanFor_0 13 rfl rfl)
theorem dX0_meanFor_14 : decode cX0_meanFor 14 = .ok (.getfield 77, 3) := dk_180 0 77 (dk_at dksX0_meanFor_0 14 rfl rfl)
theorem dX0_meanFor_17 : decode cX0_meanFor 17 = .ok (.invokevirtual 150, 3) := dk_182 0 150 (dk_at dksX0_meanFor_0 17 rfl rfl)
theorem dX0_meanFor_20 : decode cX0_meanFor 20 = .ok (.if_icmp .gt 34, 3) := dk_163 0 34 (dk_at dksX0_meanFor_0 20 rfl rfl)
theorem dX0_meanFor_23 : decode cX0_meanFor 23 = .ok (.iload_n 1, 1) := dk_27 (dk_at dksX0_meanFor_0 23 rfl rfl)
theorem dX0_meanFor_24 : decode cX0_meanFor 24 = .ok (.iload 4, 2) := dk_21 4 (dk_at dksX0_meanFor_1 0 rfl rfl)
theorem dX0_meanFor_26 : decode cX0_meanFor 26 = .ok (.iconst (-1), 1) := dk_2 (dk_at dksX0_meanFor_1 2 rfl rfl)
theorem dX0_meanFor_27 : decode cX0_meanFor 27 = .ok (.ixor, 1) := dk_130 (dk_at dksX0_meanFor_1 3 rfl rfl)
theorem dX0_meanFor_28 : decode cX0_meanFor 28 = .ok (.iand, 1) := dk_126 (dk_at dksX0_meanFor_1 4 rfl rfl)
theorem dX0_meanFor_29 : decode cX0_meanFor 29 = .ok (.ifCond .ne 17, 3) := dk_154 0 17 (dk_at dksX0_meanFor_1 5 rfl rfl)
theorem dX0_meanFor_32 : decode cX0_meanFor 32 = .ok (.lload_n 2, 1) := dk_32 (dk_at dksX0_meanFor_1 8 rfl rfl)
theorem dX0_meanFor_33 : decode cX0_meanFor 33 = .ok (.aload_n 0, 1) := dk_42 (dk_at dksX0_meanFor_1 9 rfl rfl)
theorem dX0_meanFor_34 : decode cX0_meanFor 34 = .ok (.getfield 102, 3) := dk_180 0 102 (dk_at dksX0_meanFor_1 10 rfl rfl)
theorem dX0_meanFor_37 : decode cX0_meanFor 37 = .ok (.iload 4, 2) := dk_21 4 (dk_at dksX0_meanFor_1 13 rfl rfl)
theorem dX0_meanFor_39 : decode cX0_meanFor 39 = .ok (.laload, 1) := dk_47 (dk_at dksX0_meanFor_1 15 rfl rfl)
theorem dX0_meanFor_40 : decode cX0_meanFor 40 = .ok (.invokestatic 180, 3) := dk_184 0 180 (dk_at dksX0_meanFor_1 16 rfl rfl)
theorem dX0_meanFor_43 : decode cX0_meanFor 43 = .ok (.goto 4, 3) := dk_167 0 4 (dk_at dksX0_meanFor_1 19 rfl rfl)
theorem dX0_meanFor_46 : decode cX0_meanFor 46 = .ok (.lload_n 2, 1) := dk_32 (dk_at dksX0_meanFor_1 22 rfl rfl)
theorem dX0_meanFor_47 : decode cX0_meanFor 47 = .ok (.lstore_n 2, 1) := dk_65 (dk_at dksX0_meanFor_1 23 rfl rfl)
theorem dX0_meanFor_48 : decode cX0_meanFor 48 = .ok (.iinc 4 1, 3) := dk_132 4 1 (dk_at dksX0_meanFor_2 0 rfl rfl)
theorem dX0_meanFor_51 : decode cX0_meanFor 51 = .ok (.goto (-40), 3) := dk_167 255 216 (dk_at dksX0_meanFor_2 3 rfl rfl)
theorem dX0_meanFor_54 : decode cX0_meanFor 54 = .ok (.lload_n 2, 1) := dk_32 (dk_at dksX0_meanFor_2 6 rfl rfl)
theorem dX0_meanFor_55 : decode cX0_meanFor 55 = .ok (.ldc2_w 158, 3) := dk_20 0 158 (dk_at dksX0_meanFor_2 7 rfl rfl)
theorem dX0_meanFor_58 : decode cX0_meanFor 58 = .ok (.lcmp, 1) := dk_148 (dk_at dksX0_meanFor_2 10 rfl rfl)
theorem dX0_meanFor_59 : decode cX0_meanFor 59 = .ok (.ifCond .lt 7, 3) := dk_155 0 7 (dk_at dksX0_meanFor_2 11 rfl rfl)
theorem dX0_meanFor_62 : decode cX0_meanFor 62 = .ok (.lconst 0, 1) := dk_9 (dk_at dksX0_meanFor_2 14 rfl rfl)
theorem dX0_meanFor_63 : decode cX0_meanFor 63 = .ok (.goto 4, 3) := dk_167 0 4 (dk_at dksX0_meanFor_2 15 rfl rfl)
theorem dX0_meanFor_66 : decode cX0_meanFor 66 = .ok (.lload_n 2, 1) := dk_32 (dk_at dksX0_meanFor_2 18 rfl rfl)
theorem dX0_meanFor_67 : decode cX0_meanFor 67 = .ok (.lreturn, 1) := dk_173 (dk_at dksX0_meanFor_2 19 rfl rfl)
abbrev cX0_partOf : ByteArray := prog_1_method_8_code
def yX0_partOf : MethodName := ⟨RX0, "partOf", "(JJI)J"⟩
def dkwX0_partOf_1 : List UInt8 := [22, 5, 109, 167, 0, 7, 32, 22, 5, 109, 173]
abbrev dktX0_partOf_1 : List UInt8 := dkwX0_partOf_1 ++ []
def dkwX0_partOf_0 : List UInt8 := [30, 9, 148, 154, 0, 7, 21, 4, 133, 173, 30, 32, 184, 0, 17, 55, 5, 21, 4, 154, 0, 10, 30]
abbrev dktX0_partOf_0 : List UInt8 := dkwX0_partOf_0 ++ dktX0_partOf_1
theorem dksX0_partOf_0 : cX0_partOf.data.toList.drop 0 = dktX0_partOf_0 := by decide +kernel
theorem dksX0_partOf_1 : cX0_partOf.data.toList.drop 23 = dktX0_partOf_1 := dk_seg dksX0_partOf_0 23 rfl rfl
theorem dX0_partOf_0 : decode cX0_partOf 0 = .ok (.lload_n 0, 1) := dk_30 (dk_at dksX0_partOf_0 0 rfl rfl)
theorem dX0_partOf_1 : decode cX0_partOf 1 = .ok (.lconst 0, 1) := dk_9 (dk_at dksX0_partOf_0 1 rfl rfl)
theorem dX0_partOf_2 : decode cX0_partOf 2 = .ok (.lcmp, 1) := dk_148 (dk_at dksX0_partOf_0 2 rfl rfl)
theorem dX0_partOf_3 : decode cX0_partOf 3 = .ok (.ifCond .ne 7, 3) := dk_154 0 7 (dk_at dksX0_partOf_0 3 rfl rfl)
theorem dX0_partOf_6 : decode cX0_partOf 6 = .ok (.iload 4, 2) := dk_21 4 (dk_at dksX0_partOf_0 6 rfl rfl)
theorem dX0_partOf_8 : decode cX0_partOf 8 = .ok (.i2l, 1) := dk_133 (dk_at dksX0_partOf_0 8 rfl rfl)
theorem dX0_partOf_9 : decode cX0_partOf 9 = .ok (.lreturn, 1) := dk_173 (dk_at dksX0_partOf_0 9 rfl rfl)
theorem dX0_partOf_10 : decode cX0_partOf 10 = .ok (.lload_n 0, 1) := dk_30 (dk_at dksX0_partOf_0 10 rfl rfl)
theorem dX0_partOf_11 : decode cX0_partOf 11 = .ok (.lload_n 2, 1) := dk_32 (dk_at dksX0_partOf_0 11 rfl rfl)
theorem dX0_partOf_12 : decode cX0_partOf 12 = .ok (.invokestatic 17, 3) := dk_184 0 17 (dk_at dksX0_partOf_0 12 rfl rfl)
theorem dX0_partOf_15 : decode cX0_partOf 15 = .ok (.lstore 5, 2) := dk_55 5 (dk_at dksX0_partOf_0 15 rfl rfl)
theorem dX0_partOf_17 : decode cX0_partOf 17 = .ok (.iload 4, 2) := dk_21 4 (dk_at dksX0_partOf_0 17 rfl rfl)
theorem dX0_partOf_19 : decode cX0_partOf 19 = .ok (.ifCond .ne 10, 3) := dk_154 0 10 (dk_at dksX0_partOf_0 19 rfl rfl)
theorem dX0_partOf_22 : decode cX0_partOf 22 = .ok (.lload_n 0, 1) := dk_30 (dk_at dksX0_partOf_0 22 rfl rfl)
theorem dX0_partOf_23 : decode cX0_partOf 23 = .ok (.lload 5, 2) := dk_22 5 (dk_at dksX0_partOf_1 0 rfl rfl)
theorem dX0_partOf_25 : decode cX0_partOf 25 = .ok (.ldiv, 1) := dk_109 (dk_at dksX0_partOf_1 2 rfl rfl)
theorem dX0_partOf_26 : decode cX0_partOf 26 = .ok (.goto 7, 3) := dk_167 0 7 (dk_at dksX0_partOf_1 3 rfl rfl)
theorem dX0_partOf_29 : decode cX0_partOf 29 = .ok (.lload_n 2, 1) := dk_32 (dk_at dksX0_partOf_1 6 rfl rfl)
theorem dX0_partOf_30 : decode cX0_partOf 30 = .ok (.lload 5, 2) := dk_22 5 (dk_at dksX0_partOf_1 7 rfl rfl)
theorem dX0_partOf_32 : decode cX0_partOf 32 = .ok (.ldiv, 1) := dk_109 (dk_at dksX0_partOf_1 9 rfl rfl)
theorem dX0_partOf_33 : decode cX0_partOf 33 = .ok (.lreturn, 1) := dk_173 (dk_at dksX0_partOf_1 10 rfl rfl)
abbrev cX0_divisor : ByteArray := prog_1_method_7_code
def yX0_divisor : MethodName := ⟨RX0, "divisor", "(JJ)J"⟩
def dkwX0_divisor_1 : List UInt8 := [22, 8, 55, 6, 167, 255, 234, 22, 4, 173]
abbrev dktX0_divisor_1 : List UInt8 := dkwX0_divisor_1 ++ []
def dkwX0_divisor_0 : List UInt8 := [30, 55, 4, 32, 55, 6, 22, 6, 9, 148, 153, 0, 21, 22, 4, 22, 6, 113, 55, 8, 22, 6, 55, 4]
abbrev dktX0_divisor_0 : List UInt8 := dkwX0_divisor_0 ++ dktX0_divisor_1
theorem dksX0_divisor_0 : cX0_divisor.data.toList.drop 0 = dktX0_divisor_0 := by decide +kernel
theorem dksX0_divisor_1 : cX0_divisor.data.toList.drop 24 = dktX0_divisor_1 := dk_seg dksX0_divisor_0 24 rfl rfl
theorem dX0_divisor_0 : decode cX0_divisor 0 = .ok (.lload_n 0, 1) := dk_30 (dk_at dksX0_divisor_0 0 rfl rfl)
theorem dX0_divisor_1 : decode cX0_divisor 1 = .ok (.lstore 4, 2) := dk_55 4 (dk_at dksX0_divisor_0 1 rfl rfl)
theorem dX0_divisor_3 : decode cX0_divisor 3 = .ok (.lload_n 2, 1) := dk_32 (dk_at dksX0_divisor_0 3 rfl rfl)
theorem dX0_divisor_4 : decode cX0_divisor 4 = .ok (.lstore 6, 2) := dk_55 6 (dk_at dksX0_divisor_0 4 rfl rfl)
theorem dX0_divisor_6 : decode cX0_divisor 6 = .ok (.lload 6, 2) := dk_22 6 (dk_at dksX0_divisor_0 6 rfl rfl)
theorem dX0_divisor_8 : decode cX0_divisor 8 = .ok (.lconst 0, 1) := dk_9 (dk_at dksX0_divisor_0 8 rfl rfl)
theorem dX0_divisor_9 : decode cX0_divisor 9 = .ok (.lcmp, 1) := dk_148 (dk_at dksX0_divisor_0 9 rfl rfl)
theorem dX0_divisor_10 : decode cX0_divisor 10 = .ok (.ifCond .eq 21, 3) := dk_153 0 21 (dk_at dksX0_divisor_0 10 rfl rfl)
theorem dX0_divisor_13 : decode cX0_divisor 13 = .ok (.lload 4, 2) := dk_22 4 (dk_at dksX0_divisor_0 13 rfl rfl)
theorem dX0_divisor_15 : decode cX0_divisor 15 = .ok (.lload 6, 2) := dk_22 6 (dk_at dksX0_divisor_0 15 rfl rfl)
theorem dX0_divisor_17 : decode cX0_divisor 17 = .ok (.lrem, 1) := dk_113 (dk_at dksX0_divisor_0 17 rfl rfl)
theorem dX0_divisor_18 : decode cX0_divisor 18 = .ok (.lstore 8, 2) := dk_55 8 (dk_at dksX0_divisor_0 18 rfl rfl)
theorem dX0_divisor_20 : decode cX0_divisor 20 = .ok (.lload 6, 2) := dk_22 6 (dk_at dksX0_divisor_0 20 rfl rfl)
theorem dX0_divisor_22 : decode cX0_divisor 22 = .ok (.lstore 4, 2) := dk_55 4 (dk_at dksX0_divisor_0 22 rfl rfl)
theorem dX0_divisor_24 : decode cX0_divisor 24 = .ok (.lload 8, 2) := dk_22 8 (dk_at dksX0_divisor_1 0 rfl rfl)
theorem dX0_divisor_26 : decode cX0_divisor 26 = .ok (.lstore 6, 2) := dk_55 6 (dk_at dksX0_divisor_1 2 rfl rfl)
theorem dX0_divisor_28 : decode cX0_divisor 28 = .ok (.goto (-22), 3) := dk_167 255 234 (dk_at dksX0_divisor_1 4 rfl rfl)
theorem dX0_divisor_31 : decode cX0_divisor 31 = .ok (.lload 4, 2) := dk_22 4 (dk_at dksX0_divisor_1 7 rfl rfl)
theorem dX0_divisor_33 : decode cX0_divisor 33 = .ok (.lreturn, 1) := dk_173 (dk_at dksX0_divisor_1 9 rfl rfl)
abbrev cX0_far : ByteArray := prog_1_method_33_code
def yX0_far : MethodName := ⟨RX0, "far", "(LWithoutThem$Refusal;)J"⟩
def dkwX0_far_0 : List UInt8 := [20, 1, 7, 42, 43, 182, 1, 1, 182, 1, 4, 133, 101, 173]
abbrev dktX0_far_0 : List UInt8 := dkwX0_far_0 ++ []
theorem dksX0_far_0 : cX0_far.data.toList.drop 0 = dktX0_far_0 := by decide +kernel
theorem dX0_far_0 : decode cX0_far 0 = .ok (.ldc2_w 263, 3) := dk_20 1 7 (dk_at dksX0_far_0 0 rfl rfl)
theorem dX0_far_3 : decode cX0_far 3 = .ok (.aload_n 0, 1) := dk_42 (dk_at dksX0_far_0 3 rfl rfl)
theorem dX0_far_4 : decode cX0_far 4 = .ok (.aload_n 1, 1) := dk_43 (dk_at dksX0_far_0 4 rfl rfl)
theorem dX0_far_5 : decode cX0_far 5 = .ok (.invokevirtual 257, 3) := dk_182 1 1 (dk_at dksX0_far_0 5 rfl rfl)
theorem dX0_far_8 : decode cX0_far 8 = .ok (.invokevirtual 260, 3) := dk_182 1 4 (dk_at dksX0_far_0 8 rfl rfl)
theorem dX0_far_11 : decode cX0_far 11 = .ok (.i2l, 1) := dk_133 (dk_at dksX0_far_0 11 rfl rfl)
theorem dX0_far_12 : decode cX0_far 12 = .ok (.lsub, 1) := dk_101 (dk_at dksX0_far_0 12 rfl rfl)
theorem dX0_far_13 : decode cX0_far 13 = .ok (.lreturn, 1) := dk_173 (dk_at dksX0_far_0 13 rfl rfl)
abbrev cX0_surely : ByteArray := prog_1_method_66_code
def yX0_surely : MethodName := ⟨RX0, "surely", "(I)J"⟩
def dkwX0_surely_0 : List UInt8 := [42, 27, 182, 1, 153, 173]
abbrev dktX0_surely_0 : List UInt8 := dkwX0_surely_0 ++ []
theorem dksX0_surely_0 : cX0_surely.data.toList.drop 0 = dktX0_surely_0 := by decide +kernel
theorem dX0_surely_0 : decode cX0_surely 0 = .ok (.aload_n 0, 1) := dk_42 (dk_at dksX0_surely_0 0 rfl rfl)
theorem dX0_surely_1 : decode cX0_surely 1 = .ok (.iload_n 1, 1) := dk_27 (dk_at dksX0_surely_0 1 rfl rfl)
theorem dX0_surely_2 : decode cX0_surely 2 = .ok (.invokevirtual 409, 3) := dk_182 1 153 (dk_at dksX0_surely_0 2 rfl rfl)
theorem dX0_surely_5 : decode cX0_surely 5 = .ok (.lreturn, 1) := dk_173 (dk_at dksX0_surely_0 5 rfl rfl)
abbrev cX0_surelyAsked : ByteArray := prog_1_method_53_code
def yX0_surelyAsked : MethodName := ⟨RX0, "surelyAsked", "(I)J"⟩
def dkwX0_surelyAsked_0 : List UInt8 := [27, 184, 1, 42, 42, 27, 182, 1, 142, 173, 77, 42, 44, 182, 1, 138, 173]
abbrev dktX0_surelyAsked_0 : List UInt8 := dkwX0_surelyAsked_0 ++ []
theorem dksX0_surelyAsked_0 : cX0_surelyAsked.data.toList.drop 0 = dktX0_surelyAsked_0 := by decide +kernel
theorem dX0_surelyAsked_0 : decode cX0_surelyAsked 0 = .ok (.iload_n 1, 1) := dk_27 (dk_at dksX0_surelyAsked_0 0 rfl rfl)
theorem dX0_surelyAsked_1 : decode cX0_surelyAsked 1 = .ok (.invokestatic 298, 3) := dk_184 1 42 (dk_at dksX0_surelyAsked_0 1 rfl rfl)
theorem dX0_surelyAsked_4 : decode cX0_surelyAsked 4 = .ok (.aload_n 0, 1) := dk_42 (dk_at dksX0_surelyAsked_0 4 rfl rfl)
theorem dX0_surelyAsked_5 : decode cX0_surelyAsked 5 = .ok (.iload_n 1, 1) := dk_27 (dk_at dksX0_surelyAsked_0 5 rfl rfl)
theorem dX0_surelyAsked_6 : decode cX0_surelyAsked 6 = .ok (.invokevirtual 398, 3) := dk_182 1 142 (dk_at dksX0_surelyAsked_0 6 rfl rfl)
theorem dX0_surelyAsked_9 : decode cX0_surelyAsked 9 = .ok (.lreturn, 1) := dk_173 (dk_at dksX0_surelyAsked_0 9 rfl rfl)
theorem dX0_surelyAsked_10 : decode cX0_surelyAsked 10 = .ok (.astore_n 2, 1) := dk_77 (dk_at dksX0_surelyAsked_0 10 rfl rfl)
theorem dX0_surelyAsked_11 : decode cX0_surelyAsked 11 = .ok (.aload_n 0, 1) := dk_42 (dk_at dksX0_surelyAsked_0 11 rfl rfl)
theorem dX0_surelyAsked_12 : decode cX0_surelyAsked 12 = .ok (.aload_n 2, 1) := dk_44 (dk_at dksX0_surelyAsked_0 12 rfl rfl)
theorem dX0_surelyAsked_13 : decode cX0_surelyAsked 13 = .ok (.invokevirtual 394, 3) := dk_182 1 138 (dk_at dksX0_surelyAsked_0 13 rfl rfl)
theorem dX0_surelyAsked_16 : decode cX0_surelyAsked 16 = .ok (.lreturn, 1) := dk_173 (dk_at dksX0_surelyAsked_0 16 rfl rfl)
abbrev cX0_surelyTold : ByteArray := prog_1_method_15_code
def yX0_surelyTold : MethodName := ⟨RX0, "surelyTold", "(I)J"⟩
def dkwX0_surelyTold_4 : List UInt8 := [132, 7, 1, 167, 255, 193, 33, 22, 5, 27, 184, 0, 200, 173]
abbrev dktX0_surelyTold_4 : List UInt8 := dkwX0_surelyTold_4 ++ []
def dkwX0_surelyTold_3 : List UInt8 := [66, 22, 5, 28, 21, 7, 184, 0, 192, 153, 0, 9, 20, 0, 198, 167, 0, 4, 10, 105, 55, 5]
abbrev dktX0_surelyTold_3 : List UInt8 := dkwX0_surelyTold_3 ++ dktX0_surelyTold_4
def dkwX0_surelyTold_2 : List UInt8 := [21, 7, 184, 0, 192, 153, 0, 17, 42, 180, 0, 77, 180, 0, 195, 21, 7, 46, 133, 167, 0, 4, 10, 105]
abbrev dktX0_surelyTold_2 : List UInt8 := dkwX0_surelyTold_2 ++ dktX0_surelyTold_3
def dkwX0_surelyTold_1 : List UInt8 := [61, 10, 66, 10, 55, 5, 3, 54, 7, 21, 7, 42, 180, 0, 77, 180, 0, 160, 162, 0, 57, 33, 28]
abbrev dktX0_surelyTold_1 : List UInt8 := dkwX0_surelyTold_1 ++ dktX0_surelyTold_2
def dkwX0_surelyTold_0 : List UInt8 := [42, 180, 0, 77, 42, 180, 0, 77, 180, 0, 154, 182, 0, 189, 42, 180, 0, 77, 180, 0, 154, 2, 130, 126]
abbrev dktX0_surelyTold_0 : List UInt8 := dkwX0_surelyTold_0 ++ dktX0_surelyTold_1
theorem dksX0_surelyTold_0 : cX0_surelyTold.data.toList.drop 0 = dktX0_surelyTold_0 := by decide +kernel
theorem dksX0_surelyTold_1 : cX0_surelyTold.data.toList.drop 24 = dktX0_surelyTold_1 := dk_seg dksX0_surelyTold_0 24 rfl rfl
theorem dksX0_surelyTold_2 : cX0_surelyTold.data.toList.drop 47 = dktX0_surelyTold_2 := dk_seg dksX0_surelyTold_1 23 rfl rfl
theorem dksX0_surelyTold_3 : cX0_surelyTold.data.toList.drop 71 = dktX0_surelyTold_3 := dk_seg dksX0_surelyTold_2 24 rfl rfl
theorem dksX0_surelyTold_4 : cX0_surelyTold.data.toList.drop 93 = dktX0_surelyTold_4 := dk_seg dksX0_surelyTold_3 22 rfl rfl
theorem dX0_surelyTold_0 : decode cX0_surelyTold 0 = .ok (.aload_n 0, 1) := dk_42 (dk_at dksX0_surelyTold_0 0 rfl rfl)
theorem dX0_surelyTold_1 : decode cX0_surelyTold 1 = .ok (.getfield 77, 3) := dk_180 0 77 (dk_at dksX0_surelyTold_0 1 rfl rfl)
theorem dX0_surelyTold_4 : decode cX0_surelyTold 4 = .ok (.aload_n 0, 1) := dk_42 (dk_at dksX0_surelyTold_0 4 rfl rfl)
theorem dX0_surelyTold_5 : decode cX0_surelyTold 5 = .ok (.getfield 77, 3) := dk_180 0 77 (dk_at dksX0_surelyTold_0 5 rfl rfl)
theorem dX0_surelyTold_8 : decode cX0_surelyTold 8 = .ok (.getfield 154, 3) := dk_180 0 154 (dk_at dksX0_surelyTold_0 8 rfl rfl)
theorem dX0_surelyTold_11 : decode cX0_surelyTold 11 = .ok (.invokevirtual 189, 3) := dk_182 0 189 (dk_at dksX0_surelyTold_0 11 rfl rfl)
theorem dX0_surelyTold_14 : decode cX0_surelyTold 14 = .ok (.aload_n 0, 1) := dk_42 (dk_at dksX0_surelyTold_0 14 rfl rfl)
theorem dX0_surelyTold_15 : decode cX0_surelyTold 15 = .ok (.getfield 77, 3) := dk_180 0 77 (dk_at dksX0_surelyTold_0 15 rfl rfl)
theorem dX0_surelyTold_18 : decode cX0_surelyTold 18 = .ok (.getfield 154, 3) := dk_180 0 154 (dk_at dksX0_surelyTold_0 18 rfl rfl)
theorem dX0_surelyTold_21 : decode cX0_surelyTold 21 = .ok (.iconst (-1), 1) := dk_2 (dk_at dksX0_surelyTold_0 21 rfl rfl)
theorem dX0_surelyTold_22 : decode cX0_surelyTold 22 = .ok (.ixor, 1) := dk_130 (dk_at dksX0_surelyTold_0 22 rfl rfl)
theorem dX0_surelyTold_23 : decode cX0_surelyTold 23 = .ok (.iand, 1) := dk_126 (dk_at dksX0_surelyTold_0 23 rfl rfl)
theorem dX0_surelyTold_24 : decode cX0_surelyTold 24 = .ok (.istore_n 2, 1) := dk_61 (dk_at dksX0_surelyTold_1 0 rfl rfl)
theorem dX0_surelyTold_25 : decode cX0_surelyTold 25 = .ok (.lconst 1, 1) := dk_10 (dk_at dksX0_surelyTold_1 1 rfl rfl)
theorem dX0_surelyTold_26 : decode cX0_surelyTold 26 = .ok (.lstore_n 3, 1) := dk_66 (dk_at dksX0_surelyTold_1 2 rfl rfl)
theorem dX0_surelyTold_27 : decode cX0_surelyTold 27 = .ok (.lconst 1, 1) := dk_10 (dk_at dksX0_surelyTold_1 3 rfl rfl)
theorem dX0_surelyTold_28 : decode cX0_surelyTold 28 = .ok (.lstore 5, 2) := dk_55 5 (dk_at dksX0_surelyTold_1 4 rfl rfl)
theorem dX0_surelyTold_30 : decode cX0_surelyTold 30 = .ok (.iconst 0, 1) := dk_3 (dk_at dksX0_surelyTold_1 6 rfl rfl)
theorem dX0_surelyTold_31 : decode cX0_surelyTold 31 = .ok (.istore 7, 2) := dk_54 7 (dk_at dksX0_surelyTold_1 7 rfl rfl)
theorem dX0_surelyTold_33 : decode cX0_surelyTold 33 = .ok (.iload 7, 2) := dk_21 7 (dk_at dksX0_surelyTold_1 9 rfl rfl)
theorem dX0_surelyTold_35 : decode cX0_surelyTold 35 = .ok (.aload_n 0, 1) := dk_42 (dk_at dksX0_surelyTold_1 11 rfl rfl)
theorem dX0_surelyTold_36 : decode cX0_surelyTold 36 = .ok (.getfield 77, 3) := dk_180 0 77 (dk_at dksX0_surelyTold_1 12 rfl rfl)
theorem dX0_surelyTold_39 : decode cX0_surelyTold 39 = .ok (.getfield 160, 3) := dk_180 0 160 (dk_at dksX0_surelyTold_1 15 rfl rfl)
theorem dX0_surelyTold_42 : decode cX0_surelyTold 42 = .ok (.if_icmp .ge 57, 3) := dk_162 0 57 (dk_at dksX0_surelyTold_1 18 rfl rfl)
theorem dX0_surelyTold_45 : decode cX0_surelyTold 45 = .ok (.lload_n 3, 1) := dk_33 (dk_at dksX0_surelyTold_1 21 rfl rfl)
theorem dX0_surelyTold_46 : decode cX0_surelyTold 46 = .ok (.iload_n 2, 1) := dk_28 (dk_at dksX0_surelyTold_1 22 rfl rfl)
theorem dX0_surelyTold_47 : decode cX0_surelyTold 47 = .ok (.iload 7, 2) := dk_21 7 (dk_at dksX0_surelyTold_2 0 rfl rfl)
theorem dX0_surelyTold_49 : decode cX0_surelyTold 49 = .ok (.invokestatic 192, 3) := dk_184 0 192 (dk_at dksX0_surelyTold_2 2 rfl rfl)
theorem dX0_surelyTold_52 : decode cX0_surelyTold 52 = .ok (.ifCond .eq 17, 3) := dk_153 0 17 (dk_at dksX0_surelyTold_2 5 rfl rfl)
theorem dX0_surelyTold_55 : decode cX0_surelyTold 55 = .ok (.aload_n 0, 1) := dk_42 (dk_at dksX0_surelyTold_2 8 rfl rfl)
theorem dX0_surelyTold_56 : decode cX0_surelyTold 56 = .ok (.getfield 77, 3) := dk_180 0 77 (dk_at dksX0_surelyTold_2 9 rfl rfl)
theorem dX0_surelyTold_59 : decode cX0_surelyTold 59 = .ok (.getfield 195, 3) := dk_180 0 195 (dk_at dksX0_surelyTold_2 12 rfl rfl)
theorem dX0_surelyTold_62 : decode cX0_surelyTold 62 = .ok (.iload 7, 2) := dk_21 7 (dk_at dksX0_surelyTold_2 15 rfl rfl)
theorem dX0_surelyTold_64 : decode cX0_surelyTold 64 = .ok (.iaload, 1) := dk_46 (dk_at dksX0_surelyTold_2 17 rfl rfl)
theorem dX0_surelyTold_65 : decode cX0_surelyTold 65 = .ok (.i2l, 1) := dk_133 (dk_at dksX0_surelyTold_2 18 rfl rfl)
theorem dX0_surelyTold_66 : decode cX0_surelyTold 66 = .ok (.goto 4, 3) := dk_167 0 4 (dk_at dksX0_surelyTold_2 19 rfl rfl)
theorem dX0_surelyTold_69 : decode cX0_surelyTold 69 = .ok (.lconst 1, 1) := dk_10 (dk_at dksX0_surelyTold_2 22 rfl rfl)
theorem dX0_surelyTold_70 : decode cX0_surelyTold 70 = .ok (.lmul, 1) := dk_105 (dk_at dksX0_surelyTold_2 23 rfl rfl)
theorem dX0_surelyTold_71 : decode cX0_surelyTold 71 = .ok (.lstore_n 3, 1) := dk_66 (dk_at dksX0_surelyTold_3 0 rfl rfl)
theorem dX0_surelyTold_72 : decode cX0_surelyTold 72 = .ok (.lload 5, 2) := dk_22 5 (dk_at dksX0_surelyTold_3 1 rfl rfl)
theorem dX0_surelyTold_74 : decode cX0_surelyTold 74 = .ok (.iload_n 2, 1) := dk_28 (dk_at dksX0_surelyTold_3 3 rfl rfl)
theorem dX0_surelyTold_75 : decode cX0_surelyTold 75 = .ok (.iload 7, 2) := dk_21 7 (dk_at dksX0_surelyTold_3 4 rfl rfl)
theorem dX0_surelyTold_77 : decode cX0_surelyTold 77 = .ok (.invokestatic 192, 3) := dk_184 0 192 (dk_at dksX0_surelyTold_3 6 rfl rfl)
theorem dX0_surelyTold_80 : decode cX0_surelyTold 80 = .ok (.ifCond .eq 9, 3) := dk_153 0 9 (dk_at dksX0_surelyTold_3 9 rfl rfl)
theorem dX0_surelyTold_83 : decode cX0_surelyTold 83 = .ok (.ldc2_w 198, 3) := dk_20 0 198 (dk_at dksX0_surelyTold_3 12 rfl rfl)
theorem dX0_surelyTold_86 : decode cX0_surelyTold 86 = .ok (.goto 4, 3) := dk_167 0 4 (dk_at dksX0_surelyTold_3 15 rfl rfl)
theorem dX0_surelyTold_89 : decode cX0_surelyTold 89 = .ok (.lconst 1, 1) := dk_10 (dk_at dksX0_surelyTold_3 18 rfl rfl)
theorem dX0_surelyTold_90 : decode cX0_surelyTold 90 = .ok (.lmul, 1) := dk_105 (dk_at dksX0_surelyTold_3 19 rfl rfl)
theorem dX0_surelyTold_91 : decode cX0_surelyTold 91 = .ok (.lstore 5, 2) := dk_55 5 (dk_at dksX0_surelyTold_3 20 rfl rfl)
theorem dX0_surelyTold_93 : decode cX0_surelyTold 93 = .ok (.iinc 7 1, 3) := dk_132 7 1 (dk_at dksX0_surelyTold_4 0 rfl rfl)
theorem dX0_surelyTold_96 : decode cX0_surelyTold 96 = .ok (.goto (-63), 3) := dk_167 255 193 (dk_at dksX0_surelyTold_4 3 rfl rfl)
theorem dX0_surelyTold_99 : decode cX0_surelyTold 99 = .ok (.lload_n 3, 1) := dk_33 (dk_at dksX0_surelyTold_4 6 rfl rfl)
theorem dX0_surelyTold_100 : decode cX0_surelyTold 100 = .ok (.lload 5, 2) := dk_22 5 (dk_at dksX0_surelyTold_4 7 rfl rfl)
theorem dX0_surelyTold_102 : decode cX0_surelyTold 102 = .ok (.iload_n 1, 1) := dk_27 (dk_at dksX0_surelyTold_4 9 rfl rfl)
theorem dX0_surelyTold_103 : decode cX0_surelyTold 103 = .ok (.invokestatic 200, 3) := dk_184 0 200 (dk_at dksX0_surelyTold_4 10 rfl rfl)
theorem dX0_surelyTold_106 : decode cX0_surelyTold 106 = .ok (.lreturn, 1) := dk_173 (dk_at dksX0_surelyTold_4 13 rfl rfl)
abbrev cX0_ringed : ByteArray := prog_1_method_67_code
def yX0_ringed : MethodName := ⟨RX0, "ringed", "()I"⟩
def dkwX0_ringed_0 : List UInt8 := [42, 16, 10, 3, 3, 3, 182, 1, 147, 172]
abbrev dktX0_ringed_0 : List UInt8 := dkwX0_ringed_0 ++ []
theorem dksX0_ringed_0 : cX0_ringed.data.toList.drop 0 = dktX0_ringed_0 := by decide +kernel
theorem dX0_ringed_0 : decode cX0_ringed 0 = .ok (.aload_n 0, 1) := dk_42 (dk_at dksX0_ringed_0 0 rfl rfl)
theorem dX0_ringed_1 : decode cX0_ringed 1 = .ok (.bipush 10, 2) := dk_16 10 (dk_at dksX0_ringed_0 1 rfl rfl)
theorem dX0_ringed_3 : decode cX0_ringed 3 = .ok (.iconst 0, 1) := dk_3 (dk_at dksX0_ringed_0 3 rfl rfl)
theorem dX0_ringed_4 : decode cX0_ringed 4 = .ok (.iconst 0, 1) := dk_3 (dk_at dksX0_ringed_0 4 rfl rfl)
theorem dX0_ringed_5 : decode cX0_ringed 5 = .ok (.iconst 0, 1) := dk_3 (dk_at dksX0_ringed_0 5 rfl rfl)
theorem dX0_ringed_6 : decode cX0_ringed 6 = .ok (.invokevirtual 403, 3) := dk_182 1 147 (dk_at dksX0_ringed_0 6 rfl rfl)
theorem dX0_ringed_9 : decode cX0_ringed 9 = .ok (.ireturn, 1) := dk_172 (dk_at dksX0_ringed_0 9 rfl rfl)
abbrev cX0_beg : ByteArray := prog_1_method_68_code
def yX0_beg : MethodName := ⟨RX0, "beg", "(I)I"⟩
def dkwX0_beg_0 : List UInt8 := [42, 16, 11, 27, 3, 3, 182, 1, 147, 172]
abbrev dktX0_beg_0 : List UInt8 := dkwX0_beg_0 ++ []
theorem dksX0_beg_0 : cX0_beg.data.toList.drop 0 = dktX0_beg_0 := by decide +kernel
theorem dX0_beg_0 : decode cX0_beg 0 = .ok (.aload_n 0, 1) := dk_42 (dk_at dksX0_beg_0 0 rfl rfl)
theorem dX0_beg_1 : decode cX0_beg 1 = .ok (.bipush 11, 2) := dk_16 11 (dk_at dksX0_beg_0 1 rfl rfl)
theorem dX0_beg_3 : decode cX0_beg 3 = .ok (.iload_n 1, 1) := dk_27 (dk_at dksX0_beg_0 3 rfl rfl)
theorem dX0_beg_4 : decode cX0_beg 4 = .ok (.iconst 0, 1) := dk_3 (dk_at dksX0_beg_0 4 rfl rfl)
theorem dX0_beg_5 : decode cX0_beg 5 = .ok (.iconst 0, 1) := dk_3 (dk_at dksX0_beg_0 5 rfl rfl)
theorem dX0_beg_6 : decode cX0_beg 6 = .ok (.invokevirtual 403, 3) := dk_182 1 147 (dk_at dksX0_beg_0 6 rfl rfl)
theorem dX0_beg_9 : decode cX0_beg 9 = .ok (.ireturn, 1) := dk_172 (dk_at dksX0_beg_0 9 rfl rfl)
abbrev cX0_nails : ByteArray := prog_1_method_69_code
def yX0_nails : MethodName := ⟨RX0, "nails", "()I"⟩
def dkwX0_nails_0 : List UInt8 := [42, 16, 12, 3, 3, 3, 182, 1, 147, 172]
abbrev dktX0_nails_0 : List UInt8 := dkwX0_nails_0 ++ []
theorem dksX0_nails_0 : cX0_nails.data.toList.drop 0 = dktX0_nails_0 := by decide +kernel
theorem dX0_nails_0 : decode cX0_nails 0 = .ok (.aload_n 0, 1) := dk_42 (dk_at dksX0_nails_0 0 rfl rfl)
theorem dX0_nails_1 : decode cX0_nails 1 = .ok (.bipush 12, 2) := dk_16 12 (dk_at dksX0_nails_0 1 rfl rfl)
theorem dX0_nails_3 : decode cX0_nails 3 = .ok (.iconst 0, 1) := dk_3 (dk_at dksX0_nails_0 3 rfl rfl)
theorem dX0_nails_4 : decode cX0_nails 4 = .ok (.iconst 0, 1) := dk_3 (dk_at dksX0_nails_0 4 rfl rfl)
theorem dX0_nails_5 : decode cX0_nails 5 = .ok (.iconst 0, 1) := dk_3 (dk_at dksX0_nails_0 5 rfl rfl)
theorem dX0_nails_6 : decode cX0_nails 6 = .ok (.invokevirtual 403, 3) := dk_182 1 147 (dk_at dksX0_nails_0 6 rfl rfl)
theorem dX0_nails_9 : decode cX0_nails 9 = .ok (.ireturn, 1) := dk_172 (dk_at dksX0_nails_0 9 rfl rfl)
abbrev cX0_spare : ByteArray := prog_1_method_70_code
def yX0_spare : MethodName := ⟨RX0, "spare", "()I"⟩
def dkwX0_spare_0 : List UInt8 := [42, 16, 13, 3, 3, 3, 182, 1, 147, 172]
abbrev dktX0_spare_0 : List UInt8 := dkwX0_spare_0 ++ []
theorem dksX0_spare_0 : cX0_spare.data.toList.drop 0 = dktX0_spare_0 := by decide +kernel
theorem dX0_spare_0 : decode cX0_spare 0 = .ok (.aload_n 0, 1) := dk_42 (dk_at dksX0_spare_0 0 rfl rfl)
theorem dX0_spare_1 : decode cX0_spare 1 = .ok (.bipush 13, 2) := dk_16 13 (dk_at dksX0_spare_0 1 rfl rfl)
theorem dX0_spare_3 : decode cX0_spare 3 = .ok (.iconst 0, 1) := dk_3 (dk_at dksX0_spare_0 3 rfl rfl)
theorem dX0_spare_4 : decode cX0_spare 4 = .ok (.iconst 0, 1) := dk_3 (dk_at dksX0_spare_0 4 rfl rfl)
theorem dX0_spare_5 : decode cX0_spare 5 = .ok (.iconst 0, 1) := dk_3 (dk_at dksX0_spare_0 5 rfl rfl)
theorem dX0_spare_6 : decode cX0_spare 6 = .ok (.invokevirtual 403, 3) := dk_182 1 147 (dk_at dksX0_spare_0 6 rfl rfl)
theorem dX0_spare_9 : decode cX0_spare 9 = .ok (.ireturn, 1) := dk_172 (dk_at dksX0_spare_0 9 rfl rfl)
abbrev cX0_does : ByteArray := prog_1_method_71_code
def yX0_does : MethodName := ⟨RX0, "does", "(I)I"⟩
def dkwX0_does_0 : List UInt8 := [42, 16, 14, 27, 3, 3, 182, 1, 147, 172]
abbrev dktX0_does_0 : List UInt8 := dkwX0_does_0 ++ []
theorem dksX0_does_0 : cX0_does.data.toList.drop 0 = dktX0_does_0 := by decide +kernel
theorem dX0_does_0 : decode cX0_does 0 = .ok (.aload_n 0, 1) := dk_42 (dk_at dksX0_does_0 0 rfl rfl)
theorem dX0_does_1 : decode cX0_does 1 = .ok (.bipush 14, 2) := dk_16 14 (dk_at dksX0_does_0 1 rfl rfl)
theorem dX0_does_3 : decode cX0_does 3 = .ok (.iload_n 1, 1) := dk_27 (dk_at dksX0_does_0 3 rfl rfl)
theorem dX0_does_4 : decode cX0_does 4 = .ok (.iconst 0, 1) := dk_3 (dk_at dksX0_does_0 4 rfl rfl)
theorem dX0_does_5 : decode cX0_does 5 = .ok (.iconst 0, 1) := dk_3 (dk_at dksX0_does_0 5 rfl rfl)
theorem dX0_does_6 : decode cX0_does 6 = .ok (.invokevirtual 403, 3) := dk_182 1 147 (dk_at dksX0_does_0 6 rfl rfl)
theorem dX0_does_9 : decode cX0_does 9 = .ok (.ireturn, 1) := dk_172 (dk_at dksX0_does_0 9 rfl rfl)
abbrev cX0_ways : ByteArray := prog_1_method_72_code
def yX0_ways : MethodName := ⟨RX0, "ways", "(I)I"⟩
def dkwX0_ways_0 : List UInt8 := [42, 16, 15, 27, 3, 3, 182, 1, 147, 172]
abbrev dktX0_ways_0 : List UInt8 := dkwX0_ways_0 ++ []
theorem dksX0_ways_0 : cX0_ways.data.toList.drop 0 = dktX0_ways_0 := by decide +kernel
theorem dX0_ways_0 : decode cX0_ways 0 = .ok (.aload_n 0, 1) := dk_42 (dk_at dksX0_ways_0 0 rfl rfl)
theorem dX0_ways_1 : decode cX0_ways 1 = .ok (.bipush 15, 2) := dk_16 15 (dk_at dksX0_ways_0 1 rfl rfl)
theorem dX0_ways_3 : decode cX0_ways 3 = .ok (.iload_n 1, 1) := dk_27 (dk_at dksX0_ways_0 3 rfl rfl)
theorem dX0_ways_4 : decode cX0_ways 4 = .ok (.iconst 0, 1) := dk_3 (dk_at dksX0_ways_0 4 rfl rfl)
theorem dX0_ways_5 : decode cX0_ways 5 = .ok (.iconst 0, 1) := dk_3 (dk_at dksX0_ways_0 5 rfl rfl)
theorem dX0_ways_6 : decode cX0_ways 6 = .ok (.invokevirtual 403, 3) := dk_182 1 147 (dk_at dksX0_ways_0 6 rfl rfl)
theorem dX0_ways_9 : decode cX0_ways 9 = .ok (.ireturn, 1) := dk_172 (dk_at dksX0_ways_0 9 rfl rfl)
abbrev cX0_must_2 : ByteArray := prog_1_method_73_code
def yX0_must_2 : MethodName := ⟨RX0, "must", "(I)I"⟩
def dkwX0_must_2_0 : List UInt8 := [42, 16, 16, 27, 3, 3, 182, 1, 147, 172]
abbrev dktX0_must_2_0 : List UInt8 := dkwX0_must_2_0 ++ []
theorem dksX0_must_2_0 : cX0_must_2.data.toList.drop 0 = dktX0_must_2_0 := by decide +kernel
theorem dX0_must_2_0 : decode cX0_must_2 0 = .ok (.aload_n 0, 1) := dk_42 (dk_at dksX0_must_2_0 0 rfl rfl)
theorem dX0_must_2_1 : decode cX0_must_2 1 = .ok (.bipush 16, 2) := dk_16 16 (dk_at dksX0_must_2_0 1 rfl rfl)
theorem dX0_must_2_3 : decode cX0_must_2 3 = .ok (.iload_n 1, 1) := dk_27 (dk_at dksX0_must_2_0 3 rfl rfl)
theorem dX0_must_2_4 : decode cX0_must_2 4 = .ok (.iconst 0, 1) := dk_3 (dk_at dksX0_must_2_0 4 rfl rfl)
theorem dX0_must_2_5 : decode cX0_must_2 5 = .ok (.iconst 0, 1) := dk_3 (dk_at dksX0_must_2_0 5 rfl rfl)
theorem dX0_must_2_6 : decode cX0_must_2 6 = .ok (.invokevirtual 403, 3) := dk_182 1 147 (dk_at dksX0_must_2_0 6 rfl rfl)
theorem dX0_must_2_9 : decode cX0_must_2 9 = .ok (.ireturn, 1) := dk_172 (dk_at dksX0_must_2_0 9 rfl rfl)
abbrev cX0_halfway : ByteArray := prog_1_method_74_code
def yX0_halfway : MethodName := ⟨RX0, "halfway", "(II)I"⟩
def dkwX0_halfway_0 : List UInt8 := [42, 16, 17, 27, 28, 3, 182, 1, 147, 172]
abbrev dktX0_halfway_0 : List UInt8 := dkwX0_halfway_0 ++ []
theorem dksX0_halfway_0 : cX0_halfway.data.toList.drop 0 = dktX0_halfway_0 := by decide +kernel
theorem dX0_halfway_0 : decode cX0_halfway 0 = .ok (.aload_n 0, 1) := dk_42 (dk_at dksX0_halfway_0 0 rfl rfl)
theorem dX0_halfway_1 : decode cX0_halfway 1 = .ok (.bipush 17, 2) := dk_16 17 (dk_at dksX0_halfway_0 1 rfl rfl)
theorem dX0_halfway_3 : decode cX0_halfway 3 = .ok (.iload_n 1, 1) := dk_27 (dk_at dksX0_halfway_0 3 rfl rfl)
theorem dX0_halfway_4 : decode cX0_halfway 4 = .ok (.iload_n 2, 1) := dk_28 (dk_at dksX0_halfway_0 4 rfl rfl)
theorem dX0_halfway_5 : decode cX0_halfway 5 = .ok (.iconst 0, 1) := dk_3 (dk_at dksX0_halfway_0 5 rfl rfl)
theorem dX0_halfway_6 : decode cX0_halfway 6 = .ok (.invokevirtual 403, 3) := dk_182 1 147 (dk_at dksX0_halfway_0 6 rfl rfl)
theorem dX0_halfway_9 : decode cX0_halfway 9 = .ok (.ireturn, 1) := dk_172 (dk_at dksX0_halfway_0 9 rfl rfl)
abbrev cX0_drawer : ByteArray := prog_1_method_75_code
def yX0_drawer : MethodName := ⟨RX0, "drawer", "(III)J"⟩
def dkwX0_drawer_0 : List UInt8 := [42, 27, 28, 29, 182, 1, 156, 173]
abbrev dktX0_drawer_0 : List UInt8 := dkwX0_drawer_0 ++ []
theorem dksX0_drawer_0 : cX0_drawer.data.toList.drop 0 = dktX0_drawer_0 := by decide +kernel
theorem dX0_drawer_0 : decode cX0_drawer 0 = .ok (.aload_n 0, 1) := dk_42 (dk_at dksX0_drawer_0 0 rfl rfl)
theorem dX0_drawer_1 : decode cX0_drawer 1 = .ok (.iload_n 1, 1) := dk_27 (dk_at dksX0_drawer_0 1 rfl rfl)
theorem dX0_drawer_2 : decode cX0_drawer 2 = .ok (.iload_n 2, 1) := dk_28 (dk_at dksX0_drawer_0 2 rfl rfl)
theorem dX0_drawer_3 : decode cX0_drawer 3 = .ok (.iload_n 3, 1) := dk_29 (dk_at dksX0_drawer_0 3 rfl rfl)
theorem dX0_drawer_4 : decode cX0_drawer 4 = .ok (.invokevirtual 412, 3) := dk_182 1 156 (dk_at dksX0_drawer_0 4 rfl rfl)
theorem dX0_drawer_7 : decode cX0_drawer 7 = .ok (.lreturn, 1) := dk_173 (dk_at dksX0_drawer_0 7 rfl rfl)
abbrev cX0_drawerTold : ByteArray := prog_1_method_54_code
def yX0_drawerTold : MethodName := ⟨RX0, "drawerTold", "(III)J"⟩
def dkwX0_drawerTold_3 : List UInt8 := [25, 4, 182, 1, 138, 173]
abbrev dktX0_drawerTold_3 : List UInt8 := dkwX0_drawerTold_3 ++ []
def dkwX0_drawerTold_2 : List UInt8 := [160, 0, 7, 10, 167, 0, 16, 27, 28, 100, 4, 96, 133, 20, 1, 145, 29, 184, 0, 200, 173, 58, 4, 42]
abbrev dktX0_drawerTold_2 : List UInt8 := dkwX0_drawerTold_2 ++ dktX0_drawerTold_3
def dkwX0_drawerTold_1 : List UInt8 := [163, 0, 12, 28, 27, 163, 0, 7, 4, 167, 0, 4, 3, 16, 250, 184, 0, 9, 29, 184, 1, 42, 28, 27]
abbrev dktX0_drawerTold_1 : List UInt8 := dkwX0_drawerTold_1 ++ dktX0_drawerTold_2
def dkwX0_drawerTold_0 : List UInt8 := [27, 4, 161, 0, 11, 28, 155, 0, 7, 4, 167, 0, 4, 3, 16, 252, 184, 0, 9, 27, 16, 30]
abbrev dktX0_drawerTold_0 : List UInt8 := dkwX0_drawerTold_0 ++ dktX0_drawerTold_1
theorem dksX0_drawerTold_0 : cX0_drawerTold.data.toList.drop 0 = dktX0_drawerTold_0 := by decide +kernel
theorem dksX0_drawerTold_1 : cX0_drawerTold.data.toList.drop 22 = dktX0_drawerTold_1 := dk_seg dksX0_drawerTold_0 22 rfl rfl
theorem dksX0_drawerTold_2 : cX0_drawerTold.data.toList.drop 46 = dktX0_drawerTold_2 := dk_seg dksX0_drawerTold_1 24 rfl rfl
theorem dksX0_drawerTold_3 : cX0_drawerTold.data.toList.drop 70 = dktX0_drawerTold_3 := dk_seg dksX0_drawerTold_2 24 rfl rfl
theorem dX0_drawerTold_0 : decode cX0_drawerTold 0 = .ok (.iload_n 1, 1) := dk_27 (dk_at dksX0_drawerTold_0 0 rfl rfl)
theorem dX0_drawerTold_1 : decode cX0_drawerTold 1 = .ok (.iconst 1, 1) := dk_4 (dk_at dksX0_drawerTold_0 1 rfl rfl)
theorem dX0_drawerTold_2 : decode cX0_drawerTold 2 = .ok (.if_icmp .lt 11, 3) := dk_161 0 11 (dk_at dksX0_drawerTold_0 2 rfl rfl)
theorem dX0_drawerTold_5 : decode cX0_drawerTold 5 = .ok (.iload_n 2, 1) := dk_28 (dk_at dksX0_drawerTold_0 5 rfl rfl)
theorem dX0_drawerTold_6 : decode cX0_drawerTold 6 = .ok (.ifCond .lt 7, 3) := dk_155 0 7 (dk_at dksX0_drawerTold_0 6 rfl rfl)
theorem dX0_drawerTold_9 : decode cX0_drawerTold 9 = .ok (.iconst 1, 1) := dk_4 (dk_at dksX0_drawerTold_0 9 rfl rfl)
theorem dX0_drawerTold_10 : decode cX0_drawerTold 10 = .ok (.goto 4, 3) := dk_167 0 4 (dk_at dksX0_drawerTold_0 10 rfl rfl)
theorem dX0_drawerTold_13 : decode cX0_drawerTold 13 = .ok (.iconst 0, 1) := dk_3 (dk_at dksX0_drawerTold_0 13 rfl rfl)
theorem dX0_drawerTold_14 : decode cX0_drawerTold 14 = .ok (.bipush (-4), 2) := dk_16 252 (dk_at dksX0_drawerTold_0 14 rfl rfl)
theorem dX0_drawerTold_16 : decode cX0_drawerTold 16 = .ok (.invokestatic 9, 3) := dk_184 0 9 (dk_at dksX0_drawerTold_0 16 rfl rfl)
theorem dX0_drawerTold_19 : decode cX0_drawerTold 19 = .ok (.iload_n 1, 1) := dk_27 (dk_at dksX0_drawerTold_0 19 rfl rfl)
theorem dX0_drawerTold_20 : decode cX0_drawerTold 20 = .ok (.bipush 30, 2) := dk_16 30 (dk_at dksX0_drawerTold_0 20 rfl rfl)
theorem dX0_drawerTold_22 : decode cX0_drawerTold 22 = .ok (.if_icmp .gt 12, 3) := dk_163 0 12 (dk_at dksX0_drawerTold_1 0 rfl rfl)
theorem dX0_drawerTold_25 : decode cX0_drawerTold 25 = .ok (.iload_n 2, 1) := dk_28 (dk_at dksX0_drawerTold_1 3 rfl rfl)
theorem dX0_drawerTold_26 : decode cX0_drawerTold 26 = .ok (.iload_n 1, 1) := dk_27 (dk_at dksX0_drawerTold_1 4 rfl rfl)
theorem dX0_drawerTold_27 : decode cX0_drawerTold 27 = .ok (.if_icmp .gt 7, 3) := dk_163 0 7 (dk_at dksX0_drawerTold_1 5 rfl rfl)
theorem dX0_drawerTold_30 : decode cX0_drawerTold 30 = .ok (.iconst 1, 1) := dk_4 (dk_at dksX0_drawerTold_1 8 rfl rfl)
theorem dX0_drawerTold_31 : decode cX0_drawerTold 31 = .ok (.goto 4, 3) := dk_167 0 4 (dk_at dksX0_drawerTold_1 9 rfl rfl)
theorem dX0_drawerTold_34 : decode cX0_drawerTold 34 = .ok (.iconst 0, 1) := dk_3 (dk_at dksX0_drawerTold_1 12 rfl rfl)
theorem dX0_drawerTold_35 : decode cX0_drawerTold 35 = .ok (.bipush (-6), 2) := dk_16 250 (dk_at dksX0_drawerTold_1 13 rfl rfl)
theorem dX0_drawerTold_37 : decode cX0_drawerTold 37 = .ok (.invokestatic 9, 3) := dk_184 0 9 (dk_at dksX0_drawerTold_1 15 rfl rfl)
theorem dX0_drawerTold_40 : decode cX0_drawerTold 40 = .ok (.iload_n 3, 1) := dk_29 (dk_at dksX0_drawerTold_1 18 rfl rfl)
theorem dX0_drawerTold_41 : decode cX0_drawerTold 41 = .ok (.invokestatic 298, 3) := dk_184 1 42 (dk_at dksX0_drawerTold_1 19 rfl rfl)
theorem dX0_drawerTold_44 : decode cX0_drawerTold 44 = .ok (.iload_n 2, 1) := dk_28 (dk_at dksX0_drawerTold_1 22 rfl rfl)
theorem dX0_drawerTold_45 : decode cX0_drawerTold 45 = .ok (.iload_n 1, 1) := dk_27 (dk_at dksX0_drawerTold_1 23 rfl rfl)
theorem dX0_drawerTold_46 : decode cX0_drawerTold 46 = .ok (.if_icmp .ne 7, 3) := dk_160 0 7 (dk_at dksX0_drawerTold_2 0 rfl rfl)
theorem dX0_drawerTold_49 : decode cX0_drawerTold 49 = .ok (.lconst 1, 1) := dk_10 (dk_at dksX0_drawerTold_2 3 rfl rfl)
theorem dX0_drawerTold_50 : decode cX0_drawerTold 50 = .ok (.goto 16, 3) := dk_167 0 16 (dk_at dksX0_drawerTold_2 4 rfl rfl)
theorem dX0_drawerTold_53 : decode cX0_drawerTold 53 = .ok (.iload_n 1, 1) := dk_27 (dk_at dksX0_drawerTold_2 7 rfl rfl)
theorem dX0_drawerTold_54 : decode cX0_drawerTold 54 = .ok (.iload_n 2, 1) := dk_28 (dk_at dksX0_drawerTold_2 8 rfl rfl)
theorem dX0_drawerTold_55 : decode cX0_drawerTold 55 = .ok (.isub, 1) := dk_100 (dk_at dksX0_drawerTold_2 9 rfl rfl)
theorem dX0_drawerTold_56 : decode cX0_drawerTold 56 = .ok (.iconst 1, 1) := dk_4 (dk_at dksX0_drawerTold_2 10 rfl rfl)
theorem dX0_drawerTold_57 : decode cX0_drawerTold 57 = .ok (.iadd, 1) := dk_96 (dk_at dksX0_drawerTold_2 11 rfl rfl)
theorem dX0_drawerTold_58 : decode cX0_drawerTold 58 = .ok (.i2l, 1) := dk_133 (dk_at dksX0_drawerTold_2 12 rfl rfl)
theorem dX0_drawerTold_59 : decode cX0_drawerTold 59 = .ok (.ldc2_w 401, 3) := dk_20 1 145 (dk_at dksX0_drawerTold_2 13 rfl rfl)
theorem dX0_drawerTold_62 : decode cX0_drawerTold 62 = .ok (.iload_n 3, 1) := dk_29 (dk_at dksX0_drawerTold_2 16 rfl rfl)
theorem dX0_drawerTold_63 : decode cX0_drawerTold 63 = .ok (.invokestatic 200, 3) := dk_184 0 200 (dk_at dksX0_drawerTold_2 17 rfl rfl)
theorem dX0_drawerTold_66 : decode cX0_drawerTold 66 = .ok (.lreturn, 1) := dk_173 (dk_at dksX0_drawerTold_2 20 rfl rfl)
theorem dX0_drawerTold_67 : decode cX0_drawerTold 67 = .ok (.astore 4, 2) := dk_58 4 (dk_at dksX0_drawerTold_2 21 rfl rfl)
theorem dX0_drawerTold_69 : decode cX0_drawerTold 69 = .ok (.aload_n 0, 1) := dk_42 (dk_at dksX0_drawerTold_2 23 rfl rfl)
theorem dX0_drawerTold_70 : decode cX0_drawerTold 70 = .ok (.aload 4, 2) := dk_25 4 (dk_at dksX0_drawerTold_3 0 rfl rfl)
theorem dX0_drawerTold_72 : decode cX0_drawerTold 72 = .ok (.invokevirtual 394, 3) := dk_182 1 138 (dk_at dksX0_drawerTold_3 2 rfl rfl)
theorem dX0_drawerTold_75 : decode cX0_drawerTold 75 = .ok (.lreturn, 1) := dk_173 (dk_at dksX0_drawerTold_3 5 rfl rfl)
abbrev cX0_seeker : ByteArray := prog_1_method_76_code
def yX0_seeker : MethodName := ⟨RX0, "seeker", "(II)I"⟩
def dkwX0_seeker_0 : List UInt8 := [42, 16, 18, 27, 28, 3, 182, 1, 147, 172]
abbrev dktX0_seeker_0 : List UInt8 := dkwX0_seeker_0 ++ []
theorem dksX0_seeker_0 : cX0_seeker.data.toList.drop 0 = dktX0_seeker_0 := by decide +kernel
theorem dX0_seeker_0 : decode cX0_seeker 0 = .ok (.aload_n 0, 1) := dk_42 (dk_at dksX0_seeker_0 0 rfl rfl)
theorem dX0_seeker_1 : decode cX0_seeker 1 = .ok (.bipush 18, 2) := dk_16 18 (dk_at dksX0_seeker_0 1 rfl rfl)
theorem dX0_seeker_3 : decode cX0_seeker 3 = .ok (.iload_n 1, 1) := dk_27 (dk_at dksX0_seeker_0 3 rfl rfl)
theorem dX0_seeker_4 : decode cX0_seeker 4 = .ok (.iload_n 2, 1) := dk_28 (dk_at dksX0_seeker_0 4 rfl rfl)
theorem dX0_seeker_5 : decode cX0_seeker 5 = .ok (.iconst 0, 1) := dk_3 (dk_at dksX0_seeker_0 5 rfl rfl)
theorem dX0_seeker_6 : decode cX0_seeker 6 = .ok (.invokevirtual 403, 3) := dk_182 1 147 (dk_at dksX0_seeker_0 6 rfl rfl)
theorem dX0_seeker_9 : decode cX0_seeker 9 = .ok (.ireturn, 1) := dk_172 (dk_at dksX0_seeker_0 9 rfl rfl)
abbrev cX0_seeks : ByteArray := prog_1_method_77_code
def yX0_seeks : MethodName := ⟨RX0, "seeks", "(I)I"⟩
def dkwX0_seeks_0 : List UInt8 := [42, 16, 19, 27, 3, 3, 182, 1, 147, 172]
abbrev dktX0_seeks_0 : List UInt8 := dkwX0_seeks_0 ++ []
theorem dksX0_seeks_0 : cX0_seeks.data.toList.drop 0 = dktX0_seeks_0 := by decide +kernel
theorem dX0_seeks_0 : decode cX0_seeks 0 = .ok (.aload_n 0, 1) := dk_42 (dk_at dksX0_seeks_0 0 rfl rfl)
theorem dX0_seeks_1 : decode cX0_seeks 1 = .ok (.bipush 19, 2) := dk_16 19 (dk_at dksX0_seeks_0 1 rfl rfl)
theorem dX0_seeks_3 : decode cX0_seeks 3 = .ok (.iload_n 1, 1) := dk_27 (dk_at dksX0_seeks_0 3 rfl rfl)
theorem dX0_seeks_4 : decode cX0_seeks 4 = .ok (.iconst 0, 1) := dk_3 (dk_at dksX0_seeks_0 4 rfl rfl)
theorem dX0_seeks_5 : decode cX0_seeks 5 = .ok (.iconst 0, 1) := dk_3 (dk_at dksX0_seeks_0 5 rfl rfl)
theorem dX0_seeks_6 : decode cX0_seeks 6 = .ok (.invokevirtual 403, 3) := dk_182 1 147 (dk_at dksX0_seeks_0 6 rfl rfl)
theorem dX0_seeks_9 : decode cX0_seeks 9 = .ok (.ireturn, 1) := dk_172 (dk_at dksX0_seeks_0 9 rfl rfl)
abbrev cX0_row : ByteArray := prog_1_method_78_code
def yX0_row : MethodName := ⟨RX0, "row", "(I)I"⟩
def dkwX0_row_0 : List UInt8 := [42, 16, 20, 27, 3, 3, 182, 1, 147, 172]
abbrev dktX0_row_0 : List UInt8 := dkwX0_row_0 ++ []
theorem dksX0_row_0 : cX0_row.data.toList.drop 0 = dktX0_row_0 := by decide +kernel
theorem dX0_row_0 : decode cX0_row 0 = .ok (.aload_n 0, 1) := dk_42 (dk_at dksX0_row_0 0 rfl rfl)
theorem dX0_row_1 : decode cX0_row 1 = .ok (.bipush 20, 2) := dk_16 20 (dk_at dksX0_row_0 1 rfl rfl)
theorem dX0_row_3 : decode cX0_row 3 = .ok (.iload_n 1, 1) := dk_27 (dk_at dksX0_row_0 3 rfl rfl)
theorem dX0_row_4 : decode cX0_row 4 = .ok (.iconst 0, 1) := dk_3 (dk_at dksX0_row_0 4 rfl rfl)
theorem dX0_row_5 : decode cX0_row 5 = .ok (.iconst 0, 1) := dk_3 (dk_at dksX0_row_0 5 rfl rfl)
theorem dX0_row_6 : decode cX0_row 6 = .ok (.invokevirtual 403, 3) := dk_182 1 147 (dk_at dksX0_row_0 6 rfl rfl)
theorem dX0_row_9 : decode cX0_row 9 = .ok (.ireturn, 1) := dk_172 (dk_at dksX0_row_0 9 rfl rfl)
abbrev cX0_judge : ByteArray := prog_1_method_79_code
def yX0_judge : MethodName := ⟨RX0, "judge", "()I"⟩
def dkwX0_judge_0 : List UInt8 := [42, 16, 21, 3, 3, 3, 182, 1, 147, 172]
abbrev dktX0_judge_0 : List UInt8 := dkwX0_judge_0 ++ []
theorem dksX0_judge_0 : cX0_judge.data.toList.drop 0 = dktX0_judge_0 := by decide +kernel
theorem dX0_judge_0 : decode cX0_judge 0 = .ok (.aload_n 0, 1) := dk_42 (dk_at dksX0_judge_0 0 rfl rfl)
theorem dX0_judge_1 : decode cX0_judge 1 = .ok (.bipush 21, 2) := dk_16 21 (dk_at dksX0_judge_0 1 rfl rfl)
theorem dX0_judge_3 : decode cX0_judge 3 = .ok (.iconst 0, 1) := dk_3 (dk_at dksX0_judge_0 3 rfl rfl)
theorem dX0_judge_4 : decode cX0_judge 4 = .ok (.iconst 0, 1) := dk_3 (dk_at dksX0_judge_0 4 rfl rfl)
theorem dX0_judge_5 : decode cX0_judge 5 = .ok (.iconst 0, 1) := dk_3 (dk_at dksX0_judge_0 5 rfl rfl)
theorem dX0_judge_6 : decode cX0_judge 6 = .ok (.invokevirtual 403, 3) := dk_182 1 147 (dk_at dksX0_judge_0 6 rfl rfl)
theorem dX0_judge_9 : decode cX0_judge 9 = .ok (.ireturn, 1) := dk_172 (dk_at dksX0_judge_0 9 rfl rfl)
abbrev cX0_lots : ByteArray := prog_1_method_80_code
def yX0_lots : MethodName := ⟨RX0, "lots", "(II)I"⟩
def dkwX0_lots_0 : List UInt8 := [42, 16, 22, 27, 28, 3, 182, 1, 147, 172]
abbrev dktX0_lots_0 : List UInt8 := dkwX0_lots_0 ++ []
theorem dksX0_lots_0 : cX0_lots.data.toList.drop 0 = dktX0_lots_0 := by decide +kernel
theorem dX0_lots_0 : decode cX0_lots 0 = .ok (.aload_n 0, 1) := dk_42 (dk_at dksX0_lots_0 0 rfl rfl)
theorem dX0_lots_1 : decode cX0_lots 1 = .ok (.bipush 22, 2) := dk_16 22 (dk_at dksX0_lots_0 1 rfl rfl)
theorem dX0_lots_3 : decode cX0_lots 3 = .ok (.iload_n 1, 1) := dk_27 (dk_at dksX0_lots_0 3 rfl rfl)
theorem dX0_lots_4 : decode cX0_lots 4 = .ok (.iload_n 2, 1) := dk_28 (dk_at dksX0_lots_0 4 rfl rfl)
theorem dX0_lots_5 : decode cX0_lots 5 = .ok (.iconst 0, 1) := dk_3 (dk_at dksX0_lots_0 5 rfl rfl)
theorem dX0_lots_6 : decode cX0_lots 6 = .ok (.invokevirtual 403, 3) := dk_182 1 147 (dk_at dksX0_lots_0 6 rfl rfl)
theorem dX0_lots_9 : decode cX0_lots 9 = .ok (.ireturn, 1) := dk_172 (dk_at dksX0_lots_0 9 rfl rfl)
abbrev cX0_image : ByteArray := prog_1_method_81_code
def yX0_image : MethodName := ⟨RX0, "image", "()I"⟩
def dkwX0_image_0 : List UInt8 := [42, 16, 23, 3, 3, 3, 182, 1, 147, 172]
abbrev dktX0_image_0 : List UInt8 := dkwX0_image_0 ++ []
theorem dksX0_image_0 : cX0_image.data.toList.drop 0 = dktX0_image_0 := by decide +kernel
theorem dX0_image_0 : decode cX0_image 0 = .ok (.aload_n 0, 1) := dk_42 (dk_at dksX0_image_0 0 rfl rfl)
theorem dX0_image_1 : decode cX0_image 1 = .ok (.bipush 23, 2) := dk_16 23 (dk_at dksX0_image_0 1 rfl rfl)
theorem dX0_image_3 : decode cX0_image 3 = .ok (.iconst 0, 1) := dk_3 (dk_at dksX0_image_0 3 rfl rfl)
theorem dX0_image_4 : decode cX0_image 4 = .ok (.iconst 0, 1) := dk_3 (dk_at dksX0_image_0 4 rfl rfl)
theorem dX0_image_5 : decode cX0_image 5 = .ok (.iconst 0, 1) := dk_3 (dk_at dksX0_image_0 5 rfl rfl)
theorem dX0_image_6 : decode cX0_image 6 = .ok (.invokevirtual 403, 3) := dk_182 1 147 (dk_at dksX0_image_0 6 rfl rfl)
theorem dX0_image_9 : decode cX0_image 9 = .ok (.ireturn, 1) := dk_172 (dk_at dksX0_image_0 9 rfl rfl)
abbrev cX0_on : ByteArray := prog_1_method_82_code
def yX0_on : MethodName := ⟨RX0, "on", "()I"⟩
def dkwX0_on_0 : List UInt8 := [42, 16, 24, 3, 3, 3, 182, 1, 147, 172]
abbrev dktX0_on_0 : List UInt8 := dkwX0_on_0 ++ []
theorem dksX0_on_0 : cX0_on.data.toList.drop 0 = dktX0_on_0 := by decide +kernel
theorem dX0_on_0 : decode cX0_on 0 = .ok (.aload_n 0, 1) := dk_42 (dk_at dksX0_on_0 0 rfl rfl)
theorem dX0_on_1 : decode cX0_on 1 = .ok (.bipush 24, 2) := dk_16 24 (dk_at dksX0_on_0 1 rfl rfl)
theorem dX0_on_3 : decode cX0_on 3 = .ok (.iconst 0, 1) := dk_3 (dk_at dksX0_on_0 3 rfl rfl)
theorem dX0_on_4 : decode cX0_on 4 = .ok (.iconst 0, 1) := dk_3 (dk_at dksX0_on_0 4 rfl rfl)
theorem dX0_on_5 : decode cX0_on 5 = .ok (.iconst 0, 1) := dk_3 (dk_at dksX0_on_0 5 rfl rfl)
theorem dX0_on_6 : decode cX0_on 6 = .ok (.invokevirtual 403, 3) := dk_182 1 147 (dk_at dksX0_on_0 6 rfl rfl)
theorem dX0_on_9 : decode cX0_on 9 = .ok (.ireturn, 1) := dk_172 (dk_at dksX0_on_0 9 rfl rfl)
abbrev cX0_count : ByteArray := prog_1_method_83_code
def yX0_count : MethodName := ⟨RX0, "count", "(I)I"⟩
def dkwX0_count_5 : List UInt8 := [42, 180, 0, 95, 27, 16, 10, 100, 46, 167, 0, 5, 16, 247, 172]
abbrev dktX0_count_5 : List UInt8 := dkwX0_count_5 ++ []
def dkwX0_count_4 : List UInt8 := [42, 180, 0, 241, 172, 42, 180, 0, 120, 172, 27, 133, 20, 1, 160, 20, 1, 162, 184, 0, 13, 153, 0, 15]
abbrev dktX0_count_4 : List UInt8 := dkwX0_count_4 ++ dktX0_count_5
def dkwX0_count_3 : List UInt8 := [180, 1, 45, 172, 42, 182, 0, 204, 184, 0, 213, 172, 42, 42, 180, 0, 77, 182, 0, 150, 182, 0, 210, 172]
abbrev dktX0_count_3 : List UInt8 := dkwX0_count_3 ++ dktX0_count_4
def dkwX0_count_2 : List UInt8 := [42, 180, 0, 77, 180, 0, 160, 172, 42, 180, 0, 77, 180, 0, 154, 184, 0, 213, 172, 42, 180, 0, 77]
abbrev dktX0_count_2 : List UInt8 := dkwX0_count_2 ++ dktX0_count_3
def dkwX0_count_1 : List UInt8 := [170, 0, 0, 0, 0, 0, 100, 0, 0, 0, 0, 0, 0, 0, 6, 0, 0, 0, 43, 0, 0, 0, 51, 0, 0, 0, 62, 0, 0, 0, 70, 0, 0, 0, 78, 0, 0, 0, 90, 0, 0, 0, 95]
abbrev dktX0_count_1 : List UInt8 := dkwX0_count_1 ++ dktX0_count_2
def dkwX0_count_0 : List UInt8 := [27]
abbrev dktX0_count_0 : List UInt8 := dkwX0_count_0 ++ dktX0_count_1
theorem dksX0_count_0 : cX0_count.data.toList.drop 0 = dktX0_count_0 := by decide +kernel
theorem dksX0_count_1 : cX0_count.data.toList.drop 1 = dktX0_count_1 := dk_seg dksX0_count_0 1 rfl rfl
theorem dksX0_count_2 : cX0_count.data.toList.drop 44 = dktX0_count_2 := dk_seg dksX0_count_1 43 rfl rfl
theorem dksX0_count_3 : cX0_count.data.toList.drop 67 = dktX0_count_3 := dk_seg dksX0_count_2 23 rfl rfl
theorem dksX0_count_4 : cX0_count.data.toList.drop 91 = dktX0_count_4 := dk_seg dksX0_count_3 24 rfl rfl
theorem dksX0_count_5 : cX0_count.data.toList.drop 115 = dktX0_count_5 := dk_seg dksX0_count_4 24 rfl rfl
theorem dX0_count_0 : decode cX0_count 0 = .ok (.iload_n 1, 1) := dk_27 (dk_at dksX0_count_0 0 rfl rfl)
theorem dX0_count_1 : decode cX0_count 1 = .ok (.tableswitch 100 0 6 #[43, 51, 62, 70, 78, 90, 95], 43) := by decide +kernel
theorem dX0_count_44 : decode cX0_count 44 = .ok (.aload_n 0, 1) := dk_42 (dk_at dksX0_count_2 0 rfl rfl)
theorem dX0_count_45 : decode cX0_count 45 = .ok (.getfield 77, 3) := dk_180 0 77 (dk_at dksX0_count_2 1 rfl rfl)
theorem dX0_count_48 : decode cX0_count 48 = .ok (.getfield 160, 3) := dk_180 0 160 (dk_at dksX0_count_2 4 rfl rfl)
theorem dX0_count_51 : decode cX0_count 51 = .ok (.ireturn, 1) := dk_172 (dk_at dksX0_count_2 7 rfl rfl)
theorem dX0_count_52 : decode cX0_count 52 = .ok (.aload_n 0, 1) := dk_42 (dk_at dksX0_count_2 8 rfl rfl)
theorem dX0_count_53 : decode cX0_count 53 = .ok (.getfield 77, 3) := dk_180 0 77 (dk_at dksX0_count_2 9 rfl rfl)
theorem dX0_count_56 : decode cX0_count 56 = .ok (.getfield 154, 3) := dk_180 0 154 (dk_at dksX0_count_2 12 rfl rfl)
theorem dX0_count_59 : decode cX0_count 59 = .ok (.invokestatic 213, 3) := dk_184 0 213 (dk_at dksX0_count_2 15 rfl rfl)
theorem dX0_count_62 : decode cX0_count 62 = .ok (.ireturn, 1) := dk_172 (dk_at dksX0_count_2 18 rfl rfl)
theorem dX0_count_63 : decode cX0_count 63 = .ok (.aload_n 0, 1) := dk_42 (dk_at dksX0_count_2 19 rfl rfl)
theorem dX0_count_64 : decode cX0_count 64 = .ok (.getfield 77, 3) := dk_180 0 77 (dk_at dksX0_count_2 20 rfl rfl)
theorem dX0_count_67 : decode cX0_count 67 = .ok (.getfield 301, 3) := dk_180 1 45 (dk_at dksX0_count_3 0 rfl rfl)
theorem dX0_count_70 : decode cX0_count 70 = .ok (.ireturn, 1) := dk_172 (dk_at dksX0_count_3 3 rfl rfl)
theorem dX0_count_71 : decode cX0_count 71 = .ok (.aload_n 0, 1) := dk_42 (dk_at dksX0_count_3 4 rfl rfl)
theorem dX0_count_72 : decode cX0_count 72 = .ok (.invokevirtual 204, 3) := dk_182 0 204 (dk_at dksX0_count_3 5 rfl rfl)
theorem dX0_count_75 : decode cX0_count 75 = .ok (.invokestatic 213, 3) := dk_184 0 213 (dk_at dksX0_count_3 8 rfl rfl)
theorem dX0_count_78 : decode cX0_count 78 = .ok (.ireturn, 1) := dk_172 (dk_at dksX0_count_3 11 rfl rfl)
theorem dX0_count_79 : decode cX0_count 79 = .ok (.aload_n 0, 1) := dk_42 (dk_at dksX0_count_3 12 rfl rfl)
theorem dX0_count_80 : decode cX0_count 80 = .ok (.aload_n 0, 1) := dk_42 (dk_at dksX0_count_3 13 rfl rfl)
theorem dX0_count_81 : decode cX0_count 81 = .ok (.getfield 77, 3) := dk_180 0 77 (dk_at dksX0_count_3 14 rfl rfl)
theorem dX0_count_84 : decode cX0_count 84 = .ok (.invokevirtual 150, 3) := dk_182 0 150 (dk_at dksX0_count_3 17 rfl rfl)
theorem dX0_count_87 : decode cX0_count 87 = .ok (.invokevirtual 210, 3) := dk_182 0 210 (dk_at dksX0_count_3 20 rfl rfl)
theorem dX0_count_90 : decode cX0_count 90 = .ok (.ireturn, 1) := dk_172 (dk_at dksX0_count_3 23 rfl rfl)
theorem dX0_count_91 : decode cX0_count 91 = .ok (.aload_n 0, 1) := dk_42 (dk_at dksX0_count_4 0 rfl rfl)
theorem dX0_count_92 : decode cX0_count 92 = .ok (.getfield 241, 3) := dk_180 0 241 (dk_at dksX0_count_4 1 rfl rfl)
theorem dX0_count_95 : decode cX0_count 95 = .ok (.ireturn, 1) := dk_172 (dk_at dksX0_count_4 4 rfl rfl)
theorem dX0_count_96 : decode cX0_count 96 = .ok (.aload_n 0, 1) := dk_42 (dk_at dksX0_count_4 5 rfl rfl)
theorem dX0_count_97 : decode cX0_count 97 = .ok (.getfield 120, 3) := dk_180 0 120 (dk_at dksX0_count_4 6 rfl rfl)
theorem dX0_count_100 : decode cX0_count 100 = .ok (.ireturn, 1) := dk_172 (dk_at dksX0_count_4 9 rfl rfl)
theorem dX0_count_101 : decode cX0_count 101 = .ok (.iload_n 1, 1) := dk_27 (dk_at dksX0_count_4 10 rfl rfl)
theorem dX0_count_102 : decode cX0_count 102 = .ok (.i2l, 1) := dk_133 (dk_at dksX0_count_4 11 rfl rfl)
theorem dX0_count_103 : decode cX0_count 103 = .ok (.ldc2_w 416, 3) := dk_20 1 160 (dk_at dksX0_count_4 12 rfl rfl)
theorem dX0_count_106 : decode cX0_count 106 = .ok (.ldc2_w 418, 3) := dk_20 1 162 (dk_at dksX0_count_4 15 rfl rfl)
theorem dX0_count_109 : decode cX0_count 109 = .ok (.invokestatic 13, 3) := dk_184 0 13 (dk_at dksX0_count_4 18 rfl rfl)
theorem dX0_count_112 : decode cX0_count 112 = .ok (.ifCond .eq 15, 3) := dk_153 0 15 (dk_at dksX0_count_4 21 rfl rfl)
theorem dX0_count_115 : decode cX0_count 115 = .ok (.aload_n 0, 1) := dk_42 (dk_at dksX0_count_5 0 rfl rfl)
theorem dX0_count_116 : decode cX0_count 116 = .ok (.getfield 95, 3) := dk_180 0 95 (dk_at dksX0_count_5 1 rfl rfl)
theorem dX0_count_119 : decode cX0_count 119 = .ok (.iload_n 1, 1) := dk_27 (dk_at dksX0_count_5 4 rfl rfl)
theorem dX0_count_120 : decode cX0_count 120 = .ok (.bipush 10, 2) := dk_16 10 (dk_at dksX0_count_5 5 rfl rfl)
theorem dX0_count_122 : decode cX0_count 122 = .ok (.isub, 1) := dk_100 (dk_at dksX0_count_5 7 rfl rfl)
theorem dX0_count_123 : decode cX0_count 123 = .ok (.iaload, 1) := dk_46 (dk_at dksX0_count_5 8 rfl rfl)
theorem dX0_count_124 : decode cX0_count 124 = .ok (.goto 5, 3) := dk_167 0 5 (dk_at dksX0_count_5 9 rfl rfl)
theorem dX0_count_127 : decode cX0_count 127 = .ok (.bipush (-9), 2) := dk_16 247 (dk_at dksX0_count_5 12 rfl rfl)
theorem dX0_count_129 : decode cX0_count 129 = .ok (.ireturn, 1) := dk_172 (dk_at dksX0_count_5 14 rfl rfl)
theorem q81 : (Jvm.Cond.initialized "WithoutThem") ∈ lw_all := lw_g (lw_at lw_m1 1 rfl) rfl
theorem q114 : (Jvm.Cond.instantiable "WithoutThem" (18 : Nat)) ∈ lw_all := lw_g (lw_at lw_m1 34 rfl) rfl
theorem q116 : (Jvm.Cond.instanceMethod ({ cls := "WithoutThem", name := "<init>", desc := "()V" } : Jvm.MethodName)) ∈ lw_all := lw_g (lw_at lw_m1 36 rfl) rfl
theorem q117 : (Jvm.Cond.code ({ cls := "WithoutThem", name := "<init>", desc := "()V" } : Jvm.MethodName) prog_1_method_9_code (1 : Nat) (Option.none : Option Jvm.ClassFile.FieldType)) ∈ lw_all := lw_g (lw_at lw_m1 37 rfl) rfl
theorem q118 : (Jvm.Cond.methodLink "WithoutThem" (21 : Nat) ({ cls := "java/lang/Object", name := "<init>", desc := "()V" } : Jvm.MethodName)) ∈ lw_all := lw_g (lw_at lw_m1 38 rfl) rfl
theorem q121 : (Jvm.Cond.classLink "WithoutThem" (26 : Nat) "WithoutThem$Kind") ∈ lw_all := lw_g (lw_at lw_m1 41 rfl) rfl
theorem q123 : (Jvm.Cond.classLink "WithoutThem" (28 : Nat) "WithoutThem$Thing") ∈ lw_all := lw_g (lw_at lw_m1 43 rfl) rfl
theorem q125 : (Jvm.Cond.methodLinkNest "WithoutThem" (30 : Nat) ({ cls := "WithoutThem$Thing", name := "<init>", desc := "()V" } : Jvm.MethodName) "WithoutThem") ∈ lw_tbl := lw_at lw_m1 45 rfl
theorem q133 : (Jvm.Cond.classLink "WithoutThem" (31 : Nat) "WithoutThem$Both") ∈ lw_all := lw_g (lw_at lw_m1 53 rfl) rfl
theorem q135 : (Jvm.Cond.methodLinkNest "WithoutThem" (33 : Nat) ({ cls := "WithoutThem$Both", name := "<init>", desc := "()V" } : Jvm.MethodName) "WithoutThem") ∈ lw_tbl := lw_at lw_m1 55 rfl
theorem q140 : (Jvm.Cond.classLink "WithoutThem" (34 : Nat) "WithoutThem$Lit") ∈ lw_all := lw_g (lw_at lw_m1 60 rfl) rfl
theorem q142 : (Jvm.Cond.methodLinkNest "WithoutThem" (36 : Nat) ({ cls := "WithoutThem$Lit", name := "<init>", desc := "()V" } : Jvm.MethodName) "WithoutThem") ∈ lw_tbl := lw_at lw_m1 62 rfl
theorem q147 : (Jvm.Cond.classLink "WithoutThem" (37 : Nat) "WithoutThem$Felt") ∈ lw_all := lw_g (lw_at lw_m1 67 rfl) rfl
theorem q149 : (Jvm.Cond.methodLinkNest "WithoutThem" (39 : Nat) ({ cls := "WithoutThem$Felt", name := "<init>", desc := "()V" } : Jvm.MethodName) "WithoutThem") ∈ lw_tbl := lw_at lw_m1 69 rfl
theorem q154 : (Jvm.Cond.classLink "WithoutThem" (40 : Nat) "WithoutThem$Wide") ∈ lw_all := lw_g (lw_at lw_m1 74 rfl) rfl
theorem q156 : (Jvm.Cond.methodLinkNest "WithoutThem" (42 : Nat) ({ cls := "WithoutThem$Wide", name := "<init>", desc := "()V" } : Jvm.MethodName) "WithoutThem") ∈ lw_tbl := lw_at lw_m1 76 rfl
theorem q161 : (Jvm.Cond.classLink "WithoutThem" (43 : Nat) "WithoutThem$Pair") ∈ lw_all := lw_g (lw_at lw_m1 81 rfl) rfl
theorem q163 : (Jvm.Cond.methodLinkNest "WithoutThem" (45 : Nat) ({ cls := "WithoutThem$Pair", name := "<init>", desc := "()V" } : Jvm.MethodName) "WithoutThem") ∈ lw_tbl := lw_at lw_m1 83 rfl
theorem q168 : (Jvm.Cond.classLink "WithoutThem" (50 : Nat) "WithoutThem$Seeker") ∈ lw_all := lw_g (lw_at lw_m1 88 rfl) rfl
theorem q170 : (Jvm.Cond.classLink "WithoutThem" (52 : Nat) "WithoutThem$PlainSeeker") ∈ lw_all := lw_g (lw_at lw_m1 90 rfl) rfl
theorem q172 : (Jvm.Cond.methodLinkNest "WithoutThem" (54 : Nat) ({ cls := "WithoutThem$PlainSeeker", name := "<init>", desc := "()V" } : Jvm.MethodName) "WithoutThem") ∈ lw_tbl := lw_at lw_m1 92 rfl
theorem q180 : (Jvm.Cond.classLink "WithoutThem" (55 : Nat) "WithoutThem$QuickSeeker") ∈ lw_all := lw_g (lw_at lw_m1 100 rfl) rfl
theorem q182 : (Jvm.Cond.methodLinkNest "WithoutThem" (57 : Nat) ({ cls := "WithoutThem$QuickSeeker", name := "<init>", desc := "()V" } : Jvm.MethodName) "WithoutThem") ∈ lw_tbl := lw_at lw_m1 102 rfl
theorem q187 : (Jvm.Cond.classLink "WithoutThem" (58 : Nat) "WithoutThem$SafeSeeker") ∈ lw_all := lw_g (lw_at lw_m1 107 rfl) rfl
theorem q189 : (Jvm.Cond.methodLinkNest "WithoutThem" (60 : Nat) ({ cls := "WithoutThem$SafeSeeker", name := "<init>", desc := "()V" } : Jvm.MethodName) "WithoutThem") ∈ lw_tbl := lw_at lw_m1 109 rfl
theorem q194 : (Jvm.Cond.classLink "WithoutThem" (61 : Nat) "WithoutThem$WiseSeeker") ∈ lw_all := lw_g (lw_at lw_m1 114 rfl) rfl
theorem q196 : (Jvm.Cond.methodLinkNest "WithoutThem" (63 : Nat) ({ cls := "WithoutThem$WiseSeeker", name := "<init>", desc := "()V" } : Jvm.MethodName) "WithoutThem") ∈ lw_tbl := lw_at lw_m1 116 rfl
theorem q201 : (Jvm.Cond.classLink "WithoutThem" (64 : Nat) "WithoutThem$LostSeeker") ∈ lw_all := lw_g (lw_at lw_m1 121 rfl) rfl
theorem q203 : (Jvm.Cond.methodLinkNest "WithoutThem" (66 : Nat) ({ cls := "WithoutThem$LostSeeker", name := "<init>", desc := "()V" } : Jvm.MethodName) "WithoutThem") ∈ lw_tbl := lw_at lw_m1 123 rfl
theorem q208 : (Jvm.Cond.classLink "WithoutThem" (67 : Nat) "WithoutThem$GreedySeeker") ∈ lw_all := lw_g (lw_at lw_m1 128 rfl) rfl
theorem q210 : (Jvm.Cond.methodLinkNest "WithoutThem" (69 : Nat) ({ cls := "WithoutThem$GreedySeeker", name := "<init>", desc := "()V" } : Jvm.MethodName) "WithoutThem") ∈ lw_tbl := lw_at lw_m1 130 rfl
theorem q215 : (Jvm.Cond.classLink "WithoutThem" (74 : Nat) "WithoutThem$House") ∈ lw_all := lw_g (lw_at lw_m1 135 rfl) rfl
theorem q217 : (Jvm.Cond.methodLinkNest "WithoutThem" (76 : Nat) ({ cls := "WithoutThem$House", name := "<init>", desc := "()V" } : Jvm.MethodName) "WithoutThem") ∈ lw_tbl := lw_at lw_m1 137 rfl
theorem q226 : (Jvm.Cond.fieldLinkNest "WithoutThem" (160 : Nat) "WithoutThem$House" "things" "I" "WithoutThem") ∈ lw_tbl := lw_at lw_m1 146 rfl
theorem q229 : (Jvm.Cond.fieldLinkNest "WithoutThem" (285 : Nat) "WithoutThem$House" "kind" "[LWithoutThem$Kind;" "WithoutThem") ∈ lw_tbl := lw_at lw_m1 149 rfl
theorem q232 : (Jvm.Cond.fieldLinkNest "WithoutThem" (290 : Nat) "WithoutThem$House" "minutes" "[I" "WithoutThem") ∈ lw_tbl := lw_at lw_m1 152 rfl
theorem q236 : (Jvm.Cond.fieldLinkNest "WithoutThem" (195 : Nat) "WithoutThem$House" "sures" "[I" "WithoutThem") ∈ lw_tbl := lw_at lw_m1 156 rfl
theorem q241 : (Jvm.Cond.fieldLinkNest "WithoutThem" (207 : Nat) "WithoutThem$House" "costs" "[I" "WithoutThem") ∈ lw_tbl := lw_at lw_m1 161 rfl
theorem q245 : (Jvm.Cond.fieldLinkNest "WithoutThem" (292 : Nat) "WithoutThem$House" "anys" "[I" "WithoutThem") ∈ lw_tbl := lw_at lw_m1 165 rfl
theorem q249 : (Jvm.Cond.fieldLinkNest "WithoutThem" (295 : Nat) "WithoutThem$House" "alls" "[I" "WithoutThem") ∈ lw_tbl := lw_at lw_m1 169 rfl
theorem q253 : (Jvm.Cond.fieldLinkNest "WithoutThem" (154 : Nat) "WithoutThem$House" "hand" "I" "WithoutThem") ∈ lw_tbl := lw_at lw_m1 173 rfl
theorem q255 : (Jvm.Cond.fieldLinkNest "WithoutThem" (301 : Nat) "WithoutThem$House" "minute" "I" "WithoutThem") ∈ lw_tbl := lw_at lw_m1 175 rfl
theorem q277 : (Jvm.Cond.fieldLink "WithoutThem" (46 : Nat) "WithoutThem" "kinds" "[LWithoutThem$Kind;") ∈ lw_all := lw_g (lw_at lw_m1 197 rfl) rfl
theorem q278 : (Jvm.Cond.fieldLink "WithoutThem" (70 : Nat) "WithoutThem" "seekers" "[LWithoutThem$Seeker;") ∈ lw_all := lw_g (lw_at lw_m1 198 rfl) rfl
theorem q279 : (Jvm.Cond.fieldLink "WithoutThem" (77 : Nat) "WithoutThem" "house" "LWithoutThem$House;") ∈ lw_all := lw_g (lw_at lw_m1 199 rfl) rfl
theorem q280 : (Jvm.Cond.fieldLink "WithoutThem" (81 : Nat) "WithoutThem" "mind" "LWithoutThem$House;") ∈ lw_all := lw_g (lw_at lw_m1 200 rfl) rfl
theorem q281 : (Jvm.Cond.fieldLink "WithoutThem" (84 : Nat) "WithoutThem" "imaged" "LWithoutThem$House;") ∈ lw_all := lw_g (lw_at lw_m1 201 rfl) rfl
theorem q282 : (Jvm.Cond.fieldLink "WithoutThem" (384 : Nat) "WithoutThem" "hasImage" "Z") ∈ lw_all := lw_g (lw_at lw_m1 202 rfl) rfl
theorem q283 : (Jvm.Cond.fieldLink "WithoutThem" (87 : Nat) "WithoutThem" "row" "[B") ∈ lw_all := lw_g (lw_at lw_m1 203 rfl) rfl
theorem q284 : (Jvm.Cond.fieldLink "WithoutThem" (241 : Nat) "WithoutThem" "rowMany" "I") ∈ lw_all := lw_g (lw_at lw_m1 204 rfl) rfl
theorem q286 : (Jvm.Cond.fieldLink "WithoutThem" (91 : Nat) "WithoutThem" "letters" "[C") ∈ lw_all := lw_g (lw_at lw_m1 206 rfl) rfl
theorem q288 : (Jvm.Cond.fieldLink "WithoutThem" (120 : Nat) "WithoutThem" "letterMany" "I") ∈ lw_all := lw_g (lw_at lw_m1 208 rfl) rfl
theorem q289 : (Jvm.Cond.fieldLink "WithoutThem" (95 : Nat) "WithoutThem" "refused" "[I") ∈ lw_all := lw_g (lw_at lw_m1 209 rfl) rfl
theorem q290 : (Jvm.Cond.fieldLink "WithoutThem" (99 : Nat) "WithoutThem" "fewest" "[I") ∈ lw_all := lw_g (lw_at lw_m1 210 rfl) rfl
theorem q291 : (Jvm.Cond.fieldLink "WithoutThem" (102 : Nat) "WithoutThem" "means" "[J") ∈ lw_all := lw_g (lw_at lw_m1 211 rfl) rfl
theorem q292 : (Jvm.Cond.fieldLink "WithoutThem" (106 : Nat) "WithoutThem" "wayMany" "[I") ∈ lw_all := lw_g (lw_at lw_m1 212 rfl) rfl
theorem q293 : (Jvm.Cond.fieldLink "WithoutThem" (109 : Nat) "WithoutThem" "toGo" "[I") ∈ lw_all := lw_g (lw_at lw_m1 213 rfl) rfl
theorem q294 : (Jvm.Cond.fieldLink "WithoutThem" (112 : Nat) "WithoutThem" "order" "[I") ∈ lw_all := lw_g (lw_at lw_m1 214 rfl) rfl
theorem q295 : (Jvm.Cond.fieldLink "WithoutThem" (229 : Nat) "WithoutThem" "taken" "I") ∈ lw_all := lw_g (lw_at lw_m1 215 rfl) rfl
theorem q296 : (Jvm.Cond.fieldLink "WithoutThem" (232 : Nat) "WithoutThem" "minutes" "I") ∈ lw_all := lw_g (lw_at lw_m1 216 rfl) rfl
theorem q297 : (Jvm.Cond.laysFinal "WithoutThem" "WithoutThem" "kinds" "[LWithoutThem$Kind;") ∈ lw_all := lw_g (lw_at lw_m1 217 rfl) rfl
theorem q298 : (Jvm.Cond.soleField "WithoutThem" "kinds") ∈ lw_all := lw_g (lw_at lw_m1 218 rfl) rfl
theorem q299 : (Jvm.Cond.laysFinal "WithoutThem" "WithoutThem" "seekers" "[LWithoutThem$Seeker;") ∈ lw_all := lw_g (lw_at lw_m1 219 rfl) rfl
theorem q300 : (Jvm.Cond.soleField "WithoutThem" "seekers") ∈ lw_all := lw_g (lw_at lw_m1 220 rfl) rfl
theorem q301 : (Jvm.Cond.laysFinal "WithoutThem" "WithoutThem" "house" "LWithoutThem$House;") ∈ lw_all := lw_g (lw_at lw_m1 221 rfl) rfl
theorem q302 : (Jvm.Cond.soleField "WithoutThem" "house") ∈ lw_all := lw_g (lw_at lw_m1 222 rfl) rfl
theorem q303 : (Jvm.Cond.laysFinal "WithoutThem" "WithoutThem" "mind" "LWithoutThem$House;") ∈ lw_all := lw_g (lw_at lw_m1 223 rfl) rfl
theorem q304 : (Jvm.Cond.soleField "WithoutThem" "mind") ∈ lw_all := lw_g (lw_at lw_m1 224 rfl) rfl
theorem q305 : (Jvm.Cond.laysFinal "WithoutThem" "WithoutThem" "imaged" "LWithoutThem$House;") ∈ lw_all := lw_g (lw_at lw_m1 225 rfl) rfl
theorem q306 : (Jvm.Cond.soleField "WithoutThem" "imaged") ∈ lw_all := lw_g (lw_at lw_m1 226 rfl) rfl
theorem q307 : (Jvm.Cond.lays "WithoutThem" "WithoutThem" "hasImage" "Z") ∈ lw_all := lw_g (lw_at lw_m1 227 rfl) rfl
theorem q308 : (Jvm.Cond.soleField "WithoutThem" "hasImage") ∈ lw_all := lw_g (lw_at lw_m1 228 rfl) rfl
theorem q309 : (Jvm.Cond.laysFinal "WithoutThem" "WithoutThem" "row" "[B") ∈ lw_all := lw_g (lw_at lw_m1 229 rfl) rfl
theorem q310 : (Jvm.Cond.soleField "WithoutThem" "row") ∈ lw_all := lw_g (lw_at lw_m1 230 rfl) rfl
theorem q311 : (Jvm.Cond.lays "WithoutThem" "WithoutThem" "rowMany" "I") ∈ lw_all := lw_g (lw_at lw_m1 231 rfl) rfl
theorem q312 : (Jvm.Cond.soleField "WithoutThem" "rowMany") ∈ lw_all := lw_g (lw_at lw_m1 232 rfl) rfl
theorem q313 : (Jvm.Cond.laysFinal "WithoutThem" "WithoutThem" "letters" "[C") ∈ lw_all := lw_g (lw_at lw_m1 233 rfl) rfl
theorem q314 : (Jvm.Cond.soleField "WithoutThem" "letters") ∈ lw_all := lw_g (lw_at lw_m1 234 rfl) rfl
theorem q315 : (Jvm.Cond.lays "WithoutThem" "WithoutThem" "letterMany" "I") ∈ lw_all := lw_g (lw_at lw_m1 235 rfl) rfl
theorem q316 : (Jvm.Cond.soleField "WithoutThem" "letterMany") ∈ lw_all := lw_g (lw_at lw_m1 236 rfl) rfl
theorem q317 : (Jvm.Cond.laysFinal "WithoutThem" "WithoutThem" "refused" "[I") ∈ lw_all := lw_g (lw_at lw_m1 237 rfl) rfl
theorem q318 : (Jvm.Cond.soleField "WithoutThem" "refused") ∈ lw_all := lw_g (lw_at lw_m1 238 rfl) rfl
theorem q319 : (Jvm.Cond.laysFinal "WithoutThem" "WithoutThem" "fewest" "[I") ∈ lw_all := lw_g (lw_at lw_m1 239 rfl) rfl
theorem q320 : (Jvm.Cond.soleField "WithoutThem" "fewest") ∈ lw_all := lw_g (lw_at lw_m2 0 rfl) rfl
theorem q321 : (Jvm.Cond.laysFinal "WithoutThem" "WithoutThem" "means" "[J") ∈ lw_all := lw_g (lw_at lw_m2 1 rfl) rfl
theorem q322 : (Jvm.Cond.soleField "WithoutThem" "means") ∈ lw_all := lw_g (lw_at lw_m2 2 rfl) rfl
theorem q323 : (Jvm.Cond.laysFinal "WithoutThem" "WithoutThem" "wayMany" "[I") ∈ lw_all := lw_g (lw_at lw_m2 3 rfl) rfl
theorem q324 : (Jvm.Cond.soleField "WithoutThem" "wayMany") ∈ lw_all := lw_g (lw_at lw_m2 4 rfl) rfl
theorem q325 : (Jvm.Cond.laysFinal "WithoutThem" "WithoutThem" "toGo" "[I") ∈ lw_all := lw_g (lw_at lw_m2 5 rfl) rfl
theorem q326 : (Jvm.Cond.soleField "WithoutThem" "toGo") ∈ lw_all := lw_g (lw_at lw_m2 6 rfl) rfl
theorem q327 : (Jvm.Cond.laysFinal "WithoutThem" "WithoutThem" "order" "[I") ∈ lw_all := lw_g (lw_at lw_m2 7 rfl) rfl
theorem q328 : (Jvm.Cond.soleField "WithoutThem" "order") ∈ lw_all := lw_g (lw_at lw_m2 8 rfl) rfl
theorem q329 : (Jvm.Cond.lays "WithoutThem" "WithoutThem" "taken" "I") ∈ lw_all := lw_g (lw_at lw_m2 9 rfl) rfl
theorem q330 : (Jvm.Cond.soleField "WithoutThem" "taken") ∈ lw_all := lw_g (lw_at lw_m2 10 rfl) rfl
theorem q331 : (Jvm.Cond.lays "WithoutThem" "WithoutThem" "minutes" "I") ∈ lw_all := lw_g (lw_at lw_m2 11 rfl) rfl
theorem q332 : (Jvm.Cond.soleField "WithoutThem" "minutes") ∈ lw_all := lw_g (lw_at lw_m2 12 rfl) rfl
theorem q333 : (Jvm.Cond.superclass "WithoutThem" "java/lang/Object") ∈ lw_all := lw_g (lw_at lw_m2 13 rfl) rfl
theorem q338 : (Jvm.Cond.instanceMethod ({ cls := "WithoutThem", name := "letter", desc := "(I)I" } : Jvm.MethodName)) ∈ lw_all := lw_g (lw_at lw_m2 18 rfl) rfl
theorem q339 : (Jvm.Cond.selects "WithoutThem" ({ cls := "WithoutThem", name := "letter", desc := "(I)I" } : Jvm.MethodName) ({ cls := "WithoutThem", name := "letter", desc := "(I)I" } : Jvm.MethodName)) ∈ lw_all := lw_g (lw_at lw_m2 19 rfl) rfl
theorem q340 : (Jvm.Cond.code ({ cls := "WithoutThem", name := "letter", desc := "(I)I" } : Jvm.MethodName) prog_1_method_55_code (2 : Nat) (Option.some Jvm.ClassFile.FieldType.int)) ∈ lw_all := lw_g (lw_at lw_m2 20 rfl) rfl
theorem q341 : (Jvm.Cond.methodLink "WithoutThem" (403 : Nat) ({ cls := "WithoutThem", name := "act", desc := "(IIII)I" } : Jvm.MethodName)) ∈ lw_all := lw_g (lw_at lw_m2 21 rfl) rfl
theorem q342 : (Jvm.Cond.privateMethod ({ cls := "WithoutThem", name := "act", desc := "(IIII)I" } : Jvm.MethodName)) ∈ lw_tbl := lw_at lw_m2 22 rfl
theorem q343 : (Jvm.Cond.instanceMethod ({ cls := "WithoutThem", name := "act", desc := "(IIII)I" } : Jvm.MethodName)) ∈ lw_all := lw_g (lw_at lw_m2 23 rfl) rfl
theorem q344 : (Jvm.Cond.codeWith ({ cls := "WithoutThem", name := "act", desc := "(IIII)I" } : Jvm.MethodName) prog_1_method_32_code (6 : Nat) (Option.some Jvm.ClassFile.FieldType.int) [((0 : Nat), (41 : Nat), (42 : Nat), (255 : Nat))]) ∈ lw_all := lw_g (lw_at lw_m2 24 rfl) rfl
theorem q345 : (Jvm.Cond.classLink "WithoutThem" (255 : Nat) "WithoutThem$Refusal") ∈ lw_all := lw_g (lw_at lw_m2 25 rfl) rfl
theorem q346 : (Jvm.Cond.methodLink "WithoutThem" (244 : Nat) ({ cls := "WithoutThem", name := "ofHouse", desc := "(IIII)I" } : Jvm.MethodName)) ∈ lw_all := lw_g (lw_at lw_m2 26 rfl) rfl
theorem q347 : (Jvm.Cond.privateMethod ({ cls := "WithoutThem", name := "ofHouse", desc := "(IIII)I" } : Jvm.MethodName)) ∈ lw_tbl := lw_at lw_m2 27 rfl
theorem q348 : (Jvm.Cond.instanceMethod ({ cls := "WithoutThem", name := "ofHouse", desc := "(IIII)I" } : Jvm.MethodName)) ∈ lw_all := lw_g (lw_at lw_m2 28 rfl) rfl
theorem q349 : (Jvm.Cond.code ({ cls := "WithoutThem", name := "ofHouse", desc := "(IIII)I" } : Jvm.MethodName) prog_1_method_43_code (5 : Nat) (Option.some Jvm.ClassFile.FieldType.int)) ∈ lw_all := lw_g (lw_at lw_m2 29 rfl) rfl
theorem q350 : (Jvm.Cond.methodLink "WithoutThem" (304 : Nat) ({ cls := "WithoutThem", name := "letterIt", desc := "(I)I" } : Jvm.MethodName)) ∈ lw_all := lw_g (lw_at lw_m2 30 rfl) rfl
theorem q351 : (Jvm.Cond.privateMethod ({ cls := "WithoutThem", name := "letterIt", desc := "(I)I" } : Jvm.MethodName)) ∈ lw_tbl := lw_at lw_m2 31 rfl
theorem q352 : (Jvm.Cond.instanceMethod ({ cls := "WithoutThem", name := "letterIt", desc := "(I)I" } : Jvm.MethodName)) ∈ lw_all := lw_g (lw_at lw_m2 32 rfl) rfl
theorem q353 : (Jvm.Cond.code ({ cls := "WithoutThem", name := "letterIt", desc := "(I)I" } : Jvm.MethodName) prog_1_method_39_code (2 : Nat) (Option.some Jvm.ClassFile.FieldType.int)) ∈ lw_all := lw_g (lw_at lw_m2 33 rfl) rfl
theorem q354 : (Jvm.Cond.constantLong "WithoutThem" (274 : Nat) (255 : Int64)) ∈ lw_all := lw_g (lw_at lw_m2 34 rfl) rfl
theorem q355 : (Jvm.Cond.methodLink "WithoutThem" (276 : Nat) ({ cls := "WithoutThem", name := "within", desc := "(JJJ)V" } : Jvm.MethodName)) ∈ lw_all := lw_g (lw_at lw_m2 35 rfl) rfl
theorem q356 : (Jvm.Cond.static ({ cls := "WithoutThem", name := "within", desc := "(JJJ)V" } : Jvm.MethodName)) ∈ lw_all := lw_g (lw_at lw_m2 36 rfl) rfl
theorem q357 : (Jvm.Cond.code ({ cls := "WithoutThem", name := "within", desc := "(JJJ)V" } : Jvm.MethodName) prog_1_method_3_code (6 : Nat) (Option.none : Option Jvm.ClassFile.FieldType)) ∈ lw_all := lw_g (lw_at lw_m2 37 rfl) rfl
theorem q358 : (Jvm.Cond.methodLink "WithoutThem" (9 : Nat) ({ cls := "WithoutThem", name := "must", desc := "(ZI)V" } : Jvm.MethodName)) ∈ lw_all := lw_g (lw_at lw_m2 38 rfl) rfl
theorem q359 : (Jvm.Cond.static ({ cls := "WithoutThem", name := "must", desc := "(ZI)V" } : Jvm.MethodName)) ∈ lw_all := lw_g (lw_at lw_m2 39 rfl) rfl
theorem q360 : (Jvm.Cond.code ({ cls := "WithoutThem", name := "must", desc := "(ZI)V" } : Jvm.MethodName) prog_1_method_2_code (2 : Nat) (Option.none : Option Jvm.ClassFile.FieldType)) ∈ lw_all := lw_g (lw_at lw_m2 40 rfl) rfl
theorem q361 : (Jvm.Cond.classLink "WithoutThem" (3 : Nat) "WithoutThem$Refused") ∈ lw_all := lw_g (lw_at lw_m2 41 rfl) rfl
theorem q402 : (Jvm.Cond.methodLink "WithoutThem" (5 : Nat) ({ cls := "WithoutThem$Refused", name := "<init>", desc := "(I)V" } : Jvm.MethodName)) ∈ lw_all := lw_g (lw_at lw_m2 82 rfl) rfl
theorem q430 : (Jvm.Cond.methodLink "WithoutThem" (307 : Nat) ({ cls := "WithoutThem", name := "readHouse", desc := "()I" } : Jvm.MethodName)) ∈ lw_all := lw_g (lw_at lw_m2 110 rfl) rfl
theorem q431 : (Jvm.Cond.privateMethod ({ cls := "WithoutThem", name := "readHouse", desc := "()I" } : Jvm.MethodName)) ∈ lw_tbl := lw_at lw_m2 111 rfl
theorem q432 : (Jvm.Cond.instanceMethod ({ cls := "WithoutThem", name := "readHouse", desc := "()I" } : Jvm.MethodName)) ∈ lw_all := lw_g (lw_at lw_m2 112 rfl) rfl
theorem q433 : (Jvm.Cond.code ({ cls := "WithoutThem", name := "readHouse", desc := "()I" } : Jvm.MethodName) prog_1_method_10_code (5 : Nat) (Option.some Jvm.ClassFile.FieldType.int)) ∈ lw_all := lw_g (lw_at lw_m2 113 rfl) rfl
theorem q434 : (Jvm.Cond.classLink "WithoutThem" (115 : Nat) "WithoutThem$Reader") ∈ lw_all := lw_g (lw_at lw_m2 114 rfl) rfl
theorem q436 : (Jvm.Cond.methodLinkNest "WithoutThem" (117 : Nat) ({ cls := "WithoutThem$Reader", name := "<init>", desc := "(LWithoutThem;)V" } : Jvm.MethodName) "WithoutThem") ∈ lw_tbl := lw_at lw_m2 116 rfl
theorem q441 : (Jvm.Cond.fieldLinkNest "WithoutThem" (133 : Nat) "WithoutThem$Reader" "size" "I" "WithoutThem") ∈ lw_tbl := lw_at lw_m2 121 rfl
theorem q443 : (Jvm.Cond.fieldLinkNest "WithoutThem" (130 : Nat) "WithoutThem$Reader" "at" "I" "WithoutThem") ∈ lw_tbl := lw_at lw_m2 123 rfl
theorem q452 : (Jvm.Cond.classLink "WithoutThem" (124 : Nat) "WithoutThem$Told") ∈ lw_all := lw_g (lw_at lw_m2 132 rfl) rfl
theorem q454 : (Jvm.Cond.methodLink "WithoutThem" (126 : Nat) ({ cls := "WithoutThem$Reader", name := "statement", desc := "()LWithoutThem$Told;" } : Jvm.MethodName)) ∈ lw_all := lw_g (lw_at lw_m2 134 rfl) rfl
theorem q503 : (Jvm.Cond.static ({ cls := "WithoutThem", name := "in", desc := "(JJJ)Z" } : Jvm.MethodName)) ∈ lw_all := lw_g (lw_at lw_m2 183 rfl) rfl
theorem q504 : (Jvm.Cond.code ({ cls := "WithoutThem", name := "in", desc := "(JJJ)Z" } : Jvm.MethodName) prog_1_method_1_code (6 : Nat) (Option.some Jvm.ClassFile.FieldType.boolean)) ∈ lw_all := lw_g (lw_at lw_m2 184 rfl) rfl
theorem q520 : (Jvm.Cond.fieldLink "WithoutThem" (146 : Nat) "WithoutThem$Told" "start" "I") ∈ lw_all := lw_g (lw_at lw_m2 200 rfl) rfl
theorem q594 : (Jvm.Cond.methodLink "WithoutThem" (136 : Nat) ({ cls := "WithoutThem$House", name := "set", desc := "(LWithoutThem$House;)V" } : Jvm.MethodName)) ∈ lw_all := lw_g (lw_at lw_m3 34 rfl) rfl
theorem q601 : (Jvm.Cond.methodLink "WithoutThem" (140 : Nat) ({ cls := "WithoutThem$Told", name := "comes", desc := "(LWithoutThem$House;)Z" } : Jvm.MethodName)) ∈ lw_all := lw_g (lw_at lw_m3 41 rfl) rfl
theorem q645 : (Jvm.Cond.classLink "WithoutThem" (144 : Nat) "WithoutThem$Fault") ∈ lw_all := lw_g (lw_at lw_m3 85 rfl) rfl
theorem q646 : (Jvm.Cond.methodLink "WithoutThem" (149 : Nat) ({ cls := "WithoutThem$Fault", name := "<init>", desc := "(I)V" } : Jvm.MethodName)) ∈ lw_all := lw_g (lw_at lw_m3 86 rfl) rfl
theorem q647 : (Jvm.Cond.methodLink "WithoutThem" (310 : Nat) ({ cls := "WithoutThem", name := "thingTold", desc := "(II)I" } : Jvm.MethodName)) ∈ lw_all := lw_g (lw_at lw_m3 87 rfl) rfl
theorem q648 : (Jvm.Cond.privateMethod ({ cls := "WithoutThem", name := "thingTold", desc := "(II)I" } : Jvm.MethodName)) ∈ lw_tbl := lw_at lw_m3 88 rfl
theorem q649 : (Jvm.Cond.instanceMethod ({ cls := "WithoutThem", name := "thingTold", desc := "(II)I" } : Jvm.MethodName)) ∈ lw_all := lw_g (lw_at lw_m3 89 rfl) rfl
theorem q650 : (Jvm.Cond.code ({ cls := "WithoutThem", name := "thingTold", desc := "(II)I" } : Jvm.MethodName) prog_1_method_40_code (3 : Nat) (Option.some Jvm.ClassFile.FieldType.int)) ∈ lw_all := lw_g (lw_at lw_m3 90 rfl) rfl
theorem q651 : (Jvm.Cond.methodLink "WithoutThem" (280 : Nat) ({ cls := "WithoutThem", name := "mustBeThing", desc := "(I)V" } : Jvm.MethodName)) ∈ lw_all := lw_g (lw_at lw_m3 91 rfl) rfl
theorem q652 : (Jvm.Cond.privateMethod ({ cls := "WithoutThem", name := "mustBeThing", desc := "(I)V" } : Jvm.MethodName)) ∈ lw_tbl := lw_at lw_m3 92 rfl
theorem q653 : (Jvm.Cond.instanceMethod ({ cls := "WithoutThem", name := "mustBeThing", desc := "(I)V" } : Jvm.MethodName)) ∈ lw_all := lw_g (lw_at lw_m3 93 rfl) rfl
theorem q654 : (Jvm.Cond.code ({ cls := "WithoutThem", name := "mustBeThing", desc := "(I)V" } : Jvm.MethodName) prog_1_method_34_code (2 : Nat) (Option.none : Option Jvm.ClassFile.FieldType)) ∈ lw_all := lw_g (lw_at lw_m3 94 rfl) rfl
theorem q655 : (Jvm.Cond.methodLink "WithoutThem" (265 : Nat) ({ cls := "WithoutThem", name := "mustBe", desc := "(II)V" } : Jvm.MethodName)) ∈ lw_all := lw_g (lw_at lw_m3 95 rfl) rfl
theorem q656 : (Jvm.Cond.static ({ cls := "WithoutThem", name := "mustBe", desc := "(II)V" } : Jvm.MethodName)) ∈ lw_all := lw_g (lw_at lw_m3 96 rfl) rfl
theorem q657 : (Jvm.Cond.code ({ cls := "WithoutThem", name := "mustBe", desc := "(II)V" } : Jvm.MethodName) prog_1_method_4_code (2 : Nat) (Option.none : Option Jvm.ClassFile.FieldType)) ∈ lw_all := lw_g (lw_at lw_m3 97 rfl) rfl
theorem q658 : (Jvm.Cond.methodLink "WithoutThem" (13 : Nat) ({ cls := "WithoutThem", name := "in", desc := "(JJJ)Z" } : Jvm.MethodName)) ∈ lw_all := lw_g (lw_at lw_m3 98 rfl) rfl
theorem q659 : (Jvm.Cond.constantLong "WithoutThem" (283 : Nat) (7 : Int64)) ∈ lw_all := lw_g (lw_at lw_m3 99 rfl) rfl
theorem q660 : (Jvm.Cond.methodLink "WithoutThem" (288 : Nat) ({ cls := "WithoutThem$Kind", name := "kind", desc := "()I" } : Jvm.MethodName)) ∈ lw_all := lw_g (lw_at lw_m3 100 rfl) rfl
theorem q681 : (Jvm.Cond.methodLink "WithoutThem" (167 : Nat) ({ cls := "WithoutThem$House", name := "go", desc := "(II)I" } : Jvm.MethodName)) ∈ lw_all := lw_g (lw_at lw_m3 121 rfl) rfl
theorem q698 : (Jvm.Cond.static ({ cls := "WithoutThem", name := "has", desc := "(II)Z" } : Jvm.MethodName)) ∈ lw_all := lw_g (lw_at lw_m3 138 rfl) rfl
theorem q699 : (Jvm.Cond.code ({ cls := "WithoutThem", name := "has", desc := "(II)Z" } : Jvm.MethodName) prog_1_method_5_code (2 : Nat) (Option.some Jvm.ClassFile.FieldType.boolean)) ∈ lw_all := lw_g (lw_at lw_m3 139 rfl) rfl
theorem q712 : (Jvm.Cond.static ({ cls := "WithoutThem", name := "ones", desc := "(I)I" } : Jvm.MethodName)) ∈ lw_all := lw_g (lw_at lw_m3 152 rfl) rfl
theorem q713 : (Jvm.Cond.code ({ cls := "WithoutThem", name := "ones", desc := "(I)I" } : Jvm.MethodName) prog_1_method_6_code (3 : Nat) (Option.some Jvm.ClassFile.FieldType.int)) ∈ lw_all := lw_g (lw_at lw_m3 153 rfl) rfl
theorem q714 : (Jvm.Cond.methodLink "WithoutThem" (313 : Nat) ({ cls := "WithoutThem", name := "needIt", desc := "(III)I" } : Jvm.MethodName)) ∈ lw_all := lw_g (lw_at lw_m3 154 rfl) rfl
theorem q715 : (Jvm.Cond.privateMethod ({ cls := "WithoutThem", name := "needIt", desc := "(III)I" } : Jvm.MethodName)) ∈ lw_tbl := lw_at lw_m3 155 rfl
theorem q716 : (Jvm.Cond.instanceMethod ({ cls := "WithoutThem", name := "needIt", desc := "(III)I" } : Jvm.MethodName)) ∈ lw_all := lw_g (lw_at lw_m3 156 rfl) rfl
theorem q717 : (Jvm.Cond.code ({ cls := "WithoutThem", name := "needIt", desc := "(III)I" } : Jvm.MethodName) prog_1_method_41_code (5 : Nat) (Option.some Jvm.ClassFile.FieldType.int)) ∈ lw_all := lw_g (lw_at lw_m3 157 rfl) rfl
theorem q718 : (Jvm.Cond.methodLink "WithoutThem" (298 : Nat) ({ cls := "WithoutThem", name := "mustBeBit", desc := "(I)V" } : Jvm.MethodName)) ∈ lw_all := lw_g (lw_at lw_m3 158 rfl) rfl
theorem q719 : (Jvm.Cond.static ({ cls := "WithoutThem", name := "mustBeBit", desc := "(I)V" } : Jvm.MethodName)) ∈ lw_all := lw_g (lw_at lw_m3 159 rfl) rfl
theorem q720 : (Jvm.Cond.code ({ cls := "WithoutThem", name := "mustBeBit", desc := "(I)V" } : Jvm.MethodName) prog_1_method_36_code (1 : Nat) (Option.none : Option Jvm.ClassFile.FieldType)) ∈ lw_all := lw_g (lw_at lw_m3 160 rfl) rfl
theorem q721 : (Jvm.Cond.methodLink "WithoutThem" (316 : Nat) ({ cls := "WithoutThem", name := "takeIt", desc := "(I)I" } : Jvm.MethodName)) ∈ lw_all := lw_g (lw_at lw_m3 161 rfl) rfl
theorem q722 : (Jvm.Cond.privateMethod ({ cls := "WithoutThem", name := "takeIt", desc := "(I)I" } : Jvm.MethodName)) ∈ lw_tbl := lw_at lw_m3 162 rfl
theorem q723 : (Jvm.Cond.instanceMethod ({ cls := "WithoutThem", name := "takeIt", desc := "(I)I" } : Jvm.MethodName)) ∈ lw_all := lw_g (lw_at lw_m3 163 rfl) rfl
theorem q724 : (Jvm.Cond.code ({ cls := "WithoutThem", name := "takeIt", desc := "(I)I" } : Jvm.MethodName) prog_1_method_42_code (3 : Nat) (Option.some Jvm.ClassFile.FieldType.int)) ∈ lw_all := lw_g (lw_at lw_m3 164 rfl) rfl
theorem q725 : (Jvm.Cond.methodLink "WithoutThem" (163 : Nat) ({ cls := "WithoutThem$House", name := "may", desc := "(II)Z" } : Jvm.MethodName)) ∈ lw_all := lw_g (lw_at lw_m3 165 rfl) rfl
theorem q751 : (Jvm.Cond.methodLink "WithoutThem" (319 : Nat) ({ cls := "WithoutThem$House", name := "mayBits", desc := "(I)I" } : Jvm.MethodName)) ∈ lw_all := lw_g (lw_at lw_m3 191 rfl) rfl
theorem q756 : (Jvm.Cond.methodLink "WithoutThem" (271 : Nat) ({ cls := "WithoutThem", name := "mustBeSet", desc := "(I)V" } : Jvm.MethodName)) ∈ lw_all := lw_g (lw_at lw_m3 196 rfl) rfl
theorem q757 : (Jvm.Cond.privateMethod ({ cls := "WithoutThem", name := "mustBeSet", desc := "(I)V" } : Jvm.MethodName)) ∈ lw_tbl := lw_at lw_m3 197 rfl
theorem q758 : (Jvm.Cond.instanceMethod ({ cls := "WithoutThem", name := "mustBeSet", desc := "(I)V" } : Jvm.MethodName)) ∈ lw_all := lw_g (lw_at lw_m3 198 rfl) rfl
theorem q759 : (Jvm.Cond.code ({ cls := "WithoutThem", name := "mustBeSet", desc := "(I)V" } : Jvm.MethodName) prog_1_method_35_code (2 : Nat) (Option.none : Option Jvm.ClassFile.FieldType)) ∈ lw_all := lw_g (lw_at lw_m3 199 rfl) rfl
theorem q760 : (Jvm.Cond.methodLink "WithoutThem" (150 : Nat) ({ cls := "WithoutThem$House", name := "whole", desc := "()I" } : Jvm.MethodName)) ∈ lw_all := lw_g (lw_at lw_m3 200 rfl) rfl
theorem q764 : (Jvm.Cond.methodLink "WithoutThem" (189 : Nat) ({ cls := "WithoutThem$House", name := "reach", desc := "(I)I" } : Jvm.MethodName)) ∈ lw_all := lw_g (lw_at lw_m3 204 rfl) rfl
theorem q773 : (Jvm.Cond.methodLink "WithoutThem" (248 : Nat) ({ cls := "WithoutThem", name := "ofSets", desc := "(III)I" } : Jvm.MethodName)) ∈ lw_all := lw_g (lw_at lw_m3 213 rfl) rfl
theorem q774 : (Jvm.Cond.privateMethod ({ cls := "WithoutThem", name := "ofSets", desc := "(III)I" } : Jvm.MethodName)) ∈ lw_tbl := lw_at lw_m3 214 rfl
theorem q775 : (Jvm.Cond.instanceMethod ({ cls := "WithoutThem", name := "ofSets", desc := "(III)I" } : Jvm.MethodName)) ∈ lw_all := lw_g (lw_at lw_m3 215 rfl) rfl
theorem q776 : (Jvm.Cond.code ({ cls := "WithoutThem", name := "ofSets", desc := "(III)I" } : Jvm.MethodName) prog_1_method_48_code (4 : Nat) (Option.some Jvm.ClassFile.FieldType.int)) ∈ lw_all := lw_g (lw_at lw_m3 216 rfl) rfl
theorem q777 : (Jvm.Cond.methodLink "WithoutThem" (337 : Nat) ({ cls := "WithoutThem", name := "soonestTold", desc := "(II)I" } : Jvm.MethodName)) ∈ lw_all := lw_g (lw_at lw_m3 217 rfl) rfl
theorem q778 : (Jvm.Cond.privateMethod ({ cls := "WithoutThem", name := "soonestTold", desc := "(II)I" } : Jvm.MethodName)) ∈ lw_tbl := lw_at lw_m3 218 rfl
theorem q779 : (Jvm.Cond.instanceMethod ({ cls := "WithoutThem", name := "soonestTold", desc := "(II)I" } : Jvm.MethodName)) ∈ lw_all := lw_g (lw_at lw_m3 219 rfl) rfl
theorem q780 : (Jvm.Cond.code ({ cls := "WithoutThem", name := "soonestTold", desc := "(II)I" } : Jvm.MethodName) prog_1_method_44_code (4 : Nat) (Option.some Jvm.ClassFile.FieldType.int)) ∈ lw_all := lw_g (lw_at lw_m3 220 rfl) rfl
theorem q781 : (Jvm.Cond.methodLink "WithoutThem" (185 : Nat) ({ cls := "WithoutThem", name := "soonestFor", desc := "(I)I" } : Jvm.MethodName)) ∈ lw_all := lw_g (lw_at lw_m3 221 rfl) rfl
theorem q782 : (Jvm.Cond.privateMethod ({ cls := "WithoutThem", name := "soonestFor", desc := "(I)I" } : Jvm.MethodName)) ∈ lw_tbl := lw_at lw_m3 222 rfl
theorem q783 : (Jvm.Cond.instanceMethod ({ cls := "WithoutThem", name := "soonestFor", desc := "(I)I" } : Jvm.MethodName)) ∈ lw_all := lw_g (lw_at lw_m3 223 rfl) rfl
theorem q784 : (Jvm.Cond.code ({ cls := "WithoutThem", name := "soonestFor", desc := "(I)I" } : Jvm.MethodName) prog_1_method_12_code (4 : Nat) (Option.some Jvm.ClassFile.FieldType.int)) ∈ lw_all := lw_g (lw_at lw_m3 224 rfl) rfl
theorem q785 : (Jvm.Cond.methodLink "WithoutThem" (182 : Nat) ({ cls := "WithoutThem", name := "findOrders", desc := "()V" } : Jvm.MethodName)) ∈ lw_all := lw_g (lw_at lw_m3 225 rfl) rfl
theorem q786 : (Jvm.Cond.privateMethod ({ cls := "WithoutThem", name := "findOrders", desc := "()V" } : Jvm.MethodName)) ∈ lw_tbl := lw_at lw_m3 226 rfl
theorem q787 : (Jvm.Cond.instanceMethod ({ cls := "WithoutThem", name := "findOrders", desc := "()V" } : Jvm.MethodName)) ∈ lw_all := lw_g (lw_at lw_m3 227 rfl) rfl
theorem q788 : (Jvm.Cond.code ({ cls := "WithoutThem", name := "findOrders", desc := "()V" } : Jvm.MethodName) prog_1_method_11_code (4 : Nat) (Option.none : Option Jvm.ClassFile.FieldType)) ∈ lw_all := lw_g (lw_at lw_m3 228 rfl) rfl
theorem q789 : (Jvm.Cond.constant "WithoutThem" (157 : Nat) (1000000 : Int32)) ∈ lw_all := lw_g (lw_at lw_m3 229 rfl) rfl
theorem q790 : (Jvm.Cond.constantLong "WithoutThem" (158 : Nat) (1000000000000 : Int64)) ∈ lw_all := lw_g (lw_at lw_m3 230 rfl) rfl
theorem q791 : (Jvm.Cond.methodLink "WithoutThem" (171 : Nat) ({ cls := "java/lang/Math", name := "min", desc := "(II)I" } : Jvm.MethodName)) ∈ lw_all := lw_g (lw_at lw_m3 231 rfl) rfl
theorem q792 : (Jvm.Cond.methodLink "WithoutThem" (176 : Nat) ({ cls := "WithoutThem$House", name := "goMean", desc := "(II)J" } : Jvm.MethodName)) ∈ lw_all := lw_g (lw_at lw_m3 232 rfl) rfl
theorem q798 : (Jvm.Cond.methodLink "WithoutThem" (180 : Nat) ({ cls := "java/lang/Math", name := "min", desc := "(JJ)J" } : Jvm.MethodName)) ∈ lw_all := lw_g (lw_at lw_m3 238 rfl) rfl
theorem q801 : (Jvm.Cond.methodLink "WithoutThem" (322 : Nat) ({ cls := "WithoutThem", name := "firstFor", desc := "(I)I" } : Jvm.MethodName)) ∈ lw_all := lw_g (lw_at lw_m4 1 rfl) rfl
theorem q802 : (Jvm.Cond.privateMethod ({ cls := "WithoutThem", name := "firstFor", desc := "(I)I" } : Jvm.MethodName)) ∈ lw_tbl := lw_at lw_m4 2 rfl
theorem q803 : (Jvm.Cond.instanceMethod ({ cls := "WithoutThem", name := "firstFor", desc := "(I)I" } : Jvm.MethodName)) ∈ lw_all := lw_g (lw_at lw_m4 3 rfl) rfl
theorem q804 : (Jvm.Cond.code ({ cls := "WithoutThem", name := "firstFor", desc := "(I)I" } : Jvm.MethodName) prog_1_method_13_code (6 : Nat) (Option.some Jvm.ClassFile.FieldType.int)) ∈ lw_all := lw_g (lw_at lw_m4 4 rfl) rfl
theorem q805 : (Jvm.Cond.methodLink "WithoutThem" (340 : Nat) ({ cls := "WithoutThem", name := "ringedBits", desc := "()I" } : Jvm.MethodName)) ∈ lw_all := lw_g (lw_at lw_m4 5 rfl) rfl
theorem q806 : (Jvm.Cond.privateMethod ({ cls := "WithoutThem", name := "ringedBits", desc := "()I" } : Jvm.MethodName)) ∈ lw_tbl := lw_at lw_m4 6 rfl
theorem q807 : (Jvm.Cond.instanceMethod ({ cls := "WithoutThem", name := "ringedBits", desc := "()I" } : Jvm.MethodName)) ∈ lw_all := lw_g (lw_at lw_m4 7 rfl) rfl
theorem q808 : (Jvm.Cond.code ({ cls := "WithoutThem", name := "ringedBits", desc := "()I" } : Jvm.MethodName) prog_1_method_17_code (6 : Nat) (Option.some Jvm.ClassFile.FieldType.int)) ∈ lw_all := lw_g (lw_at lw_m4 8 rfl) rfl
theorem q809 : (Jvm.Cond.methodLink "WithoutThem" (204 : Nat) ({ cls := "WithoutThem", name := "barred", desc := "()I" } : Jvm.MethodName)) ∈ lw_all := lw_g (lw_at lw_m4 9 rfl) rfl
theorem q810 : (Jvm.Cond.privateMethod ({ cls := "WithoutThem", name := "barred", desc := "()I" } : Jvm.MethodName)) ∈ lw_tbl := lw_at lw_m4 10 rfl
theorem q811 : (Jvm.Cond.instanceMethod ({ cls := "WithoutThem", name := "barred", desc := "()I" } : Jvm.MethodName)) ∈ lw_all := lw_g (lw_at lw_m4 11 rfl) rfl
theorem q812 : (Jvm.Cond.code ({ cls := "WithoutThem", name := "barred", desc := "()I" } : Jvm.MethodName) prog_1_method_16_code (1 : Nat) (Option.some Jvm.ClassFile.FieldType.int)) ∈ lw_all := lw_g (lw_at lw_m4 12 rfl) rfl
theorem q813 : (Jvm.Cond.methodLink "WithoutThem" (192 : Nat) ({ cls := "WithoutThem", name := "has", desc := "(II)Z" } : Jvm.MethodName)) ∈ lw_all := lw_g (lw_at lw_m4 13 rfl) rfl
theorem q814 : (Jvm.Cond.methodLink "WithoutThem" (343 : Nat) ({ cls := "WithoutThem", name := "begTold", desc := "(I)I" } : Jvm.MethodName)) ∈ lw_all := lw_g (lw_at lw_m4 14 rfl) rfl
theorem q815 : (Jvm.Cond.privateMethod ({ cls := "WithoutThem", name := "begTold", desc := "(I)I" } : Jvm.MethodName)) ∈ lw_tbl := lw_at lw_m4 15 rfl
theorem q816 : (Jvm.Cond.instanceMethod ({ cls := "WithoutThem", name := "begTold", desc := "(I)I" } : Jvm.MethodName)) ∈ lw_all := lw_g (lw_at lw_m4 16 rfl) rfl
theorem q817 : (Jvm.Cond.code ({ cls := "WithoutThem", name := "begTold", desc := "(I)I" } : Jvm.MethodName) prog_1_method_45_code (3 : Nat) (Option.some Jvm.ClassFile.FieldType.int)) ∈ lw_all := lw_g (lw_at lw_m4 17 rfl) rfl
theorem q818 : (Jvm.Cond.methodLink "WithoutThem" (325 : Nat) ({ cls := "WithoutThem", name := "leastBegged", desc := "()I" } : Jvm.MethodName)) ∈ lw_all := lw_g (lw_at lw_m4 18 rfl) rfl
theorem q819 : (Jvm.Cond.privateMethod ({ cls := "WithoutThem", name := "leastBegged", desc := "()I" } : Jvm.MethodName)) ∈ lw_tbl := lw_at lw_m4 19 rfl
theorem q820 : (Jvm.Cond.instanceMethod ({ cls := "WithoutThem", name := "leastBegged", desc := "()I" } : Jvm.MethodName)) ∈ lw_all := lw_g (lw_at lw_m4 20 rfl) rfl
theorem q821 : (Jvm.Cond.code ({ cls := "WithoutThem", name := "leastBegged", desc := "()I" } : Jvm.MethodName) prog_1_method_19_code (4 : Nat) (Option.some Jvm.ClassFile.FieldType.int)) ∈ lw_all := lw_g (lw_at lw_m4 21 rfl) rfl
theorem q822 : (Jvm.Cond.methodLink "WithoutThem" (210 : Nat) ({ cls := "WithoutThem", name := "costOf", desc := "(I)I" } : Jvm.MethodName)) ∈ lw_all := lw_g (lw_at lw_m4 22 rfl) rfl
theorem q823 : (Jvm.Cond.privateMethod ({ cls := "WithoutThem", name := "costOf", desc := "(I)I" } : Jvm.MethodName)) ∈ lw_tbl := lw_at lw_m4 23 rfl
theorem q824 : (Jvm.Cond.instanceMethod ({ cls := "WithoutThem", name := "costOf", desc := "(I)I" } : Jvm.MethodName)) ∈ lw_all := lw_g (lw_at lw_m4 24 rfl) rfl
theorem q825 : (Jvm.Cond.code ({ cls := "WithoutThem", name := "costOf", desc := "(I)I" } : Jvm.MethodName) prog_1_method_18_code (4 : Nat) (Option.some Jvm.ClassFile.FieldType.int)) ∈ lw_all := lw_g (lw_at lw_m4 25 rfl) rfl
theorem q826 : (Jvm.Cond.methodLink "WithoutThem" (346 : Nat) ({ cls := "WithoutThem", name := "fewestNails", desc := "()I" } : Jvm.MethodName)) ∈ lw_all := lw_g (lw_at lw_m4 26 rfl) rfl
theorem q827 : (Jvm.Cond.privateMethod ({ cls := "WithoutThem", name := "fewestNails", desc := "()I" } : Jvm.MethodName)) ∈ lw_tbl := lw_at lw_m4 27 rfl
theorem q828 : (Jvm.Cond.instanceMethod ({ cls := "WithoutThem", name := "fewestNails", desc := "()I" } : Jvm.MethodName)) ∈ lw_all := lw_g (lw_at lw_m4 28 rfl) rfl
theorem q829 : (Jvm.Cond.code ({ cls := "WithoutThem", name := "fewestNails", desc := "()I" } : Jvm.MethodName) prog_1_method_20_code (4 : Nat) (Option.some Jvm.ClassFile.FieldType.int)) ∈ lw_all := lw_g (lw_at lw_m4 29 rfl) rfl
theorem q830 : (Jvm.Cond.methodLink "WithoutThem" (213 : Nat) ({ cls := "WithoutThem", name := "ones", desc := "(I)I" } : Jvm.MethodName)) ∈ lw_all := lw_g (lw_at lw_m4 30 rfl) rfl
theorem q831 : (Jvm.Cond.methodLink "WithoutThem" (349 : Nat) ({ cls := "WithoutThem", name := "bestSpare", desc := "()I" } : Jvm.MethodName)) ∈ lw_all := lw_g (lw_at lw_m4 31 rfl) rfl
theorem q832 : (Jvm.Cond.privateMethod ({ cls := "WithoutThem", name := "bestSpare", desc := "()I" } : Jvm.MethodName)) ∈ lw_tbl := lw_at lw_m4 32 rfl
theorem q833 : (Jvm.Cond.instanceMethod ({ cls := "WithoutThem", name := "bestSpare", desc := "()I" } : Jvm.MethodName)) ∈ lw_all := lw_g (lw_at lw_m4 33 rfl) rfl
theorem q834 : (Jvm.Cond.code ({ cls := "WithoutThem", name := "bestSpare", desc := "()I" } : Jvm.MethodName) prog_1_method_21_code (5 : Nat) (Option.some Jvm.ClassFile.FieldType.int)) ∈ lw_all := lw_g (lw_at lw_m4 34 rfl) rfl
theorem q835 : (Jvm.Cond.methodLink "WithoutThem" (216 : Nat) ({ cls := "java/lang/Math", name := "max", desc := "(II)I" } : Jvm.MethodName)) ∈ lw_all := lw_g (lw_at lw_m4 35 rfl) rfl
theorem q838 : (Jvm.Cond.methodLink "WithoutThem" (352 : Nat) ({ cls := "WithoutThem", name := "doesTold", desc := "(I)I" } : Jvm.MethodName)) ∈ lw_all := lw_g (lw_at lw_m4 38 rfl) rfl
theorem q839 : (Jvm.Cond.privateMethod ({ cls := "WithoutThem", name := "doesTold", desc := "(I)I" } : Jvm.MethodName)) ∈ lw_tbl := lw_at lw_m4 39 rfl
theorem q840 : (Jvm.Cond.instanceMethod ({ cls := "WithoutThem", name := "doesTold", desc := "(I)I" } : Jvm.MethodName)) ∈ lw_all := lw_g (lw_at lw_m4 40 rfl) rfl
theorem q841 : (Jvm.Cond.code ({ cls := "WithoutThem", name := "doesTold", desc := "(I)I" } : Jvm.MethodName) prog_1_method_46_code (2 : Nat) (Option.some Jvm.ClassFile.FieldType.int)) ∈ lw_all := lw_g (lw_at lw_m4 41 rfl) rfl
theorem q842 : (Jvm.Cond.methodLink "WithoutThem" (328 : Nat) ({ cls := "WithoutThem", name := "doesFor", desc := "(I)I" } : Jvm.MethodName)) ∈ lw_all := lw_g (lw_at lw_m4 42 rfl) rfl
theorem q843 : (Jvm.Cond.privateMethod ({ cls := "WithoutThem", name := "doesFor", desc := "(I)I" } : Jvm.MethodName)) ∈ lw_tbl := lw_at lw_m4 43 rfl
theorem q844 : (Jvm.Cond.instanceMethod ({ cls := "WithoutThem", name := "doesFor", desc := "(I)I" } : Jvm.MethodName)) ∈ lw_all := lw_g (lw_at lw_m4 44 rfl) rfl
theorem q845 : (Jvm.Cond.code ({ cls := "WithoutThem", name := "doesFor", desc := "(I)I" } : Jvm.MethodName) prog_1_method_22_code (3 : Nat) (Option.some Jvm.ClassFile.FieldType.int)) ∈ lw_all := lw_g (lw_at lw_m4 45 rfl) rfl
theorem q846 : (Jvm.Cond.methodLink "WithoutThem" (219 : Nat) ({ cls := "WithoutThem$House", name := "reachBut", desc := "(II)I" } : Jvm.MethodName)) ∈ lw_all := lw_g (lw_at lw_m4 46 rfl) rfl
theorem q847 : (Jvm.Cond.methodLink "WithoutThem" (331 : Nat) ({ cls := "WithoutThem", name := "mustHoldHand", desc := "(I)V" } : Jvm.MethodName)) ∈ lw_all := lw_g (lw_at lw_m4 47 rfl) rfl
theorem q848 : (Jvm.Cond.privateMethod ({ cls := "WithoutThem", name := "mustHoldHand", desc := "(I)V" } : Jvm.MethodName)) ∈ lw_tbl := lw_at lw_m4 48 rfl
theorem q849 : (Jvm.Cond.instanceMethod ({ cls := "WithoutThem", name := "mustHoldHand", desc := "(I)V" } : Jvm.MethodName)) ∈ lw_all := lw_g (lw_at lw_m4 49 rfl) rfl
theorem q850 : (Jvm.Cond.code ({ cls := "WithoutThem", name := "mustHoldHand", desc := "(I)V" } : Jvm.MethodName) prog_1_method_38_code (2 : Nat) (Option.none : Option Jvm.ClassFile.FieldType)) ∈ lw_all := lw_g (lw_at lw_m4 50 rfl) rfl
theorem q851 : (Jvm.Cond.methodLink "WithoutThem" (355 : Nat) ({ cls := "WithoutThem", name := "waysTo", desc := "(I)I" } : Jvm.MethodName)) ∈ lw_all := lw_g (lw_at lw_m4 51 rfl) rfl
theorem q852 : (Jvm.Cond.privateMethod ({ cls := "WithoutThem", name := "waysTo", desc := "(I)I" } : Jvm.MethodName)) ∈ lw_tbl := lw_at lw_m4 52 rfl
theorem q853 : (Jvm.Cond.instanceMethod ({ cls := "WithoutThem", name := "waysTo", desc := "(I)I" } : Jvm.MethodName)) ∈ lw_all := lw_g (lw_at lw_m4 53 rfl) rfl
theorem q854 : (Jvm.Cond.code ({ cls := "WithoutThem", name := "waysTo", desc := "(I)I" } : Jvm.MethodName) prog_1_method_23_code (2 : Nat) (Option.some Jvm.ClassFile.FieldType.int)) ∈ lw_all := lw_g (lw_at lw_m4 54 rfl) rfl
theorem q855 : (Jvm.Cond.methodLink "WithoutThem" (358 : Nat) ({ cls := "WithoutThem", name := "mustFor", desc := "(I)I" } : Jvm.MethodName)) ∈ lw_all := lw_g (lw_at lw_m4 55 rfl) rfl
theorem q856 : (Jvm.Cond.privateMethod ({ cls := "WithoutThem", name := "mustFor", desc := "(I)I" } : Jvm.MethodName)) ∈ lw_tbl := lw_at lw_m4 56 rfl
theorem q857 : (Jvm.Cond.instanceMethod ({ cls := "WithoutThem", name := "mustFor", desc := "(I)I" } : Jvm.MethodName)) ∈ lw_all := lw_g (lw_at lw_m4 57 rfl) rfl
theorem q858 : (Jvm.Cond.code ({ cls := "WithoutThem", name := "mustFor", desc := "(I)I" } : Jvm.MethodName) prog_1_method_24_code (5 : Nat) (Option.some Jvm.ClassFile.FieldType.int)) ∈ lw_all := lw_g (lw_at lw_m4 58 rfl) rfl
theorem q859 : (Jvm.Cond.methodLink "WithoutThem" (222 : Nat) ({ cls := "WithoutThem", name := "isWayBut", desc := "(II)Z" } : Jvm.MethodName)) ∈ lw_all := lw_g (lw_at lw_m4 59 rfl) rfl
theorem q860 : (Jvm.Cond.privateMethod ({ cls := "WithoutThem", name := "isWayBut", desc := "(II)Z" } : Jvm.MethodName)) ∈ lw_tbl := lw_at lw_m4 60 rfl
theorem q861 : (Jvm.Cond.instanceMethod ({ cls := "WithoutThem", name := "isWayBut", desc := "(II)Z" } : Jvm.MethodName)) ∈ lw_all := lw_g (lw_at lw_m4 61 rfl) rfl
theorem q862 : (Jvm.Cond.code ({ cls := "WithoutThem", name := "isWayBut", desc := "(II)Z" } : Jvm.MethodName) prog_1_method_25_code (4 : Nat) (Option.some Jvm.ClassFile.FieldType.boolean)) ∈ lw_all := lw_g (lw_at lw_m4 62 rfl) rfl
theorem q863 : (Jvm.Cond.methodLink "WithoutThem" (361 : Nat) ({ cls := "WithoutThem", name := "halfwayTold", desc := "(II)I" } : Jvm.MethodName)) ∈ lw_all := lw_g (lw_at lw_m4 63 rfl) rfl
theorem q864 : (Jvm.Cond.privateMethod ({ cls := "WithoutThem", name := "halfwayTold", desc := "(II)I" } : Jvm.MethodName)) ∈ lw_tbl := lw_at lw_m4 64 rfl
theorem q865 : (Jvm.Cond.instanceMethod ({ cls := "WithoutThem", name := "halfwayTold", desc := "(II)I" } : Jvm.MethodName)) ∈ lw_all := lw_g (lw_at lw_m4 65 rfl) rfl
theorem q866 : (Jvm.Cond.code ({ cls := "WithoutThem", name := "halfwayTold", desc := "(II)I" } : Jvm.MethodName) prog_1_method_47_code (3 : Nat) (Option.some Jvm.ClassFile.FieldType.int)) ∈ lw_all := lw_g (lw_at lw_m4 66 rfl) rfl
theorem q867 : (Jvm.Cond.methodLink "WithoutThem" (334 : Nat) ({ cls := "WithoutThem", name := "halfwayFor", desc := "(II)I" } : Jvm.MethodName)) ∈ lw_all := lw_g (lw_at lw_m4 67 rfl) rfl
theorem q868 : (Jvm.Cond.privateMethod ({ cls := "WithoutThem", name := "halfwayFor", desc := "(II)I" } : Jvm.MethodName)) ∈ lw_tbl := lw_at lw_m4 68 rfl
theorem q869 : (Jvm.Cond.instanceMethod ({ cls := "WithoutThem", name := "halfwayFor", desc := "(II)I" } : Jvm.MethodName)) ∈ lw_all := lw_g (lw_at lw_m4 69 rfl) rfl
theorem q870 : (Jvm.Cond.code ({ cls := "WithoutThem", name := "halfwayFor", desc := "(II)I" } : Jvm.MethodName) prog_1_method_26_code (6 : Nat) (Option.some Jvm.ClassFile.FieldType.int)) ∈ lw_all := lw_g (lw_at lw_m4 70 rfl) rfl
theorem q871 : (Jvm.Cond.methodLink "WithoutThem" (252 : Nat) ({ cls := "WithoutThem", name := "ofRest", desc := "(III)I" } : Jvm.MethodName)) ∈ lw_all := lw_g (lw_at lw_m4 71 rfl) rfl
theorem q872 : (Jvm.Cond.privateMethod ({ cls := "WithoutThem", name := "ofRest", desc := "(III)I" } : Jvm.MethodName)) ∈ lw_tbl := lw_at lw_m4 72 rfl
theorem q873 : (Jvm.Cond.instanceMethod ({ cls := "WithoutThem", name := "ofRest", desc := "(III)I" } : Jvm.MethodName)) ∈ lw_all := lw_g (lw_at lw_m4 73 rfl) rfl
theorem q874 : (Jvm.Cond.code ({ cls := "WithoutThem", name := "ofRest", desc := "(III)I" } : Jvm.MethodName) prog_1_method_51_code (4 : Nat) (Option.some Jvm.ClassFile.FieldType.int)) ∈ lw_all := lw_g (lw_at lw_m4 74 rfl) rfl
theorem q875 : (Jvm.Cond.methodLink "WithoutThem" (370 : Nat) ({ cls := "WithoutThem", name := "seekerTold", desc := "(II)I" } : Jvm.MethodName)) ∈ lw_all := lw_g (lw_at lw_m4 75 rfl) rfl
theorem q876 : (Jvm.Cond.privateMethod ({ cls := "WithoutThem", name := "seekerTold", desc := "(II)I" } : Jvm.MethodName)) ∈ lw_tbl := lw_at lw_m4 76 rfl
theorem q877 : (Jvm.Cond.instanceMethod ({ cls := "WithoutThem", name := "seekerTold", desc := "(II)I" } : Jvm.MethodName)) ∈ lw_all := lw_g (lw_at lw_m4 77 rfl) rfl
theorem q878 : (Jvm.Cond.code ({ cls := "WithoutThem", name := "seekerTold", desc := "(II)I" } : Jvm.MethodName) prog_1_method_49_code (3 : Nat) (Option.some Jvm.ClassFile.FieldType.int)) ∈ lw_all := lw_g (lw_at lw_m4 78 rfl) rfl
theorem q879 : (Jvm.Cond.methodLink "WithoutThem" (364 : Nat) ({ cls := "WithoutThem", name := "mustBeSeeker", desc := "(I)V" } : Jvm.MethodName)) ∈ lw_all := lw_g (lw_at lw_m4 79 rfl) rfl
theorem q880 : (Jvm.Cond.static ({ cls := "WithoutThem", name := "mustBeSeeker", desc := "(I)V" } : Jvm.MethodName)) ∈ lw_all := lw_g (lw_at lw_m4 80 rfl) rfl
theorem q881 : (Jvm.Cond.code ({ cls := "WithoutThem", name := "mustBeSeeker", desc := "(I)V" } : Jvm.MethodName) prog_1_method_37_code (1 : Nat) (Option.none : Option Jvm.ClassFile.FieldType)) ∈ lw_all := lw_g (lw_at lw_m4 81 rfl) rfl
theorem q882 : (Jvm.Cond.constantLong "WithoutThem" (269 : Nat) (5 : Int64)) ∈ lw_all := lw_g (lw_at lw_m4 82 rfl) rfl
theorem q883 : (Jvm.Cond.methodLink "WithoutThem" (367 : Nat) ({ cls := "WithoutThem", name := "seek", desc := "(I)V" } : Jvm.MethodName)) ∈ lw_all := lw_g (lw_at lw_m4 83 rfl) rfl
theorem q884 : (Jvm.Cond.privateMethod ({ cls := "WithoutThem", name := "seek", desc := "(I)V" } : Jvm.MethodName)) ∈ lw_tbl := lw_at lw_m4 84 rfl
theorem q885 : (Jvm.Cond.instanceMethod ({ cls := "WithoutThem", name := "seek", desc := "(I)V" } : Jvm.MethodName)) ∈ lw_all := lw_g (lw_at lw_m4 85 rfl) rfl
theorem q886 : (Jvm.Cond.code ({ cls := "WithoutThem", name := "seek", desc := "(I)V" } : Jvm.MethodName) prog_1_method_28_code (4 : Nat) (Option.none : Option Jvm.ClassFile.FieldType)) ∈ lw_all := lw_g (lw_at lw_m4 86 rfl) rfl
theorem q887 : (Jvm.Cond.methodLink "WithoutThem" (235 : Nat) ({ cls := "WithoutThem", name := "rather", desc := "(II)I" } : Jvm.MethodName)) ∈ lw_all := lw_g (lw_at lw_m4 87 rfl) rfl
theorem q888 : (Jvm.Cond.privateMethod ({ cls := "WithoutThem", name := "rather", desc := "(II)I" } : Jvm.MethodName)) ∈ lw_tbl := lw_at lw_m4 88 rfl
theorem q889 : (Jvm.Cond.instanceMethod ({ cls := "WithoutThem", name := "rather", desc := "(II)I" } : Jvm.MethodName)) ∈ lw_all := lw_g (lw_at lw_m4 89 rfl) rfl
theorem q890 : (Jvm.Cond.code ({ cls := "WithoutThem", name := "rather", desc := "(II)I" } : Jvm.MethodName) prog_1_method_27_code (6 : Nat) (Option.some Jvm.ClassFile.FieldType.int)) ∈ lw_all := lw_g (lw_at lw_m4 90 rfl) rfl
theorem q891 : (Jvm.Cond.methodLink "WithoutThem" (225 : Nat) ({ cls := "WithoutThem$Seeker", name := "against", desc := "(LWithoutThem$House;II)I" } : Jvm.MethodName)) ∈ lw_all := lw_g (lw_at lw_m4 91 rfl) rfl
theorem q916 : (Jvm.Cond.methodLink "WithoutThem" (373 : Nat) ({ cls := "WithoutThem", name := "seeksTold", desc := "(I)I" } : Jvm.MethodName)) ∈ lw_all := lw_g (lw_at lw_m4 116 rfl) rfl
theorem q917 : (Jvm.Cond.privateMethod ({ cls := "WithoutThem", name := "seeksTold", desc := "(I)I" } : Jvm.MethodName)) ∈ lw_tbl := lw_at lw_m4 117 rfl
theorem q918 : (Jvm.Cond.instanceMethod ({ cls := "WithoutThem", name := "seeksTold", desc := "(I)I" } : Jvm.MethodName)) ∈ lw_all := lw_g (lw_at lw_m4 118 rfl) rfl
theorem q919 : (Jvm.Cond.code ({ cls := "WithoutThem", name := "seeksTold", desc := "(I)I" } : Jvm.MethodName) prog_1_method_50_code (2 : Nat) (Option.some Jvm.ClassFile.FieldType.int)) ∈ lw_all := lw_g (lw_at lw_m4 119 rfl) rfl
theorem q920 : (Jvm.Cond.constantLong "WithoutThem" (376 : Nat) (9 : Int64)) ∈ lw_all := lw_g (lw_at lw_m4 120 rfl) rfl
theorem q921 : (Jvm.Cond.methodLink "WithoutThem" (378 : Nat) ({ cls := "WithoutThem", name := "judgeRow", desc := "()I" } : Jvm.MethodName)) ∈ lw_all := lw_g (lw_at lw_m4 121 rfl) rfl
theorem q922 : (Jvm.Cond.privateMethod ({ cls := "WithoutThem", name := "judgeRow", desc := "()I" } : Jvm.MethodName)) ∈ lw_tbl := lw_at lw_m4 122 rfl
theorem q923 : (Jvm.Cond.instanceMethod ({ cls := "WithoutThem", name := "judgeRow", desc := "()I" } : Jvm.MethodName)) ∈ lw_all := lw_g (lw_at lw_m4 123 rfl) rfl
theorem q924 : (Jvm.Cond.code ({ cls := "WithoutThem", name := "judgeRow", desc := "()I" } : Jvm.MethodName) prog_1_method_30_code (4 : Nat) (Option.some Jvm.ClassFile.FieldType.int)) ∈ lw_all := lw_g (lw_at lw_m4 124 rfl) rfl
theorem q925 : (Jvm.Cond.methodLink "WithoutThem" (381 : Nat) ({ cls := "WithoutThem", name := "byLots", desc := "(II)I" } : Jvm.MethodName)) ∈ lw_all := lw_g (lw_at lw_m4 125 rfl) rfl
theorem q926 : (Jvm.Cond.privateMethod ({ cls := "WithoutThem", name := "byLots", desc := "(II)I" } : Jvm.MethodName)) ∈ lw_tbl := lw_at lw_m4 126 rfl
theorem q927 : (Jvm.Cond.instanceMethod ({ cls := "WithoutThem", name := "byLots", desc := "(II)I" } : Jvm.MethodName)) ∈ lw_all := lw_g (lw_at lw_m4 127 rfl) rfl
theorem q928 : (Jvm.Cond.code ({ cls := "WithoutThem", name := "byLots", desc := "(II)I" } : Jvm.MethodName) prog_1_method_29_code (8 : Nat) (Option.some Jvm.ClassFile.FieldType.int)) ∈ lw_all := lw_g (lw_at lw_m4 128 rfl) rfl
theorem q929 : (Jvm.Cond.constant "WithoutThem" (238 : Nat) (1664525 : Int32)) ∈ lw_all := lw_g (lw_at lw_m4 129 rfl) rfl
theorem q930 : (Jvm.Cond.constant "WithoutThem" (239 : Nat) (1013904223 : Int32)) ∈ lw_all := lw_g (lw_at lw_m4 130 rfl) rfl
theorem q931 : (Jvm.Cond.constant "WithoutThem" (240 : Nat) (2147483647 : Int32)) ∈ lw_all := lw_g (lw_at lw_m4 131 rfl) rfl
theorem q932 : (Jvm.Cond.methodLink "WithoutThem" (257 : Nat) ({ cls := "WithoutThem$Refusal", name := "number", desc := "()I" } : Jvm.MethodName)) ∈ lw_all := lw_g (lw_at lw_m4 132 rfl) rfl
theorem q941 : (Jvm.Cond.methodLink "WithoutThem" (260 : Nat) ({ cls := "WithoutThem", name := "refuse", desc := "(I)I" } : Jvm.MethodName)) ∈ lw_all := lw_g (lw_at lw_m4 141 rfl) rfl
theorem q942 : (Jvm.Cond.privateMethod ({ cls := "WithoutThem", name := "refuse", desc := "(I)I" } : Jvm.MethodName)) ∈ lw_tbl := lw_at lw_m4 142 rfl
theorem q943 : (Jvm.Cond.instanceMethod ({ cls := "WithoutThem", name := "refuse", desc := "(I)I" } : Jvm.MethodName)) ∈ lw_all := lw_g (lw_at lw_m4 143 rfl) rfl
theorem q944 : (Jvm.Cond.code ({ cls := "WithoutThem", name := "refuse", desc := "(I)I" } : Jvm.MethodName) prog_1_method_31_code (2 : Nat) (Option.some Jvm.ClassFile.FieldType.int)) ∈ lw_all := lw_g (lw_at lw_m4 144 rfl) rfl
theorem q946 : (Jvm.Cond.instanceMethod ({ cls := "WithoutThem", name := "house", desc := "()I" } : Jvm.MethodName)) ∈ lw_all := lw_g (lw_at lw_m4 146 rfl) rfl
theorem q947 : (Jvm.Cond.selects "WithoutThem" ({ cls := "WithoutThem", name := "house", desc := "()I" } : Jvm.MethodName) ({ cls := "WithoutThem", name := "house", desc := "()I" } : Jvm.MethodName)) ∈ lw_all := lw_g (lw_at lw_m4 147 rfl) rfl
theorem q948 : (Jvm.Cond.code ({ cls := "WithoutThem", name := "house", desc := "()I" } : Jvm.MethodName) prog_1_method_56_code (1 : Nat) (Option.some Jvm.ClassFile.FieldType.int)) ∈ lw_all := lw_g (lw_at lw_m4 148 rfl) rfl
theorem q950 : (Jvm.Cond.instanceMethod ({ cls := "WithoutThem", name := "thing", desc := "(II)I" } : Jvm.MethodName)) ∈ lw_all := lw_g (lw_at lw_m4 150 rfl) rfl
theorem q951 : (Jvm.Cond.selects "WithoutThem" ({ cls := "WithoutThem", name := "thing", desc := "(II)I" } : Jvm.MethodName) ({ cls := "WithoutThem", name := "thing", desc := "(II)I" } : Jvm.MethodName)) ∈ lw_all := lw_g (lw_at lw_m4 151 rfl) rfl
theorem q952 : (Jvm.Cond.code ({ cls := "WithoutThem", name := "thing", desc := "(II)I" } : Jvm.MethodName) prog_1_method_57_code (3 : Nat) (Option.some Jvm.ClassFile.FieldType.int)) ∈ lw_all := lw_g (lw_at lw_m4 152 rfl) rfl
theorem q954 : (Jvm.Cond.instanceMethod ({ cls := "WithoutThem", name := "need", desc := "(III)I" } : Jvm.MethodName)) ∈ lw_all := lw_g (lw_at lw_m4 154 rfl) rfl
theorem q955 : (Jvm.Cond.selects "WithoutThem" ({ cls := "WithoutThem", name := "need", desc := "(III)I" } : Jvm.MethodName) ({ cls := "WithoutThem", name := "need", desc := "(III)I" } : Jvm.MethodName)) ∈ lw_all := lw_g (lw_at lw_m4 155 rfl) rfl
theorem q956 : (Jvm.Cond.code ({ cls := "WithoutThem", name := "need", desc := "(III)I" } : Jvm.MethodName) prog_1_method_58_code (4 : Nat) (Option.some Jvm.ClassFile.FieldType.int)) ∈ lw_all := lw_g (lw_at lw_m4 156 rfl) rfl
theorem q958 : (Jvm.Cond.instanceMethod ({ cls := "WithoutThem", name := "hand", desc := "(I)I" } : Jvm.MethodName)) ∈ lw_all := lw_g (lw_at lw_m4 158 rfl) rfl
theorem q959 : (Jvm.Cond.selects "WithoutThem" ({ cls := "WithoutThem", name := "hand", desc := "(I)I" } : Jvm.MethodName) ({ cls := "WithoutThem", name := "hand", desc := "(I)I" } : Jvm.MethodName)) ∈ lw_all := lw_g (lw_at lw_m4 159 rfl) rfl
theorem q960 : (Jvm.Cond.code ({ cls := "WithoutThem", name := "hand", desc := "(I)I" } : Jvm.MethodName) prog_1_method_59_code (2 : Nat) (Option.some Jvm.ClassFile.FieldType.int)) ∈ lw_all := lw_g (lw_at lw_m4 160 rfl) rfl
theorem q962 : (Jvm.Cond.instanceMethod ({ cls := "WithoutThem", name := "take", desc := "(I)I" } : Jvm.MethodName)) ∈ lw_all := lw_g (lw_at lw_m4 162 rfl) rfl
theorem q963 : (Jvm.Cond.selects "WithoutThem" ({ cls := "WithoutThem", name := "take", desc := "(I)I" } : Jvm.MethodName) ({ cls := "WithoutThem", name := "take", desc := "(I)I" } : Jvm.MethodName)) ∈ lw_all := lw_g (lw_at lw_m4 163 rfl) rfl
theorem q964 : (Jvm.Cond.code ({ cls := "WithoutThem", name := "take", desc := "(I)I" } : Jvm.MethodName) prog_1_method_60_code (2 : Nat) (Option.some Jvm.ClassFile.FieldType.int)) ∈ lw_all := lw_g (lw_at lw_m4 164 rfl) rfl
theorem q966 : (Jvm.Cond.instanceMethod ({ cls := "WithoutThem", name := "may", desc := "()I" } : Jvm.MethodName)) ∈ lw_all := lw_g (lw_at lw_m4 166 rfl) rfl
theorem q967 : (Jvm.Cond.selects "WithoutThem" ({ cls := "WithoutThem", name := "may", desc := "()I" } : Jvm.MethodName) ({ cls := "WithoutThem", name := "may", desc := "()I" } : Jvm.MethodName)) ∈ lw_all := lw_g (lw_at lw_m4 167 rfl) rfl
theorem q968 : (Jvm.Cond.code ({ cls := "WithoutThem", name := "may", desc := "()I" } : Jvm.MethodName) prog_1_method_61_code (1 : Nat) (Option.some Jvm.ClassFile.FieldType.int)) ∈ lw_all := lw_g (lw_at lw_m4 168 rfl) rfl
theorem q970 : (Jvm.Cond.instanceMethod ({ cls := "WithoutThem", name := "with", desc := "(I)I" } : Jvm.MethodName)) ∈ lw_all := lw_g (lw_at lw_m4 170 rfl) rfl
theorem q971 : (Jvm.Cond.selects "WithoutThem" ({ cls := "WithoutThem", name := "with", desc := "(I)I" } : Jvm.MethodName) ({ cls := "WithoutThem", name := "with", desc := "(I)I" } : Jvm.MethodName)) ∈ lw_all := lw_g (lw_at lw_m4 171 rfl) rfl
theorem q972 : (Jvm.Cond.code ({ cls := "WithoutThem", name := "with", desc := "(I)I" } : Jvm.MethodName) prog_1_method_62_code (2 : Nat) (Option.some Jvm.ClassFile.FieldType.int)) ∈ lw_all := lw_g (lw_at lw_m4 172 rfl) rfl
theorem q974 : (Jvm.Cond.instanceMethod ({ cls := "WithoutThem", name := "reach", desc := "()I" } : Jvm.MethodName)) ∈ lw_all := lw_g (lw_at lw_m4 174 rfl) rfl
theorem q975 : (Jvm.Cond.selects "WithoutThem" ({ cls := "WithoutThem", name := "reach", desc := "()I" } : Jvm.MethodName) ({ cls := "WithoutThem", name := "reach", desc := "()I" } : Jvm.MethodName)) ∈ lw_all := lw_g (lw_at lw_m4 175 rfl) rfl
theorem q976 : (Jvm.Cond.code ({ cls := "WithoutThem", name := "reach", desc := "()I" } : Jvm.MethodName) prog_1_method_63_code (1 : Nat) (Option.some Jvm.ClassFile.FieldType.int)) ∈ lw_all := lw_g (lw_at lw_m4 176 rfl) rfl
theorem q978 : (Jvm.Cond.instanceMethod ({ cls := "WithoutThem", name := "soonest", desc := "(II)I" } : Jvm.MethodName)) ∈ lw_all := lw_g (lw_at lw_m4 178 rfl) rfl
theorem q979 : (Jvm.Cond.selects "WithoutThem" ({ cls := "WithoutThem", name := "soonest", desc := "(II)I" } : Jvm.MethodName) ({ cls := "WithoutThem", name := "soonest", desc := "(II)I" } : Jvm.MethodName)) ∈ lw_all := lw_g (lw_at lw_m4 179 rfl) rfl
theorem q980 : (Jvm.Cond.code ({ cls := "WithoutThem", name := "soonest", desc := "(II)I" } : Jvm.MethodName) prog_1_method_64_code (3 : Nat) (Option.some Jvm.ClassFile.FieldType.int)) ∈ lw_all := lw_g (lw_at lw_m4 180 rfl) rfl
theorem q982 : (Jvm.Cond.instanceMethod ({ cls := "WithoutThem", name := "mean", desc := "(II)J" } : Jvm.MethodName)) ∈ lw_all := lw_g (lw_at lw_m4 182 rfl) rfl
theorem q983 : (Jvm.Cond.selects "WithoutThem" ({ cls := "WithoutThem", name := "mean", desc := "(II)J" } : Jvm.MethodName) ({ cls := "WithoutThem", name := "mean", desc := "(II)J" } : Jvm.MethodName)) ∈ lw_all := lw_g (lw_at lw_m4 183 rfl) rfl
theorem q984 : (Jvm.Cond.code ({ cls := "WithoutThem", name := "mean", desc := "(II)J" } : Jvm.MethodName) prog_1_method_65_code (3 : Nat) (Option.some Jvm.ClassFile.FieldType.long)) ∈ lw_all := lw_g (lw_at lw_m4 184 rfl) rfl
theorem q985 : (Jvm.Cond.methodLink "WithoutThem" (406 : Nat) ({ cls := "WithoutThem", name := "meanTold", desc := "(II)J" } : Jvm.MethodName)) ∈ lw_all := lw_g (lw_at lw_m4 185 rfl) rfl
theorem q986 : (Jvm.Cond.privateMethod ({ cls := "WithoutThem", name := "meanTold", desc := "(II)J" } : Jvm.MethodName)) ∈ lw_tbl := lw_at lw_m4 186 rfl
theorem q987 : (Jvm.Cond.instanceMethod ({ cls := "WithoutThem", name := "meanTold", desc := "(II)J" } : Jvm.MethodName)) ∈ lw_all := lw_g (lw_at lw_m4 187 rfl) rfl
theorem q988 : (Jvm.Cond.codeWith ({ cls := "WithoutThem", name := "meanTold", desc := "(II)J" } : Jvm.MethodName) prog_1_method_52_code (4 : Nat) (Option.some Jvm.ClassFile.FieldType.long) [((0 : Nat), (21 : Nat), (22 : Nat), (255 : Nat))]) ∈ lw_all := lw_g (lw_at lw_m4 188 rfl) rfl
theorem q989 : (Jvm.Cond.methodLink "WithoutThem" (388 : Nat) ({ cls := "WithoutThem", name := "meanFor", desc := "(I)J" } : Jvm.MethodName)) ∈ lw_all := lw_g (lw_at lw_m4 189 rfl) rfl
theorem q990 : (Jvm.Cond.privateMethod ({ cls := "WithoutThem", name := "meanFor", desc := "(I)J" } : Jvm.MethodName)) ∈ lw_tbl := lw_at lw_m4 190 rfl
theorem q991 : (Jvm.Cond.instanceMethod ({ cls := "WithoutThem", name := "meanFor", desc := "(I)J" } : Jvm.MethodName)) ∈ lw_all := lw_g (lw_at lw_m4 191 rfl) rfl
theorem q992 : (Jvm.Cond.code ({ cls := "WithoutThem", name := "meanFor", desc := "(I)J" } : Jvm.MethodName) prog_1_method_14_code (5 : Nat) (Option.some Jvm.ClassFile.FieldType.long)) ∈ lw_all := lw_g (lw_at lw_m4 192 rfl) rfl
theorem q993 : (Jvm.Cond.constantLong "WithoutThem" (392 : Nat) (2520 : Int64)) ∈ lw_all := lw_g (lw_at lw_m4 193 rfl) rfl
theorem q994 : (Jvm.Cond.methodLink "WithoutThem" (200 : Nat) ({ cls := "WithoutThem", name := "partOf", desc := "(JJI)J" } : Jvm.MethodName)) ∈ lw_all := lw_g (lw_at lw_m4 194 rfl) rfl
theorem q995 : (Jvm.Cond.static ({ cls := "WithoutThem", name := "partOf", desc := "(JJI)J" } : Jvm.MethodName)) ∈ lw_all := lw_g (lw_at lw_m4 195 rfl) rfl
theorem q996 : (Jvm.Cond.code ({ cls := "WithoutThem", name := "partOf", desc := "(JJI)J" } : Jvm.MethodName) prog_1_method_8_code (7 : Nat) (Option.some Jvm.ClassFile.FieldType.long)) ∈ lw_all := lw_g (lw_at lw_m4 196 rfl) rfl
theorem q997 : (Jvm.Cond.methodLink "WithoutThem" (17 : Nat) ({ cls := "WithoutThem", name := "divisor", desc := "(JJ)J" } : Jvm.MethodName)) ∈ lw_all := lw_g (lw_at lw_m4 197 rfl) rfl
theorem q998 : (Jvm.Cond.static ({ cls := "WithoutThem", name := "divisor", desc := "(JJ)J" } : Jvm.MethodName)) ∈ lw_all := lw_g (lw_at lw_m4 198 rfl) rfl
theorem q999 : (Jvm.Cond.code ({ cls := "WithoutThem", name := "divisor", desc := "(JJ)J" } : Jvm.MethodName) prog_1_method_7_code (10 : Nat) (Option.some Jvm.ClassFile.FieldType.long)) ∈ lw_all := lw_g (lw_at lw_m4 199 rfl) rfl
theorem q1000 : (Jvm.Cond.methodLink "WithoutThem" (394 : Nat) ({ cls := "WithoutThem", name := "far", desc := "(LWithoutThem$Refusal;)J" } : Jvm.MethodName)) ∈ lw_all := lw_g (lw_at lw_m4 200 rfl) rfl
theorem q1001 : (Jvm.Cond.privateMethod ({ cls := "WithoutThem", name := "far", desc := "(LWithoutThem$Refusal;)J" } : Jvm.MethodName)) ∈ lw_tbl := lw_at lw_m4 201 rfl
theorem q1002 : (Jvm.Cond.instanceMethod ({ cls := "WithoutThem", name := "far", desc := "(LWithoutThem$Refusal;)J" } : Jvm.MethodName)) ∈ lw_all := lw_g (lw_at lw_m4 202 rfl) rfl
theorem q1003 : (Jvm.Cond.code ({ cls := "WithoutThem", name := "far", desc := "(LWithoutThem$Refusal;)J" } : Jvm.MethodName) prog_1_method_33_code (2 : Nat) (Option.some Jvm.ClassFile.FieldType.long)) ∈ lw_all := lw_g (lw_at lw_m4 203 rfl) rfl
theorem q1004 : (Jvm.Cond.constantLong "WithoutThem" (263 : Nat) (4000000000000000000 : Int64)) ∈ lw_all := lw_g (lw_at lw_m4 204 rfl) rfl
theorem q1006 : (Jvm.Cond.instanceMethod ({ cls := "WithoutThem", name := "surely", desc := "(I)J" } : Jvm.MethodName)) ∈ lw_all := lw_g (lw_at lw_m4 206 rfl) rfl
theorem q1007 : (Jvm.Cond.selects "WithoutThem" ({ cls := "WithoutThem", name := "surely", desc := "(I)J" } : Jvm.MethodName) ({ cls := "WithoutThem", name := "surely", desc := "(I)J" } : Jvm.MethodName)) ∈ lw_all := lw_g (lw_at lw_m4 207 rfl) rfl
theorem q1008 : (Jvm.Cond.code ({ cls := "WithoutThem", name := "surely", desc := "(I)J" } : Jvm.MethodName) prog_1_method_66_code (2 : Nat) (Option.some Jvm.ClassFile.FieldType.long)) ∈ lw_all := lw_g (lw_at lw_m4 208 rfl) rfl
theorem q1009 : (Jvm.Cond.methodLink "WithoutThem" (409 : Nat) ({ cls := "WithoutThem", name := "surelyAsked", desc := "(I)J" } : Jvm.MethodName)) ∈ lw_all := lw_g (lw_at lw_m4 209 rfl) rfl
theorem q1010 : (Jvm.Cond.privateMethod ({ cls := "WithoutThem", name := "surelyAsked", desc := "(I)J" } : Jvm.MethodName)) ∈ lw_tbl := lw_at lw_m4 210 rfl
theorem q1011 : (Jvm.Cond.instanceMethod ({ cls := "WithoutThem", name := "surelyAsked", desc := "(I)J" } : Jvm.MethodName)) ∈ lw_all := lw_g (lw_at lw_m4 211 rfl) rfl
theorem q1012 : (Jvm.Cond.codeWith ({ cls := "WithoutThem", name := "surelyAsked", desc := "(I)J" } : Jvm.MethodName) prog_1_method_53_code (3 : Nat) (Option.some Jvm.ClassFile.FieldType.long) [((0 : Nat), (9 : Nat), (10 : Nat), (255 : Nat))]) ∈ lw_all := lw_g (lw_at lw_m4 212 rfl) rfl
theorem q1013 : (Jvm.Cond.methodLink "WithoutThem" (398 : Nat) ({ cls := "WithoutThem", name := "surelyTold", desc := "(I)J" } : Jvm.MethodName)) ∈ lw_all := lw_g (lw_at lw_m4 213 rfl) rfl
theorem q1014 : (Jvm.Cond.privateMethod ({ cls := "WithoutThem", name := "surelyTold", desc := "(I)J" } : Jvm.MethodName)) ∈ lw_tbl := lw_at lw_m4 214 rfl
theorem q1015 : (Jvm.Cond.instanceMethod ({ cls := "WithoutThem", name := "surelyTold", desc := "(I)J" } : Jvm.MethodName)) ∈ lw_all := lw_g (lw_at lw_m4 215 rfl) rfl
theorem q1016 : (Jvm.Cond.code ({ cls := "WithoutThem", name := "surelyTold", desc := "(I)J" } : Jvm.MethodName) prog_1_method_15_code (8 : Nat) (Option.some Jvm.ClassFile.FieldType.long)) ∈ lw_all := lw_g (lw_at lw_m4 216 rfl) rfl
theorem q1017 : (Jvm.Cond.constantLong "WithoutThem" (198 : Nat) (10 : Int64)) ∈ lw_all := lw_g (lw_at lw_m4 217 rfl) rfl
theorem q1019 : (Jvm.Cond.instanceMethod ({ cls := "WithoutThem", name := "ringed", desc := "()I" } : Jvm.MethodName)) ∈ lw_all := lw_g (lw_at lw_m4 219 rfl) rfl
theorem q1020 : (Jvm.Cond.selects "WithoutThem" ({ cls := "WithoutThem", name := "ringed", desc := "()I" } : Jvm.MethodName) ({ cls := "WithoutThem", name := "ringed", desc := "()I" } : Jvm.MethodName)) ∈ lw_all := lw_g (lw_at lw_m4 220 rfl) rfl
theorem q1021 : (Jvm.Cond.code ({ cls := "WithoutThem", name := "ringed", desc := "()I" } : Jvm.MethodName) prog_1_method_67_code (1 : Nat) (Option.some Jvm.ClassFile.FieldType.int)) ∈ lw_all := lw_g (lw_at lw_m4 221 rfl) rfl
theorem q1023 : (Jvm.Cond.instanceMethod ({ cls := "WithoutThem", name := "beg", desc := "(I)I" } : Jvm.MethodName)) ∈ lw_all := lw_g (lw_at lw_m4 223 rfl) rfl
theorem q1024 : (Jvm.Cond.selects "WithoutThem" ({ cls := "WithoutThem", name := "beg", desc := "(I)I" } : Jvm.MethodName) ({ cls := "WithoutThem", name := "beg", desc := "(I)I" } : Jvm.MethodName)) ∈ lw_all := lw_g (lw_at lw_m4 224 rfl) rfl
theorem q1025 : (Jvm.Cond.code ({ cls := "WithoutThem", name := "beg", desc := "(I)I" } : Jvm.MethodName) prog_1_method_68_code (2 : Nat) (Option.some Jvm.ClassFile.FieldType.int)) ∈ lw_all := lw_g (lw_at lw_m4 225 rfl) rfl
theorem q1027 : (Jvm.Cond.instanceMethod ({ cls := "WithoutThem", name := "nails", desc := "()I" } : Jvm.MethodName)) ∈ lw_all := lw_g (lw_at lw_m4 227 rfl) rfl
theorem q1028 : (Jvm.Cond.selects "WithoutThem" ({ cls := "WithoutThem", name := "nails", desc := "()I" } : Jvm.MethodName) ({ cls := "WithoutThem", name := "nails", desc := "()I" } : Jvm.MethodName)) ∈ lw_all := lw_g (lw_at lw_m4 228 rfl) rfl
theorem q1029 : (Jvm.Cond.code ({ cls := "WithoutThem", name := "nails", desc := "()I" } : Jvm.MethodName) prog_1_method_69_code (1 : Nat) (Option.some Jvm.ClassFile.FieldType.int)) ∈ lw_all := lw_g (lw_at lw_m4 229 rfl) rfl
theorem q1031 : (Jvm.Cond.instanceMethod ({ cls := "WithoutThem", name := "spare", desc := "()I" } : Jvm.MethodName)) ∈ lw_all := lw_g (lw_at lw_m4 231 rfl) rfl
theorem q1032 : (Jvm.Cond.selects "WithoutThem" ({ cls := "WithoutThem", name := "spare", desc := "()I" } : Jvm.MethodName) ({ cls := "WithoutThem", name := "spare", desc := "()I" } : Jvm.MethodName)) ∈ lw_all := lw_g (lw_at lw_m4 232 rfl) rfl
theorem q1033 : (Jvm.Cond.code ({ cls := "WithoutThem", name := "spare", desc := "()I" } : Jvm.MethodName) prog_1_method_70_code (1 : Nat) (Option.some Jvm.ClassFile.FieldType.int)) ∈ lw_all := lw_g (lw_at lw_m4 233 rfl) rfl
theorem q1035 : (Jvm.Cond.instanceMethod ({ cls := "WithoutThem", name := "does", desc := "(I)I" } : Jvm.MethodName)) ∈ lw_all := lw_g (lw_at lw_m4 235 rfl) rfl
theorem q1036 : (Jvm.Cond.selects "WithoutThem" ({ cls := "WithoutThem", name := "does", desc := "(I)I" } : Jvm.MethodName) ({ cls := "WithoutThem", name := "does", desc := "(I)I" } : Jvm.MethodName)) ∈ lw_all := lw_g (lw_at lw_m4 236 rfl) rfl
theorem q1037 : (Jvm.Cond.code ({ cls := "WithoutThem", name := "does", desc := "(I)I" } : Jvm.MethodName) prog_1_method_71_code (2 : Nat) (Option.some Jvm.ClassFile.FieldType.int)) ∈ lw_all := lw_g (lw_at lw_m4 237 rfl) rfl
theorem q1039 : (Jvm.Cond.instanceMethod ({ cls := "WithoutThem", name := "ways", desc := "(I)I" } : Jvm.MethodName)) ∈ lw_all := lw_g (lw_at lw_m4 239 rfl) rfl
theorem q1040 : (Jvm.Cond.selects "WithoutThem" ({ cls := "WithoutThem", name := "ways", desc := "(I)I" } : Jvm.MethodName) ({ cls := "WithoutThem", name := "ways", desc := "(I)I" } : Jvm.MethodName)) ∈ lw_all := lw_g (lw_at lw_m5 0 rfl) rfl
theorem q1041 : (Jvm.Cond.code ({ cls := "WithoutThem", name := "ways", desc := "(I)I" } : Jvm.MethodName) prog_1_method_72_code (2 : Nat) (Option.some Jvm.ClassFile.FieldType.int)) ∈ lw_all := lw_g (lw_at lw_m5 1 rfl) rfl
theorem q1043 : (Jvm.Cond.instanceMethod ({ cls := "WithoutThem", name := "must", desc := "(I)I" } : Jvm.MethodName)) ∈ lw_all := lw_g (lw_at lw_m5 3 rfl) rfl
theorem q1044 : (Jvm.Cond.selects "WithoutThem" ({ cls := "WithoutThem", name := "must", desc := "(I)I" } : Jvm.MethodName) ({ cls := "WithoutThem", name := "must", desc := "(I)I" } : Jvm.MethodName)) ∈ lw_all := lw_g (lw_at lw_m5 4 rfl) rfl
theorem q1045 : (Jvm.Cond.code ({ cls := "WithoutThem", name := "must", desc := "(I)I" } : Jvm.MethodName) prog_1_method_73_code (2 : Nat) (Option.some Jvm.ClassFile.FieldType.int)) ∈ lw_all := lw_g (lw_at lw_m5 5 rfl) rfl
theorem q1047 : (Jvm.Cond.instanceMethod ({ cls := "WithoutThem", name := "halfway", desc := "(II)I" } : Jvm.MethodName)) ∈ lw_all := lw_g (lw_at lw_m5 7 rfl) rfl
theorem q1048 : (Jvm.Cond.selects "WithoutThem" ({ cls := "WithoutThem", name := "halfway", desc := "(II)I" } : Jvm.MethodName) ({ cls := "WithoutThem", name := "halfway", desc := "(II)I" } : Jvm.MethodName)) ∈ lw_all := lw_g (lw_at lw_m5 8 rfl) rfl
theorem q1049 : (Jvm.Cond.code ({ cls := "WithoutThem", name := "halfway", desc := "(II)I" } : Jvm.MethodName) prog_1_method_74_code (3 : Nat) (Option.some Jvm.ClassFile.FieldType.int)) ∈ lw_all := lw_g (lw_at lw_m5 9 rfl) rfl
theorem q1051 : (Jvm.Cond.instanceMethod ({ cls := "WithoutThem", name := "drawer", desc := "(III)J" } : Jvm.MethodName)) ∈ lw_all := lw_g (lw_at lw_m5 11 rfl) rfl
theorem q1052 : (Jvm.Cond.selects "WithoutThem" ({ cls := "WithoutThem", name := "drawer", desc := "(III)J" } : Jvm.MethodName) ({ cls := "WithoutThem", name := "drawer", desc := "(III)J" } : Jvm.MethodName)) ∈ lw_all := lw_g (lw_at lw_m5 12 rfl) rfl
theorem q1053 : (Jvm.Cond.code ({ cls := "WithoutThem", name := "drawer", desc := "(III)J" } : Jvm.MethodName) prog_1_method_75_code (4 : Nat) (Option.some Jvm.ClassFile.FieldType.long)) ∈ lw_all := lw_g (lw_at lw_m5 13 rfl) rfl
theorem q1054 : (Jvm.Cond.methodLink "WithoutThem" (412 : Nat) ({ cls := "WithoutThem", name := "drawerTold", desc := "(III)J" } : Jvm.MethodName)) ∈ lw_all := lw_g (lw_at lw_m5 14 rfl) rfl
theorem q1055 : (Jvm.Cond.privateMethod ({ cls := "WithoutThem", name := "drawerTold", desc := "(III)J" } : Jvm.MethodName)) ∈ lw_tbl := lw_at lw_m5 15 rfl
theorem q1056 : (Jvm.Cond.instanceMethod ({ cls := "WithoutThem", name := "drawerTold", desc := "(III)J" } : Jvm.MethodName)) ∈ lw_all := lw_g (lw_at lw_m5 16 rfl) rfl
theorem q1057 : (Jvm.Cond.codeWith ({ cls := "WithoutThem", name := "drawerTold", desc := "(III)J" } : Jvm.MethodName) prog_1_method_54_code (5 : Nat) (Option.some Jvm.ClassFile.FieldType.long) [((0 : Nat), (66 : Nat), (67 : Nat), (255 : Nat))]) ∈ lw_all := lw_g (lw_at lw_m5 17 rfl) rfl
theorem q1058 : (Jvm.Cond.constantLong "WithoutThem" (401 : Nat) (2 : Int64)) ∈ lw_all := lw_g (lw_at lw_m5 18 rfl) rfl
theorem q1060 : (Jvm.Cond.instanceMethod ({ cls := "WithoutThem", name := "seeker", desc := "(II)I" } : Jvm.MethodName)) ∈ lw_all := lw_g (lw_at lw_m5 20 rfl) rfl
theorem q1061 : (Jvm.Cond.selects "WithoutThem" ({ cls := "WithoutThem", name := "seeker", desc := "(II)I" } : Jvm.MethodName) ({ cls := "WithoutThem", name := "seeker", desc := "(II)I" } : Jvm.MethodName)) ∈ lw_all := lw_g (lw_at lw_m5 21 rfl) rfl
theorem q1062 : (Jvm.Cond.code ({ cls := "WithoutThem", name := "seeker", desc := "(II)I" } : Jvm.MethodName) prog_1_method_76_code (3 : Nat) (Option.some Jvm.ClassFile.FieldType.int)) ∈ lw_all := lw_g (lw_at lw_m5 22 rfl) rfl
theorem q1064 : (Jvm.Cond.instanceMethod ({ cls := "WithoutThem", name := "seeks", desc := "(I)I" } : Jvm.MethodName)) ∈ lw_all := lw_g (lw_at lw_m5 24 rfl) rfl
theorem q1065 : (Jvm.Cond.selects "WithoutThem" ({ cls := "WithoutThem", name := "seeks", desc := "(I)I" } : Jvm.MethodName) ({ cls := "WithoutThem", name := "seeks", desc := "(I)I" } : Jvm.MethodName)) ∈ lw_all := lw_g (lw_at lw_m5 25 rfl) rfl
theorem q1066 : (Jvm.Cond.code ({ cls := "WithoutThem", name := "seeks", desc := "(I)I" } : Jvm.MethodName) prog_1_method_77_code (2 : Nat) (Option.some Jvm.ClassFile.FieldType.int)) ∈ lw_all := lw_g (lw_at lw_m5 26 rfl) rfl
theorem q1068 : (Jvm.Cond.instanceMethod ({ cls := "WithoutThem", name := "row", desc := "(I)I" } : Jvm.MethodName)) ∈ lw_all := lw_g (lw_at lw_m5 28 rfl) rfl
theorem q1069 : (Jvm.Cond.selects "WithoutThem" ({ cls := "WithoutThem", name := "row", desc := "(I)I" } : Jvm.MethodName) ({ cls := "WithoutThem", name := "row", desc := "(I)I" } : Jvm.MethodName)) ∈ lw_all := lw_g (lw_at lw_m5 29 rfl) rfl
theorem q1070 : (Jvm.Cond.code ({ cls := "WithoutThem", name := "row", desc := "(I)I" } : Jvm.MethodName) prog_1_method_78_code (2 : Nat) (Option.some Jvm.ClassFile.FieldType.int)) ∈ lw_all := lw_g (lw_at lw_m5 30 rfl) rfl
theorem q1072 : (Jvm.Cond.instanceMethod ({ cls := "WithoutThem", name := "judge", desc := "()I" } : Jvm.MethodName)) ∈ lw_all := lw_g (lw_at lw_m5 32 rfl) rfl
theorem q1073 : (Jvm.Cond.selects "WithoutThem" ({ cls := "WithoutThem", name := "judge", desc := "()I" } : Jvm.MethodName) ({ cls := "WithoutThem", name := "judge", desc := "()I" } : Jvm.MethodName)) ∈ lw_all := lw_g (lw_at lw_m5 33 rfl) rfl
theorem q1074 : (Jvm.Cond.code ({ cls := "WithoutThem", name := "judge", desc := "()I" } : Jvm.MethodName) prog_1_method_79_code (1 : Nat) (Option.some Jvm.ClassFile.FieldType.int)) ∈ lw_all := lw_g (lw_at lw_m5 34 rfl) rfl
theorem q1076 : (Jvm.Cond.instanceMethod ({ cls := "WithoutThem", name := "lots", desc := "(II)I" } : Jvm.MethodName)) ∈ lw_all := lw_g (lw_at lw_m5 36 rfl) rfl
theorem q1077 : (Jvm.Cond.selects "WithoutThem" ({ cls := "WithoutThem", name := "lots", desc := "(II)I" } : Jvm.MethodName) ({ cls := "WithoutThem", name := "lots", desc := "(II)I" } : Jvm.MethodName)) ∈ lw_all := lw_g (lw_at lw_m5 37 rfl) rfl
theorem q1078 : (Jvm.Cond.code ({ cls := "WithoutThem", name := "lots", desc := "(II)I" } : Jvm.MethodName) prog_1_method_80_code (3 : Nat) (Option.some Jvm.ClassFile.FieldType.int)) ∈ lw_all := lw_g (lw_at lw_m5 38 rfl) rfl
theorem q1080 : (Jvm.Cond.instanceMethod ({ cls := "WithoutThem", name := "image", desc := "()I" } : Jvm.MethodName)) ∈ lw_all := lw_g (lw_at lw_m5 40 rfl) rfl
theorem q1081 : (Jvm.Cond.selects "WithoutThem" ({ cls := "WithoutThem", name := "image", desc := "()I" } : Jvm.MethodName) ({ cls := "WithoutThem", name := "image", desc := "()I" } : Jvm.MethodName)) ∈ lw_all := lw_g (lw_at lw_m5 41 rfl) rfl
theorem q1082 : (Jvm.Cond.code ({ cls := "WithoutThem", name := "image", desc := "()I" } : Jvm.MethodName) prog_1_method_81_code (1 : Nat) (Option.some Jvm.ClassFile.FieldType.int)) ∈ lw_all := lw_g (lw_at lw_m5 42 rfl) rfl
theorem q1084 : (Jvm.Cond.instanceMethod ({ cls := "WithoutThem", name := "on", desc := "()I" } : Jvm.MethodName)) ∈ lw_all := lw_g (lw_at lw_m5 44 rfl) rfl
theorem q1085 : (Jvm.Cond.selects "WithoutThem" ({ cls := "WithoutThem", name := "on", desc := "()I" } : Jvm.MethodName) ({ cls := "WithoutThem", name := "on", desc := "()I" } : Jvm.MethodName)) ∈ lw_all := lw_g (lw_at lw_m5 45 rfl) rfl
theorem q1086 : (Jvm.Cond.code ({ cls := "WithoutThem", name := "on", desc := "()I" } : Jvm.MethodName) prog_1_method_82_code (1 : Nat) (Option.some Jvm.ClassFile.FieldType.int)) ∈ lw_all := lw_g (lw_at lw_m5 46 rfl) rfl
theorem q1088 : (Jvm.Cond.instanceMethod ({ cls := "WithoutThem", name := "count", desc := "(I)I" } : Jvm.MethodName)) ∈ lw_all := lw_g (lw_at lw_m5 48 rfl) rfl
theorem q1089 : (Jvm.Cond.selects "WithoutThem" ({ cls := "WithoutThem", name := "count", desc := "(I)I" } : Jvm.MethodName) ({ cls := "WithoutThem", name := "count", desc := "(I)I" } : Jvm.MethodName)) ∈ lw_all := lw_g (lw_at lw_m5 49 rfl) rfl
theorem q1090 : (Jvm.Cond.code ({ cls := "WithoutThem", name := "count", desc := "(I)I" } : Jvm.MethodName) prog_1_method_83_code (2 : Nat) (Option.some Jvm.ClassFile.FieldType.int)) ∈ lw_all := lw_g (lw_at lw_m5 50 rfl) rfl
theorem q1091 : (Jvm.Cond.constantLong "WithoutThem" (416 : Nat) (11 : Int64)) ∈ lw_all := lw_g (lw_at lw_m5 51 rfl) rfl
theorem q1092 : (Jvm.Cond.constantLong "WithoutThem" (418 : Nat) (16 : Int64)) ∈ lw_all := lw_g (lw_at lw_m5 52 rfl) rfl
theorem in_X0 : ∀ w ∈ wsX00, w ∈ lw_all := lw_in wsX00 [297, 299, 301, 303, 305, 307, 309, 311, 313, 315, 317, 319, 321, 323, 325, 327, 329, 331] (by decide +kernel) (by decide +kernel)
