/-! WithoutThemModel -/
set_option maxRecDepth 100000
def RX16 : String := "WithoutThemModel"
def TX16 : u_T := fun k => match k with
  | 0 => ("WithoutThemModel", "refused", "[I", true)
  | 1 => ("WithoutThemModel", "kind", "[I", true)
  | 2 => ("WithoutThemModel", "lasting", "[I", true)
  | 3 => ("WithoutThemModel", "sure", "[I", true)
  | 4 => ("WithoutThemModel", "cost", "[I", true)
  | 5 => ("WithoutThemModel", "any", "[I", true)
  | 6 => ("WithoutThemModel", "all", "[I", true)
  | 7 => ("WithoutThemModel", "things", "I", false)
  | 8 => ("WithoutThemModel", "hand", "I", false)
  | 9 => ("WithoutThemModel", "minute", "I", false)
  | 10 => ("WithoutThemModel", "tape", "[I", true)
  | 11 => ("WithoutThemModel", "letter", "[I", true)
  | 12 => ("WithoutThemModel", "letterAt", "[I", true)
  | 13 => ("WithoutThemModel", "told", "[I", true)
  | 14 => ("WithoutThemModel", "taped", "I", false)
  | 15 => ("WithoutThemModel", "at", "I", false)
  | 16 => ("WithoutThemModel", "statements", "I", false)
  | 17 => ("WithoutThemModel", "kept", "[I", true)
  | 18 => ("WithoutThemModel", "hasImage", "Z", false)
  | 19 => ("WithoutThemModel", "isKeeping", "Z", false)
  | 20 => ("WithoutThemModel", "cursor", "I", false)
  | 21 => ("WithoutThemModel", "rest", "[I", true)
  | 22 => ("WithoutThemModel", "upTo", "[I", true)
  | 23 => ("WithoutThemModel", "fromOn", "[I", true)
  | 24 => ("WithoutThemModel", "row", "[I", true)
  | _ => ("WithoutThemModel", "rowMany", "I", false)
def tyX16 : Nat → FieldType := fun k => match k with
  | 0 => .array .int
  | 1 => .array .int
  | 2 => .array .int
  | 3 => .array .int
  | 4 => .array .int
  | 5 => .array .int
  | 6 => .array .int
  | 7 => .int
  | 8 => .int
  | 9 => .int
  | 10 => .array .int
  | 11 => .array .int
  | 12 => .array .int
  | 13 => .array .int
  | 14 => .int
  | 15 => .int
  | 16 => .int
  | 17 => .array .int
  | 18 => .boolean
  | 19 => .boolean
  | 20 => .int
  | 21 => .array .int
  | 22 => .array .int
  | 23 => .array .int
  | 24 => .array .int
  | _ => .int
abbrev wsX160 : List Cond := u_ws RX16 TX16 26
set_option maxRecDepth 100000 in
theorem nmX16 : ∀ a, a < 26 → ∀ b, b < 26 → a ≠ b → (TX16 a).2.1 ≠ (TX16 b).2.1 := by decide +kernel
set_option maxRecDepth 100000 in
theorem tyX16_ok : ∀ k, k < 26 → parseFieldDescriptor (TX16 k).2.2.1 = some (tyX16 k) := by decide +kernel
abbrev cX16_init : ByteArray := prog_28_method_1_code
def yX16_init : MethodName := ⟨RX16, "<init>", "()V"⟩
def dkwX16_init_5 : List UInt8 := [181, 0, 49, 42, 17, 4, 0, 188, 10, 181, 0, 52, 42, 16, 12, 188, 10, 181, 0, 55, 177]
abbrev dktX16_init_5 : List UInt8 := dkwX16_init_5 ++ []
def dkwX16_init_4 : List UInt8 := [17, 0, 130, 188, 10, 181, 0, 43, 42, 17, 4, 0, 188, 10, 181, 0, 46, 42, 17, 4, 0, 188, 10]
abbrev dktX16_init_4 : List UInt8 := dkwX16_init_4 ++ dktX16_init_5
def dkwX16_init_3 : List UInt8 := [188, 10, 181, 0, 34, 42, 16, 48, 188, 10, 181, 0, 37, 42, 17, 0, 144, 188, 10, 181, 0, 40, 42]
abbrev dktX16_init_3 : List UInt8 := dkwX16_init_3 ++ dktX16_init_4
def dkwX16_init_2 : List UInt8 := [188, 10, 181, 0, 25, 42, 16, 10, 188, 10, 181, 0, 28, 42, 16, 96, 188, 10, 181, 0, 31, 42, 16, 48]
abbrev dktX16_init_2 : List UInt8 := dkwX16_init_2 ++ dktX16_init_3
def dkwX16_init_1 : List UInt8 := [188, 10, 181, 0, 16, 42, 16, 10, 188, 10, 181, 0, 19, 42, 16, 10, 188, 10, 181, 0, 22, 42, 16, 10]
abbrev dktX16_init_1 : List UInt8 := dkwX16_init_1 ++ dktX16_init_2
def dkwX16_init_0 : List UInt8 := [42, 183, 0, 1, 42, 16, 7, 188, 10, 181, 0, 7, 42, 16, 10, 188, 10, 181, 0, 13, 42, 16, 10]
abbrev dktX16_init_0 : List UInt8 := dkwX16_init_0 ++ dktX16_init_1
theorem dksX16_init_0 : cX16_init.data.toList.drop 0 = dktX16_init_0 := by decide +kernel
theorem dksX16_init_1 : cX16_init.data.toList.drop 23 = dktX16_init_1 := dk_seg dksX16_init_0 23 rfl rfl
theorem dksX16_init_2 : cX16_init.data.toList.drop 47 = dktX16_init_2 := dk_seg dksX16_init_1 24 rfl rfl
theorem dksX16_init_3 : cX16_init.data.toList.drop 71 = dktX16_init_3 := dk_seg dksX16_init_2 24 rfl rfl
theorem dksX16_init_4 : cX16_init.data.toList.drop 94 = dktX16_init_4 := dk_seg dksX16_init_3 23 rfl rfl
theorem dksX16_init_5 : cX16_init.data.toList.drop 117 = dktX16_init_5 := dk_seg dksX16_init_4 23 rfl rfl
theorem dX16_init_0 : decode cX16_init 0 = .ok (.aload_n 0, 1) := dk_42 (dk_at dksX16_init_0 0 rfl rfl)
theorem dX16_init_1 : decode cX16_init 1 = .ok (.invokespecial 1, 3) := dk_183 0 1 (dk_at dksX16_init_0 1 rfl rfl)
theorem dX16_init_4 : decode cX16_init 4 = .ok (.aload_n 0, 1) := dk_42 (dk_at dksX16_init_0 4 rfl rfl)
theorem dX16_init_5 : decode cX16_init 5 = .ok (.bipush 7, 2) := dk_16 7 (dk_at dksX16_init_0 5 rfl rfl)
theorem dX16_init_7 : decode cX16_init 7 = .ok (.newarray .int, 2) := dk_188_10 (dk_at dksX16_init_0 7 rfl rfl)
theorem dX16_init_9 : decode cX16_init 9 = .ok (.putfield 7, 3) := dk_181 0 7 (dk_at dksX16_init_0 9 rfl rfl)
theorem dX16_init_12 : decode cX16_init 12 = .ok (.aload_n 0, 1) := dk_42 (dk_at dksX16_init_0 12 rfl rfl)
theorem dX16_init_13 : decode cX16_init 13 = .ok (.bipush 10, 2) := dk_16 10 (dk_at dksX16_init_0 13 rfl rfl)
theorem dX16_init_15 : decode cX16_init 15 = .ok (.newarray .int, 2) := dk_188_10 (dk_at dksX16_init_0 15 rfl rfl)
theorem dX16_init_17 : decode cX16_init 17 = .ok (.putfield 13, 3) := dk_181 0 13 (dk_at dksX16_init_0 17 rfl rfl)
theorem dX16_init_20 : decode cX16_init 20 = .ok (.aload_n 0, 1) := dk_42 (dk_at dksX16_init_0 20 rfl rfl)
theorem dX16_init_21 : decode cX16_init 21 = .ok (.bipush 10, 2) := dk_16 10 (dk_at dksX16_init_0 21 rfl rfl)
theorem dX16_init_23 : decode cX16_init 23 = .ok (.newarray .int, 2) := dk_188_10 (dk_at dksX16_init_1 0 rfl rfl)
theorem dX16_init_25 : decode cX16_init 25 = .ok (.putfield 16, 3) := dk_181 0 16 (dk_at dksX16_init_1 2 rfl rfl)
theorem dX16_init_28 : decode cX16_init 28 = .ok (.aload_n 0, 1) := dk_42 (dk_at dksX16_init_1 5 rfl rfl)
theorem dX16_init_29 : decode cX16_init 29 = .ok (.bipush 10, 2) := dk_16 10 (dk_at dksX16_init_1 6 rfl rfl)
theorem dX16_init_31 : decode cX16_init 31 = .ok (.newarray .int, 2) := dk_188_10 (dk_at dksX16_init_1 8 rfl rfl)
theorem dX16_init_33 : decode cX16_init 33 = .ok (.putfield 19, 3) := dk_181 0 19 (dk_at dksX16_init_1 10 rfl rfl)
theorem dX16_init_36 : decode cX16_init 36 = .ok (.aload_n 0, 1) := dk_42 (dk_at dksX16_init_1 13 rfl rfl)
theorem dX16_init_37 : decode cX16_init 37 = .ok (.bipush 10, 2) := dk_16 10 (dk_at dksX16_init_1 14 rfl rfl)
theorem dX16_init_39 : decode cX16_init 39 = .ok (.newarray .int, 2) := dk_188_10 (dk_at dksX16_init_1 16 rfl rfl)
theorem dX16_init_41 : decode cX16_init 41 = .ok (.putfield 22, 3) := dk_181 0 22 (dk_at dksX16_init_1 18 rfl rfl)
theorem dX16_init_44 : decode cX16_init 44 = .ok (.aload_n 0, 1) := dk_42 (dk_at dksX16_init_1 21 rfl rfl)
theorem dX16_init_45 : decode cX16_init 45 = .ok (.bipush 10, 2) := dk_16 10 (dk_at dksX16_init_1 22 rfl rfl)
theorem dX16_init_47 : decode cX16_init 47 = .ok (.newarray .int, 2) := dk_188_10 (dk_at dksX16_init_2 0 rfl rfl)
theorem dX16_init_49 : decode cX16_init 49 = .ok (.putfield 25, 3) := dk_181 0 25 (dk_at dksX16_init_2 2 rfl rfl)
theorem dX16_init_52 : decode cX16_init 52 = .ok (.aload_n 0, 1) := dk_42 (dk_at dksX16_init_2 5 rfl rfl)
theorem dX16_init_53 : decode cX16_init 53 = .ok (.bipush 10, 2) := dk_16 10 (dk_at dksX16_init_2 6 rfl rfl)
theorem dX16_init_55 : decode cX16_init 55 = .ok (.newarray .int, 2) := dk_188_10 (dk_at dksX16_init_2 8 rfl rfl)
theorem dX16_init_57 : decode cX16_init 57 = .ok (.putfield 28, 3) := dk_181 0 28 (dk_at dksX16_init_2 10 rfl rfl)
theorem dX16_init_60 : decode cX16_init 60 = .ok (.aload_n 0, 1) := dk_42 (dk_at dksX16_init_2 13 rfl rfl)
theorem dX16_init_61 : decode cX16_init 61 = .ok (.bipush 96, 2) := dk_16 96 (dk_at dksX16_init_2 14 rfl rfl)
theorem dX16_init_63 : decode cX16_init 63 = .ok (.newarray .int, 2) := dk_188_10 (dk_at dksX16_init_2 16 rfl rfl)
theorem dX16_init_65 : decode cX16_init 65 = .ok (.putfield 31, 3) := dk_181 0 31 (dk_at dksX16_init_2 18 rfl rfl)
theorem dX16_init_68 : decode cX16_init 68 = .ok (.aload_n 0, 1) := dk_42 (dk_at dksX16_init_2 21 rfl rfl)
theorem dX16_init_69 : decode cX16_init 69 = .ok (.bipush 48, 2) := dk_16 48 (dk_at dksX16_init_2 22 rfl rfl)
theorem dX16_init_71 : decode cX16_init 71 = .ok (.newarray .int, 2) := dk_188_10 (dk_at dksX16_init_3 0 rfl rfl)
theorem dX16_init_73 : decode cX16_init 73 = .ok (.putfield 34, 3) := dk_181 0 34 (dk_at dksX16_init_3 2 rfl rfl)
theorem dX16_init_76 : decode cX16_init 76 = .ok (.aload_n 0, 1) := dk_42 (dk_at dksX16_init_3 5 rfl rfl)
theorem dX16_init_77 : decode cX16_init 77 = .ok (.bipush 48, 2) := dk_16 48 (dk_at dksX16_init_3 6 rfl rfl)
theorem dX16_init_79 : decode cX16_init 79 = .ok (.newarray .int, 2) := dk_188_10 (dk_at dksX16_init_3 8 rfl rfl)
theorem dX16_init_81 : decode cX16_init 81 = .ok (.putfield 37, 3) := dk_181 0 37 (dk_at dksX16_init_3 10 rfl rfl)
theorem dX16_init_84 : decode cX16_init 84 = .ok (.aload_n 0, 1) := dk_42 (dk_at dksX16_init_3 13 rfl rfl)
theorem dX16_init_85 : decode cX16_init 85 = .ok (.sipush 144, 3) := dk_17 0 144 (dk_at dksX16_init_3 14 rfl rfl)
theorem dX16_init_88 : decode cX16_init 88 = .ok (.newarray .int, 2) := dk_188_10 (dk_at dksX16_init_3 17 rfl rfl)
theorem dX16_init_90 : decode cX16_init 90 = .ok (.putfield 40, 3) := dk_181 0 40 (dk_at dksX16_init_3 19 rfl rfl)
theorem dX16_init_93 : decode cX16_init 93 = .ok (.aload_n 0, 1) := dk_42 (dk_at dksX16_init_3 22 rfl rfl)
theorem dX16_init_94 : decode cX16_init 94 = .ok (.sipush 130, 3) := dk_17 0 130 (dk_at dksX16_init_4 0 rfl rfl)
theorem dX16_init_97 : decode cX16_init 97 = .ok (.newarray .int, 2) := dk_188_10 (dk_at dksX16_init_4 3 rfl rfl)
theorem dX16_init_99 : decode cX16_init 99 = .ok (.putfield 43, 3) := dk_181 0 43 (dk_at dksX16_init_4 5 rfl rfl)
theorem dX16_init_102 : decode cX16_init 102 = .ok (.aload_n 0, 1) := dk_42 (dk_at dksX16_init_4 8 rfl rfl)
theorem dX16_init_103 : decode cX16_init 103 = .ok (.sipush 1024, 3) := dk_17 4 0 (dk_at dksX16_init_4 9 rfl rfl)
theorem dX16_init_106 : decode cX16_init 106 = .ok (.newarray .int, 2) := dk_188_10 (dk_at dksX16_init_4 12 rfl rfl)
theorem dX16_init_108 : decode cX16_init 108 = .ok (.putfield 46, 3) := dk_181 0 46 (dk_at dksX16_init_4 14 rfl rfl)
theorem dX16_init_111 : decode cX16_init 111 = .ok (.aload_n 0, 1) := dk_42 (dk_at dksX16_init_4 17 rfl rfl)
theorem dX16_init_112 : decode cX16_init 112 = .ok (.sipush 1024, 3) := dk_17 4 0 (dk_at dksX16_init_4 18 rfl rfl)
theorem dX16_init_115 : decode cX16_init 115 = .ok (.newarray .int, 2) := dk_188_10 (dk_at dksX16_init_4 21 rfl rfl)
theorem dX16_init_117 : decode cX16_init 117 = .ok (.putfield 49, 3) := dk_181 0 49 (dk_at dksX16_init_5 0 rfl rfl)
theorem dX16_init_120 : decode cX16_init 120 = .ok (.aload_n 0, 1) := dk_42 (dk_at dksX16_init_5 3 rfl rfl)
theorem dX16_init_121 : decode cX16_init 121 = .ok (.sipush 1024, 3) := dk_17 4 0 (dk_at dksX16_init_5 4 rfl rfl)
theorem dX16_init_124 : decode cX16_init 124 = .ok (.newarray .int, 2) := dk_188_10 (dk_at dksX16_init_5 7 rfl rfl)
theorem dX16_init_126 : decode cX16_init 126 = .ok (.putfield 52, 3) := dk_181 0 52 (dk_at dksX16_init_5 9 rfl rfl)
theorem dX16_init_129 : decode cX16_init 129 = .ok (.aload_n 0, 1) := dk_42 (dk_at dksX16_init_5 12 rfl rfl)
theorem dX16_init_130 : decode cX16_init 130 = .ok (.bipush 12, 2) := dk_16 12 (dk_at dksX16_init_5 13 rfl rfl)
theorem dX16_init_132 : decode cX16_init 132 = .ok (.newarray .int, 2) := dk_188_10 (dk_at dksX16_init_5 15 rfl rfl)
theorem dX16_init_134 : decode cX16_init 134 = .ok (.putfield 55, 3) := dk_181 0 55 (dk_at dksX16_init_5 17 rfl rfl)
theorem dX16_init_137 : decode cX16_init 137 = .ok (.return_, 1) := dk_177 (dk_at dksX16_init_5 20 rfl rfl)
abbrev cX16_letter : ByteArray := prog_28_method_11_code
def yX16_letter : MethodName := ⟨RX16, "letter", "(I)I"⟩
def dkwX16_letter_2 : List UInt8 := [180, 0, 72, 4, 96, 181, 0, 72, 42, 180, 0, 72, 172]
abbrev dktX16_letter_2 : List UInt8 := dkwX16_letter_2 ++ []
def dkwX16_letter_1 : List UInt8 := [61, 28, 153, 0, 9, 42, 28, 182, 0, 75, 172, 42, 180, 0, 31, 42, 180, 0, 72, 27, 79, 42, 89]
abbrev dktX16_letter_1 : List UInt8 := dkwX16_letter_1 ++ dktX16_letter_2
def dkwX16_letter_0 : List UInt8 := [27, 3, 17, 0, 255, 184, 0, 68, 61, 28, 154, 0, 15, 42, 180, 0, 72, 16, 96, 160, 0, 6, 16, 250]
abbrev dktX16_letter_0 : List UInt8 := dkwX16_letter_0 ++ dktX16_letter_1
theorem dksX16_letter_0 : cX16_letter.data.toList.drop 0 = dktX16_letter_0 := by decide +kernel
theorem dksX16_letter_1 : cX16_letter.data.toList.drop 24 = dktX16_letter_1 := dk_seg dksX16_letter_0 24 rfl rfl
theorem dksX16_letter_2 : cX16_letter.data.toList.drop 47 = dktX16_letter_2 := dk_seg dksX16_letter_1 23 rfl rfl
theorem dX16_letter_0 : decode cX16_letter 0 = .ok (.iload_n 1, 1) := dk_27 (dk_at dksX16_letter_0 0 rfl rfl)
theorem dX16_letter_1 : decode cX16_letter 1 = .ok (.iconst 0, 1) := dk_3 (dk_at dksX16_letter_0 1 rfl rfl)
theorem dX16_letter_2 : decode cX16_letter 2 = .ok (.sipush 255, 3) := dk_17 0 255 (dk_at dksX16_letter_0 2 rfl rfl)
theorem dX16_letter_5 : decode cX16_letter 5 = .ok (.invokestatic 68, 3) := dk_184 0 68 (dk_at dksX16_letter_0 5 rfl rfl)
theorem dX16_letter_8 : decode cX16_letter 8 = .ok (.istore_n 2, 1) := dk_61 (dk_at dksX16_letter_0 8 rfl rfl)
theorem dX16_letter_9 : decode cX16_letter 9 = .ok (.iload_n 2, 1) := dk_28 (dk_at dksX16_letter_0 9 rfl rfl)
theorem dX16_letter_10 : decode cX16_letter 10 = .ok (.ifCond .ne 15, 3) := dk_154 0 15 (dk_at dksX16_letter_0 10 rfl rfl)
theorem dX16_letter_13 : decode cX16_letter 13 = .ok (.aload_n 0, 1) := dk_42 (dk_at dksX16_letter_0 13 rfl rfl)
theorem dX16_letter_14 : decode cX16_letter 14 = .ok (.getfield 72, 3) := dk_180 0 72 (dk_at dksX16_letter_0 14 rfl rfl)
theorem dX16_letter_17 : decode cX16_letter 17 = .ok (.bipush 96, 2) := dk_16 96 (dk_at dksX16_letter_0 17 rfl rfl)
theorem dX16_letter_19 : decode cX16_letter 19 = .ok (.if_icmp .ne 6, 3) := dk_160 0 6 (dk_at dksX16_letter_0 19 rfl rfl)
theorem dX16_letter_22 : decode cX16_letter 22 = .ok (.bipush (-6), 2) := dk_16 250 (dk_at dksX16_letter_0 22 rfl rfl)
theorem dX16_letter_24 : decode cX16_letter 24 = .ok (.istore_n 2, 1) := dk_61 (dk_at dksX16_letter_1 0 rfl rfl)
theorem dX16_letter_25 : decode cX16_letter 25 = .ok (.iload_n 2, 1) := dk_28 (dk_at dksX16_letter_1 1 rfl rfl)
theorem dX16_letter_26 : decode cX16_letter 26 = .ok (.ifCond .eq 9, 3) := dk_153 0 9 (dk_at dksX16_letter_1 2 rfl rfl)
theorem dX16_letter_29 : decode cX16_letter 29 = .ok (.aload_n 0, 1) := dk_42 (dk_at dksX16_letter_1 5 rfl rfl)
theorem dX16_letter_30 : decode cX16_letter 30 = .ok (.iload_n 2, 1) := dk_28 (dk_at dksX16_letter_1 6 rfl rfl)
theorem dX16_letter_31 : decode cX16_letter 31 = .ok (.invokevirtual 75, 3) := dk_182 0 75 (dk_at dksX16_letter_1 7 rfl rfl)
theorem dX16_letter_34 : decode cX16_letter 34 = .ok (.ireturn, 1) := dk_172 (dk_at dksX16_letter_1 10 rfl rfl)
theorem dX16_letter_35 : decode cX16_letter 35 = .ok (.aload_n 0, 1) := dk_42 (dk_at dksX16_letter_1 11 rfl rfl)
theorem dX16_letter_36 : decode cX16_letter 36 = .ok (.getfield 31, 3) := dk_180 0 31 (dk_at dksX16_letter_1 12 rfl rfl)
theorem dX16_letter_39 : decode cX16_letter 39 = .ok (.aload_n 0, 1) := dk_42 (dk_at dksX16_letter_1 15 rfl rfl)
theorem dX16_letter_40 : decode cX16_letter 40 = .ok (.getfield 72, 3) := dk_180 0 72 (dk_at dksX16_letter_1 16 rfl rfl)
theorem dX16_letter_43 : decode cX16_letter 43 = .ok (.iload_n 1, 1) := dk_27 (dk_at dksX16_letter_1 19 rfl rfl)
theorem dX16_letter_44 : decode cX16_letter 44 = .ok (.iastore, 1) := dk_79 (dk_at dksX16_letter_1 20 rfl rfl)
theorem dX16_letter_45 : decode cX16_letter 45 = .ok (.aload_n 0, 1) := dk_42 (dk_at dksX16_letter_1 21 rfl rfl)
theorem dX16_letter_46 : decode cX16_letter 46 = .ok (.dup, 1) := dk_89 (dk_at dksX16_letter_1 22 rfl rfl)
theorem dX16_letter_47 : decode cX16_letter 47 = .ok (.getfield 72, 3) := dk_180 0 72 (dk_at dksX16_letter_2 0 rfl rfl)
theorem dX16_letter_50 : decode cX16_letter 50 = .ok (.iconst 1, 1) := dk_4 (dk_at dksX16_letter_2 3 rfl rfl)
theorem dX16_letter_51 : decode cX16_letter 51 = .ok (.iadd, 1) := dk_96 (dk_at dksX16_letter_2 4 rfl rfl)
theorem dX16_letter_52 : decode cX16_letter 52 = .ok (.putfield 72, 3) := dk_181 0 72 (dk_at dksX16_letter_2 5 rfl rfl)
theorem dX16_letter_55 : decode cX16_letter 55 = .ok (.aload_n 0, 1) := dk_42 (dk_at dksX16_letter_2 8 rfl rfl)
theorem dX16_letter_56 : decode cX16_letter 56 = .ok (.getfield 72, 3) := dk_180 0 72 (dk_at dksX16_letter_2 9 rfl rfl)
theorem dX16_letter_59 : decode cX16_letter 59 = .ok (.ireturn, 1) := dk_172 (dk_at dksX16_letter_2 12 rfl rfl)
abbrev cX16_bound : ByteArray := prog_28_method_5_code
def yX16_bound : MethodName := ⟨RX16, "bound", "(III)I"⟩
def dkwX16_bound_0 : List UInt8 := [26, 27, 162, 0, 8, 16, 252, 167, 0, 14, 26, 28, 164, 0, 8, 16, 250, 167, 0, 4, 3, 172]
abbrev dktX16_bound_0 : List UInt8 := dkwX16_bound_0 ++ []
theorem dksX16_bound_0 : cX16_bound.data.toList.drop 0 = dktX16_bound_0 := by decide +kernel
theorem dX16_bound_0 : decode cX16_bound 0 = .ok (.iload_n 0, 1) := dk_26 (dk_at dksX16_bound_0 0 rfl rfl)
theorem dX16_bound_1 : decode cX16_bound 1 = .ok (.iload_n 1, 1) := dk_27 (dk_at dksX16_bound_0 1 rfl rfl)
theorem dX16_bound_2 : decode cX16_bound 2 = .ok (.if_icmp .ge 8, 3) := dk_162 0 8 (dk_at dksX16_bound_0 2 rfl rfl)
theorem dX16_bound_5 : decode cX16_bound 5 = .ok (.bipush (-4), 2) := dk_16 252 (dk_at dksX16_bound_0 5 rfl rfl)
theorem dX16_bound_7 : decode cX16_bound 7 = .ok (.goto 14, 3) := dk_167 0 14 (dk_at dksX16_bound_0 7 rfl rfl)
theorem dX16_bound_10 : decode cX16_bound 10 = .ok (.iload_n 0, 1) := dk_26 (dk_at dksX16_bound_0 10 rfl rfl)
theorem dX16_bound_11 : decode cX16_bound 11 = .ok (.iload_n 2, 1) := dk_28 (dk_at dksX16_bound_0 11 rfl rfl)
theorem dX16_bound_12 : decode cX16_bound 12 = .ok (.if_icmp .le 8, 3) := dk_164 0 8 (dk_at dksX16_bound_0 12 rfl rfl)
theorem dX16_bound_15 : decode cX16_bound 15 = .ok (.bipush (-6), 2) := dk_16 250 (dk_at dksX16_bound_0 15 rfl rfl)
theorem dX16_bound_17 : decode cX16_bound 17 = .ok (.goto 4, 3) := dk_167 0 4 (dk_at dksX16_bound_0 17 rfl rfl)
theorem dX16_bound_20 : decode cX16_bound 20 = .ok (.iconst 0, 1) := dk_3 (dk_at dksX16_bound_0 20 rfl rfl)
theorem dX16_bound_21 : decode cX16_bound 21 = .ok (.ireturn, 1) := dk_172 (dk_at dksX16_bound_0 21 rfl rfl)
abbrev cX16_no : ByteArray := prog_28_method_2_code
def yX16_no : MethodName := ⟨RX16, "no", "(I)I"⟩
def dkwX16_no_0 : List UInt8 := [42, 180, 0, 7, 27, 116, 92, 46, 4, 96, 79, 27, 172]
abbrev dktX16_no_0 : List UInt8 := dkwX16_no_0 ++ []
theorem dksX16_no_0 : cX16_no.data.toList.drop 0 = dktX16_no_0 := by decide +kernel
theorem dX16_no_0 : decode cX16_no 0 = .ok (.aload_n 0, 1) := dk_42 (dk_at dksX16_no_0 0 rfl rfl)
theorem dX16_no_1 : decode cX16_no 1 = .ok (.getfield 7, 3) := dk_180 0 7 (dk_at dksX16_no_0 1 rfl rfl)
theorem dX16_no_4 : decode cX16_no 4 = .ok (.iload_n 1, 1) := dk_27 (dk_at dksX16_no_0 4 rfl rfl)
theorem dX16_no_5 : decode cX16_no 5 = .ok (.ineg, 1) := dk_116 (dk_at dksX16_no_0 5 rfl rfl)
theorem dX16_no_6 : decode cX16_no 6 = .ok (.dup2, 1) := dk_92 (dk_at dksX16_no_0 6 rfl rfl)
theorem dX16_no_7 : decode cX16_no 7 = .ok (.iaload, 1) := dk_46 (dk_at dksX16_no_0 7 rfl rfl)
theorem dX16_no_8 : decode cX16_no 8 = .ok (.iconst 1, 1) := dk_4 (dk_at dksX16_no_0 8 rfl rfl)
theorem dX16_no_9 : decode cX16_no 9 = .ok (.iadd, 1) := dk_96 (dk_at dksX16_no_0 9 rfl rfl)
theorem dX16_no_10 : decode cX16_no 10 = .ok (.iastore, 1) := dk_79 (dk_at dksX16_no_0 10 rfl rfl)
theorem dX16_no_11 : decode cX16_no 11 = .ok (.iload_n 1, 1) := dk_27 (dk_at dksX16_no_0 11 rfl rfl)
theorem dX16_no_12 : decode cX16_no 12 = .ok (.ireturn, 1) := dk_172 (dk_at dksX16_no_0 12 rfl rfl)
abbrev cX16_house : ByteArray := prog_28_method_19_code
def yX16_house : MethodName := ⟨RX16, "house", "()I"⟩
def dkwX16_house_5 : List UInt8 := [100, 172, 132, 2, 1, 167, 255, 217, 42, 180, 0, 97, 172]
abbrev dktX16_house_5 : List UInt8 := dkwX16_house_5 ++ []
def dkwX16_house_4 : List UInt8 := [182, 0, 120, 153, 0, 6, 167, 0, 20, 42, 4, 3, 182, 0, 116, 17, 248, 48, 42, 180, 0, 37, 28, 46]
abbrev dktX16_house_4 : List UInt8 := dkwX16_house_4 ++ dktX16_house_5
def dkwX16_house_3 : List UInt8 := [42, 180, 0, 79, 100, 172, 42, 4, 4, 182, 0, 116, 3, 61, 28, 42, 180, 0, 97, 162, 0, 37, 42, 28]
abbrev dktX16_house_3 : List UInt8 := dkwX16_house_3 ++ dktX16_house_4
def dkwX16_house_2 : List UInt8 := [4, 167, 0, 4, 3, 96, 181, 0, 97, 167, 255, 211, 42, 3, 181, 0, 72, 27, 154, 0, 12, 17, 252, 24]
abbrev dktX16_house_2 : List UInt8 := dkwX16_house_2 ++ dktX16_house_3
def dkwX16_house_1 : List UInt8 := [161, 0, 10, 42, 180, 0, 97, 154, 0, 29, 42, 182, 0, 112, 60, 42, 89, 180, 0, 97, 27, 153, 0, 7]
abbrev dktX16_house_1 : List UInt8 := dkwX16_house_1 ++ dktX16_house_2
def dkwX16_house_0 : List UInt8 := [42, 3, 181, 0, 79, 42, 3, 181, 0, 97, 4, 60, 27, 153, 0, 47, 42, 180, 0, 79, 42, 180, 0, 72]
abbrev dktX16_house_0 : List UInt8 := dkwX16_house_0 ++ dktX16_house_1
theorem dksX16_house_0 : cX16_house.data.toList.drop 0 = dktX16_house_0 := by decide +kernel
theorem dksX16_house_1 : cX16_house.data.toList.drop 24 = dktX16_house_1 := dk_seg dksX16_house_0 24 rfl rfl
theorem dksX16_house_2 : cX16_house.data.toList.drop 48 = dktX16_house_2 := dk_seg dksX16_house_1 24 rfl rfl
theorem dksX16_house_3 : cX16_house.data.toList.drop 72 = dktX16_house_3 := dk_seg dksX16_house_2 24 rfl rfl
theorem dksX16_house_4 : cX16_house.data.toList.drop 96 = dktX16_house_4 := dk_seg dksX16_house_3 24 rfl rfl
theorem dksX16_house_5 : cX16_house.data.toList.drop 120 = dktX16_house_5 := dk_seg dksX16_house_4 24 rfl rfl
theorem dX16_house_0 : decode cX16_house 0 = .ok (.aload_n 0, 1) := dk_42 (dk_at dksX16_house_0 0 rfl rfl)
theorem dX16_house_1 : decode cX16_house 1 = .ok (.iconst 0, 1) := dk_3 (dk_at dksX16_house_0 1 rfl rfl)
theorem dX16_house_2 : decode cX16_house 2 = .ok (.putfield 79, 3) := dk_181 0 79 (dk_at dksX16_house_0 2 rfl rfl)
theorem dX16_house_5 : decode cX16_house 5 = .ok (.aload_n 0, 1) := dk_42 (dk_at dksX16_house_0 5 rfl rfl)
theorem dX16_house_6 : decode cX16_house 6 = .ok (.iconst 0, 1) := dk_3 (dk_at dksX16_house_0 6 rfl rfl)
theorem dX16_house_7 : decode cX16_house 7 = .ok (.putfield 97, 3) := dk_181 0 97 (dk_at dksX16_house_0 7 rfl rfl)
theorem dX16_house_10 : decode cX16_house 10 = .ok (.iconst 1, 1) := dk_4 (dk_at dksX16_house_0 10 rfl rfl)
theorem dX16_house_11 : decode cX16_house 11 = .ok (.istore_n 1, 1) := dk_60 (dk_at dksX16_house_0 11 rfl rfl)
theorem dX16_house_12 : decode cX16_house 12 = .ok (.iload_n 1, 1) := dk_27 (dk_at dksX16_house_0 12 rfl rfl)
theorem dX16_house_13 : decode cX16_house 13 = .ok (.ifCond .eq 47, 3) := dk_153 0 47 (dk_at dksX16_house_0 13 rfl rfl)
theorem dX16_house_16 : decode cX16_house 16 = .ok (.aload_n 0, 1) := dk_42 (dk_at dksX16_house_0 16 rfl rfl)
theorem dX16_house_17 : decode cX16_house 17 = .ok (.getfield 79, 3) := dk_180 0 79 (dk_at dksX16_house_0 17 rfl rfl)
theorem dX16_house_20 : decode cX16_house 20 = .ok (.aload_n 0, 1) := dk_42 (dk_at dksX16_house_0 20 rfl rfl)
theorem dX16_house_21 : decode cX16_house 21 = .ok (.getfield 72, 3) := dk_180 0 72 (dk_at dksX16_house_0 21 rfl rfl)
theorem dX16_house_24 : decode cX16_house 24 = .ok (.if_icmp .lt 10, 3) := dk_161 0 10 (dk_at dksX16_house_1 0 rfl rfl)
theorem dX16_house_27 : decode cX16_house 27 = .ok (.aload_n 0, 1) := dk_42 (dk_at dksX16_house_1 3 rfl rfl)
theorem dX16_house_28 : decode cX16_house 28 = .ok (.getfield 97, 3) := dk_180 0 97 (dk_at dksX16_house_1 4 rfl rfl)
theorem dX16_house_31 : decode cX16_house 31 = .ok (.ifCond .ne 29, 3) := dk_154 0 29 (dk_at dksX16_house_1 7 rfl rfl)
theorem dX16_house_34 : decode cX16_house 34 = .ok (.aload_n 0, 1) := dk_42 (dk_at dksX16_house_1 10 rfl rfl)
theorem dX16_house_35 : decode cX16_house 35 = .ok (.invokevirtual 112, 3) := dk_182 0 112 (dk_at dksX16_house_1 11 rfl rfl)
theorem dX16_house_38 : decode cX16_house 38 = .ok (.istore_n 1, 1) := dk_60 (dk_at dksX16_house_1 14 rfl rfl)
theorem dX16_house_39 : decode cX16_house 39 = .ok (.aload_n 0, 1) := dk_42 (dk_at dksX16_house_1 15 rfl rfl)
theorem dX16_house_40 : decode cX16_house 40 = .ok (.dup, 1) := dk_89 (dk_at dksX16_house_1 16 rfl rfl)
theorem dX16_house_41 : decode cX16_house 41 = .ok (.getfield 97, 3) := dk_180 0 97 (dk_at dksX16_house_1 17 rfl rfl)
theorem dX16_house_44 : decode cX16_house 44 = .ok (.iload_n 1, 1) := dk_27 (dk_at dksX16_house_1 20 rfl rfl)
theorem dX16_house_45 : decode cX16_house 45 = .ok (.ifCond .eq 7, 3) := dk_153 0 7 (dk_at dksX16_house_1 21 rfl rfl)
theorem dX16_house_48 : decode cX16_house 48 = .ok (.iconst 1, 1) := dk_4 (dk_at dksX16_house_2 0 rfl rfl)
theorem dX16_house_49 : decode cX16_house 49 = .ok (.goto 4, 3) := dk_167 0 4 (dk_at dksX16_house_2 1 rfl rfl)
theorem dX16_house_52 : decode cX16_house 52 = .ok (.iconst 0, 1) := dk_3 (dk_at dksX16_house_2 4 rfl rfl)
theorem dX16_house_53 : decode cX16_house 53 = .ok (.iadd, 1) := dk_96 (dk_at dksX16_house_2 5 rfl rfl)
theorem dX16_house_54 : decode cX16_house 54 = .ok (.putfield 97, 3) := dk_181 0 97 (dk_at dksX16_house_2 6 rfl rfl)
theorem dX16_house_57 : decode cX16_house 57 = .ok (.goto (-45), 3) := dk_167 255 211 (dk_at dksX16_house_2 9 rfl rfl)
theorem dX16_house_60 : decode cX16_house 60 = .ok (.aload_n 0, 1) := dk_42 (dk_at dksX16_house_2 12 rfl rfl)
theorem dX16_house_61 : decode cX16_house 61 = .ok (.iconst 0, 1) := dk_3 (dk_at dksX16_house_2 13 rfl rfl)
theorem dX16_house_62 : decode cX16_house 62 = .ok (.putfield 72, 3) := dk_181 0 72 (dk_at dksX16_house_2 14 rfl rfl)
theorem dX16_house_65 : decode cX16_house 65 = .ok (.iload_n 1, 1) := dk_27 (dk_at dksX16_house_2 17 rfl rfl)
theorem dX16_house_66 : decode cX16_house 66 = .ok (.ifCond .ne 12, 3) := dk_154 0 12 (dk_at dksX16_house_2 18 rfl rfl)
theorem dX16_house_69 : decode cX16_house 69 = .ok (.sipush (-1000), 3) := dk_17 252 24 (dk_at dksX16_house_2 21 rfl rfl)
theorem dX16_house_72 : decode cX16_house 72 = .ok (.aload_n 0, 1) := dk_42 (dk_at dksX16_house_3 0 rfl rfl)
theorem dX16_house_73 : decode cX16_house 73 = .ok (.getfield 79, 3) := dk_180 0 79 (dk_at dksX16_house_3 1 rfl rfl)
theorem dX16_house_76 : decode cX16_house 76 = .ok (.isub, 1) := dk_100 (dk_at dksX16_house_3 4 rfl rfl)
theorem dX16_house_77 : decode cX16_house 77 = .ok (.ireturn, 1) := dk_172 (dk_at dksX16_house_3 5 rfl rfl)
theorem dX16_house_78 : decode cX16_house 78 = .ok (.aload_n 0, 1) := dk_42 (dk_at dksX16_house_3 6 rfl rfl)
theorem dX16_house_79 : decode cX16_house 79 = .ok (.iconst 1, 1) := dk_4 (dk_at dksX16_house_3 7 rfl rfl)
theorem dX16_house_80 : decode cX16_house 80 = .ok (.iconst 1, 1) := dk_4 (dk_at dksX16_house_3 8 rfl rfl)
theorem dX16_house_81 : decode cX16_house 81 = .ok (.invokevirtual 116, 3) := dk_182 0 116 (dk_at dksX16_house_3 9 rfl rfl)
theorem dX16_house_84 : decode cX16_house 84 = .ok (.iconst 0, 1) := dk_3 (dk_at dksX16_house_3 12 rfl rfl)
theorem dX16_house_85 : decode cX16_house 85 = .ok (.istore_n 2, 1) := dk_61 (dk_at dksX16_house_3 13 rfl rfl)
theorem dX16_house_86 : decode cX16_house 86 = .ok (.iload_n 2, 1) := dk_28 (dk_at dksX16_house_3 14 rfl rfl)
theorem dX16_house_87 : decode cX16_house 87 = .ok (.aload_n 0, 1) := dk_42 (dk_at dksX16_house_3 15 rfl rfl)
theorem dX16_house_88 : decode cX16_house 88 = .ok (.getfield 97, 3) := dk_180 0 97 (dk_at dksX16_house_3 16 rfl rfl)
theorem dX16_house_91 : decode cX16_house 91 = .ok (.if_icmp .ge 37, 3) := dk_162 0 37 (dk_at dksX16_house_3 19 rfl rfl)
theorem dX16_house_94 : decode cX16_house 94 = .ok (.aload_n 0, 1) := dk_42 (dk_at dksX16_house_3 22 rfl rfl)
theorem dX16_house_95 : decode cX16_house 95 = .ok (.iload_n 2, 1) := dk_28 (dk_at dksX16_house_3 23 rfl rfl)
theorem dX16_house_96 : decode cX16_house 96 = .ok (.invokevirtual 120, 3) := dk_182 0 120 (dk_at dksX16_house_4 0 rfl rfl)
theorem dX16_house_99 : decode cX16_house 99 = .ok (.ifCond .eq 6, 3) := dk_153 0 6 (dk_at dksX16_house_4 3 rfl rfl)
theorem dX16_house_102 : decode cX16_house 102 = .ok (.goto 20, 3) := dk_167 0 20 (dk_at dksX16_house_4 6 rfl rfl)
theorem dX16_house_105 : decode cX16_house 105 = .ok (.aload_n 0, 1) := dk_42 (dk_at dksX16_house_4 9 rfl rfl)
theorem dX16_house_106 : decode cX16_house 106 = .ok (.iconst 1, 1) := dk_4 (dk_at dksX16_house_4 10 rfl rfl)
theorem dX16_house_107 : decode cX16_house 107 = .ok (.iconst 0, 1) := dk_3 (dk_at dksX16_house_4 11 rfl rfl)
theorem dX16_house_108 : decode cX16_house 108 = .ok (.invokevirtual 116, 3) := dk_182 0 116 (dk_at dksX16_house_4 12 rfl rfl)
theorem dX16_house_111 : decode cX16_house 111 = .ok (.sipush (-2000), 3) := dk_17 248 48 (dk_at dksX16_house_4 15 rfl rfl)
theorem dX16_house_114 : decode cX16_house 114 = .ok (.aload_n 0, 1) := dk_42 (dk_at dksX16_house_4 18 rfl rfl)
theorem dX16_house_115 : decode cX16_house 115 = .ok (.getfield 37, 3) := dk_180 0 37 (dk_at dksX16_house_4 19 rfl rfl)
theorem dX16_house_118 : decode cX16_house 118 = .ok (.iload_n 2, 1) := dk_28 (dk_at dksX16_house_4 22 rfl rfl)
theorem dX16_house_119 : decode cX16_house 119 = .ok (.iaload, 1) := dk_46 (dk_at dksX16_house_4 23 rfl rfl)
theorem dX16_house_120 : decode cX16_house 120 = .ok (.isub, 1) := dk_100 (dk_at dksX16_house_5 0 rfl rfl)
theorem dX16_house_121 : decode cX16_house 121 = .ok (.ireturn, 1) := dk_172 (dk_at dksX16_house_5 1 rfl rfl)
theorem dX16_house_122 : decode cX16_house 122 = .ok (.iinc 2 1, 3) := dk_132 2 1 (dk_at dksX16_house_5 2 rfl rfl)
theorem dX16_house_125 : decode cX16_house 125 = .ok (.goto (-39), 3) := dk_167 255 217 (dk_at dksX16_house_5 5 rfl rfl)
theorem dX16_house_128 : decode cX16_house 128 = .ok (.aload_n 0, 1) := dk_42 (dk_at dksX16_house_5 8 rfl rfl)
theorem dX16_house_129 : decode cX16_house 129 = .ok (.getfield 97, 3) := dk_180 0 97 (dk_at dksX16_house_5 9 rfl rfl)
theorem dX16_house_132 : decode cX16_house 132 = .ok (.ireturn, 1) := dk_172 (dk_at dksX16_house_5 12 rfl rfl)
abbrev cX16_statement : ByteArray := prog_28_method_16_code
def yX16_statement : MethodName := ⟨RX16, "statement", "()Z"⟩
def dkwX16_statement_6 : List UInt8 := [180, 0, 79, 4, 96, 181, 0, 79, 4, 172]
abbrev dktX16_statement_6 : List UInt8 := dkwX16_statement_6 ++ []
def dkwX16_statement_5 : List UInt8 := [167, 0, 4, 3, 62, 29, 153, 0, 12, 42, 182, 0, 82, 16, 59, 159, 0, 5, 3, 172, 42, 89]
abbrev dktX16_statement_5 : List UInt8 := dkwX16_statement_5 ++ dktX16_statement_6
def dkwX16_statement_4 : List UInt8 := [182, 0, 93, 153, 0, 24, 27, 16, 104, 159, 0, 14, 42, 28, 4, 96, 4, 182, 0, 93, 153, 0, 7, 4]
abbrev dktX16_statement_4 : List UInt8 := dkwX16_statement_4 ++ dktX16_statement_5
def dkwX16_statement_3 : List UInt8 := [180, 0, 97, 104, 61, 27, 16, 116, 160, 0, 11, 42, 28, 182, 0, 100, 167, 0, 34, 42, 28, 4]
abbrev dktX16_statement_3 : List UInt8 := dkwX16_statement_3 ++ dktX16_statement_4
def dkwX16_statement_2 : List UInt8 := [180, 0, 37, 42, 180, 0, 97, 42, 180, 0, 79, 79, 42, 89, 180, 0, 79, 4, 96, 181, 0, 79, 6, 42]
abbrev dktX16_statement_2 : List UInt8 := dkwX16_statement_2 ++ dktX16_statement_3
def dkwX16_statement_1 : List UInt8 := [16, 104, 159, 0, 11, 27, 16, 99, 159, 0, 5, 3, 172, 42, 180, 0, 34, 42, 180, 0, 97, 27, 79, 42]
abbrev dktX16_statement_1 : List UInt8 := dkwX16_statement_1 ++ dktX16_statement_2
def dkwX16_statement_0 : List UInt8 := [42, 182, 0, 82, 60, 27, 16, 116, 159, 0, 29, 27, 16, 110, 159, 0, 23, 27, 16, 97, 159, 0, 17, 27]
abbrev dktX16_statement_0 : List UInt8 := dkwX16_statement_0 ++ dktX16_statement_1
theorem dksX16_statement_0 : cX16_statement.data.toList.drop 0 = dktX16_statement_0 := by decide +kernel
theorem dksX16_statement_1 : cX16_statement.data.toList.drop 24 = dktX16_statement_1 := dk_seg dksX16_statement_0 24 rfl rfl
theorem dksX16_statement_2 : cX16_statement.data.toList.drop 48 = dktX16_statement_2 := dk_seg dksX16_statement_1 24 rfl rfl
theorem dksX16_statement_3 : cX16_statement.data.toList.drop 72 = dktX16_statement_3 := dk_seg dksX16_statement_2 24 rfl rfl
theorem dksX16_statement_4 : cX16_statement.data.toList.drop 94 = dktX16_statement_4 := dk_seg dksX16_statement_3 22 rfl rfl
theorem dksX16_statement_5 : cX16_statement.data.toList.drop 118 = dktX16_statement_5 := dk_seg dksX16_statement_4 24 rfl rfl
theorem dksX16_statement_6 : cX16_statement.data.toList.drop 140 = dktX16_statement_6 := dk_seg dksX16_statement_5 22 rfl rfl
theorem dX16_statement_0 : decode cX16_statement 0 = .ok (.aload_n 0, 1) := dk_42 (dk_at dksX16_statement_0 0 rfl rfl)
theorem dX16_statement_1 : decode cX16_statement 1 = .ok (.invokevirtual 82, 3) := dk_182 0 82 (dk_at dksX16_statement_0 1 rfl rfl)
theorem dX16_statement_4 : decode cX16_statement 4 = .ok (.istore_n 1, 1) := dk_60 (dk_at dksX16_statement_0 4 rfl rfl)
theorem dX16_statement_5 : decode cX16_statement 5 = .ok (.iload_n 1, 1) := dk_27 (dk_at dksX16_statement_0 5 rfl rfl)
theorem dX16_statement_6 : decode cX16_statement 6 = .ok (.bipush 116, 2) := dk_16 116 (dk_at dksX16_statement_0 6 rfl rfl)
theorem dX16_statement_8 : decode cX16_statement 8 = .ok (.if_icmp .eq 29, 3) := dk_159 0 29 (dk_at dksX16_statement_0 8 rfl rfl)
theorem dX16_statement_11 : decode cX16_statement 11 = .ok (.iload_n 1, 1) := dk_27 (dk_at dksX16_statement_0 11 rfl rfl)
theorem dX16_statement_12 : decode cX16_statement 12 = .ok (.bipush 110, 2) := dk_16 110 (dk_at dksX16_statement_0 12 rfl rfl)
theorem dX16_statement_14 : decode cX16_statement 14 = .ok (.if_icmp .eq 23, 3) := dk_159 0 23 (dk_at dksX16_statement_0 14 rfl rfl)
theorem dX16_statement_17 : decode cX16_statement 17 = .ok (.iload_n 1, 1) := dk_27 (dk_at dksX16_statement_0 17 rfl rfl)
theorem dX16_statement_18 : decode cX16_statement 18 = .ok (.bipush 97, 2) := dk_16 97 (dk_at dksX16_statement_0 18 rfl rfl)
theorem dX16_statement_20 : decode cX16_statement 20 = .ok (.if_icmp .eq 17, 3) := dk_159 0 17 (dk_at dksX16_statement_0 20 rfl rfl)
theorem dX16_statement_23 : decode cX16_statement 23 = .ok (.iload_n 1, 1) := dk_27 (dk_at dksX16_statement_0 23 rfl rfl)
theorem dX16_statement_24 : decode cX16_statement 24 = .ok (.bipush 104, 2) := dk_16 104 (dk_at dksX16_statement_1 0 rfl rfl)
theorem dX16_statement_26 : decode cX16_statement 26 = .ok (.if_icmp .eq 11, 3) := dk_159 0 11 (dk_at dksX16_statement_1 2 rfl rfl)
theorem dX16_statement_29 : decode cX16_statement 29 = .ok (.iload_n 1, 1) := dk_27 (dk_at dksX16_statement_1 5 rfl rfl)
theorem dX16_statement_30 : decode cX16_statement 30 = .ok (.bipush 99, 2) := dk_16 99 (dk_at dksX16_statement_1 6 rfl rfl)
theorem dX16_statement_32 : decode cX16_statement 32 = .ok (.if_icmp .eq 5, 3) := dk_159 0 5 (dk_at dksX16_statement_1 8 rfl rfl)
theorem dX16_statement_35 : decode cX16_statement 35 = .ok (.iconst 0, 1) := dk_3 (dk_at dksX16_statement_1 11 rfl rfl)
theorem dX16_statement_36 : decode cX16_statement 36 = .ok (.ireturn, 1) := dk_172 (dk_at dksX16_statement_1 12 rfl rfl)
theorem dX16_statement_37 : decode cX16_statement 37 = .ok (.aload_n 0, 1) := dk_42 (dk_at dksX16_statement_1 13 rfl rfl)
theorem dX16_statement_38 : decode cX16_statement 38 = .ok (.getfield 34, 3) := dk_180 0 34 (dk_at dksX16_statement_1 14 rfl rfl)
theorem dX16_statement_41 : decode cX16_statement 41 = .ok (.aload_n 0, 1) := dk_42 (dk_at dksX16_statement_1 17 rfl rfl)
theorem dX16_statement_42 : decode cX16_statement 42 = .ok (.getfield 97, 3) := dk_180 0 97 (dk_at dksX16_statement_1 18 rfl rfl)
theorem dX16_statement_45 : decode cX16_statement 45 = .ok (.iload_n 1, 1) := dk_27 (dk_at dksX16_statement_1 21 rfl rfl)
theorem dX16_statement_46 : decode cX16_statement 46 = .ok (.iastore, 1) := dk_79 (dk_at dksX16_statement_1 22 rfl rfl)
theorem dX16_statement_47 : decode cX16_statement 47 = .ok (.aload_n 0, 1) := dk_42 (dk_at dksX16_statement_1 23 rfl rfl)
theorem dX16_statement_48 : decode cX16_statement 48 = .ok (.getfield 37, 3) := dk_180 0 37 (dk_at dksX16_statement_2 0 rfl rfl)
theorem dX16_statement_51 : decode cX16_statement 51 = .ok (.aload_n 0, 1) := dk_42 (dk_at dksX16_statement_2 3 rfl rfl)
theorem dX16_statement_52 : decode cX16_statement 52 = .ok (.getfield 97, 3) := dk_180 0 97 (dk_at dksX16_statement_2 4 rfl rfl)
theorem dX16_statement_55 : decode cX16_statement 55 = .ok (.aload_n 0, 1) := dk_42 (dk_at dksX16_statement_2 7 rfl rfl)
theorem dX16_statement_56 : decode cX16_statement 56 = .ok (.getfield 79, 3) := dk_180 0 79 (dk_at dksX16_statement_2 8 rfl rfl)
theorem dX16_statement_59 : decode cX16_statement 59 = .ok (.iastore, 1) := dk_79 (dk_at dksX16_statement_2 11 rfl rfl)
theorem dX16_statement_60 : decode cX16_statement 60 = .ok (.aload_n 0, 1) := dk_42 (dk_at dksX16_statement_2 12 rfl rfl)
theorem dX16_statement_61 : decode cX16_statement 61 = .ok (.dup, 1) := dk_89 (dk_at dksX16_statement_2 13 rfl rfl)
theorem dX16_statement_62 : decode cX16_statement 62 = .ok (.getfield 79, 3) := dk_180 0 79 (dk_at dksX16_statement_2 14 rfl rfl)
theorem dX16_statement_65 : decode cX16_statement 65 = .ok (.iconst 1, 1) := dk_4 (dk_at dksX16_statement_2 17 rfl rfl)
theorem dX16_statement_66 : decode cX16_statement 66 = .ok (.iadd, 1) := dk_96 (dk_at dksX16_statement_2 18 rfl rfl)
theorem dX16_statement_67 : decode cX16_statement 67 = .ok (.putfield 79, 3) := dk_181 0 79 (dk_at dksX16_statement_2 19 rfl rfl)
theorem dX16_statement_70 : decode cX16_statement 70 = .ok (.iconst 3, 1) := dk_6 (dk_at dksX16_statement_2 22 rfl rfl)
theorem dX16_statement_71 : decode cX16_statement 71 = .ok (.aload_n 0, 1) := dk_42 (dk_at dksX16_statement_2 23 rfl rfl)
theorem dX16_statement_72 : decode cX16_statement 72 = .ok (.getfield 97, 3) := dk_180 0 97 (dk_at dksX16_statement_3 0 rfl rfl)
theorem dX16_statement_75 : decode cX16_statement 75 = .ok (.imul, 1) := dk_104 (dk_at dksX16_statement_3 3 rfl rfl)
theorem dX16_statement_76 : decode cX16_statement 76 = .ok (.istore_n 2, 1) := dk_61 (dk_at dksX16_statement_3 4 rfl rfl)
theorem dX16_statement_77 : decode cX16_statement 77 = .ok (.iload_n 1, 1) := dk_27 (dk_at dksX16_statement_3 5 rfl rfl)
theorem dX16_statement_78 : decode cX16_statement 78 = .ok (.bipush 116, 2) := dk_16 116 (dk_at dksX16_statement_3 6 rfl rfl)
theorem dX16_statement_80 : decode cX16_statement 80 = .ok (.if_icmp .ne 11, 3) := dk_160 0 11 (dk_at dksX16_statement_3 8 rfl rfl)
theorem dX16_statement_83 : decode cX16_statement 83 = .ok (.aload_n 0, 1) := dk_42 (dk_at dksX16_statement_3 11 rfl rfl)
theorem dX16_statement_84 : decode cX16_statement 84 = .ok (.iload_n 2, 1) := dk_28 (dk_at dksX16_statement_3 12 rfl rfl)
theorem dX16_statement_85 : decode cX16_statement 85 = .ok (.invokevirtual 100, 3) := dk_182 0 100 (dk_at dksX16_statement_3 13 rfl rfl)
theorem dX16_statement_88 : decode cX16_statement 88 = .ok (.goto 34, 3) := dk_167 0 34 (dk_at dksX16_statement_3 16 rfl rfl)
theorem dX16_statement_91 : decode cX16_statement 91 = .ok (.aload_n 0, 1) := dk_42 (dk_at dksX16_statement_3 19 rfl rfl)
theorem dX16_statement_92 : decode cX16_statement 92 = .ok (.iload_n 2, 1) := dk_28 (dk_at dksX16_statement_3 20 rfl rfl)
theorem dX16_statement_93 : decode cX16_statement 93 = .ok (.iconst 1, 1) := dk_4 (dk_at dksX16_statement_3 21 rfl rfl)
theorem dX16_statement_94 : decode cX16_statement 94 = .ok (.invokevirtual 93, 3) := dk_182 0 93 (dk_at dksX16_statement_4 0 rfl rfl)
theorem dX16_statement_97 : decode cX16_statement 97 = .ok (.ifCond .eq 24, 3) := dk_153 0 24 (dk_at dksX16_statement_4 3 rfl rfl)
theorem dX16_statement_100 : decode cX16_statement 100 = .ok (.iload_n 1, 1) := dk_27 (dk_at dksX16_statement_4 6 rfl rfl)
theorem dX16_statement_101 : decode cX16_statement 101 = .ok (.bipush 104, 2) := dk_16 104 (dk_at dksX16_statement_4 7 rfl rfl)
theorem dX16_statement_103 : decode cX16_statement 103 = .ok (.if_icmp .eq 14, 3) := dk_159 0 14 (dk_at dksX16_statement_4 9 rfl rfl)
theorem dX16_statement_106 : decode cX16_statement 106 = .ok (.aload_n 0, 1) := dk_42 (dk_at dksX16_statement_4 12 rfl rfl)
theorem dX16_statement_107 : decode cX16_statement 107 = .ok (.iload_n 2, 1) := dk_28 (dk_at dksX16_statement_4 13 rfl rfl)
theorem dX16_statement_108 : decode cX16_statement 108 = .ok (.iconst 1, 1) := dk_4 (dk_at dksX16_statement_4 14 rfl rfl)
theorem dX16_statement_109 : decode cX16_statement 109 = .ok (.iadd, 1) := dk_96 (dk_at dksX16_statement_4 15 rfl rfl)
theorem dX16_statement_110 : decode cX16_statement 110 = .ok (.iconst 1, 1) := dk_4 (dk_at dksX16_statement_4 16 rfl rfl)
theorem dX16_statement_111 : decode cX16_statement 111 = .ok (.invokevirtual 93, 3) := dk_182 0 93 (dk_at dksX16_statement_4 17 rfl rfl)
theorem dX16_statement_114 : decode cX16_statement 114 = .ok (.ifCond .eq 7, 3) := dk_153 0 7 (dk_at dksX16_statement_4 20 rfl rfl)
theorem dX16_statement_117 : decode cX16_statement 117 = .ok (.iconst 1, 1) := dk_4 (dk_at dksX16_statement_4 23 rfl rfl)
theorem dX16_statement_118 : decode cX16_statement 118 = .ok (.goto 4, 3) := dk_167 0 4 (dk_at dksX16_statement_5 0 rfl rfl)
theorem dX16_statement_121 : decode cX16_statement 121 = .ok (.iconst 0, 1) := dk_3 (dk_at dksX16_statement_5 3 rfl rfl)
theorem dX16_statement_122 : decode cX16_statement 122 = .ok (.istore_n 3, 1) := dk_62 (dk_at dksX16_statement_5 4 rfl rfl)
theorem dX16_statement_123 : decode cX16_statement 123 = .ok (.iload_n 3, 1) := dk_29 (dk_at dksX16_statement_5 5 rfl rfl)
theorem dX16_statement_124 : decode cX16_statement 124 = .ok (.ifCond .eq 12, 3) := dk_153 0 12 (dk_at dksX16_statement_5 6 rfl rfl)
theorem dX16_statement_127 : decode cX16_statement 127 = .ok (.aload_n 0, 1) := dk_42 (dk_at dksX16_statement_5 9 rfl rfl)
theorem dX16_statement_128 : decode cX16_statement 128 = .ok (.invokevirtual 82, 3) := dk_182 0 82 (dk_at dksX16_statement_5 10 rfl rfl)
theorem dX16_statement_131 : decode cX16_statement 131 = .ok (.bipush 59, 2) := dk_16 59 (dk_at dksX16_statement_5 13 rfl rfl)
theorem dX16_statement_133 : decode cX16_statement 133 = .ok (.if_icmp .eq 5, 3) := dk_159 0 5 (dk_at dksX16_statement_5 15 rfl rfl)
theorem dX16_statement_136 : decode cX16_statement 136 = .ok (.iconst 0, 1) := dk_3 (dk_at dksX16_statement_5 18 rfl rfl)
theorem dX16_statement_137 : decode cX16_statement 137 = .ok (.ireturn, 1) := dk_172 (dk_at dksX16_statement_5 19 rfl rfl)
theorem dX16_statement_138 : decode cX16_statement 138 = .ok (.aload_n 0, 1) := dk_42 (dk_at dksX16_statement_5 20 rfl rfl)
theorem dX16_statement_139 : decode cX16_statement 139 = .ok (.dup, 1) := dk_89 (dk_at dksX16_statement_5 21 rfl rfl)
theorem dX16_statement_140 : decode cX16_statement 140 = .ok (.getfield 79, 3) := dk_180 0 79 (dk_at dksX16_statement_6 0 rfl rfl)
theorem dX16_statement_143 : decode cX16_statement 143 = .ok (.iconst 1, 1) := dk_4 (dk_at dksX16_statement_6 3 rfl rfl)
theorem dX16_statement_144 : decode cX16_statement 144 = .ok (.iadd, 1) := dk_96 (dk_at dksX16_statement_6 4 rfl rfl)
theorem dX16_statement_145 : decode cX16_statement 145 = .ok (.putfield 79, 3) := dk_181 0 79 (dk_at dksX16_statement_6 5 rfl rfl)
theorem dX16_statement_148 : decode cX16_statement 148 = .ok (.iconst 1, 1) := dk_4 (dk_at dksX16_statement_6 8 rfl rfl)
theorem dX16_statement_149 : decode cX16_statement 149 = .ok (.ireturn, 1) := dk_172 (dk_at dksX16_statement_6 9 rfl rfl)
abbrev cX16_next : ByteArray := prog_28_method_12_code
def yX16_next : MethodName := ⟨RX16, "next", "()I"⟩
def dkwX16_next_1 : List UInt8 := [172]
abbrev dktX16_next_1 : List UInt8 := dkwX16_next_1 ++ []
def dkwX16_next_0 : List UInt8 := [42, 180, 0, 79, 42, 180, 0, 72, 162, 0, 15, 42, 180, 0, 31, 42, 180, 0, 79, 46, 167, 0, 4, 2]
abbrev dktX16_next_0 : List UInt8 := dkwX16_next_0 ++ dktX16_next_1
theorem dksX16_next_0 : cX16_next.data.toList.drop 0 = dktX16_next_0 := by decide +kernel
theorem dksX16_next_1 : cX16_next.data.toList.drop 24 = dktX16_next_1 := dk_seg dksX16_next_0 24 rfl rfl
theorem dX16_next_0 : decode cX16_next 0 = .ok (.aload_n 0, 1) := dk_42 (dk_at dksX16_next_0 0 rfl rfl)
theorem dX16_next_1 : decode cX16_next 1 = .ok (.getfield 79, 3) := dk_180 0 79 (dk_at dksX16_next_0 1 rfl rfl)
theorem dX16_next_4 : decode cX16_next 4 = .ok (.aload_n 0, 1) := dk_42 (dk_at dksX16_next_0 4 rfl rfl)
theorem dX16_next_5 : decode cX16_next 5 = .ok (.getfield 72, 3) := dk_180 0 72 (dk_at dksX16_next_0 5 rfl rfl)
theorem dX16_next_8 : decode cX16_next 8 = .ok (.if_icmp .ge 15, 3) := dk_162 0 15 (dk_at dksX16_next_0 8 rfl rfl)
theorem dX16_next_11 : decode cX16_next 11 = .ok (.aload_n 0, 1) := dk_42 (dk_at dksX16_next_0 11 rfl rfl)
theorem dX16_next_12 : decode cX16_next 12 = .ok (.getfield 31, 3) := dk_180 0 31 (dk_at dksX16_next_0 12 rfl rfl)
theorem dX16_next_15 : decode cX16_next 15 = .ok (.aload_n 0, 1) := dk_42 (dk_at dksX16_next_0 15 rfl rfl)
theorem dX16_next_16 : decode cX16_next 16 = .ok (.getfield 79, 3) := dk_180 0 79 (dk_at dksX16_next_0 16 rfl rfl)
theorem dX16_next_19 : decode cX16_next 19 = .ok (.iaload, 1) := dk_46 (dk_at dksX16_next_0 19 rfl rfl)
theorem dX16_next_20 : decode cX16_next 20 = .ok (.goto 4, 3) := dk_167 0 4 (dk_at dksX16_next_0 20 rfl rfl)
theorem dX16_next_23 : decode cX16_next 23 = .ok (.iconst (-1), 1) := dk_2 (dk_at dksX16_next_0 23 rfl rfl)
theorem dX16_next_24 : decode cX16_next 24 = .ok (.ireturn, 1) := dk_172 (dk_at dksX16_next_1 0 rfl rfl)
abbrev cX16_readsThing : ByteArray := prog_28_method_15_code
def yX16_readsThing : MethodName := ⟨RX16, "readsThing", "(I)Z"⟩
def dkwX16_readsThing_3 : List UInt8 := [5, 182, 0, 93, 172]
abbrev dktX16_readsThing_3 : List UInt8 := dkwX16_readsThing_3 ++ []
def dkwX16_readsThing_2 : List UInt8 := [182, 0, 82, 16, 44, 159, 0, 5, 3, 172, 42, 89, 180, 0, 79, 4, 96, 181, 0, 79, 42, 27, 5, 96]
abbrev dktX16_readsThing_2 : List UInt8 := dkwX16_readsThing_2 ++ dktX16_readsThing_3
def dkwX16_readsThing_1 : List UInt8 := [42, 89, 180, 0, 79, 4, 96, 181, 0, 79, 42, 27, 4, 96, 5, 182, 0, 93, 153, 0, 12, 42]
abbrev dktX16_readsThing_1 : List UInt8 := dkwX16_readsThing_1 ++ dktX16_readsThing_2
def dkwX16_readsThing_0 : List UInt8 := [42, 180, 0, 40, 27, 42, 182, 0, 82, 184, 0, 90, 79, 42, 180, 0, 40, 27, 46, 156, 0, 5, 3, 172]
abbrev dktX16_readsThing_0 : List UInt8 := dkwX16_readsThing_0 ++ dktX16_readsThing_1
theorem dksX16_readsThing_0 : cX16_readsThing.data.toList.drop 0 = dktX16_readsThing_0 := by decide +kernel
theorem dksX16_readsThing_1 : cX16_readsThing.data.toList.drop 24 = dktX16_readsThing_1 := dk_seg dksX16_readsThing_0 24 rfl rfl
theorem dksX16_readsThing_2 : cX16_readsThing.data.toList.drop 46 = dktX16_readsThing_2 := dk_seg dksX16_readsThing_1 22 rfl rfl
theorem dksX16_readsThing_3 : cX16_readsThing.data.toList.drop 70 = dktX16_readsThing_3 := dk_seg dksX16_readsThing_2 24 rfl rfl
theorem dX16_readsThing_0 : decode cX16_readsThing 0 = .ok (.aload_n 0, 1) := dk_42 (dk_at dksX16_readsThing_0 0 rfl rfl)
theorem dX16_readsThing_1 : decode cX16_readsThing 1 = .ok (.getfield 40, 3) := dk_180 0 40 (dk_at dksX16_readsThing_0 1 rfl rfl)
theorem dX16_readsThing_4 : decode cX16_readsThing 4 = .ok (.iload_n 1, 1) := dk_27 (dk_at dksX16_readsThing_0 4 rfl rfl)
theorem dX16_readsThing_5 : decode cX16_readsThing 5 = .ok (.aload_n 0, 1) := dk_42 (dk_at dksX16_readsThing_0 5 rfl rfl)
theorem dX16_readsThing_6 : decode cX16_readsThing 6 = .ok (.invokevirtual 82, 3) := dk_182 0 82 (dk_at dksX16_readsThing_0 6 rfl rfl)
theorem dX16_readsThing_9 : decode cX16_readsThing 9 = .ok (.invokestatic 90, 3) := dk_184 0 90 (dk_at dksX16_readsThing_0 9 rfl rfl)
theorem dX16_readsThing_12 : decode cX16_readsThing 12 = .ok (.iastore, 1) := dk_79 (dk_at dksX16_readsThing_0 12 rfl rfl)
theorem dX16_readsThing_13 : decode cX16_readsThing 13 = .ok (.aload_n 0, 1) := dk_42 (dk_at dksX16_readsThing_0 13 rfl rfl)
theorem dX16_readsThing_14 : decode cX16_readsThing 14 = .ok (.getfield 40, 3) := dk_180 0 40 (dk_at dksX16_readsThing_0 14 rfl rfl)
theorem dX16_readsThing_17 : decode cX16_readsThing 17 = .ok (.iload_n 1, 1) := dk_27 (dk_at dksX16_readsThing_0 17 rfl rfl)
theorem dX16_readsThing_18 : decode cX16_readsThing 18 = .ok (.iaload, 1) := dk_46 (dk_at dksX16_readsThing_0 18 rfl rfl)
theorem dX16_readsThing_19 : decode cX16_readsThing 19 = .ok (.ifCond .ge 5, 3) := dk_156 0 5 (dk_at dksX16_readsThing_0 19 rfl rfl)
theorem dX16_readsThing_22 : decode cX16_readsThing 22 = .ok (.iconst 0, 1) := dk_3 (dk_at dksX16_readsThing_0 22 rfl rfl)
theorem dX16_readsThing_23 : decode cX16_readsThing 23 = .ok (.ireturn, 1) := dk_172 (dk_at dksX16_readsThing_0 23 rfl rfl)
theorem dX16_readsThing_24 : decode cX16_readsThing 24 = .ok (.aload_n 0, 1) := dk_42 (dk_at dksX16_readsThing_1 0 rfl rfl)
theorem dX16_readsThing_25 : decode cX16_readsThing 25 = .ok (.dup, 1) := dk_89 (dk_at dksX16_readsThing_1 1 rfl rfl)
theorem dX16_readsThing_26 : decode cX16_readsThing 26 = .ok (.getfield 79, 3) := dk_180 0 79 (dk_at dksX16_readsThing_1 2 rfl rfl)
theorem dX16_readsThing_29 : decode cX16_readsThing 29 = .ok (.iconst 1, 1) := dk_4 (dk_at dksX16_readsThing_1 5 rfl rfl)
theorem dX16_readsThing_30 : decode cX16_readsThing 30 = .ok (.iadd, 1) := dk_96 (dk_at dksX16_readsThing_1 6 rfl rfl)
theorem dX16_readsThing_31 : decode cX16_readsThing 31 = .ok (.putfield 79, 3) := dk_181 0 79 (dk_at dksX16_readsThing_1 7 rfl rfl)
theorem dX16_readsThing_34 : decode cX16_readsThing 34 = .ok (.aload_n 0, 1) := dk_42 (dk_at dksX16_readsThing_1 10 rfl rfl)
theorem dX16_readsThing_35 : decode cX16_readsThing 35 = .ok (.iload_n 1, 1) := dk_27 (dk_at dksX16_readsThing_1 11 rfl rfl)
theorem dX16_readsThing_36 : decode cX16_readsThing 36 = .ok (.iconst 1, 1) := dk_4 (dk_at dksX16_readsThing_1 12 rfl rfl)
theorem dX16_readsThing_37 : decode cX16_readsThing 37 = .ok (.iadd, 1) := dk_96 (dk_at dksX16_readsThing_1 13 rfl rfl)
theorem dX16_readsThing_38 : decode cX16_readsThing 38 = .ok (.iconst 2, 1) := dk_5 (dk_at dksX16_readsThing_1 14 rfl rfl)
theorem dX16_readsThing_39 : decode cX16_readsThing 39 = .ok (.invokevirtual 93, 3) := dk_182 0 93 (dk_at dksX16_readsThing_1 15 rfl rfl)
theorem dX16_readsThing_42 : decode cX16_readsThing 42 = .ok (.ifCond .eq 12, 3) := dk_153 0 12 (dk_at dksX16_readsThing_1 18 rfl rfl)
theorem dX16_readsThing_45 : decode cX16_readsThing 45 = .ok (.aload_n 0, 1) := dk_42 (dk_at dksX16_readsThing_1 21 rfl rfl)
theorem dX16_readsThing_46 : decode cX16_readsThing 46 = .ok (.invokevirtual 82, 3) := dk_182 0 82 (dk_at dksX16_readsThing_2 0 rfl rfl)
theorem dX16_readsThing_49 : decode cX16_readsThing 49 = .ok (.bipush 44, 2) := dk_16 44 (dk_at dksX16_readsThing_2 3 rfl rfl)
theorem dX16_readsThing_51 : decode cX16_readsThing 51 = .ok (.if_icmp .eq 5, 3) := dk_159 0 5 (dk_at dksX16_readsThing_2 5 rfl rfl)
theorem dX16_readsThing_54 : decode cX16_readsThing 54 = .ok (.iconst 0, 1) := dk_3 (dk_at dksX16_readsThing_2 8 rfl rfl)
theorem dX16_readsThing_55 : decode cX16_readsThing 55 = .ok (.ireturn, 1) := dk_172 (dk_at dksX16_readsThing_2 9 rfl rfl)
theorem dX16_readsThing_56 : decode cX16_readsThing 56 = .ok (.aload_n 0, 1) := dk_42 (dk_at dksX16_readsThing_2 10 rfl rfl)
theorem dX16_readsThing_57 : decode cX16_readsThing 57 = .ok (.dup, 1) := dk_89 (dk_at dksX16_readsThing_2 11 rfl rfl)
theorem dX16_readsThing_58 : decode cX16_readsThing 58 = .ok (.getfield 79, 3) := dk_180 0 79 (dk_at dksX16_readsThing_2 12 rfl rfl)
theorem dX16_readsThing_61 : decode cX16_readsThing 61 = .ok (.iconst 1, 1) := dk_4 (dk_at dksX16_readsThing_2 15 rfl rfl)
theorem dX16_readsThing_62 : decode cX16_readsThing 62 = .ok (.iadd, 1) := dk_96 (dk_at dksX16_readsThing_2 16 rfl rfl)
theorem dX16_readsThing_63 : decode cX16_readsThing 63 = .ok (.putfield 79, 3) := dk_181 0 79 (dk_at dksX16_readsThing_2 17 rfl rfl)
theorem dX16_readsThing_66 : decode cX16_readsThing 66 = .ok (.aload_n 0, 1) := dk_42 (dk_at dksX16_readsThing_2 20 rfl rfl)
theorem dX16_readsThing_67 : decode cX16_readsThing 67 = .ok (.iload_n 1, 1) := dk_27 (dk_at dksX16_readsThing_2 21 rfl rfl)
theorem dX16_readsThing_68 : decode cX16_readsThing 68 = .ok (.iconst 2, 1) := dk_5 (dk_at dksX16_readsThing_2 22 rfl rfl)
theorem dX16_readsThing_69 : decode cX16_readsThing 69 = .ok (.iadd, 1) := dk_96 (dk_at dksX16_readsThing_2 23 rfl rfl)
theorem dX16_readsThing_70 : decode cX16_readsThing 70 = .ok (.iconst 2, 1) := dk_5 (dk_at dksX16_readsThing_3 0 rfl rfl)
theorem dX16_readsThing_71 : decode cX16_readsThing 71 = .ok (.invokevirtual 93, 3) := dk_182 0 93 (dk_at dksX16_readsThing_3 1 rfl rfl)
theorem dX16_readsThing_74 : decode cX16_readsThing 74 = .ok (.ireturn, 1) := dk_172 (dk_at dksX16_readsThing_3 4 rfl rfl)
abbrev cX16_kindOf : ByteArray := prog_28_method_14_code
def yX16_kindOf : MethodName := ⟨RX16, "kindOf", "(I)I"⟩
def dkwX16_kindOf_2 : List UInt8 := [3, 172, 4, 172, 5, 172, 6, 172, 7, 172, 8, 172, 2, 172]
abbrev dktX16_kindOf_2 : List UInt8 := dkwX16_kindOf_2 ++ []
def dkwX16_kindOf_1 : List UInt8 := [171, 0, 0, 0, 0, 0, 71, 0, 0, 0, 6, 0, 0, 0, 98, 0, 0, 0, 61, 0, 0, 0, 102, 0, 0, 0, 65, 0, 0, 0, 108, 0, 0, 0, 63, 0, 0, 0, 112, 0, 0, 0, 69, 0, 0, 0, 116, 0, 0, 0, 59, 0, 0, 0, 119, 0, 0, 0, 67]
abbrev dktX16_kindOf_1 : List UInt8 := dkwX16_kindOf_1 ++ dktX16_kindOf_2
def dkwX16_kindOf_0 : List UInt8 := [26]
abbrev dktX16_kindOf_0 : List UInt8 := dkwX16_kindOf_0 ++ dktX16_kindOf_1
theorem dksX16_kindOf_0 : cX16_kindOf.data.toList.drop 0 = dktX16_kindOf_0 := by decide +kernel
theorem dksX16_kindOf_1 : cX16_kindOf.data.toList.drop 1 = dktX16_kindOf_1 := dk_seg dksX16_kindOf_0 1 rfl rfl
theorem dksX16_kindOf_2 : cX16_kindOf.data.toList.drop 60 = dktX16_kindOf_2 := dk_seg dksX16_kindOf_1 59 rfl rfl
theorem dX16_kindOf_0 : decode cX16_kindOf 0 = .ok (.iload_n 0, 1) := dk_26 (dk_at dksX16_kindOf_0 0 rfl rfl)
theorem dX16_kindOf_1 : decode cX16_kindOf 1 = .ok (.lookupswitch 71 #[(98, 61), (102, 65), (108, 63), (112, 69), (116, 59), (119, 67)], 59) := by decide +kernel
theorem dX16_kindOf_60 : decode cX16_kindOf 60 = .ok (.iconst 0, 1) := dk_3 (dk_at dksX16_kindOf_2 0 rfl rfl)
theorem dX16_kindOf_61 : decode cX16_kindOf 61 = .ok (.ireturn, 1) := dk_172 (dk_at dksX16_kindOf_2 1 rfl rfl)
theorem dX16_kindOf_62 : decode cX16_kindOf 62 = .ok (.iconst 1, 1) := dk_4 (dk_at dksX16_kindOf_2 2 rfl rfl)
theorem dX16_kindOf_63 : decode cX16_kindOf 63 = .ok (.ireturn, 1) := dk_172 (dk_at dksX16_kindOf_2 3 rfl rfl)
theorem dX16_kindOf_64 : decode cX16_kindOf 64 = .ok (.iconst 2, 1) := dk_5 (dk_at dksX16_kindOf_2 4 rfl rfl)
theorem dX16_kindOf_65 : decode cX16_kindOf 65 = .ok (.ireturn, 1) := dk_172 (dk_at dksX16_kindOf_2 5 rfl rfl)
theorem dX16_kindOf_66 : decode cX16_kindOf 66 = .ok (.iconst 3, 1) := dk_6 (dk_at dksX16_kindOf_2 6 rfl rfl)
theorem dX16_kindOf_67 : decode cX16_kindOf 67 = .ok (.ireturn, 1) := dk_172 (dk_at dksX16_kindOf_2 7 rfl rfl)
theorem dX16_kindOf_68 : decode cX16_kindOf 68 = .ok (.iconst 4, 1) := dk_7 (dk_at dksX16_kindOf_2 8 rfl rfl)
theorem dX16_kindOf_69 : decode cX16_kindOf 69 = .ok (.ireturn, 1) := dk_172 (dk_at dksX16_kindOf_2 9 rfl rfl)
theorem dX16_kindOf_70 : decode cX16_kindOf 70 = .ok (.iconst 5, 1) := dk_8 (dk_at dksX16_kindOf_2 10 rfl rfl)
theorem dX16_kindOf_71 : decode cX16_kindOf 71 = .ok (.ireturn, 1) := dk_172 (dk_at dksX16_kindOf_2 11 rfl rfl)
theorem dX16_kindOf_72 : decode cX16_kindOf 72 = .ok (.iconst (-1), 1) := dk_2 (dk_at dksX16_kindOf_2 12 rfl rfl)
theorem dX16_kindOf_73 : decode cX16_kindOf 73 = .ok (.ireturn, 1) := dk_172 (dk_at dksX16_kindOf_2 13 rfl rfl)
abbrev cX16_readsNumber : ByteArray := prog_28_method_13_code
def yX16_readsNumber : MethodName := ⟨RX16, "readsNumber", "(II)Z"⟩
def dkwX16_readsNumber_3 : List UInt8 := [42, 180, 0, 40, 27, 29, 79, 4, 172]
abbrev dktX16_readsNumber_3 : List UInt8 := dkwX16_readsNumber_3 ++ []
def dkwX16_readsNumber_2 : List UInt8 := [182, 0, 82, 96, 16, 48, 100, 62, 42, 89, 180, 0, 79, 4, 96, 181, 0, 79, 132, 4, 1, 167, 255, 210]
abbrev dktX16_readsNumber_2 : List UInt8 := dkwX16_readsNumber_2 ++ dktX16_readsNumber_3
def dkwX16_readsNumber_1 : List UInt8 := [162, 0, 46, 42, 182, 0, 82, 16, 48, 16, 57, 184, 0, 86, 153, 0, 32, 16, 10, 29, 104, 42]
abbrev dktX16_readsNumber_1 : List UInt8 := dkwX16_readsNumber_1 ++ dktX16_readsNumber_2
def dkwX16_readsNumber_0 : List UInt8 := [42, 182, 0, 82, 16, 48, 16, 57, 184, 0, 86, 154, 0, 5, 3, 172, 3, 62, 3, 54, 4, 21, 4, 28]
abbrev dktX16_readsNumber_0 : List UInt8 := dkwX16_readsNumber_0 ++ dktX16_readsNumber_1
theorem dksX16_readsNumber_0 : cX16_readsNumber.data.toList.drop 0 = dktX16_readsNumber_0 := by decide +kernel
theorem dksX16_readsNumber_1 : cX16_readsNumber.data.toList.drop 24 = dktX16_readsNumber_1 := dk_seg dksX16_readsNumber_0 24 rfl rfl
theorem dksX16_readsNumber_2 : cX16_readsNumber.data.toList.drop 46 = dktX16_readsNumber_2 := dk_seg dksX16_readsNumber_1 22 rfl rfl
theorem dksX16_readsNumber_3 : cX16_readsNumber.data.toList.drop 70 = dktX16_readsNumber_3 := dk_seg dksX16_readsNumber_2 24 rfl rfl
theorem dX16_readsNumber_0 : decode cX16_readsNumber 0 = .ok (.aload_n 0, 1) := dk_42 (dk_at dksX16_readsNumber_0 0 rfl rfl)
theorem dX16_readsNumber_1 : decode cX16_readsNumber 1 = .ok (.invokevirtual 82, 3) := dk_182 0 82 (dk_at dksX16_readsNumber_0 1 rfl rfl)
theorem dX16_readsNumber_4 : decode cX16_readsNumber 4 = .ok (.bipush 48, 2) := dk_16 48 (dk_at dksX16_readsNumber_0 4 rfl rfl)
theorem dX16_readsNumber_6 : decode cX16_readsNumber 6 = .ok (.bipush 57, 2) := dk_16 57 (dk_at dksX16_readsNumber_0 6 rfl rfl)
theorem dX16_readsNumber_8 : decode cX16_readsNumber 8 = .ok (.invokestatic 86, 3) := dk_184 0 86 (dk_at dksX16_readsNumber_0 8 rfl rfl)
theorem dX16_readsNumber_11 : decode cX16_readsNumber 11 = .ok (.ifCond .ne 5, 3) := dk_154 0 5 (dk_at dksX16_readsNumber_0 11 rfl rfl)
theorem dX16_readsNumber_14 : decode cX16_readsNumber 14 = .ok (.iconst 0, 1) := dk_3 (dk_at dksX16_readsNumber_0 14 rfl rfl)
theorem dX16_readsNumber_15 : decode cX16_readsNumber 15 = .ok (.ireturn, 1) := dk_172 (dk_at dksX16_readsNumber_0 15 rfl rfl)
theorem dX16_readsNumber_16 : decode cX16_readsNumber 16 = .ok (.iconst 0, 1) := dk_3 (dk_at dksX16_readsNumber_0 16 rfl rfl)
theorem dX16_readsNumber_17 : decode cX16_readsNumber 17 = .ok (.istore_n 3, 1) := dk_62 (dk_at dksX16_readsNumber_0 17 rfl rfl)
theorem dX16_readsNumber_18 : decode cX16_readsNumber 18 = .ok (.iconst 0, 1) := dk_3 (dk_at dksX16_readsNumber_0 18 rfl rfl)
theorem dX16_readsNumber_19 : decode cX16_readsNumber 19 = .ok (.istore 4, 2) := dk_54 4 (dk_at dksX16_readsNumber_0 19 rfl rfl)
theorem dX16_readsNumber_21 : decode cX16_readsNumber 21 = .ok (.iload 4, 2) := dk_21 4 (dk_at dksX16_readsNumber_0 21 rfl rfl)
theorem dX16_readsNumber_23 : decode cX16_readsNumber 23 = .ok (.iload_n 2, 1) := dk_28 (dk_at dksX16_readsNumber_0 23 rfl rfl)
theorem dX16_readsNumber_24 : decode cX16_readsNumber 24 = .ok (.if_icmp .ge 46, 3) := dk_162 0 46 (dk_at dksX16_readsNumber_1 0 rfl rfl)
theorem dX16_readsNumber_27 : decode cX16_readsNumber 27 = .ok (.aload_n 0, 1) := dk_42 (dk_at dksX16_readsNumber_1 3 rfl rfl)
theorem dX16_readsNumber_28 : decode cX16_readsNumber 28 = .ok (.invokevirtual 82, 3) := dk_182 0 82 (dk_at dksX16_readsNumber_1 4 rfl rfl)
theorem dX16_readsNumber_31 : decode cX16_readsNumber 31 = .ok (.bipush 48, 2) := dk_16 48 (dk_at dksX16_readsNumber_1 7 rfl rfl)
theorem dX16_readsNumber_33 : decode cX16_readsNumber 33 = .ok (.bipush 57, 2) := dk_16 57 (dk_at dksX16_readsNumber_1 9 rfl rfl)
theorem dX16_readsNumber_35 : decode cX16_readsNumber 35 = .ok (.invokestatic 86, 3) := dk_184 0 86 (dk_at dksX16_readsNumber_1 11 rfl rfl)
theorem dX16_readsNumber_38 : decode cX16_readsNumber 38 = .ok (.ifCond .eq 32, 3) := dk_153 0 32 (dk_at dksX16_readsNumber_1 14 rfl rfl)
theorem dX16_readsNumber_41 : decode cX16_readsNumber 41 = .ok (.bipush 10, 2) := dk_16 10 (dk_at dksX16_readsNumber_1 17 rfl rfl)
theorem dX16_readsNumber_43 : decode cX16_readsNumber 43 = .ok (.iload_n 3, 1) := dk_29 (dk_at dksX16_readsNumber_1 19 rfl rfl)
theorem dX16_readsNumber_44 : decode cX16_readsNumber 44 = .ok (.imul, 1) := dk_104 (dk_at dksX16_readsNumber_1 20 rfl rfl)
theorem dX16_readsNumber_45 : decode cX16_readsNumber 45 = .ok (.aload_n 0, 1) := dk_42 (dk_at dksX16_readsNumber_1 21 rfl rfl)
theorem dX16_readsNumber_46 : decode cX16_readsNumber 46 = .ok (.invokevirtual 82, 3) := dk_182 0 82 (dk_at dksX16_readsNumber_2 0 rfl rfl)
theorem dX16_readsNumber_49 : decode cX16_readsNumber 49 = .ok (.iadd, 1) := dk_96 (dk_at dksX16_readsNumber_2 3 rfl rfl)
theorem dX16_readsNumber_50 : decode cX16_readsNumber 50 = .ok (.bipush 48, 2) := dk_16 48 (dk_at dksX16_readsNumber_2 4 rfl rfl)
theorem dX16_readsNumber_52 : decode cX16_readsNumber 52 = .ok (.isub, 1) := dk_100 (dk_at dksX16_readsNumber_2 6 rfl rfl)
theorem dX16_readsNumber_53 : decode cX16_readsNumber 53 = .ok (.istore_n 3, 1) := dk_62 (dk_at dksX16_readsNumber_2 7 rfl rfl)
theorem dX16_readsNumber_54 : decode cX16_readsNumber 54 = .ok (.aload_n 0, 1) := dk_42 (dk_at dksX16_readsNumber_2 8 rfl rfl)
theorem dX16_readsNumber_55 : decode cX16_readsNumber 55 = .ok (.dup, 1) := dk_89 (dk_at dksX16_readsNumber_2 9 rfl rfl)
theorem dX16_readsNumber_56 : decode cX16_readsNumber 56 = .ok (.getfield 79, 3) := dk_180 0 79 (dk_at dksX16_readsNumber_2 10 rfl rfl)
theorem dX16_readsNumber_59 : decode cX16_readsNumber 59 = .ok (.iconst 1, 1) := dk_4 (dk_at dksX16_readsNumber_2 13 rfl rfl)
theorem dX16_readsNumber_60 : decode cX16_readsNumber 60 = .ok (.iadd, 1) := dk_96 (dk_at dksX16_readsNumber_2 14 rfl rfl)
theorem dX16_readsNumber_61 : decode cX16_readsNumber 61 = .ok (.putfield 79, 3) := dk_181 0 79 (dk_at dksX16_readsNumber_2 15 rfl rfl)
theorem dX16_readsNumber_64 : decode cX16_readsNumber 64 = .ok (.iinc 4 1, 3) := dk_132 4 1 (dk_at dksX16_readsNumber_2 18 rfl rfl)
theorem dX16_readsNumber_67 : decode cX16_readsNumber 67 = .ok (.goto (-46), 3) := dk_167 255 210 (dk_at dksX16_readsNumber_2 21 rfl rfl)
theorem dX16_readsNumber_70 : decode cX16_readsNumber 70 = .ok (.aload_n 0, 1) := dk_42 (dk_at dksX16_readsNumber_3 0 rfl rfl)
theorem dX16_readsNumber_71 : decode cX16_readsNumber 71 = .ok (.getfield 40, 3) := dk_180 0 40 (dk_at dksX16_readsNumber_3 1 rfl rfl)
theorem dX16_readsNumber_74 : decode cX16_readsNumber 74 = .ok (.iload_n 1, 1) := dk_27 (dk_at dksX16_readsNumber_3 4 rfl rfl)
theorem dX16_readsNumber_75 : decode cX16_readsNumber 75 = .ok (.iload_n 3, 1) := dk_29 (dk_at dksX16_readsNumber_3 5 rfl rfl)
theorem dX16_readsNumber_76 : decode cX16_readsNumber 76 = .ok (.iastore, 1) := dk_79 (dk_at dksX16_readsNumber_3 6 rfl rfl)
theorem dX16_readsNumber_77 : decode cX16_readsNumber 77 = .ok (.iconst 1, 1) := dk_4 (dk_at dksX16_readsNumber_3 7 rfl rfl)
theorem dX16_readsNumber_78 : decode cX16_readsNumber 78 = .ok (.ireturn, 1) := dk_172 (dk_at dksX16_readsNumber_3 8 rfl rfl)
abbrev cX16_isIn : ByteArray := prog_28_method_4_code
def yX16_isIn : MethodName := ⟨RX16, "isIn", "(III)Z"⟩
def dkwX16_isIn_0 : List UInt8 := [26, 27, 161, 0, 12, 26, 28, 163, 0, 7, 4, 167, 0, 4, 3, 172]
abbrev dktX16_isIn_0 : List UInt8 := dkwX16_isIn_0 ++ []
theorem dksX16_isIn_0 : cX16_isIn.data.toList.drop 0 = dktX16_isIn_0 := by decide +kernel
theorem dX16_isIn_0 : decode cX16_isIn 0 = .ok (.iload_n 0, 1) := dk_26 (dk_at dksX16_isIn_0 0 rfl rfl)
theorem dX16_isIn_1 : decode cX16_isIn 1 = .ok (.iload_n 1, 1) := dk_27 (dk_at dksX16_isIn_0 1 rfl rfl)
theorem dX16_isIn_2 : decode cX16_isIn 2 = .ok (.if_icmp .lt 12, 3) := dk_161 0 12 (dk_at dksX16_isIn_0 2 rfl rfl)
theorem dX16_isIn_5 : decode cX16_isIn 5 = .ok (.iload_n 0, 1) := dk_26 (dk_at dksX16_isIn_0 5 rfl rfl)
theorem dX16_isIn_6 : decode cX16_isIn 6 = .ok (.iload_n 2, 1) := dk_28 (dk_at dksX16_isIn_0 6 rfl rfl)
theorem dX16_isIn_7 : decode cX16_isIn 7 = .ok (.if_icmp .gt 7, 3) := dk_163 0 7 (dk_at dksX16_isIn_0 7 rfl rfl)
theorem dX16_isIn_10 : decode cX16_isIn 10 = .ok (.iconst 1, 1) := dk_4 (dk_at dksX16_isIn_0 10 rfl rfl)
theorem dX16_isIn_11 : decode cX16_isIn 11 = .ok (.goto 4, 3) := dk_167 0 4 (dk_at dksX16_isIn_0 11 rfl rfl)
theorem dX16_isIn_14 : decode cX16_isIn 14 = .ok (.iconst 0, 1) := dk_3 (dk_at dksX16_isIn_0 14 rfl rfl)
theorem dX16_isIn_15 : decode cX16_isIn 15 = .ok (.ireturn, 1) := dk_172 (dk_at dksX16_isIn_0 15 rfl rfl)
abbrev cX16_passesAll : ByteArray := prog_28_method_22_code
def yX16_passesAll : MethodName := ⟨RX16, "passesAll", "(IZ)V"⟩
def dkwX16_passesAll_4 : List UInt8 := [181, 0, 137, 177]
abbrev dktX16_passesAll_4 : List UInt8 := dkwX16_passesAll_4 ++ []
def dkwX16_passesAll_3 : List UInt8 := [181, 0, 60, 42, 42, 42, 180, 0, 109, 182, 0, 134, 181, 0, 109, 42, 42, 42, 180, 0, 137, 182, 0, 134]
abbrev dktX16_passesAll_3 : List UInt8 := dkwX16_passesAll_3 ++ dktX16_passesAll_4
def dkwX16_passesAll_2 : List UInt8 := [180, 0, 25, 182, 0, 130, 42, 42, 180, 0, 28, 182, 0, 130, 42, 42, 42, 180, 0, 60, 182, 0, 134]
abbrev dktX16_passesAll_2 : List UInt8 := dkwX16_passesAll_2 ++ dktX16_passesAll_3
def dkwX16_passesAll_1 : List UInt8 := [180, 0, 16, 182, 0, 130, 42, 42, 180, 0, 19, 182, 0, 130, 42, 42, 180, 0, 22, 182, 0, 130, 42, 42]
abbrev dktX16_passesAll_1 : List UInt8 := dkwX16_passesAll_1 ++ dktX16_passesAll_2
def dkwX16_passesAll_0 : List UInt8 := [42, 16, 65, 27, 104, 181, 0, 127, 42, 28, 181, 0, 123, 42, 42, 180, 0, 13, 182, 0, 130, 42, 42]
abbrev dktX16_passesAll_0 : List UInt8 := dkwX16_passesAll_0 ++ dktX16_passesAll_1
theorem dksX16_passesAll_0 : cX16_passesAll.data.toList.drop 0 = dktX16_passesAll_0 := by decide +kernel
theorem dksX16_passesAll_1 : cX16_passesAll.data.toList.drop 23 = dktX16_passesAll_1 := dk_seg dksX16_passesAll_0 23 rfl rfl
theorem dksX16_passesAll_2 : cX16_passesAll.data.toList.drop 47 = dktX16_passesAll_2 := dk_seg dksX16_passesAll_1 24 rfl rfl
theorem dksX16_passesAll_3 : cX16_passesAll.data.toList.drop 70 = dktX16_passesAll_3 := dk_seg dksX16_passesAll_2 23 rfl rfl
theorem dksX16_passesAll_4 : cX16_passesAll.data.toList.drop 94 = dktX16_passesAll_4 := dk_seg dksX16_passesAll_3 24 rfl rfl
theorem dX16_passesAll_0 : decode cX16_passesAll 0 = .ok (.aload_n 0, 1) := dk_42 (dk_at dksX16_passesAll_0 0 rfl rfl)
theorem dX16_passesAll_1 : decode cX16_passesAll 1 = .ok (.bipush 65, 2) := dk_16 65 (dk_at dksX16_passesAll_0 1 rfl rfl)
theorem dX16_passesAll_3 : decode cX16_passesAll 3 = .ok (.iload_n 1, 1) := dk_27 (dk_at dksX16_passesAll_0 3 rfl rfl)
theorem dX16_passesAll_4 : decode cX16_passesAll 4 = .ok (.imul, 1) := dk_104 (dk_at dksX16_passesAll_0 4 rfl rfl)
theorem dX16_passesAll_5 : decode cX16_passesAll 5 = .ok (.putfield 127, 3) := dk_181 0 127 (dk_at dksX16_passesAll_0 5 rfl rfl)
theorem dX16_passesAll_8 : decode cX16_passesAll 8 = .ok (.aload_n 0, 1) := dk_42 (dk_at dksX16_passesAll_0 8 rfl rfl)
theorem dX16_passesAll_9 : decode cX16_passesAll 9 = .ok (.iload_n 2, 1) := dk_28 (dk_at dksX16_passesAll_0 9 rfl rfl)
theorem dX16_passesAll_10 : decode cX16_passesAll 10 = .ok (.putfield 123, 3) := dk_181 0 123 (dk_at dksX16_passesAll_0 10 rfl rfl)
theorem dX16_passesAll_13 : decode cX16_passesAll 13 = .ok (.aload_n 0, 1) := dk_42 (dk_at dksX16_passesAll_0 13 rfl rfl)
theorem dX16_passesAll_14 : decode cX16_passesAll 14 = .ok (.aload_n 0, 1) := dk_42 (dk_at dksX16_passesAll_0 14 rfl rfl)
theorem dX16_passesAll_15 : decode cX16_passesAll 15 = .ok (.getfield 13, 3) := dk_180 0 13 (dk_at dksX16_passesAll_0 15 rfl rfl)
theorem dX16_passesAll_18 : decode cX16_passesAll 18 = .ok (.invokevirtual 130, 3) := dk_182 0 130 (dk_at dksX16_passesAll_0 18 rfl rfl)
theorem dX16_passesAll_21 : decode cX16_passesAll 21 = .ok (.aload_n 0, 1) := dk_42 (dk_at dksX16_passesAll_0 21 rfl rfl)
theorem dX16_passesAll_22 : decode cX16_passesAll 22 = .ok (.aload_n 0, 1) := dk_42 (dk_at dksX16_passesAll_0 22 rfl rfl)
theorem dX16_passesAll_23 : decode cX16_passesAll 23 = .ok (.getfield 16, 3) := dk_180 0 16 (dk_at dksX16_passesAll_1 0 rfl rfl)
theorem dX16_passesAll_26 : decode cX16_passesAll 26 = .ok (.invokevirtual 130, 3) := dk_182 0 130 (dk_at dksX16_passesAll_1 3 rfl rfl)
theorem dX16_passesAll_29 : decode cX16_passesAll 29 = .ok (.aload_n 0, 1) := dk_42 (dk_at dksX16_passesAll_1 6 rfl rfl)
theorem dX16_passesAll_30 : decode cX16_passesAll 30 = .ok (.aload_n 0, 1) := dk_42 (dk_at dksX16_passesAll_1 7 rfl rfl)
theorem dX16_passesAll_31 : decode cX16_passesAll 31 = .ok (.getfield 19, 3) := dk_180 0 19 (dk_at dksX16_passesAll_1 8 rfl rfl)
theorem dX16_passesAll_34 : decode cX16_passesAll 34 = .ok (.invokevirtual 130, 3) := dk_182 0 130 (dk_at dksX16_passesAll_1 11 rfl rfl)
theorem dX16_passesAll_37 : decode cX16_passesAll 37 = .ok (.aload_n 0, 1) := dk_42 (dk_at dksX16_passesAll_1 14 rfl rfl)
theorem dX16_passesAll_38 : decode cX16_passesAll 38 = .ok (.aload_n 0, 1) := dk_42 (dk_at dksX16_passesAll_1 15 rfl rfl)
theorem dX16_passesAll_39 : decode cX16_passesAll 39 = .ok (.getfield 22, 3) := dk_180 0 22 (dk_at dksX16_passesAll_1 16 rfl rfl)
theorem dX16_passesAll_42 : decode cX16_passesAll 42 = .ok (.invokevirtual 130, 3) := dk_182 0 130 (dk_at dksX16_passesAll_1 19 rfl rfl)
theorem dX16_passesAll_45 : decode cX16_passesAll 45 = .ok (.aload_n 0, 1) := dk_42 (dk_at dksX16_passesAll_1 22 rfl rfl)
theorem dX16_passesAll_46 : decode cX16_passesAll 46 = .ok (.aload_n 0, 1) := dk_42 (dk_at dksX16_passesAll_1 23 rfl rfl)
theorem dX16_passesAll_47 : decode cX16_passesAll 47 = .ok (.getfield 25, 3) := dk_180 0 25 (dk_at dksX16_passesAll_2 0 rfl rfl)
theorem dX16_passesAll_50 : decode cX16_passesAll 50 = .ok (.invokevirtual 130, 3) := dk_182 0 130 (dk_at dksX16_passesAll_2 3 rfl rfl)
theorem dX16_passesAll_53 : decode cX16_passesAll 53 = .ok (.aload_n 0, 1) := dk_42 (dk_at dksX16_passesAll_2 6 rfl rfl)
theorem dX16_passesAll_54 : decode cX16_passesAll 54 = .ok (.aload_n 0, 1) := dk_42 (dk_at dksX16_passesAll_2 7 rfl rfl)
theorem dX16_passesAll_55 : decode cX16_passesAll 55 = .ok (.getfield 28, 3) := dk_180 0 28 (dk_at dksX16_passesAll_2 8 rfl rfl)
theorem dX16_passesAll_58 : decode cX16_passesAll 58 = .ok (.invokevirtual 130, 3) := dk_182 0 130 (dk_at dksX16_passesAll_2 11 rfl rfl)
theorem dX16_passesAll_61 : decode cX16_passesAll 61 = .ok (.aload_n 0, 1) := dk_42 (dk_at dksX16_passesAll_2 14 rfl rfl)
theorem dX16_passesAll_62 : decode cX16_passesAll 62 = .ok (.aload_n 0, 1) := dk_42 (dk_at dksX16_passesAll_2 15 rfl rfl)
theorem dX16_passesAll_63 : decode cX16_passesAll 63 = .ok (.aload_n 0, 1) := dk_42 (dk_at dksX16_passesAll_2 16 rfl rfl)
theorem dX16_passesAll_64 : decode cX16_passesAll 64 = .ok (.getfield 60, 3) := dk_180 0 60 (dk_at dksX16_passesAll_2 17 rfl rfl)
theorem dX16_passesAll_67 : decode cX16_passesAll 67 = .ok (.invokevirtual 134, 3) := dk_182 0 134 (dk_at dksX16_passesAll_2 20 rfl rfl)
theorem dX16_passesAll_70 : decode cX16_passesAll 70 = .ok (.putfield 60, 3) := dk_181 0 60 (dk_at dksX16_passesAll_3 0 rfl rfl)
theorem dX16_passesAll_73 : decode cX16_passesAll 73 = .ok (.aload_n 0, 1) := dk_42 (dk_at dksX16_passesAll_3 3 rfl rfl)
theorem dX16_passesAll_74 : decode cX16_passesAll 74 = .ok (.aload_n 0, 1) := dk_42 (dk_at dksX16_passesAll_3 4 rfl rfl)
theorem dX16_passesAll_75 : decode cX16_passesAll 75 = .ok (.aload_n 0, 1) := dk_42 (dk_at dksX16_passesAll_3 5 rfl rfl)
theorem dX16_passesAll_76 : decode cX16_passesAll 76 = .ok (.getfield 109, 3) := dk_180 0 109 (dk_at dksX16_passesAll_3 6 rfl rfl)
theorem dX16_passesAll_79 : decode cX16_passesAll 79 = .ok (.invokevirtual 134, 3) := dk_182 0 134 (dk_at dksX16_passesAll_3 9 rfl rfl)
theorem dX16_passesAll_82 : decode cX16_passesAll 82 = .ok (.putfield 109, 3) := dk_181 0 109 (dk_at dksX16_passesAll_3 12 rfl rfl)
theorem dX16_passesAll_85 : decode cX16_passesAll 85 = .ok (.aload_n 0, 1) := dk_42 (dk_at dksX16_passesAll_3 15 rfl rfl)
theorem dX16_passesAll_86 : decode cX16_passesAll 86 = .ok (.aload_n 0, 1) := dk_42 (dk_at dksX16_passesAll_3 16 rfl rfl)
theorem dX16_passesAll_87 : decode cX16_passesAll 87 = .ok (.aload_n 0, 1) := dk_42 (dk_at dksX16_passesAll_3 17 rfl rfl)
theorem dX16_passesAll_88 : decode cX16_passesAll 88 = .ok (.getfield 137, 3) := dk_180 0 137 (dk_at dksX16_passesAll_3 18 rfl rfl)
theorem dX16_passesAll_91 : decode cX16_passesAll 91 = .ok (.invokevirtual 134, 3) := dk_182 0 134 (dk_at dksX16_passesAll_3 21 rfl rfl)
theorem dX16_passesAll_94 : decode cX16_passesAll 94 = .ok (.putfield 137, 3) := dk_181 0 137 (dk_at dksX16_passesAll_4 0 rfl rfl)
theorem dX16_passesAll_97 : decode cX16_passesAll 97 = .ok (.return_, 1) := dk_177 (dk_at dksX16_passesAll_4 3 rfl rfl)
abbrev cX16_passes : ByteArray := prog_28_method_20_code
def yX16_passes : MethodName := ⟨RX16, "passes", "([I)V"⟩
def dkwX16_passes_2 : List UInt8 := [96, 181, 0, 127, 132, 2, 1, 167, 255, 203, 177]
abbrev dktX16_passes_2 : List UInt8 := dkwX16_passes_2 ++ []
def dkwX16_passes_1 : List UInt8 := [28, 46, 79, 167, 0, 15, 43, 28, 42, 180, 0, 43, 42, 180, 0, 127, 46, 79, 42, 89, 180, 0, 127, 4]
abbrev dktX16_passes_1 : List UInt8 := dkwX16_passes_1 ++ dktX16_passes_2
def dkwX16_passes_0 : List UInt8 := [3, 61, 28, 43, 190, 162, 0, 53, 42, 180, 0, 123, 153, 0, 18, 42, 180, 0, 43, 42, 180, 0, 127, 43]
abbrev dktX16_passes_0 : List UInt8 := dkwX16_passes_0 ++ dktX16_passes_1
theorem dksX16_passes_0 : cX16_passes.data.toList.drop 0 = dktX16_passes_0 := by decide +kernel
theorem dksX16_passes_1 : cX16_passes.data.toList.drop 24 = dktX16_passes_1 := dk_seg dksX16_passes_0 24 rfl rfl
theorem dksX16_passes_2 : cX16_passes.data.toList.drop 48 = dktX16_passes_2 := dk_seg dksX16_passes_1 24 rfl rfl
theorem dX16_passes_0 : decode cX16_passes 0 = .ok (.iconst 0, 1) := dk_3 (dk_at dksX16_passes_0 0 rfl rfl)
theorem dX16_passes_1 : decode cX16_passes 1 = .ok (.istore_n 2, 1) := dk_61 (dk_at dksX16_passes_0 1 rfl rfl)
theorem dX16_passes_2 : decode cX16_passes 2 = .ok (.iload_n 2, 1) := dk_28 (dk_at dksX16_passes_0 2 rfl rfl)
theorem dX16_passes_3 : decode cX16_passes 3 = .ok (.aload_n 1, 1) := dk_43 (dk_at dksX16_passes_0 3 rfl rfl)
theorem dX16_passes_4 : decode cX16_passes 4 = .ok (.arraylength, 1) := dk_190 (dk_at dksX16_passes_0 4 rfl rfl)
theorem dX16_passes_5 : decode cX16_passes 5 = .ok (.if_icmp .ge 53, 3) := dk_162 0 53 (dk_at dksX16_passes_0 5 rfl rfl)
theorem dX16_passes_8 : decode cX16_passes 8 = .ok (.aload_n 0, 1) := dk_42 (dk_at dksX16_passes_0 8 rfl rfl)
theorem dX16_passes_9 : decode cX16_passes 9 = .ok (.getfield 123, 3) := dk_180 0 123 (dk_at dksX16_passes_0 9 rfl rfl)
theorem dX16_passes_12 : decode cX16_passes 12 = .ok (.ifCond .eq 18, 3) := dk_153 0 18 (dk_at dksX16_passes_0 12 rfl rfl)
theorem dX16_passes_15 : decode cX16_passes 15 = .ok (.aload_n 0, 1) := dk_42 (dk_at dksX16_passes_0 15 rfl rfl)
theorem dX16_passes_16 : decode cX16_passes 16 = .ok (.getfield 43, 3) := dk_180 0 43 (dk_at dksX16_passes_0 16 rfl rfl)
theorem dX16_passes_19 : decode cX16_passes 19 = .ok (.aload_n 0, 1) := dk_42 (dk_at dksX16_passes_0 19 rfl rfl)
theorem dX16_passes_20 : decode cX16_passes 20 = .ok (.getfield 127, 3) := dk_180 0 127 (dk_at dksX16_passes_0 20 rfl rfl)
theorem dX16_passes_23 : decode cX16_passes 23 = .ok (.aload_n 1, 1) := dk_43 (dk_at dksX16_passes_0 23 rfl rfl)
theorem dX16_passes_24 : decode cX16_passes 24 = .ok (.iload_n 2, 1) := dk_28 (dk_at dksX16_passes_1 0 rfl rfl)
theorem dX16_passes_25 : decode cX16_passes 25 = .ok (.iaload, 1) := dk_46 (dk_at dksX16_passes_1 1 rfl rfl)
theorem dX16_passes_26 : decode cX16_passes 26 = .ok (.iastore, 1) := dk_79 (dk_at dksX16_passes_1 2 rfl rfl)
theorem dX16_passes_27 : decode cX16_passes 27 = .ok (.goto 15, 3) := dk_167 0 15 (dk_at dksX16_passes_1 3 rfl rfl)
theorem dX16_passes_30 : decode cX16_passes 30 = .ok (.aload_n 1, 1) := dk_43 (dk_at dksX16_passes_1 6 rfl rfl)
theorem dX16_passes_31 : decode cX16_passes 31 = .ok (.iload_n 2, 1) := dk_28 (dk_at dksX16_passes_1 7 rfl rfl)
theorem dX16_passes_32 : decode cX16_passes 32 = .ok (.aload_n 0, 1) := dk_42 (dk_at dksX16_passes_1 8 rfl rfl)
theorem dX16_passes_33 : decode cX16_passes 33 = .ok (.getfield 43, 3) := dk_180 0 43 (dk_at dksX16_passes_1 9 rfl rfl)
theorem dX16_passes_36 : decode cX16_passes 36 = .ok (.aload_n 0, 1) := dk_42 (dk_at dksX16_passes_1 12 rfl rfl)
theorem dX16_passes_37 : decode cX16_passes 37 = .ok (.getfield 127, 3) := dk_180 0 127 (dk_at dksX16_passes_1 13 rfl rfl)
theorem dX16_passes_40 : decode cX16_passes 40 = .ok (.iaload, 1) := dk_46 (dk_at dksX16_passes_1 16 rfl rfl)
theorem dX16_passes_41 : decode cX16_passes 41 = .ok (.iastore, 1) := dk_79 (dk_at dksX16_passes_1 17 rfl rfl)
theorem dX16_passes_42 : decode cX16_passes 42 = .ok (.aload_n 0, 1) := dk_42 (dk_at dksX16_passes_1 18 rfl rfl)
theorem dX16_passes_43 : decode cX16_passes 43 = .ok (.dup, 1) := dk_89 (dk_at dksX16_passes_1 19 rfl rfl)
theorem dX16_passes_44 : decode cX16_passes 44 = .ok (.getfield 127, 3) := dk_180 0 127 (dk_at dksX16_passes_1 20 rfl rfl)
theorem dX16_passes_47 : decode cX16_passes 47 = .ok (.iconst 1, 1) := dk_4 (dk_at dksX16_passes_1 23 rfl rfl)
theorem dX16_passes_48 : decode cX16_passes 48 = .ok (.iadd, 1) := dk_96 (dk_at dksX16_passes_2 0 rfl rfl)
theorem dX16_passes_49 : decode cX16_passes 49 = .ok (.putfield 127, 3) := dk_181 0 127 (dk_at dksX16_passes_2 1 rfl rfl)
theorem dX16_passes_52 : decode cX16_passes 52 = .ok (.iinc 2 1, 3) := dk_132 2 1 (dk_at dksX16_passes_2 4 rfl rfl)
theorem dX16_passes_55 : decode cX16_passes 55 = .ok (.goto (-53), 3) := dk_167 255 203 (dk_at dksX16_passes_2 7 rfl rfl)
theorem dX16_passes_58 : decode cX16_passes 58 = .ok (.return_, 1) := dk_177 (dk_at dksX16_passes_2 10 rfl rfl)
abbrev cX16_passOne : ByteArray := prog_28_method_21_code
def yX16_passOne : MethodName := ⟨RX16, "passOne", "(I)I"⟩
def dkwX16_passOne_2 : List UInt8 := [181, 0, 127, 28, 172]
abbrev dktX16_passOne_2 : List UInt8 := dkwX16_passOne_2 ++ []
def dkwX16_passOne_1 : List UInt8 := [180, 0, 123, 153, 0, 13, 42, 180, 0, 43, 42, 180, 0, 127, 27, 79, 42, 89, 180, 0, 127, 4, 96]
abbrev dktX16_passOne_1 : List UInt8 := dkwX16_passOne_1 ++ dktX16_passOne_2
def dkwX16_passOne_0 : List UInt8 := [42, 180, 0, 123, 153, 0, 7, 27, 167, 0, 12, 42, 180, 0, 43, 42, 180, 0, 127, 46, 61, 42]
abbrev dktX16_passOne_0 : List UInt8 := dkwX16_passOne_0 ++ dktX16_passOne_1
theorem dksX16_passOne_0 : cX16_passOne.data.toList.drop 0 = dktX16_passOne_0 := by decide +kernel
theorem dksX16_passOne_1 : cX16_passOne.data.toList.drop 22 = dktX16_passOne_1 := dk_seg dksX16_passOne_0 22 rfl rfl
theorem dksX16_passOne_2 : cX16_passOne.data.toList.drop 45 = dktX16_passOne_2 := dk_seg dksX16_passOne_1 23 rfl rfl
theorem dX16_passOne_0 : decode cX16_passOne 0 = .ok (.aload_n 0, 1) := dk_42 (dk_at dksX16_passOne_0 0 rfl rfl)
theorem dX16_passOne_1 : decode cX16_passOne 1 = .ok (.getfield 123, 3) := dk_180 0 123 (dk_at dksX16_passOne_0 1 rfl rfl)
theorem dX16_passOne_4 : decode cX16_passOne 4 = .ok (.ifCond .eq 7, 3) := dk_153 0 7 (dk_at dksX16_passOne_0 4 rfl rfl)
theorem dX16_passOne_7 : decode cX16_passOne 7 = .ok (.iload_n 1, 1) := dk_27 (dk_at dksX16_passOne_0 7 rfl rfl)
theorem dX16_passOne_8 : decode cX16_passOne 8 = .ok (.goto 12, 3) := dk_167 0 12 (dk_at dksX16_passOne_0 8 rfl rfl)
theorem dX16_passOne_11 : decode cX16_passOne 11 = .ok (.aload_n 0, 1) := dk_42 (dk_at dksX16_passOne_0 11 rfl rfl)
theorem dX16_passOne_12 : decode cX16_passOne 12 = .ok (.getfield 43, 3) := dk_180 0 43 (dk_at dksX16_passOne_0 12 rfl rfl)
theorem dX16_passOne_15 : decode cX16_passOne 15 = .ok (.aload_n 0, 1) := dk_42 (dk_at dksX16_passOne_0 15 rfl rfl)
theorem dX16_passOne_16 : decode cX16_passOne 16 = .ok (.getfield 127, 3) := dk_180 0 127 (dk_at dksX16_passOne_0 16 rfl rfl)
theorem dX16_passOne_19 : decode cX16_passOne 19 = .ok (.iaload, 1) := dk_46 (dk_at dksX16_passOne_0 19 rfl rfl)
theorem dX16_passOne_20 : decode cX16_passOne 20 = .ok (.istore_n 2, 1) := dk_61 (dk_at dksX16_passOne_0 20 rfl rfl)
theorem dX16_passOne_21 : decode cX16_passOne 21 = .ok (.aload_n 0, 1) := dk_42 (dk_at dksX16_passOne_0 21 rfl rfl)
theorem dX16_passOne_22 : decode cX16_passOne 22 = .ok (.getfield 123, 3) := dk_180 0 123 (dk_at dksX16_passOne_1 0 rfl rfl)
theorem dX16_passOne_25 : decode cX16_passOne 25 = .ok (.ifCond .eq 13, 3) := dk_153 0 13 (dk_at dksX16_passOne_1 3 rfl rfl)
theorem dX16_passOne_28 : decode cX16_passOne 28 = .ok (.aload_n 0, 1) := dk_42 (dk_at dksX16_passOne_1 6 rfl rfl)
theorem dX16_passOne_29 : decode cX16_passOne 29 = .ok (.getfield 43, 3) := dk_180 0 43 (dk_at dksX16_passOne_1 7 rfl rfl)
theorem dX16_passOne_32 : decode cX16_passOne 32 = .ok (.aload_n 0, 1) := dk_42 (dk_at dksX16_passOne_1 10 rfl rfl)
theorem dX16_passOne_33 : decode cX16_passOne 33 = .ok (.getfield 127, 3) := dk_180 0 127 (dk_at dksX16_passOne_1 11 rfl rfl)
theorem dX16_passOne_36 : decode cX16_passOne 36 = .ok (.iload_n 1, 1) := dk_27 (dk_at dksX16_passOne_1 14 rfl rfl)
theorem dX16_passOne_37 : decode cX16_passOne 37 = .ok (.iastore, 1) := dk_79 (dk_at dksX16_passOne_1 15 rfl rfl)
theorem dX16_passOne_38 : decode cX16_passOne 38 = .ok (.aload_n 0, 1) := dk_42 (dk_at dksX16_passOne_1 16 rfl rfl)
theorem dX16_passOne_39 : decode cX16_passOne 39 = .ok (.dup, 1) := dk_89 (dk_at dksX16_passOne_1 17 rfl rfl)
theorem dX16_passOne_40 : decode cX16_passOne 40 = .ok (.getfield 127, 3) := dk_180 0 127 (dk_at dksX16_passOne_1 18 rfl rfl)
theorem dX16_passOne_43 : decode cX16_passOne 43 = .ok (.iconst 1, 1) := dk_4 (dk_at dksX16_passOne_1 21 rfl rfl)
theorem dX16_passOne_44 : decode cX16_passOne 44 = .ok (.iadd, 1) := dk_96 (dk_at dksX16_passOne_1 22 rfl rfl)
theorem dX16_passOne_45 : decode cX16_passOne 45 = .ok (.putfield 127, 3) := dk_181 0 127 (dk_at dksX16_passOne_2 0 rfl rfl)
theorem dX16_passOne_48 : decode cX16_passOne 48 = .ok (.iload_n 2, 1) := dk_28 (dk_at dksX16_passOne_2 3 rfl rfl)
theorem dX16_passOne_49 : decode cX16_passOne 49 = .ok (.ireturn, 1) := dk_172 (dk_at dksX16_passOne_2 4 rfl rfl)
abbrev cX16_comes : ByteArray := prog_28_method_18_code
def yX16_comes : MethodName := ⟨RX16, "comes", "(I)Z"⟩
def dkwX16_comes_7 : List UInt8 := [42, 180, 0, 22, 29, 21, 4, 79, 4, 172]
abbrev dktX16_comes_7 : List UInt8 := dkwX16_comes_7 ++ []
def dkwX16_comes_6 : List UInt8 := [42, 89, 180, 0, 109, 4, 29, 120, 130, 181, 0, 109, 4, 172, 42, 29, 182, 0, 64, 154, 0, 5, 3, 172]
abbrev dktX16_comes_6 : List UInt8 := dkwX16_comes_6 ++ dktX16_comes_7
def dkwX16_comes_5 : List UInt8 := [180, 0, 28, 29, 92, 46, 4, 21, 4, 120, 130, 79, 4, 172, 42, 29, 182, 0, 64, 154, 0, 5, 3, 172]
abbrev dktX16_comes_5 : List UInt8 := dkwX16_comes_5 ++ dktX16_comes_6
def dkwX16_comes_4 : List UInt8 := [46, 4, 21, 4, 120, 130, 79, 4, 172, 42, 29, 21, 4, 182, 0, 106, 154, 0, 5, 3, 172, 42]
abbrev dktX16_comes_4 : List UInt8 := dkwX16_comes_4 ++ dktX16_comes_5
def dkwX16_comes_3 : List UInt8 := [42, 28, 182, 0, 103, 172, 42, 29, 21, 4, 182, 0, 106, 154, 0, 5, 3, 172, 42, 180, 0, 25, 29, 92]
abbrev dktX16_comes_3 : List UInt8 := dkwX16_comes_3 ++ dktX16_comes_4
def dkwX16_comes_2 : List UInt8 := [171, 0, 0, 0, 125, 0, 0, 0, 4, 0, 0, 0, 97, 0, 0, 0, 74, 0, 0, 0, 104, 0, 0, 0, 101, 0, 0, 0, 110, 0, 0, 0, 47, 0, 0, 0, 116, 0, 0, 0, 41]
abbrev dktX16_comes_2 : List UInt8 := dkwX16_comes_2 ++ dktX16_comes_3
def dkwX16_comes_1 : List UInt8 := [180, 0, 34, 27, 46]
abbrev dktX16_comes_1 : List UInt8 := dkwX16_comes_1 ++ dktX16_comes_2
def dkwX16_comes_0 : List UInt8 := [6, 27, 104, 61, 42, 180, 0, 40, 28, 46, 62, 42, 180, 0, 40, 28, 4, 96, 46, 54, 4, 42]
abbrev dktX16_comes_0 : List UInt8 := dkwX16_comes_0 ++ dktX16_comes_1
theorem dksX16_comes_0 : cX16_comes.data.toList.drop 0 = dktX16_comes_0 := by decide +kernel
theorem dksX16_comes_1 : cX16_comes.data.toList.drop 22 = dktX16_comes_1 := dk_seg dksX16_comes_0 22 rfl rfl
theorem dksX16_comes_2 : cX16_comes.data.toList.drop 27 = dktX16_comes_2 := dk_seg dksX16_comes_1 5 rfl rfl
theorem dksX16_comes_3 : cX16_comes.data.toList.drop 68 = dktX16_comes_3 := dk_seg dksX16_comes_2 41 rfl rfl
theorem dksX16_comes_4 : cX16_comes.data.toList.drop 92 = dktX16_comes_4 := dk_seg dksX16_comes_3 24 rfl rfl
theorem dksX16_comes_5 : cX16_comes.data.toList.drop 114 = dktX16_comes_5 := dk_seg dksX16_comes_4 22 rfl rfl
theorem dksX16_comes_6 : cX16_comes.data.toList.drop 138 = dktX16_comes_6 := dk_seg dksX16_comes_5 24 rfl rfl
theorem dksX16_comes_7 : cX16_comes.data.toList.drop 162 = dktX16_comes_7 := dk_seg dksX16_comes_6 24 rfl rfl
theorem dX16_comes_0 : decode cX16_comes 0 = .ok (.iconst 3, 1) := dk_6 (dk_at dksX16_comes_0 0 rfl rfl)
theorem dX16_comes_1 : decode cX16_comes 1 = .ok (.iload_n 1, 1) := dk_27 (dk_at dksX16_comes_0 1 rfl rfl)
theorem dX16_comes_2 : decode cX16_comes 2 = .ok (.imul, 1) := dk_104 (dk_at dksX16_comes_0 2 rfl rfl)
theorem dX16_comes_3 : decode cX16_comes 3 = .ok (.istore_n 2, 1) := dk_61 (dk_at dksX16_comes_0 3 rfl rfl)
theorem dX16_comes_4 : decode cX16_comes 4 = .ok (.aload_n 0, 1) := dk_42 (dk_at dksX16_comes_0 4 rfl rfl)
theorem dX16_comes_5 : decode cX16_comes 5 = .ok (.getfield 40, 3) := dk_180 0 40 (dk_at dksX16_comes_0 5 rfl rfl)
theorem dX16_comes_8 : decode cX16_comes 8 = .ok (.iload_n 2, 1) := dk_28 (dk_at dksX16_comes_0 8 rfl rfl)
theorem dX16_comes_9 : decode cX16_comes 9 = .ok (.iaload, 1) := dk_46 (dk_at dksX16_comes_0 9 rfl rfl)
theorem dX16_comes_10 : decode cX16_comes 10 = .ok (.istore_n 3, 1) := dk_62 (dk_at dksX16_comes_0 10 rfl rfl)
theorem dX16_comes_11 : decode cX16_comes 11 = .ok (.aload_n 0, 1) := dk_42 (dk_at dksX16_comes_0 11 rfl rfl)
theorem dX16_comes_12 : decode cX16_comes 12 = .ok (.getfield 40, 3) := dk_180 0 40 (dk_at dksX16_comes_0 12 rfl rfl)
theorem dX16_comes_15 : decode cX16_comes 15 = .ok (.iload_n 2, 1) := dk_28 (dk_at dksX16_comes_0 15 rfl rfl)
theorem dX16_comes_16 : decode cX16_comes 16 = .ok (.iconst 1, 1) := dk_4 (dk_at dksX16_comes_0 16 rfl rfl)
theorem dX16_comes_17 : decode cX16_comes 17 = .ok (.iadd, 1) := dk_96 (dk_at dksX16_comes_0 17 rfl rfl)
theorem dX16_comes_18 : decode cX16_comes 18 = .ok (.iaload, 1) := dk_46 (dk_at dksX16_comes_0 18 rfl rfl)
theorem dX16_comes_19 : decode cX16_comes 19 = .ok (.istore 4, 2) := dk_54 4 (dk_at dksX16_comes_0 19 rfl rfl)
theorem dX16_comes_21 : decode cX16_comes 21 = .ok (.aload_n 0, 1) := dk_42 (dk_at dksX16_comes_0 21 rfl rfl)
theorem dX16_comes_22 : decode cX16_comes 22 = .ok (.getfield 34, 3) := dk_180 0 34 (dk_at dksX16_comes_1 0 rfl rfl)
theorem dX16_comes_25 : decode cX16_comes 25 = .ok (.iload_n 1, 1) := dk_27 (dk_at dksX16_comes_1 3 rfl rfl)
theorem dX16_comes_26 : decode cX16_comes 26 = .ok (.iaload, 1) := dk_46 (dk_at dksX16_comes_1 4 rfl rfl)
theorem dX16_comes_27 : decode cX16_comes 27 = .ok (.lookupswitch 125 #[(97, 74), (104, 101), (110, 47), (116, 41)], 41) := by decide +kernel
theorem dX16_comes_68 : decode cX16_comes 68 = .ok (.aload_n 0, 1) := dk_42 (dk_at dksX16_comes_3 0 rfl rfl)
theorem dX16_comes_69 : decode cX16_comes 69 = .ok (.iload_n 2, 1) := dk_28 (dk_at dksX16_comes_3 1 rfl rfl)
theorem dX16_comes_70 : decode cX16_comes 70 = .ok (.invokevirtual 103, 3) := dk_182 0 103 (dk_at dksX16_comes_3 2 rfl rfl)
theorem dX16_comes_73 : decode cX16_comes 73 = .ok (.ireturn, 1) := dk_172 (dk_at dksX16_comes_3 5 rfl rfl)
theorem dX16_comes_74 : decode cX16_comes 74 = .ok (.aload_n 0, 1) := dk_42 (dk_at dksX16_comes_3 6 rfl rfl)
theorem dX16_comes_75 : decode cX16_comes 75 = .ok (.iload_n 3, 1) := dk_29 (dk_at dksX16_comes_3 7 rfl rfl)
theorem dX16_comes_76 : decode cX16_comes 76 = .ok (.iload 4, 2) := dk_21 4 (dk_at dksX16_comes_3 8 rfl rfl)
theorem dX16_comes_78 : decode cX16_comes 78 = .ok (.invokevirtual 106, 3) := dk_182 0 106 (dk_at dksX16_comes_3 10 rfl rfl)
theorem dX16_comes_81 : decode cX16_comes 81 = .ok (.ifCond .ne 5, 3) := dk_154 0 5 (dk_at dksX16_comes_3 13 rfl rfl)
theorem dX16_comes_84 : decode cX16_comes 84 = .ok (.iconst 0, 1) := dk_3 (dk_at dksX16_comes_3 16 rfl rfl)
theorem dX16_comes_85 : decode cX16_comes 85 = .ok (.ireturn, 1) := dk_172 (dk_at dksX16_comes_3 17 rfl rfl)
theorem dX16_comes_86 : decode cX16_comes 86 = .ok (.aload_n 0, 1) := dk_42 (dk_at dksX16_comes_3 18 rfl rfl)
theorem dX16_comes_87 : decode cX16_comes 87 = .ok (.getfield 25, 3) := dk_180 0 25 (dk_at dksX16_comes_3 19 rfl rfl)
theorem dX16_comes_90 : decode cX16_comes 90 = .ok (.iload_n 3, 1) := dk_29 (dk_at dksX16_comes_3 22 rfl rfl)
theorem dX16_comes_91 : decode cX16_comes 91 = .ok (.dup2, 1) := dk_92 (dk_at dksX16_comes_3 23 rfl rfl)
theorem dX16_comes_92 : decode cX16_comes 92 = .ok (.iaload, 1) := dk_46 (dk_at dksX16_comes_4 0 rfl rfl)
theorem dX16_comes_93 : decode cX16_comes 93 = .ok (.iconst 1, 1) := dk_4 (dk_at dksX16_comes_4 1 rfl rfl)
theorem dX16_comes_94 : decode cX16_comes 94 = .ok (.iload 4, 2) := dk_21 4 (dk_at dksX16_comes_4 2 rfl rfl)
theorem dX16_comes_96 : decode cX16_comes 96 = .ok (.ishl, 1) := dk_120 (dk_at dksX16_comes_4 4 rfl rfl)
theorem dX16_comes_97 : decode cX16_comes 97 = .ok (.ixor, 1) := dk_130 (dk_at dksX16_comes_4 5 rfl rfl)
theorem dX16_comes_98 : decode cX16_comes 98 = .ok (.iastore, 1) := dk_79 (dk_at dksX16_comes_4 6 rfl rfl)
theorem dX16_comes_99 : decode cX16_comes 99 = .ok (.iconst 1, 1) := dk_4 (dk_at dksX16_comes_4 7 rfl rfl)
theorem dX16_comes_100 : decode cX16_comes 100 = .ok (.ireturn, 1) := dk_172 (dk_at dksX16_comes_4 8 rfl rfl)
theorem dX16_comes_101 : decode cX16_comes 101 = .ok (.aload_n 0, 1) := dk_42 (dk_at dksX16_comes_4 9 rfl rfl)
theorem dX16_comes_102 : decode cX16_comes 102 = .ok (.iload_n 3, 1) := dk_29 (dk_at dksX16_comes_4 10 rfl rfl)
theorem dX16_comes_103 : decode cX16_comes 103 = .ok (.iload 4, 2) := dk_21 4 (dk_at dksX16_comes_4 11 rfl rfl)
theorem dX16_comes_105 : decode cX16_comes 105 = .ok (.invokevirtual 106, 3) := dk_182 0 106 (dk_at dksX16_comes_4 13 rfl rfl)
theorem dX16_comes_108 : decode cX16_comes 108 = .ok (.ifCond .ne 5, 3) := dk_154 0 5 (dk_at dksX16_comes_4 16 rfl rfl)
theorem dX16_comes_111 : decode cX16_comes 111 = .ok (.iconst 0, 1) := dk_3 (dk_at dksX16_comes_4 19 rfl rfl)
theorem dX16_comes_112 : decode cX16_comes 112 = .ok (.ireturn, 1) := dk_172 (dk_at dksX16_comes_4 20 rfl rfl)
theorem dX16_comes_113 : decode cX16_comes 113 = .ok (.aload_n 0, 1) := dk_42 (dk_at dksX16_comes_4 21 rfl rfl)
theorem dX16_comes_114 : decode cX16_comes 114 = .ok (.getfield 28, 3) := dk_180 0 28 (dk_at dksX16_comes_5 0 rfl rfl)
theorem dX16_comes_117 : decode cX16_comes 117 = .ok (.iload_n 3, 1) := dk_29 (dk_at dksX16_comes_5 3 rfl rfl)
theorem dX16_comes_118 : decode cX16_comes 118 = .ok (.dup2, 1) := dk_92 (dk_at dksX16_comes_5 4 rfl rfl)
theorem dX16_comes_119 : decode cX16_comes 119 = .ok (.iaload, 1) := dk_46 (dk_at dksX16_comes_5 5 rfl rfl)
theorem dX16_comes_120 : decode cX16_comes 120 = .ok (.iconst 1, 1) := dk_4 (dk_at dksX16_comes_5 6 rfl rfl)
theorem dX16_comes_121 : decode cX16_comes 121 = .ok (.iload 4, 2) := dk_21 4 (dk_at dksX16_comes_5 7 rfl rfl)
theorem dX16_comes_123 : decode cX16_comes 123 = .ok (.ishl, 1) := dk_120 (dk_at dksX16_comes_5 9 rfl rfl)
theorem dX16_comes_124 : decode cX16_comes 124 = .ok (.ixor, 1) := dk_130 (dk_at dksX16_comes_5 10 rfl rfl)
theorem dX16_comes_125 : decode cX16_comes 125 = .ok (.iastore, 1) := dk_79 (dk_at dksX16_comes_5 11 rfl rfl)
theorem dX16_comes_126 : decode cX16_comes 126 = .ok (.iconst 1, 1) := dk_4 (dk_at dksX16_comes_5 12 rfl rfl)
theorem dX16_comes_127 : decode cX16_comes 127 = .ok (.ireturn, 1) := dk_172 (dk_at dksX16_comes_5 13 rfl rfl)
theorem dX16_comes_128 : decode cX16_comes 128 = .ok (.aload_n 0, 1) := dk_42 (dk_at dksX16_comes_5 14 rfl rfl)
theorem dX16_comes_129 : decode cX16_comes 129 = .ok (.iload_n 3, 1) := dk_29 (dk_at dksX16_comes_5 15 rfl rfl)
theorem dX16_comes_130 : decode cX16_comes 130 = .ok (.invokevirtual 64, 3) := dk_182 0 64 (dk_at dksX16_comes_5 16 rfl rfl)
theorem dX16_comes_133 : decode cX16_comes 133 = .ok (.ifCond .ne 5, 3) := dk_154 0 5 (dk_at dksX16_comes_5 19 rfl rfl)
theorem dX16_comes_136 : decode cX16_comes 136 = .ok (.iconst 0, 1) := dk_3 (dk_at dksX16_comes_5 22 rfl rfl)
theorem dX16_comes_137 : decode cX16_comes 137 = .ok (.ireturn, 1) := dk_172 (dk_at dksX16_comes_5 23 rfl rfl)
theorem dX16_comes_138 : decode cX16_comes 138 = .ok (.aload_n 0, 1) := dk_42 (dk_at dksX16_comes_6 0 rfl rfl)
theorem dX16_comes_139 : decode cX16_comes 139 = .ok (.dup, 1) := dk_89 (dk_at dksX16_comes_6 1 rfl rfl)
theorem dX16_comes_140 : decode cX16_comes 140 = .ok (.getfield 109, 3) := dk_180 0 109 (dk_at dksX16_comes_6 2 rfl rfl)
theorem dX16_comes_143 : decode cX16_comes 143 = .ok (.iconst 1, 1) := dk_4 (dk_at dksX16_comes_6 5 rfl rfl)
theorem dX16_comes_144 : decode cX16_comes 144 = .ok (.iload_n 3, 1) := dk_29 (dk_at dksX16_comes_6 6 rfl rfl)
theorem dX16_comes_145 : decode cX16_comes 145 = .ok (.ishl, 1) := dk_120 (dk_at dksX16_comes_6 7 rfl rfl)
theorem dX16_comes_146 : decode cX16_comes 146 = .ok (.ixor, 1) := dk_130 (dk_at dksX16_comes_6 8 rfl rfl)
theorem dX16_comes_147 : decode cX16_comes 147 = .ok (.putfield 109, 3) := dk_181 0 109 (dk_at dksX16_comes_6 9 rfl rfl)
theorem dX16_comes_150 : decode cX16_comes 150 = .ok (.iconst 1, 1) := dk_4 (dk_at dksX16_comes_6 12 rfl rfl)
theorem dX16_comes_151 : decode cX16_comes 151 = .ok (.ireturn, 1) := dk_172 (dk_at dksX16_comes_6 13 rfl rfl)
theorem dX16_comes_152 : decode cX16_comes 152 = .ok (.aload_n 0, 1) := dk_42 (dk_at dksX16_comes_6 14 rfl rfl)
theorem dX16_comes_153 : decode cX16_comes 153 = .ok (.iload_n 3, 1) := dk_29 (dk_at dksX16_comes_6 15 rfl rfl)
theorem dX16_comes_154 : decode cX16_comes 154 = .ok (.invokevirtual 64, 3) := dk_182 0 64 (dk_at dksX16_comes_6 16 rfl rfl)
theorem dX16_comes_157 : decode cX16_comes 157 = .ok (.ifCond .ne 5, 3) := dk_154 0 5 (dk_at dksX16_comes_6 19 rfl rfl)
theorem dX16_comes_160 : decode cX16_comes 160 = .ok (.iconst 0, 1) := dk_3 (dk_at dksX16_comes_6 22 rfl rfl)
theorem dX16_comes_161 : decode cX16_comes 161 = .ok (.ireturn, 1) := dk_172 (dk_at dksX16_comes_6 23 rfl rfl)
theorem dX16_comes_162 : decode cX16_comes 162 = .ok (.aload_n 0, 1) := dk_42 (dk_at dksX16_comes_7 0 rfl rfl)
theorem dX16_comes_163 : decode cX16_comes 163 = .ok (.getfield 22, 3) := dk_180 0 22 (dk_at dksX16_comes_7 1 rfl rfl)
theorem dX16_comes_166 : decode cX16_comes 166 = .ok (.iload_n 3, 1) := dk_29 (dk_at dksX16_comes_7 4 rfl rfl)
theorem dX16_comes_167 : decode cX16_comes 167 = .ok (.iload 4, 2) := dk_21 4 (dk_at dksX16_comes_7 5 rfl rfl)
theorem dX16_comes_169 : decode cX16_comes 169 = .ok (.iastore, 1) := dk_79 (dk_at dksX16_comes_7 7 rfl rfl)
theorem dX16_comes_170 : decode cX16_comes 170 = .ok (.iconst 1, 1) := dk_4 (dk_at dksX16_comes_7 8 rfl rfl)
theorem dX16_comes_171 : decode cX16_comes 171 = .ok (.ireturn, 1) := dk_172 (dk_at dksX16_comes_7 9 rfl rfl)
abbrev cX16_comesThing : ByteArray := prog_28_method_17_code
def yX16_comesThing : MethodName := ⟨RX16, "comesThing", "(I)Z"⟩
def dkwX16_comesThing_5 : List UInt8 := [180, 0, 28, 42, 180, 0, 60, 3, 79, 42, 89, 180, 0, 60, 4, 96, 181, 0, 60, 4, 172]
abbrev dktX16_comesThing_5 : List UInt8 := dkwX16_comesThing_5 ++ []
def dkwX16_comesThing_4 : List UInt8 := [79, 42, 180, 0, 22, 42, 180, 0, 60, 4, 79, 42, 180, 0, 25, 42, 180, 0, 60, 3, 79, 42]
abbrev dktX16_comesThing_4 : List UInt8 := dkwX16_comesThing_4 ++ dktX16_comesThing_5
def dkwX16_comesThing_3 : List UInt8 := [180, 0, 40, 27, 4, 96, 46, 79, 42, 180, 0, 19, 42, 180, 0, 60, 42, 180, 0, 40, 27, 5, 96, 46]
abbrev dktX16_comesThing_3 : List UInt8 := dkwX16_comesThing_3 ++ dktX16_comesThing_4
def dkwX16_comesThing_2 : List UInt8 := [180, 0, 13, 42, 180, 0, 60, 42, 180, 0, 40, 27, 46, 79, 42, 180, 0, 16, 42, 180, 0, 60, 42]
abbrev dktX16_comesThing_2 : List UInt8 := dkwX16_comesThing_2 ++ dktX16_comesThing_3
def dkwX16_comesThing_1 : List UInt8 := [46, 4, 16, 10, 184, 0, 86, 153, 0, 12, 42, 180, 0, 60, 16, 10, 160, 0, 5, 3, 172, 42]
abbrev dktX16_comesThing_1 : List UInt8 := dkwX16_comesThing_1 ++ dktX16_comesThing_2
def dkwX16_comesThing_0 : List UInt8 := [42, 180, 0, 40, 27, 4, 96, 46, 4, 16, 30, 184, 0, 86, 153, 0, 29, 42, 180, 0, 40, 27, 5, 96]
abbrev dktX16_comesThing_0 : List UInt8 := dkwX16_comesThing_0 ++ dktX16_comesThing_1
theorem dksX16_comesThing_0 : cX16_comesThing.data.toList.drop 0 = dktX16_comesThing_0 := by decide +kernel
theorem dksX16_comesThing_1 : cX16_comesThing.data.toList.drop 24 = dktX16_comesThing_1 := dk_seg dksX16_comesThing_0 24 rfl rfl
theorem dksX16_comesThing_2 : cX16_comesThing.data.toList.drop 46 = dktX16_comesThing_2 := dk_seg dksX16_comesThing_1 22 rfl rfl
theorem dksX16_comesThing_3 : cX16_comesThing.data.toList.drop 69 = dktX16_comesThing_3 := dk_seg dksX16_comesThing_2 23 rfl rfl
theorem dksX16_comesThing_4 : cX16_comesThing.data.toList.drop 93 = dktX16_comesThing_4 := dk_seg dksX16_comesThing_3 24 rfl rfl
theorem dksX16_comesThing_5 : cX16_comesThing.data.toList.drop 115 = dktX16_comesThing_5 := dk_seg dksX16_comesThing_4 22 rfl rfl
theorem dX16_comesThing_0 : decode cX16_comesThing 0 = .ok (.aload_n 0, 1) := dk_42 (dk_at dksX16_comesThing_0 0 rfl rfl)
theorem dX16_comesThing_1 : decode cX16_comesThing 1 = .ok (.getfield 40, 3) := dk_180 0 40 (dk_at dksX16_comesThing_0 1 rfl rfl)
theorem dX16_comesThing_4 : decode cX16_comesThing 4 = .ok (.iload_n 1, 1) := dk_27 (dk_at dksX16_comesThing_0 4 rfl rfl)
theorem dX16_comesThing_5 : decode cX16_comesThing 5 = .ok (.iconst 1, 1) := dk_4 (dk_at dksX16_comesThing_0 5 rfl rfl)
theorem dX16_comesThing_6 : decode cX16_comesThing 6 = .ok (.iadd, 1) := dk_96 (dk_at dksX16_comesThing_0 6 rfl rfl)
theorem dX16_comesThing_7 : decode cX16_comesThing 7 = .ok (.iaload, 1) := dk_46 (dk_at dksX16_comesThing_0 7 rfl rfl)
theorem dX16_comesThing_8 : decode cX16_comesThing 8 = .ok (.iconst 1, 1) := dk_4 (dk_at dksX16_comesThing_0 8 rfl rfl)
theorem dX16_comesThing_9 : decode cX16_comesThing 9 = .ok (.bipush 30, 2) := dk_16 30 (dk_at dksX16_comesThing_0 9 rfl rfl)
theorem dX16_comesThing_11 : decode cX16_comesThing 11 = .ok (.invokestatic 86, 3) := dk_184 0 86 (dk_at dksX16_comesThing_0 11 rfl rfl)
theorem dX16_comesThing_14 : decode cX16_comesThing 14 = .ok (.ifCond .eq 29, 3) := dk_153 0 29 (dk_at dksX16_comesThing_0 14 rfl rfl)
theorem dX16_comesThing_17 : decode cX16_comesThing 17 = .ok (.aload_n 0, 1) := dk_42 (dk_at dksX16_comesThing_0 17 rfl rfl)
theorem dX16_comesThing_18 : decode cX16_comesThing 18 = .ok (.getfield 40, 3) := dk_180 0 40 (dk_at dksX16_comesThing_0 18 rfl rfl)
theorem dX16_comesThing_21 : decode cX16_comesThing 21 = .ok (.iload_n 1, 1) := dk_27 (dk_at dksX16_comesThing_0 21 rfl rfl)
theorem dX16_comesThing_22 : decode cX16_comesThing 22 = .ok (.iconst 2, 1) := dk_5 (dk_at dksX16_comesThing_0 22 rfl rfl)
theorem dX16_comesThing_23 : decode cX16_comesThing 23 = .ok (.iadd, 1) := dk_96 (dk_at dksX16_comesThing_0 23 rfl rfl)
theorem dX16_comesThing_24 : decode cX16_comesThing 24 = .ok (.iaload, 1) := dk_46 (dk_at dksX16_comesThing_1 0 rfl rfl)
theorem dX16_comesThing_25 : decode cX16_comesThing 25 = .ok (.iconst 1, 1) := dk_4 (dk_at dksX16_comesThing_1 1 rfl rfl)
theorem dX16_comesThing_26 : decode cX16_comesThing 26 = .ok (.bipush 10, 2) := dk_16 10 (dk_at dksX16_comesThing_1 2 rfl rfl)
theorem dX16_comesThing_28 : decode cX16_comesThing 28 = .ok (.invokestatic 86, 3) := dk_184 0 86 (dk_at dksX16_comesThing_1 4 rfl rfl)
theorem dX16_comesThing_31 : decode cX16_comesThing 31 = .ok (.ifCond .eq 12, 3) := dk_153 0 12 (dk_at dksX16_comesThing_1 7 rfl rfl)
theorem dX16_comesThing_34 : decode cX16_comesThing 34 = .ok (.aload_n 0, 1) := dk_42 (dk_at dksX16_comesThing_1 10 rfl rfl)
theorem dX16_comesThing_35 : decode cX16_comesThing 35 = .ok (.getfield 60, 3) := dk_180 0 60 (dk_at dksX16_comesThing_1 11 rfl rfl)
theorem dX16_comesThing_38 : decode cX16_comesThing 38 = .ok (.bipush 10, 2) := dk_16 10 (dk_at dksX16_comesThing_1 14 rfl rfl)
theorem dX16_comesThing_40 : decode cX16_comesThing 40 = .ok (.if_icmp .ne 5, 3) := dk_160 0 5 (dk_at dksX16_comesThing_1 16 rfl rfl)
theorem dX16_comesThing_43 : decode cX16_comesThing 43 = .ok (.iconst 0, 1) := dk_3 (dk_at dksX16_comesThing_1 19 rfl rfl)
theorem dX16_comesThing_44 : decode cX16_comesThing 44 = .ok (.ireturn, 1) := dk_172 (dk_at dksX16_comesThing_1 20 rfl rfl)
theorem dX16_comesThing_45 : decode cX16_comesThing 45 = .ok (.aload_n 0, 1) := dk_42 (dk_at dksX16_comesThing_1 21 rfl rfl)
theorem dX16_comesThing_46 : decode cX16_comesThing 46 = .ok (.getfield 13, 3) := dk_180 0 13 (dk_at dksX16_comesThing_2 0 rfl rfl)
theorem dX16_comesThing_49 : decode cX16_comesThing 49 = .ok (.aload_n 0, 1) := dk_42 (dk_at dksX16_comesThing_2 3 rfl rfl)
theorem dX16_comesThing_50 : decode cX16_comesThing 50 = .ok (.getfield 60, 3) := dk_180 0 60 (dk_at dksX16_comesThing_2 4 rfl rfl)
theorem dX16_comesThing_53 : decode cX16_comesThing 53 = .ok (.aload_n 0, 1) := dk_42 (dk_at dksX16_comesThing_2 7 rfl rfl)
theorem dX16_comesThing_54 : decode cX16_comesThing 54 = .ok (.getfield 40, 3) := dk_180 0 40 (dk_at dksX16_comesThing_2 8 rfl rfl)
theorem dX16_comesThing_57 : decode cX16_comesThing 57 = .ok (.iload_n 1, 1) := dk_27 (dk_at dksX16_comesThing_2 11 rfl rfl)
theorem dX16_comesThing_58 : decode cX16_comesThing 58 = .ok (.iaload, 1) := dk_46 (dk_at dksX16_comesThing_2 12 rfl rfl)
theorem dX16_comesThing_59 : decode cX16_comesThing 59 = .ok (.iastore, 1) := dk_79 (dk_at dksX16_comesThing_2 13 rfl rfl)
theorem dX16_comesThing_60 : decode cX16_comesThing 60 = .ok (.aload_n 0, 1) := dk_42 (dk_at dksX16_comesThing_2 14 rfl rfl)
theorem dX16_comesThing_61 : decode cX16_comesThing 61 = .ok (.getfield 16, 3) := dk_180 0 16 (dk_at dksX16_comesThing_2 15 rfl rfl)
theorem dX16_comesThing_64 : decode cX16_comesThing 64 = .ok (.aload_n 0, 1) := dk_42 (dk_at dksX16_comesThing_2 18 rfl rfl)
theorem dX16_comesThing_65 : decode cX16_comesThing 65 = .ok (.getfield 60, 3) := dk_180 0 60 (dk_at dksX16_comesThing_2 19 rfl rfl)
theorem dX16_comesThing_68 : decode cX16_comesThing 68 = .ok (.aload_n 0, 1) := dk_42 (dk_at dksX16_comesThing_2 22 rfl rfl)
theorem dX16_comesThing_69 : decode cX16_comesThing 69 = .ok (.getfield 40, 3) := dk_180 0 40 (dk_at dksX16_comesThing_3 0 rfl rfl)
theorem dX16_comesThing_72 : decode cX16_comesThing 72 = .ok (.iload_n 1, 1) := dk_27 (dk_at dksX16_comesThing_3 3 rfl rfl)
theorem dX16_comesThing_73 : decode cX16_comesThing 73 = .ok (.iconst 1, 1) := dk_4 (dk_at dksX16_comesThing_3 4 rfl rfl)
theorem dX16_comesThing_74 : decode cX16_comesThing 74 = .ok (.iadd, 1) := dk_96 (dk_at dksX16_comesThing_3 5 rfl rfl)
theorem dX16_comesThing_75 : decode cX16_comesThing 75 = .ok (.iaload, 1) := dk_46 (dk_at dksX16_comesThing_3 6 rfl rfl)
theorem dX16_comesThing_76 : decode cX16_comesThing 76 = .ok (.iastore, 1) := dk_79 (dk_at dksX16_comesThing_3 7 rfl rfl)
theorem dX16_comesThing_77 : decode cX16_comesThing 77 = .ok (.aload_n 0, 1) := dk_42 (dk_at dksX16_comesThing_3 8 rfl rfl)
theorem dX16_comesThing_78 : decode cX16_comesThing 78 = .ok (.getfield 19, 3) := dk_180 0 19 (dk_at dksX16_comesThing_3 9 rfl rfl)
theorem dX16_comesThing_81 : decode cX16_comesThing 81 = .ok (.aload_n 0, 1) := dk_42 (dk_at dksX16_comesThing_3 12 rfl rfl)
theorem dX16_comesThing_82 : decode cX16_comesThing 82 = .ok (.getfield 60, 3) := dk_180 0 60 (dk_at dksX16_comesThing_3 13 rfl rfl)
theorem dX16_comesThing_85 : decode cX16_comesThing 85 = .ok (.aload_n 0, 1) := dk_42 (dk_at dksX16_comesThing_3 16 rfl rfl)
theorem dX16_comesThing_86 : decode cX16_comesThing 86 = .ok (.getfield 40, 3) := dk_180 0 40 (dk_at dksX16_comesThing_3 17 rfl rfl)
theorem dX16_comesThing_89 : decode cX16_comesThing 89 = .ok (.iload_n 1, 1) := dk_27 (dk_at dksX16_comesThing_3 20 rfl rfl)
theorem dX16_comesThing_90 : decode cX16_comesThing 90 = .ok (.iconst 2, 1) := dk_5 (dk_at dksX16_comesThing_3 21 rfl rfl)
theorem dX16_comesThing_91 : decode cX16_comesThing 91 = .ok (.iadd, 1) := dk_96 (dk_at dksX16_comesThing_3 22 rfl rfl)
theorem dX16_comesThing_92 : decode cX16_comesThing 92 = .ok (.iaload, 1) := dk_46 (dk_at dksX16_comesThing_3 23 rfl rfl)
theorem dX16_comesThing_93 : decode cX16_comesThing 93 = .ok (.iastore, 1) := dk_79 (dk_at dksX16_comesThing_4 0 rfl rfl)
theorem dX16_comesThing_94 : decode cX16_comesThing 94 = .ok (.aload_n 0, 1) := dk_42 (dk_at dksX16_comesThing_4 1 rfl rfl)
theorem dX16_comesThing_95 : decode cX16_comesThing 95 = .ok (.getfield 22, 3) := dk_180 0 22 (dk_at dksX16_comesThing_4 2 rfl rfl)
theorem dX16_comesThing_98 : decode cX16_comesThing 98 = .ok (.aload_n 0, 1) := dk_42 (dk_at dksX16_comesThing_4 5 rfl rfl)
theorem dX16_comesThing_99 : decode cX16_comesThing 99 = .ok (.getfield 60, 3) := dk_180 0 60 (dk_at dksX16_comesThing_4 6 rfl rfl)
theorem dX16_comesThing_102 : decode cX16_comesThing 102 = .ok (.iconst 1, 1) := dk_4 (dk_at dksX16_comesThing_4 9 rfl rfl)
theorem dX16_comesThing_103 : decode cX16_comesThing 103 = .ok (.iastore, 1) := dk_79 (dk_at dksX16_comesThing_4 10 rfl rfl)
theorem dX16_comesThing_104 : decode cX16_comesThing 104 = .ok (.aload_n 0, 1) := dk_42 (dk_at dksX16_comesThing_4 11 rfl rfl)
theorem dX16_comesThing_105 : decode cX16_comesThing 105 = .ok (.getfield 25, 3) := dk_180 0 25 (dk_at dksX16_comesThing_4 12 rfl rfl)
theorem dX16_comesThing_108 : decode cX16_comesThing 108 = .ok (.aload_n 0, 1) := dk_42 (dk_at dksX16_comesThing_4 15 rfl rfl)
theorem dX16_comesThing_109 : decode cX16_comesThing 109 = .ok (.getfield 60, 3) := dk_180 0 60 (dk_at dksX16_comesThing_4 16 rfl rfl)
theorem dX16_comesThing_112 : decode cX16_comesThing 112 = .ok (.iconst 0, 1) := dk_3 (dk_at dksX16_comesThing_4 19 rfl rfl)
theorem dX16_comesThing_113 : decode cX16_comesThing 113 = .ok (.iastore, 1) := dk_79 (dk_at dksX16_comesThing_4 20 rfl rfl)
theorem dX16_comesThing_114 : decode cX16_comesThing 114 = .ok (.aload_n 0, 1) := dk_42 (dk_at dksX16_comesThing_4 21 rfl rfl)
theorem dX16_comesThing_115 : decode cX16_comesThing 115 = .ok (.getfield 28, 3) := dk_180 0 28 (dk_at dksX16_comesThing_5 0 rfl rfl)
theorem dX16_comesThing_118 : decode cX16_comesThing 118 = .ok (.aload_n 0, 1) := dk_42 (dk_at dksX16_comesThing_5 3 rfl rfl)
theorem dX16_comesThing_119 : decode cX16_comesThing 119 = .ok (.getfield 60, 3) := dk_180 0 60 (dk_at dksX16_comesThing_5 4 rfl rfl)
theorem dX16_comesThing_122 : decode cX16_comesThing 122 = .ok (.iconst 0, 1) := dk_3 (dk_at dksX16_comesThing_5 7 rfl rfl)
theorem dX16_comesThing_123 : decode cX16_comesThing 123 = .ok (.iastore, 1) := dk_79 (dk_at dksX16_comesThing_5 8 rfl rfl)
theorem dX16_comesThing_124 : decode cX16_comesThing 124 = .ok (.aload_n 0, 1) := dk_42 (dk_at dksX16_comesThing_5 9 rfl rfl)
theorem dX16_comesThing_125 : decode cX16_comesThing 125 = .ok (.dup, 1) := dk_89 (dk_at dksX16_comesThing_5 10 rfl rfl)
theorem dX16_comesThing_126 : decode cX16_comesThing 126 = .ok (.getfield 60, 3) := dk_180 0 60 (dk_at dksX16_comesThing_5 11 rfl rfl)
theorem dX16_comesThing_129 : decode cX16_comesThing 129 = .ok (.iconst 1, 1) := dk_4 (dk_at dksX16_comesThing_5 14 rfl rfl)
theorem dX16_comesThing_130 : decode cX16_comesThing 130 = .ok (.iadd, 1) := dk_96 (dk_at dksX16_comesThing_5 15 rfl rfl)
theorem dX16_comesThing_131 : decode cX16_comesThing 131 = .ok (.putfield 60, 3) := dk_181 0 60 (dk_at dksX16_comesThing_5 16 rfl rfl)
theorem dX16_comesThing_134 : decode cX16_comesThing 134 = .ok (.iconst 1, 1) := dk_4 (dk_at dksX16_comesThing_5 19 rfl rfl)
theorem dX16_comesThing_135 : decode cX16_comesThing 135 = .ok (.ireturn, 1) := dk_172 (dk_at dksX16_comesThing_5 20 rfl rfl)
abbrev cX16_areTwo : ByteArray := prog_28_method_10_code
def yX16_areTwo : MethodName := ⟨RX16, "areTwo", "(II)Z"⟩
def dkwX16_areTwo_1 : List UInt8 := [167, 0, 4, 3, 172]
abbrev dktX16_areTwo_1 : List UInt8 := dkwX16_areTwo_1 ++ []
def dkwX16_areTwo_0 : List UInt8 := [42, 27, 182, 0, 64, 153, 0, 20, 42, 28, 182, 0, 64, 153, 0, 12, 27, 28, 159, 0, 7, 4]
abbrev dktX16_areTwo_0 : List UInt8 := dkwX16_areTwo_0 ++ dktX16_areTwo_1
theorem dksX16_areTwo_0 : cX16_areTwo.data.toList.drop 0 = dktX16_areTwo_0 := by decide +kernel
theorem dksX16_areTwo_1 : cX16_areTwo.data.toList.drop 22 = dktX16_areTwo_1 := dk_seg dksX16_areTwo_0 22 rfl rfl
theorem dX16_areTwo_0 : decode cX16_areTwo 0 = .ok (.aload_n 0, 1) := dk_42 (dk_at dksX16_areTwo_0 0 rfl rfl)
theorem dX16_areTwo_1 : decode cX16_areTwo 1 = .ok (.iload_n 1, 1) := dk_27 (dk_at dksX16_areTwo_0 1 rfl rfl)
theorem dX16_areTwo_2 : decode cX16_areTwo 2 = .ok (.invokevirtual 64, 3) := dk_182 0 64 (dk_at dksX16_areTwo_0 2 rfl rfl)
theorem dX16_areTwo_5 : decode cX16_areTwo 5 = .ok (.ifCond .eq 20, 3) := dk_153 0 20 (dk_at dksX16_areTwo_0 5 rfl rfl)
theorem dX16_areTwo_8 : decode cX16_areTwo 8 = .ok (.aload_n 0, 1) := dk_42 (dk_at dksX16_areTwo_0 8 rfl rfl)
theorem dX16_areTwo_9 : decode cX16_areTwo 9 = .ok (.iload_n 2, 1) := dk_28 (dk_at dksX16_areTwo_0 9 rfl rfl)
theorem dX16_areTwo_10 : decode cX16_areTwo 10 = .ok (.invokevirtual 64, 3) := dk_182 0 64 (dk_at dksX16_areTwo_0 10 rfl rfl)
theorem dX16_areTwo_13 : decode cX16_areTwo 13 = .ok (.ifCond .eq 12, 3) := dk_153 0 12 (dk_at dksX16_areTwo_0 13 rfl rfl)
theorem dX16_areTwo_16 : decode cX16_areTwo 16 = .ok (.iload_n 1, 1) := dk_27 (dk_at dksX16_areTwo_0 16 rfl rfl)
theorem dX16_areTwo_17 : decode cX16_areTwo 17 = .ok (.iload_n 2, 1) := dk_28 (dk_at dksX16_areTwo_0 17 rfl rfl)
theorem dX16_areTwo_18 : decode cX16_areTwo 18 = .ok (.if_icmp .eq 7, 3) := dk_159 0 7 (dk_at dksX16_areTwo_0 18 rfl rfl)
theorem dX16_areTwo_21 : decode cX16_areTwo 21 = .ok (.iconst 1, 1) := dk_4 (dk_at dksX16_areTwo_0 21 rfl rfl)
theorem dX16_areTwo_22 : decode cX16_areTwo 22 = .ok (.goto 4, 3) := dk_167 0 4 (dk_at dksX16_areTwo_1 0 rfl rfl)
theorem dX16_areTwo_25 : decode cX16_areTwo 25 = .ok (.iconst 0, 1) := dk_3 (dk_at dksX16_areTwo_1 3 rfl rfl)
theorem dX16_areTwo_26 : decode cX16_areTwo 26 = .ok (.ireturn, 1) := dk_172 (dk_at dksX16_areTwo_1 4 rfl rfl)
abbrev cX16_isThing : ByteArray := prog_28_method_8_code
def yX16_isThing : MethodName := ⟨RX16, "isThing", "(I)Z"⟩
def dkwX16_isThing_0 : List UInt8 := [27, 155, 0, 15, 27, 42, 180, 0, 60, 162, 0, 7, 4, 167, 0, 4, 3, 172]
abbrev dktX16_isThing_0 : List UInt8 := dkwX16_isThing_0 ++ []
theorem dksX16_isThing_0 : cX16_isThing.data.toList.drop 0 = dktX16_isThing_0 := by decide +kernel
theorem dX16_isThing_0 : decode cX16_isThing 0 = .ok (.iload_n 1, 1) := dk_27 (dk_at dksX16_isThing_0 0 rfl rfl)
theorem dX16_isThing_1 : decode cX16_isThing 1 = .ok (.ifCond .lt 15, 3) := dk_155 0 15 (dk_at dksX16_isThing_0 1 rfl rfl)
theorem dX16_isThing_4 : decode cX16_isThing 4 = .ok (.iload_n 1, 1) := dk_27 (dk_at dksX16_isThing_0 4 rfl rfl)
theorem dX16_isThing_5 : decode cX16_isThing 5 = .ok (.aload_n 0, 1) := dk_42 (dk_at dksX16_isThing_0 5 rfl rfl)
theorem dX16_isThing_6 : decode cX16_isThing 6 = .ok (.getfield 60, 3) := dk_180 0 60 (dk_at dksX16_isThing_0 6 rfl rfl)
theorem dX16_isThing_9 : decode cX16_isThing 9 = .ok (.if_icmp .ge 7, 3) := dk_162 0 7 (dk_at dksX16_isThing_0 9 rfl rfl)
theorem dX16_isThing_12 : decode cX16_isThing 12 = .ok (.iconst 1, 1) := dk_4 (dk_at dksX16_isThing_0 12 rfl rfl)
theorem dX16_isThing_13 : decode cX16_isThing 13 = .ok (.goto 4, 3) := dk_167 0 4 (dk_at dksX16_isThing_0 13 rfl rfl)
theorem dX16_isThing_16 : decode cX16_isThing 16 = .ok (.iconst 0, 1) := dk_3 (dk_at dksX16_isThing_0 16 rfl rfl)
theorem dX16_isThing_17 : decode cX16_isThing 17 = .ok (.ireturn, 1) := dk_172 (dk_at dksX16_isThing_0 17 rfl rfl)
abbrev cX16_image : ByteArray := prog_28_method_23_code
def yX16_image : MethodName := ⟨RX16, "image", "()I"⟩
def dkwX16_image_0 : List UInt8 := [42, 4, 181, 0, 140, 42, 3, 4, 182, 0, 116, 42, 180, 0, 137, 172]
abbrev dktX16_image_0 : List UInt8 := dkwX16_image_0 ++ []
theorem dksX16_image_0 : cX16_image.data.toList.drop 0 = dktX16_image_0 := by decide +kernel
theorem dX16_image_0 : decode cX16_image 0 = .ok (.aload_n 0, 1) := dk_42 (dk_at dksX16_image_0 0 rfl rfl)
theorem dX16_image_1 : decode cX16_image 1 = .ok (.iconst 1, 1) := dk_4 (dk_at dksX16_image_0 1 rfl rfl)
theorem dX16_image_2 : decode cX16_image 2 = .ok (.putfield 140, 3) := dk_181 0 140 (dk_at dksX16_image_0 2 rfl rfl)
theorem dX16_image_5 : decode cX16_image 5 = .ok (.aload_n 0, 1) := dk_42 (dk_at dksX16_image_0 5 rfl rfl)
theorem dX16_image_6 : decode cX16_image 6 = .ok (.iconst 0, 1) := dk_3 (dk_at dksX16_image_0 6 rfl rfl)
theorem dX16_image_7 : decode cX16_image 7 = .ok (.iconst 1, 1) := dk_4 (dk_at dksX16_image_0 7 rfl rfl)
theorem dX16_image_8 : decode cX16_image 8 = .ok (.invokevirtual 116, 3) := dk_182 0 116 (dk_at dksX16_image_0 8 rfl rfl)
theorem dX16_image_11 : decode cX16_image 11 = .ok (.aload_n 0, 1) := dk_42 (dk_at dksX16_image_0 11 rfl rfl)
theorem dX16_image_12 : decode cX16_image 12 = .ok (.getfield 137, 3) := dk_180 0 137 (dk_at dksX16_image_0 12 rfl rfl)
theorem dX16_image_15 : decode cX16_image 15 = .ok (.ireturn, 1) := dk_172 (dk_at dksX16_image_0 15 rfl rfl)
abbrev cX16_on : ByteArray := prog_28_method_24_code
def yX16_on : MethodName := ⟨RX16, "on", "()I"⟩
def dkwX16_on_1 : List UInt8 := [172]
abbrev dktX16_on_1 : List UInt8 := dkwX16_on_1 ++ []
def dkwX16_on_0 : List UInt8 := [42, 180, 0, 140, 154, 0, 10, 42, 16, 253, 182, 0, 75, 172, 42, 3, 3, 182, 0, 116, 42, 180, 0, 137]
abbrev dktX16_on_0 : List UInt8 := dkwX16_on_0 ++ dktX16_on_1
theorem dksX16_on_0 : cX16_on.data.toList.drop 0 = dktX16_on_0 := by decide +kernel
theorem dksX16_on_1 : cX16_on.data.toList.drop 24 = dktX16_on_1 := dk_seg dksX16_on_0 24 rfl rfl
theorem dX16_on_0 : decode cX16_on 0 = .ok (.aload_n 0, 1) := dk_42 (dk_at dksX16_on_0 0 rfl rfl)
theorem dX16_on_1 : decode cX16_on 1 = .ok (.getfield 140, 3) := dk_180 0 140 (dk_at dksX16_on_0 1 rfl rfl)
theorem dX16_on_4 : decode cX16_on 4 = .ok (.ifCond .ne 10, 3) := dk_154 0 10 (dk_at dksX16_on_0 4 rfl rfl)
theorem dX16_on_7 : decode cX16_on 7 = .ok (.aload_n 0, 1) := dk_42 (dk_at dksX16_on_0 7 rfl rfl)
theorem dX16_on_8 : decode cX16_on 8 = .ok (.bipush (-3), 2) := dk_16 253 (dk_at dksX16_on_0 8 rfl rfl)
theorem dX16_on_10 : decode cX16_on 10 = .ok (.invokevirtual 75, 3) := dk_182 0 75 (dk_at dksX16_on_0 10 rfl rfl)
theorem dX16_on_13 : decode cX16_on 13 = .ok (.ireturn, 1) := dk_172 (dk_at dksX16_on_0 13 rfl rfl)
theorem dX16_on_14 : decode cX16_on 14 = .ok (.aload_n 0, 1) := dk_42 (dk_at dksX16_on_0 14 rfl rfl)
theorem dX16_on_15 : decode cX16_on 15 = .ok (.iconst 0, 1) := dk_3 (dk_at dksX16_on_0 15 rfl rfl)
theorem dX16_on_16 : decode cX16_on 16 = .ok (.iconst 0, 1) := dk_3 (dk_at dksX16_on_0 16 rfl rfl)
theorem dX16_on_17 : decode cX16_on 17 = .ok (.invokevirtual 116, 3) := dk_182 0 116 (dk_at dksX16_on_0 17 rfl rfl)
theorem dX16_on_20 : decode cX16_on 20 = .ok (.aload_n 0, 1) := dk_42 (dk_at dksX16_on_0 20 rfl rfl)
theorem dX16_on_21 : decode cX16_on 21 = .ok (.getfield 137, 3) := dk_180 0 137 (dk_at dksX16_on_0 21 rfl rfl)
theorem dX16_on_24 : decode cX16_on 24 = .ok (.ireturn, 1) := dk_172 (dk_at dksX16_on_1 0 rfl rfl)
abbrev cX16_thing : ByteArray := prog_28_method_30_code
def yX16_thing : MethodName := ⟨RX16, "thing", "(II)I"⟩
def dkwX16_thing_4 : List UInt8 := [180, 0, 109, 182, 0, 155, 172, 42, 180, 0, 109, 27, 122, 4, 126, 172, 42, 16, 254, 182, 0, 75, 172]
abbrev dktX16_thing_4 : List UInt8 := dkwX16_thing_4 ++ []
def dkwX16_thing_3 : List UInt8 := [180, 0, 22, 27, 46, 172, 42, 180, 0, 25, 27, 46, 172, 42, 180, 0, 28, 27, 46, 172, 42, 27, 42]
abbrev dktX16_thing_3 : List UInt8 := dkwX16_thing_3 ++ dktX16_thing_4
def dkwX16_thing_2 : List UInt8 := [42, 180, 0, 13, 27, 46, 172, 42, 180, 0, 16, 27, 46, 172, 42, 180, 0, 19, 27, 46, 172, 42]
abbrev dktX16_thing_2 : List UInt8 := dkwX16_thing_2 ++ dktX16_thing_3
def dkwX16_thing_1 : List UInt8 := [170, 0, 0, 0, 106, 0, 0, 0, 0, 0, 0, 0, 7, 0, 0, 0, 45, 0, 0, 0, 52, 0, 0, 0, 59, 0, 0, 0, 66, 0, 0, 0, 73, 0, 0, 0, 80, 0, 0, 0, 87, 0, 0, 0, 97]
abbrev dktX16_thing_1 : List UInt8 := dkwX16_thing_1 ++ dktX16_thing_2
def dkwX16_thing_0 : List UInt8 := [42, 27, 182, 0, 64, 154, 0, 9, 42, 2, 182, 0, 75, 172, 28]
abbrev dktX16_thing_0 : List UInt8 := dkwX16_thing_0 ++ dktX16_thing_1
theorem dksX16_thing_0 : cX16_thing.data.toList.drop 0 = dktX16_thing_0 := by decide +kernel
theorem dksX16_thing_1 : cX16_thing.data.toList.drop 15 = dktX16_thing_1 := dk_seg dksX16_thing_0 15 rfl rfl
theorem dksX16_thing_2 : cX16_thing.data.toList.drop 60 = dktX16_thing_2 := dk_seg dksX16_thing_1 45 rfl rfl
theorem dksX16_thing_3 : cX16_thing.data.toList.drop 82 = dktX16_thing_3 := dk_seg dksX16_thing_2 22 rfl rfl
theorem dksX16_thing_4 : cX16_thing.data.toList.drop 105 = dktX16_thing_4 := dk_seg dksX16_thing_3 23 rfl rfl
theorem dX16_thing_0 : decode cX16_thing 0 = .ok (.aload_n 0, 1) := dk_42 (dk_at dksX16_thing_0 0 rfl rfl)
theorem dX16_thing_1 : decode cX16_thing 1 = .ok (.iload_n 1, 1) := dk_27 (dk_at dksX16_thing_0 1 rfl rfl)
theorem dX16_thing_2 : decode cX16_thing 2 = .ok (.invokevirtual 64, 3) := dk_182 0 64 (dk_at dksX16_thing_0 2 rfl rfl)
theorem dX16_thing_5 : decode cX16_thing 5 = .ok (.ifCond .ne 9, 3) := dk_154 0 9 (dk_at dksX16_thing_0 5 rfl rfl)
theorem dX16_thing_8 : decode cX16_thing 8 = .ok (.aload_n 0, 1) := dk_42 (dk_at dksX16_thing_0 8 rfl rfl)
theorem dX16_thing_9 : decode cX16_thing 9 = .ok (.iconst (-1), 1) := dk_2 (dk_at dksX16_thing_0 9 rfl rfl)
theorem dX16_thing_10 : decode cX16_thing 10 = .ok (.invokevirtual 75, 3) := dk_182 0 75 (dk_at dksX16_thing_0 10 rfl rfl)
theorem dX16_thing_13 : decode cX16_thing 13 = .ok (.ireturn, 1) := dk_172 (dk_at dksX16_thing_0 13 rfl rfl)
theorem dX16_thing_14 : decode cX16_thing 14 = .ok (.iload_n 2, 1) := dk_28 (dk_at dksX16_thing_0 14 rfl rfl)
theorem dX16_thing_15 : decode cX16_thing 15 = .ok (.tableswitch 106 0 7 #[45, 52, 59, 66, 73, 80, 87, 97], 45) := by decide +kernel
theorem dX16_thing_60 : decode cX16_thing 60 = .ok (.aload_n 0, 1) := dk_42 (dk_at dksX16_thing_2 0 rfl rfl)
theorem dX16_thing_61 : decode cX16_thing 61 = .ok (.getfield 13, 3) := dk_180 0 13 (dk_at dksX16_thing_2 1 rfl rfl)
theorem dX16_thing_64 : decode cX16_thing 64 = .ok (.iload_n 1, 1) := dk_27 (dk_at dksX16_thing_2 4 rfl rfl)
theorem dX16_thing_65 : decode cX16_thing 65 = .ok (.iaload, 1) := dk_46 (dk_at dksX16_thing_2 5 rfl rfl)
theorem dX16_thing_66 : decode cX16_thing 66 = .ok (.ireturn, 1) := dk_172 (dk_at dksX16_thing_2 6 rfl rfl)
theorem dX16_thing_67 : decode cX16_thing 67 = .ok (.aload_n 0, 1) := dk_42 (dk_at dksX16_thing_2 7 rfl rfl)
theorem dX16_thing_68 : decode cX16_thing 68 = .ok (.getfield 16, 3) := dk_180 0 16 (dk_at dksX16_thing_2 8 rfl rfl)
theorem dX16_thing_71 : decode cX16_thing 71 = .ok (.iload_n 1, 1) := dk_27 (dk_at dksX16_thing_2 11 rfl rfl)
theorem dX16_thing_72 : decode cX16_thing 72 = .ok (.iaload, 1) := dk_46 (dk_at dksX16_thing_2 12 rfl rfl)
theorem dX16_thing_73 : decode cX16_thing 73 = .ok (.ireturn, 1) := dk_172 (dk_at dksX16_thing_2 13 rfl rfl)
theorem dX16_thing_74 : decode cX16_thing 74 = .ok (.aload_n 0, 1) := dk_42 (dk_at dksX16_thing_2 14 rfl rfl)
theorem dX16_thing_75 : decode cX16_thing 75 = .ok (.getfield 19, 3) := dk_180 0 19 (dk_at dksX16_thing_2 15 rfl rfl)
theorem dX16_thing_78 : decode cX16_thing 78 = .ok (.iload_n 1, 1) := dk_27 (dk_at dksX16_thing_2 18 rfl rfl)
theorem dX16_thing_79 : decode cX16_thing 79 = .ok (.iaload, 1) := dk_46 (dk_at dksX16_thing_2 19 rfl rfl)
theorem dX16_thing_80 : decode cX16_thing 80 = .ok (.ireturn, 1) := dk_172 (dk_at dksX16_thing_2 20 rfl rfl)
theorem dX16_thing_81 : decode cX16_thing 81 = .ok (.aload_n 0, 1) := dk_42 (dk_at dksX16_thing_2 21 rfl rfl)
theorem dX16_thing_82 : decode cX16_thing 82 = .ok (.getfield 22, 3) := dk_180 0 22 (dk_at dksX16_thing_3 0 rfl rfl)
theorem dX16_thing_85 : decode cX16_thing 85 = .ok (.iload_n 1, 1) := dk_27 (dk_at dksX16_thing_3 3 rfl rfl)
theorem dX16_thing_86 : decode cX16_thing 86 = .ok (.iaload, 1) := dk_46 (dk_at dksX16_thing_3 4 rfl rfl)
theorem dX16_thing_87 : decode cX16_thing 87 = .ok (.ireturn, 1) := dk_172 (dk_at dksX16_thing_3 5 rfl rfl)
theorem dX16_thing_88 : decode cX16_thing 88 = .ok (.aload_n 0, 1) := dk_42 (dk_at dksX16_thing_3 6 rfl rfl)
theorem dX16_thing_89 : decode cX16_thing 89 = .ok (.getfield 25, 3) := dk_180 0 25 (dk_at dksX16_thing_3 7 rfl rfl)
theorem dX16_thing_92 : decode cX16_thing 92 = .ok (.iload_n 1, 1) := dk_27 (dk_at dksX16_thing_3 10 rfl rfl)
theorem dX16_thing_93 : decode cX16_thing 93 = .ok (.iaload, 1) := dk_46 (dk_at dksX16_thing_3 11 rfl rfl)
theorem dX16_thing_94 : decode cX16_thing 94 = .ok (.ireturn, 1) := dk_172 (dk_at dksX16_thing_3 12 rfl rfl)
theorem dX16_thing_95 : decode cX16_thing 95 = .ok (.aload_n 0, 1) := dk_42 (dk_at dksX16_thing_3 13 rfl rfl)
theorem dX16_thing_96 : decode cX16_thing 96 = .ok (.getfield 28, 3) := dk_180 0 28 (dk_at dksX16_thing_3 14 rfl rfl)
theorem dX16_thing_99 : decode cX16_thing 99 = .ok (.iload_n 1, 1) := dk_27 (dk_at dksX16_thing_3 17 rfl rfl)
theorem dX16_thing_100 : decode cX16_thing 100 = .ok (.iaload, 1) := dk_46 (dk_at dksX16_thing_3 18 rfl rfl)
theorem dX16_thing_101 : decode cX16_thing 101 = .ok (.ireturn, 1) := dk_172 (dk_at dksX16_thing_3 19 rfl rfl)
theorem dX16_thing_102 : decode cX16_thing 102 = .ok (.aload_n 0, 1) := dk_42 (dk_at dksX16_thing_3 20 rfl rfl)
theorem dX16_thing_103 : decode cX16_thing 103 = .ok (.iload_n 1, 1) := dk_27 (dk_at dksX16_thing_3 21 rfl rfl)
theorem dX16_thing_104 : decode cX16_thing 104 = .ok (.aload_n 0, 1) := dk_42 (dk_at dksX16_thing_3 22 rfl rfl)
theorem dX16_thing_105 : decode cX16_thing 105 = .ok (.getfield 109, 3) := dk_180 0 109 (dk_at dksX16_thing_4 0 rfl rfl)
theorem dX16_thing_108 : decode cX16_thing 108 = .ok (.invokevirtual 155, 3) := dk_182 0 155 (dk_at dksX16_thing_4 3 rfl rfl)
theorem dX16_thing_111 : decode cX16_thing 111 = .ok (.ireturn, 1) := dk_172 (dk_at dksX16_thing_4 6 rfl rfl)
theorem dX16_thing_112 : decode cX16_thing 112 = .ok (.aload_n 0, 1) := dk_42 (dk_at dksX16_thing_4 7 rfl rfl)
theorem dX16_thing_113 : decode cX16_thing 113 = .ok (.getfield 109, 3) := dk_180 0 109 (dk_at dksX16_thing_4 8 rfl rfl)
theorem dX16_thing_116 : decode cX16_thing 116 = .ok (.iload_n 1, 1) := dk_27 (dk_at dksX16_thing_4 11 rfl rfl)
theorem dX16_thing_117 : decode cX16_thing 117 = .ok (.ishr, 1) := dk_122 (dk_at dksX16_thing_4 12 rfl rfl)
theorem dX16_thing_118 : decode cX16_thing 118 = .ok (.iconst 1, 1) := dk_4 (dk_at dksX16_thing_4 13 rfl rfl)
theorem dX16_thing_119 : decode cX16_thing 119 = .ok (.iand, 1) := dk_126 (dk_at dksX16_thing_4 14 rfl rfl)
theorem dX16_thing_120 : decode cX16_thing 120 = .ok (.ireturn, 1) := dk_172 (dk_at dksX16_thing_4 15 rfl rfl)
theorem dX16_thing_121 : decode cX16_thing 121 = .ok (.aload_n 0, 1) := dk_42 (dk_at dksX16_thing_4 16 rfl rfl)
theorem dX16_thing_122 : decode cX16_thing 122 = .ok (.bipush (-2), 2) := dk_16 254 (dk_at dksX16_thing_4 17 rfl rfl)
theorem dX16_thing_124 : decode cX16_thing 124 = .ok (.invokevirtual 75, 3) := dk_182 0 75 (dk_at dksX16_thing_4 19 rfl rfl)
theorem dX16_thing_127 : decode cX16_thing 127 = .ok (.ireturn, 1) := dk_172 (dk_at dksX16_thing_4 22 rfl rfl)
abbrev cX16_goOf : ByteArray := prog_28_method_27_code
def yX16_goOf : MethodName := ⟨RX16, "goOf", "(II)I"⟩
def dkwX16_goOf_4 : List UInt8 := [167, 0, 6, 5, 29, 104, 172, 42, 180, 0, 16, 27, 46, 172]
abbrev dktX16_goOf_4 : List UInt8 := dkwX16_goOf_4 ++ []
def dkwX16_goOf_3 : List UInt8 := [29, 172, 42, 180, 0, 16, 27, 46, 28, 184, 0, 143, 96, 172, 28, 4, 184, 0, 146, 153, 0, 7, 29]
abbrev dktX16_goOf_3 : List UInt8 := dkwX16_goOf_3 ++ dktX16_goOf_4
def dkwX16_goOf_2 : List UInt8 := [170, 0, 0, 0, 0, 60, 0, 0, 0, 2, 0, 0, 0, 5, 0, 0, 0, 30, 0, 0, 0, 60, 0, 0, 0, 32, 0, 0, 0, 44]
abbrev dktX16_goOf_2 : List UInt8 := dkwX16_goOf_2 ++ dktX16_goOf_3
def dkwX16_goOf_1 : List UInt8 := [180, 0, 16, 27, 46, 62, 42, 180, 0, 13, 27, 46]
abbrev dktX16_goOf_1 : List UInt8 := dkwX16_goOf_1 ++ dktX16_goOf_2
def dkwX16_goOf_0 : List UInt8 := [28, 3, 184, 0, 146, 153, 0, 16, 42, 180, 0, 16, 27, 46, 4, 96, 5, 108, 167, 0, 9, 42]
abbrev dktX16_goOf_0 : List UInt8 := dkwX16_goOf_0 ++ dktX16_goOf_1
theorem dksX16_goOf_0 : cX16_goOf.data.toList.drop 0 = dktX16_goOf_0 := by decide +kernel
theorem dksX16_goOf_1 : cX16_goOf.data.toList.drop 22 = dktX16_goOf_1 := dk_seg dksX16_goOf_0 22 rfl rfl
theorem dksX16_goOf_2 : cX16_goOf.data.toList.drop 34 = dktX16_goOf_2 := dk_seg dksX16_goOf_1 12 rfl rfl
theorem dksX16_goOf_3 : cX16_goOf.data.toList.drop 64 = dktX16_goOf_3 := dk_seg dksX16_goOf_2 30 rfl rfl
theorem dksX16_goOf_4 : cX16_goOf.data.toList.drop 87 = dktX16_goOf_4 := dk_seg dksX16_goOf_3 23 rfl rfl
theorem dX16_goOf_0 : decode cX16_goOf 0 = .ok (.iload_n 2, 1) := dk_28 (dk_at dksX16_goOf_0 0 rfl rfl)
theorem dX16_goOf_1 : decode cX16_goOf 1 = .ok (.iconst 0, 1) := dk_3 (dk_at dksX16_goOf_0 1 rfl rfl)
theorem dX16_goOf_2 : decode cX16_goOf 2 = .ok (.invokestatic 146, 3) := dk_184 0 146 (dk_at dksX16_goOf_0 2 rfl rfl)
theorem dX16_goOf_5 : decode cX16_goOf 5 = .ok (.ifCond .eq 16, 3) := dk_153 0 16 (dk_at dksX16_goOf_0 5 rfl rfl)
theorem dX16_goOf_8 : decode cX16_goOf 8 = .ok (.aload_n 0, 1) := dk_42 (dk_at dksX16_goOf_0 8 rfl rfl)
theorem dX16_goOf_9 : decode cX16_goOf 9 = .ok (.getfield 16, 3) := dk_180 0 16 (dk_at dksX16_goOf_0 9 rfl rfl)
theorem dX16_goOf_12 : decode cX16_goOf 12 = .ok (.iload_n 1, 1) := dk_27 (dk_at dksX16_goOf_0 12 rfl rfl)
theorem dX16_goOf_13 : decode cX16_goOf 13 = .ok (.iaload, 1) := dk_46 (dk_at dksX16_goOf_0 13 rfl rfl)
theorem dX16_goOf_14 : decode cX16_goOf 14 = .ok (.iconst 1, 1) := dk_4 (dk_at dksX16_goOf_0 14 rfl rfl)
theorem dX16_goOf_15 : decode cX16_goOf 15 = .ok (.iadd, 1) := dk_96 (dk_at dksX16_goOf_0 15 rfl rfl)
theorem dX16_goOf_16 : decode cX16_goOf 16 = .ok (.iconst 2, 1) := dk_5 (dk_at dksX16_goOf_0 16 rfl rfl)
theorem dX16_goOf_17 : decode cX16_goOf 17 = .ok (.idiv, 1) := dk_108 (dk_at dksX16_goOf_0 17 rfl rfl)
theorem dX16_goOf_18 : decode cX16_goOf 18 = .ok (.goto 9, 3) := dk_167 0 9 (dk_at dksX16_goOf_0 18 rfl rfl)
theorem dX16_goOf_21 : decode cX16_goOf 21 = .ok (.aload_n 0, 1) := dk_42 (dk_at dksX16_goOf_0 21 rfl rfl)
theorem dX16_goOf_22 : decode cX16_goOf 22 = .ok (.getfield 16, 3) := dk_180 0 16 (dk_at dksX16_goOf_1 0 rfl rfl)
theorem dX16_goOf_25 : decode cX16_goOf 25 = .ok (.iload_n 1, 1) := dk_27 (dk_at dksX16_goOf_1 3 rfl rfl)
theorem dX16_goOf_26 : decode cX16_goOf 26 = .ok (.iaload, 1) := dk_46 (dk_at dksX16_goOf_1 4 rfl rfl)
theorem dX16_goOf_27 : decode cX16_goOf 27 = .ok (.istore_n 3, 1) := dk_62 (dk_at dksX16_goOf_1 5 rfl rfl)
theorem dX16_goOf_28 : decode cX16_goOf 28 = .ok (.aload_n 0, 1) := dk_42 (dk_at dksX16_goOf_1 6 rfl rfl)
theorem dX16_goOf_29 : decode cX16_goOf 29 = .ok (.getfield 13, 3) := dk_180 0 13 (dk_at dksX16_goOf_1 7 rfl rfl)
theorem dX16_goOf_32 : decode cX16_goOf 32 = .ok (.iload_n 1, 1) := dk_27 (dk_at dksX16_goOf_1 10 rfl rfl)
theorem dX16_goOf_33 : decode cX16_goOf 33 = .ok (.iaload, 1) := dk_46 (dk_at dksX16_goOf_1 11 rfl rfl)
theorem dX16_goOf_34 : decode cX16_goOf 34 = .ok (.tableswitch 60 2 5 #[30, 60, 32, 44], 30) := by decide +kernel
theorem dX16_goOf_64 : decode cX16_goOf 64 = .ok (.iload_n 3, 1) := dk_29 (dk_at dksX16_goOf_3 0 rfl rfl)
theorem dX16_goOf_65 : decode cX16_goOf 65 = .ok (.ireturn, 1) := dk_172 (dk_at dksX16_goOf_3 1 rfl rfl)
theorem dX16_goOf_66 : decode cX16_goOf 66 = .ok (.aload_n 0, 1) := dk_42 (dk_at dksX16_goOf_3 2 rfl rfl)
theorem dX16_goOf_67 : decode cX16_goOf 67 = .ok (.getfield 16, 3) := dk_180 0 16 (dk_at dksX16_goOf_3 3 rfl rfl)
theorem dX16_goOf_70 : decode cX16_goOf 70 = .ok (.iload_n 1, 1) := dk_27 (dk_at dksX16_goOf_3 6 rfl rfl)
theorem dX16_goOf_71 : decode cX16_goOf 71 = .ok (.iaload, 1) := dk_46 (dk_at dksX16_goOf_3 7 rfl rfl)
theorem dX16_goOf_72 : decode cX16_goOf 72 = .ok (.iload_n 2, 1) := dk_28 (dk_at dksX16_goOf_3 8 rfl rfl)
theorem dX16_goOf_73 : decode cX16_goOf 73 = .ok (.invokestatic 143, 3) := dk_184 0 143 (dk_at dksX16_goOf_3 9 rfl rfl)
theorem dX16_goOf_76 : decode cX16_goOf 76 = .ok (.iadd, 1) := dk_96 (dk_at dksX16_goOf_3 12 rfl rfl)
theorem dX16_goOf_77 : decode cX16_goOf 77 = .ok (.ireturn, 1) := dk_172 (dk_at dksX16_goOf_3 13 rfl rfl)
theorem dX16_goOf_78 : decode cX16_goOf 78 = .ok (.iload_n 2, 1) := dk_28 (dk_at dksX16_goOf_3 14 rfl rfl)
theorem dX16_goOf_79 : decode cX16_goOf 79 = .ok (.iconst 1, 1) := dk_4 (dk_at dksX16_goOf_3 15 rfl rfl)
theorem dX16_goOf_80 : decode cX16_goOf 80 = .ok (.invokestatic 146, 3) := dk_184 0 146 (dk_at dksX16_goOf_3 16 rfl rfl)
theorem dX16_goOf_83 : decode cX16_goOf 83 = .ok (.ifCond .eq 7, 3) := dk_153 0 7 (dk_at dksX16_goOf_3 19 rfl rfl)
theorem dX16_goOf_86 : decode cX16_goOf 86 = .ok (.iload_n 3, 1) := dk_29 (dk_at dksX16_goOf_3 22 rfl rfl)
theorem dX16_goOf_87 : decode cX16_goOf 87 = .ok (.goto 6, 3) := dk_167 0 6 (dk_at dksX16_goOf_4 0 rfl rfl)
theorem dX16_goOf_90 : decode cX16_goOf 90 = .ok (.iconst 2, 1) := dk_5 (dk_at dksX16_goOf_4 3 rfl rfl)
theorem dX16_goOf_91 : decode cX16_goOf 91 = .ok (.iload_n 3, 1) := dk_29 (dk_at dksX16_goOf_4 4 rfl rfl)
theorem dX16_goOf_92 : decode cX16_goOf 92 = .ok (.imul, 1) := dk_104 (dk_at dksX16_goOf_4 5 rfl rfl)
theorem dX16_goOf_93 : decode cX16_goOf 93 = .ok (.ireturn, 1) := dk_172 (dk_at dksX16_goOf_4 6 rfl rfl)
theorem dX16_goOf_94 : decode cX16_goOf 94 = .ok (.aload_n 0, 1) := dk_42 (dk_at dksX16_goOf_4 7 rfl rfl)
theorem dX16_goOf_95 : decode cX16_goOf 95 = .ok (.getfield 16, 3) := dk_180 0 16 (dk_at dksX16_goOf_4 8 rfl rfl)
theorem dX16_goOf_98 : decode cX16_goOf 98 = .ok (.iload_n 1, 1) := dk_27 (dk_at dksX16_goOf_4 11 rfl rfl)
theorem dX16_goOf_99 : decode cX16_goOf 99 = .ok (.iaload, 1) := dk_46 (dk_at dksX16_goOf_4 12 rfl rfl)
theorem dX16_goOf_100 : decode cX16_goOf 100 = .ok (.ireturn, 1) := dk_172 (dk_at dksX16_goOf_4 13 rfl rfl)
abbrev cX16_has : ByteArray := prog_28_method_6_code
def yX16_has : MethodName := ⟨RX16, "has", "(II)Z"⟩
def dkwX16_has_0 : List UInt8 := [26, 27, 122, 4, 126, 4, 160, 0, 7, 4, 167, 0, 4, 3, 172]
abbrev dktX16_has_0 : List UInt8 := dkwX16_has_0 ++ []
theorem dksX16_has_0 : cX16_has.data.toList.drop 0 = dktX16_has_0 := by decide +kernel
theorem dX16_has_0 : decode cX16_has 0 = .ok (.iload_n 0, 1) := dk_26 (dk_at dksX16_has_0 0 rfl rfl)
theorem dX16_has_1 : decode cX16_has 1 = .ok (.iload_n 1, 1) := dk_27 (dk_at dksX16_has_0 1 rfl rfl)
theorem dX16_has_2 : decode cX16_has 2 = .ok (.ishr, 1) := dk_122 (dk_at dksX16_has_0 2 rfl rfl)
theorem dX16_has_3 : decode cX16_has 3 = .ok (.iconst 1, 1) := dk_4 (dk_at dksX16_has_0 3 rfl rfl)
theorem dX16_has_4 : decode cX16_has 4 = .ok (.iand, 1) := dk_126 (dk_at dksX16_has_0 4 rfl rfl)
theorem dX16_has_5 : decode cX16_has 5 = .ok (.iconst 1, 1) := dk_4 (dk_at dksX16_has_0 5 rfl rfl)
theorem dX16_has_6 : decode cX16_has 6 = .ok (.if_icmp .ne 7, 3) := dk_160 0 7 (dk_at dksX16_has_0 6 rfl rfl)
theorem dX16_has_9 : decode cX16_has 9 = .ok (.iconst 1, 1) := dk_4 (dk_at dksX16_has_0 9 rfl rfl)
theorem dX16_has_10 : decode cX16_has 10 = .ok (.goto 4, 3) := dk_167 0 4 (dk_at dksX16_has_0 10 rfl rfl)
theorem dX16_has_13 : decode cX16_has 13 = .ok (.iconst 0, 1) := dk_3 (dk_at dksX16_has_0 13 rfl rfl)
theorem dX16_has_14 : decode cX16_has 14 = .ok (.ireturn, 1) := dk_172 (dk_at dksX16_has_0 14 rfl rfl)
abbrev cX16_bits : ByteArray := prog_28_method_7_code
def yX16_bits : MethodName := ⟨RX16, "bits", "(I)I"⟩
def dkwX16_bits_1 : List UInt8 := [27, 172]
abbrev dktX16_bits_1 : List UInt8 := dkwX16_bits_1 ++ []
def dkwX16_bits_0 : List UInt8 := [3, 60, 3, 61, 28, 16, 31, 162, 0, 17, 27, 26, 28, 122, 4, 126, 96, 60, 132, 2, 1, 167, 255, 239]
abbrev dktX16_bits_0 : List UInt8 := dkwX16_bits_0 ++ dktX16_bits_1
theorem dksX16_bits_0 : cX16_bits.data.toList.drop 0 = dktX16_bits_0 := by decide +kernel
theorem dksX16_bits_1 : cX16_bits.data.toList.drop 24 = dktX16_bits_1 := dk_seg dksX16_bits_0 24 rfl rfl
theorem dX16_bits_0 : decode cX16_bits 0 = .ok (.iconst 0, 1) := dk_3 (dk_at dksX16_bits_0 0 rfl rfl)
theorem dX16_bits_1 : decode cX16_bits 1 = .ok (.istore_n 1, 1) := dk_60 (dk_at dksX16_bits_0 1 rfl rfl)
theorem dX16_bits_2 : decode cX16_bits 2 = .ok (.iconst 0, 1) := dk_3 (dk_at dksX16_bits_0 2 rfl rfl)
theorem dX16_bits_3 : decode cX16_bits 3 = .ok (.istore_n 2, 1) := dk_61 (dk_at dksX16_bits_0 3 rfl rfl)
theorem dX16_bits_4 : decode cX16_bits 4 = .ok (.iload_n 2, 1) := dk_28 (dk_at dksX16_bits_0 4 rfl rfl)
theorem dX16_bits_5 : decode cX16_bits 5 = .ok (.bipush 31, 2) := dk_16 31 (dk_at dksX16_bits_0 5 rfl rfl)
theorem dX16_bits_7 : decode cX16_bits 7 = .ok (.if_icmp .ge 17, 3) := dk_162 0 17 (dk_at dksX16_bits_0 7 rfl rfl)
theorem dX16_bits_10 : decode cX16_bits 10 = .ok (.iload_n 1, 1) := dk_27 (dk_at dksX16_bits_0 10 rfl rfl)
theorem dX16_bits_11 : decode cX16_bits 11 = .ok (.iload_n 0, 1) := dk_26 (dk_at dksX16_bits_0 11 rfl rfl)
theorem dX16_bits_12 : decode cX16_bits 12 = .ok (.iload_n 2, 1) := dk_28 (dk_at dksX16_bits_0 12 rfl rfl)
theorem dX16_bits_13 : decode cX16_bits 13 = .ok (.ishr, 1) := dk_122 (dk_at dksX16_bits_0 13 rfl rfl)
theorem dX16_bits_14 : decode cX16_bits 14 = .ok (.iconst 1, 1) := dk_4 (dk_at dksX16_bits_0 14 rfl rfl)
theorem dX16_bits_15 : decode cX16_bits 15 = .ok (.iand, 1) := dk_126 (dk_at dksX16_bits_0 15 rfl rfl)
theorem dX16_bits_16 : decode cX16_bits 16 = .ok (.iadd, 1) := dk_96 (dk_at dksX16_bits_0 16 rfl rfl)
theorem dX16_bits_17 : decode cX16_bits 17 = .ok (.istore_n 1, 1) := dk_60 (dk_at dksX16_bits_0 17 rfl rfl)
theorem dX16_bits_18 : decode cX16_bits 18 = .ok (.iinc 2 1, 3) := dk_132 2 1 (dk_at dksX16_bits_0 18 rfl rfl)
theorem dX16_bits_21 : decode cX16_bits 21 = .ok (.goto (-17), 3) := dk_167 255 239 (dk_at dksX16_bits_0 21 rfl rfl)
theorem dX16_bits_24 : decode cX16_bits 24 = .ok (.iload_n 1, 1) := dk_27 (dk_at dksX16_bits_1 0 rfl rfl)
theorem dX16_bits_25 : decode cX16_bits 25 = .ok (.ireturn, 1) := dk_172 (dk_at dksX16_bits_1 1 rfl rfl)
abbrev cX16_need : ByteArray := prog_28_method_31_code
def yX16_need : MethodName := ⟨RX16, "need", "(III)I"⟩
def dkwX16_need_3 : List UInt8 := [46, 167, 0, 9, 42, 180, 0, 28, 27, 46, 28, 122, 4, 126, 172]
abbrev dktX16_need_3 : List UInt8 := dkwX16_need_3 ++ []
def dkwX16_need_2 : List UInt8 := [167, 0, 15, 42, 180, 0, 28, 27, 92, 46, 4, 28, 120, 130, 79, 29, 154, 0, 12, 42, 180, 0, 25, 27]
abbrev dktX16_need_2 : List UInt8 := dkwX16_need_2 ++ dktX16_need_3
def dkwX16_need_1 : List UInt8 := [42, 16, 254, 182, 0, 75, 172, 29, 154, 0, 18, 42, 180, 0, 25, 27, 92, 46, 4, 28, 120, 130, 79]
abbrev dktX16_need_1 : List UInt8 := dkwX16_need_1 ++ dktX16_need_2
def dkwX16_need_0 : List UInt8 := [42, 27, 28, 182, 0, 106, 154, 0, 9, 42, 2, 182, 0, 75, 172, 29, 3, 4, 184, 0, 86, 154, 0, 10]
abbrev dktX16_need_0 : List UInt8 := dkwX16_need_0 ++ dktX16_need_1
theorem dksX16_need_0 : cX16_need.data.toList.drop 0 = dktX16_need_0 := by decide +kernel
theorem dksX16_need_1 : cX16_need.data.toList.drop 24 = dktX16_need_1 := dk_seg dksX16_need_0 24 rfl rfl
theorem dksX16_need_2 : cX16_need.data.toList.drop 47 = dktX16_need_2 := dk_seg dksX16_need_1 23 rfl rfl
theorem dksX16_need_3 : cX16_need.data.toList.drop 71 = dktX16_need_3 := dk_seg dksX16_need_2 24 rfl rfl
theorem dX16_need_0 : decode cX16_need 0 = .ok (.aload_n 0, 1) := dk_42 (dk_at dksX16_need_0 0 rfl rfl)
theorem dX16_need_1 : decode cX16_need 1 = .ok (.iload_n 1, 1) := dk_27 (dk_at dksX16_need_0 1 rfl rfl)
theorem dX16_need_2 : decode cX16_need 2 = .ok (.iload_n 2, 1) := dk_28 (dk_at dksX16_need_0 2 rfl rfl)
theorem dX16_need_3 : decode cX16_need 3 = .ok (.invokevirtual 106, 3) := dk_182 0 106 (dk_at dksX16_need_0 3 rfl rfl)
theorem dX16_need_6 : decode cX16_need 6 = .ok (.ifCond .ne 9, 3) := dk_154 0 9 (dk_at dksX16_need_0 6 rfl rfl)
theorem dX16_need_9 : decode cX16_need 9 = .ok (.aload_n 0, 1) := dk_42 (dk_at dksX16_need_0 9 rfl rfl)
theorem dX16_need_10 : decode cX16_need 10 = .ok (.iconst (-1), 1) := dk_2 (dk_at dksX16_need_0 10 rfl rfl)
theorem dX16_need_11 : decode cX16_need 11 = .ok (.invokevirtual 75, 3) := dk_182 0 75 (dk_at dksX16_need_0 11 rfl rfl)
theorem dX16_need_14 : decode cX16_need 14 = .ok (.ireturn, 1) := dk_172 (dk_at dksX16_need_0 14 rfl rfl)
theorem dX16_need_15 : decode cX16_need 15 = .ok (.iload_n 3, 1) := dk_29 (dk_at dksX16_need_0 15 rfl rfl)
theorem dX16_need_16 : decode cX16_need 16 = .ok (.iconst 0, 1) := dk_3 (dk_at dksX16_need_0 16 rfl rfl)
theorem dX16_need_17 : decode cX16_need 17 = .ok (.iconst 1, 1) := dk_4 (dk_at dksX16_need_0 17 rfl rfl)
theorem dX16_need_18 : decode cX16_need 18 = .ok (.invokestatic 86, 3) := dk_184 0 86 (dk_at dksX16_need_0 18 rfl rfl)
theorem dX16_need_21 : decode cX16_need 21 = .ok (.ifCond .ne 10, 3) := dk_154 0 10 (dk_at dksX16_need_0 21 rfl rfl)
theorem dX16_need_24 : decode cX16_need 24 = .ok (.aload_n 0, 1) := dk_42 (dk_at dksX16_need_1 0 rfl rfl)
theorem dX16_need_25 : decode cX16_need 25 = .ok (.bipush (-2), 2) := dk_16 254 (dk_at dksX16_need_1 1 rfl rfl)
theorem dX16_need_27 : decode cX16_need 27 = .ok (.invokevirtual 75, 3) := dk_182 0 75 (dk_at dksX16_need_1 3 rfl rfl)
theorem dX16_need_30 : decode cX16_need 30 = .ok (.ireturn, 1) := dk_172 (dk_at dksX16_need_1 6 rfl rfl)
theorem dX16_need_31 : decode cX16_need 31 = .ok (.iload_n 3, 1) := dk_29 (dk_at dksX16_need_1 7 rfl rfl)
theorem dX16_need_32 : decode cX16_need 32 = .ok (.ifCond .ne 18, 3) := dk_154 0 18 (dk_at dksX16_need_1 8 rfl rfl)
theorem dX16_need_35 : decode cX16_need 35 = .ok (.aload_n 0, 1) := dk_42 (dk_at dksX16_need_1 11 rfl rfl)
theorem dX16_need_36 : decode cX16_need 36 = .ok (.getfield 25, 3) := dk_180 0 25 (dk_at dksX16_need_1 12 rfl rfl)
theorem dX16_need_39 : decode cX16_need 39 = .ok (.iload_n 1, 1) := dk_27 (dk_at dksX16_need_1 15 rfl rfl)
theorem dX16_need_40 : decode cX16_need 40 = .ok (.dup2, 1) := dk_92 (dk_at dksX16_need_1 16 rfl rfl)
theorem dX16_need_41 : decode cX16_need 41 = .ok (.iaload, 1) := dk_46 (dk_at dksX16_need_1 17 rfl rfl)
theorem dX16_need_42 : decode cX16_need 42 = .ok (.iconst 1, 1) := dk_4 (dk_at dksX16_need_1 18 rfl rfl)
theorem dX16_need_43 : decode cX16_need 43 = .ok (.iload_n 2, 1) := dk_28 (dk_at dksX16_need_1 19 rfl rfl)
theorem dX16_need_44 : decode cX16_need 44 = .ok (.ishl, 1) := dk_120 (dk_at dksX16_need_1 20 rfl rfl)
theorem dX16_need_45 : decode cX16_need 45 = .ok (.ixor, 1) := dk_130 (dk_at dksX16_need_1 21 rfl rfl)
theorem dX16_need_46 : decode cX16_need 46 = .ok (.iastore, 1) := dk_79 (dk_at dksX16_need_1 22 rfl rfl)
theorem dX16_need_47 : decode cX16_need 47 = .ok (.goto 15, 3) := dk_167 0 15 (dk_at dksX16_need_2 0 rfl rfl)
theorem dX16_need_50 : decode cX16_need 50 = .ok (.aload_n 0, 1) := dk_42 (dk_at dksX16_need_2 3 rfl rfl)
theorem dX16_need_51 : decode cX16_need 51 = .ok (.getfield 28, 3) := dk_180 0 28 (dk_at dksX16_need_2 4 rfl rfl)
theorem dX16_need_54 : decode cX16_need 54 = .ok (.iload_n 1, 1) := dk_27 (dk_at dksX16_need_2 7 rfl rfl)
theorem dX16_need_55 : decode cX16_need 55 = .ok (.dup2, 1) := dk_92 (dk_at dksX16_need_2 8 rfl rfl)
theorem dX16_need_56 : decode cX16_need 56 = .ok (.iaload, 1) := dk_46 (dk_at dksX16_need_2 9 rfl rfl)
theorem dX16_need_57 : decode cX16_need 57 = .ok (.iconst 1, 1) := dk_4 (dk_at dksX16_need_2 10 rfl rfl)
theorem dX16_need_58 : decode cX16_need 58 = .ok (.iload_n 2, 1) := dk_28 (dk_at dksX16_need_2 11 rfl rfl)
theorem dX16_need_59 : decode cX16_need 59 = .ok (.ishl, 1) := dk_120 (dk_at dksX16_need_2 12 rfl rfl)
theorem dX16_need_60 : decode cX16_need 60 = .ok (.ixor, 1) := dk_130 (dk_at dksX16_need_2 13 rfl rfl)
theorem dX16_need_61 : decode cX16_need 61 = .ok (.iastore, 1) := dk_79 (dk_at dksX16_need_2 14 rfl rfl)
theorem dX16_need_62 : decode cX16_need 62 = .ok (.iload_n 3, 1) := dk_29 (dk_at dksX16_need_2 15 rfl rfl)
theorem dX16_need_63 : decode cX16_need 63 = .ok (.ifCond .ne 12, 3) := dk_154 0 12 (dk_at dksX16_need_2 16 rfl rfl)
theorem dX16_need_66 : decode cX16_need 66 = .ok (.aload_n 0, 1) := dk_42 (dk_at dksX16_need_2 19 rfl rfl)
theorem dX16_need_67 : decode cX16_need 67 = .ok (.getfield 25, 3) := dk_180 0 25 (dk_at dksX16_need_2 20 rfl rfl)
theorem dX16_need_70 : decode cX16_need 70 = .ok (.iload_n 1, 1) := dk_27 (dk_at dksX16_need_2 23 rfl rfl)
theorem dX16_need_71 : decode cX16_need 71 = .ok (.iaload, 1) := dk_46 (dk_at dksX16_need_3 0 rfl rfl)
theorem dX16_need_72 : decode cX16_need 72 = .ok (.goto 9, 3) := dk_167 0 9 (dk_at dksX16_need_3 1 rfl rfl)
theorem dX16_need_75 : decode cX16_need 75 = .ok (.aload_n 0, 1) := dk_42 (dk_at dksX16_need_3 4 rfl rfl)
theorem dX16_need_76 : decode cX16_need 76 = .ok (.getfield 28, 3) := dk_180 0 28 (dk_at dksX16_need_3 5 rfl rfl)
theorem dX16_need_79 : decode cX16_need 79 = .ok (.iload_n 1, 1) := dk_27 (dk_at dksX16_need_3 8 rfl rfl)
theorem dX16_need_80 : decode cX16_need 80 = .ok (.iaload, 1) := dk_46 (dk_at dksX16_need_3 9 rfl rfl)
theorem dX16_need_81 : decode cX16_need 81 = .ok (.iload_n 2, 1) := dk_28 (dk_at dksX16_need_3 10 rfl rfl)
theorem dX16_need_82 : decode cX16_need 82 = .ok (.ishr, 1) := dk_122 (dk_at dksX16_need_3 11 rfl rfl)
theorem dX16_need_83 : decode cX16_need 83 = .ok (.iconst 1, 1) := dk_4 (dk_at dksX16_need_3 12 rfl rfl)
theorem dX16_need_84 : decode cX16_need 84 = .ok (.iand, 1) := dk_126 (dk_at dksX16_need_3 13 rfl rfl)
theorem dX16_need_85 : decode cX16_need 85 = .ok (.ireturn, 1) := dk_172 (dk_at dksX16_need_3 14 rfl rfl)
abbrev cX16_hand : ByteArray := prog_28_method_32_code
def yX16_hand : MethodName := ⟨RX16, "hand", "(I)I"⟩
def dkwX16_hand_1 : List UInt8 := [181, 0, 109, 42, 180, 0, 109, 27, 122, 4, 126, 172]
abbrev dktX16_hand_1 : List UInt8 := dkwX16_hand_1 ++ []
def dkwX16_hand_0 : List UInt8 := [42, 27, 182, 0, 64, 154, 0, 9, 42, 2, 182, 0, 75, 172, 42, 89, 180, 0, 109, 4, 27, 120, 130]
abbrev dktX16_hand_0 : List UInt8 := dkwX16_hand_0 ++ dktX16_hand_1
theorem dksX16_hand_0 : cX16_hand.data.toList.drop 0 = dktX16_hand_0 := by decide +kernel
theorem dksX16_hand_1 : cX16_hand.data.toList.drop 23 = dktX16_hand_1 := dk_seg dksX16_hand_0 23 rfl rfl
theorem dX16_hand_0 : decode cX16_hand 0 = .ok (.aload_n 0, 1) := dk_42 (dk_at dksX16_hand_0 0 rfl rfl)
theorem dX16_hand_1 : decode cX16_hand 1 = .ok (.iload_n 1, 1) := dk_27 (dk_at dksX16_hand_0 1 rfl rfl)
theorem dX16_hand_2 : decode cX16_hand 2 = .ok (.invokevirtual 64, 3) := dk_182 0 64 (dk_at dksX16_hand_0 2 rfl rfl)
theorem dX16_hand_5 : decode cX16_hand 5 = .ok (.ifCond .ne 9, 3) := dk_154 0 9 (dk_at dksX16_hand_0 5 rfl rfl)
theorem dX16_hand_8 : decode cX16_hand 8 = .ok (.aload_n 0, 1) := dk_42 (dk_at dksX16_hand_0 8 rfl rfl)
theorem dX16_hand_9 : decode cX16_hand 9 = .ok (.iconst (-1), 1) := dk_2 (dk_at dksX16_hand_0 9 rfl rfl)
theorem dX16_hand_10 : decode cX16_hand 10 = .ok (.invokevirtual 75, 3) := dk_182 0 75 (dk_at dksX16_hand_0 10 rfl rfl)
theorem dX16_hand_13 : decode cX16_hand 13 = .ok (.ireturn, 1) := dk_172 (dk_at dksX16_hand_0 13 rfl rfl)
theorem dX16_hand_14 : decode cX16_hand 14 = .ok (.aload_n 0, 1) := dk_42 (dk_at dksX16_hand_0 14 rfl rfl)
theorem dX16_hand_15 : decode cX16_hand 15 = .ok (.dup, 1) := dk_89 (dk_at dksX16_hand_0 15 rfl rfl)
theorem dX16_hand_16 : decode cX16_hand 16 = .ok (.getfield 109, 3) := dk_180 0 109 (dk_at dksX16_hand_0 16 rfl rfl)
theorem dX16_hand_19 : decode cX16_hand 19 = .ok (.iconst 1, 1) := dk_4 (dk_at dksX16_hand_0 19 rfl rfl)
theorem dX16_hand_20 : decode cX16_hand 20 = .ok (.iload_n 1, 1) := dk_27 (dk_at dksX16_hand_0 20 rfl rfl)
theorem dX16_hand_21 : decode cX16_hand 21 = .ok (.ishl, 1) := dk_120 (dk_at dksX16_hand_0 21 rfl rfl)
theorem dX16_hand_22 : decode cX16_hand 22 = .ok (.ixor, 1) := dk_130 (dk_at dksX16_hand_0 22 rfl rfl)
theorem dX16_hand_23 : decode cX16_hand 23 = .ok (.putfield 109, 3) := dk_181 0 109 (dk_at dksX16_hand_1 0 rfl rfl)
theorem dX16_hand_26 : decode cX16_hand 26 = .ok (.aload_n 0, 1) := dk_42 (dk_at dksX16_hand_1 3 rfl rfl)
theorem dX16_hand_27 : decode cX16_hand 27 = .ok (.getfield 109, 3) := dk_180 0 109 (dk_at dksX16_hand_1 4 rfl rfl)
theorem dX16_hand_30 : decode cX16_hand 30 = .ok (.iload_n 1, 1) := dk_27 (dk_at dksX16_hand_1 7 rfl rfl)
theorem dX16_hand_31 : decode cX16_hand 31 = .ok (.ishr, 1) := dk_122 (dk_at dksX16_hand_1 8 rfl rfl)
theorem dX16_hand_32 : decode cX16_hand 32 = .ok (.iconst 1, 1) := dk_4 (dk_at dksX16_hand_1 9 rfl rfl)
theorem dX16_hand_33 : decode cX16_hand 33 = .ok (.iand, 1) := dk_126 (dk_at dksX16_hand_1 10 rfl rfl)
theorem dX16_hand_34 : decode cX16_hand 34 = .ok (.ireturn, 1) := dk_172 (dk_at dksX16_hand_1 11 rfl rfl)
abbrev cX16_take : ByteArray := prog_28_method_33_code
def yX16_take : MethodName := ⟨RX16, "take", "(I)I"⟩
def dkwX16_take_4 : List UInt8 := [120, 128, 181, 0, 109, 42, 180, 0, 137, 172]
abbrev dktX16_take_4 : List UInt8 := dkwX16_take_4 ++ []
def dkwX16_take_3 : List UInt8 := [89, 180, 0, 137, 42, 27, 42, 180, 0, 109, 182, 0, 155, 96, 181, 0, 137, 42, 89, 180, 0, 109, 4, 27]
abbrev dktX16_take_3 : List UInt8 := dkwX16_take_3 ++ dktX16_take_4
def dkwX16_take_2 : List UInt8 := [17, 39, 15, 164, 0, 8, 16, 250, 167, 0, 4, 3, 61, 28, 153, 0, 9, 42, 28, 182, 0, 75, 172, 42]
abbrev dktX16_take_2 : List UInt8 := dkwX16_take_2 ++ dktX16_take_3
def dkwX16_take_1 : List UInt8 := [154, 0, 8, 16, 253, 167, 0, 29, 42, 180, 0, 137, 42, 27, 42, 180, 0, 109, 182, 0, 155, 96]
abbrev dktX16_take_1 : List UInt8 := dkwX16_take_1 ++ dktX16_take_2
def dkwX16_take_0 : List UInt8 := [42, 27, 182, 0, 64, 154, 0, 7, 2, 167, 0, 49, 42, 42, 180, 0, 109, 182, 0, 152, 27, 184, 0, 146]
abbrev dktX16_take_0 : List UInt8 := dkwX16_take_0 ++ dktX16_take_1
theorem dksX16_take_0 : cX16_take.data.toList.drop 0 = dktX16_take_0 := by decide +kernel
theorem dksX16_take_1 : cX16_take.data.toList.drop 24 = dktX16_take_1 := dk_seg dksX16_take_0 24 rfl rfl
theorem dksX16_take_2 : cX16_take.data.toList.drop 46 = dktX16_take_2 := dk_seg dksX16_take_1 22 rfl rfl
theorem dksX16_take_3 : cX16_take.data.toList.drop 70 = dktX16_take_3 := dk_seg dksX16_take_2 24 rfl rfl
theorem dksX16_take_4 : cX16_take.data.toList.drop 94 = dktX16_take_4 := dk_seg dksX16_take_3 24 rfl rfl
theorem dX16_take_0 : decode cX16_take 0 = .ok (.aload_n 0, 1) := dk_42 (dk_at dksX16_take_0 0 rfl rfl)
theorem dX16_take_1 : decode cX16_take 1 = .ok (.iload_n 1, 1) := dk_27 (dk_at dksX16_take_0 1 rfl rfl)
theorem dX16_take_2 : decode cX16_take 2 = .ok (.invokevirtual 64, 3) := dk_182 0 64 (dk_at dksX16_take_0 2 rfl rfl)
theorem dX16_take_5 : decode cX16_take 5 = .ok (.ifCond .ne 7, 3) := dk_154 0 7 (dk_at dksX16_take_0 5 rfl rfl)
theorem dX16_take_8 : decode cX16_take 8 = .ok (.iconst (-1), 1) := dk_2 (dk_at dksX16_take_0 8 rfl rfl)
theorem dX16_take_9 : decode cX16_take 9 = .ok (.goto 49, 3) := dk_167 0 49 (dk_at dksX16_take_0 9 rfl rfl)
theorem dX16_take_12 : decode cX16_take 12 = .ok (.aload_n 0, 1) := dk_42 (dk_at dksX16_take_0 12 rfl rfl)
theorem dX16_take_13 : decode cX16_take 13 = .ok (.aload_n 0, 1) := dk_42 (dk_at dksX16_take_0 13 rfl rfl)
theorem dX16_take_14 : decode cX16_take 14 = .ok (.getfield 109, 3) := dk_180 0 109 (dk_at dksX16_take_0 14 rfl rfl)
theorem dX16_take_17 : decode cX16_take 17 = .ok (.invokevirtual 152, 3) := dk_182 0 152 (dk_at dksX16_take_0 17 rfl rfl)
theorem dX16_take_20 : decode cX16_take 20 = .ok (.iload_n 1, 1) := dk_27 (dk_at dksX16_take_0 20 rfl rfl)
theorem dX16_take_21 : decode cX16_take 21 = .ok (.invokestatic 146, 3) := dk_184 0 146 (dk_at dksX16_take_0 21 rfl rfl)
theorem dX16_take_24 : decode cX16_take 24 = .ok (.ifCond .ne 8, 3) := dk_154 0 8 (dk_at dksX16_take_1 0 rfl rfl)
theorem dX16_take_27 : decode cX16_take 27 = .ok (.bipush (-3), 2) := dk_16 253 (dk_at dksX16_take_1 3 rfl rfl)
theorem dX16_take_29 : decode cX16_take 29 = .ok (.goto 29, 3) := dk_167 0 29 (dk_at dksX16_take_1 5 rfl rfl)
theorem dX16_take_32 : decode cX16_take 32 = .ok (.aload_n 0, 1) := dk_42 (dk_at dksX16_take_1 8 rfl rfl)
theorem dX16_take_33 : decode cX16_take 33 = .ok (.getfield 137, 3) := dk_180 0 137 (dk_at dksX16_take_1 9 rfl rfl)
theorem dX16_take_36 : decode cX16_take 36 = .ok (.aload_n 0, 1) := dk_42 (dk_at dksX16_take_1 12 rfl rfl)
theorem dX16_take_37 : decode cX16_take 37 = .ok (.iload_n 1, 1) := dk_27 (dk_at dksX16_take_1 13 rfl rfl)
theorem dX16_take_38 : decode cX16_take 38 = .ok (.aload_n 0, 1) := dk_42 (dk_at dksX16_take_1 14 rfl rfl)
theorem dX16_take_39 : decode cX16_take 39 = .ok (.getfield 109, 3) := dk_180 0 109 (dk_at dksX16_take_1 15 rfl rfl)
theorem dX16_take_42 : decode cX16_take 42 = .ok (.invokevirtual 155, 3) := dk_182 0 155 (dk_at dksX16_take_1 18 rfl rfl)
theorem dX16_take_45 : decode cX16_take 45 = .ok (.iadd, 1) := dk_96 (dk_at dksX16_take_1 21 rfl rfl)
theorem dX16_take_46 : decode cX16_take 46 = .ok (.sipush 9999, 3) := dk_17 39 15 (dk_at dksX16_take_2 0 rfl rfl)
theorem dX16_take_49 : decode cX16_take 49 = .ok (.if_icmp .le 8, 3) := dk_164 0 8 (dk_at dksX16_take_2 3 rfl rfl)
theorem dX16_take_52 : decode cX16_take 52 = .ok (.bipush (-6), 2) := dk_16 250 (dk_at dksX16_take_2 6 rfl rfl)
theorem dX16_take_54 : decode cX16_take 54 = .ok (.goto 4, 3) := dk_167 0 4 (dk_at dksX16_take_2 8 rfl rfl)
theorem dX16_take_57 : decode cX16_take 57 = .ok (.iconst 0, 1) := dk_3 (dk_at dksX16_take_2 11 rfl rfl)
theorem dX16_take_58 : decode cX16_take 58 = .ok (.istore_n 2, 1) := dk_61 (dk_at dksX16_take_2 12 rfl rfl)
theorem dX16_take_59 : decode cX16_take 59 = .ok (.iload_n 2, 1) := dk_28 (dk_at dksX16_take_2 13 rfl rfl)
theorem dX16_take_60 : decode cX16_take 60 = .ok (.ifCond .eq 9, 3) := dk_153 0 9 (dk_at dksX16_take_2 14 rfl rfl)
theorem dX16_take_63 : decode cX16_take 63 = .ok (.aload_n 0, 1) := dk_42 (dk_at dksX16_take_2 17 rfl rfl)
theorem dX16_take_64 : decode cX16_take 64 = .ok (.iload_n 2, 1) := dk_28 (dk_at dksX16_take_2 18 rfl rfl)
theorem dX16_take_65 : decode cX16_take 65 = .ok (.invokevirtual 75, 3) := dk_182 0 75 (dk_at dksX16_take_2 19 rfl rfl)
theorem dX16_take_68 : decode cX16_take 68 = .ok (.ireturn, 1) := dk_172 (dk_at dksX16_take_2 22 rfl rfl)
theorem dX16_take_69 : decode cX16_take 69 = .ok (.aload_n 0, 1) := dk_42 (dk_at dksX16_take_2 23 rfl rfl)
theorem dX16_take_70 : decode cX16_take 70 = .ok (.dup, 1) := dk_89 (dk_at dksX16_take_3 0 rfl rfl)
theorem dX16_take_71 : decode cX16_take 71 = .ok (.getfield 137, 3) := dk_180 0 137 (dk_at dksX16_take_3 1 rfl rfl)
theorem dX16_take_74 : decode cX16_take 74 = .ok (.aload_n 0, 1) := dk_42 (dk_at dksX16_take_3 4 rfl rfl)
theorem dX16_take_75 : decode cX16_take 75 = .ok (.iload_n 1, 1) := dk_27 (dk_at dksX16_take_3 5 rfl rfl)
theorem dX16_take_76 : decode cX16_take 76 = .ok (.aload_n 0, 1) := dk_42 (dk_at dksX16_take_3 6 rfl rfl)
theorem dX16_take_77 : decode cX16_take 77 = .ok (.getfield 109, 3) := dk_180 0 109 (dk_at dksX16_take_3 7 rfl rfl)
theorem dX16_take_80 : decode cX16_take 80 = .ok (.invokevirtual 155, 3) := dk_182 0 155 (dk_at dksX16_take_3 10 rfl rfl)
theorem dX16_take_83 : decode cX16_take 83 = .ok (.iadd, 1) := dk_96 (dk_at dksX16_take_3 13 rfl rfl)
theorem dX16_take_84 : decode cX16_take 84 = .ok (.putfield 137, 3) := dk_181 0 137 (dk_at dksX16_take_3 14 rfl rfl)
theorem dX16_take_87 : decode cX16_take 87 = .ok (.aload_n 0, 1) := dk_42 (dk_at dksX16_take_3 17 rfl rfl)
theorem dX16_take_88 : decode cX16_take 88 = .ok (.dup, 1) := dk_89 (dk_at dksX16_take_3 18 rfl rfl)
theorem dX16_take_89 : decode cX16_take 89 = .ok (.getfield 109, 3) := dk_180 0 109 (dk_at dksX16_take_3 19 rfl rfl)
theorem dX16_take_92 : decode cX16_take 92 = .ok (.iconst 1, 1) := dk_4 (dk_at dksX16_take_3 22 rfl rfl)
theorem dX16_take_93 : decode cX16_take 93 = .ok (.iload_n 1, 1) := dk_27 (dk_at dksX16_take_3 23 rfl rfl)
theorem dX16_take_94 : decode cX16_take 94 = .ok (.ishl, 1) := dk_120 (dk_at dksX16_take_4 0 rfl rfl)
theorem dX16_take_95 : decode cX16_take 95 = .ok (.ior, 1) := dk_128 (dk_at dksX16_take_4 1 rfl rfl)
theorem dX16_take_96 : decode cX16_take 96 = .ok (.putfield 109, 3) := dk_181 0 109 (dk_at dksX16_take_4 2 rfl rfl)
theorem dX16_take_99 : decode cX16_take 99 = .ok (.aload_n 0, 1) := dk_42 (dk_at dksX16_take_4 5 rfl rfl)
theorem dX16_take_100 : decode cX16_take 100 = .ok (.getfield 137, 3) := dk_180 0 137 (dk_at dksX16_take_4 6 rfl rfl)
theorem dX16_take_103 : decode cX16_take 103 = .ok (.ireturn, 1) := dk_172 (dk_at dksX16_take_4 9 rfl rfl)
abbrev cX16_mayBy : ByteArray := prog_28_method_26_code
def yX16_mayBy : MethodName := ⟨RX16, "mayBy", "(I)I"⟩
def dkwX16_mayBy_1 : List UInt8 := [182, 0, 149, 153, 0, 9, 4, 29, 120, 167, 0, 4, 3, 128, 61, 132, 3, 1, 167, 255, 218, 28, 172]
abbrev dktX16_mayBy_1 : List UInt8 := dkwX16_mayBy_1 ++ []
def dkwX16_mayBy_0 : List UInt8 := [3, 61, 3, 62, 29, 42, 180, 0, 60, 162, 0, 36, 28, 27, 29, 184, 0, 146, 154, 0, 18, 42, 29, 27]
abbrev dktX16_mayBy_0 : List UInt8 := dkwX16_mayBy_0 ++ dktX16_mayBy_1
theorem dksX16_mayBy_0 : cX16_mayBy.data.toList.drop 0 = dktX16_mayBy_0 := by decide +kernel
theorem dksX16_mayBy_1 : cX16_mayBy.data.toList.drop 24 = dktX16_mayBy_1 := dk_seg dksX16_mayBy_0 24 rfl rfl
theorem dX16_mayBy_0 : decode cX16_mayBy 0 = .ok (.iconst 0, 1) := dk_3 (dk_at dksX16_mayBy_0 0 rfl rfl)
theorem dX16_mayBy_1 : decode cX16_mayBy 1 = .ok (.istore_n 2, 1) := dk_61 (dk_at dksX16_mayBy_0 1 rfl rfl)
theorem dX16_mayBy_2 : decode cX16_mayBy 2 = .ok (.iconst 0, 1) := dk_3 (dk_at dksX16_mayBy_0 2 rfl rfl)
theorem dX16_mayBy_3 : decode cX16_mayBy 3 = .ok (.istore_n 3, 1) := dk_62 (dk_at dksX16_mayBy_0 3 rfl rfl)
theorem dX16_mayBy_4 : decode cX16_mayBy 4 = .ok (.iload_n 3, 1) := dk_29 (dk_at dksX16_mayBy_0 4 rfl rfl)
theorem dX16_mayBy_5 : decode cX16_mayBy 5 = .ok (.aload_n 0, 1) := dk_42 (dk_at dksX16_mayBy_0 5 rfl rfl)
theorem dX16_mayBy_6 : decode cX16_mayBy 6 = .ok (.getfield 60, 3) := dk_180 0 60 (dk_at dksX16_mayBy_0 6 rfl rfl)
theorem dX16_mayBy_9 : decode cX16_mayBy 9 = .ok (.if_icmp .ge 36, 3) := dk_162 0 36 (dk_at dksX16_mayBy_0 9 rfl rfl)
theorem dX16_mayBy_12 : decode cX16_mayBy 12 = .ok (.iload_n 2, 1) := dk_28 (dk_at dksX16_mayBy_0 12 rfl rfl)
theorem dX16_mayBy_13 : decode cX16_mayBy 13 = .ok (.iload_n 1, 1) := dk_27 (dk_at dksX16_mayBy_0 13 rfl rfl)
theorem dX16_mayBy_14 : decode cX16_mayBy 14 = .ok (.iload_n 3, 1) := dk_29 (dk_at dksX16_mayBy_0 14 rfl rfl)
theorem dX16_mayBy_15 : decode cX16_mayBy 15 = .ok (.invokestatic 146, 3) := dk_184 0 146 (dk_at dksX16_mayBy_0 15 rfl rfl)
theorem dX16_mayBy_18 : decode cX16_mayBy 18 = .ok (.ifCond .ne 18, 3) := dk_154 0 18 (dk_at dksX16_mayBy_0 18 rfl rfl)
theorem dX16_mayBy_21 : decode cX16_mayBy 21 = .ok (.aload_n 0, 1) := dk_42 (dk_at dksX16_mayBy_0 21 rfl rfl)
theorem dX16_mayBy_22 : decode cX16_mayBy 22 = .ok (.iload_n 3, 1) := dk_29 (dk_at dksX16_mayBy_0 22 rfl rfl)
theorem dX16_mayBy_23 : decode cX16_mayBy 23 = .ok (.iload_n 1, 1) := dk_27 (dk_at dksX16_mayBy_0 23 rfl rfl)
theorem dX16_mayBy_24 : decode cX16_mayBy 24 = .ok (.invokevirtual 149, 3) := dk_182 0 149 (dk_at dksX16_mayBy_1 0 rfl rfl)
theorem dX16_mayBy_27 : decode cX16_mayBy 27 = .ok (.ifCond .eq 9, 3) := dk_153 0 9 (dk_at dksX16_mayBy_1 3 rfl rfl)
theorem dX16_mayBy_30 : decode cX16_mayBy 30 = .ok (.iconst 1, 1) := dk_4 (dk_at dksX16_mayBy_1 6 rfl rfl)
theorem dX16_mayBy_31 : decode cX16_mayBy 31 = .ok (.iload_n 3, 1) := dk_29 (dk_at dksX16_mayBy_1 7 rfl rfl)
theorem dX16_mayBy_32 : decode cX16_mayBy 32 = .ok (.ishl, 1) := dk_120 (dk_at dksX16_mayBy_1 8 rfl rfl)
theorem dX16_mayBy_33 : decode cX16_mayBy 33 = .ok (.goto 4, 3) := dk_167 0 4 (dk_at dksX16_mayBy_1 9 rfl rfl)
theorem dX16_mayBy_36 : decode cX16_mayBy 36 = .ok (.iconst 0, 1) := dk_3 (dk_at dksX16_mayBy_1 12 rfl rfl)
theorem dX16_mayBy_37 : decode cX16_mayBy 37 = .ok (.ior, 1) := dk_128 (dk_at dksX16_mayBy_1 13 rfl rfl)
theorem dX16_mayBy_38 : decode cX16_mayBy 38 = .ok (.istore_n 2, 1) := dk_61 (dk_at dksX16_mayBy_1 14 rfl rfl)
theorem dX16_mayBy_39 : decode cX16_mayBy 39 = .ok (.iinc 3 1, 3) := dk_132 3 1 (dk_at dksX16_mayBy_1 15 rfl rfl)
theorem dX16_mayBy_42 : decode cX16_mayBy 42 = .ok (.goto (-38), 3) := dk_167 255 218 (dk_at dksX16_mayBy_1 18 rfl rfl)
theorem dX16_mayBy_45 : decode cX16_mayBy 45 = .ok (.iload_n 2, 1) := dk_28 (dk_at dksX16_mayBy_1 21 rfl rfl)
theorem dX16_mayBy_46 : decode cX16_mayBy 46 = .ok (.ireturn, 1) := dk_172 (dk_at dksX16_mayBy_1 22 rfl rfl)
abbrev cX16_canHave : ByteArray := prog_28_method_25_code
def yX16_canHave : MethodName := ⟨RX16, "canHave", "(II)Z"⟩
def dkwX16_canHave_6 : List UInt8 := [153, 0, 12, 21, 5, 153, 0, 7, 4, 167, 0, 4, 3, 172]
abbrev dktX16_canHave_6 : List UInt8 := dkwX16_canHave_6 ++ []
def dkwX16_canHave_5 : List UInt8 := [167, 0, 4, 3, 172, 21, 4, 154, 0, 8, 21, 5, 153, 0, 7, 4, 167, 0, 4, 3, 172, 21, 4]
abbrev dktX16_canHave_5 : List UInt8 := dkwX16_canHave_5 ++ dktX16_canHave_6
def dkwX16_canHave_4 : List UInt8 := [29, 5, 162, 0, 16, 29, 42, 180, 0, 25, 27, 46, 184, 0, 143, 160, 0, 12, 21, 5, 153, 0, 7, 4]
abbrev dktX16_canHave_4 : List UInt8 := dkwX16_canHave_4 ++ dktX16_canHave_5
def dkwX16_canHave_3 : List UInt8 := [170, 0, 0, 0, 0, 75, 0, 0, 0, 1, 0, 0, 0, 4, 0, 0, 0, 30, 0, 0, 0, 75, 0, 0, 0, 59, 0, 0, 0, 30]
abbrev dktX16_canHave_3 : List UInt8 := dkwX16_canHave_3 ++ dktX16_canHave_4
def dkwX16_canHave_2 : List UInt8 := [167, 0, 4, 3, 54, 5, 42, 180, 0, 13, 27, 46]
abbrev dktX16_canHave_2 : List UInt8 := dkwX16_canHave_2 ++ dktX16_canHave_3
def dkwX16_canHave_1 : List UInt8 := [158, 0, 7, 4, 167, 0, 4, 3, 54, 4, 42, 180, 0, 28, 27, 46, 28, 2, 130, 126, 154, 0, 7, 4]
abbrev dktX16_canHave_1 : List UInt8 := dkwX16_canHave_1 ++ dktX16_canHave_2
def dkwX16_canHave_0 : List UInt8 := [42, 180, 0, 25, 27, 46, 28, 126, 184, 0, 143, 62, 42, 180, 0, 25, 27, 46, 153, 0, 7, 29]
abbrev dktX16_canHave_0 : List UInt8 := dkwX16_canHave_0 ++ dktX16_canHave_1
theorem dksX16_canHave_0 : cX16_canHave.data.toList.drop 0 = dktX16_canHave_0 := by decide +kernel
theorem dksX16_canHave_1 : cX16_canHave.data.toList.drop 22 = dktX16_canHave_1 := dk_seg dksX16_canHave_0 22 rfl rfl
theorem dksX16_canHave_2 : cX16_canHave.data.toList.drop 46 = dktX16_canHave_2 := dk_seg dksX16_canHave_1 24 rfl rfl
theorem dksX16_canHave_3 : cX16_canHave.data.toList.drop 58 = dktX16_canHave_3 := dk_seg dksX16_canHave_2 12 rfl rfl
theorem dksX16_canHave_4 : cX16_canHave.data.toList.drop 88 = dktX16_canHave_4 := dk_seg dksX16_canHave_3 30 rfl rfl
theorem dksX16_canHave_5 : cX16_canHave.data.toList.drop 112 = dktX16_canHave_5 := dk_seg dksX16_canHave_4 24 rfl rfl
theorem dksX16_canHave_6 : cX16_canHave.data.toList.drop 135 = dktX16_canHave_6 := dk_seg dksX16_canHave_5 23 rfl rfl
theorem dX16_canHave_0 : decode cX16_canHave 0 = .ok (.aload_n 0, 1) := dk_42 (dk_at dksX16_canHave_0 0 rfl rfl)
theorem dX16_canHave_1 : decode cX16_canHave 1 = .ok (.getfield 25, 3) := dk_180 0 25 (dk_at dksX16_canHave_0 1 rfl rfl)
theorem dX16_canHave_4 : decode cX16_canHave 4 = .ok (.iload_n 1, 1) := dk_27 (dk_at dksX16_canHave_0 4 rfl rfl)
theorem dX16_canHave_5 : decode cX16_canHave 5 = .ok (.iaload, 1) := dk_46 (dk_at dksX16_canHave_0 5 rfl rfl)
theorem dX16_canHave_6 : decode cX16_canHave 6 = .ok (.iload_n 2, 1) := dk_28 (dk_at dksX16_canHave_0 6 rfl rfl)
theorem dX16_canHave_7 : decode cX16_canHave 7 = .ok (.iand, 1) := dk_126 (dk_at dksX16_canHave_0 7 rfl rfl)
theorem dX16_canHave_8 : decode cX16_canHave 8 = .ok (.invokestatic 143, 3) := dk_184 0 143 (dk_at dksX16_canHave_0 8 rfl rfl)
theorem dX16_canHave_11 : decode cX16_canHave 11 = .ok (.istore_n 3, 1) := dk_62 (dk_at dksX16_canHave_0 11 rfl rfl)
theorem dX16_canHave_12 : decode cX16_canHave 12 = .ok (.aload_n 0, 1) := dk_42 (dk_at dksX16_canHave_0 12 rfl rfl)
theorem dX16_canHave_13 : decode cX16_canHave 13 = .ok (.getfield 25, 3) := dk_180 0 25 (dk_at dksX16_canHave_0 13 rfl rfl)
theorem dX16_canHave_16 : decode cX16_canHave 16 = .ok (.iload_n 1, 1) := dk_27 (dk_at dksX16_canHave_0 16 rfl rfl)
theorem dX16_canHave_17 : decode cX16_canHave 17 = .ok (.iaload, 1) := dk_46 (dk_at dksX16_canHave_0 17 rfl rfl)
theorem dX16_canHave_18 : decode cX16_canHave 18 = .ok (.ifCond .eq 7, 3) := dk_153 0 7 (dk_at dksX16_canHave_0 18 rfl rfl)
theorem dX16_canHave_21 : decode cX16_canHave 21 = .ok (.iload_n 3, 1) := dk_29 (dk_at dksX16_canHave_0 21 rfl rfl)
theorem dX16_canHave_22 : decode cX16_canHave 22 = .ok (.ifCond .le 7, 3) := dk_158 0 7 (dk_at dksX16_canHave_1 0 rfl rfl)
theorem dX16_canHave_25 : decode cX16_canHave 25 = .ok (.iconst 1, 1) := dk_4 (dk_at dksX16_canHave_1 3 rfl rfl)
theorem dX16_canHave_26 : decode cX16_canHave 26 = .ok (.goto 4, 3) := dk_167 0 4 (dk_at dksX16_canHave_1 4 rfl rfl)
theorem dX16_canHave_29 : decode cX16_canHave 29 = .ok (.iconst 0, 1) := dk_3 (dk_at dksX16_canHave_1 7 rfl rfl)
theorem dX16_canHave_30 : decode cX16_canHave 30 = .ok (.istore 4, 2) := dk_54 4 (dk_at dksX16_canHave_1 8 rfl rfl)
theorem dX16_canHave_32 : decode cX16_canHave 32 = .ok (.aload_n 0, 1) := dk_42 (dk_at dksX16_canHave_1 10 rfl rfl)
theorem dX16_canHave_33 : decode cX16_canHave 33 = .ok (.getfield 28, 3) := dk_180 0 28 (dk_at dksX16_canHave_1 11 rfl rfl)
theorem dX16_canHave_36 : decode cX16_canHave 36 = .ok (.iload_n 1, 1) := dk_27 (dk_at dksX16_canHave_1 14 rfl rfl)
theorem dX16_canHave_37 : decode cX16_canHave 37 = .ok (.iaload, 1) := dk_46 (dk_at dksX16_canHave_1 15 rfl rfl)
theorem dX16_canHave_38 : decode cX16_canHave 38 = .ok (.iload_n 2, 1) := dk_28 (dk_at dksX16_canHave_1 16 rfl rfl)
theorem dX16_canHave_39 : decode cX16_canHave 39 = .ok (.iconst (-1), 1) := dk_2 (dk_at dksX16_canHave_1 17 rfl rfl)
theorem dX16_canHave_40 : decode cX16_canHave 40 = .ok (.ixor, 1) := dk_130 (dk_at dksX16_canHave_1 18 rfl rfl)
theorem dX16_canHave_41 : decode cX16_canHave 41 = .ok (.iand, 1) := dk_126 (dk_at dksX16_canHave_1 19 rfl rfl)
theorem dX16_canHave_42 : decode cX16_canHave 42 = .ok (.ifCond .ne 7, 3) := dk_154 0 7 (dk_at dksX16_canHave_1 20 rfl rfl)
theorem dX16_canHave_45 : decode cX16_canHave 45 = .ok (.iconst 1, 1) := dk_4 (dk_at dksX16_canHave_1 23 rfl rfl)
theorem dX16_canHave_46 : decode cX16_canHave 46 = .ok (.goto 4, 3) := dk_167 0 4 (dk_at dksX16_canHave_2 0 rfl rfl)
theorem dX16_canHave_49 : decode cX16_canHave 49 = .ok (.iconst 0, 1) := dk_3 (dk_at dksX16_canHave_2 3 rfl rfl)
theorem dX16_canHave_50 : decode cX16_canHave 50 = .ok (.istore 5, 2) := dk_54 5 (dk_at dksX16_canHave_2 4 rfl rfl)
theorem dX16_canHave_52 : decode cX16_canHave 52 = .ok (.aload_n 0, 1) := dk_42 (dk_at dksX16_canHave_2 6 rfl rfl)
theorem dX16_canHave_53 : decode cX16_canHave 53 = .ok (.getfield 13, 3) := dk_180 0 13 (dk_at dksX16_canHave_2 7 rfl rfl)
theorem dX16_canHave_56 : decode cX16_canHave 56 = .ok (.iload_n 1, 1) := dk_27 (dk_at dksX16_canHave_2 10 rfl rfl)
theorem dX16_canHave_57 : decode cX16_canHave 57 = .ok (.iaload, 1) := dk_46 (dk_at dksX16_canHave_2 11 rfl rfl)
theorem dX16_canHave_58 : decode cX16_canHave 58 = .ok (.tableswitch 75 1 4 #[30, 75, 59, 30], 30) := by decide +kernel
theorem dX16_canHave_88 : decode cX16_canHave 88 = .ok (.iload_n 3, 1) := dk_29 (dk_at dksX16_canHave_4 0 rfl rfl)
theorem dX16_canHave_89 : decode cX16_canHave 89 = .ok (.iconst 2, 1) := dk_5 (dk_at dksX16_canHave_4 1 rfl rfl)
theorem dX16_canHave_90 : decode cX16_canHave 90 = .ok (.if_icmp .ge 16, 3) := dk_162 0 16 (dk_at dksX16_canHave_4 2 rfl rfl)
theorem dX16_canHave_93 : decode cX16_canHave 93 = .ok (.iload_n 3, 1) := dk_29 (dk_at dksX16_canHave_4 5 rfl rfl)
theorem dX16_canHave_94 : decode cX16_canHave 94 = .ok (.aload_n 0, 1) := dk_42 (dk_at dksX16_canHave_4 6 rfl rfl)
theorem dX16_canHave_95 : decode cX16_canHave 95 = .ok (.getfield 25, 3) := dk_180 0 25 (dk_at dksX16_canHave_4 7 rfl rfl)
theorem dX16_canHave_98 : decode cX16_canHave 98 = .ok (.iload_n 1, 1) := dk_27 (dk_at dksX16_canHave_4 10 rfl rfl)
theorem dX16_canHave_99 : decode cX16_canHave 99 = .ok (.iaload, 1) := dk_46 (dk_at dksX16_canHave_4 11 rfl rfl)
theorem dX16_canHave_100 : decode cX16_canHave 100 = .ok (.invokestatic 143, 3) := dk_184 0 143 (dk_at dksX16_canHave_4 12 rfl rfl)
theorem dX16_canHave_103 : decode cX16_canHave 103 = .ok (.if_icmp .ne 12, 3) := dk_160 0 12 (dk_at dksX16_canHave_4 15 rfl rfl)
theorem dX16_canHave_106 : decode cX16_canHave 106 = .ok (.iload 5, 2) := dk_21 5 (dk_at dksX16_canHave_4 18 rfl rfl)
theorem dX16_canHave_108 : decode cX16_canHave 108 = .ok (.ifCond .eq 7, 3) := dk_153 0 7 (dk_at dksX16_canHave_4 20 rfl rfl)
theorem dX16_canHave_111 : decode cX16_canHave 111 = .ok (.iconst 1, 1) := dk_4 (dk_at dksX16_canHave_4 23 rfl rfl)
theorem dX16_canHave_112 : decode cX16_canHave 112 = .ok (.goto 4, 3) := dk_167 0 4 (dk_at dksX16_canHave_5 0 rfl rfl)
theorem dX16_canHave_115 : decode cX16_canHave 115 = .ok (.iconst 0, 1) := dk_3 (dk_at dksX16_canHave_5 3 rfl rfl)
theorem dX16_canHave_116 : decode cX16_canHave 116 = .ok (.ireturn, 1) := dk_172 (dk_at dksX16_canHave_5 4 rfl rfl)
theorem dX16_canHave_117 : decode cX16_canHave 117 = .ok (.iload 4, 2) := dk_21 4 (dk_at dksX16_canHave_5 5 rfl rfl)
theorem dX16_canHave_119 : decode cX16_canHave 119 = .ok (.ifCond .ne 8, 3) := dk_154 0 8 (dk_at dksX16_canHave_5 7 rfl rfl)
theorem dX16_canHave_122 : decode cX16_canHave 122 = .ok (.iload 5, 2) := dk_21 5 (dk_at dksX16_canHave_5 10 rfl rfl)
theorem dX16_canHave_124 : decode cX16_canHave 124 = .ok (.ifCond .eq 7, 3) := dk_153 0 7 (dk_at dksX16_canHave_5 12 rfl rfl)
theorem dX16_canHave_127 : decode cX16_canHave 127 = .ok (.iconst 1, 1) := dk_4 (dk_at dksX16_canHave_5 15 rfl rfl)
theorem dX16_canHave_128 : decode cX16_canHave 128 = .ok (.goto 4, 3) := dk_167 0 4 (dk_at dksX16_canHave_5 16 rfl rfl)
theorem dX16_canHave_131 : decode cX16_canHave 131 = .ok (.iconst 0, 1) := dk_3 (dk_at dksX16_canHave_5 19 rfl rfl)
theorem dX16_canHave_132 : decode cX16_canHave 132 = .ok (.ireturn, 1) := dk_172 (dk_at dksX16_canHave_5 20 rfl rfl)
theorem dX16_canHave_133 : decode cX16_canHave 133 = .ok (.iload 4, 2) := dk_21 4 (dk_at dksX16_canHave_5 21 rfl rfl)
theorem dX16_canHave_135 : decode cX16_canHave 135 = .ok (.ifCond .eq 12, 3) := dk_153 0 12 (dk_at dksX16_canHave_6 0 rfl rfl)
theorem dX16_canHave_138 : decode cX16_canHave 138 = .ok (.iload 5, 2) := dk_21 5 (dk_at dksX16_canHave_6 3 rfl rfl)
theorem dX16_canHave_140 : decode cX16_canHave 140 = .ok (.ifCond .eq 7, 3) := dk_153 0 7 (dk_at dksX16_canHave_6 5 rfl rfl)
theorem dX16_canHave_143 : decode cX16_canHave 143 = .ok (.iconst 1, 1) := dk_4 (dk_at dksX16_canHave_6 8 rfl rfl)
theorem dX16_canHave_144 : decode cX16_canHave 144 = .ok (.goto 4, 3) := dk_167 0 4 (dk_at dksX16_canHave_6 9 rfl rfl)
theorem dX16_canHave_147 : decode cX16_canHave 147 = .ok (.iconst 0, 1) := dk_3 (dk_at dksX16_canHave_6 12 rfl rfl)
theorem dX16_canHave_148 : decode cX16_canHave 148 = .ok (.ireturn, 1) := dk_172 (dk_at dksX16_canHave_6 13 rfl rfl)
abbrev cX16_may : ByteArray := prog_28_method_34_code
def yX16_may : MethodName := ⟨RX16, "may", "()I"⟩
def dkwX16_may_0 : List UInt8 := [42, 42, 180, 0, 109, 182, 0, 152, 172]
abbrev dktX16_may_0 : List UInt8 := dkwX16_may_0 ++ []
theorem dksX16_may_0 : cX16_may.data.toList.drop 0 = dktX16_may_0 := by decide +kernel
theorem dX16_may_0 : decode cX16_may 0 = .ok (.aload_n 0, 1) := dk_42 (dk_at dksX16_may_0 0 rfl rfl)
theorem dX16_may_1 : decode cX16_may 1 = .ok (.aload_n 0, 1) := dk_42 (dk_at dksX16_may_0 1 rfl rfl)
theorem dX16_may_2 : decode cX16_may 2 = .ok (.getfield 109, 3) := dk_180 0 109 (dk_at dksX16_may_0 2 rfl rfl)
theorem dX16_may_5 : decode cX16_may 5 = .ok (.invokevirtual 152, 3) := dk_182 0 152 (dk_at dksX16_may_0 5 rfl rfl)
theorem dX16_may_8 : decode cX16_may 8 = .ok (.ireturn, 1) := dk_172 (dk_at dksX16_may_0 8 rfl rfl)
abbrev cX16_with : ByteArray := prog_28_method_35_code
def yX16_with : MethodName := ⟨RX16, "with", "(I)I"⟩
def dkwX16_with_0 : List UInt8 := [42, 27, 182, 0, 159, 153, 0, 11, 42, 27, 182, 0, 152, 167, 0, 8, 42, 2, 182, 0, 75, 172]
abbrev dktX16_with_0 : List UInt8 := dkwX16_with_0 ++ []
theorem dksX16_with_0 : cX16_with.data.toList.drop 0 = dktX16_with_0 := by decide +kernel
theorem dX16_with_0 : decode cX16_with 0 = .ok (.aload_n 0, 1) := dk_42 (dk_at dksX16_with_0 0 rfl rfl)
theorem dX16_with_1 : decode cX16_with 1 = .ok (.iload_n 1, 1) := dk_27 (dk_at dksX16_with_0 1 rfl rfl)
theorem dX16_with_2 : decode cX16_with 2 = .ok (.invokevirtual 159, 3) := dk_182 0 159 (dk_at dksX16_with_0 2 rfl rfl)
theorem dX16_with_5 : decode cX16_with 5 = .ok (.ifCond .eq 11, 3) := dk_153 0 11 (dk_at dksX16_with_0 5 rfl rfl)
theorem dX16_with_8 : decode cX16_with 8 = .ok (.aload_n 0, 1) := dk_42 (dk_at dksX16_with_0 8 rfl rfl)
theorem dX16_with_9 : decode cX16_with 9 = .ok (.iload_n 1, 1) := dk_27 (dk_at dksX16_with_0 9 rfl rfl)
theorem dX16_with_10 : decode cX16_with 10 = .ok (.invokevirtual 152, 3) := dk_182 0 152 (dk_at dksX16_with_0 10 rfl rfl)
theorem dX16_with_13 : decode cX16_with 13 = .ok (.goto 8, 3) := dk_167 0 8 (dk_at dksX16_with_0 13 rfl rfl)
theorem dX16_with_16 : decode cX16_with 16 = .ok (.aload_n 0, 1) := dk_42 (dk_at dksX16_with_0 16 rfl rfl)
theorem dX16_with_17 : decode cX16_with 17 = .ok (.iconst (-1), 1) := dk_2 (dk_at dksX16_with_0 17 rfl rfl)
theorem dX16_with_18 : decode cX16_with 18 = .ok (.invokevirtual 75, 3) := dk_182 0 75 (dk_at dksX16_with_0 18 rfl rfl)
theorem dX16_with_21 : decode cX16_with 21 = .ok (.ireturn, 1) := dk_172 (dk_at dksX16_with_0 21 rfl rfl)
abbrev cX16_areThings : ByteArray := prog_28_method_9_code
def yX16_areThings : MethodName := ⟨RX16, "areThings", "(I)Z"⟩
def dkwX16_areThings_0 : List UInt8 := [27, 155, 0, 16, 27, 42, 180, 0, 60, 122, 154, 0, 7, 4, 167, 0, 4, 3, 172]
abbrev dktX16_areThings_0 : List UInt8 := dkwX16_areThings_0 ++ []
theorem dksX16_areThings_0 : cX16_areThings.data.toList.drop 0 = dktX16_areThings_0 := by decide +kernel
theorem dX16_areThings_0 : decode cX16_areThings 0 = .ok (.iload_n 1, 1) := dk_27 (dk_at dksX16_areThings_0 0 rfl rfl)
theorem dX16_areThings_1 : decode cX16_areThings 1 = .ok (.ifCond .lt 16, 3) := dk_155 0 16 (dk_at dksX16_areThings_0 1 rfl rfl)
theorem dX16_areThings_4 : decode cX16_areThings 4 = .ok (.iload_n 1, 1) := dk_27 (dk_at dksX16_areThings_0 4 rfl rfl)
theorem dX16_areThings_5 : decode cX16_areThings 5 = .ok (.aload_n 0, 1) := dk_42 (dk_at dksX16_areThings_0 5 rfl rfl)
theorem dX16_areThings_6 : decode cX16_areThings 6 = .ok (.getfield 60, 3) := dk_180 0 60 (dk_at dksX16_areThings_0 6 rfl rfl)
theorem dX16_areThings_9 : decode cX16_areThings 9 = .ok (.ishr, 1) := dk_122 (dk_at dksX16_areThings_0 9 rfl rfl)
theorem dX16_areThings_10 : decode cX16_areThings 10 = .ok (.ifCond .ne 7, 3) := dk_154 0 7 (dk_at dksX16_areThings_0 10 rfl rfl)
theorem dX16_areThings_13 : decode cX16_areThings 13 = .ok (.iconst 1, 1) := dk_4 (dk_at dksX16_areThings_0 13 rfl rfl)
theorem dX16_areThings_14 : decode cX16_areThings 14 = .ok (.goto 4, 3) := dk_167 0 4 (dk_at dksX16_areThings_0 14 rfl rfl)
theorem dX16_areThings_17 : decode cX16_areThings 17 = .ok (.iconst 0, 1) := dk_3 (dk_at dksX16_areThings_0 17 rfl rfl)
theorem dX16_areThings_18 : decode cX16_areThings 18 = .ok (.ireturn, 1) := dk_172 (dk_at dksX16_areThings_0 18 rfl rfl)
abbrev cX16_reach : ByteArray := prog_28_method_36_code
def yX16_reach : MethodName := ⟨RX16, "reach", "()I"⟩
def dkwX16_reach_0 : List UInt8 := [42, 42, 180, 0, 109, 3, 182, 0, 162, 172]
abbrev dktX16_reach_0 : List UInt8 := dkwX16_reach_0 ++ []
theorem dksX16_reach_0 : cX16_reach.data.toList.drop 0 = dktX16_reach_0 := by decide +kernel
theorem dX16_reach_0 : decode cX16_reach 0 = .ok (.aload_n 0, 1) := dk_42 (dk_at dksX16_reach_0 0 rfl rfl)
theorem dX16_reach_1 : decode cX16_reach 1 = .ok (.aload_n 0, 1) := dk_42 (dk_at dksX16_reach_0 1 rfl rfl)
theorem dX16_reach_2 : decode cX16_reach 2 = .ok (.getfield 109, 3) := dk_180 0 109 (dk_at dksX16_reach_0 2 rfl rfl)
theorem dX16_reach_5 : decode cX16_reach 5 = .ok (.iconst 0, 1) := dk_3 (dk_at dksX16_reach_0 5 rfl rfl)
theorem dX16_reach_6 : decode cX16_reach 6 = .ok (.invokevirtual 162, 3) := dk_182 0 162 (dk_at dksX16_reach_0 6 rfl rfl)
theorem dX16_reach_9 : decode cX16_reach 9 = .ok (.ireturn, 1) := dk_172 (dk_at dksX16_reach_0 9 rfl rfl)
abbrev cX16_reachOf : ByteArray := prog_28_method_28_code
def yX16_reachOf : MethodName := ⟨RX16, "reachOf", "(II)I"⟩
def dkwX16_reachOf_1 : List UInt8 := [29, 182, 0, 152, 28, 2, 130, 126, 54, 4, 167, 255, 235, 29, 172]
abbrev dktX16_reachOf_1 : List UInt8 := dkwX16_reachOf_1 ++ []
def dkwX16_reachOf_0 : List UInt8 := [27, 62, 42, 29, 182, 0, 152, 28, 2, 130, 126, 54, 4, 21, 4, 153, 0, 22, 29, 21, 4, 128, 62, 42]
abbrev dktX16_reachOf_0 : List UInt8 := dkwX16_reachOf_0 ++ dktX16_reachOf_1
theorem dksX16_reachOf_0 : cX16_reachOf.data.toList.drop 0 = dktX16_reachOf_0 := by decide +kernel
theorem dksX16_reachOf_1 : cX16_reachOf.data.toList.drop 24 = dktX16_reachOf_1 := dk_seg dksX16_reachOf_0 24 rfl rfl
theorem dX16_reachOf_0 : decode cX16_reachOf 0 = .ok (.iload_n 1, 1) := dk_27 (dk_at dksX16_reachOf_0 0 rfl rfl)
theorem dX16_reachOf_1 : decode cX16_reachOf 1 = .ok (.istore_n 3, 1) := dk_62 (dk_at dksX16_reachOf_0 1 rfl rfl)
theorem dX16_reachOf_2 : decode cX16_reachOf 2 = .ok (.aload_n 0, 1) := dk_42 (dk_at dksX16_reachOf_0 2 rfl rfl)
theorem dX16_reachOf_3 : decode cX16_reachOf 3 = .ok (.iload_n 3, 1) := dk_29 (dk_at dksX16_reachOf_0 3 rfl rfl)
theorem dX16_reachOf_4 : decode cX16_reachOf 4 = .ok (.invokevirtual 152, 3) := dk_182 0 152 (dk_at dksX16_reachOf_0 4 rfl rfl)
theorem dX16_reachOf_7 : decode cX16_reachOf 7 = .ok (.iload_n 2, 1) := dk_28 (dk_at dksX16_reachOf_0 7 rfl rfl)
theorem dX16_reachOf_8 : decode cX16_reachOf 8 = .ok (.iconst (-1), 1) := dk_2 (dk_at dksX16_reachOf_0 8 rfl rfl)
theorem dX16_reachOf_9 : decode cX16_reachOf 9 = .ok (.ixor, 1) := dk_130 (dk_at dksX16_reachOf_0 9 rfl rfl)
theorem dX16_reachOf_10 : decode cX16_reachOf 10 = .ok (.iand, 1) := dk_126 (dk_at dksX16_reachOf_0 10 rfl rfl)
theorem dX16_reachOf_11 : decode cX16_reachOf 11 = .ok (.istore 4, 2) := dk_54 4 (dk_at dksX16_reachOf_0 11 rfl rfl)
theorem dX16_reachOf_13 : decode cX16_reachOf 13 = .ok (.iload 4, 2) := dk_21 4 (dk_at dksX16_reachOf_0 13 rfl rfl)
theorem dX16_reachOf_15 : decode cX16_reachOf 15 = .ok (.ifCond .eq 22, 3) := dk_153 0 22 (dk_at dksX16_reachOf_0 15 rfl rfl)
theorem dX16_reachOf_18 : decode cX16_reachOf 18 = .ok (.iload_n 3, 1) := dk_29 (dk_at dksX16_reachOf_0 18 rfl rfl)
theorem dX16_reachOf_19 : decode cX16_reachOf 19 = .ok (.iload 4, 2) := dk_21 4 (dk_at dksX16_reachOf_0 19 rfl rfl)
theorem dX16_reachOf_21 : decode cX16_reachOf 21 = .ok (.ior, 1) := dk_128 (dk_at dksX16_reachOf_0 21 rfl rfl)
theorem dX16_reachOf_22 : decode cX16_reachOf 22 = .ok (.istore_n 3, 1) := dk_62 (dk_at dksX16_reachOf_0 22 rfl rfl)
theorem dX16_reachOf_23 : decode cX16_reachOf 23 = .ok (.aload_n 0, 1) := dk_42 (dk_at dksX16_reachOf_0 23 rfl rfl)
theorem dX16_reachOf_24 : decode cX16_reachOf 24 = .ok (.iload_n 3, 1) := dk_29 (dk_at dksX16_reachOf_1 0 rfl rfl)
theorem dX16_reachOf_25 : decode cX16_reachOf 25 = .ok (.invokevirtual 152, 3) := dk_182 0 152 (dk_at dksX16_reachOf_1 1 rfl rfl)
theorem dX16_reachOf_28 : decode cX16_reachOf 28 = .ok (.iload_n 2, 1) := dk_28 (dk_at dksX16_reachOf_1 4 rfl rfl)
theorem dX16_reachOf_29 : decode cX16_reachOf 29 = .ok (.iconst (-1), 1) := dk_2 (dk_at dksX16_reachOf_1 5 rfl rfl)
theorem dX16_reachOf_30 : decode cX16_reachOf 30 = .ok (.ixor, 1) := dk_130 (dk_at dksX16_reachOf_1 6 rfl rfl)
theorem dX16_reachOf_31 : decode cX16_reachOf 31 = .ok (.iand, 1) := dk_126 (dk_at dksX16_reachOf_1 7 rfl rfl)
theorem dX16_reachOf_32 : decode cX16_reachOf 32 = .ok (.istore 4, 2) := dk_54 4 (dk_at dksX16_reachOf_1 8 rfl rfl)
theorem dX16_reachOf_34 : decode cX16_reachOf 34 = .ok (.goto (-21), 3) := dk_167 255 235 (dk_at dksX16_reachOf_1 10 rfl rfl)
theorem dX16_reachOf_37 : decode cX16_reachOf 37 = .ok (.iload_n 3, 1) := dk_29 (dk_at dksX16_reachOf_1 13 rfl rfl)
theorem dX16_reachOf_38 : decode cX16_reachOf 38 = .ok (.ireturn, 1) := dk_172 (dk_at dksX16_reachOf_1 14 rfl rfl)
abbrev cX16_soonest : ByteArray := prog_28_method_39_code
def yX16_soonest : MethodName := ⟨RX16, "soonest", "(II)I"⟩
def dkwX16_soonest_6 : List UInt8 := [132, 4, 1, 167, 255, 209, 16, 247, 172]
abbrev dktX16_soonest_6 : List UInt8 := dkwX16_soonest_6 ++ []
def dkwX16_soonest_5 : List UInt8 := [180, 0, 109, 3, 182, 0, 169, 42, 180, 0, 46, 42, 180, 0, 109, 46, 160, 0, 6, 21, 4, 172]
abbrev dktX16_soonest_5 : List UInt8 := dkwX16_soonest_5 ++ dktX16_soonest_6
def dkwX16_soonest_4 : List UInt8 := [21, 4, 42, 180, 0, 60, 162, 0, 44, 29, 21, 4, 184, 0, 146, 153, 0, 29, 42, 21, 4, 42]
abbrev dktX16_soonest_4 : List UInt8 := dkwX16_soonest_4 ++ dktX16_soonest_5
def dkwX16_soonest_3 : List UInt8 := [42, 180, 0, 109, 46, 154, 0, 7, 3, 167, 0, 11, 42, 42, 180, 0, 109, 182, 0, 152, 62, 3, 54, 4]
abbrev dktX16_soonest_3 : List UInt8 := dkwX16_soonest_3 ++ dktX16_soonest_4
def dkwX16_soonest_2 : List UInt8 := [161, 0, 6, 16, 247, 172, 28, 154, 0, 13, 42, 180, 0, 46, 42, 180, 0, 109, 46, 172, 42, 180, 0, 46]
abbrev dktX16_soonest_2 : List UInt8 := dkwX16_soonest_2 ++ dktX16_soonest_3
def dkwX16_soonest_1 : List UInt8 := [16, 254, 182, 0, 75, 172, 42, 27, 3, 182, 0, 173, 42, 180, 0, 46, 42, 180, 0, 109, 46, 18, 168]
abbrev dktX16_soonest_1 : List UInt8 := dkwX16_soonest_1 ++ dktX16_soonest_2
def dkwX16_soonest_0 : List UInt8 := [42, 27, 182, 0, 159, 154, 0, 9, 42, 2, 182, 0, 75, 172, 28, 3, 4, 184, 0, 86, 154, 0, 10, 42]
abbrev dktX16_soonest_0 : List UInt8 := dkwX16_soonest_0 ++ dktX16_soonest_1
theorem dksX16_soonest_0 : cX16_soonest.data.toList.drop 0 = dktX16_soonest_0 := by decide +kernel
theorem dksX16_soonest_1 : cX16_soonest.data.toList.drop 24 = dktX16_soonest_1 := dk_seg dksX16_soonest_0 24 rfl rfl
theorem dksX16_soonest_2 : cX16_soonest.data.toList.drop 47 = dktX16_soonest_2 := dk_seg dksX16_soonest_1 23 rfl rfl
theorem dksX16_soonest_3 : cX16_soonest.data.toList.drop 71 = dktX16_soonest_3 := dk_seg dksX16_soonest_2 24 rfl rfl
theorem dksX16_soonest_4 : cX16_soonest.data.toList.drop 95 = dktX16_soonest_4 := dk_seg dksX16_soonest_3 24 rfl rfl
theorem dksX16_soonest_5 : cX16_soonest.data.toList.drop 117 = dktX16_soonest_5 := dk_seg dksX16_soonest_4 22 rfl rfl
theorem dksX16_soonest_6 : cX16_soonest.data.toList.drop 139 = dktX16_soonest_6 := dk_seg dksX16_soonest_5 22 rfl rfl
theorem dX16_soonest_0 : decode cX16_soonest 0 = .ok (.aload_n 0, 1) := dk_42 (dk_at dksX16_soonest_0 0 rfl rfl)
theorem dX16_soonest_1 : decode cX16_soonest 1 = .ok (.iload_n 1, 1) := dk_27 (dk_at dksX16_soonest_0 1 rfl rfl)
theorem dX16_soonest_2 : decode cX16_soonest 2 = .ok (.invokevirtual 159, 3) := dk_182 0 159 (dk_at dksX16_soonest_0 2 rfl rfl)
theorem dX16_soonest_5 : decode cX16_soonest 5 = .ok (.ifCond .ne 9, 3) := dk_154 0 9 (dk_at dksX16_soonest_0 5 rfl rfl)
theorem dX16_soonest_8 : decode cX16_soonest 8 = .ok (.aload_n 0, 1) := dk_42 (dk_at dksX16_soonest_0 8 rfl rfl)
theorem dX16_soonest_9 : decode cX16_soonest 9 = .ok (.iconst (-1), 1) := dk_2 (dk_at dksX16_soonest_0 9 rfl rfl)
theorem dX16_soonest_10 : decode cX16_soonest 10 = .ok (.invokevirtual 75, 3) := dk_182 0 75 (dk_at dksX16_soonest_0 10 rfl rfl)
theorem dX16_soonest_13 : decode cX16_soonest 13 = .ok (.ireturn, 1) := dk_172 (dk_at dksX16_soonest_0 13 rfl rfl)
theorem dX16_soonest_14 : decode cX16_soonest 14 = .ok (.iload_n 2, 1) := dk_28 (dk_at dksX16_soonest_0 14 rfl rfl)
theorem dX16_soonest_15 : decode cX16_soonest 15 = .ok (.iconst 0, 1) := dk_3 (dk_at dksX16_soonest_0 15 rfl rfl)
theorem dX16_soonest_16 : decode cX16_soonest 16 = .ok (.iconst 1, 1) := dk_4 (dk_at dksX16_soonest_0 16 rfl rfl)
theorem dX16_soonest_17 : decode cX16_soonest 17 = .ok (.invokestatic 86, 3) := dk_184 0 86 (dk_at dksX16_soonest_0 17 rfl rfl)
theorem dX16_soonest_20 : decode cX16_soonest 20 = .ok (.ifCond .ne 10, 3) := dk_154 0 10 (dk_at dksX16_soonest_0 20 rfl rfl)
theorem dX16_soonest_23 : decode cX16_soonest 23 = .ok (.aload_n 0, 1) := dk_42 (dk_at dksX16_soonest_0 23 rfl rfl)
theorem dX16_soonest_24 : decode cX16_soonest 24 = .ok (.bipush (-2), 2) := dk_16 254 (dk_at dksX16_soonest_1 0 rfl rfl)
theorem dX16_soonest_26 : decode cX16_soonest 26 = .ok (.invokevirtual 75, 3) := dk_182 0 75 (dk_at dksX16_soonest_1 2 rfl rfl)
theorem dX16_soonest_29 : decode cX16_soonest 29 = .ok (.ireturn, 1) := dk_172 (dk_at dksX16_soonest_1 5 rfl rfl)
theorem dX16_soonest_30 : decode cX16_soonest 30 = .ok (.aload_n 0, 1) := dk_42 (dk_at dksX16_soonest_1 6 rfl rfl)
theorem dX16_soonest_31 : decode cX16_soonest 31 = .ok (.iload_n 1, 1) := dk_27 (dk_at dksX16_soonest_1 7 rfl rfl)
theorem dX16_soonest_32 : decode cX16_soonest 32 = .ok (.iconst 0, 1) := dk_3 (dk_at dksX16_soonest_1 8 rfl rfl)
theorem dX16_soonest_33 : decode cX16_soonest 33 = .ok (.invokevirtual 173, 3) := dk_182 0 173 (dk_at dksX16_soonest_1 9 rfl rfl)
theorem dX16_soonest_36 : decode cX16_soonest 36 = .ok (.aload_n 0, 1) := dk_42 (dk_at dksX16_soonest_1 12 rfl rfl)
theorem dX16_soonest_37 : decode cX16_soonest 37 = .ok (.getfield 46, 3) := dk_180 0 46 (dk_at dksX16_soonest_1 13 rfl rfl)
theorem dX16_soonest_40 : decode cX16_soonest 40 = .ok (.aload_n 0, 1) := dk_42 (dk_at dksX16_soonest_1 16 rfl rfl)
theorem dX16_soonest_41 : decode cX16_soonest 41 = .ok (.getfield 109, 3) := dk_180 0 109 (dk_at dksX16_soonest_1 17 rfl rfl)
theorem dX16_soonest_44 : decode cX16_soonest 44 = .ok (.iaload, 1) := dk_46 (dk_at dksX16_soonest_1 20 rfl rfl)
theorem dX16_soonest_45 : decode cX16_soonest 45 = .ok (.ldc 168, 2) := dk_18 168 (dk_at dksX16_soonest_1 21 rfl rfl)
theorem dX16_soonest_47 : decode cX16_soonest 47 = .ok (.if_icmp .lt 6, 3) := dk_161 0 6 (dk_at dksX16_soonest_2 0 rfl rfl)
theorem dX16_soonest_50 : decode cX16_soonest 50 = .ok (.bipush (-9), 2) := dk_16 247 (dk_at dksX16_soonest_2 3 rfl rfl)
theorem dX16_soonest_52 : decode cX16_soonest 52 = .ok (.ireturn, 1) := dk_172 (dk_at dksX16_soonest_2 5 rfl rfl)
theorem dX16_soonest_53 : decode cX16_soonest 53 = .ok (.iload_n 2, 1) := dk_28 (dk_at dksX16_soonest_2 6 rfl rfl)
theorem dX16_soonest_54 : decode cX16_soonest 54 = .ok (.ifCond .ne 13, 3) := dk_154 0 13 (dk_at dksX16_soonest_2 7 rfl rfl)
theorem dX16_soonest_57 : decode cX16_soonest 57 = .ok (.aload_n 0, 1) := dk_42 (dk_at dksX16_soonest_2 10 rfl rfl)
theorem dX16_soonest_58 : decode cX16_soonest 58 = .ok (.getfield 46, 3) := dk_180 0 46 (dk_at dksX16_soonest_2 11 rfl rfl)
theorem dX16_soonest_61 : decode cX16_soonest 61 = .ok (.aload_n 0, 1) := dk_42 (dk_at dksX16_soonest_2 14 rfl rfl)
theorem dX16_soonest_62 : decode cX16_soonest 62 = .ok (.getfield 109, 3) := dk_180 0 109 (dk_at dksX16_soonest_2 15 rfl rfl)
theorem dX16_soonest_65 : decode cX16_soonest 65 = .ok (.iaload, 1) := dk_46 (dk_at dksX16_soonest_2 18 rfl rfl)
theorem dX16_soonest_66 : decode cX16_soonest 66 = .ok (.ireturn, 1) := dk_172 (dk_at dksX16_soonest_2 19 rfl rfl)
theorem dX16_soonest_67 : decode cX16_soonest 67 = .ok (.aload_n 0, 1) := dk_42 (dk_at dksX16_soonest_2 20 rfl rfl)
theorem dX16_soonest_68 : decode cX16_soonest 68 = .ok (.getfield 46, 3) := dk_180 0 46 (dk_at dksX16_soonest_2 21 rfl rfl)
theorem dX16_soonest_71 : decode cX16_soonest 71 = .ok (.aload_n 0, 1) := dk_42 (dk_at dksX16_soonest_3 0 rfl rfl)
theorem dX16_soonest_72 : decode cX16_soonest 72 = .ok (.getfield 109, 3) := dk_180 0 109 (dk_at dksX16_soonest_3 1 rfl rfl)
theorem dX16_soonest_75 : decode cX16_soonest 75 = .ok (.iaload, 1) := dk_46 (dk_at dksX16_soonest_3 4 rfl rfl)
theorem dX16_soonest_76 : decode cX16_soonest 76 = .ok (.ifCond .ne 7, 3) := dk_154 0 7 (dk_at dksX16_soonest_3 5 rfl rfl)
theorem dX16_soonest_79 : decode cX16_soonest 79 = .ok (.iconst 0, 1) := dk_3 (dk_at dksX16_soonest_3 8 rfl rfl)
theorem dX16_soonest_80 : decode cX16_soonest 80 = .ok (.goto 11, 3) := dk_167 0 11 (dk_at dksX16_soonest_3 9 rfl rfl)
theorem dX16_soonest_83 : decode cX16_soonest 83 = .ok (.aload_n 0, 1) := dk_42 (dk_at dksX16_soonest_3 12 rfl rfl)
theorem dX16_soonest_84 : decode cX16_soonest 84 = .ok (.aload_n 0, 1) := dk_42 (dk_at dksX16_soonest_3 13 rfl rfl)
theorem dX16_soonest_85 : decode cX16_soonest 85 = .ok (.getfield 109, 3) := dk_180 0 109 (dk_at dksX16_soonest_3 14 rfl rfl)
theorem dX16_soonest_88 : decode cX16_soonest 88 = .ok (.invokevirtual 152, 3) := dk_182 0 152 (dk_at dksX16_soonest_3 17 rfl rfl)
theorem dX16_soonest_91 : decode cX16_soonest 91 = .ok (.istore_n 3, 1) := dk_62 (dk_at dksX16_soonest_3 20 rfl rfl)
theorem dX16_soonest_92 : decode cX16_soonest 92 = .ok (.iconst 0, 1) := dk_3 (dk_at dksX16_soonest_3 21 rfl rfl)
theorem dX16_soonest_93 : decode cX16_soonest 93 = .ok (.istore 4, 2) := dk_54 4 (dk_at dksX16_soonest_3 22 rfl rfl)
theorem dX16_soonest_95 : decode cX16_soonest 95 = .ok (.iload 4, 2) := dk_21 4 (dk_at dksX16_soonest_4 0 rfl rfl)
theorem dX16_soonest_97 : decode cX16_soonest 97 = .ok (.aload_n 0, 1) := dk_42 (dk_at dksX16_soonest_4 2 rfl rfl)
theorem dX16_soonest_98 : decode cX16_soonest 98 = .ok (.getfield 60, 3) := dk_180 0 60 (dk_at dksX16_soonest_4 3 rfl rfl)
theorem dX16_soonest_101 : decode cX16_soonest 101 = .ok (.if_icmp .ge 44, 3) := dk_162 0 44 (dk_at dksX16_soonest_4 6 rfl rfl)
theorem dX16_soonest_104 : decode cX16_soonest 104 = .ok (.iload_n 3, 1) := dk_29 (dk_at dksX16_soonest_4 9 rfl rfl)
theorem dX16_soonest_105 : decode cX16_soonest 105 = .ok (.iload 4, 2) := dk_21 4 (dk_at dksX16_soonest_4 10 rfl rfl)
theorem dX16_soonest_107 : decode cX16_soonest 107 = .ok (.invokestatic 146, 3) := dk_184 0 146 (dk_at dksX16_soonest_4 12 rfl rfl)
theorem dX16_soonest_110 : decode cX16_soonest 110 = .ok (.ifCond .eq 29, 3) := dk_153 0 29 (dk_at dksX16_soonest_4 15 rfl rfl)
theorem dX16_soonest_113 : decode cX16_soonest 113 = .ok (.aload_n 0, 1) := dk_42 (dk_at dksX16_soonest_4 18 rfl rfl)
theorem dX16_soonest_114 : decode cX16_soonest 114 = .ok (.iload 4, 2) := dk_21 4 (dk_at dksX16_soonest_4 19 rfl rfl)
theorem dX16_soonest_116 : decode cX16_soonest 116 = .ok (.aload_n 0, 1) := dk_42 (dk_at dksX16_soonest_4 21 rfl rfl)
theorem dX16_soonest_117 : decode cX16_soonest 117 = .ok (.getfield 109, 3) := dk_180 0 109 (dk_at dksX16_soonest_5 0 rfl rfl)
theorem dX16_soonest_120 : decode cX16_soonest 120 = .ok (.iconst 0, 1) := dk_3 (dk_at dksX16_soonest_5 3 rfl rfl)
theorem dX16_soonest_121 : decode cX16_soonest 121 = .ok (.invokevirtual 169, 3) := dk_182 0 169 (dk_at dksX16_soonest_5 4 rfl rfl)
theorem dX16_soonest_124 : decode cX16_soonest 124 = .ok (.aload_n 0, 1) := dk_42 (dk_at dksX16_soonest_5 7 rfl rfl)
theorem dX16_soonest_125 : decode cX16_soonest 125 = .ok (.getfield 46, 3) := dk_180 0 46 (dk_at dksX16_soonest_5 8 rfl rfl)
theorem dX16_soonest_128 : decode cX16_soonest 128 = .ok (.aload_n 0, 1) := dk_42 (dk_at dksX16_soonest_5 11 rfl rfl)
theorem dX16_soonest_129 : decode cX16_soonest 129 = .ok (.getfield 109, 3) := dk_180 0 109 (dk_at dksX16_soonest_5 12 rfl rfl)
theorem dX16_soonest_132 : decode cX16_soonest 132 = .ok (.iaload, 1) := dk_46 (dk_at dksX16_soonest_5 15 rfl rfl)
theorem dX16_soonest_133 : decode cX16_soonest 133 = .ok (.if_icmp .ne 6, 3) := dk_160 0 6 (dk_at dksX16_soonest_5 16 rfl rfl)
theorem dX16_soonest_136 : decode cX16_soonest 136 = .ok (.iload 4, 2) := dk_21 4 (dk_at dksX16_soonest_5 19 rfl rfl)
theorem dX16_soonest_138 : decode cX16_soonest 138 = .ok (.ireturn, 1) := dk_172 (dk_at dksX16_soonest_5 21 rfl rfl)
theorem dX16_soonest_139 : decode cX16_soonest 139 = .ok (.iinc 4 1, 3) := dk_132 4 1 (dk_at dksX16_soonest_6 0 rfl rfl)
theorem dX16_soonest_142 : decode cX16_soonest 142 = .ok (.goto (-47), 3) := dk_167 255 209 (dk_at dksX16_soonest_6 3 rfl rfl)
theorem dX16_soonest_145 : decode cX16_soonest 145 = .ok (.bipush (-9), 2) := dk_16 247 (dk_at dksX16_soonest_6 6 rfl rfl)
theorem dX16_soonest_147 : decode cX16_soonest 147 = .ok (.ireturn, 1) := dk_172 (dk_at dksX16_soonest_6 8 rfl rfl)
abbrev cX16_findRest : ByteArray := prog_28_method_37_code
def yX16_findRest : MethodName := ⟨RX16, "findRest", "(IZ)V"⟩
def dkwX16_findRest_4 : List UInt8 := [42, 180, 0, 46, 29, 21, 6, 79, 132, 5, 1, 167, 255, 202, 132, 3, 255, 167, 255, 149, 177]
abbrev dktX16_findRest_4 : List UInt8 := dkwX16_findRest_4 ++ []
def dkwX16_findRest_3 : List UInt8 := [167, 0, 32, 42, 21, 5, 29, 28, 182, 0, 169, 54, 6, 21, 6, 42, 180, 0, 46, 29, 46, 162, 0, 11]
abbrev dktX16_findRest_3 : List UInt8 := dkwX16_findRest_3 ++ dktX16_findRest_4
def dkwX16_findRest_2 : List UInt8 := [54, 4, 3, 54, 5, 21, 5, 42, 180, 0, 60, 162, 0, 51, 21, 4, 21, 5, 184, 0, 146, 154, 0, 6]
abbrev dktX16_findRest_2 : List UInt8 := dkwX16_findRest_2 ++ dktX16_findRest_3
def dkwX16_findRest_1 : List UInt8 := [167, 0, 5, 18, 168, 79, 42, 180, 0, 46, 29, 46, 154, 0, 7, 3, 167, 0, 8, 42, 29, 182, 0, 152]
abbrev dktX16_findRest_1 : List UInt8 := dkwX16_findRest_1 ++ dktX16_findRest_2
def dkwX16_findRest_0 : List UInt8 := [42, 182, 0, 165, 62, 29, 155, 0, 109, 42, 180, 0, 46, 29, 27, 29, 2, 130, 126, 154, 0, 7, 3]
abbrev dktX16_findRest_0 : List UInt8 := dkwX16_findRest_0 ++ dktX16_findRest_1
theorem dksX16_findRest_0 : cX16_findRest.data.toList.drop 0 = dktX16_findRest_0 := by decide +kernel
theorem dksX16_findRest_1 : cX16_findRest.data.toList.drop 23 = dktX16_findRest_1 := dk_seg dksX16_findRest_0 23 rfl rfl
theorem dksX16_findRest_2 : cX16_findRest.data.toList.drop 47 = dktX16_findRest_2 := dk_seg dksX16_findRest_1 24 rfl rfl
theorem dksX16_findRest_3 : cX16_findRest.data.toList.drop 71 = dktX16_findRest_3 := dk_seg dksX16_findRest_2 24 rfl rfl
theorem dksX16_findRest_4 : cX16_findRest.data.toList.drop 95 = dktX16_findRest_4 := dk_seg dksX16_findRest_3 24 rfl rfl
theorem dX16_findRest_0 : decode cX16_findRest 0 = .ok (.aload_n 0, 1) := dk_42 (dk_at dksX16_findRest_0 0 rfl rfl)
theorem dX16_findRest_1 : decode cX16_findRest 1 = .ok (.invokevirtual 165, 3) := dk_182 0 165 (dk_at dksX16_findRest_0 1 rfl rfl)
theorem dX16_findRest_4 : decode cX16_findRest 4 = .ok (.istore_n 3, 1) := dk_62 (dk_at dksX16_findRest_0 4 rfl rfl)
theorem dX16_findRest_5 : decode cX16_findRest 5 = .ok (.iload_n 3, 1) := dk_29 (dk_at dksX16_findRest_0 5 rfl rfl)
theorem dX16_findRest_6 : decode cX16_findRest 6 = .ok (.ifCond .lt 109, 3) := dk_155 0 109 (dk_at dksX16_findRest_0 6 rfl rfl)
theorem dX16_findRest_9 : decode cX16_findRest 9 = .ok (.aload_n 0, 1) := dk_42 (dk_at dksX16_findRest_0 9 rfl rfl)
theorem dX16_findRest_10 : decode cX16_findRest 10 = .ok (.getfield 46, 3) := dk_180 0 46 (dk_at dksX16_findRest_0 10 rfl rfl)
theorem dX16_findRest_13 : decode cX16_findRest 13 = .ok (.iload_n 3, 1) := dk_29 (dk_at dksX16_findRest_0 13 rfl rfl)
theorem dX16_findRest_14 : decode cX16_findRest 14 = .ok (.iload_n 1, 1) := dk_27 (dk_at dksX16_findRest_0 14 rfl rfl)
theorem dX16_findRest_15 : decode cX16_findRest 15 = .ok (.iload_n 3, 1) := dk_29 (dk_at dksX16_findRest_0 15 rfl rfl)
theorem dX16_findRest_16 : decode cX16_findRest 16 = .ok (.iconst (-1), 1) := dk_2 (dk_at dksX16_findRest_0 16 rfl rfl)
theorem dX16_findRest_17 : decode cX16_findRest 17 = .ok (.ixor, 1) := dk_130 (dk_at dksX16_findRest_0 17 rfl rfl)
theorem dX16_findRest_18 : decode cX16_findRest 18 = .ok (.iand, 1) := dk_126 (dk_at dksX16_findRest_0 18 rfl rfl)
theorem dX16_findRest_19 : decode cX16_findRest 19 = .ok (.ifCond .ne 7, 3) := dk_154 0 7 (dk_at dksX16_findRest_0 19 rfl rfl)
theorem dX16_findRest_22 : decode cX16_findRest 22 = .ok (.iconst 0, 1) := dk_3 (dk_at dksX16_findRest_0 22 rfl rfl)
theorem dX16_findRest_23 : decode cX16_findRest 23 = .ok (.goto 5, 3) := dk_167 0 5 (dk_at dksX16_findRest_1 0 rfl rfl)
theorem dX16_findRest_26 : decode cX16_findRest 26 = .ok (.ldc 168, 2) := dk_18 168 (dk_at dksX16_findRest_1 3 rfl rfl)
theorem dX16_findRest_28 : decode cX16_findRest 28 = .ok (.iastore, 1) := dk_79 (dk_at dksX16_findRest_1 5 rfl rfl)
theorem dX16_findRest_29 : decode cX16_findRest 29 = .ok (.aload_n 0, 1) := dk_42 (dk_at dksX16_findRest_1 6 rfl rfl)
theorem dX16_findRest_30 : decode cX16_findRest 30 = .ok (.getfield 46, 3) := dk_180 0 46 (dk_at dksX16_findRest_1 7 rfl rfl)
theorem dX16_findRest_33 : decode cX16_findRest 33 = .ok (.iload_n 3, 1) := dk_29 (dk_at dksX16_findRest_1 10 rfl rfl)
theorem dX16_findRest_34 : decode cX16_findRest 34 = .ok (.iaload, 1) := dk_46 (dk_at dksX16_findRest_1 11 rfl rfl)
theorem dX16_findRest_35 : decode cX16_findRest 35 = .ok (.ifCond .ne 7, 3) := dk_154 0 7 (dk_at dksX16_findRest_1 12 rfl rfl)
theorem dX16_findRest_38 : decode cX16_findRest 38 = .ok (.iconst 0, 1) := dk_3 (dk_at dksX16_findRest_1 15 rfl rfl)
theorem dX16_findRest_39 : decode cX16_findRest 39 = .ok (.goto 8, 3) := dk_167 0 8 (dk_at dksX16_findRest_1 16 rfl rfl)
theorem dX16_findRest_42 : decode cX16_findRest 42 = .ok (.aload_n 0, 1) := dk_42 (dk_at dksX16_findRest_1 19 rfl rfl)
theorem dX16_findRest_43 : decode cX16_findRest 43 = .ok (.iload_n 3, 1) := dk_29 (dk_at dksX16_findRest_1 20 rfl rfl)
theorem dX16_findRest_44 : decode cX16_findRest 44 = .ok (.invokevirtual 152, 3) := dk_182 0 152 (dk_at dksX16_findRest_1 21 rfl rfl)
theorem dX16_findRest_47 : decode cX16_findRest 47 = .ok (.istore 4, 2) := dk_54 4 (dk_at dksX16_findRest_2 0 rfl rfl)
theorem dX16_findRest_49 : decode cX16_findRest 49 = .ok (.iconst 0, 1) := dk_3 (dk_at dksX16_findRest_2 2 rfl rfl)
theorem dX16_findRest_50 : decode cX16_findRest 50 = .ok (.istore 5, 2) := dk_54 5 (dk_at dksX16_findRest_2 3 rfl rfl)
theorem dX16_findRest_52 : decode cX16_findRest 52 = .ok (.iload 5, 2) := dk_21 5 (dk_at dksX16_findRest_2 5 rfl rfl)
theorem dX16_findRest_54 : decode cX16_findRest 54 = .ok (.aload_n 0, 1) := dk_42 (dk_at dksX16_findRest_2 7 rfl rfl)
theorem dX16_findRest_55 : decode cX16_findRest 55 = .ok (.getfield 60, 3) := dk_180 0 60 (dk_at dksX16_findRest_2 8 rfl rfl)
theorem dX16_findRest_58 : decode cX16_findRest 58 = .ok (.if_icmp .ge 51, 3) := dk_162 0 51 (dk_at dksX16_findRest_2 11 rfl rfl)
theorem dX16_findRest_61 : decode cX16_findRest 61 = .ok (.iload 4, 2) := dk_21 4 (dk_at dksX16_findRest_2 14 rfl rfl)
theorem dX16_findRest_63 : decode cX16_findRest 63 = .ok (.iload 5, 2) := dk_21 5 (dk_at dksX16_findRest_2 16 rfl rfl)
theorem dX16_findRest_65 : decode cX16_findRest 65 = .ok (.invokestatic 146, 3) := dk_184 0 146 (dk_at dksX16_findRest_2 18 rfl rfl)
theorem dX16_findRest_68 : decode cX16_findRest 68 = .ok (.ifCond .ne 6, 3) := dk_154 0 6 (dk_at dksX16_findRest_2 21 rfl rfl)
theorem dX16_findRest_71 : decode cX16_findRest 71 = .ok (.goto 32, 3) := dk_167 0 32 (dk_at dksX16_findRest_3 0 rfl rfl)
theorem dX16_findRest_74 : decode cX16_findRest 74 = .ok (.aload_n 0, 1) := dk_42 (dk_at dksX16_findRest_3 3 rfl rfl)
theorem dX16_findRest_75 : decode cX16_findRest 75 = .ok (.iload 5, 2) := dk_21 5 (dk_at dksX16_findRest_3 4 rfl rfl)
theorem dX16_findRest_77 : decode cX16_findRest 77 = .ok (.iload_n 3, 1) := dk_29 (dk_at dksX16_findRest_3 6 rfl rfl)
theorem dX16_findRest_78 : decode cX16_findRest 78 = .ok (.iload_n 2, 1) := dk_28 (dk_at dksX16_findRest_3 7 rfl rfl)
theorem dX16_findRest_79 : decode cX16_findRest 79 = .ok (.invokevirtual 169, 3) := dk_182 0 169 (dk_at dksX16_findRest_3 8 rfl rfl)
theorem dX16_findRest_82 : decode cX16_findRest 82 = .ok (.istore 6, 2) := dk_54 6 (dk_at dksX16_findRest_3 11 rfl rfl)
theorem dX16_findRest_84 : decode cX16_findRest 84 = .ok (.iload 6, 2) := dk_21 6 (dk_at dksX16_findRest_3 13 rfl rfl)
theorem dX16_findRest_86 : decode cX16_findRest 86 = .ok (.aload_n 0, 1) := dk_42 (dk_at dksX16_findRest_3 15 rfl rfl)
theorem dX16_findRest_87 : decode cX16_findRest 87 = .ok (.getfield 46, 3) := dk_180 0 46 (dk_at dksX16_findRest_3 16 rfl rfl)
theorem dX16_findRest_90 : decode cX16_findRest 90 = .ok (.iload_n 3, 1) := dk_29 (dk_at dksX16_findRest_3 19 rfl rfl)
theorem dX16_findRest_91 : decode cX16_findRest 91 = .ok (.iaload, 1) := dk_46 (dk_at dksX16_findRest_3 20 rfl rfl)
theorem dX16_findRest_92 : decode cX16_findRest 92 = .ok (.if_icmp .ge 11, 3) := dk_162 0 11 (dk_at dksX16_findRest_3 21 rfl rfl)
theorem dX16_findRest_95 : decode cX16_findRest 95 = .ok (.aload_n 0, 1) := dk_42 (dk_at dksX16_findRest_4 0 rfl rfl)
theorem dX16_findRest_96 : decode cX16_findRest 96 = .ok (.getfield 46, 3) := dk_180 0 46 (dk_at dksX16_findRest_4 1 rfl rfl)
theorem dX16_findRest_99 : decode cX16_findRest 99 = .ok (.iload_n 3, 1) := dk_29 (dk_at dksX16_findRest_4 4 rfl rfl)
theorem dX16_findRest_100 : decode cX16_findRest 100 = .ok (.iload 6, 2) := dk_21 6 (dk_at dksX16_findRest_4 5 rfl rfl)
theorem dX16_findRest_102 : decode cX16_findRest 102 = .ok (.iastore, 1) := dk_79 (dk_at dksX16_findRest_4 7 rfl rfl)
theorem dX16_findRest_103 : decode cX16_findRest 103 = .ok (.iinc 5 1, 3) := dk_132 5 1 (dk_at dksX16_findRest_4 8 rfl rfl)
theorem dX16_findRest_106 : decode cX16_findRest 106 = .ok (.goto (-54), 3) := dk_167 255 202 (dk_at dksX16_findRest_4 11 rfl rfl)
theorem dX16_findRest_109 : decode cX16_findRest 109 = .ok (.iinc 3 (-1), 3) := dk_132 3 255 (dk_at dksX16_findRest_4 14 rfl rfl)
theorem dX16_findRest_112 : decode cX16_findRest 112 = .ok (.goto (-107), 3) := dk_167 255 149 (dk_at dksX16_findRest_4 17 rfl rfl)
theorem dX16_findRest_115 : decode cX16_findRest 115 = .ok (.return_, 1) := dk_177 (dk_at dksX16_findRest_4 20 rfl rfl)
abbrev cX16_whole : ByteArray := prog_28_method_29_code
def yX16_whole : MethodName := ⟨RX16, "whole", "()I"⟩
def dkwX16_whole_0 : List UInt8 := [4, 42, 180, 0, 60, 120, 4, 100, 172]
abbrev dktX16_whole_0 : List UInt8 := dkwX16_whole_0 ++ []
theorem dksX16_whole_0 : cX16_whole.data.toList.drop 0 = dktX16_whole_0 := by decide +kernel
theorem dX16_whole_0 : decode cX16_whole 0 = .ok (.iconst 1, 1) := dk_4 (dk_at dksX16_whole_0 0 rfl rfl)
theorem dX16_whole_1 : decode cX16_whole 1 = .ok (.aload_n 0, 1) := dk_42 (dk_at dksX16_whole_0 1 rfl rfl)
theorem dX16_whole_2 : decode cX16_whole 2 = .ok (.getfield 60, 3) := dk_180 0 60 (dk_at dksX16_whole_0 2 rfl rfl)
theorem dX16_whole_5 : decode cX16_whole 5 = .ok (.ishl, 1) := dk_120 (dk_at dksX16_whole_0 5 rfl rfl)
theorem dX16_whole_6 : decode cX16_whole 6 = .ok (.iconst 1, 1) := dk_4 (dk_at dksX16_whole_0 6 rfl rfl)
theorem dX16_whole_7 : decode cX16_whole 7 = .ok (.isub, 1) := dk_100 (dk_at dksX16_whole_0 7 rfl rfl)
theorem dX16_whole_8 : decode cX16_whole 8 = .ok (.ireturn, 1) := dk_172 (dk_at dksX16_whole_0 8 rfl rfl)
abbrev cX16_restBy : ByteArray := prog_28_method_38_code
def yX16_restBy : MethodName := ⟨RX16, "restBy", "(IIZ)I"⟩
def dkwX16_restBy_1 : List UInt8 := [17, 9, 216, 104, 42, 180, 0, 19, 27, 46, 108, 167, 0, 9, 42, 27, 28, 182, 0, 155, 96, 172]
abbrev dktX16_restBy_1 : List UInt8 := dkwX16_restBy_1 ++ []
def dkwX16_restBy_0 : List UInt8 := [42, 180, 0, 46, 28, 4, 27, 120, 128, 46, 29, 153, 0, 26, 42, 27, 28, 182, 0, 155, 16, 10, 104]
abbrev dktX16_restBy_0 : List UInt8 := dkwX16_restBy_0 ++ dktX16_restBy_1
theorem dksX16_restBy_0 : cX16_restBy.data.toList.drop 0 = dktX16_restBy_0 := by decide +kernel
theorem dksX16_restBy_1 : cX16_restBy.data.toList.drop 23 = dktX16_restBy_1 := dk_seg dksX16_restBy_0 23 rfl rfl
theorem dX16_restBy_0 : decode cX16_restBy 0 = .ok (.aload_n 0, 1) := dk_42 (dk_at dksX16_restBy_0 0 rfl rfl)
theorem dX16_restBy_1 : decode cX16_restBy 1 = .ok (.getfield 46, 3) := dk_180 0 46 (dk_at dksX16_restBy_0 1 rfl rfl)
theorem dX16_restBy_4 : decode cX16_restBy 4 = .ok (.iload_n 2, 1) := dk_28 (dk_at dksX16_restBy_0 4 rfl rfl)
theorem dX16_restBy_5 : decode cX16_restBy 5 = .ok (.iconst 1, 1) := dk_4 (dk_at dksX16_restBy_0 5 rfl rfl)
theorem dX16_restBy_6 : decode cX16_restBy 6 = .ok (.iload_n 1, 1) := dk_27 (dk_at dksX16_restBy_0 6 rfl rfl)
theorem dX16_restBy_7 : decode cX16_restBy 7 = .ok (.ishl, 1) := dk_120 (dk_at dksX16_restBy_0 7 rfl rfl)
theorem dX16_restBy_8 : decode cX16_restBy 8 = .ok (.ior, 1) := dk_128 (dk_at dksX16_restBy_0 8 rfl rfl)
theorem dX16_restBy_9 : decode cX16_restBy 9 = .ok (.iaload, 1) := dk_46 (dk_at dksX16_restBy_0 9 rfl rfl)
theorem dX16_restBy_10 : decode cX16_restBy 10 = .ok (.iload_n 3, 1) := dk_29 (dk_at dksX16_restBy_0 10 rfl rfl)
theorem dX16_restBy_11 : decode cX16_restBy 11 = .ok (.ifCond .eq 26, 3) := dk_153 0 26 (dk_at dksX16_restBy_0 11 rfl rfl)
theorem dX16_restBy_14 : decode cX16_restBy 14 = .ok (.aload_n 0, 1) := dk_42 (dk_at dksX16_restBy_0 14 rfl rfl)
theorem dX16_restBy_15 : decode cX16_restBy 15 = .ok (.iload_n 1, 1) := dk_27 (dk_at dksX16_restBy_0 15 rfl rfl)
theorem dX16_restBy_16 : decode cX16_restBy 16 = .ok (.iload_n 2, 1) := dk_28 (dk_at dksX16_restBy_0 16 rfl rfl)
theorem dX16_restBy_17 : decode cX16_restBy 17 = .ok (.invokevirtual 155, 3) := dk_182 0 155 (dk_at dksX16_restBy_0 17 rfl rfl)
theorem dX16_restBy_20 : decode cX16_restBy 20 = .ok (.bipush 10, 2) := dk_16 10 (dk_at dksX16_restBy_0 20 rfl rfl)
theorem dX16_restBy_22 : decode cX16_restBy 22 = .ok (.imul, 1) := dk_104 (dk_at dksX16_restBy_0 22 rfl rfl)
theorem dX16_restBy_23 : decode cX16_restBy 23 = .ok (.sipush 2520, 3) := dk_17 9 216 (dk_at dksX16_restBy_1 0 rfl rfl)
theorem dX16_restBy_26 : decode cX16_restBy 26 = .ok (.imul, 1) := dk_104 (dk_at dksX16_restBy_1 3 rfl rfl)
theorem dX16_restBy_27 : decode cX16_restBy 27 = .ok (.aload_n 0, 1) := dk_42 (dk_at dksX16_restBy_1 4 rfl rfl)
theorem dX16_restBy_28 : decode cX16_restBy 28 = .ok (.getfield 19, 3) := dk_180 0 19 (dk_at dksX16_restBy_1 5 rfl rfl)
theorem dX16_restBy_31 : decode cX16_restBy 31 = .ok (.iload_n 1, 1) := dk_27 (dk_at dksX16_restBy_1 8 rfl rfl)
theorem dX16_restBy_32 : decode cX16_restBy 32 = .ok (.iaload, 1) := dk_46 (dk_at dksX16_restBy_1 9 rfl rfl)
theorem dX16_restBy_33 : decode cX16_restBy 33 = .ok (.idiv, 1) := dk_108 (dk_at dksX16_restBy_1 10 rfl rfl)
theorem dX16_restBy_34 : decode cX16_restBy 34 = .ok (.goto 9, 3) := dk_167 0 9 (dk_at dksX16_restBy_1 11 rfl rfl)
theorem dX16_restBy_37 : decode cX16_restBy 37 = .ok (.aload_n 0, 1) := dk_42 (dk_at dksX16_restBy_1 14 rfl rfl)
theorem dX16_restBy_38 : decode cX16_restBy 38 = .ok (.iload_n 1, 1) := dk_27 (dk_at dksX16_restBy_1 15 rfl rfl)
theorem dX16_restBy_39 : decode cX16_restBy 39 = .ok (.iload_n 2, 1) := dk_28 (dk_at dksX16_restBy_1 16 rfl rfl)
theorem dX16_restBy_40 : decode cX16_restBy 40 = .ok (.invokevirtual 155, 3) := dk_182 0 155 (dk_at dksX16_restBy_1 17 rfl rfl)
theorem dX16_restBy_43 : decode cX16_restBy 43 = .ok (.iadd, 1) := dk_96 (dk_at dksX16_restBy_1 20 rfl rfl)
theorem dX16_restBy_44 : decode cX16_restBy 44 = .ok (.ireturn, 1) := dk_172 (dk_at dksX16_restBy_1 21 rfl rfl)
abbrev cX16_mean : ByteArray := prog_28_method_42_code
def yX16_mean : MethodName := ⟨RX16, "mean", "(II)J"⟩
def dkwX16_mean_3 : List UInt8 := [173]
abbrev dktX16_mean_3 : List UInt8 := dkwX16_mean_3 ++ []
def dkwX16_mean_2 : List UInt8 := [161, 0, 7, 9, 167, 0, 13, 42, 180, 0, 46, 42, 180, 0, 109, 46, 133, 20, 0, 184, 28, 184, 0, 186]
abbrev dktX16_mean_2 : List UInt8 := dkwX16_mean_2 ++ dktX16_mean_3
def dkwX16_mean_1 : List UInt8 := [16, 254, 182, 0, 180, 173, 42, 27, 4, 182, 0, 173, 42, 180, 0, 46, 42, 180, 0, 109, 46, 18, 168]
abbrev dktX16_mean_1 : List UInt8 := dkwX16_mean_1 ++ dktX16_mean_2
def dkwX16_mean_0 : List UInt8 := [42, 27, 182, 0, 159, 154, 0, 9, 42, 2, 182, 0, 180, 173, 28, 3, 4, 184, 0, 86, 154, 0, 10, 42]
abbrev dktX16_mean_0 : List UInt8 := dkwX16_mean_0 ++ dktX16_mean_1
theorem dksX16_mean_0 : cX16_mean.data.toList.drop 0 = dktX16_mean_0 := by decide +kernel
theorem dksX16_mean_1 : cX16_mean.data.toList.drop 24 = dktX16_mean_1 := dk_seg dksX16_mean_0 24 rfl rfl
theorem dksX16_mean_2 : cX16_mean.data.toList.drop 47 = dktX16_mean_2 := dk_seg dksX16_mean_1 23 rfl rfl
theorem dksX16_mean_3 : cX16_mean.data.toList.drop 71 = dktX16_mean_3 := dk_seg dksX16_mean_2 24 rfl rfl
theorem dX16_mean_0 : decode cX16_mean 0 = .ok (.aload_n 0, 1) := dk_42 (dk_at dksX16_mean_0 0 rfl rfl)
theorem dX16_mean_1 : decode cX16_mean 1 = .ok (.iload_n 1, 1) := dk_27 (dk_at dksX16_mean_0 1 rfl rfl)
theorem dX16_mean_2 : decode cX16_mean 2 = .ok (.invokevirtual 159, 3) := dk_182 0 159 (dk_at dksX16_mean_0 2 rfl rfl)
theorem dX16_mean_5 : decode cX16_mean 5 = .ok (.ifCond .ne 9, 3) := dk_154 0 9 (dk_at dksX16_mean_0 5 rfl rfl)
theorem dX16_mean_8 : decode cX16_mean 8 = .ok (.aload_n 0, 1) := dk_42 (dk_at dksX16_mean_0 8 rfl rfl)
theorem dX16_mean_9 : decode cX16_mean 9 = .ok (.iconst (-1), 1) := dk_2 (dk_at dksX16_mean_0 9 rfl rfl)
theorem dX16_mean_10 : decode cX16_mean 10 = .ok (.invokevirtual 180, 3) := dk_182 0 180 (dk_at dksX16_mean_0 10 rfl rfl)
theorem dX16_mean_13 : decode cX16_mean 13 = .ok (.lreturn, 1) := dk_173 (dk_at dksX16_mean_0 13 rfl rfl)
theorem dX16_mean_14 : decode cX16_mean 14 = .ok (.iload_n 2, 1) := dk_28 (dk_at dksX16_mean_0 14 rfl rfl)
theorem dX16_mean_15 : decode cX16_mean 15 = .ok (.iconst 0, 1) := dk_3 (dk_at dksX16_mean_0 15 rfl rfl)
theorem dX16_mean_16 : decode cX16_mean 16 = .ok (.iconst 1, 1) := dk_4 (dk_at dksX16_mean_0 16 rfl rfl)
theorem dX16_mean_17 : decode cX16_mean 17 = .ok (.invokestatic 86, 3) := dk_184 0 86 (dk_at dksX16_mean_0 17 rfl rfl)
theorem dX16_mean_20 : decode cX16_mean 20 = .ok (.ifCond .ne 10, 3) := dk_154 0 10 (dk_at dksX16_mean_0 20 rfl rfl)
theorem dX16_mean_23 : decode cX16_mean 23 = .ok (.aload_n 0, 1) := dk_42 (dk_at dksX16_mean_0 23 rfl rfl)
theorem dX16_mean_24 : decode cX16_mean 24 = .ok (.bipush (-2), 2) := dk_16 254 (dk_at dksX16_mean_1 0 rfl rfl)
theorem dX16_mean_26 : decode cX16_mean 26 = .ok (.invokevirtual 180, 3) := dk_182 0 180 (dk_at dksX16_mean_1 2 rfl rfl)
theorem dX16_mean_29 : decode cX16_mean 29 = .ok (.lreturn, 1) := dk_173 (dk_at dksX16_mean_1 5 rfl rfl)
theorem dX16_mean_30 : decode cX16_mean 30 = .ok (.aload_n 0, 1) := dk_42 (dk_at dksX16_mean_1 6 rfl rfl)
theorem dX16_mean_31 : decode cX16_mean 31 = .ok (.iload_n 1, 1) := dk_27 (dk_at dksX16_mean_1 7 rfl rfl)
theorem dX16_mean_32 : decode cX16_mean 32 = .ok (.iconst 1, 1) := dk_4 (dk_at dksX16_mean_1 8 rfl rfl)
theorem dX16_mean_33 : decode cX16_mean 33 = .ok (.invokevirtual 173, 3) := dk_182 0 173 (dk_at dksX16_mean_1 9 rfl rfl)
theorem dX16_mean_36 : decode cX16_mean 36 = .ok (.aload_n 0, 1) := dk_42 (dk_at dksX16_mean_1 12 rfl rfl)
theorem dX16_mean_37 : decode cX16_mean 37 = .ok (.getfield 46, 3) := dk_180 0 46 (dk_at dksX16_mean_1 13 rfl rfl)
theorem dX16_mean_40 : decode cX16_mean 40 = .ok (.aload_n 0, 1) := dk_42 (dk_at dksX16_mean_1 16 rfl rfl)
theorem dX16_mean_41 : decode cX16_mean 41 = .ok (.getfield 109, 3) := dk_180 0 109 (dk_at dksX16_mean_1 17 rfl rfl)
theorem dX16_mean_44 : decode cX16_mean 44 = .ok (.iaload, 1) := dk_46 (dk_at dksX16_mean_1 20 rfl rfl)
theorem dX16_mean_45 : decode cX16_mean 45 = .ok (.ldc 168, 2) := dk_18 168 (dk_at dksX16_mean_1 21 rfl rfl)
theorem dX16_mean_47 : decode cX16_mean 47 = .ok (.if_icmp .lt 7, 3) := dk_161 0 7 (dk_at dksX16_mean_2 0 rfl rfl)
theorem dX16_mean_50 : decode cX16_mean 50 = .ok (.lconst 0, 1) := dk_9 (dk_at dksX16_mean_2 3 rfl rfl)
theorem dX16_mean_51 : decode cX16_mean 51 = .ok (.goto 13, 3) := dk_167 0 13 (dk_at dksX16_mean_2 4 rfl rfl)
theorem dX16_mean_54 : decode cX16_mean 54 = .ok (.aload_n 0, 1) := dk_42 (dk_at dksX16_mean_2 7 rfl rfl)
theorem dX16_mean_55 : decode cX16_mean 55 = .ok (.getfield 46, 3) := dk_180 0 46 (dk_at dksX16_mean_2 8 rfl rfl)
theorem dX16_mean_58 : decode cX16_mean 58 = .ok (.aload_n 0, 1) := dk_42 (dk_at dksX16_mean_2 11 rfl rfl)
theorem dX16_mean_59 : decode cX16_mean 59 = .ok (.getfield 109, 3) := dk_180 0 109 (dk_at dksX16_mean_2 12 rfl rfl)
theorem dX16_mean_62 : decode cX16_mean 62 = .ok (.iaload, 1) := dk_46 (dk_at dksX16_mean_2 15 rfl rfl)
theorem dX16_mean_63 : decode cX16_mean 63 = .ok (.i2l, 1) := dk_133 (dk_at dksX16_mean_2 16 rfl rfl)
theorem dX16_mean_64 : decode cX16_mean 64 = .ok (.ldc2_w 184, 3) := dk_20 0 184 (dk_at dksX16_mean_2 17 rfl rfl)
theorem dX16_mean_67 : decode cX16_mean 67 = .ok (.iload_n 2, 1) := dk_28 (dk_at dksX16_mean_2 20 rfl rfl)
theorem dX16_mean_68 : decode cX16_mean 68 = .ok (.invokestatic 186, 3) := dk_184 0 186 (dk_at dksX16_mean_2 21 rfl rfl)
theorem dX16_mean_71 : decode cX16_mean 71 = .ok (.lreturn, 1) := dk_173 (dk_at dksX16_mean_3 0 rfl rfl)
abbrev cX16_lowest : ByteArray := prog_28_method_3_code
def yX16_lowest : MethodName := ⟨RX16, "lowest", "(I)J"⟩
def dkwX16_lowest_0 : List UInt8 := [42, 180, 0, 7, 27, 116, 92, 46, 4, 96, 79, 20, 0, 58, 27, 133, 101, 173]
abbrev dktX16_lowest_0 : List UInt8 := dkwX16_lowest_0 ++ []
theorem dksX16_lowest_0 : cX16_lowest.data.toList.drop 0 = dktX16_lowest_0 := by decide +kernel
theorem dX16_lowest_0 : decode cX16_lowest 0 = .ok (.aload_n 0, 1) := dk_42 (dk_at dksX16_lowest_0 0 rfl rfl)
theorem dX16_lowest_1 : decode cX16_lowest 1 = .ok (.getfield 7, 3) := dk_180 0 7 (dk_at dksX16_lowest_0 1 rfl rfl)
theorem dX16_lowest_4 : decode cX16_lowest 4 = .ok (.iload_n 1, 1) := dk_27 (dk_at dksX16_lowest_0 4 rfl rfl)
theorem dX16_lowest_5 : decode cX16_lowest 5 = .ok (.ineg, 1) := dk_116 (dk_at dksX16_lowest_0 5 rfl rfl)
theorem dX16_lowest_6 : decode cX16_lowest 6 = .ok (.dup2, 1) := dk_92 (dk_at dksX16_lowest_0 6 rfl rfl)
theorem dX16_lowest_7 : decode cX16_lowest 7 = .ok (.iaload, 1) := dk_46 (dk_at dksX16_lowest_0 7 rfl rfl)
theorem dX16_lowest_8 : decode cX16_lowest 8 = .ok (.iconst 1, 1) := dk_4 (dk_at dksX16_lowest_0 8 rfl rfl)
theorem dX16_lowest_9 : decode cX16_lowest 9 = .ok (.iadd, 1) := dk_96 (dk_at dksX16_lowest_0 9 rfl rfl)
theorem dX16_lowest_10 : decode cX16_lowest 10 = .ok (.iastore, 1) := dk_79 (dk_at dksX16_lowest_0 10 rfl rfl)
theorem dX16_lowest_11 : decode cX16_lowest 11 = .ok (.ldc2_w 58, 3) := dk_20 0 58 (dk_at dksX16_lowest_0 11 rfl rfl)
theorem dX16_lowest_14 : decode cX16_lowest 14 = .ok (.iload_n 1, 1) := dk_27 (dk_at dksX16_lowest_0 14 rfl rfl)
theorem dX16_lowest_15 : decode cX16_lowest 15 = .ok (.i2l, 1) := dk_133 (dk_at dksX16_lowest_0 15 rfl rfl)
theorem dX16_lowest_16 : decode cX16_lowest 16 = .ok (.lsub, 1) := dk_101 (dk_at dksX16_lowest_0 16 rfl rfl)
theorem dX16_lowest_17 : decode cX16_lowest 17 = .ok (.lreturn, 1) := dk_173 (dk_at dksX16_lowest_0 17 rfl rfl)
abbrev cX16_partOf : ByteArray := prog_28_method_41_code
def yX16_partOf : MethodName := ⟨RX16, "partOf", "(JJI)J"⟩
def dkwX16_partOf_0 : List UInt8 := [21, 4, 154, 0, 7, 30, 167, 0, 4, 32, 30, 32, 184, 0, 176, 109, 173]
abbrev dktX16_partOf_0 : List UInt8 := dkwX16_partOf_0 ++ []
theorem dksX16_partOf_0 : cX16_partOf.data.toList.drop 0 = dktX16_partOf_0 := by decide +kernel
theorem dX16_partOf_0 : decode cX16_partOf 0 = .ok (.iload 4, 2) := dk_21 4 (dk_at dksX16_partOf_0 0 rfl rfl)
theorem dX16_partOf_2 : decode cX16_partOf 2 = .ok (.ifCond .ne 7, 3) := dk_154 0 7 (dk_at dksX16_partOf_0 2 rfl rfl)
theorem dX16_partOf_5 : decode cX16_partOf 5 = .ok (.lload_n 0, 1) := dk_30 (dk_at dksX16_partOf_0 5 rfl rfl)
theorem dX16_partOf_6 : decode cX16_partOf 6 = .ok (.goto 4, 3) := dk_167 0 4 (dk_at dksX16_partOf_0 6 rfl rfl)
theorem dX16_partOf_9 : decode cX16_partOf 9 = .ok (.lload_n 2, 1) := dk_32 (dk_at dksX16_partOf_0 9 rfl rfl)
theorem dX16_partOf_10 : decode cX16_partOf 10 = .ok (.lload_n 0, 1) := dk_30 (dk_at dksX16_partOf_0 10 rfl rfl)
theorem dX16_partOf_11 : decode cX16_partOf 11 = .ok (.lload_n 2, 1) := dk_32 (dk_at dksX16_partOf_0 11 rfl rfl)
theorem dX16_partOf_12 : decode cX16_partOf 12 = .ok (.invokestatic 176, 3) := dk_184 0 176 (dk_at dksX16_partOf_0 12 rfl rfl)
theorem dX16_partOf_15 : decode cX16_partOf 15 = .ok (.ldiv, 1) := dk_109 (dk_at dksX16_partOf_0 15 rfl rfl)
theorem dX16_partOf_16 : decode cX16_partOf 16 = .ok (.lreturn, 1) := dk_173 (dk_at dksX16_partOf_0 16 rfl rfl)
abbrev cX16_divisor : ByteArray := prog_28_method_40_code
def yX16_divisor : MethodName := ⟨RX16, "divisor", "(JJ)J"⟩
def dkwX16_divisor_1 : List UInt8 := [22, 8, 55, 6, 167, 255, 234, 22, 4, 173]
abbrev dktX16_divisor_1 : List UInt8 := dkwX16_divisor_1 ++ []
def dkwX16_divisor_0 : List UInt8 := [30, 55, 4, 32, 55, 6, 22, 6, 9, 148, 153, 0, 21, 22, 4, 22, 6, 113, 55, 8, 22, 6, 55, 4]
abbrev dktX16_divisor_0 : List UInt8 := dkwX16_divisor_0 ++ dktX16_divisor_1
theorem dksX16_divisor_0 : cX16_divisor.data.toList.drop 0 = dktX16_divisor_0 := by decide +kernel
theorem dksX16_divisor_1 : cX16_divisor.data.toList.drop 24 = dktX16_divisor_1 := dk_seg dksX16_divisor_0 24 rfl rfl
theorem dX16_divisor_0 : decode cX16_divisor 0 = .ok (.lload_n 0, 1) := dk_30 (dk_at dksX16_divisor_0 0 rfl rfl)
theorem dX16_divisor_1 : decode cX16_divisor 1 = .ok (.lstore 4, 2) := dk_55 4 (dk_at dksX16_divisor_0 1 rfl rfl)
theorem dX16_divisor_3 : decode cX16_divisor 3 = .ok (.lload_n 2, 1) := dk_32 (dk_at dksX16_divisor_0 3 rfl rfl)
theorem dX16_divisor_4 : decode cX16_divisor 4 = .ok (.lstore 6, 2) := dk_55 6 (dk_at dksX16_divisor_0 4 rfl rfl)
theorem dX16_divisor_6 : decode cX16_divisor 6 = .ok (.lload 6, 2) := dk_22 6 (dk_at dksX16_divisor_0 6 rfl rfl)
theorem dX16_divisor_8 : decode cX16_divisor 8 = .ok (.lconst 0, 1) := dk_9 (dk_at dksX16_divisor_0 8 rfl rfl)
theorem dX16_divisor_9 : decode cX16_divisor 9 = .ok (.lcmp, 1) := dk_148 (dk_at dksX16_divisor_0 9 rfl rfl)
theorem dX16_divisor_10 : decode cX16_divisor 10 = .ok (.ifCond .eq 21, 3) := dk_153 0 21 (dk_at dksX16_divisor_0 10 rfl rfl)
theorem dX16_divisor_13 : decode cX16_divisor 13 = .ok (.lload 4, 2) := dk_22 4 (dk_at dksX16_divisor_0 13 rfl rfl)
theorem dX16_divisor_15 : decode cX16_divisor 15 = .ok (.lload 6, 2) := dk_22 6 (dk_at dksX16_divisor_0 15 rfl rfl)
theorem dX16_divisor_17 : decode cX16_divisor 17 = .ok (.lrem, 1) := dk_113 (dk_at dksX16_divisor_0 17 rfl rfl)
theorem dX16_divisor_18 : decode cX16_divisor 18 = .ok (.lstore 8, 2) := dk_55 8 (dk_at dksX16_divisor_0 18 rfl rfl)
theorem dX16_divisor_20 : decode cX16_divisor 20 = .ok (.lload 6, 2) := dk_22 6 (dk_at dksX16_divisor_0 20 rfl rfl)
theorem dX16_divisor_22 : decode cX16_divisor 22 = .ok (.lstore 4, 2) := dk_55 4 (dk_at dksX16_divisor_0 22 rfl rfl)
theorem dX16_divisor_24 : decode cX16_divisor 24 = .ok (.lload 8, 2) := dk_22 8 (dk_at dksX16_divisor_1 0 rfl rfl)
theorem dX16_divisor_26 : decode cX16_divisor 26 = .ok (.lstore 6, 2) := dk_55 6 (dk_at dksX16_divisor_1 2 rfl rfl)
theorem dX16_divisor_28 : decode cX16_divisor 28 = .ok (.goto (-22), 3) := dk_167 255 234 (dk_at dksX16_divisor_1 4 rfl rfl)
theorem dX16_divisor_31 : decode cX16_divisor 31 = .ok (.lload 4, 2) := dk_22 4 (dk_at dksX16_divisor_1 7 rfl rfl)
theorem dX16_divisor_33 : decode cX16_divisor 33 = .ok (.lreturn, 1) := dk_173 (dk_at dksX16_divisor_1 9 rfl rfl)
abbrev cX16_surely : ByteArray := prog_28_method_43_code
def yX16_surely : MethodName := ⟨RX16, "surely", "(I)J"⟩
def dkwX16_surely_4 : List UInt8 := [105, 55, 5, 132, 7, 1, 167, 255, 199, 33, 22, 5, 27, 184, 0, 186, 173]
abbrev dktX16_surely_4 : List UInt8 := dkwX16_surely_4 ++ []
def dkwX16_surely_3 : List UInt8 := [167, 0, 4, 10, 105, 66, 22, 5, 28, 21, 7, 184, 0, 146, 153, 0, 9, 20, 0, 190, 167, 0, 4, 10]
abbrev dktX16_surely_3 : List UInt8 := dkwX16_surely_3 ++ dktX16_surely_4
def dkwX16_surely_2 : List UInt8 := [180, 0, 60, 162, 0, 54, 33, 28, 21, 7, 184, 0, 146, 153, 0, 14, 42, 180, 0, 19, 21, 7, 46, 133]
abbrev dktX16_surely_2 : List UInt8 := dkwX16_surely_2 ++ dktX16_surely_3
def dkwX16_surely_1 : List UInt8 := [182, 0, 162, 42, 180, 0, 109, 2, 130, 126, 61, 10, 66, 10, 55, 5, 3, 54, 7, 21, 7, 42]
abbrev dktX16_surely_1 : List UInt8 := dkwX16_surely_1 ++ dktX16_surely_2
def dkwX16_surely_0 : List UInt8 := [27, 3, 4, 184, 0, 86, 154, 0, 10, 42, 16, 254, 182, 0, 180, 173, 42, 42, 180, 0, 109, 3]
abbrev dktX16_surely_0 : List UInt8 := dkwX16_surely_0 ++ dktX16_surely_1
theorem dksX16_surely_0 : cX16_surely.data.toList.drop 0 = dktX16_surely_0 := by decide +kernel
theorem dksX16_surely_1 : cX16_surely.data.toList.drop 22 = dktX16_surely_1 := dk_seg dksX16_surely_0 22 rfl rfl
theorem dksX16_surely_2 : cX16_surely.data.toList.drop 44 = dktX16_surely_2 := dk_seg dksX16_surely_1 22 rfl rfl
theorem dksX16_surely_3 : cX16_surely.data.toList.drop 68 = dktX16_surely_3 := dk_seg dksX16_surely_2 24 rfl rfl
theorem dksX16_surely_4 : cX16_surely.data.toList.drop 92 = dktX16_surely_4 := dk_seg dksX16_surely_3 24 rfl rfl
theorem dX16_surely_0 : decode cX16_surely 0 = .ok (.iload_n 1, 1) := dk_27 (dk_at dksX16_surely_0 0 rfl rfl)
theorem dX16_surely_1 : decode cX16_surely 1 = .ok (.iconst 0, 1) := dk_3 (dk_at dksX16_surely_0 1 rfl rfl)
theorem dX16_surely_2 : decode cX16_surely 2 = .ok (.iconst 1, 1) := dk_4 (dk_at dksX16_surely_0 2 rfl rfl)
theorem dX16_surely_3 : decode cX16_surely 3 = .ok (.invokestatic 86, 3) := dk_184 0 86 (dk_at dksX16_surely_0 3 rfl rfl)
theorem dX16_surely_6 : decode cX16_surely 6 = .ok (.ifCond .ne 10, 3) := dk_154 0 10 (dk_at dksX16_surely_0 6 rfl rfl)
theorem dX16_surely_9 : decode cX16_surely 9 = .ok (.aload_n 0, 1) := dk_42 (dk_at dksX16_surely_0 9 rfl rfl)
theorem dX16_surely_10 : decode cX16_surely 10 = .ok (.bipush (-2), 2) := dk_16 254 (dk_at dksX16_surely_0 10 rfl rfl)
theorem dX16_surely_12 : decode cX16_surely 12 = .ok (.invokevirtual 180, 3) := dk_182 0 180 (dk_at dksX16_surely_0 12 rfl rfl)
theorem dX16_surely_15 : decode cX16_surely 15 = .ok (.lreturn, 1) := dk_173 (dk_at dksX16_surely_0 15 rfl rfl)
theorem dX16_surely_16 : decode cX16_surely 16 = .ok (.aload_n 0, 1) := dk_42 (dk_at dksX16_surely_0 16 rfl rfl)
theorem dX16_surely_17 : decode cX16_surely 17 = .ok (.aload_n 0, 1) := dk_42 (dk_at dksX16_surely_0 17 rfl rfl)
theorem dX16_surely_18 : decode cX16_surely 18 = .ok (.getfield 109, 3) := dk_180 0 109 (dk_at dksX16_surely_0 18 rfl rfl)
theorem dX16_surely_21 : decode cX16_surely 21 = .ok (.iconst 0, 1) := dk_3 (dk_at dksX16_surely_0 21 rfl rfl)
theorem dX16_surely_22 : decode cX16_surely 22 = .ok (.invokevirtual 162, 3) := dk_182 0 162 (dk_at dksX16_surely_1 0 rfl rfl)
theorem dX16_surely_25 : decode cX16_surely 25 = .ok (.aload_n 0, 1) := dk_42 (dk_at dksX16_surely_1 3 rfl rfl)
theorem dX16_surely_26 : decode cX16_surely 26 = .ok (.getfield 109, 3) := dk_180 0 109 (dk_at dksX16_surely_1 4 rfl rfl)
theorem dX16_surely_29 : decode cX16_surely 29 = .ok (.iconst (-1), 1) := dk_2 (dk_at dksX16_surely_1 7 rfl rfl)
theorem dX16_surely_30 : decode cX16_surely 30 = .ok (.ixor, 1) := dk_130 (dk_at dksX16_surely_1 8 rfl rfl)
theorem dX16_surely_31 : decode cX16_surely 31 = .ok (.iand, 1) := dk_126 (dk_at dksX16_surely_1 9 rfl rfl)
theorem dX16_surely_32 : decode cX16_surely 32 = .ok (.istore_n 2, 1) := dk_61 (dk_at dksX16_surely_1 10 rfl rfl)
theorem dX16_surely_33 : decode cX16_surely 33 = .ok (.lconst 1, 1) := dk_10 (dk_at dksX16_surely_1 11 rfl rfl)
theorem dX16_surely_34 : decode cX16_surely 34 = .ok (.lstore_n 3, 1) := dk_66 (dk_at dksX16_surely_1 12 rfl rfl)
theorem dX16_surely_35 : decode cX16_surely 35 = .ok (.lconst 1, 1) := dk_10 (dk_at dksX16_surely_1 13 rfl rfl)
theorem dX16_surely_36 : decode cX16_surely 36 = .ok (.lstore 5, 2) := dk_55 5 (dk_at dksX16_surely_1 14 rfl rfl)
theorem dX16_surely_38 : decode cX16_surely 38 = .ok (.iconst 0, 1) := dk_3 (dk_at dksX16_surely_1 16 rfl rfl)
theorem dX16_surely_39 : decode cX16_surely 39 = .ok (.istore 7, 2) := dk_54 7 (dk_at dksX16_surely_1 17 rfl rfl)
theorem dX16_surely_41 : decode cX16_surely 41 = .ok (.iload 7, 2) := dk_21 7 (dk_at dksX16_surely_1 19 rfl rfl)
theorem dX16_surely_43 : decode cX16_surely 43 = .ok (.aload_n 0, 1) := dk_42 (dk_at dksX16_surely_1 21 rfl rfl)
theorem dX16_surely_44 : decode cX16_surely 44 = .ok (.getfield 60, 3) := dk_180 0 60 (dk_at dksX16_surely_2 0 rfl rfl)
theorem dX16_surely_47 : decode cX16_surely 47 = .ok (.if_icmp .ge 54, 3) := dk_162 0 54 (dk_at dksX16_surely_2 3 rfl rfl)
theorem dX16_surely_50 : decode cX16_surely 50 = .ok (.lload_n 3, 1) := dk_33 (dk_at dksX16_surely_2 6 rfl rfl)
theorem dX16_surely_51 : decode cX16_surely 51 = .ok (.iload_n 2, 1) := dk_28 (dk_at dksX16_surely_2 7 rfl rfl)
theorem dX16_surely_52 : decode cX16_surely 52 = .ok (.iload 7, 2) := dk_21 7 (dk_at dksX16_surely_2 8 rfl rfl)
theorem dX16_surely_54 : decode cX16_surely 54 = .ok (.invokestatic 146, 3) := dk_184 0 146 (dk_at dksX16_surely_2 10 rfl rfl)
theorem dX16_surely_57 : decode cX16_surely 57 = .ok (.ifCond .eq 14, 3) := dk_153 0 14 (dk_at dksX16_surely_2 13 rfl rfl)
theorem dX16_surely_60 : decode cX16_surely 60 = .ok (.aload_n 0, 1) := dk_42 (dk_at dksX16_surely_2 16 rfl rfl)
theorem dX16_surely_61 : decode cX16_surely 61 = .ok (.getfield 19, 3) := dk_180 0 19 (dk_at dksX16_surely_2 17 rfl rfl)
theorem dX16_surely_64 : decode cX16_surely 64 = .ok (.iload 7, 2) := dk_21 7 (dk_at dksX16_surely_2 20 rfl rfl)
theorem dX16_surely_66 : decode cX16_surely 66 = .ok (.iaload, 1) := dk_46 (dk_at dksX16_surely_2 22 rfl rfl)
theorem dX16_surely_67 : decode cX16_surely 67 = .ok (.i2l, 1) := dk_133 (dk_at dksX16_surely_2 23 rfl rfl)
theorem dX16_surely_68 : decode cX16_surely 68 = .ok (.goto 4, 3) := dk_167 0 4 (dk_at dksX16_surely_3 0 rfl rfl)
theorem dX16_surely_71 : decode cX16_surely 71 = .ok (.lconst 1, 1) := dk_10 (dk_at dksX16_surely_3 3 rfl rfl)
theorem dX16_surely_72 : decode cX16_surely 72 = .ok (.lmul, 1) := dk_105 (dk_at dksX16_surely_3 4 rfl rfl)
theorem dX16_surely_73 : decode cX16_surely 73 = .ok (.lstore_n 3, 1) := dk_66 (dk_at dksX16_surely_3 5 rfl rfl)
theorem dX16_surely_74 : decode cX16_surely 74 = .ok (.lload 5, 2) := dk_22 5 (dk_at dksX16_surely_3 6 rfl rfl)
theorem dX16_surely_76 : decode cX16_surely 76 = .ok (.iload_n 2, 1) := dk_28 (dk_at dksX16_surely_3 8 rfl rfl)
theorem dX16_surely_77 : decode cX16_surely 77 = .ok (.iload 7, 2) := dk_21 7 (dk_at dksX16_surely_3 9 rfl rfl)
theorem dX16_surely_79 : decode cX16_surely 79 = .ok (.invokestatic 146, 3) := dk_184 0 146 (dk_at dksX16_surely_3 11 rfl rfl)
theorem dX16_surely_82 : decode cX16_surely 82 = .ok (.ifCond .eq 9, 3) := dk_153 0 9 (dk_at dksX16_surely_3 14 rfl rfl)
theorem dX16_surely_85 : decode cX16_surely 85 = .ok (.ldc2_w 190, 3) := dk_20 0 190 (dk_at dksX16_surely_3 17 rfl rfl)
theorem dX16_surely_88 : decode cX16_surely 88 = .ok (.goto 4, 3) := dk_167 0 4 (dk_at dksX16_surely_3 20 rfl rfl)
theorem dX16_surely_91 : decode cX16_surely 91 = .ok (.lconst 1, 1) := dk_10 (dk_at dksX16_surely_3 23 rfl rfl)
theorem dX16_surely_92 : decode cX16_surely 92 = .ok (.lmul, 1) := dk_105 (dk_at dksX16_surely_4 0 rfl rfl)
theorem dX16_surely_93 : decode cX16_surely 93 = .ok (.lstore 5, 2) := dk_55 5 (dk_at dksX16_surely_4 1 rfl rfl)
theorem dX16_surely_95 : decode cX16_surely 95 = .ok (.iinc 7 1, 3) := dk_132 7 1 (dk_at dksX16_surely_4 3 rfl rfl)
theorem dX16_surely_98 : decode cX16_surely 98 = .ok (.goto (-57), 3) := dk_167 255 199 (dk_at dksX16_surely_4 6 rfl rfl)
theorem dX16_surely_101 : decode cX16_surely 101 = .ok (.lload_n 3, 1) := dk_33 (dk_at dksX16_surely_4 9 rfl rfl)
theorem dX16_surely_102 : decode cX16_surely 102 = .ok (.lload 5, 2) := dk_22 5 (dk_at dksX16_surely_4 10 rfl rfl)
theorem dX16_surely_104 : decode cX16_surely 104 = .ok (.iload_n 1, 1) := dk_27 (dk_at dksX16_surely_4 12 rfl rfl)
theorem dX16_surely_105 : decode cX16_surely 105 = .ok (.invokestatic 186, 3) := dk_184 0 186 (dk_at dksX16_surely_4 13 rfl rfl)
theorem dX16_surely_108 : decode cX16_surely 108 = .ok (.lreturn, 1) := dk_173 (dk_at dksX16_surely_4 16 rfl rfl)
abbrev cX16_ringed : ByteArray := prog_28_method_45_code
def yX16_ringed : MethodName := ⟨RX16, "ringed", "()I"⟩
def dkwX16_ringed_2 : List UInt8 := [4, 29, 120, 167, 0, 4, 3, 128, 61, 132, 3, 1, 167, 255, 218, 28, 172]
abbrev dktX16_ringed_2 : List UInt8 := dkwX16_ringed_2 ++ []
def dkwX16_ringed_1 : List UInt8 := [180, 0, 60, 162, 0, 36, 28, 27, 29, 184, 0, 146, 153, 0, 18, 42, 29, 27, 182, 0, 192, 153, 0, 9]
abbrev dktX16_ringed_1 : List UInt8 := dkwX16_ringed_1 ++ dktX16_ringed_2
def dkwX16_ringed_0 : List UInt8 := [42, 182, 0, 165, 42, 42, 180, 0, 109, 3, 182, 0, 162, 2, 130, 126, 60, 3, 61, 3, 62, 29, 42]
abbrev dktX16_ringed_0 : List UInt8 := dkwX16_ringed_0 ++ dktX16_ringed_1
theorem dksX16_ringed_0 : cX16_ringed.data.toList.drop 0 = dktX16_ringed_0 := by decide +kernel
theorem dksX16_ringed_1 : cX16_ringed.data.toList.drop 23 = dktX16_ringed_1 := dk_seg dksX16_ringed_0 23 rfl rfl
theorem dksX16_ringed_2 : cX16_ringed.data.toList.drop 47 = dktX16_ringed_2 := dk_seg dksX16_ringed_1 24 rfl rfl
theorem dX16_ringed_0 : decode cX16_ringed 0 = .ok (.aload_n 0, 1) := dk_42 (dk_at dksX16_ringed_0 0 rfl rfl)
theorem dX16_ringed_1 : decode cX16_ringed 1 = .ok (.invokevirtual 165, 3) := dk_182 0 165 (dk_at dksX16_ringed_0 1 rfl rfl)
theorem dX16_ringed_4 : decode cX16_ringed 4 = .ok (.aload_n 0, 1) := dk_42 (dk_at dksX16_ringed_0 4 rfl rfl)
theorem dX16_ringed_5 : decode cX16_ringed 5 = .ok (.aload_n 0, 1) := dk_42 (dk_at dksX16_ringed_0 5 rfl rfl)
theorem dX16_ringed_6 : decode cX16_ringed 6 = .ok (.getfield 109, 3) := dk_180 0 109 (dk_at dksX16_ringed_0 6 rfl rfl)
theorem dX16_ringed_9 : decode cX16_ringed 9 = .ok (.iconst 0, 1) := dk_3 (dk_at dksX16_ringed_0 9 rfl rfl)
theorem dX16_ringed_10 : decode cX16_ringed 10 = .ok (.invokevirtual 162, 3) := dk_182 0 162 (dk_at dksX16_ringed_0 10 rfl rfl)
theorem dX16_ringed_13 : decode cX16_ringed 13 = .ok (.iconst (-1), 1) := dk_2 (dk_at dksX16_ringed_0 13 rfl rfl)
theorem dX16_ringed_14 : decode cX16_ringed 14 = .ok (.ixor, 1) := dk_130 (dk_at dksX16_ringed_0 14 rfl rfl)
theorem dX16_ringed_15 : decode cX16_ringed 15 = .ok (.iand, 1) := dk_126 (dk_at dksX16_ringed_0 15 rfl rfl)
theorem dX16_ringed_16 : decode cX16_ringed 16 = .ok (.istore_n 1, 1) := dk_60 (dk_at dksX16_ringed_0 16 rfl rfl)
theorem dX16_ringed_17 : decode cX16_ringed 17 = .ok (.iconst 0, 1) := dk_3 (dk_at dksX16_ringed_0 17 rfl rfl)
theorem dX16_ringed_18 : decode cX16_ringed 18 = .ok (.istore_n 2, 1) := dk_61 (dk_at dksX16_ringed_0 18 rfl rfl)
theorem dX16_ringed_19 : decode cX16_ringed 19 = .ok (.iconst 0, 1) := dk_3 (dk_at dksX16_ringed_0 19 rfl rfl)
theorem dX16_ringed_20 : decode cX16_ringed 20 = .ok (.istore_n 3, 1) := dk_62 (dk_at dksX16_ringed_0 20 rfl rfl)
theorem dX16_ringed_21 : decode cX16_ringed 21 = .ok (.iload_n 3, 1) := dk_29 (dk_at dksX16_ringed_0 21 rfl rfl)
theorem dX16_ringed_22 : decode cX16_ringed 22 = .ok (.aload_n 0, 1) := dk_42 (dk_at dksX16_ringed_0 22 rfl rfl)
theorem dX16_ringed_23 : decode cX16_ringed 23 = .ok (.getfield 60, 3) := dk_180 0 60 (dk_at dksX16_ringed_1 0 rfl rfl)
theorem dX16_ringed_26 : decode cX16_ringed 26 = .ok (.if_icmp .ge 36, 3) := dk_162 0 36 (dk_at dksX16_ringed_1 3 rfl rfl)
theorem dX16_ringed_29 : decode cX16_ringed 29 = .ok (.iload_n 2, 1) := dk_28 (dk_at dksX16_ringed_1 6 rfl rfl)
theorem dX16_ringed_30 : decode cX16_ringed 30 = .ok (.iload_n 1, 1) := dk_27 (dk_at dksX16_ringed_1 7 rfl rfl)
theorem dX16_ringed_31 : decode cX16_ringed 31 = .ok (.iload_n 3, 1) := dk_29 (dk_at dksX16_ringed_1 8 rfl rfl)
theorem dX16_ringed_32 : decode cX16_ringed 32 = .ok (.invokestatic 146, 3) := dk_184 0 146 (dk_at dksX16_ringed_1 9 rfl rfl)
theorem dX16_ringed_35 : decode cX16_ringed 35 = .ok (.ifCond .eq 18, 3) := dk_153 0 18 (dk_at dksX16_ringed_1 12 rfl rfl)
theorem dX16_ringed_38 : decode cX16_ringed 38 = .ok (.aload_n 0, 1) := dk_42 (dk_at dksX16_ringed_1 15 rfl rfl)
theorem dX16_ringed_39 : decode cX16_ringed 39 = .ok (.iload_n 3, 1) := dk_29 (dk_at dksX16_ringed_1 16 rfl rfl)
theorem dX16_ringed_40 : decode cX16_ringed 40 = .ok (.iload_n 1, 1) := dk_27 (dk_at dksX16_ringed_1 17 rfl rfl)
theorem dX16_ringed_41 : decode cX16_ringed 41 = .ok (.invokevirtual 192, 3) := dk_182 0 192 (dk_at dksX16_ringed_1 18 rfl rfl)
theorem dX16_ringed_44 : decode cX16_ringed 44 = .ok (.ifCond .eq 9, 3) := dk_153 0 9 (dk_at dksX16_ringed_1 21 rfl rfl)
theorem dX16_ringed_47 : decode cX16_ringed 47 = .ok (.iconst 1, 1) := dk_4 (dk_at dksX16_ringed_2 0 rfl rfl)
theorem dX16_ringed_48 : decode cX16_ringed 48 = .ok (.iload_n 3, 1) := dk_29 (dk_at dksX16_ringed_2 1 rfl rfl)
theorem dX16_ringed_49 : decode cX16_ringed 49 = .ok (.ishl, 1) := dk_120 (dk_at dksX16_ringed_2 2 rfl rfl)
theorem dX16_ringed_50 : decode cX16_ringed 50 = .ok (.goto 4, 3) := dk_167 0 4 (dk_at dksX16_ringed_2 3 rfl rfl)
theorem dX16_ringed_53 : decode cX16_ringed 53 = .ok (.iconst 0, 1) := dk_3 (dk_at dksX16_ringed_2 6 rfl rfl)
theorem dX16_ringed_54 : decode cX16_ringed 54 = .ok (.ior, 1) := dk_128 (dk_at dksX16_ringed_2 7 rfl rfl)
theorem dX16_ringed_55 : decode cX16_ringed 55 = .ok (.istore_n 2, 1) := dk_61 (dk_at dksX16_ringed_2 8 rfl rfl)
theorem dX16_ringed_56 : decode cX16_ringed 56 = .ok (.iinc 3 1, 3) := dk_132 3 1 (dk_at dksX16_ringed_2 9 rfl rfl)
theorem dX16_ringed_59 : decode cX16_ringed 59 = .ok (.goto (-38), 3) := dk_167 255 218 (dk_at dksX16_ringed_2 12 rfl rfl)
theorem dX16_ringed_62 : decode cX16_ringed 62 = .ok (.iload_n 2, 1) := dk_28 (dk_at dksX16_ringed_2 15 rfl rfl)
theorem dX16_ringed_63 : decode cX16_ringed 63 = .ok (.ireturn, 1) := dk_172 (dk_at dksX16_ringed_2 16 rfl rfl)
abbrev cX16_isRinged : ByteArray := prog_28_method_44_code
def yX16_isRinged : MethodName := ⟨RX16, "isRinged", "(II)Z"⟩
def dkwX16_isRinged_3 : List UInt8 := [4, 172, 132, 4, 1, 167, 255, 197, 3, 172]
abbrev dktX16_isRinged_3 : List UInt8 := dkwX16_isRinged_3 ++ []
def dkwX16_isRinged_2 : List UInt8 := [153, 0, 26, 42, 42, 180, 0, 109, 4, 21, 4, 120, 128, 3, 182, 0, 162, 27, 184, 0, 146, 153, 0, 5]
abbrev dktX16_isRinged_2 : List UInt8 := dkwX16_isRinged_2 ++ dktX16_isRinged_3
def dkwX16_isRinged_1 : List UInt8 := [162, 0, 56, 21, 4, 27, 159, 0, 44, 28, 21, 4, 184, 0, 146, 153, 0, 35, 29, 21, 4, 184, 0, 146]
abbrev dktX16_isRinged_1 : List UInt8 := dkwX16_isRinged_1 ++ dktX16_isRinged_2
def dkwX16_isRinged_0 : List UInt8 := [42, 42, 180, 0, 109, 4, 27, 120, 128, 3, 182, 0, 162, 62, 3, 54, 4, 21, 4, 42, 180, 0, 60]
abbrev dktX16_isRinged_0 : List UInt8 := dkwX16_isRinged_0 ++ dktX16_isRinged_1
theorem dksX16_isRinged_0 : cX16_isRinged.data.toList.drop 0 = dktX16_isRinged_0 := by decide +kernel
theorem dksX16_isRinged_1 : cX16_isRinged.data.toList.drop 23 = dktX16_isRinged_1 := dk_seg dksX16_isRinged_0 23 rfl rfl
theorem dksX16_isRinged_2 : cX16_isRinged.data.toList.drop 47 = dktX16_isRinged_2 := dk_seg dksX16_isRinged_1 24 rfl rfl
theorem dksX16_isRinged_3 : cX16_isRinged.data.toList.drop 71 = dktX16_isRinged_3 := dk_seg dksX16_isRinged_2 24 rfl rfl
theorem dX16_isRinged_0 : decode cX16_isRinged 0 = .ok (.aload_n 0, 1) := dk_42 (dk_at dksX16_isRinged_0 0 rfl rfl)
theorem dX16_isRinged_1 : decode cX16_isRinged 1 = .ok (.aload_n 0, 1) := dk_42 (dk_at dksX16_isRinged_0 1 rfl rfl)
theorem dX16_isRinged_2 : decode cX16_isRinged 2 = .ok (.getfield 109, 3) := dk_180 0 109 (dk_at dksX16_isRinged_0 2 rfl rfl)
theorem dX16_isRinged_5 : decode cX16_isRinged 5 = .ok (.iconst 1, 1) := dk_4 (dk_at dksX16_isRinged_0 5 rfl rfl)
theorem dX16_isRinged_6 : decode cX16_isRinged 6 = .ok (.iload_n 1, 1) := dk_27 (dk_at dksX16_isRinged_0 6 rfl rfl)
theorem dX16_isRinged_7 : decode cX16_isRinged 7 = .ok (.ishl, 1) := dk_120 (dk_at dksX16_isRinged_0 7 rfl rfl)
theorem dX16_isRinged_8 : decode cX16_isRinged 8 = .ok (.ior, 1) := dk_128 (dk_at dksX16_isRinged_0 8 rfl rfl)
theorem dX16_isRinged_9 : decode cX16_isRinged 9 = .ok (.iconst 0, 1) := dk_3 (dk_at dksX16_isRinged_0 9 rfl rfl)
theorem dX16_isRinged_10 : decode cX16_isRinged 10 = .ok (.invokevirtual 162, 3) := dk_182 0 162 (dk_at dksX16_isRinged_0 10 rfl rfl)
theorem dX16_isRinged_13 : decode cX16_isRinged 13 = .ok (.istore_n 3, 1) := dk_62 (dk_at dksX16_isRinged_0 13 rfl rfl)
theorem dX16_isRinged_14 : decode cX16_isRinged 14 = .ok (.iconst 0, 1) := dk_3 (dk_at dksX16_isRinged_0 14 rfl rfl)
theorem dX16_isRinged_15 : decode cX16_isRinged 15 = .ok (.istore 4, 2) := dk_54 4 (dk_at dksX16_isRinged_0 15 rfl rfl)
theorem dX16_isRinged_17 : decode cX16_isRinged 17 = .ok (.iload 4, 2) := dk_21 4 (dk_at dksX16_isRinged_0 17 rfl rfl)
theorem dX16_isRinged_19 : decode cX16_isRinged 19 = .ok (.aload_n 0, 1) := dk_42 (dk_at dksX16_isRinged_0 19 rfl rfl)
theorem dX16_isRinged_20 : decode cX16_isRinged 20 = .ok (.getfield 60, 3) := dk_180 0 60 (dk_at dksX16_isRinged_0 20 rfl rfl)
theorem dX16_isRinged_23 : decode cX16_isRinged 23 = .ok (.if_icmp .ge 56, 3) := dk_162 0 56 (dk_at dksX16_isRinged_1 0 rfl rfl)
theorem dX16_isRinged_26 : decode cX16_isRinged 26 = .ok (.iload 4, 2) := dk_21 4 (dk_at dksX16_isRinged_1 3 rfl rfl)
theorem dX16_isRinged_28 : decode cX16_isRinged 28 = .ok (.iload_n 1, 1) := dk_27 (dk_at dksX16_isRinged_1 5 rfl rfl)
theorem dX16_isRinged_29 : decode cX16_isRinged 29 = .ok (.if_icmp .eq 44, 3) := dk_159 0 44 (dk_at dksX16_isRinged_1 6 rfl rfl)
theorem dX16_isRinged_32 : decode cX16_isRinged 32 = .ok (.iload_n 2, 1) := dk_28 (dk_at dksX16_isRinged_1 9 rfl rfl)
theorem dX16_isRinged_33 : decode cX16_isRinged 33 = .ok (.iload 4, 2) := dk_21 4 (dk_at dksX16_isRinged_1 10 rfl rfl)
theorem dX16_isRinged_35 : decode cX16_isRinged 35 = .ok (.invokestatic 146, 3) := dk_184 0 146 (dk_at dksX16_isRinged_1 12 rfl rfl)
theorem dX16_isRinged_38 : decode cX16_isRinged 38 = .ok (.ifCond .eq 35, 3) := dk_153 0 35 (dk_at dksX16_isRinged_1 15 rfl rfl)
theorem dX16_isRinged_41 : decode cX16_isRinged 41 = .ok (.iload_n 3, 1) := dk_29 (dk_at dksX16_isRinged_1 18 rfl rfl)
theorem dX16_isRinged_42 : decode cX16_isRinged 42 = .ok (.iload 4, 2) := dk_21 4 (dk_at dksX16_isRinged_1 19 rfl rfl)
theorem dX16_isRinged_44 : decode cX16_isRinged 44 = .ok (.invokestatic 146, 3) := dk_184 0 146 (dk_at dksX16_isRinged_1 21 rfl rfl)
theorem dX16_isRinged_47 : decode cX16_isRinged 47 = .ok (.ifCond .eq 26, 3) := dk_153 0 26 (dk_at dksX16_isRinged_2 0 rfl rfl)
theorem dX16_isRinged_50 : decode cX16_isRinged 50 = .ok (.aload_n 0, 1) := dk_42 (dk_at dksX16_isRinged_2 3 rfl rfl)
theorem dX16_isRinged_51 : decode cX16_isRinged 51 = .ok (.aload_n 0, 1) := dk_42 (dk_at dksX16_isRinged_2 4 rfl rfl)
theorem dX16_isRinged_52 : decode cX16_isRinged 52 = .ok (.getfield 109, 3) := dk_180 0 109 (dk_at dksX16_isRinged_2 5 rfl rfl)
theorem dX16_isRinged_55 : decode cX16_isRinged 55 = .ok (.iconst 1, 1) := dk_4 (dk_at dksX16_isRinged_2 8 rfl rfl)
theorem dX16_isRinged_56 : decode cX16_isRinged 56 = .ok (.iload 4, 2) := dk_21 4 (dk_at dksX16_isRinged_2 9 rfl rfl)
theorem dX16_isRinged_58 : decode cX16_isRinged 58 = .ok (.ishl, 1) := dk_120 (dk_at dksX16_isRinged_2 11 rfl rfl)
theorem dX16_isRinged_59 : decode cX16_isRinged 59 = .ok (.ior, 1) := dk_128 (dk_at dksX16_isRinged_2 12 rfl rfl)
theorem dX16_isRinged_60 : decode cX16_isRinged 60 = .ok (.iconst 0, 1) := dk_3 (dk_at dksX16_isRinged_2 13 rfl rfl)
theorem dX16_isRinged_61 : decode cX16_isRinged 61 = .ok (.invokevirtual 162, 3) := dk_182 0 162 (dk_at dksX16_isRinged_2 14 rfl rfl)
theorem dX16_isRinged_64 : decode cX16_isRinged 64 = .ok (.iload_n 1, 1) := dk_27 (dk_at dksX16_isRinged_2 17 rfl rfl)
theorem dX16_isRinged_65 : decode cX16_isRinged 65 = .ok (.invokestatic 146, 3) := dk_184 0 146 (dk_at dksX16_isRinged_2 18 rfl rfl)
theorem dX16_isRinged_68 : decode cX16_isRinged 68 = .ok (.ifCond .eq 5, 3) := dk_153 0 5 (dk_at dksX16_isRinged_2 21 rfl rfl)
theorem dX16_isRinged_71 : decode cX16_isRinged 71 = .ok (.iconst 1, 1) := dk_4 (dk_at dksX16_isRinged_3 0 rfl rfl)
theorem dX16_isRinged_72 : decode cX16_isRinged 72 = .ok (.ireturn, 1) := dk_172 (dk_at dksX16_isRinged_3 1 rfl rfl)
theorem dX16_isRinged_73 : decode cX16_isRinged 73 = .ok (.iinc 4 1, 3) := dk_132 4 1 (dk_at dksX16_isRinged_3 2 rfl rfl)
theorem dX16_isRinged_76 : decode cX16_isRinged 76 = .ok (.goto (-59), 3) := dk_167 255 197 (dk_at dksX16_isRinged_3 5 rfl rfl)
theorem dX16_isRinged_79 : decode cX16_isRinged 79 = .ok (.iconst 0, 1) := dk_3 (dk_at dksX16_isRinged_3 8 rfl rfl)
theorem dX16_isRinged_80 : decode cX16_isRinged 80 = .ok (.ireturn, 1) := dk_172 (dk_at dksX16_isRinged_3 9 rfl rfl)
abbrev cX16_beg : ByteArray := prog_28_method_47_code
def yX16_beg : MethodName := ⟨RX16, "beg", "(I)I"⟩
def dkwX16_beg_3 : List UInt8 := [27, 154, 0, 11, 42, 28, 182, 0, 195, 167, 0, 4, 28, 172]
abbrev dktX16_beg_3 : List UInt8 := dkwX16_beg_3 ++ []
def dkwX16_beg_2 : List UInt8 := [180, 0, 109, 29, 128, 3, 182, 0, 162, 42, 182, 0, 165, 160, 0, 5, 29, 61, 132, 3, 255, 167, 255, 216]
abbrev dktX16_beg_2 : List UInt8 := dkwX16_beg_2 ++ dktX16_beg_3
def dkwX16_beg_1 : List UInt8 := [182, 0, 165, 62, 29, 155, 0, 42, 42, 29, 182, 0, 195, 42, 28, 182, 0, 195, 163, 0, 23, 42, 42]
abbrev dktX16_beg_1 : List UInt8 := dkwX16_beg_1 ++ dktX16_beg_2
def dkwX16_beg_0 : List UInt8 := [27, 3, 4, 184, 0, 86, 154, 0, 10, 42, 16, 254, 182, 0, 75, 172, 42, 182, 0, 165, 61, 42]
abbrev dktX16_beg_0 : List UInt8 := dkwX16_beg_0 ++ dktX16_beg_1
theorem dksX16_beg_0 : cX16_beg.data.toList.drop 0 = dktX16_beg_0 := by decide +kernel
theorem dksX16_beg_1 : cX16_beg.data.toList.drop 22 = dktX16_beg_1 := dk_seg dksX16_beg_0 22 rfl rfl
theorem dksX16_beg_2 : cX16_beg.data.toList.drop 45 = dktX16_beg_2 := dk_seg dksX16_beg_1 23 rfl rfl
theorem dksX16_beg_3 : cX16_beg.data.toList.drop 69 = dktX16_beg_3 := dk_seg dksX16_beg_2 24 rfl rfl
theorem dX16_beg_0 : decode cX16_beg 0 = .ok (.iload_n 1, 1) := dk_27 (dk_at dksX16_beg_0 0 rfl rfl)
theorem dX16_beg_1 : decode cX16_beg 1 = .ok (.iconst 0, 1) := dk_3 (dk_at dksX16_beg_0 1 rfl rfl)
theorem dX16_beg_2 : decode cX16_beg 2 = .ok (.iconst 1, 1) := dk_4 (dk_at dksX16_beg_0 2 rfl rfl)
theorem dX16_beg_3 : decode cX16_beg 3 = .ok (.invokestatic 86, 3) := dk_184 0 86 (dk_at dksX16_beg_0 3 rfl rfl)
theorem dX16_beg_6 : decode cX16_beg 6 = .ok (.ifCond .ne 10, 3) := dk_154 0 10 (dk_at dksX16_beg_0 6 rfl rfl)
theorem dX16_beg_9 : decode cX16_beg 9 = .ok (.aload_n 0, 1) := dk_42 (dk_at dksX16_beg_0 9 rfl rfl)
theorem dX16_beg_10 : decode cX16_beg 10 = .ok (.bipush (-2), 2) := dk_16 254 (dk_at dksX16_beg_0 10 rfl rfl)
theorem dX16_beg_12 : decode cX16_beg 12 = .ok (.invokevirtual 75, 3) := dk_182 0 75 (dk_at dksX16_beg_0 12 rfl rfl)
theorem dX16_beg_15 : decode cX16_beg 15 = .ok (.ireturn, 1) := dk_172 (dk_at dksX16_beg_0 15 rfl rfl)
theorem dX16_beg_16 : decode cX16_beg 16 = .ok (.aload_n 0, 1) := dk_42 (dk_at dksX16_beg_0 16 rfl rfl)
theorem dX16_beg_17 : decode cX16_beg 17 = .ok (.invokevirtual 165, 3) := dk_182 0 165 (dk_at dksX16_beg_0 17 rfl rfl)
theorem dX16_beg_20 : decode cX16_beg 20 = .ok (.istore_n 2, 1) := dk_61 (dk_at dksX16_beg_0 20 rfl rfl)
theorem dX16_beg_21 : decode cX16_beg 21 = .ok (.aload_n 0, 1) := dk_42 (dk_at dksX16_beg_0 21 rfl rfl)
theorem dX16_beg_22 : decode cX16_beg 22 = .ok (.invokevirtual 165, 3) := dk_182 0 165 (dk_at dksX16_beg_1 0 rfl rfl)
theorem dX16_beg_25 : decode cX16_beg 25 = .ok (.istore_n 3, 1) := dk_62 (dk_at dksX16_beg_1 3 rfl rfl)
theorem dX16_beg_26 : decode cX16_beg 26 = .ok (.iload_n 3, 1) := dk_29 (dk_at dksX16_beg_1 4 rfl rfl)
theorem dX16_beg_27 : decode cX16_beg 27 = .ok (.ifCond .lt 42, 3) := dk_155 0 42 (dk_at dksX16_beg_1 5 rfl rfl)
theorem dX16_beg_30 : decode cX16_beg 30 = .ok (.aload_n 0, 1) := dk_42 (dk_at dksX16_beg_1 8 rfl rfl)
theorem dX16_beg_31 : decode cX16_beg 31 = .ok (.iload_n 3, 1) := dk_29 (dk_at dksX16_beg_1 9 rfl rfl)
theorem dX16_beg_32 : decode cX16_beg 32 = .ok (.invokevirtual 195, 3) := dk_182 0 195 (dk_at dksX16_beg_1 10 rfl rfl)
theorem dX16_beg_35 : decode cX16_beg 35 = .ok (.aload_n 0, 1) := dk_42 (dk_at dksX16_beg_1 13 rfl rfl)
theorem dX16_beg_36 : decode cX16_beg 36 = .ok (.iload_n 2, 1) := dk_28 (dk_at dksX16_beg_1 14 rfl rfl)
theorem dX16_beg_37 : decode cX16_beg 37 = .ok (.invokevirtual 195, 3) := dk_182 0 195 (dk_at dksX16_beg_1 15 rfl rfl)
theorem dX16_beg_40 : decode cX16_beg 40 = .ok (.if_icmp .gt 23, 3) := dk_163 0 23 (dk_at dksX16_beg_1 18 rfl rfl)
theorem dX16_beg_43 : decode cX16_beg 43 = .ok (.aload_n 0, 1) := dk_42 (dk_at dksX16_beg_1 21 rfl rfl)
theorem dX16_beg_44 : decode cX16_beg 44 = .ok (.aload_n 0, 1) := dk_42 (dk_at dksX16_beg_1 22 rfl rfl)
theorem dX16_beg_45 : decode cX16_beg 45 = .ok (.getfield 109, 3) := dk_180 0 109 (dk_at dksX16_beg_2 0 rfl rfl)
theorem dX16_beg_48 : decode cX16_beg 48 = .ok (.iload_n 3, 1) := dk_29 (dk_at dksX16_beg_2 3 rfl rfl)
theorem dX16_beg_49 : decode cX16_beg 49 = .ok (.ior, 1) := dk_128 (dk_at dksX16_beg_2 4 rfl rfl)
theorem dX16_beg_50 : decode cX16_beg 50 = .ok (.iconst 0, 1) := dk_3 (dk_at dksX16_beg_2 5 rfl rfl)
theorem dX16_beg_51 : decode cX16_beg 51 = .ok (.invokevirtual 162, 3) := dk_182 0 162 (dk_at dksX16_beg_2 6 rfl rfl)
theorem dX16_beg_54 : decode cX16_beg 54 = .ok (.aload_n 0, 1) := dk_42 (dk_at dksX16_beg_2 9 rfl rfl)
theorem dX16_beg_55 : decode cX16_beg 55 = .ok (.invokevirtual 165, 3) := dk_182 0 165 (dk_at dksX16_beg_2 10 rfl rfl)
theorem dX16_beg_58 : decode cX16_beg 58 = .ok (.if_icmp .ne 5, 3) := dk_160 0 5 (dk_at dksX16_beg_2 13 rfl rfl)
theorem dX16_beg_61 : decode cX16_beg 61 = .ok (.iload_n 3, 1) := dk_29 (dk_at dksX16_beg_2 16 rfl rfl)
theorem dX16_beg_62 : decode cX16_beg 62 = .ok (.istore_n 2, 1) := dk_61 (dk_at dksX16_beg_2 17 rfl rfl)
theorem dX16_beg_63 : decode cX16_beg 63 = .ok (.iinc 3 (-1), 3) := dk_132 3 255 (dk_at dksX16_beg_2 18 rfl rfl)
theorem dX16_beg_66 : decode cX16_beg 66 = .ok (.goto (-40), 3) := dk_167 255 216 (dk_at dksX16_beg_2 21 rfl rfl)
theorem dX16_beg_69 : decode cX16_beg 69 = .ok (.iload_n 1, 1) := dk_27 (dk_at dksX16_beg_3 0 rfl rfl)
theorem dX16_beg_70 : decode cX16_beg 70 = .ok (.ifCond .ne 11, 3) := dk_154 0 11 (dk_at dksX16_beg_3 1 rfl rfl)
theorem dX16_beg_73 : decode cX16_beg 73 = .ok (.aload_n 0, 1) := dk_42 (dk_at dksX16_beg_3 4 rfl rfl)
theorem dX16_beg_74 : decode cX16_beg 74 = .ok (.iload_n 2, 1) := dk_28 (dk_at dksX16_beg_3 5 rfl rfl)
theorem dX16_beg_75 : decode cX16_beg 75 = .ok (.invokevirtual 195, 3) := dk_182 0 195 (dk_at dksX16_beg_3 6 rfl rfl)
theorem dX16_beg_78 : decode cX16_beg 78 = .ok (.goto 4, 3) := dk_167 0 4 (dk_at dksX16_beg_3 9 rfl rfl)
theorem dX16_beg_81 : decode cX16_beg 81 = .ok (.iload_n 2, 1) := dk_28 (dk_at dksX16_beg_3 12 rfl rfl)
theorem dX16_beg_82 : decode cX16_beg 82 = .ok (.ireturn, 1) := dk_172 (dk_at dksX16_beg_3 13 rfl rfl)
abbrev cX16_costOf : ByteArray := prog_28_method_46_code
def yX16_costOf : MethodName := ⟨RX16, "costOf", "(I)I"⟩
def dkwX16_costOf_1 : List UInt8 := [180, 0, 22, 29, 46, 167, 0, 4, 3, 96, 61, 132, 3, 1, 167, 255, 224, 28, 172]
abbrev dktX16_costOf_1 : List UInt8 := dkwX16_costOf_1 ++ []
def dkwX16_costOf_0 : List UInt8 := [3, 61, 3, 62, 29, 42, 180, 0, 60, 162, 0, 30, 28, 27, 29, 184, 0, 146, 153, 0, 12, 42]
abbrev dktX16_costOf_0 : List UInt8 := dkwX16_costOf_0 ++ dktX16_costOf_1
theorem dksX16_costOf_0 : cX16_costOf.data.toList.drop 0 = dktX16_costOf_0 := by decide +kernel
theorem dksX16_costOf_1 : cX16_costOf.data.toList.drop 22 = dktX16_costOf_1 := dk_seg dksX16_costOf_0 22 rfl rfl
theorem dX16_costOf_0 : decode cX16_costOf 0 = .ok (.iconst 0, 1) := dk_3 (dk_at dksX16_costOf_0 0 rfl rfl)
theorem dX16_costOf_1 : decode cX16_costOf 1 = .ok (.istore_n 2, 1) := dk_61 (dk_at dksX16_costOf_0 1 rfl rfl)
theorem dX16_costOf_2 : decode cX16_costOf 2 = .ok (.iconst 0, 1) := dk_3 (dk_at dksX16_costOf_0 2 rfl rfl)
theorem dX16_costOf_3 : decode cX16_costOf 3 = .ok (.istore_n 3, 1) := dk_62 (dk_at dksX16_costOf_0 3 rfl rfl)
theorem dX16_costOf_4 : decode cX16_costOf 4 = .ok (.iload_n 3, 1) := dk_29 (dk_at dksX16_costOf_0 4 rfl rfl)
theorem dX16_costOf_5 : decode cX16_costOf 5 = .ok (.aload_n 0, 1) := dk_42 (dk_at dksX16_costOf_0 5 rfl rfl)
theorem dX16_costOf_6 : decode cX16_costOf 6 = .ok (.getfield 60, 3) := dk_180 0 60 (dk_at dksX16_costOf_0 6 rfl rfl)
theorem dX16_costOf_9 : decode cX16_costOf 9 = .ok (.if_icmp .ge 30, 3) := dk_162 0 30 (dk_at dksX16_costOf_0 9 rfl rfl)
theorem dX16_costOf_12 : decode cX16_costOf 12 = .ok (.iload_n 2, 1) := dk_28 (dk_at dksX16_costOf_0 12 rfl rfl)
theorem dX16_costOf_13 : decode cX16_costOf 13 = .ok (.iload_n 1, 1) := dk_27 (dk_at dksX16_costOf_0 13 rfl rfl)
theorem dX16_costOf_14 : decode cX16_costOf 14 = .ok (.iload_n 3, 1) := dk_29 (dk_at dksX16_costOf_0 14 rfl rfl)
theorem dX16_costOf_15 : decode cX16_costOf 15 = .ok (.invokestatic 146, 3) := dk_184 0 146 (dk_at dksX16_costOf_0 15 rfl rfl)
theorem dX16_costOf_18 : decode cX16_costOf 18 = .ok (.ifCond .eq 12, 3) := dk_153 0 12 (dk_at dksX16_costOf_0 18 rfl rfl)
theorem dX16_costOf_21 : decode cX16_costOf 21 = .ok (.aload_n 0, 1) := dk_42 (dk_at dksX16_costOf_0 21 rfl rfl)
theorem dX16_costOf_22 : decode cX16_costOf 22 = .ok (.getfield 22, 3) := dk_180 0 22 (dk_at dksX16_costOf_1 0 rfl rfl)
theorem dX16_costOf_25 : decode cX16_costOf 25 = .ok (.iload_n 3, 1) := dk_29 (dk_at dksX16_costOf_1 3 rfl rfl)
theorem dX16_costOf_26 : decode cX16_costOf 26 = .ok (.iaload, 1) := dk_46 (dk_at dksX16_costOf_1 4 rfl rfl)
theorem dX16_costOf_27 : decode cX16_costOf 27 = .ok (.goto 4, 3) := dk_167 0 4 (dk_at dksX16_costOf_1 5 rfl rfl)
theorem dX16_costOf_30 : decode cX16_costOf 30 = .ok (.iconst 0, 1) := dk_3 (dk_at dksX16_costOf_1 8 rfl rfl)
theorem dX16_costOf_31 : decode cX16_costOf 31 = .ok (.iadd, 1) := dk_96 (dk_at dksX16_costOf_1 9 rfl rfl)
theorem dX16_costOf_32 : decode cX16_costOf 32 = .ok (.istore_n 2, 1) := dk_61 (dk_at dksX16_costOf_1 10 rfl rfl)
theorem dX16_costOf_33 : decode cX16_costOf 33 = .ok (.iinc 3 1, 3) := dk_132 3 1 (dk_at dksX16_costOf_1 11 rfl rfl)
theorem dX16_costOf_36 : decode cX16_costOf 36 = .ok (.goto (-32), 3) := dk_167 255 224 (dk_at dksX16_costOf_1 14 rfl rfl)
theorem dX16_costOf_39 : decode cX16_costOf 39 = .ok (.iload_n 2, 1) := dk_28 (dk_at dksX16_costOf_1 17 rfl rfl)
theorem dX16_costOf_40 : decode cX16_costOf 40 = .ok (.ireturn, 1) := dk_172 (dk_at dksX16_costOf_1 18 rfl rfl)
abbrev cX16_nails : ByteArray := prog_28_method_48_code
def yX16_nails : MethodName := ⟨RX16, "nails", "()I"⟩
def dkwX16_nails_2 : List UInt8 := [27, 172]
abbrev dktX16_nails_2 : List UInt8 := dkwX16_nails_2 ++ []
def dkwX16_nails_1 : List UInt8 := [163, 0, 18, 42, 28, 3, 182, 0, 162, 42, 182, 0, 165, 160, 0, 5, 28, 60, 132, 2, 255, 167, 255, 223]
abbrev dktX16_nails_1 : List UInt8 := dkwX16_nails_1 ++ dktX16_nails_2
def dkwX16_nails_0 : List UInt8 := [42, 182, 0, 165, 60, 42, 182, 0, 165, 61, 28, 155, 0, 35, 28, 184, 0, 143, 27, 184, 0, 143]
abbrev dktX16_nails_0 : List UInt8 := dkwX16_nails_0 ++ dktX16_nails_1
theorem dksX16_nails_0 : cX16_nails.data.toList.drop 0 = dktX16_nails_0 := by decide +kernel
theorem dksX16_nails_1 : cX16_nails.data.toList.drop 22 = dktX16_nails_1 := dk_seg dksX16_nails_0 22 rfl rfl
theorem dksX16_nails_2 : cX16_nails.data.toList.drop 46 = dktX16_nails_2 := dk_seg dksX16_nails_1 24 rfl rfl
theorem dX16_nails_0 : decode cX16_nails 0 = .ok (.aload_n 0, 1) := dk_42 (dk_at dksX16_nails_0 0 rfl rfl)
theorem dX16_nails_1 : decode cX16_nails 1 = .ok (.invokevirtual 165, 3) := dk_182 0 165 (dk_at dksX16_nails_0 1 rfl rfl)
theorem dX16_nails_4 : decode cX16_nails 4 = .ok (.istore_n 1, 1) := dk_60 (dk_at dksX16_nails_0 4 rfl rfl)
theorem dX16_nails_5 : decode cX16_nails 5 = .ok (.aload_n 0, 1) := dk_42 (dk_at dksX16_nails_0 5 rfl rfl)
theorem dX16_nails_6 : decode cX16_nails 6 = .ok (.invokevirtual 165, 3) := dk_182 0 165 (dk_at dksX16_nails_0 6 rfl rfl)
theorem dX16_nails_9 : decode cX16_nails 9 = .ok (.istore_n 2, 1) := dk_61 (dk_at dksX16_nails_0 9 rfl rfl)
theorem dX16_nails_10 : decode cX16_nails 10 = .ok (.iload_n 2, 1) := dk_28 (dk_at dksX16_nails_0 10 rfl rfl)
theorem dX16_nails_11 : decode cX16_nails 11 = .ok (.ifCond .lt 35, 3) := dk_155 0 35 (dk_at dksX16_nails_0 11 rfl rfl)
theorem dX16_nails_14 : decode cX16_nails 14 = .ok (.iload_n 2, 1) := dk_28 (dk_at dksX16_nails_0 14 rfl rfl)
theorem dX16_nails_15 : decode cX16_nails 15 = .ok (.invokestatic 143, 3) := dk_184 0 143 (dk_at dksX16_nails_0 15 rfl rfl)
theorem dX16_nails_18 : decode cX16_nails 18 = .ok (.iload_n 1, 1) := dk_27 (dk_at dksX16_nails_0 18 rfl rfl)
theorem dX16_nails_19 : decode cX16_nails 19 = .ok (.invokestatic 143, 3) := dk_184 0 143 (dk_at dksX16_nails_0 19 rfl rfl)
theorem dX16_nails_22 : decode cX16_nails 22 = .ok (.if_icmp .gt 18, 3) := dk_163 0 18 (dk_at dksX16_nails_1 0 rfl rfl)
theorem dX16_nails_25 : decode cX16_nails 25 = .ok (.aload_n 0, 1) := dk_42 (dk_at dksX16_nails_1 3 rfl rfl)
theorem dX16_nails_26 : decode cX16_nails 26 = .ok (.iload_n 2, 1) := dk_28 (dk_at dksX16_nails_1 4 rfl rfl)
theorem dX16_nails_27 : decode cX16_nails 27 = .ok (.iconst 0, 1) := dk_3 (dk_at dksX16_nails_1 5 rfl rfl)
theorem dX16_nails_28 : decode cX16_nails 28 = .ok (.invokevirtual 162, 3) := dk_182 0 162 (dk_at dksX16_nails_1 6 rfl rfl)
theorem dX16_nails_31 : decode cX16_nails 31 = .ok (.aload_n 0, 1) := dk_42 (dk_at dksX16_nails_1 9 rfl rfl)
theorem dX16_nails_32 : decode cX16_nails 32 = .ok (.invokevirtual 165, 3) := dk_182 0 165 (dk_at dksX16_nails_1 10 rfl rfl)
theorem dX16_nails_35 : decode cX16_nails 35 = .ok (.if_icmp .ne 5, 3) := dk_160 0 5 (dk_at dksX16_nails_1 13 rfl rfl)
theorem dX16_nails_38 : decode cX16_nails 38 = .ok (.iload_n 2, 1) := dk_28 (dk_at dksX16_nails_1 16 rfl rfl)
theorem dX16_nails_39 : decode cX16_nails 39 = .ok (.istore_n 1, 1) := dk_60 (dk_at dksX16_nails_1 17 rfl rfl)
theorem dX16_nails_40 : decode cX16_nails 40 = .ok (.iinc 2 (-1), 3) := dk_132 2 255 (dk_at dksX16_nails_1 18 rfl rfl)
theorem dX16_nails_43 : decode cX16_nails 43 = .ok (.goto (-33), 3) := dk_167 255 223 (dk_at dksX16_nails_1 21 rfl rfl)
theorem dX16_nails_46 : decode cX16_nails 46 = .ok (.iload_n 1, 1) := dk_27 (dk_at dksX16_nails_2 0 rfl rfl)
theorem dX16_nails_47 : decode cX16_nails 47 = .ok (.ireturn, 1) := dk_172 (dk_at dksX16_nails_2 1 rfl rfl)
abbrev cX16_spare : ByteArray := prog_28_method_49_code
def yX16_spare : MethodName := ⟨RX16, "spare", "()I"⟩
def dkwX16_spare_2 : List UInt8 := [54, 4, 21, 4, 28, 163, 0, 6, 167, 0, 8, 29, 60, 21, 4, 61, 132, 3, 1, 167, 255, 198, 27, 172]
abbrev dktX16_spare_2 : List UInt8 := dkwX16_spare_2 ++ []
def dkwX16_spare_1 : List UInt8 := [153, 0, 7, 3, 167, 0, 19, 42, 42, 180, 0, 109, 4, 29, 120, 128, 3, 182, 0, 162, 184, 0, 143]
abbrev dktX16_spare_1 : List UInt8 := dkwX16_spare_1 ++ dktX16_spare_2
def dkwX16_spare_0 : List UInt8 := [16, 247, 60, 3, 61, 3, 62, 29, 42, 180, 0, 60, 162, 0, 56, 42, 180, 0, 109, 29, 184, 0, 146]
abbrev dktX16_spare_0 : List UInt8 := dkwX16_spare_0 ++ dktX16_spare_1
theorem dksX16_spare_0 : cX16_spare.data.toList.drop 0 = dktX16_spare_0 := by decide +kernel
theorem dksX16_spare_1 : cX16_spare.data.toList.drop 23 = dktX16_spare_1 := dk_seg dksX16_spare_0 23 rfl rfl
theorem dksX16_spare_2 : cX16_spare.data.toList.drop 46 = dktX16_spare_2 := dk_seg dksX16_spare_1 23 rfl rfl
theorem dX16_spare_0 : decode cX16_spare 0 = .ok (.bipush (-9), 2) := dk_16 247 (dk_at dksX16_spare_0 0 rfl rfl)
theorem dX16_spare_2 : decode cX16_spare 2 = .ok (.istore_n 1, 1) := dk_60 (dk_at dksX16_spare_0 2 rfl rfl)
theorem dX16_spare_3 : decode cX16_spare 3 = .ok (.iconst 0, 1) := dk_3 (dk_at dksX16_spare_0 3 rfl rfl)
theorem dX16_spare_4 : decode cX16_spare 4 = .ok (.istore_n 2, 1) := dk_61 (dk_at dksX16_spare_0 4 rfl rfl)
theorem dX16_spare_5 : decode cX16_spare 5 = .ok (.iconst 0, 1) := dk_3 (dk_at dksX16_spare_0 5 rfl rfl)
theorem dX16_spare_6 : decode cX16_spare 6 = .ok (.istore_n 3, 1) := dk_62 (dk_at dksX16_spare_0 6 rfl rfl)
theorem dX16_spare_7 : decode cX16_spare 7 = .ok (.iload_n 3, 1) := dk_29 (dk_at dksX16_spare_0 7 rfl rfl)
theorem dX16_spare_8 : decode cX16_spare 8 = .ok (.aload_n 0, 1) := dk_42 (dk_at dksX16_spare_0 8 rfl rfl)
theorem dX16_spare_9 : decode cX16_spare 9 = .ok (.getfield 60, 3) := dk_180 0 60 (dk_at dksX16_spare_0 9 rfl rfl)
theorem dX16_spare_12 : decode cX16_spare 12 = .ok (.if_icmp .ge 56, 3) := dk_162 0 56 (dk_at dksX16_spare_0 12 rfl rfl)
theorem dX16_spare_15 : decode cX16_spare 15 = .ok (.aload_n 0, 1) := dk_42 (dk_at dksX16_spare_0 15 rfl rfl)
theorem dX16_spare_16 : decode cX16_spare 16 = .ok (.getfield 109, 3) := dk_180 0 109 (dk_at dksX16_spare_0 16 rfl rfl)
theorem dX16_spare_19 : decode cX16_spare 19 = .ok (.iload_n 3, 1) := dk_29 (dk_at dksX16_spare_0 19 rfl rfl)
theorem dX16_spare_20 : decode cX16_spare 20 = .ok (.invokestatic 146, 3) := dk_184 0 146 (dk_at dksX16_spare_0 20 rfl rfl)
theorem dX16_spare_23 : decode cX16_spare 23 = .ok (.ifCond .eq 7, 3) := dk_153 0 7 (dk_at dksX16_spare_1 0 rfl rfl)
theorem dX16_spare_26 : decode cX16_spare 26 = .ok (.iconst 0, 1) := dk_3 (dk_at dksX16_spare_1 3 rfl rfl)
theorem dX16_spare_27 : decode cX16_spare 27 = .ok (.goto 19, 3) := dk_167 0 19 (dk_at dksX16_spare_1 4 rfl rfl)
theorem dX16_spare_30 : decode cX16_spare 30 = .ok (.aload_n 0, 1) := dk_42 (dk_at dksX16_spare_1 7 rfl rfl)
theorem dX16_spare_31 : decode cX16_spare 31 = .ok (.aload_n 0, 1) := dk_42 (dk_at dksX16_spare_1 8 rfl rfl)
theorem dX16_spare_32 : decode cX16_spare 32 = .ok (.getfield 109, 3) := dk_180 0 109 (dk_at dksX16_spare_1 9 rfl rfl)
theorem dX16_spare_35 : decode cX16_spare 35 = .ok (.iconst 1, 1) := dk_4 (dk_at dksX16_spare_1 12 rfl rfl)
theorem dX16_spare_36 : decode cX16_spare 36 = .ok (.iload_n 3, 1) := dk_29 (dk_at dksX16_spare_1 13 rfl rfl)
theorem dX16_spare_37 : decode cX16_spare 37 = .ok (.ishl, 1) := dk_120 (dk_at dksX16_spare_1 14 rfl rfl)
theorem dX16_spare_38 : decode cX16_spare 38 = .ok (.ior, 1) := dk_128 (dk_at dksX16_spare_1 15 rfl rfl)
theorem dX16_spare_39 : decode cX16_spare 39 = .ok (.iconst 0, 1) := dk_3 (dk_at dksX16_spare_1 16 rfl rfl)
theorem dX16_spare_40 : decode cX16_spare 40 = .ok (.invokevirtual 162, 3) := dk_182 0 162 (dk_at dksX16_spare_1 17 rfl rfl)
theorem dX16_spare_43 : decode cX16_spare 43 = .ok (.invokestatic 143, 3) := dk_184 0 143 (dk_at dksX16_spare_1 20 rfl rfl)
theorem dX16_spare_46 : decode cX16_spare 46 = .ok (.istore 4, 2) := dk_54 4 (dk_at dksX16_spare_2 0 rfl rfl)
theorem dX16_spare_48 : decode cX16_spare 48 = .ok (.iload 4, 2) := dk_21 4 (dk_at dksX16_spare_2 2 rfl rfl)
theorem dX16_spare_50 : decode cX16_spare 50 = .ok (.iload_n 2, 1) := dk_28 (dk_at dksX16_spare_2 4 rfl rfl)
theorem dX16_spare_51 : decode cX16_spare 51 = .ok (.if_icmp .gt 6, 3) := dk_163 0 6 (dk_at dksX16_spare_2 5 rfl rfl)
theorem dX16_spare_54 : decode cX16_spare 54 = .ok (.goto 8, 3) := dk_167 0 8 (dk_at dksX16_spare_2 8 rfl rfl)
theorem dX16_spare_57 : decode cX16_spare 57 = .ok (.iload_n 3, 1) := dk_29 (dk_at dksX16_spare_2 11 rfl rfl)
theorem dX16_spare_58 : decode cX16_spare 58 = .ok (.istore_n 1, 1) := dk_60 (dk_at dksX16_spare_2 12 rfl rfl)
theorem dX16_spare_59 : decode cX16_spare 59 = .ok (.iload 4, 2) := dk_21 4 (dk_at dksX16_spare_2 13 rfl rfl)
theorem dX16_spare_61 : decode cX16_spare 61 = .ok (.istore_n 2, 1) := dk_61 (dk_at dksX16_spare_2 15 rfl rfl)
theorem dX16_spare_62 : decode cX16_spare 62 = .ok (.iinc 3 1, 3) := dk_132 3 1 (dk_at dksX16_spare_2 16 rfl rfl)
theorem dX16_spare_65 : decode cX16_spare 65 = .ok (.goto (-58), 3) := dk_167 255 198 (dk_at dksX16_spare_2 19 rfl rfl)
theorem dX16_spare_68 : decode cX16_spare 68 = .ok (.iload_n 1, 1) := dk_27 (dk_at dksX16_spare_2 22 rfl rfl)
theorem dX16_spare_69 : decode cX16_spare 69 = .ok (.ireturn, 1) := dk_172 (dk_at dksX16_spare_2 23 rfl rfl)
abbrev cX16_does : ByteArray := prog_28_method_50_code
def yX16_does : MethodName := ⟨RX16, "does", "(I)I"⟩
def dkwX16_does_2 : List UInt8 := [130, 126, 172]
abbrev dktX16_does_2 : List UInt8 := dkwX16_does_2 ++ []
def dkwX16_does_1 : List UInt8 := [182, 0, 162, 42, 180, 0, 109, 2, 130, 126, 42, 42, 180, 0, 109, 28, 2, 130, 126, 28, 182, 0, 162, 2]
abbrev dktX16_does_1 : List UInt8 := dkwX16_does_1 ++ dktX16_does_2
def dkwX16_does_0 : List UInt8 := [42, 27, 182, 0, 64, 154, 0, 9, 42, 2, 182, 0, 75, 172, 4, 27, 120, 61, 42, 42, 180, 0, 109, 3]
abbrev dktX16_does_0 : List UInt8 := dkwX16_does_0 ++ dktX16_does_1
theorem dksX16_does_0 : cX16_does.data.toList.drop 0 = dktX16_does_0 := by decide +kernel
theorem dksX16_does_1 : cX16_does.data.toList.drop 24 = dktX16_does_1 := dk_seg dksX16_does_0 24 rfl rfl
theorem dksX16_does_2 : cX16_does.data.toList.drop 48 = dktX16_does_2 := dk_seg dksX16_does_1 24 rfl rfl
theorem dX16_does_0 : decode cX16_does 0 = .ok (.aload_n 0, 1) := dk_42 (dk_at dksX16_does_0 0 rfl rfl)
theorem dX16_does_1 : decode cX16_does 1 = .ok (.iload_n 1, 1) := dk_27 (dk_at dksX16_does_0 1 rfl rfl)
theorem dX16_does_2 : decode cX16_does 2 = .ok (.invokevirtual 64, 3) := dk_182 0 64 (dk_at dksX16_does_0 2 rfl rfl)
theorem dX16_does_5 : decode cX16_does 5 = .ok (.ifCond .ne 9, 3) := dk_154 0 9 (dk_at dksX16_does_0 5 rfl rfl)
theorem dX16_does_8 : decode cX16_does 8 = .ok (.aload_n 0, 1) := dk_42 (dk_at dksX16_does_0 8 rfl rfl)
theorem dX16_does_9 : decode cX16_does 9 = .ok (.iconst (-1), 1) := dk_2 (dk_at dksX16_does_0 9 rfl rfl)
theorem dX16_does_10 : decode cX16_does 10 = .ok (.invokevirtual 75, 3) := dk_182 0 75 (dk_at dksX16_does_0 10 rfl rfl)
theorem dX16_does_13 : decode cX16_does 13 = .ok (.ireturn, 1) := dk_172 (dk_at dksX16_does_0 13 rfl rfl)
theorem dX16_does_14 : decode cX16_does 14 = .ok (.iconst 1, 1) := dk_4 (dk_at dksX16_does_0 14 rfl rfl)
theorem dX16_does_15 : decode cX16_does 15 = .ok (.iload_n 1, 1) := dk_27 (dk_at dksX16_does_0 15 rfl rfl)
theorem dX16_does_16 : decode cX16_does 16 = .ok (.ishl, 1) := dk_120 (dk_at dksX16_does_0 16 rfl rfl)
theorem dX16_does_17 : decode cX16_does 17 = .ok (.istore_n 2, 1) := dk_61 (dk_at dksX16_does_0 17 rfl rfl)
theorem dX16_does_18 : decode cX16_does 18 = .ok (.aload_n 0, 1) := dk_42 (dk_at dksX16_does_0 18 rfl rfl)
theorem dX16_does_19 : decode cX16_does 19 = .ok (.aload_n 0, 1) := dk_42 (dk_at dksX16_does_0 19 rfl rfl)
theorem dX16_does_20 : decode cX16_does 20 = .ok (.getfield 109, 3) := dk_180 0 109 (dk_at dksX16_does_0 20 rfl rfl)
theorem dX16_does_23 : decode cX16_does 23 = .ok (.iconst 0, 1) := dk_3 (dk_at dksX16_does_0 23 rfl rfl)
theorem dX16_does_24 : decode cX16_does 24 = .ok (.invokevirtual 162, 3) := dk_182 0 162 (dk_at dksX16_does_1 0 rfl rfl)
theorem dX16_does_27 : decode cX16_does 27 = .ok (.aload_n 0, 1) := dk_42 (dk_at dksX16_does_1 3 rfl rfl)
theorem dX16_does_28 : decode cX16_does 28 = .ok (.getfield 109, 3) := dk_180 0 109 (dk_at dksX16_does_1 4 rfl rfl)
theorem dX16_does_31 : decode cX16_does 31 = .ok (.iconst (-1), 1) := dk_2 (dk_at dksX16_does_1 7 rfl rfl)
theorem dX16_does_32 : decode cX16_does 32 = .ok (.ixor, 1) := dk_130 (dk_at dksX16_does_1 8 rfl rfl)
theorem dX16_does_33 : decode cX16_does 33 = .ok (.iand, 1) := dk_126 (dk_at dksX16_does_1 9 rfl rfl)
theorem dX16_does_34 : decode cX16_does 34 = .ok (.aload_n 0, 1) := dk_42 (dk_at dksX16_does_1 10 rfl rfl)
theorem dX16_does_35 : decode cX16_does 35 = .ok (.aload_n 0, 1) := dk_42 (dk_at dksX16_does_1 11 rfl rfl)
theorem dX16_does_36 : decode cX16_does 36 = .ok (.getfield 109, 3) := dk_180 0 109 (dk_at dksX16_does_1 12 rfl rfl)
theorem dX16_does_39 : decode cX16_does 39 = .ok (.iload_n 2, 1) := dk_28 (dk_at dksX16_does_1 15 rfl rfl)
theorem dX16_does_40 : decode cX16_does 40 = .ok (.iconst (-1), 1) := dk_2 (dk_at dksX16_does_1 16 rfl rfl)
theorem dX16_does_41 : decode cX16_does 41 = .ok (.ixor, 1) := dk_130 (dk_at dksX16_does_1 17 rfl rfl)
theorem dX16_does_42 : decode cX16_does 42 = .ok (.iand, 1) := dk_126 (dk_at dksX16_does_1 18 rfl rfl)
theorem dX16_does_43 : decode cX16_does 43 = .ok (.iload_n 2, 1) := dk_28 (dk_at dksX16_does_1 19 rfl rfl)
theorem dX16_does_44 : decode cX16_does 44 = .ok (.invokevirtual 162, 3) := dk_182 0 162 (dk_at dksX16_does_1 20 rfl rfl)
theorem dX16_does_47 : decode cX16_does 47 = .ok (.iconst (-1), 1) := dk_2 (dk_at dksX16_does_1 23 rfl rfl)
theorem dX16_does_48 : decode cX16_does 48 = .ok (.ixor, 1) := dk_130 (dk_at dksX16_does_2 0 rfl rfl)
theorem dX16_does_49 : decode cX16_does 49 = .ok (.iand, 1) := dk_126 (dk_at dksX16_does_2 1 rfl rfl)
theorem dX16_does_50 : decode cX16_does 50 = .ok (.ireturn, 1) := dk_172 (dk_at dksX16_does_2 2 rfl rfl)
abbrev cX16_ways : ByteArray := prog_28_method_54_code
def yX16_ways : MethodName := ⟨RX16, "ways", "(I)I"⟩
def dkwX16_ways_1 : List UInt8 := [180, 0, 49, 27, 46, 172]
abbrev dktX16_ways_1 : List UInt8 := dkwX16_ways_1 ++ []
def dkwX16_ways_0 : List UInt8 := [42, 27, 182, 0, 201, 61, 28, 153, 0, 9, 42, 28, 182, 0, 75, 172, 42, 27, 182, 0, 204, 42]
abbrev dktX16_ways_0 : List UInt8 := dkwX16_ways_0 ++ dktX16_ways_1
theorem dksX16_ways_0 : cX16_ways.data.toList.drop 0 = dktX16_ways_0 := by decide +kernel
theorem dksX16_ways_1 : cX16_ways.data.toList.drop 22 = dktX16_ways_1 := dk_seg dksX16_ways_0 22 rfl rfl
theorem dX16_ways_0 : decode cX16_ways 0 = .ok (.aload_n 0, 1) := dk_42 (dk_at dksX16_ways_0 0 rfl rfl)
theorem dX16_ways_1 : decode cX16_ways 1 = .ok (.iload_n 1, 1) := dk_27 (dk_at dksX16_ways_0 1 rfl rfl)
theorem dX16_ways_2 : decode cX16_ways 2 = .ok (.invokevirtual 201, 3) := dk_182 0 201 (dk_at dksX16_ways_0 2 rfl rfl)
theorem dX16_ways_5 : decode cX16_ways 5 = .ok (.istore_n 2, 1) := dk_61 (dk_at dksX16_ways_0 5 rfl rfl)
theorem dX16_ways_6 : decode cX16_ways 6 = .ok (.iload_n 2, 1) := dk_28 (dk_at dksX16_ways_0 6 rfl rfl)
theorem dX16_ways_7 : decode cX16_ways 7 = .ok (.ifCond .eq 9, 3) := dk_153 0 9 (dk_at dksX16_ways_0 7 rfl rfl)
theorem dX16_ways_10 : decode cX16_ways 10 = .ok (.aload_n 0, 1) := dk_42 (dk_at dksX16_ways_0 10 rfl rfl)
theorem dX16_ways_11 : decode cX16_ways 11 = .ok (.iload_n 2, 1) := dk_28 (dk_at dksX16_ways_0 11 rfl rfl)
theorem dX16_ways_12 : decode cX16_ways 12 = .ok (.invokevirtual 75, 3) := dk_182 0 75 (dk_at dksX16_ways_0 12 rfl rfl)
theorem dX16_ways_15 : decode cX16_ways 15 = .ok (.ireturn, 1) := dk_172 (dk_at dksX16_ways_0 15 rfl rfl)
theorem dX16_ways_16 : decode cX16_ways 16 = .ok (.aload_n 0, 1) := dk_42 (dk_at dksX16_ways_0 16 rfl rfl)
theorem dX16_ways_17 : decode cX16_ways 17 = .ok (.iload_n 1, 1) := dk_27 (dk_at dksX16_ways_0 17 rfl rfl)
theorem dX16_ways_18 : decode cX16_ways 18 = .ok (.invokevirtual 204, 3) := dk_182 0 204 (dk_at dksX16_ways_0 18 rfl rfl)
theorem dX16_ways_21 : decode cX16_ways 21 = .ok (.aload_n 0, 1) := dk_42 (dk_at dksX16_ways_0 21 rfl rfl)
theorem dX16_ways_22 : decode cX16_ways 22 = .ok (.getfield 49, 3) := dk_180 0 49 (dk_at dksX16_ways_1 0 rfl rfl)
theorem dX16_ways_25 : decode cX16_ways 25 = .ok (.iload_n 1, 1) := dk_27 (dk_at dksX16_ways_1 3 rfl rfl)
theorem dX16_ways_26 : decode cX16_ways 26 = .ok (.iaload, 1) := dk_46 (dk_at dksX16_ways_1 4 rfl rfl)
theorem dX16_ways_27 : decode cX16_ways 27 = .ok (.ireturn, 1) := dk_172 (dk_at dksX16_ways_1 5 rfl rfl)
abbrev cX16_notAimed : ByteArray := prog_28_method_53_code
def yX16_notAimed : MethodName := ⟨RX16, "notAimed", "(I)I"⟩
def dkwX16_notAimed_1 : List UInt8 := [16, 253, 167, 0, 4, 3, 172]
abbrev dktX16_notAimed_1 : List UInt8 := dkwX16_notAimed_1 ++ []
def dkwX16_notAimed_0 : List UInt8 := [42, 27, 182, 0, 159, 154, 0, 7, 2, 167, 0, 20, 42, 180, 0, 109, 27, 2, 130, 126, 153, 0, 8]
abbrev dktX16_notAimed_0 : List UInt8 := dkwX16_notAimed_0 ++ dktX16_notAimed_1
theorem dksX16_notAimed_0 : cX16_notAimed.data.toList.drop 0 = dktX16_notAimed_0 := by decide +kernel
theorem dksX16_notAimed_1 : cX16_notAimed.data.toList.drop 23 = dktX16_notAimed_1 := dk_seg dksX16_notAimed_0 23 rfl rfl
theorem dX16_notAimed_0 : decode cX16_notAimed 0 = .ok (.aload_n 0, 1) := dk_42 (dk_at dksX16_notAimed_0 0 rfl rfl)
theorem dX16_notAimed_1 : decode cX16_notAimed 1 = .ok (.iload_n 1, 1) := dk_27 (dk_at dksX16_notAimed_0 1 rfl rfl)
theorem dX16_notAimed_2 : decode cX16_notAimed 2 = .ok (.invokevirtual 159, 3) := dk_182 0 159 (dk_at dksX16_notAimed_0 2 rfl rfl)
theorem dX16_notAimed_5 : decode cX16_notAimed 5 = .ok (.ifCond .ne 7, 3) := dk_154 0 7 (dk_at dksX16_notAimed_0 5 rfl rfl)
theorem dX16_notAimed_8 : decode cX16_notAimed 8 = .ok (.iconst (-1), 1) := dk_2 (dk_at dksX16_notAimed_0 8 rfl rfl)
theorem dX16_notAimed_9 : decode cX16_notAimed 9 = .ok (.goto 20, 3) := dk_167 0 20 (dk_at dksX16_notAimed_0 9 rfl rfl)
theorem dX16_notAimed_12 : decode cX16_notAimed 12 = .ok (.aload_n 0, 1) := dk_42 (dk_at dksX16_notAimed_0 12 rfl rfl)
theorem dX16_notAimed_13 : decode cX16_notAimed 13 = .ok (.getfield 109, 3) := dk_180 0 109 (dk_at dksX16_notAimed_0 13 rfl rfl)
theorem dX16_notAimed_16 : decode cX16_notAimed 16 = .ok (.iload_n 1, 1) := dk_27 (dk_at dksX16_notAimed_0 16 rfl rfl)
theorem dX16_notAimed_17 : decode cX16_notAimed 17 = .ok (.iconst (-1), 1) := dk_2 (dk_at dksX16_notAimed_0 17 rfl rfl)
theorem dX16_notAimed_18 : decode cX16_notAimed 18 = .ok (.ixor, 1) := dk_130 (dk_at dksX16_notAimed_0 18 rfl rfl)
theorem dX16_notAimed_19 : decode cX16_notAimed 19 = .ok (.iand, 1) := dk_126 (dk_at dksX16_notAimed_0 19 rfl rfl)
theorem dX16_notAimed_20 : decode cX16_notAimed 20 = .ok (.ifCond .eq 8, 3) := dk_153 0 8 (dk_at dksX16_notAimed_0 20 rfl rfl)
theorem dX16_notAimed_23 : decode cX16_notAimed 23 = .ok (.bipush (-3), 2) := dk_16 253 (dk_at dksX16_notAimed_1 0 rfl rfl)
theorem dX16_notAimed_25 : decode cX16_notAimed 25 = .ok (.goto 4, 3) := dk_167 0 4 (dk_at dksX16_notAimed_1 2 rfl rfl)
theorem dX16_notAimed_28 : decode cX16_notAimed 28 = .ok (.iconst 0, 1) := dk_3 (dk_at dksX16_notAimed_1 5 rfl rfl)
theorem dX16_notAimed_29 : decode cX16_notAimed 29 = .ok (.ireturn, 1) := dk_172 (dk_at dksX16_notAimed_1 6 rfl rfl)
abbrev cX16_findWays : ByteArray := prog_28_method_52_code
def yX16_findWays : MethodName := ⟨RX16, "findWays", "(I)V"⟩
def dkwX16_findWays_9 : List UInt8 := [132, 2, 255, 167, 255, 163, 177]
abbrev dktX16_findWays_9 : List UInt8 := dkwX16_findWays_9 ++ []
def dkwX16_findWays_8 : List UInt8 := [180, 0, 52, 28, 92, 46, 42, 180, 0, 52, 28, 4, 29, 120, 128, 46, 96, 79, 132, 3, 1, 167, 255, 191]
abbrev dktX16_findWays_8 : List UInt8 := dkwX16_findWays_8 ++ dktX16_findWays_9
def dkwX16_findWays_7 : List UInt8 := [27, 28, 2, 130, 126, 29, 184, 0, 146, 153, 0, 31, 42, 29, 28, 182, 0, 149, 153, 0, 22, 42]
abbrev dktX16_findWays_7 : List UInt8 := dkwX16_findWays_7 ++ dktX16_findWays_8
def dkwX16_findWays_6 : List UInt8 := [3, 62, 29, 42, 180, 0, 60, 162, 0, 63, 42, 28, 27, 182, 0, 198, 153, 0, 54, 28, 27, 159, 0, 49]
abbrev dktX16_findWays_6 : List UInt8 := dkwX16_findWays_6 ++ dktX16_findWays_7
def dkwX16_findWays_5 : List UInt8 := [17, 3, 255, 61, 28, 155, 0, 95, 42, 180, 0, 52, 28, 28, 27, 160, 0, 7, 4, 167, 0, 4, 3, 79]
abbrev dktX16_findWays_5 : List UInt8 := dkwX16_findWays_5 ++ dktX16_findWays_6
def dkwX16_findWays_4 : List UInt8 := [92, 46, 42, 180, 0, 49, 21, 4, 46, 96, 79, 132, 3, 1, 167, 255, 177, 132, 2, 1, 167, 255, 143]
abbrev dktX16_findWays_4 : List UInt8 := dkwX16_findWays_4 ++ dktX16_findWays_5
def dkwX16_findWays_3 : List UInt8 := [21, 4, 27, 182, 0, 198, 153, 0, 29, 42, 29, 21, 4, 182, 0, 149, 153, 0, 19, 42, 180, 0, 49, 28]
abbrev dktX16_findWays_3 : List UInt8 := dkwX16_findWays_3 ++ dktX16_findWays_4
def dkwX16_findWays_2 : List UInt8 := [28, 42, 180, 0, 109, 159, 0, 60, 28, 4, 29, 120, 2, 130, 126, 54, 4, 21, 4, 28, 159, 0, 39, 42]
abbrev dktX16_findWays_2 : List UInt8 := dkwX16_findWays_2 ++ dktX16_findWays_3
def dkwX16_findWays_1 : List UInt8 := [167, 0, 4, 3, 79, 3, 62, 29, 42, 180, 0, 60, 162, 0, 77, 42, 28, 27, 182, 0, 198, 153, 0, 68]
abbrev dktX16_findWays_1 : List UInt8 := dkwX16_findWays_1 ++ dktX16_findWays_2
def dkwX16_findWays_0 : List UInt8 := [3, 61, 28, 17, 4, 0, 162, 0, 112, 42, 180, 0, 49, 28, 28, 42, 180, 0, 109, 160, 0, 7, 4]
abbrev dktX16_findWays_0 : List UInt8 := dkwX16_findWays_0 ++ dktX16_findWays_1
theorem dksX16_findWays_0 : cX16_findWays.data.toList.drop 0 = dktX16_findWays_0 := by decide +kernel
theorem dksX16_findWays_1 : cX16_findWays.data.toList.drop 23 = dktX16_findWays_1 := dk_seg dksX16_findWays_0 23 rfl rfl
theorem dksX16_findWays_2 : cX16_findWays.data.toList.drop 47 = dktX16_findWays_2 := dk_seg dksX16_findWays_1 24 rfl rfl
theorem dksX16_findWays_3 : cX16_findWays.data.toList.drop 71 = dktX16_findWays_3 := dk_seg dksX16_findWays_2 24 rfl rfl
theorem dksX16_findWays_4 : cX16_findWays.data.toList.drop 95 = dktX16_findWays_4 := dk_seg dksX16_findWays_3 24 rfl rfl
theorem dksX16_findWays_5 : cX16_findWays.data.toList.drop 118 = dktX16_findWays_5 := dk_seg dksX16_findWays_4 23 rfl rfl
theorem dksX16_findWays_6 : cX16_findWays.data.toList.drop 142 = dktX16_findWays_6 := dk_seg dksX16_findWays_5 24 rfl rfl
theorem dksX16_findWays_7 : cX16_findWays.data.toList.drop 166 = dktX16_findWays_7 := dk_seg dksX16_findWays_6 24 rfl rfl
theorem dksX16_findWays_8 : cX16_findWays.data.toList.drop 188 = dktX16_findWays_8 := dk_seg dksX16_findWays_7 22 rfl rfl
theorem dksX16_findWays_9 : cX16_findWays.data.toList.drop 212 = dktX16_findWays_9 := dk_seg dksX16_findWays_8 24 rfl rfl
theorem dX16_findWays_0 : decode cX16_findWays 0 = .ok (.iconst 0, 1) := dk_3 (dk_at dksX16_findWays_0 0 rfl rfl)
theorem dX16_findWays_1 : decode cX16_findWays 1 = .ok (.istore_n 2, 1) := dk_61 (dk_at dksX16_findWays_0 1 rfl rfl)
theorem dX16_findWays_2 : decode cX16_findWays 2 = .ok (.iload_n 2, 1) := dk_28 (dk_at dksX16_findWays_0 2 rfl rfl)
theorem dX16_findWays_3 : decode cX16_findWays 3 = .ok (.sipush 1024, 3) := dk_17 4 0 (dk_at dksX16_findWays_0 3 rfl rfl)
theorem dX16_findWays_6 : decode cX16_findWays 6 = .ok (.if_icmp .ge 112, 3) := dk_162 0 112 (dk_at dksX16_findWays_0 6 rfl rfl)
theorem dX16_findWays_9 : decode cX16_findWays 9 = .ok (.aload_n 0, 1) := dk_42 (dk_at dksX16_findWays_0 9 rfl rfl)
theorem dX16_findWays_10 : decode cX16_findWays 10 = .ok (.getfield 49, 3) := dk_180 0 49 (dk_at dksX16_findWays_0 10 rfl rfl)
theorem dX16_findWays_13 : decode cX16_findWays 13 = .ok (.iload_n 2, 1) := dk_28 (dk_at dksX16_findWays_0 13 rfl rfl)
theorem dX16_findWays_14 : decode cX16_findWays 14 = .ok (.iload_n 2, 1) := dk_28 (dk_at dksX16_findWays_0 14 rfl rfl)
theorem dX16_findWays_15 : decode cX16_findWays 15 = .ok (.aload_n 0, 1) := dk_42 (dk_at dksX16_findWays_0 15 rfl rfl)
theorem dX16_findWays_16 : decode cX16_findWays 16 = .ok (.getfield 109, 3) := dk_180 0 109 (dk_at dksX16_findWays_0 16 rfl rfl)
theorem dX16_findWays_19 : decode cX16_findWays 19 = .ok (.if_icmp .ne 7, 3) := dk_160 0 7 (dk_at dksX16_findWays_0 19 rfl rfl)
theorem dX16_findWays_22 : decode cX16_findWays 22 = .ok (.iconst 1, 1) := dk_4 (dk_at dksX16_findWays_0 22 rfl rfl)
theorem dX16_findWays_23 : decode cX16_findWays 23 = .ok (.goto 4, 3) := dk_167 0 4 (dk_at dksX16_findWays_1 0 rfl rfl)
theorem dX16_findWays_26 : decode cX16_findWays 26 = .ok (.iconst 0, 1) := dk_3 (dk_at dksX16_findWays_1 3 rfl rfl)
theorem dX16_findWays_27 : decode cX16_findWays 27 = .ok (.iastore, 1) := dk_79 (dk_at dksX16_findWays_1 4 rfl rfl)
theorem dX16_findWays_28 : decode cX16_findWays 28 = .ok (.iconst 0, 1) := dk_3 (dk_at dksX16_findWays_1 5 rfl rfl)
theorem dX16_findWays_29 : decode cX16_findWays 29 = .ok (.istore_n 3, 1) := dk_62 (dk_at dksX16_findWays_1 6 rfl rfl)
theorem dX16_findWays_30 : decode cX16_findWays 30 = .ok (.iload_n 3, 1) := dk_29 (dk_at dksX16_findWays_1 7 rfl rfl)
theorem dX16_findWays_31 : decode cX16_findWays 31 = .ok (.aload_n 0, 1) := dk_42 (dk_at dksX16_findWays_1 8 rfl rfl)
theorem dX16_findWays_32 : decode cX16_findWays 32 = .ok (.getfield 60, 3) := dk_180 0 60 (dk_at dksX16_findWays_1 9 rfl rfl)
theorem dX16_findWays_35 : decode cX16_findWays 35 = .ok (.if_icmp .ge 77, 3) := dk_162 0 77 (dk_at dksX16_findWays_1 12 rfl rfl)
theorem dX16_findWays_38 : decode cX16_findWays 38 = .ok (.aload_n 0, 1) := dk_42 (dk_at dksX16_findWays_1 15 rfl rfl)
theorem dX16_findWays_39 : decode cX16_findWays 39 = .ok (.iload_n 2, 1) := dk_28 (dk_at dksX16_findWays_1 16 rfl rfl)
theorem dX16_findWays_40 : decode cX16_findWays 40 = .ok (.iload_n 1, 1) := dk_27 (dk_at dksX16_findWays_1 17 rfl rfl)
theorem dX16_findWays_41 : decode cX16_findWays 41 = .ok (.invokevirtual 198, 3) := dk_182 0 198 (dk_at dksX16_findWays_1 18 rfl rfl)
theorem dX16_findWays_44 : decode cX16_findWays 44 = .ok (.ifCond .eq 68, 3) := dk_153 0 68 (dk_at dksX16_findWays_1 21 rfl rfl)
theorem dX16_findWays_47 : decode cX16_findWays 47 = .ok (.iload_n 2, 1) := dk_28 (dk_at dksX16_findWays_2 0 rfl rfl)
theorem dX16_findWays_48 : decode cX16_findWays 48 = .ok (.aload_n 0, 1) := dk_42 (dk_at dksX16_findWays_2 1 rfl rfl)
theorem dX16_findWays_49 : decode cX16_findWays 49 = .ok (.getfield 109, 3) := dk_180 0 109 (dk_at dksX16_findWays_2 2 rfl rfl)
theorem dX16_findWays_52 : decode cX16_findWays 52 = .ok (.if_icmp .eq 60, 3) := dk_159 0 60 (dk_at dksX16_findWays_2 5 rfl rfl)
theorem dX16_findWays_55 : decode cX16_findWays 55 = .ok (.iload_n 2, 1) := dk_28 (dk_at dksX16_findWays_2 8 rfl rfl)
theorem dX16_findWays_56 : decode cX16_findWays 56 = .ok (.iconst 1, 1) := dk_4 (dk_at dksX16_findWays_2 9 rfl rfl)
theorem dX16_findWays_57 : decode cX16_findWays 57 = .ok (.iload_n 3, 1) := dk_29 (dk_at dksX16_findWays_2 10 rfl rfl)
theorem dX16_findWays_58 : decode cX16_findWays 58 = .ok (.ishl, 1) := dk_120 (dk_at dksX16_findWays_2 11 rfl rfl)
theorem dX16_findWays_59 : decode cX16_findWays 59 = .ok (.iconst (-1), 1) := dk_2 (dk_at dksX16_findWays_2 12 rfl rfl)
theorem dX16_findWays_60 : decode cX16_findWays 60 = .ok (.ixor, 1) := dk_130 (dk_at dksX16_findWays_2 13 rfl rfl)
theorem dX16_findWays_61 : decode cX16_findWays 61 = .ok (.iand, 1) := dk_126 (dk_at dksX16_findWays_2 14 rfl rfl)
theorem dX16_findWays_62 : decode cX16_findWays 62 = .ok (.istore 4, 2) := dk_54 4 (dk_at dksX16_findWays_2 15 rfl rfl)
theorem dX16_findWays_64 : decode cX16_findWays 64 = .ok (.iload 4, 2) := dk_21 4 (dk_at dksX16_findWays_2 17 rfl rfl)
theorem dX16_findWays_66 : decode cX16_findWays 66 = .ok (.iload_n 2, 1) := dk_28 (dk_at dksX16_findWays_2 19 rfl rfl)
theorem dX16_findWays_67 : decode cX16_findWays 67 = .ok (.if_icmp .eq 39, 3) := dk_159 0 39 (dk_at dksX16_findWays_2 20 rfl rfl)
theorem dX16_findWays_70 : decode cX16_findWays 70 = .ok (.aload_n 0, 1) := dk_42 (dk_at dksX16_findWays_2 23 rfl rfl)
theorem dX16_findWays_71 : decode cX16_findWays 71 = .ok (.iload 4, 2) := dk_21 4 (dk_at dksX16_findWays_3 0 rfl rfl)
theorem dX16_findWays_73 : decode cX16_findWays 73 = .ok (.iload_n 1, 1) := dk_27 (dk_at dksX16_findWays_3 2 rfl rfl)
theorem dX16_findWays_74 : decode cX16_findWays 74 = .ok (.invokevirtual 198, 3) := dk_182 0 198 (dk_at dksX16_findWays_3 3 rfl rfl)
theorem dX16_findWays_77 : decode cX16_findWays 77 = .ok (.ifCond .eq 29, 3) := dk_153 0 29 (dk_at dksX16_findWays_3 6 rfl rfl)
theorem dX16_findWays_80 : decode cX16_findWays 80 = .ok (.aload_n 0, 1) := dk_42 (dk_at dksX16_findWays_3 9 rfl rfl)
theorem dX16_findWays_81 : decode cX16_findWays 81 = .ok (.iload_n 3, 1) := dk_29 (dk_at dksX16_findWays_3 10 rfl rfl)
theorem dX16_findWays_82 : decode cX16_findWays 82 = .ok (.iload 4, 2) := dk_21 4 (dk_at dksX16_findWays_3 11 rfl rfl)
theorem dX16_findWays_84 : decode cX16_findWays 84 = .ok (.invokevirtual 149, 3) := dk_182 0 149 (dk_at dksX16_findWays_3 13 rfl rfl)
theorem dX16_findWays_87 : decode cX16_findWays 87 = .ok (.ifCond .eq 19, 3) := dk_153 0 19 (dk_at dksX16_findWays_3 16 rfl rfl)
theorem dX16_findWays_90 : decode cX16_findWays 90 = .ok (.aload_n 0, 1) := dk_42 (dk_at dksX16_findWays_3 19 rfl rfl)
theorem dX16_findWays_91 : decode cX16_findWays 91 = .ok (.getfield 49, 3) := dk_180 0 49 (dk_at dksX16_findWays_3 20 rfl rfl)
theorem dX16_findWays_94 : decode cX16_findWays 94 = .ok (.iload_n 2, 1) := dk_28 (dk_at dksX16_findWays_3 23 rfl rfl)
theorem dX16_findWays_95 : decode cX16_findWays 95 = .ok (.dup2, 1) := dk_92 (dk_at dksX16_findWays_4 0 rfl rfl)
theorem dX16_findWays_96 : decode cX16_findWays 96 = .ok (.iaload, 1) := dk_46 (dk_at dksX16_findWays_4 1 rfl rfl)
theorem dX16_findWays_97 : decode cX16_findWays 97 = .ok (.aload_n 0, 1) := dk_42 (dk_at dksX16_findWays_4 2 rfl rfl)
theorem dX16_findWays_98 : decode cX16_findWays 98 = .ok (.getfield 49, 3) := dk_180 0 49 (dk_at dksX16_findWays_4 3 rfl rfl)
theorem dX16_findWays_101 : decode cX16_findWays 101 = .ok (.iload 4, 2) := dk_21 4 (dk_at dksX16_findWays_4 6 rfl rfl)
theorem dX16_findWays_103 : decode cX16_findWays 103 = .ok (.iaload, 1) := dk_46 (dk_at dksX16_findWays_4 8 rfl rfl)
theorem dX16_findWays_104 : decode cX16_findWays 104 = .ok (.iadd, 1) := dk_96 (dk_at dksX16_findWays_4 9 rfl rfl)
theorem dX16_findWays_105 : decode cX16_findWays 105 = .ok (.iastore, 1) := dk_79 (dk_at dksX16_findWays_4 10 rfl rfl)
theorem dX16_findWays_106 : decode cX16_findWays 106 = .ok (.iinc 3 1, 3) := dk_132 3 1 (dk_at dksX16_findWays_4 11 rfl rfl)
theorem dX16_findWays_109 : decode cX16_findWays 109 = .ok (.goto (-79), 3) := dk_167 255 177 (dk_at dksX16_findWays_4 14 rfl rfl)
theorem dX16_findWays_112 : decode cX16_findWays 112 = .ok (.iinc 2 1, 3) := dk_132 2 1 (dk_at dksX16_findWays_4 17 rfl rfl)
theorem dX16_findWays_115 : decode cX16_findWays 115 = .ok (.goto (-113), 3) := dk_167 255 143 (dk_at dksX16_findWays_4 20 rfl rfl)
theorem dX16_findWays_118 : decode cX16_findWays 118 = .ok (.sipush 1023, 3) := dk_17 3 255 (dk_at dksX16_findWays_5 0 rfl rfl)
theorem dX16_findWays_121 : decode cX16_findWays 121 = .ok (.istore_n 2, 1) := dk_61 (dk_at dksX16_findWays_5 3 rfl rfl)
theorem dX16_findWays_122 : decode cX16_findWays 122 = .ok (.iload_n 2, 1) := dk_28 (dk_at dksX16_findWays_5 4 rfl rfl)
theorem dX16_findWays_123 : decode cX16_findWays 123 = .ok (.ifCond .lt 95, 3) := dk_155 0 95 (dk_at dksX16_findWays_5 5 rfl rfl)
theorem dX16_findWays_126 : decode cX16_findWays 126 = .ok (.aload_n 0, 1) := dk_42 (dk_at dksX16_findWays_5 8 rfl rfl)
theorem dX16_findWays_127 : decode cX16_findWays 127 = .ok (.getfield 52, 3) := dk_180 0 52 (dk_at dksX16_findWays_5 9 rfl rfl)
theorem dX16_findWays_130 : decode cX16_findWays 130 = .ok (.iload_n 2, 1) := dk_28 (dk_at dksX16_findWays_5 12 rfl rfl)
theorem dX16_findWays_131 : decode cX16_findWays 131 = .ok (.iload_n 2, 1) := dk_28 (dk_at dksX16_findWays_5 13 rfl rfl)
theorem dX16_findWays_132 : decode cX16_findWays 132 = .ok (.iload_n 1, 1) := dk_27 (dk_at dksX16_findWays_5 14 rfl rfl)
theorem dX16_findWays_133 : decode cX16_findWays 133 = .ok (.if_icmp .ne 7, 3) := dk_160 0 7 (dk_at dksX16_findWays_5 15 rfl rfl)
theorem dX16_findWays_136 : decode cX16_findWays 136 = .ok (.iconst 1, 1) := dk_4 (dk_at dksX16_findWays_5 18 rfl rfl)
theorem dX16_findWays_137 : decode cX16_findWays 137 = .ok (.goto 4, 3) := dk_167 0 4 (dk_at dksX16_findWays_5 19 rfl rfl)
theorem dX16_findWays_140 : decode cX16_findWays 140 = .ok (.iconst 0, 1) := dk_3 (dk_at dksX16_findWays_5 22 rfl rfl)
theorem dX16_findWays_141 : decode cX16_findWays 141 = .ok (.iastore, 1) := dk_79 (dk_at dksX16_findWays_5 23 rfl rfl)
theorem dX16_findWays_142 : decode cX16_findWays 142 = .ok (.iconst 0, 1) := dk_3 (dk_at dksX16_findWays_6 0 rfl rfl)
theorem dX16_findWays_143 : decode cX16_findWays 143 = .ok (.istore_n 3, 1) := dk_62 (dk_at dksX16_findWays_6 1 rfl rfl)
theorem dX16_findWays_144 : decode cX16_findWays 144 = .ok (.iload_n 3, 1) := dk_29 (dk_at dksX16_findWays_6 2 rfl rfl)
theorem dX16_findWays_145 : decode cX16_findWays 145 = .ok (.aload_n 0, 1) := dk_42 (dk_at dksX16_findWays_6 3 rfl rfl)
theorem dX16_findWays_146 : decode cX16_findWays 146 = .ok (.getfield 60, 3) := dk_180 0 60 (dk_at dksX16_findWays_6 4 rfl rfl)
theorem dX16_findWays_149 : decode cX16_findWays 149 = .ok (.if_icmp .ge 63, 3) := dk_162 0 63 (dk_at dksX16_findWays_6 7 rfl rfl)
theorem dX16_findWays_152 : decode cX16_findWays 152 = .ok (.aload_n 0, 1) := dk_42 (dk_at dksX16_findWays_6 10 rfl rfl)
theorem dX16_findWays_153 : decode cX16_findWays 153 = .ok (.iload_n 2, 1) := dk_28 (dk_at dksX16_findWays_6 11 rfl rfl)
theorem dX16_findWays_154 : decode cX16_findWays 154 = .ok (.iload_n 1, 1) := dk_27 (dk_at dksX16_findWays_6 12 rfl rfl)
theorem dX16_findWays_155 : decode cX16_findWays 155 = .ok (.invokevirtual 198, 3) := dk_182 0 198 (dk_at dksX16_findWays_6 13 rfl rfl)
theorem dX16_findWays_158 : decode cX16_findWays 158 = .ok (.ifCond .eq 54, 3) := dk_153 0 54 (dk_at dksX16_findWays_6 16 rfl rfl)
theorem dX16_findWays_161 : decode cX16_findWays 161 = .ok (.iload_n 2, 1) := dk_28 (dk_at dksX16_findWays_6 19 rfl rfl)
theorem dX16_findWays_162 : decode cX16_findWays 162 = .ok (.iload_n 1, 1) := dk_27 (dk_at dksX16_findWays_6 20 rfl rfl)
theorem dX16_findWays_163 : decode cX16_findWays 163 = .ok (.if_icmp .eq 49, 3) := dk_159 0 49 (dk_at dksX16_findWays_6 21 rfl rfl)
theorem dX16_findWays_166 : decode cX16_findWays 166 = .ok (.iload_n 1, 1) := dk_27 (dk_at dksX16_findWays_7 0 rfl rfl)
theorem dX16_findWays_167 : decode cX16_findWays 167 = .ok (.iload_n 2, 1) := dk_28 (dk_at dksX16_findWays_7 1 rfl rfl)
theorem dX16_findWays_168 : decode cX16_findWays 168 = .ok (.iconst (-1), 1) := dk_2 (dk_at dksX16_findWays_7 2 rfl rfl)
theorem dX16_findWays_169 : decode cX16_findWays 169 = .ok (.ixor, 1) := dk_130 (dk_at dksX16_findWays_7 3 rfl rfl)
theorem dX16_findWays_170 : decode cX16_findWays 170 = .ok (.iand, 1) := dk_126 (dk_at dksX16_findWays_7 4 rfl rfl)
theorem dX16_findWays_171 : decode cX16_findWays 171 = .ok (.iload_n 3, 1) := dk_29 (dk_at dksX16_findWays_7 5 rfl rfl)
theorem dX16_findWays_172 : decode cX16_findWays 172 = .ok (.invokestatic 146, 3) := dk_184 0 146 (dk_at dksX16_findWays_7 6 rfl rfl)
theorem dX16_findWays_175 : decode cX16_findWays 175 = .ok (.ifCond .eq 31, 3) := dk_153 0 31 (dk_at dksX16_findWays_7 9 rfl rfl)
theorem dX16_findWays_178 : decode cX16_findWays 178 = .ok (.aload_n 0, 1) := dk_42 (dk_at dksX16_findWays_7 12 rfl rfl)
theorem dX16_findWays_179 : decode cX16_findWays 179 = .ok (.iload_n 3, 1) := dk_29 (dk_at dksX16_findWays_7 13 rfl rfl)
theorem dX16_findWays_180 : decode cX16_findWays 180 = .ok (.iload_n 2, 1) := dk_28 (dk_at dksX16_findWays_7 14 rfl rfl)
theorem dX16_findWays_181 : decode cX16_findWays 181 = .ok (.invokevirtual 149, 3) := dk_182 0 149 (dk_at dksX16_findWays_7 15 rfl rfl)
theorem dX16_findWays_184 : decode cX16_findWays 184 = .ok (.ifCond .eq 22, 3) := dk_153 0 22 (dk_at dksX16_findWays_7 18 rfl rfl)
theorem dX16_findWays_187 : decode cX16_findWays 187 = .ok (.aload_n 0, 1) := dk_42 (dk_at dksX16_findWays_7 21 rfl rfl)
theorem dX16_findWays_188 : decode cX16_findWays 188 = .ok (.getfield 52, 3) := dk_180 0 52 (dk_at dksX16_findWays_8 0 rfl rfl)
theorem dX16_findWays_191 : decode cX16_findWays 191 = .ok (.iload_n 2, 1) := dk_28 (dk_at dksX16_findWays_8 3 rfl rfl)
theorem dX16_findWays_192 : decode cX16_findWays 192 = .ok (.dup2, 1) := dk_92 (dk_at dksX16_findWays_8 4 rfl rfl)
theorem dX16_findWays_193 : decode cX16_findWays 193 = .ok (.iaload, 1) := dk_46 (dk_at dksX16_findWays_8 5 rfl rfl)
theorem dX16_findWays_194 : decode cX16_findWays 194 = .ok (.aload_n 0, 1) := dk_42 (dk_at dksX16_findWays_8 6 rfl rfl)
theorem dX16_findWays_195 : decode cX16_findWays 195 = .ok (.getfield 52, 3) := dk_180 0 52 (dk_at dksX16_findWays_8 7 rfl rfl)
theorem dX16_findWays_198 : decode cX16_findWays 198 = .ok (.iload_n 2, 1) := dk_28 (dk_at dksX16_findWays_8 10 rfl rfl)
theorem dX16_findWays_199 : decode cX16_findWays 199 = .ok (.iconst 1, 1) := dk_4 (dk_at dksX16_findWays_8 11 rfl rfl)
theorem dX16_findWays_200 : decode cX16_findWays 200 = .ok (.iload_n 3, 1) := dk_29 (dk_at dksX16_findWays_8 12 rfl rfl)
theorem dX16_findWays_201 : decode cX16_findWays 201 = .ok (.ishl, 1) := dk_120 (dk_at dksX16_findWays_8 13 rfl rfl)
theorem dX16_findWays_202 : decode cX16_findWays 202 = .ok (.ior, 1) := dk_128 (dk_at dksX16_findWays_8 14 rfl rfl)
theorem dX16_findWays_203 : decode cX16_findWays 203 = .ok (.iaload, 1) := dk_46 (dk_at dksX16_findWays_8 15 rfl rfl)
theorem dX16_findWays_204 : decode cX16_findWays 204 = .ok (.iadd, 1) := dk_96 (dk_at dksX16_findWays_8 16 rfl rfl)
theorem dX16_findWays_205 : decode cX16_findWays 205 = .ok (.iastore, 1) := dk_79 (dk_at dksX16_findWays_8 17 rfl rfl)
theorem dX16_findWays_206 : decode cX16_findWays 206 = .ok (.iinc 3 1, 3) := dk_132 3 1 (dk_at dksX16_findWays_8 18 rfl rfl)
theorem dX16_findWays_209 : decode cX16_findWays 209 = .ok (.goto (-65), 3) := dk_167 255 191 (dk_at dksX16_findWays_8 21 rfl rfl)
theorem dX16_findWays_212 : decode cX16_findWays 212 = .ok (.iinc 2 (-1), 3) := dk_132 2 255 (dk_at dksX16_findWays_9 0 rfl rfl)
theorem dX16_findWays_215 : decode cX16_findWays 215 = .ok (.goto (-93), 3) := dk_167 255 163 (dk_at dksX16_findWays_9 3 rfl rfl)
theorem dX16_findWays_218 : decode cX16_findWays 218 = .ok (.return_, 1) := dk_177 (dk_at dksX16_findWays_9 6 rfl rfl)
abbrev cX16_isWithin : ByteArray := prog_28_method_51_code
def yX16_isWithin : MethodName := ⟨RX16, "isWithin", "(II)Z"⟩
def dkwX16_isWithin_1 : List UInt8 := [172]
abbrev dktX16_isWithin_1 : List UInt8 := dkwX16_isWithin_1 ++ []
def dkwX16_isWithin_0 : List UInt8 := [42, 180, 0, 109, 27, 2, 130, 126, 154, 0, 15, 27, 28, 2, 130, 126, 154, 0, 7, 4, 167, 0, 4, 3]
abbrev dktX16_isWithin_0 : List UInt8 := dkwX16_isWithin_0 ++ dktX16_isWithin_1
theorem dksX16_isWithin_0 : cX16_isWithin.data.toList.drop 0 = dktX16_isWithin_0 := by decide +kernel
theorem dksX16_isWithin_1 : cX16_isWithin.data.toList.drop 24 = dktX16_isWithin_1 := dk_seg dksX16_isWithin_0 24 rfl rfl
theorem dX16_isWithin_0 : decode cX16_isWithin 0 = .ok (.aload_n 0, 1) := dk_42 (dk_at dksX16_isWithin_0 0 rfl rfl)
theorem dX16_isWithin_1 : decode cX16_isWithin 1 = .ok (.getfield 109, 3) := dk_180 0 109 (dk_at dksX16_isWithin_0 1 rfl rfl)
theorem dX16_isWithin_4 : decode cX16_isWithin 4 = .ok (.iload_n 1, 1) := dk_27 (dk_at dksX16_isWithin_0 4 rfl rfl)
theorem dX16_isWithin_5 : decode cX16_isWithin 5 = .ok (.iconst (-1), 1) := dk_2 (dk_at dksX16_isWithin_0 5 rfl rfl)
theorem dX16_isWithin_6 : decode cX16_isWithin 6 = .ok (.ixor, 1) := dk_130 (dk_at dksX16_isWithin_0 6 rfl rfl)
theorem dX16_isWithin_7 : decode cX16_isWithin 7 = .ok (.iand, 1) := dk_126 (dk_at dksX16_isWithin_0 7 rfl rfl)
theorem dX16_isWithin_8 : decode cX16_isWithin 8 = .ok (.ifCond .ne 15, 3) := dk_154 0 15 (dk_at dksX16_isWithin_0 8 rfl rfl)
theorem dX16_isWithin_11 : decode cX16_isWithin 11 = .ok (.iload_n 1, 1) := dk_27 (dk_at dksX16_isWithin_0 11 rfl rfl)
theorem dX16_isWithin_12 : decode cX16_isWithin 12 = .ok (.iload_n 2, 1) := dk_28 (dk_at dksX16_isWithin_0 12 rfl rfl)
theorem dX16_isWithin_13 : decode cX16_isWithin 13 = .ok (.iconst (-1), 1) := dk_2 (dk_at dksX16_isWithin_0 13 rfl rfl)
theorem dX16_isWithin_14 : decode cX16_isWithin 14 = .ok (.ixor, 1) := dk_130 (dk_at dksX16_isWithin_0 14 rfl rfl)
theorem dX16_isWithin_15 : decode cX16_isWithin 15 = .ok (.iand, 1) := dk_126 (dk_at dksX16_isWithin_0 15 rfl rfl)
theorem dX16_isWithin_16 : decode cX16_isWithin 16 = .ok (.ifCond .ne 7, 3) := dk_154 0 7 (dk_at dksX16_isWithin_0 16 rfl rfl)
theorem dX16_isWithin_19 : decode cX16_isWithin 19 = .ok (.iconst 1, 1) := dk_4 (dk_at dksX16_isWithin_0 19 rfl rfl)
theorem dX16_isWithin_20 : decode cX16_isWithin 20 = .ok (.goto 4, 3) := dk_167 0 4 (dk_at dksX16_isWithin_0 20 rfl rfl)
theorem dX16_isWithin_23 : decode cX16_isWithin 23 = .ok (.iconst 0, 1) := dk_3 (dk_at dksX16_isWithin_0 23 rfl rfl)
theorem dX16_isWithin_24 : decode cX16_isWithin 24 = .ok (.ireturn, 1) := dk_172 (dk_at dksX16_isWithin_1 0 rfl rfl)
abbrev cX16_must : ByteArray := prog_28_method_55_code
def yX16_must : MethodName := ⟨RX16, "must", "(I)I"⟩
def dkwX16_must_4 : List UInt8 := [128, 62, 132, 5, 1, 167, 255, 181, 29, 172]
abbrev dktX16_must_4 : List UInt8 := dkwX16_must_4 ++ []
def dkwX16_must_3 : List UInt8 := [4, 21, 5, 120, 128, 182, 0, 162, 21, 6, 126, 21, 6, 159, 0, 10, 4, 21, 5, 120, 167, 0, 4, 3]
abbrev dktX16_must_3 : List UInt8 := dkwX16_must_3 ++ dktX16_must_4
def dkwX16_must_2 : List UInt8 := [154, 0, 6, 167, 0, 47, 27, 4, 21, 5, 120, 2, 130, 126, 54, 6, 29, 42, 42, 180, 0, 109, 21, 4]
abbrev dktX16_must_2 : List UInt8 := dkwX16_must_2 ++ dktX16_must_3
def dkwX16_must_1 : List UInt8 := [54, 5, 21, 5, 42, 180, 0, 60, 162, 0, 72, 27, 42, 180, 0, 109, 2, 130, 126, 21, 5, 184, 0, 146]
abbrev dktX16_must_1 : List UInt8 := dkwX16_must_1 ++ dktX16_must_2
def dkwX16_must_0 : List UInt8 := [42, 27, 182, 0, 201, 61, 28, 153, 0, 9, 42, 28, 182, 0, 75, 172, 3, 62, 27, 2, 130, 54, 4, 3]
abbrev dktX16_must_0 : List UInt8 := dkwX16_must_0 ++ dktX16_must_1
theorem dksX16_must_0 : cX16_must.data.toList.drop 0 = dktX16_must_0 := by decide +kernel
theorem dksX16_must_1 : cX16_must.data.toList.drop 24 = dktX16_must_1 := dk_seg dksX16_must_0 24 rfl rfl
theorem dksX16_must_2 : cX16_must.data.toList.drop 48 = dktX16_must_2 := dk_seg dksX16_must_1 24 rfl rfl
theorem dksX16_must_3 : cX16_must.data.toList.drop 72 = dktX16_must_3 := dk_seg dksX16_must_2 24 rfl rfl
theorem dksX16_must_4 : cX16_must.data.toList.drop 96 = dktX16_must_4 := dk_seg dksX16_must_3 24 rfl rfl
theorem dX16_must_0 : decode cX16_must 0 = .ok (.aload_n 0, 1) := dk_42 (dk_at dksX16_must_0 0 rfl rfl)
theorem dX16_must_1 : decode cX16_must 1 = .ok (.iload_n 1, 1) := dk_27 (dk_at dksX16_must_0 1 rfl rfl)
theorem dX16_must_2 : decode cX16_must 2 = .ok (.invokevirtual 201, 3) := dk_182 0 201 (dk_at dksX16_must_0 2 rfl rfl)
theorem dX16_must_5 : decode cX16_must 5 = .ok (.istore_n 2, 1) := dk_61 (dk_at dksX16_must_0 5 rfl rfl)
theorem dX16_must_6 : decode cX16_must 6 = .ok (.iload_n 2, 1) := dk_28 (dk_at dksX16_must_0 6 rfl rfl)
theorem dX16_must_7 : decode cX16_must 7 = .ok (.ifCond .eq 9, 3) := dk_153 0 9 (dk_at dksX16_must_0 7 rfl rfl)
theorem dX16_must_10 : decode cX16_must 10 = .ok (.aload_n 0, 1) := dk_42 (dk_at dksX16_must_0 10 rfl rfl)
theorem dX16_must_11 : decode cX16_must 11 = .ok (.iload_n 2, 1) := dk_28 (dk_at dksX16_must_0 11 rfl rfl)
theorem dX16_must_12 : decode cX16_must 12 = .ok (.invokevirtual 75, 3) := dk_182 0 75 (dk_at dksX16_must_0 12 rfl rfl)
theorem dX16_must_15 : decode cX16_must 15 = .ok (.ireturn, 1) := dk_172 (dk_at dksX16_must_0 15 rfl rfl)
theorem dX16_must_16 : decode cX16_must 16 = .ok (.iconst 0, 1) := dk_3 (dk_at dksX16_must_0 16 rfl rfl)
theorem dX16_must_17 : decode cX16_must 17 = .ok (.istore_n 3, 1) := dk_62 (dk_at dksX16_must_0 17 rfl rfl)
theorem dX16_must_18 : decode cX16_must 18 = .ok (.iload_n 1, 1) := dk_27 (dk_at dksX16_must_0 18 rfl rfl)
theorem dX16_must_19 : decode cX16_must 19 = .ok (.iconst (-1), 1) := dk_2 (dk_at dksX16_must_0 19 rfl rfl)
theorem dX16_must_20 : decode cX16_must 20 = .ok (.ixor, 1) := dk_130 (dk_at dksX16_must_0 20 rfl rfl)
theorem dX16_must_21 : decode cX16_must 21 = .ok (.istore 4, 2) := dk_54 4 (dk_at dksX16_must_0 21 rfl rfl)
theorem dX16_must_23 : decode cX16_must 23 = .ok (.iconst 0, 1) := dk_3 (dk_at dksX16_must_0 23 rfl rfl)
theorem dX16_must_24 : decode cX16_must 24 = .ok (.istore 5, 2) := dk_54 5 (dk_at dksX16_must_1 0 rfl rfl)
theorem dX16_must_26 : decode cX16_must 26 = .ok (.iload 5, 2) := dk_21 5 (dk_at dksX16_must_1 2 rfl rfl)
theorem dX16_must_28 : decode cX16_must 28 = .ok (.aload_n 0, 1) := dk_42 (dk_at dksX16_must_1 4 rfl rfl)
theorem dX16_must_29 : decode cX16_must 29 = .ok (.getfield 60, 3) := dk_180 0 60 (dk_at dksX16_must_1 5 rfl rfl)
theorem dX16_must_32 : decode cX16_must 32 = .ok (.if_icmp .ge 72, 3) := dk_162 0 72 (dk_at dksX16_must_1 8 rfl rfl)
theorem dX16_must_35 : decode cX16_must 35 = .ok (.iload_n 1, 1) := dk_27 (dk_at dksX16_must_1 11 rfl rfl)
theorem dX16_must_36 : decode cX16_must 36 = .ok (.aload_n 0, 1) := dk_42 (dk_at dksX16_must_1 12 rfl rfl)
theorem dX16_must_37 : decode cX16_must 37 = .ok (.getfield 109, 3) := dk_180 0 109 (dk_at dksX16_must_1 13 rfl rfl)
theorem dX16_must_40 : decode cX16_must 40 = .ok (.iconst (-1), 1) := dk_2 (dk_at dksX16_must_1 16 rfl rfl)
theorem dX16_must_41 : decode cX16_must 41 = .ok (.ixor, 1) := dk_130 (dk_at dksX16_must_1 17 rfl rfl)
theorem dX16_must_42 : decode cX16_must 42 = .ok (.iand, 1) := dk_126 (dk_at dksX16_must_1 18 rfl rfl)
theorem dX16_must_43 : decode cX16_must 43 = .ok (.iload 5, 2) := dk_21 5 (dk_at dksX16_must_1 19 rfl rfl)
theorem dX16_must_45 : decode cX16_must 45 = .ok (.invokestatic 146, 3) := dk_184 0 146 (dk_at dksX16_must_1 21 rfl rfl)
theorem dX16_must_48 : decode cX16_must 48 = .ok (.ifCond .ne 6, 3) := dk_154 0 6 (dk_at dksX16_must_2 0 rfl rfl)
theorem dX16_must_51 : decode cX16_must 51 = .ok (.goto 47, 3) := dk_167 0 47 (dk_at dksX16_must_2 3 rfl rfl)
theorem dX16_must_54 : decode cX16_must 54 = .ok (.iload_n 1, 1) := dk_27 (dk_at dksX16_must_2 6 rfl rfl)
theorem dX16_must_55 : decode cX16_must 55 = .ok (.iconst 1, 1) := dk_4 (dk_at dksX16_must_2 7 rfl rfl)
theorem dX16_must_56 : decode cX16_must 56 = .ok (.iload 5, 2) := dk_21 5 (dk_at dksX16_must_2 8 rfl rfl)
theorem dX16_must_58 : decode cX16_must 58 = .ok (.ishl, 1) := dk_120 (dk_at dksX16_must_2 10 rfl rfl)
theorem dX16_must_59 : decode cX16_must 59 = .ok (.iconst (-1), 1) := dk_2 (dk_at dksX16_must_2 11 rfl rfl)
theorem dX16_must_60 : decode cX16_must 60 = .ok (.ixor, 1) := dk_130 (dk_at dksX16_must_2 12 rfl rfl)
theorem dX16_must_61 : decode cX16_must 61 = .ok (.iand, 1) := dk_126 (dk_at dksX16_must_2 13 rfl rfl)
theorem dX16_must_62 : decode cX16_must 62 = .ok (.istore 6, 2) := dk_54 6 (dk_at dksX16_must_2 14 rfl rfl)
theorem dX16_must_64 : decode cX16_must 64 = .ok (.iload_n 3, 1) := dk_29 (dk_at dksX16_must_2 16 rfl rfl)
theorem dX16_must_65 : decode cX16_must 65 = .ok (.aload_n 0, 1) := dk_42 (dk_at dksX16_must_2 17 rfl rfl)
theorem dX16_must_66 : decode cX16_must 66 = .ok (.aload_n 0, 1) := dk_42 (dk_at dksX16_must_2 18 rfl rfl)
theorem dX16_must_67 : decode cX16_must 67 = .ok (.getfield 109, 3) := dk_180 0 109 (dk_at dksX16_must_2 19 rfl rfl)
theorem dX16_must_70 : decode cX16_must 70 = .ok (.iload 4, 2) := dk_21 4 (dk_at dksX16_must_2 22 rfl rfl)
theorem dX16_must_72 : decode cX16_must 72 = .ok (.iconst 1, 1) := dk_4 (dk_at dksX16_must_3 0 rfl rfl)
theorem dX16_must_73 : decode cX16_must 73 = .ok (.iload 5, 2) := dk_21 5 (dk_at dksX16_must_3 1 rfl rfl)
theorem dX16_must_75 : decode cX16_must 75 = .ok (.ishl, 1) := dk_120 (dk_at dksX16_must_3 3 rfl rfl)
theorem dX16_must_76 : decode cX16_must 76 = .ok (.ior, 1) := dk_128 (dk_at dksX16_must_3 4 rfl rfl)
theorem dX16_must_77 : decode cX16_must 77 = .ok (.invokevirtual 162, 3) := dk_182 0 162 (dk_at dksX16_must_3 5 rfl rfl)
theorem dX16_must_80 : decode cX16_must 80 = .ok (.iload 6, 2) := dk_21 6 (dk_at dksX16_must_3 8 rfl rfl)
theorem dX16_must_82 : decode cX16_must 82 = .ok (.iand, 1) := dk_126 (dk_at dksX16_must_3 10 rfl rfl)
theorem dX16_must_83 : decode cX16_must 83 = .ok (.iload 6, 2) := dk_21 6 (dk_at dksX16_must_3 11 rfl rfl)
theorem dX16_must_85 : decode cX16_must 85 = .ok (.if_icmp .eq 10, 3) := dk_159 0 10 (dk_at dksX16_must_3 13 rfl rfl)
theorem dX16_must_88 : decode cX16_must 88 = .ok (.iconst 1, 1) := dk_4 (dk_at dksX16_must_3 16 rfl rfl)
theorem dX16_must_89 : decode cX16_must 89 = .ok (.iload 5, 2) := dk_21 5 (dk_at dksX16_must_3 17 rfl rfl)
theorem dX16_must_91 : decode cX16_must 91 = .ok (.ishl, 1) := dk_120 (dk_at dksX16_must_3 19 rfl rfl)
theorem dX16_must_92 : decode cX16_must 92 = .ok (.goto 4, 3) := dk_167 0 4 (dk_at dksX16_must_3 20 rfl rfl)
theorem dX16_must_95 : decode cX16_must 95 = .ok (.iconst 0, 1) := dk_3 (dk_at dksX16_must_3 23 rfl rfl)
theorem dX16_must_96 : decode cX16_must 96 = .ok (.ior, 1) := dk_128 (dk_at dksX16_must_4 0 rfl rfl)
theorem dX16_must_97 : decode cX16_must 97 = .ok (.istore_n 3, 1) := dk_62 (dk_at dksX16_must_4 1 rfl rfl)
theorem dX16_must_98 : decode cX16_must 98 = .ok (.iinc 5 1, 3) := dk_132 5 1 (dk_at dksX16_must_4 2 rfl rfl)
theorem dX16_must_101 : decode cX16_must 101 = .ok (.goto (-75), 3) := dk_167 255 181 (dk_at dksX16_must_4 5 rfl rfl)
theorem dX16_must_104 : decode cX16_must 104 = .ok (.iload_n 3, 1) := dk_29 (dk_at dksX16_must_4 8 rfl rfl)
theorem dX16_must_105 : decode cX16_must 105 = .ok (.ireturn, 1) := dk_172 (dk_at dksX16_must_4 9 rfl rfl)
abbrev cX16_halfway : ByteArray := prog_28_method_56_code
def yX16_halfway : MethodName := ⟨RX16, "halfway", "(II)I"⟩
def dkwX16_halfway_5 : List UInt8 := [126, 54, 4, 132, 5, 1, 167, 255, 191, 21, 4, 172]
abbrev dktX16_halfway_5 : List UInt8 := dkwX16_halfway_5 ++ []
def dkwX16_halfway_4 : List UInt8 := [42, 180, 0, 49, 21, 5, 46, 158, 0, 20, 42, 180, 0, 52, 21, 5, 46, 158, 0, 10, 21, 4, 21, 5]
abbrev dktX16_halfway_4 : List UInt8 := dkwX16_halfway_4 ++ dktX16_halfway_5
def dkwX16_halfway_3 : List UInt8 := [27, 182, 0, 198, 153, 0, 47, 21, 5, 184, 0, 143, 42, 180, 0, 109, 184, 0, 143, 28, 96, 160, 0, 30]
abbrev dktX16_halfway_3 : List UInt8 := dkwX16_halfway_3 ++ dktX16_halfway_4
def dkwX16_halfway_2 : List UInt8 := [46, 154, 0, 6, 16, 247, 172, 27, 54, 4, 3, 54, 5, 21, 5, 17, 4, 0, 162, 0, 63, 42, 21, 5]
abbrev dktX16_halfway_2 : List UInt8 := dkwX16_halfway_2 ++ dktX16_halfway_3
def dkwX16_halfway_1 : List UInt8 := [184, 0, 68, 62, 29, 153, 0, 9, 42, 29, 182, 0, 75, 172, 42, 27, 182, 0, 204, 42, 180, 0, 49, 27]
abbrev dktX16_halfway_1 : List UInt8 := dkwX16_halfway_1 ++ dktX16_halfway_2
def dkwX16_halfway_0 : List UInt8 := [42, 27, 182, 0, 201, 62, 29, 154, 0, 20, 28, 3, 27, 42, 180, 0, 109, 2, 130, 126, 184, 0, 143]
abbrev dktX16_halfway_0 : List UInt8 := dkwX16_halfway_0 ++ dktX16_halfway_1
theorem dksX16_halfway_0 : cX16_halfway.data.toList.drop 0 = dktX16_halfway_0 := by decide +kernel
theorem dksX16_halfway_1 : cX16_halfway.data.toList.drop 23 = dktX16_halfway_1 := dk_seg dksX16_halfway_0 23 rfl rfl
theorem dksX16_halfway_2 : cX16_halfway.data.toList.drop 47 = dktX16_halfway_2 := dk_seg dksX16_halfway_1 24 rfl rfl
theorem dksX16_halfway_3 : cX16_halfway.data.toList.drop 71 = dktX16_halfway_3 := dk_seg dksX16_halfway_2 24 rfl rfl
theorem dksX16_halfway_4 : cX16_halfway.data.toList.drop 95 = dktX16_halfway_4 := dk_seg dksX16_halfway_3 24 rfl rfl
theorem dksX16_halfway_5 : cX16_halfway.data.toList.drop 119 = dktX16_halfway_5 := dk_seg dksX16_halfway_4 24 rfl rfl
theorem dX16_halfway_0 : decode cX16_halfway 0 = .ok (.aload_n 0, 1) := dk_42 (dk_at dksX16_halfway_0 0 rfl rfl)
theorem dX16_halfway_1 : decode cX16_halfway 1 = .ok (.iload_n 1, 1) := dk_27 (dk_at dksX16_halfway_0 1 rfl rfl)
theorem dX16_halfway_2 : decode cX16_halfway 2 = .ok (.invokevirtual 201, 3) := dk_182 0 201 (dk_at dksX16_halfway_0 2 rfl rfl)
theorem dX16_halfway_5 : decode cX16_halfway 5 = .ok (.istore_n 3, 1) := dk_62 (dk_at dksX16_halfway_0 5 rfl rfl)
theorem dX16_halfway_6 : decode cX16_halfway 6 = .ok (.iload_n 3, 1) := dk_29 (dk_at dksX16_halfway_0 6 rfl rfl)
theorem dX16_halfway_7 : decode cX16_halfway 7 = .ok (.ifCond .ne 20, 3) := dk_154 0 20 (dk_at dksX16_halfway_0 7 rfl rfl)
theorem dX16_halfway_10 : decode cX16_halfway 10 = .ok (.iload_n 2, 1) := dk_28 (dk_at dksX16_halfway_0 10 rfl rfl)
theorem dX16_halfway_11 : decode cX16_halfway 11 = .ok (.iconst 0, 1) := dk_3 (dk_at dksX16_halfway_0 11 rfl rfl)
theorem dX16_halfway_12 : decode cX16_halfway 12 = .ok (.iload_n 1, 1) := dk_27 (dk_at dksX16_halfway_0 12 rfl rfl)
theorem dX16_halfway_13 : decode cX16_halfway 13 = .ok (.aload_n 0, 1) := dk_42 (dk_at dksX16_halfway_0 13 rfl rfl)
theorem dX16_halfway_14 : decode cX16_halfway 14 = .ok (.getfield 109, 3) := dk_180 0 109 (dk_at dksX16_halfway_0 14 rfl rfl)
theorem dX16_halfway_17 : decode cX16_halfway 17 = .ok (.iconst (-1), 1) := dk_2 (dk_at dksX16_halfway_0 17 rfl rfl)
theorem dX16_halfway_18 : decode cX16_halfway 18 = .ok (.ixor, 1) := dk_130 (dk_at dksX16_halfway_0 18 rfl rfl)
theorem dX16_halfway_19 : decode cX16_halfway 19 = .ok (.iand, 1) := dk_126 (dk_at dksX16_halfway_0 19 rfl rfl)
theorem dX16_halfway_20 : decode cX16_halfway 20 = .ok (.invokestatic 143, 3) := dk_184 0 143 (dk_at dksX16_halfway_0 20 rfl rfl)
theorem dX16_halfway_23 : decode cX16_halfway 23 = .ok (.invokestatic 68, 3) := dk_184 0 68 (dk_at dksX16_halfway_1 0 rfl rfl)
theorem dX16_halfway_26 : decode cX16_halfway 26 = .ok (.istore_n 3, 1) := dk_62 (dk_at dksX16_halfway_1 3 rfl rfl)
theorem dX16_halfway_27 : decode cX16_halfway 27 = .ok (.iload_n 3, 1) := dk_29 (dk_at dksX16_halfway_1 4 rfl rfl)
theorem dX16_halfway_28 : decode cX16_halfway 28 = .ok (.ifCond .eq 9, 3) := dk_153 0 9 (dk_at dksX16_halfway_1 5 rfl rfl)
theorem dX16_halfway_31 : decode cX16_halfway 31 = .ok (.aload_n 0, 1) := dk_42 (dk_at dksX16_halfway_1 8 rfl rfl)
theorem dX16_halfway_32 : decode cX16_halfway 32 = .ok (.iload_n 3, 1) := dk_29 (dk_at dksX16_halfway_1 9 rfl rfl)
theorem dX16_halfway_33 : decode cX16_halfway 33 = .ok (.invokevirtual 75, 3) := dk_182 0 75 (dk_at dksX16_halfway_1 10 rfl rfl)
theorem dX16_halfway_36 : decode cX16_halfway 36 = .ok (.ireturn, 1) := dk_172 (dk_at dksX16_halfway_1 13 rfl rfl)
theorem dX16_halfway_37 : decode cX16_halfway 37 = .ok (.aload_n 0, 1) := dk_42 (dk_at dksX16_halfway_1 14 rfl rfl)
theorem dX16_halfway_38 : decode cX16_halfway 38 = .ok (.iload_n 1, 1) := dk_27 (dk_at dksX16_halfway_1 15 rfl rfl)
theorem dX16_halfway_39 : decode cX16_halfway 39 = .ok (.invokevirtual 204, 3) := dk_182 0 204 (dk_at dksX16_halfway_1 16 rfl rfl)
theorem dX16_halfway_42 : decode cX16_halfway 42 = .ok (.aload_n 0, 1) := dk_42 (dk_at dksX16_halfway_1 19 rfl rfl)
theorem dX16_halfway_43 : decode cX16_halfway 43 = .ok (.getfield 49, 3) := dk_180 0 49 (dk_at dksX16_halfway_1 20 rfl rfl)
theorem dX16_halfway_46 : decode cX16_halfway 46 = .ok (.iload_n 1, 1) := dk_27 (dk_at dksX16_halfway_1 23 rfl rfl)
theorem dX16_halfway_47 : decode cX16_halfway 47 = .ok (.iaload, 1) := dk_46 (dk_at dksX16_halfway_2 0 rfl rfl)
theorem dX16_halfway_48 : decode cX16_halfway 48 = .ok (.ifCond .ne 6, 3) := dk_154 0 6 (dk_at dksX16_halfway_2 1 rfl rfl)
theorem dX16_halfway_51 : decode cX16_halfway 51 = .ok (.bipush (-9), 2) := dk_16 247 (dk_at dksX16_halfway_2 4 rfl rfl)
theorem dX16_halfway_53 : decode cX16_halfway 53 = .ok (.ireturn, 1) := dk_172 (dk_at dksX16_halfway_2 6 rfl rfl)
theorem dX16_halfway_54 : decode cX16_halfway 54 = .ok (.iload_n 1, 1) := dk_27 (dk_at dksX16_halfway_2 7 rfl rfl)
theorem dX16_halfway_55 : decode cX16_halfway 55 = .ok (.istore 4, 2) := dk_54 4 (dk_at dksX16_halfway_2 8 rfl rfl)
theorem dX16_halfway_57 : decode cX16_halfway 57 = .ok (.iconst 0, 1) := dk_3 (dk_at dksX16_halfway_2 10 rfl rfl)
theorem dX16_halfway_58 : decode cX16_halfway 58 = .ok (.istore 5, 2) := dk_54 5 (dk_at dksX16_halfway_2 11 rfl rfl)
theorem dX16_halfway_60 : decode cX16_halfway 60 = .ok (.iload 5, 2) := dk_21 5 (dk_at dksX16_halfway_2 13 rfl rfl)
theorem dX16_halfway_62 : decode cX16_halfway 62 = .ok (.sipush 1024, 3) := dk_17 4 0 (dk_at dksX16_halfway_2 15 rfl rfl)
theorem dX16_halfway_65 : decode cX16_halfway 65 = .ok (.if_icmp .ge 63, 3) := dk_162 0 63 (dk_at dksX16_halfway_2 18 rfl rfl)
theorem dX16_halfway_68 : decode cX16_halfway 68 = .ok (.aload_n 0, 1) := dk_42 (dk_at dksX16_halfway_2 21 rfl rfl)
theorem dX16_halfway_69 : decode cX16_halfway 69 = .ok (.iload 5, 2) := dk_21 5 (dk_at dksX16_halfway_2 22 rfl rfl)
theorem dX16_halfway_71 : decode cX16_halfway 71 = .ok (.iload_n 1, 1) := dk_27 (dk_at dksX16_halfway_3 0 rfl rfl)
theorem dX16_halfway_72 : decode cX16_halfway 72 = .ok (.invokevirtual 198, 3) := dk_182 0 198 (dk_at dksX16_halfway_3 1 rfl rfl)
theorem dX16_halfway_75 : decode cX16_halfway 75 = .ok (.ifCond .eq 47, 3) := dk_153 0 47 (dk_at dksX16_halfway_3 4 rfl rfl)
theorem dX16_halfway_78 : decode cX16_halfway 78 = .ok (.iload 5, 2) := dk_21 5 (dk_at dksX16_halfway_3 7 rfl rfl)
theorem dX16_halfway_80 : decode cX16_halfway 80 = .ok (.invokestatic 143, 3) := dk_184 0 143 (dk_at dksX16_halfway_3 9 rfl rfl)
theorem dX16_halfway_83 : decode cX16_halfway 83 = .ok (.aload_n 0, 1) := dk_42 (dk_at dksX16_halfway_3 12 rfl rfl)
theorem dX16_halfway_84 : decode cX16_halfway 84 = .ok (.getfield 109, 3) := dk_180 0 109 (dk_at dksX16_halfway_3 13 rfl rfl)
theorem dX16_halfway_87 : decode cX16_halfway 87 = .ok (.invokestatic 143, 3) := dk_184 0 143 (dk_at dksX16_halfway_3 16 rfl rfl)
theorem dX16_halfway_90 : decode cX16_halfway 90 = .ok (.iload_n 2, 1) := dk_28 (dk_at dksX16_halfway_3 19 rfl rfl)
theorem dX16_halfway_91 : decode cX16_halfway 91 = .ok (.iadd, 1) := dk_96 (dk_at dksX16_halfway_3 20 rfl rfl)
theorem dX16_halfway_92 : decode cX16_halfway 92 = .ok (.if_icmp .ne 30, 3) := dk_160 0 30 (dk_at dksX16_halfway_3 21 rfl rfl)
theorem dX16_halfway_95 : decode cX16_halfway 95 = .ok (.aload_n 0, 1) := dk_42 (dk_at dksX16_halfway_4 0 rfl rfl)
theorem dX16_halfway_96 : decode cX16_halfway 96 = .ok (.getfield 49, 3) := dk_180 0 49 (dk_at dksX16_halfway_4 1 rfl rfl)
theorem dX16_halfway_99 : decode cX16_halfway 99 = .ok (.iload 5, 2) := dk_21 5 (dk_at dksX16_halfway_4 4 rfl rfl)
theorem dX16_halfway_101 : decode cX16_halfway 101 = .ok (.iaload, 1) := dk_46 (dk_at dksX16_halfway_4 6 rfl rfl)
theorem dX16_halfway_102 : decode cX16_halfway 102 = .ok (.ifCond .le 20, 3) := dk_158 0 20 (dk_at dksX16_halfway_4 7 rfl rfl)
theorem dX16_halfway_105 : decode cX16_halfway 105 = .ok (.aload_n 0, 1) := dk_42 (dk_at dksX16_halfway_4 10 rfl rfl)
theorem dX16_halfway_106 : decode cX16_halfway 106 = .ok (.getfield 52, 3) := dk_180 0 52 (dk_at dksX16_halfway_4 11 rfl rfl)
theorem dX16_halfway_109 : decode cX16_halfway 109 = .ok (.iload 5, 2) := dk_21 5 (dk_at dksX16_halfway_4 14 rfl rfl)
theorem dX16_halfway_111 : decode cX16_halfway 111 = .ok (.iaload, 1) := dk_46 (dk_at dksX16_halfway_4 16 rfl rfl)
theorem dX16_halfway_112 : decode cX16_halfway 112 = .ok (.ifCond .le 10, 3) := dk_158 0 10 (dk_at dksX16_halfway_4 17 rfl rfl)
theorem dX16_halfway_115 : decode cX16_halfway 115 = .ok (.iload 4, 2) := dk_21 4 (dk_at dksX16_halfway_4 20 rfl rfl)
theorem dX16_halfway_117 : decode cX16_halfway 117 = .ok (.iload 5, 2) := dk_21 5 (dk_at dksX16_halfway_4 22 rfl rfl)
theorem dX16_halfway_119 : decode cX16_halfway 119 = .ok (.iand, 1) := dk_126 (dk_at dksX16_halfway_5 0 rfl rfl)
theorem dX16_halfway_120 : decode cX16_halfway 120 = .ok (.istore 4, 2) := dk_54 4 (dk_at dksX16_halfway_5 1 rfl rfl)
theorem dX16_halfway_122 : decode cX16_halfway 122 = .ok (.iinc 5 1, 3) := dk_132 5 1 (dk_at dksX16_halfway_5 3 rfl rfl)
theorem dX16_halfway_125 : decode cX16_halfway 125 = .ok (.goto (-65), 3) := dk_167 255 191 (dk_at dksX16_halfway_5 6 rfl rfl)
theorem dX16_halfway_128 : decode cX16_halfway 128 = .ok (.iload 4, 2) := dk_21 4 (dk_at dksX16_halfway_5 9 rfl rfl)
theorem dX16_halfway_130 : decode cX16_halfway 130 = .ok (.ireturn, 1) := dk_172 (dk_at dksX16_halfway_5 11 rfl rfl)
abbrev cX16_drawer : ByteArray := prog_28_method_57_code
def yX16_drawer : MethodName := ⟨RX16, "drawer", "(III)J"⟩
def dkwX16_drawer_3 : List UInt8 := [28, 100, 4, 96, 133, 20, 0, 208, 29, 184, 0, 186, 173]
abbrev dktX16_drawer_3 : List UInt8 := dkwX16_drawer_3 ++ []
def dkwX16_drawer_2 : List UInt8 := [54, 4, 21, 4, 153, 0, 10, 42, 21, 4, 182, 0, 180, 173, 28, 27, 160, 0, 7, 10, 167, 0, 16, 27]
abbrev dktX16_drawer_2 : List UInt8 := dkwX16_drawer_2 ++ dktX16_drawer_3
def dkwX16_drawer_1 : List UInt8 := [164, 0, 8, 16, 250, 167, 0, 18, 29, 3, 4, 184, 0, 86, 154, 0, 8, 16, 254, 167, 0, 4, 3]
abbrev dktX16_drawer_1 : List UInt8 := dkwX16_drawer_1 ++ dktX16_drawer_2
def dkwX16_drawer_0 : List UInt8 := [27, 4, 161, 0, 7, 28, 156, 0, 8, 16, 252, 167, 0, 34, 27, 16, 30, 163, 0, 8, 28, 27]
abbrev dktX16_drawer_0 : List UInt8 := dkwX16_drawer_0 ++ dktX16_drawer_1
theorem dksX16_drawer_0 : cX16_drawer.data.toList.drop 0 = dktX16_drawer_0 := by decide +kernel
theorem dksX16_drawer_1 : cX16_drawer.data.toList.drop 22 = dktX16_drawer_1 := dk_seg dksX16_drawer_0 22 rfl rfl
theorem dksX16_drawer_2 : cX16_drawer.data.toList.drop 45 = dktX16_drawer_2 := dk_seg dksX16_drawer_1 23 rfl rfl
theorem dksX16_drawer_3 : cX16_drawer.data.toList.drop 69 = dktX16_drawer_3 := dk_seg dksX16_drawer_2 24 rfl rfl
theorem dX16_drawer_0 : decode cX16_drawer 0 = .ok (.iload_n 1, 1) := dk_27 (dk_at dksX16_drawer_0 0 rfl rfl)
theorem dX16_drawer_1 : decode cX16_drawer 1 = .ok (.iconst 1, 1) := dk_4 (dk_at dksX16_drawer_0 1 rfl rfl)
theorem dX16_drawer_2 : decode cX16_drawer 2 = .ok (.if_icmp .lt 7, 3) := dk_161 0 7 (dk_at dksX16_drawer_0 2 rfl rfl)
theorem dX16_drawer_5 : decode cX16_drawer 5 = .ok (.iload_n 2, 1) := dk_28 (dk_at dksX16_drawer_0 5 rfl rfl)
theorem dX16_drawer_6 : decode cX16_drawer 6 = .ok (.ifCond .ge 8, 3) := dk_156 0 8 (dk_at dksX16_drawer_0 6 rfl rfl)
theorem dX16_drawer_9 : decode cX16_drawer 9 = .ok (.bipush (-4), 2) := dk_16 252 (dk_at dksX16_drawer_0 9 rfl rfl)
theorem dX16_drawer_11 : decode cX16_drawer 11 = .ok (.goto 34, 3) := dk_167 0 34 (dk_at dksX16_drawer_0 11 rfl rfl)
theorem dX16_drawer_14 : decode cX16_drawer 14 = .ok (.iload_n 1, 1) := dk_27 (dk_at dksX16_drawer_0 14 rfl rfl)
theorem dX16_drawer_15 : decode cX16_drawer 15 = .ok (.bipush 30, 2) := dk_16 30 (dk_at dksX16_drawer_0 15 rfl rfl)
theorem dX16_drawer_17 : decode cX16_drawer 17 = .ok (.if_icmp .gt 8, 3) := dk_163 0 8 (dk_at dksX16_drawer_0 17 rfl rfl)
theorem dX16_drawer_20 : decode cX16_drawer 20 = .ok (.iload_n 2, 1) := dk_28 (dk_at dksX16_drawer_0 20 rfl rfl)
theorem dX16_drawer_21 : decode cX16_drawer 21 = .ok (.iload_n 1, 1) := dk_27 (dk_at dksX16_drawer_0 21 rfl rfl)
theorem dX16_drawer_22 : decode cX16_drawer 22 = .ok (.if_icmp .le 8, 3) := dk_164 0 8 (dk_at dksX16_drawer_1 0 rfl rfl)
theorem dX16_drawer_25 : decode cX16_drawer 25 = .ok (.bipush (-6), 2) := dk_16 250 (dk_at dksX16_drawer_1 3 rfl rfl)
theorem dX16_drawer_27 : decode cX16_drawer 27 = .ok (.goto 18, 3) := dk_167 0 18 (dk_at dksX16_drawer_1 5 rfl rfl)
theorem dX16_drawer_30 : decode cX16_drawer 30 = .ok (.iload_n 3, 1) := dk_29 (dk_at dksX16_drawer_1 8 rfl rfl)
theorem dX16_drawer_31 : decode cX16_drawer 31 = .ok (.iconst 0, 1) := dk_3 (dk_at dksX16_drawer_1 9 rfl rfl)
theorem dX16_drawer_32 : decode cX16_drawer 32 = .ok (.iconst 1, 1) := dk_4 (dk_at dksX16_drawer_1 10 rfl rfl)
theorem dX16_drawer_33 : decode cX16_drawer 33 = .ok (.invokestatic 86, 3) := dk_184 0 86 (dk_at dksX16_drawer_1 11 rfl rfl)
theorem dX16_drawer_36 : decode cX16_drawer 36 = .ok (.ifCond .ne 8, 3) := dk_154 0 8 (dk_at dksX16_drawer_1 14 rfl rfl)
theorem dX16_drawer_39 : decode cX16_drawer 39 = .ok (.bipush (-2), 2) := dk_16 254 (dk_at dksX16_drawer_1 17 rfl rfl)
theorem dX16_drawer_41 : decode cX16_drawer 41 = .ok (.goto 4, 3) := dk_167 0 4 (dk_at dksX16_drawer_1 19 rfl rfl)
theorem dX16_drawer_44 : decode cX16_drawer 44 = .ok (.iconst 0, 1) := dk_3 (dk_at dksX16_drawer_1 22 rfl rfl)
theorem dX16_drawer_45 : decode cX16_drawer 45 = .ok (.istore 4, 2) := dk_54 4 (dk_at dksX16_drawer_2 0 rfl rfl)
theorem dX16_drawer_47 : decode cX16_drawer 47 = .ok (.iload 4, 2) := dk_21 4 (dk_at dksX16_drawer_2 2 rfl rfl)
theorem dX16_drawer_49 : decode cX16_drawer 49 = .ok (.ifCond .eq 10, 3) := dk_153 0 10 (dk_at dksX16_drawer_2 4 rfl rfl)
theorem dX16_drawer_52 : decode cX16_drawer 52 = .ok (.aload_n 0, 1) := dk_42 (dk_at dksX16_drawer_2 7 rfl rfl)
theorem dX16_drawer_53 : decode cX16_drawer 53 = .ok (.iload 4, 2) := dk_21 4 (dk_at dksX16_drawer_2 8 rfl rfl)
theorem dX16_drawer_55 : decode cX16_drawer 55 = .ok (.invokevirtual 180, 3) := dk_182 0 180 (dk_at dksX16_drawer_2 10 rfl rfl)
theorem dX16_drawer_58 : decode cX16_drawer 58 = .ok (.lreturn, 1) := dk_173 (dk_at dksX16_drawer_2 13 rfl rfl)
theorem dX16_drawer_59 : decode cX16_drawer 59 = .ok (.iload_n 2, 1) := dk_28 (dk_at dksX16_drawer_2 14 rfl rfl)
theorem dX16_drawer_60 : decode cX16_drawer 60 = .ok (.iload_n 1, 1) := dk_27 (dk_at dksX16_drawer_2 15 rfl rfl)
theorem dX16_drawer_61 : decode cX16_drawer 61 = .ok (.if_icmp .ne 7, 3) := dk_160 0 7 (dk_at dksX16_drawer_2 16 rfl rfl)
theorem dX16_drawer_64 : decode cX16_drawer 64 = .ok (.lconst 1, 1) := dk_10 (dk_at dksX16_drawer_2 19 rfl rfl)
theorem dX16_drawer_65 : decode cX16_drawer 65 = .ok (.goto 16, 3) := dk_167 0 16 (dk_at dksX16_drawer_2 20 rfl rfl)
theorem dX16_drawer_68 : decode cX16_drawer 68 = .ok (.iload_n 1, 1) := dk_27 (dk_at dksX16_drawer_2 23 rfl rfl)
theorem dX16_drawer_69 : decode cX16_drawer 69 = .ok (.iload_n 2, 1) := dk_28 (dk_at dksX16_drawer_3 0 rfl rfl)
theorem dX16_drawer_70 : decode cX16_drawer 70 = .ok (.isub, 1) := dk_100 (dk_at dksX16_drawer_3 1 rfl rfl)
theorem dX16_drawer_71 : decode cX16_drawer 71 = .ok (.iconst 1, 1) := dk_4 (dk_at dksX16_drawer_3 2 rfl rfl)
theorem dX16_drawer_72 : decode cX16_drawer 72 = .ok (.iadd, 1) := dk_96 (dk_at dksX16_drawer_3 3 rfl rfl)
theorem dX16_drawer_73 : decode cX16_drawer 73 = .ok (.i2l, 1) := dk_133 (dk_at dksX16_drawer_3 4 rfl rfl)
theorem dX16_drawer_74 : decode cX16_drawer 74 = .ok (.ldc2_w 208, 3) := dk_20 0 208 (dk_at dksX16_drawer_3 5 rfl rfl)
theorem dX16_drawer_77 : decode cX16_drawer 77 = .ok (.iload_n 3, 1) := dk_29 (dk_at dksX16_drawer_3 8 rfl rfl)
theorem dX16_drawer_78 : decode cX16_drawer 78 = .ok (.invokestatic 186, 3) := dk_184 0 186 (dk_at dksX16_drawer_3 9 rfl rfl)
theorem dX16_drawer_81 : decode cX16_drawer 81 = .ok (.lreturn, 1) := dk_173 (dk_at dksX16_drawer_3 12 rfl rfl)
abbrev cX16_seeker : ByteArray := prog_28_method_60_code
def yX16_seeker : MethodName := ⟨RX16, "seeker", "(II)I"⟩
def dkwX16_seeker_3 : List UInt8 := [54, 4, 42, 27, 21, 4, 182, 0, 214, 54, 5, 132, 6, 1, 167, 255, 224, 21, 5, 172]
abbrev dktX16_seeker_3 : List UInt8 := dkwX16_seeker_3 ++ []
def dkwX16_seeker_2 : List UInt8 := [54, 5, 3, 54, 6, 21, 6, 28, 162, 0, 32, 21, 5, 155, 0, 27, 21, 4, 4, 21, 5, 120, 128]
abbrev dktX16_seeker_2 : List UInt8 := dkwX16_seeker_2 ++ dktX16_seeker_3
def dkwX16_seeker_1 : List UInt8 := [62, 29, 153, 0, 9, 42, 29, 182, 0, 75, 172, 42, 180, 0, 109, 54, 4, 42, 27, 21, 4, 182, 0, 214]
abbrev dktX16_seeker_1 : List UInt8 := dkwX16_seeker_1 ++ dktX16_seeker_2
def dkwX16_seeker_0 : List UInt8 := [27, 3, 8, 184, 0, 86, 154, 0, 8, 16, 254, 167, 0, 13, 28, 156, 0, 8, 16, 252, 167, 0, 4, 3]
abbrev dktX16_seeker_0 : List UInt8 := dkwX16_seeker_0 ++ dktX16_seeker_1
theorem dksX16_seeker_0 : cX16_seeker.data.toList.drop 0 = dktX16_seeker_0 := by decide +kernel
theorem dksX16_seeker_1 : cX16_seeker.data.toList.drop 24 = dktX16_seeker_1 := dk_seg dksX16_seeker_0 24 rfl rfl
theorem dksX16_seeker_2 : cX16_seeker.data.toList.drop 48 = dktX16_seeker_2 := dk_seg dksX16_seeker_1 24 rfl rfl
theorem dksX16_seeker_3 : cX16_seeker.data.toList.drop 71 = dktX16_seeker_3 := dk_seg dksX16_seeker_2 23 rfl rfl
theorem dX16_seeker_0 : decode cX16_seeker 0 = .ok (.iload_n 1, 1) := dk_27 (dk_at dksX16_seeker_0 0 rfl rfl)
theorem dX16_seeker_1 : decode cX16_seeker 1 = .ok (.iconst 0, 1) := dk_3 (dk_at dksX16_seeker_0 1 rfl rfl)
theorem dX16_seeker_2 : decode cX16_seeker 2 = .ok (.iconst 5, 1) := dk_8 (dk_at dksX16_seeker_0 2 rfl rfl)
theorem dX16_seeker_3 : decode cX16_seeker 3 = .ok (.invokestatic 86, 3) := dk_184 0 86 (dk_at dksX16_seeker_0 3 rfl rfl)
theorem dX16_seeker_6 : decode cX16_seeker 6 = .ok (.ifCond .ne 8, 3) := dk_154 0 8 (dk_at dksX16_seeker_0 6 rfl rfl)
theorem dX16_seeker_9 : decode cX16_seeker 9 = .ok (.bipush (-2), 2) := dk_16 254 (dk_at dksX16_seeker_0 9 rfl rfl)
theorem dX16_seeker_11 : decode cX16_seeker 11 = .ok (.goto 13, 3) := dk_167 0 13 (dk_at dksX16_seeker_0 11 rfl rfl)
theorem dX16_seeker_14 : decode cX16_seeker 14 = .ok (.iload_n 2, 1) := dk_28 (dk_at dksX16_seeker_0 14 rfl rfl)
theorem dX16_seeker_15 : decode cX16_seeker 15 = .ok (.ifCond .ge 8, 3) := dk_156 0 8 (dk_at dksX16_seeker_0 15 rfl rfl)
theorem dX16_seeker_18 : decode cX16_seeker 18 = .ok (.bipush (-4), 2) := dk_16 252 (dk_at dksX16_seeker_0 18 rfl rfl)
theorem dX16_seeker_20 : decode cX16_seeker 20 = .ok (.goto 4, 3) := dk_167 0 4 (dk_at dksX16_seeker_0 20 rfl rfl)
theorem dX16_seeker_23 : decode cX16_seeker 23 = .ok (.iconst 0, 1) := dk_3 (dk_at dksX16_seeker_0 23 rfl rfl)
theorem dX16_seeker_24 : decode cX16_seeker 24 = .ok (.istore_n 3, 1) := dk_62 (dk_at dksX16_seeker_1 0 rfl rfl)
theorem dX16_seeker_25 : decode cX16_seeker 25 = .ok (.iload_n 3, 1) := dk_29 (dk_at dksX16_seeker_1 1 rfl rfl)
theorem dX16_seeker_26 : decode cX16_seeker 26 = .ok (.ifCond .eq 9, 3) := dk_153 0 9 (dk_at dksX16_seeker_1 2 rfl rfl)
theorem dX16_seeker_29 : decode cX16_seeker 29 = .ok (.aload_n 0, 1) := dk_42 (dk_at dksX16_seeker_1 5 rfl rfl)
theorem dX16_seeker_30 : decode cX16_seeker 30 = .ok (.iload_n 3, 1) := dk_29 (dk_at dksX16_seeker_1 6 rfl rfl)
theorem dX16_seeker_31 : decode cX16_seeker 31 = .ok (.invokevirtual 75, 3) := dk_182 0 75 (dk_at dksX16_seeker_1 7 rfl rfl)
theorem dX16_seeker_34 : decode cX16_seeker 34 = .ok (.ireturn, 1) := dk_172 (dk_at dksX16_seeker_1 10 rfl rfl)
theorem dX16_seeker_35 : decode cX16_seeker 35 = .ok (.aload_n 0, 1) := dk_42 (dk_at dksX16_seeker_1 11 rfl rfl)
theorem dX16_seeker_36 : decode cX16_seeker 36 = .ok (.getfield 109, 3) := dk_180 0 109 (dk_at dksX16_seeker_1 12 rfl rfl)
theorem dX16_seeker_39 : decode cX16_seeker 39 = .ok (.istore 4, 2) := dk_54 4 (dk_at dksX16_seeker_1 15 rfl rfl)
theorem dX16_seeker_41 : decode cX16_seeker 41 = .ok (.aload_n 0, 1) := dk_42 (dk_at dksX16_seeker_1 17 rfl rfl)
theorem dX16_seeker_42 : decode cX16_seeker 42 = .ok (.iload_n 1, 1) := dk_27 (dk_at dksX16_seeker_1 18 rfl rfl)
theorem dX16_seeker_43 : decode cX16_seeker 43 = .ok (.iload 4, 2) := dk_21 4 (dk_at dksX16_seeker_1 19 rfl rfl)
theorem dX16_seeker_45 : decode cX16_seeker 45 = .ok (.invokevirtual 214, 3) := dk_182 0 214 (dk_at dksX16_seeker_1 21 rfl rfl)
theorem dX16_seeker_48 : decode cX16_seeker 48 = .ok (.istore 5, 2) := dk_54 5 (dk_at dksX16_seeker_2 0 rfl rfl)
theorem dX16_seeker_50 : decode cX16_seeker 50 = .ok (.iconst 0, 1) := dk_3 (dk_at dksX16_seeker_2 2 rfl rfl)
theorem dX16_seeker_51 : decode cX16_seeker 51 = .ok (.istore 6, 2) := dk_54 6 (dk_at dksX16_seeker_2 3 rfl rfl)
theorem dX16_seeker_53 : decode cX16_seeker 53 = .ok (.iload 6, 2) := dk_21 6 (dk_at dksX16_seeker_2 5 rfl rfl)
theorem dX16_seeker_55 : decode cX16_seeker 55 = .ok (.iload_n 2, 1) := dk_28 (dk_at dksX16_seeker_2 7 rfl rfl)
theorem dX16_seeker_56 : decode cX16_seeker 56 = .ok (.if_icmp .ge 32, 3) := dk_162 0 32 (dk_at dksX16_seeker_2 8 rfl rfl)
theorem dX16_seeker_59 : decode cX16_seeker 59 = .ok (.iload 5, 2) := dk_21 5 (dk_at dksX16_seeker_2 11 rfl rfl)
theorem dX16_seeker_61 : decode cX16_seeker 61 = .ok (.ifCond .lt 27, 3) := dk_155 0 27 (dk_at dksX16_seeker_2 13 rfl rfl)
theorem dX16_seeker_64 : decode cX16_seeker 64 = .ok (.iload 4, 2) := dk_21 4 (dk_at dksX16_seeker_2 16 rfl rfl)
theorem dX16_seeker_66 : decode cX16_seeker 66 = .ok (.iconst 1, 1) := dk_4 (dk_at dksX16_seeker_2 18 rfl rfl)
theorem dX16_seeker_67 : decode cX16_seeker 67 = .ok (.iload 5, 2) := dk_21 5 (dk_at dksX16_seeker_2 19 rfl rfl)
theorem dX16_seeker_69 : decode cX16_seeker 69 = .ok (.ishl, 1) := dk_120 (dk_at dksX16_seeker_2 21 rfl rfl)
theorem dX16_seeker_70 : decode cX16_seeker 70 = .ok (.ior, 1) := dk_128 (dk_at dksX16_seeker_2 22 rfl rfl)
theorem dX16_seeker_71 : decode cX16_seeker 71 = .ok (.istore 4, 2) := dk_54 4 (dk_at dksX16_seeker_3 0 rfl rfl)
theorem dX16_seeker_73 : decode cX16_seeker 73 = .ok (.aload_n 0, 1) := dk_42 (dk_at dksX16_seeker_3 2 rfl rfl)
theorem dX16_seeker_74 : decode cX16_seeker 74 = .ok (.iload_n 1, 1) := dk_27 (dk_at dksX16_seeker_3 3 rfl rfl)
theorem dX16_seeker_75 : decode cX16_seeker 75 = .ok (.iload 4, 2) := dk_21 4 (dk_at dksX16_seeker_3 4 rfl rfl)
theorem dX16_seeker_77 : decode cX16_seeker 77 = .ok (.invokevirtual 214, 3) := dk_182 0 214 (dk_at dksX16_seeker_3 6 rfl rfl)
theorem dX16_seeker_80 : decode cX16_seeker 80 = .ok (.istore 5, 2) := dk_54 5 (dk_at dksX16_seeker_3 9 rfl rfl)
theorem dX16_seeker_82 : decode cX16_seeker 82 = .ok (.iinc 6 1, 3) := dk_132 6 1 (dk_at dksX16_seeker_3 11 rfl rfl)
theorem dX16_seeker_85 : decode cX16_seeker 85 = .ok (.goto (-32), 3) := dk_167 255 224 (dk_at dksX16_seeker_3 14 rfl rfl)
theorem dX16_seeker_88 : decode cX16_seeker 88 = .ok (.iload 5, 2) := dk_21 5 (dk_at dksX16_seeker_3 17 rfl rfl)
theorem dX16_seeker_90 : decode cX16_seeker 90 = .ok (.ireturn, 1) := dk_172 (dk_at dksX16_seeker_3 19 rfl rfl)
abbrev cX16_sought : ByteArray := prog_28_method_59_code
def yX16_sought : MethodName := ⟨RX16, "sought", "(II)I"⟩
def dkwX16_sought_2 : List UInt8 := [153, 0, 7, 21, 5, 54, 4, 132, 5, 1, 167, 255, 213, 21, 4, 172]
abbrev dktX16_sought_2 : List UInt8 := dkwX16_sought_2 ++ []
def dkwX16_sought_1 : List UInt8 := [21, 5, 184, 0, 146, 153, 0, 25, 21, 4, 155, 0, 16, 42, 27, 21, 5, 21, 4, 28, 182, 0, 210]
abbrev dktX16_sought_1 : List UInt8 := dkwX16_sought_1 ++ dktX16_sought_2
def dkwX16_sought_0 : List UInt8 := [42, 28, 182, 0, 152, 62, 16, 247, 54, 4, 3, 54, 5, 21, 5, 42, 180, 0, 60, 162, 0, 40, 29]
abbrev dktX16_sought_0 : List UInt8 := dkwX16_sought_0 ++ dktX16_sought_1
theorem dksX16_sought_0 : cX16_sought.data.toList.drop 0 = dktX16_sought_0 := by decide +kernel
theorem dksX16_sought_1 : cX16_sought.data.toList.drop 23 = dktX16_sought_1 := dk_seg dksX16_sought_0 23 rfl rfl
theorem dksX16_sought_2 : cX16_sought.data.toList.drop 46 = dktX16_sought_2 := dk_seg dksX16_sought_1 23 rfl rfl
theorem dX16_sought_0 : decode cX16_sought 0 = .ok (.aload_n 0, 1) := dk_42 (dk_at dksX16_sought_0 0 rfl rfl)
theorem dX16_sought_1 : decode cX16_sought 1 = .ok (.iload_n 2, 1) := dk_28 (dk_at dksX16_sought_0 1 rfl rfl)
theorem dX16_sought_2 : decode cX16_sought 2 = .ok (.invokevirtual 152, 3) := dk_182 0 152 (dk_at dksX16_sought_0 2 rfl rfl)
theorem dX16_sought_5 : decode cX16_sought 5 = .ok (.istore_n 3, 1) := dk_62 (dk_at dksX16_sought_0 5 rfl rfl)
theorem dX16_sought_6 : decode cX16_sought 6 = .ok (.bipush (-9), 2) := dk_16 247 (dk_at dksX16_sought_0 6 rfl rfl)
theorem dX16_sought_8 : decode cX16_sought 8 = .ok (.istore 4, 2) := dk_54 4 (dk_at dksX16_sought_0 8 rfl rfl)
theorem dX16_sought_10 : decode cX16_sought 10 = .ok (.iconst 0, 1) := dk_3 (dk_at dksX16_sought_0 10 rfl rfl)
theorem dX16_sought_11 : decode cX16_sought 11 = .ok (.istore 5, 2) := dk_54 5 (dk_at dksX16_sought_0 11 rfl rfl)
theorem dX16_sought_13 : decode cX16_sought 13 = .ok (.iload 5, 2) := dk_21 5 (dk_at dksX16_sought_0 13 rfl rfl)
theorem dX16_sought_15 : decode cX16_sought 15 = .ok (.aload_n 0, 1) := dk_42 (dk_at dksX16_sought_0 15 rfl rfl)
theorem dX16_sought_16 : decode cX16_sought 16 = .ok (.getfield 60, 3) := dk_180 0 60 (dk_at dksX16_sought_0 16 rfl rfl)
theorem dX16_sought_19 : decode cX16_sought 19 = .ok (.if_icmp .ge 40, 3) := dk_162 0 40 (dk_at dksX16_sought_0 19 rfl rfl)
theorem dX16_sought_22 : decode cX16_sought 22 = .ok (.iload_n 3, 1) := dk_29 (dk_at dksX16_sought_0 22 rfl rfl)
theorem dX16_sought_23 : decode cX16_sought 23 = .ok (.iload 5, 2) := dk_21 5 (dk_at dksX16_sought_1 0 rfl rfl)
theorem dX16_sought_25 : decode cX16_sought 25 = .ok (.invokestatic 146, 3) := dk_184 0 146 (dk_at dksX16_sought_1 2 rfl rfl)
theorem dX16_sought_28 : decode cX16_sought 28 = .ok (.ifCond .eq 25, 3) := dk_153 0 25 (dk_at dksX16_sought_1 5 rfl rfl)
theorem dX16_sought_31 : decode cX16_sought 31 = .ok (.iload 4, 2) := dk_21 4 (dk_at dksX16_sought_1 8 rfl rfl)
theorem dX16_sought_33 : decode cX16_sought 33 = .ok (.ifCond .lt 16, 3) := dk_155 0 16 (dk_at dksX16_sought_1 10 rfl rfl)
theorem dX16_sought_36 : decode cX16_sought 36 = .ok (.aload_n 0, 1) := dk_42 (dk_at dksX16_sought_1 13 rfl rfl)
theorem dX16_sought_37 : decode cX16_sought 37 = .ok (.iload_n 1, 1) := dk_27 (dk_at dksX16_sought_1 14 rfl rfl)
theorem dX16_sought_38 : decode cX16_sought 38 = .ok (.iload 5, 2) := dk_21 5 (dk_at dksX16_sought_1 15 rfl rfl)
theorem dX16_sought_40 : decode cX16_sought 40 = .ok (.iload 4, 2) := dk_21 4 (dk_at dksX16_sought_1 17 rfl rfl)
theorem dX16_sought_42 : decode cX16_sought 42 = .ok (.iload_n 2, 1) := dk_28 (dk_at dksX16_sought_1 19 rfl rfl)
theorem dX16_sought_43 : decode cX16_sought 43 = .ok (.invokevirtual 210, 3) := dk_182 0 210 (dk_at dksX16_sought_1 20 rfl rfl)
theorem dX16_sought_46 : decode cX16_sought 46 = .ok (.ifCond .eq 7, 3) := dk_153 0 7 (dk_at dksX16_sought_2 0 rfl rfl)
theorem dX16_sought_49 : decode cX16_sought 49 = .ok (.iload 5, 2) := dk_21 5 (dk_at dksX16_sought_2 3 rfl rfl)
theorem dX16_sought_51 : decode cX16_sought 51 = .ok (.istore 4, 2) := dk_54 4 (dk_at dksX16_sought_2 5 rfl rfl)
theorem dX16_sought_53 : decode cX16_sought 53 = .ok (.iinc 5 1, 3) := dk_132 5 1 (dk_at dksX16_sought_2 7 rfl rfl)
theorem dX16_sought_56 : decode cX16_sought 56 = .ok (.goto (-43), 3) := dk_167 255 213 (dk_at dksX16_sought_2 10 rfl rfl)
theorem dX16_sought_59 : decode cX16_sought 59 = .ok (.iload 4, 2) := dk_21 4 (dk_at dksX16_sought_2 13 rfl rfl)
theorem dX16_sought_61 : decode cX16_sought 61 = .ok (.ireturn, 1) := dk_172 (dk_at dksX16_sought_2 15 rfl rfl)
abbrev cX16_isBetter : ByteArray := prog_28_method_58_code
def yX16_isBetter : MethodName := ⟨RX16, "isBetter", "(IIII)Z"⟩
def dkwX16_isBetter_7 : List UInt8 := [167, 0, 4, 3, 172, 3, 172]
abbrev dktX16_isBetter_7 : List UInt8 := dkwX16_isBetter_7 ++ []
def dkwX16_isBetter_6 : List UInt8 := [4, 167, 0, 4, 3, 172, 42, 180, 0, 22, 28, 46, 42, 180, 0, 22, 29, 46, 162, 0, 7, 4]
abbrev dktX16_isBetter_6 : List UInt8 := dkwX16_isBetter_6 ++ dktX16_isBetter_7
def dkwX16_isBetter_5 : List UInt8 := [164, 0, 7, 4, 167, 0, 4, 3, 172, 42, 180, 0, 19, 28, 46, 42, 180, 0, 19, 29, 46, 162, 0, 7]
abbrev dktX16_isBetter_5 : List UInt8 := dkwX16_isBetter_5 ++ dktX16_isBetter_6
def dkwX16_isBetter_4 : List UInt8 := [28, 120, 128, 182, 0, 152, 184, 0, 143, 42, 21, 4, 4, 29, 120, 128, 182, 0, 152, 184, 0, 143]
abbrev dktX16_isBetter_4 : List UInt8 := dkwX16_isBetter_4 ++ dktX16_isBetter_5
def dkwX16_isBetter_3 : List UInt8 := [180, 0, 19, 28, 46, 42, 180, 0, 19, 29, 46, 164, 0, 7, 4, 167, 0, 4, 3, 172, 42, 21, 4, 4]
abbrev dktX16_isBetter_3 : List UInt8 := dkwX16_isBetter_3 ++ dktX16_isBetter_4
def dkwX16_isBetter_2 : List UInt8 := [42, 28, 21, 4, 182, 0, 155, 42, 29, 21, 4, 182, 0, 155, 162, 0, 7, 4, 167, 0, 4, 3, 172, 42]
abbrev dktX16_isBetter_2 : List UInt8 := dkwX16_isBetter_2 ++ dktX16_isBetter_3
def dkwX16_isBetter_1 : List UInt8 := [170, 0, 0, 0, 0, 0, 156, 0, 0, 0, 1, 0, 0, 0, 5, 0, 0, 0, 35, 0, 0, 0, 58, 0, 0, 0, 79, 0, 0, 0, 114, 0, 0, 0, 135]
abbrev dktX16_isBetter_1 : List UInt8 := dkwX16_isBetter_1 ++ dktX16_isBetter_2
def dkwX16_isBetter_0 : List UInt8 := [27]
abbrev dktX16_isBetter_0 : List UInt8 := dkwX16_isBetter_0 ++ dktX16_isBetter_1
theorem dksX16_isBetter_0 : cX16_isBetter.data.toList.drop 0 = dktX16_isBetter_0 := by decide +kernel
theorem dksX16_isBetter_1 : cX16_isBetter.data.toList.drop 1 = dktX16_isBetter_1 := dk_seg dksX16_isBetter_0 1 rfl rfl
theorem dksX16_isBetter_2 : cX16_isBetter.data.toList.drop 36 = dktX16_isBetter_2 := dk_seg dksX16_isBetter_1 35 rfl rfl
theorem dksX16_isBetter_3 : cX16_isBetter.data.toList.drop 60 = dktX16_isBetter_3 := dk_seg dksX16_isBetter_2 24 rfl rfl
theorem dksX16_isBetter_4 : cX16_isBetter.data.toList.drop 84 = dktX16_isBetter_4 := dk_seg dksX16_isBetter_3 24 rfl rfl
theorem dksX16_isBetter_5 : cX16_isBetter.data.toList.drop 106 = dktX16_isBetter_5 := dk_seg dksX16_isBetter_4 22 rfl rfl
theorem dksX16_isBetter_6 : cX16_isBetter.data.toList.drop 130 = dktX16_isBetter_6 := dk_seg dksX16_isBetter_5 24 rfl rfl
theorem dksX16_isBetter_7 : cX16_isBetter.data.toList.drop 152 = dktX16_isBetter_7 := dk_seg dksX16_isBetter_6 22 rfl rfl
theorem dX16_isBetter_0 : decode cX16_isBetter 0 = .ok (.iload_n 1, 1) := dk_27 (dk_at dksX16_isBetter_0 0 rfl rfl)
theorem dX16_isBetter_1 : decode cX16_isBetter 1 = .ok (.tableswitch 156 1 5 #[35, 58, 79, 114, 135], 35) := by decide +kernel
theorem dX16_isBetter_36 : decode cX16_isBetter 36 = .ok (.aload_n 0, 1) := dk_42 (dk_at dksX16_isBetter_2 0 rfl rfl)
theorem dX16_isBetter_37 : decode cX16_isBetter 37 = .ok (.iload_n 2, 1) := dk_28 (dk_at dksX16_isBetter_2 1 rfl rfl)
theorem dX16_isBetter_38 : decode cX16_isBetter 38 = .ok (.iload 4, 2) := dk_21 4 (dk_at dksX16_isBetter_2 2 rfl rfl)
theorem dX16_isBetter_40 : decode cX16_isBetter 40 = .ok (.invokevirtual 155, 3) := dk_182 0 155 (dk_at dksX16_isBetter_2 4 rfl rfl)
theorem dX16_isBetter_43 : decode cX16_isBetter 43 = .ok (.aload_n 0, 1) := dk_42 (dk_at dksX16_isBetter_2 7 rfl rfl)
theorem dX16_isBetter_44 : decode cX16_isBetter 44 = .ok (.iload_n 3, 1) := dk_29 (dk_at dksX16_isBetter_2 8 rfl rfl)
theorem dX16_isBetter_45 : decode cX16_isBetter 45 = .ok (.iload 4, 2) := dk_21 4 (dk_at dksX16_isBetter_2 9 rfl rfl)
theorem dX16_isBetter_47 : decode cX16_isBetter 47 = .ok (.invokevirtual 155, 3) := dk_182 0 155 (dk_at dksX16_isBetter_2 11 rfl rfl)
theorem dX16_isBetter_50 : decode cX16_isBetter 50 = .ok (.if_icmp .ge 7, 3) := dk_162 0 7 (dk_at dksX16_isBetter_2 14 rfl rfl)
theorem dX16_isBetter_53 : decode cX16_isBetter 53 = .ok (.iconst 1, 1) := dk_4 (dk_at dksX16_isBetter_2 17 rfl rfl)
theorem dX16_isBetter_54 : decode cX16_isBetter 54 = .ok (.goto 4, 3) := dk_167 0 4 (dk_at dksX16_isBetter_2 18 rfl rfl)
theorem dX16_isBetter_57 : decode cX16_isBetter 57 = .ok (.iconst 0, 1) := dk_3 (dk_at dksX16_isBetter_2 21 rfl rfl)
theorem dX16_isBetter_58 : decode cX16_isBetter 58 = .ok (.ireturn, 1) := dk_172 (dk_at dksX16_isBetter_2 22 rfl rfl)
theorem dX16_isBetter_59 : decode cX16_isBetter 59 = .ok (.aload_n 0, 1) := dk_42 (dk_at dksX16_isBetter_2 23 rfl rfl)
theorem dX16_isBetter_60 : decode cX16_isBetter 60 = .ok (.getfield 19, 3) := dk_180 0 19 (dk_at dksX16_isBetter_3 0 rfl rfl)
theorem dX16_isBetter_63 : decode cX16_isBetter 63 = .ok (.iload_n 2, 1) := dk_28 (dk_at dksX16_isBetter_3 3 rfl rfl)
theorem dX16_isBetter_64 : decode cX16_isBetter 64 = .ok (.iaload, 1) := dk_46 (dk_at dksX16_isBetter_3 4 rfl rfl)
theorem dX16_isBetter_65 : decode cX16_isBetter 65 = .ok (.aload_n 0, 1) := dk_42 (dk_at dksX16_isBetter_3 5 rfl rfl)
theorem dX16_isBetter_66 : decode cX16_isBetter 66 = .ok (.getfield 19, 3) := dk_180 0 19 (dk_at dksX16_isBetter_3 6 rfl rfl)
theorem dX16_isBetter_69 : decode cX16_isBetter 69 = .ok (.iload_n 3, 1) := dk_29 (dk_at dksX16_isBetter_3 9 rfl rfl)
theorem dX16_isBetter_70 : decode cX16_isBetter 70 = .ok (.iaload, 1) := dk_46 (dk_at dksX16_isBetter_3 10 rfl rfl)
theorem dX16_isBetter_71 : decode cX16_isBetter 71 = .ok (.if_icmp .le 7, 3) := dk_164 0 7 (dk_at dksX16_isBetter_3 11 rfl rfl)
theorem dX16_isBetter_74 : decode cX16_isBetter 74 = .ok (.iconst 1, 1) := dk_4 (dk_at dksX16_isBetter_3 14 rfl rfl)
theorem dX16_isBetter_75 : decode cX16_isBetter 75 = .ok (.goto 4, 3) := dk_167 0 4 (dk_at dksX16_isBetter_3 15 rfl rfl)
theorem dX16_isBetter_78 : decode cX16_isBetter 78 = .ok (.iconst 0, 1) := dk_3 (dk_at dksX16_isBetter_3 18 rfl rfl)
theorem dX16_isBetter_79 : decode cX16_isBetter 79 = .ok (.ireturn, 1) := dk_172 (dk_at dksX16_isBetter_3 19 rfl rfl)
theorem dX16_isBetter_80 : decode cX16_isBetter 80 = .ok (.aload_n 0, 1) := dk_42 (dk_at dksX16_isBetter_3 20 rfl rfl)
theorem dX16_isBetter_81 : decode cX16_isBetter 81 = .ok (.iload 4, 2) := dk_21 4 (dk_at dksX16_isBetter_3 21 rfl rfl)
theorem dX16_isBetter_83 : decode cX16_isBetter 83 = .ok (.iconst 1, 1) := dk_4 (dk_at dksX16_isBetter_3 23 rfl rfl)
theorem dX16_isBetter_84 : decode cX16_isBetter 84 = .ok (.iload_n 2, 1) := dk_28 (dk_at dksX16_isBetter_4 0 rfl rfl)
theorem dX16_isBetter_85 : decode cX16_isBetter 85 = .ok (.ishl, 1) := dk_120 (dk_at dksX16_isBetter_4 1 rfl rfl)
theorem dX16_isBetter_86 : decode cX16_isBetter 86 = .ok (.ior, 1) := dk_128 (dk_at dksX16_isBetter_4 2 rfl rfl)
theorem dX16_isBetter_87 : decode cX16_isBetter 87 = .ok (.invokevirtual 152, 3) := dk_182 0 152 (dk_at dksX16_isBetter_4 3 rfl rfl)
theorem dX16_isBetter_90 : decode cX16_isBetter 90 = .ok (.invokestatic 143, 3) := dk_184 0 143 (dk_at dksX16_isBetter_4 6 rfl rfl)
theorem dX16_isBetter_93 : decode cX16_isBetter 93 = .ok (.aload_n 0, 1) := dk_42 (dk_at dksX16_isBetter_4 9 rfl rfl)
theorem dX16_isBetter_94 : decode cX16_isBetter 94 = .ok (.iload 4, 2) := dk_21 4 (dk_at dksX16_isBetter_4 10 rfl rfl)
theorem dX16_isBetter_96 : decode cX16_isBetter 96 = .ok (.iconst 1, 1) := dk_4 (dk_at dksX16_isBetter_4 12 rfl rfl)
theorem dX16_isBetter_97 : decode cX16_isBetter 97 = .ok (.iload_n 3, 1) := dk_29 (dk_at dksX16_isBetter_4 13 rfl rfl)
theorem dX16_isBetter_98 : decode cX16_isBetter 98 = .ok (.ishl, 1) := dk_120 (dk_at dksX16_isBetter_4 14 rfl rfl)
theorem dX16_isBetter_99 : decode cX16_isBetter 99 = .ok (.ior, 1) := dk_128 (dk_at dksX16_isBetter_4 15 rfl rfl)
theorem dX16_isBetter_100 : decode cX16_isBetter 100 = .ok (.invokevirtual 152, 3) := dk_182 0 152 (dk_at dksX16_isBetter_4 16 rfl rfl)
theorem dX16_isBetter_103 : decode cX16_isBetter 103 = .ok (.invokestatic 143, 3) := dk_184 0 143 (dk_at dksX16_isBetter_4 19 rfl rfl)
theorem dX16_isBetter_106 : decode cX16_isBetter 106 = .ok (.if_icmp .le 7, 3) := dk_164 0 7 (dk_at dksX16_isBetter_5 0 rfl rfl)
theorem dX16_isBetter_109 : decode cX16_isBetter 109 = .ok (.iconst 1, 1) := dk_4 (dk_at dksX16_isBetter_5 3 rfl rfl)
theorem dX16_isBetter_110 : decode cX16_isBetter 110 = .ok (.goto 4, 3) := dk_167 0 4 (dk_at dksX16_isBetter_5 4 rfl rfl)
theorem dX16_isBetter_113 : decode cX16_isBetter 113 = .ok (.iconst 0, 1) := dk_3 (dk_at dksX16_isBetter_5 7 rfl rfl)
theorem dX16_isBetter_114 : decode cX16_isBetter 114 = .ok (.ireturn, 1) := dk_172 (dk_at dksX16_isBetter_5 8 rfl rfl)
theorem dX16_isBetter_115 : decode cX16_isBetter 115 = .ok (.aload_n 0, 1) := dk_42 (dk_at dksX16_isBetter_5 9 rfl rfl)
theorem dX16_isBetter_116 : decode cX16_isBetter 116 = .ok (.getfield 19, 3) := dk_180 0 19 (dk_at dksX16_isBetter_5 10 rfl rfl)
theorem dX16_isBetter_119 : decode cX16_isBetter 119 = .ok (.iload_n 2, 1) := dk_28 (dk_at dksX16_isBetter_5 13 rfl rfl)
theorem dX16_isBetter_120 : decode cX16_isBetter 120 = .ok (.iaload, 1) := dk_46 (dk_at dksX16_isBetter_5 14 rfl rfl)
theorem dX16_isBetter_121 : decode cX16_isBetter 121 = .ok (.aload_n 0, 1) := dk_42 (dk_at dksX16_isBetter_5 15 rfl rfl)
theorem dX16_isBetter_122 : decode cX16_isBetter 122 = .ok (.getfield 19, 3) := dk_180 0 19 (dk_at dksX16_isBetter_5 16 rfl rfl)
theorem dX16_isBetter_125 : decode cX16_isBetter 125 = .ok (.iload_n 3, 1) := dk_29 (dk_at dksX16_isBetter_5 19 rfl rfl)
theorem dX16_isBetter_126 : decode cX16_isBetter 126 = .ok (.iaload, 1) := dk_46 (dk_at dksX16_isBetter_5 20 rfl rfl)
theorem dX16_isBetter_127 : decode cX16_isBetter 127 = .ok (.if_icmp .ge 7, 3) := dk_162 0 7 (dk_at dksX16_isBetter_5 21 rfl rfl)
theorem dX16_isBetter_130 : decode cX16_isBetter 130 = .ok (.iconst 1, 1) := dk_4 (dk_at dksX16_isBetter_6 0 rfl rfl)
theorem dX16_isBetter_131 : decode cX16_isBetter 131 = .ok (.goto 4, 3) := dk_167 0 4 (dk_at dksX16_isBetter_6 1 rfl rfl)
theorem dX16_isBetter_134 : decode cX16_isBetter 134 = .ok (.iconst 0, 1) := dk_3 (dk_at dksX16_isBetter_6 4 rfl rfl)
theorem dX16_isBetter_135 : decode cX16_isBetter 135 = .ok (.ireturn, 1) := dk_172 (dk_at dksX16_isBetter_6 5 rfl rfl)
theorem dX16_isBetter_136 : decode cX16_isBetter 136 = .ok (.aload_n 0, 1) := dk_42 (dk_at dksX16_isBetter_6 6 rfl rfl)
theorem dX16_isBetter_137 : decode cX16_isBetter 137 = .ok (.getfield 22, 3) := dk_180 0 22 (dk_at dksX16_isBetter_6 7 rfl rfl)
theorem dX16_isBetter_140 : decode cX16_isBetter 140 = .ok (.iload_n 2, 1) := dk_28 (dk_at dksX16_isBetter_6 10 rfl rfl)
theorem dX16_isBetter_141 : decode cX16_isBetter 141 = .ok (.iaload, 1) := dk_46 (dk_at dksX16_isBetter_6 11 rfl rfl)
theorem dX16_isBetter_142 : decode cX16_isBetter 142 = .ok (.aload_n 0, 1) := dk_42 (dk_at dksX16_isBetter_6 12 rfl rfl)
theorem dX16_isBetter_143 : decode cX16_isBetter 143 = .ok (.getfield 22, 3) := dk_180 0 22 (dk_at dksX16_isBetter_6 13 rfl rfl)
theorem dX16_isBetter_146 : decode cX16_isBetter 146 = .ok (.iload_n 3, 1) := dk_29 (dk_at dksX16_isBetter_6 16 rfl rfl)
theorem dX16_isBetter_147 : decode cX16_isBetter 147 = .ok (.iaload, 1) := dk_46 (dk_at dksX16_isBetter_6 17 rfl rfl)
theorem dX16_isBetter_148 : decode cX16_isBetter 148 = .ok (.if_icmp .ge 7, 3) := dk_162 0 7 (dk_at dksX16_isBetter_6 18 rfl rfl)
theorem dX16_isBetter_151 : decode cX16_isBetter 151 = .ok (.iconst 1, 1) := dk_4 (dk_at dksX16_isBetter_6 21 rfl rfl)
theorem dX16_isBetter_152 : decode cX16_isBetter 152 = .ok (.goto 4, 3) := dk_167 0 4 (dk_at dksX16_isBetter_7 0 rfl rfl)
theorem dX16_isBetter_155 : decode cX16_isBetter 155 = .ok (.iconst 0, 1) := dk_3 (dk_at dksX16_isBetter_7 3 rfl rfl)
theorem dX16_isBetter_156 : decode cX16_isBetter 156 = .ok (.ireturn, 1) := dk_172 (dk_at dksX16_isBetter_7 4 rfl rfl)
theorem dX16_isBetter_157 : decode cX16_isBetter 157 = .ok (.iconst 0, 1) := dk_3 (dk_at dksX16_isBetter_7 5 rfl rfl)
theorem dX16_isBetter_158 : decode cX16_isBetter 158 = .ok (.ireturn, 1) := dk_172 (dk_at dksX16_isBetter_7 6 rfl rfl)
abbrev cX16_seeks : ByteArray := prog_28_method_61_code
def yX16_seeks : MethodName := ⟨RX16, "seeks", "(I)I"⟩
def dkwX16_seeks_2 : List UInt8 := [21, 4, 120, 128, 61, 42, 27, 28, 182, 0, 214, 54, 4, 167, 255, 226, 29, 172]
abbrev dktX16_seeks_2 : List UInt8 := dkwX16_seeks_2 ++ []
def dkwX16_seeks_1 : List UInt8 := [27, 28, 182, 0, 214, 54, 4, 21, 4, 155, 0, 31, 29, 42, 21, 4, 28, 182, 0, 155, 96, 62, 28, 4]
abbrev dktX16_seeks_1 : List UInt8 := dkwX16_seeks_1 ++ dktX16_seeks_2
def dkwX16_seeks_0 : List UInt8 := [27, 3, 8, 184, 0, 86, 154, 0, 10, 42, 16, 254, 182, 0, 75, 172, 42, 180, 0, 109, 61, 3, 62, 42]
abbrev dktX16_seeks_0 : List UInt8 := dkwX16_seeks_0 ++ dktX16_seeks_1
theorem dksX16_seeks_0 : cX16_seeks.data.toList.drop 0 = dktX16_seeks_0 := by decide +kernel
theorem dksX16_seeks_1 : cX16_seeks.data.toList.drop 24 = dktX16_seeks_1 := dk_seg dksX16_seeks_0 24 rfl rfl
theorem dksX16_seeks_2 : cX16_seeks.data.toList.drop 48 = dktX16_seeks_2 := dk_seg dksX16_seeks_1 24 rfl rfl
theorem dX16_seeks_0 : decode cX16_seeks 0 = .ok (.iload_n 1, 1) := dk_27 (dk_at dksX16_seeks_0 0 rfl rfl)
theorem dX16_seeks_1 : decode cX16_seeks 1 = .ok (.iconst 0, 1) := dk_3 (dk_at dksX16_seeks_0 1 rfl rfl)
theorem dX16_seeks_2 : decode cX16_seeks 2 = .ok (.iconst 5, 1) := dk_8 (dk_at dksX16_seeks_0 2 rfl rfl)
theorem dX16_seeks_3 : decode cX16_seeks 3 = .ok (.invokestatic 86, 3) := dk_184 0 86 (dk_at dksX16_seeks_0 3 rfl rfl)
theorem dX16_seeks_6 : decode cX16_seeks 6 = .ok (.ifCond .ne 10, 3) := dk_154 0 10 (dk_at dksX16_seeks_0 6 rfl rfl)
theorem dX16_seeks_9 : decode cX16_seeks 9 = .ok (.aload_n 0, 1) := dk_42 (dk_at dksX16_seeks_0 9 rfl rfl)
theorem dX16_seeks_10 : decode cX16_seeks 10 = .ok (.bipush (-2), 2) := dk_16 254 (dk_at dksX16_seeks_0 10 rfl rfl)
theorem dX16_seeks_12 : decode cX16_seeks 12 = .ok (.invokevirtual 75, 3) := dk_182 0 75 (dk_at dksX16_seeks_0 12 rfl rfl)
theorem dX16_seeks_15 : decode cX16_seeks 15 = .ok (.ireturn, 1) := dk_172 (dk_at dksX16_seeks_0 15 rfl rfl)
theorem dX16_seeks_16 : decode cX16_seeks 16 = .ok (.aload_n 0, 1) := dk_42 (dk_at dksX16_seeks_0 16 rfl rfl)
theorem dX16_seeks_17 : decode cX16_seeks 17 = .ok (.getfield 109, 3) := dk_180 0 109 (dk_at dksX16_seeks_0 17 rfl rfl)
theorem dX16_seeks_20 : decode cX16_seeks 20 = .ok (.istore_n 2, 1) := dk_61 (dk_at dksX16_seeks_0 20 rfl rfl)
theorem dX16_seeks_21 : decode cX16_seeks 21 = .ok (.iconst 0, 1) := dk_3 (dk_at dksX16_seeks_0 21 rfl rfl)
theorem dX16_seeks_22 : decode cX16_seeks 22 = .ok (.istore_n 3, 1) := dk_62 (dk_at dksX16_seeks_0 22 rfl rfl)
theorem dX16_seeks_23 : decode cX16_seeks 23 = .ok (.aload_n 0, 1) := dk_42 (dk_at dksX16_seeks_0 23 rfl rfl)
theorem dX16_seeks_24 : decode cX16_seeks 24 = .ok (.iload_n 1, 1) := dk_27 (dk_at dksX16_seeks_1 0 rfl rfl)
theorem dX16_seeks_25 : decode cX16_seeks 25 = .ok (.iload_n 2, 1) := dk_28 (dk_at dksX16_seeks_1 1 rfl rfl)
theorem dX16_seeks_26 : decode cX16_seeks 26 = .ok (.invokevirtual 214, 3) := dk_182 0 214 (dk_at dksX16_seeks_1 2 rfl rfl)
theorem dX16_seeks_29 : decode cX16_seeks 29 = .ok (.istore 4, 2) := dk_54 4 (dk_at dksX16_seeks_1 5 rfl rfl)
theorem dX16_seeks_31 : decode cX16_seeks 31 = .ok (.iload 4, 2) := dk_21 4 (dk_at dksX16_seeks_1 7 rfl rfl)
theorem dX16_seeks_33 : decode cX16_seeks 33 = .ok (.ifCond .lt 31, 3) := dk_155 0 31 (dk_at dksX16_seeks_1 9 rfl rfl)
theorem dX16_seeks_36 : decode cX16_seeks 36 = .ok (.iload_n 3, 1) := dk_29 (dk_at dksX16_seeks_1 12 rfl rfl)
theorem dX16_seeks_37 : decode cX16_seeks 37 = .ok (.aload_n 0, 1) := dk_42 (dk_at dksX16_seeks_1 13 rfl rfl)
theorem dX16_seeks_38 : decode cX16_seeks 38 = .ok (.iload 4, 2) := dk_21 4 (dk_at dksX16_seeks_1 14 rfl rfl)
theorem dX16_seeks_40 : decode cX16_seeks 40 = .ok (.iload_n 2, 1) := dk_28 (dk_at dksX16_seeks_1 16 rfl rfl)
theorem dX16_seeks_41 : decode cX16_seeks 41 = .ok (.invokevirtual 155, 3) := dk_182 0 155 (dk_at dksX16_seeks_1 17 rfl rfl)
theorem dX16_seeks_44 : decode cX16_seeks 44 = .ok (.iadd, 1) := dk_96 (dk_at dksX16_seeks_1 20 rfl rfl)
theorem dX16_seeks_45 : decode cX16_seeks 45 = .ok (.istore_n 3, 1) := dk_62 (dk_at dksX16_seeks_1 21 rfl rfl)
theorem dX16_seeks_46 : decode cX16_seeks 46 = .ok (.iload_n 2, 1) := dk_28 (dk_at dksX16_seeks_1 22 rfl rfl)
theorem dX16_seeks_47 : decode cX16_seeks 47 = .ok (.iconst 1, 1) := dk_4 (dk_at dksX16_seeks_1 23 rfl rfl)
theorem dX16_seeks_48 : decode cX16_seeks 48 = .ok (.iload 4, 2) := dk_21 4 (dk_at dksX16_seeks_2 0 rfl rfl)
theorem dX16_seeks_50 : decode cX16_seeks 50 = .ok (.ishl, 1) := dk_120 (dk_at dksX16_seeks_2 2 rfl rfl)
theorem dX16_seeks_51 : decode cX16_seeks 51 = .ok (.ior, 1) := dk_128 (dk_at dksX16_seeks_2 3 rfl rfl)
theorem dX16_seeks_52 : decode cX16_seeks 52 = .ok (.istore_n 2, 1) := dk_61 (dk_at dksX16_seeks_2 4 rfl rfl)
theorem dX16_seeks_53 : decode cX16_seeks 53 = .ok (.aload_n 0, 1) := dk_42 (dk_at dksX16_seeks_2 5 rfl rfl)
theorem dX16_seeks_54 : decode cX16_seeks 54 = .ok (.iload_n 1, 1) := dk_27 (dk_at dksX16_seeks_2 6 rfl rfl)
theorem dX16_seeks_55 : decode cX16_seeks 55 = .ok (.iload_n 2, 1) := dk_28 (dk_at dksX16_seeks_2 7 rfl rfl)
theorem dX16_seeks_56 : decode cX16_seeks 56 = .ok (.invokevirtual 214, 3) := dk_182 0 214 (dk_at dksX16_seeks_2 8 rfl rfl)
theorem dX16_seeks_59 : decode cX16_seeks 59 = .ok (.istore 4, 2) := dk_54 4 (dk_at dksX16_seeks_2 11 rfl rfl)
theorem dX16_seeks_61 : decode cX16_seeks 61 = .ok (.goto (-30), 3) := dk_167 255 226 (dk_at dksX16_seeks_2 13 rfl rfl)
theorem dX16_seeks_64 : decode cX16_seeks 64 = .ok (.iload_n 3, 1) := dk_29 (dk_at dksX16_seeks_2 16 rfl rfl)
theorem dX16_seeks_65 : decode cX16_seeks 65 = .ok (.ireturn, 1) := dk_172 (dk_at dksX16_seeks_2 17 rfl rfl)
abbrev cX16_row : ByteArray := prog_28_method_62_code
def yX16_row : MethodName := ⟨RX16, "row", "(I)I"⟩
def dkwX16_row_2 : List UInt8 := [180, 0, 217, 4, 96, 181, 0, 217, 42, 180, 0, 217, 172]
abbrev dktX16_row_2 : List UInt8 := dkwX16_row_2 ++ []
def dkwX16_row_1 : List UInt8 := [28, 153, 0, 9, 42, 28, 182, 0, 75, 172, 42, 180, 0, 55, 42, 180, 0, 217, 27, 79, 42, 89]
abbrev dktX16_row_1 : List UInt8 := dkwX16_row_1 ++ dktX16_row_2
def dkwX16_row_0 : List UInt8 := [27, 3, 16, 9, 184, 0, 68, 61, 28, 154, 0, 15, 42, 180, 0, 217, 16, 12, 160, 0, 6, 16, 250, 61]
abbrev dktX16_row_0 : List UInt8 := dkwX16_row_0 ++ dktX16_row_1
theorem dksX16_row_0 : cX16_row.data.toList.drop 0 = dktX16_row_0 := by decide +kernel
theorem dksX16_row_1 : cX16_row.data.toList.drop 24 = dktX16_row_1 := dk_seg dksX16_row_0 24 rfl rfl
theorem dksX16_row_2 : cX16_row.data.toList.drop 46 = dktX16_row_2 := dk_seg dksX16_row_1 22 rfl rfl
theorem dX16_row_0 : decode cX16_row 0 = .ok (.iload_n 1, 1) := dk_27 (dk_at dksX16_row_0 0 rfl rfl)
theorem dX16_row_1 : decode cX16_row 1 = .ok (.iconst 0, 1) := dk_3 (dk_at dksX16_row_0 1 rfl rfl)
theorem dX16_row_2 : decode cX16_row 2 = .ok (.bipush 9, 2) := dk_16 9 (dk_at dksX16_row_0 2 rfl rfl)
theorem dX16_row_4 : decode cX16_row 4 = .ok (.invokestatic 68, 3) := dk_184 0 68 (dk_at dksX16_row_0 4 rfl rfl)
theorem dX16_row_7 : decode cX16_row 7 = .ok (.istore_n 2, 1) := dk_61 (dk_at dksX16_row_0 7 rfl rfl)
theorem dX16_row_8 : decode cX16_row 8 = .ok (.iload_n 2, 1) := dk_28 (dk_at dksX16_row_0 8 rfl rfl)
theorem dX16_row_9 : decode cX16_row 9 = .ok (.ifCond .ne 15, 3) := dk_154 0 15 (dk_at dksX16_row_0 9 rfl rfl)
theorem dX16_row_12 : decode cX16_row 12 = .ok (.aload_n 0, 1) := dk_42 (dk_at dksX16_row_0 12 rfl rfl)
theorem dX16_row_13 : decode cX16_row 13 = .ok (.getfield 217, 3) := dk_180 0 217 (dk_at dksX16_row_0 13 rfl rfl)
theorem dX16_row_16 : decode cX16_row 16 = .ok (.bipush 12, 2) := dk_16 12 (dk_at dksX16_row_0 16 rfl rfl)
theorem dX16_row_18 : decode cX16_row 18 = .ok (.if_icmp .ne 6, 3) := dk_160 0 6 (dk_at dksX16_row_0 18 rfl rfl)
theorem dX16_row_21 : decode cX16_row 21 = .ok (.bipush (-6), 2) := dk_16 250 (dk_at dksX16_row_0 21 rfl rfl)
theorem dX16_row_23 : decode cX16_row 23 = .ok (.istore_n 2, 1) := dk_61 (dk_at dksX16_row_0 23 rfl rfl)
theorem dX16_row_24 : decode cX16_row 24 = .ok (.iload_n 2, 1) := dk_28 (dk_at dksX16_row_1 0 rfl rfl)
theorem dX16_row_25 : decode cX16_row 25 = .ok (.ifCond .eq 9, 3) := dk_153 0 9 (dk_at dksX16_row_1 1 rfl rfl)
theorem dX16_row_28 : decode cX16_row 28 = .ok (.aload_n 0, 1) := dk_42 (dk_at dksX16_row_1 4 rfl rfl)
theorem dX16_row_29 : decode cX16_row 29 = .ok (.iload_n 2, 1) := dk_28 (dk_at dksX16_row_1 5 rfl rfl)
theorem dX16_row_30 : decode cX16_row 30 = .ok (.invokevirtual 75, 3) := dk_182 0 75 (dk_at dksX16_row_1 6 rfl rfl)
theorem dX16_row_33 : decode cX16_row 33 = .ok (.ireturn, 1) := dk_172 (dk_at dksX16_row_1 9 rfl rfl)
theorem dX16_row_34 : decode cX16_row 34 = .ok (.aload_n 0, 1) := dk_42 (dk_at dksX16_row_1 10 rfl rfl)
theorem dX16_row_35 : decode cX16_row 35 = .ok (.getfield 55, 3) := dk_180 0 55 (dk_at dksX16_row_1 11 rfl rfl)
theorem dX16_row_38 : decode cX16_row 38 = .ok (.aload_n 0, 1) := dk_42 (dk_at dksX16_row_1 14 rfl rfl)
theorem dX16_row_39 : decode cX16_row 39 = .ok (.getfield 217, 3) := dk_180 0 217 (dk_at dksX16_row_1 15 rfl rfl)
theorem dX16_row_42 : decode cX16_row 42 = .ok (.iload_n 1, 1) := dk_27 (dk_at dksX16_row_1 18 rfl rfl)
theorem dX16_row_43 : decode cX16_row 43 = .ok (.iastore, 1) := dk_79 (dk_at dksX16_row_1 19 rfl rfl)
theorem dX16_row_44 : decode cX16_row 44 = .ok (.aload_n 0, 1) := dk_42 (dk_at dksX16_row_1 20 rfl rfl)
theorem dX16_row_45 : decode cX16_row 45 = .ok (.dup, 1) := dk_89 (dk_at dksX16_row_1 21 rfl rfl)
theorem dX16_row_46 : decode cX16_row 46 = .ok (.getfield 217, 3) := dk_180 0 217 (dk_at dksX16_row_2 0 rfl rfl)
theorem dX16_row_49 : decode cX16_row 49 = .ok (.iconst 1, 1) := dk_4 (dk_at dksX16_row_2 3 rfl rfl)
theorem dX16_row_50 : decode cX16_row 50 = .ok (.iadd, 1) := dk_96 (dk_at dksX16_row_2 4 rfl rfl)
theorem dX16_row_51 : decode cX16_row 51 = .ok (.putfield 217, 3) := dk_181 0 217 (dk_at dksX16_row_2 5 rfl rfl)
theorem dX16_row_54 : decode cX16_row 54 = .ok (.aload_n 0, 1) := dk_42 (dk_at dksX16_row_2 8 rfl rfl)
theorem dX16_row_55 : decode cX16_row 55 = .ok (.getfield 217, 3) := dk_180 0 217 (dk_at dksX16_row_2 9 rfl rfl)
theorem dX16_row_58 : decode cX16_row 58 = .ok (.ireturn, 1) := dk_172 (dk_at dksX16_row_2 12 rfl rfl)
abbrev cX16_judge : ByteArray := prog_28_method_63_code
def yX16_judge : MethodName := ⟨RX16, "judge", "()I"⟩
def dkwX16_judge_2 : List UInt8 := [46, 120, 128, 61, 132, 3, 1, 167, 255, 218, 16, 247, 172]
abbrev dktX16_judge_2 : List UInt8 := dkwX16_judge_2 ++ []
def dkwX16_judge_1 : List UInt8 := [182, 0, 152, 42, 180, 0, 55, 29, 46, 184, 0, 146, 154, 0, 5, 29, 172, 28, 4, 42, 180, 0, 55, 29]
abbrev dktX16_judge_1 : List UInt8 := dkwX16_judge_1 ++ dktX16_judge_2
def dkwX16_judge_0 : List UInt8 := [42, 180, 0, 217, 60, 42, 3, 181, 0, 217, 42, 180, 0, 109, 61, 3, 62, 29, 27, 162, 0, 39, 42, 28]
abbrev dktX16_judge_0 : List UInt8 := dkwX16_judge_0 ++ dktX16_judge_1
theorem dksX16_judge_0 : cX16_judge.data.toList.drop 0 = dktX16_judge_0 := by decide +kernel
theorem dksX16_judge_1 : cX16_judge.data.toList.drop 24 = dktX16_judge_1 := dk_seg dksX16_judge_0 24 rfl rfl
theorem dksX16_judge_2 : cX16_judge.data.toList.drop 48 = dktX16_judge_2 := dk_seg dksX16_judge_1 24 rfl rfl
theorem dX16_judge_0 : decode cX16_judge 0 = .ok (.aload_n 0, 1) := dk_42 (dk_at dksX16_judge_0 0 rfl rfl)
theorem dX16_judge_1 : decode cX16_judge 1 = .ok (.getfield 217, 3) := dk_180 0 217 (dk_at dksX16_judge_0 1 rfl rfl)
theorem dX16_judge_4 : decode cX16_judge 4 = .ok (.istore_n 1, 1) := dk_60 (dk_at dksX16_judge_0 4 rfl rfl)
theorem dX16_judge_5 : decode cX16_judge 5 = .ok (.aload_n 0, 1) := dk_42 (dk_at dksX16_judge_0 5 rfl rfl)
theorem dX16_judge_6 : decode cX16_judge 6 = .ok (.iconst 0, 1) := dk_3 (dk_at dksX16_judge_0 6 rfl rfl)
theorem dX16_judge_7 : decode cX16_judge 7 = .ok (.putfield 217, 3) := dk_181 0 217 (dk_at dksX16_judge_0 7 rfl rfl)
theorem dX16_judge_10 : decode cX16_judge 10 = .ok (.aload_n 0, 1) := dk_42 (dk_at dksX16_judge_0 10 rfl rfl)
theorem dX16_judge_11 : decode cX16_judge 11 = .ok (.getfield 109, 3) := dk_180 0 109 (dk_at dksX16_judge_0 11 rfl rfl)
theorem dX16_judge_14 : decode cX16_judge 14 = .ok (.istore_n 2, 1) := dk_61 (dk_at dksX16_judge_0 14 rfl rfl)
theorem dX16_judge_15 : decode cX16_judge 15 = .ok (.iconst 0, 1) := dk_3 (dk_at dksX16_judge_0 15 rfl rfl)
theorem dX16_judge_16 : decode cX16_judge 16 = .ok (.istore_n 3, 1) := dk_62 (dk_at dksX16_judge_0 16 rfl rfl)
theorem dX16_judge_17 : decode cX16_judge 17 = .ok (.iload_n 3, 1) := dk_29 (dk_at dksX16_judge_0 17 rfl rfl)
theorem dX16_judge_18 : decode cX16_judge 18 = .ok (.iload_n 1, 1) := dk_27 (dk_at dksX16_judge_0 18 rfl rfl)
theorem dX16_judge_19 : decode cX16_judge 19 = .ok (.if_icmp .ge 39, 3) := dk_162 0 39 (dk_at dksX16_judge_0 19 rfl rfl)
theorem dX16_judge_22 : decode cX16_judge 22 = .ok (.aload_n 0, 1) := dk_42 (dk_at dksX16_judge_0 22 rfl rfl)
theorem dX16_judge_23 : decode cX16_judge 23 = .ok (.iload_n 2, 1) := dk_28 (dk_at dksX16_judge_0 23 rfl rfl)
theorem dX16_judge_24 : decode cX16_judge 24 = .ok (.invokevirtual 152, 3) := dk_182 0 152 (dk_at dksX16_judge_1 0 rfl rfl)
theorem dX16_judge_27 : decode cX16_judge 27 = .ok (.aload_n 0, 1) := dk_42 (dk_at dksX16_judge_1 3 rfl rfl)
theorem dX16_judge_28 : decode cX16_judge 28 = .ok (.getfield 55, 3) := dk_180 0 55 (dk_at dksX16_judge_1 4 rfl rfl)
theorem dX16_judge_31 : decode cX16_judge 31 = .ok (.iload_n 3, 1) := dk_29 (dk_at dksX16_judge_1 7 rfl rfl)
theorem dX16_judge_32 : decode cX16_judge 32 = .ok (.iaload, 1) := dk_46 (dk_at dksX16_judge_1 8 rfl rfl)
theorem dX16_judge_33 : decode cX16_judge 33 = .ok (.invokestatic 146, 3) := dk_184 0 146 (dk_at dksX16_judge_1 9 rfl rfl)
theorem dX16_judge_36 : decode cX16_judge 36 = .ok (.ifCond .ne 5, 3) := dk_154 0 5 (dk_at dksX16_judge_1 12 rfl rfl)
theorem dX16_judge_39 : decode cX16_judge 39 = .ok (.iload_n 3, 1) := dk_29 (dk_at dksX16_judge_1 15 rfl rfl)
theorem dX16_judge_40 : decode cX16_judge 40 = .ok (.ireturn, 1) := dk_172 (dk_at dksX16_judge_1 16 rfl rfl)
theorem dX16_judge_41 : decode cX16_judge 41 = .ok (.iload_n 2, 1) := dk_28 (dk_at dksX16_judge_1 17 rfl rfl)
theorem dX16_judge_42 : decode cX16_judge 42 = .ok (.iconst 1, 1) := dk_4 (dk_at dksX16_judge_1 18 rfl rfl)
theorem dX16_judge_43 : decode cX16_judge 43 = .ok (.aload_n 0, 1) := dk_42 (dk_at dksX16_judge_1 19 rfl rfl)
theorem dX16_judge_44 : decode cX16_judge 44 = .ok (.getfield 55, 3) := dk_180 0 55 (dk_at dksX16_judge_1 20 rfl rfl)
theorem dX16_judge_47 : decode cX16_judge 47 = .ok (.iload_n 3, 1) := dk_29 (dk_at dksX16_judge_1 23 rfl rfl)
theorem dX16_judge_48 : decode cX16_judge 48 = .ok (.iaload, 1) := dk_46 (dk_at dksX16_judge_2 0 rfl rfl)
theorem dX16_judge_49 : decode cX16_judge 49 = .ok (.ishl, 1) := dk_120 (dk_at dksX16_judge_2 1 rfl rfl)
theorem dX16_judge_50 : decode cX16_judge 50 = .ok (.ior, 1) := dk_128 (dk_at dksX16_judge_2 2 rfl rfl)
theorem dX16_judge_51 : decode cX16_judge 51 = .ok (.istore_n 2, 1) := dk_61 (dk_at dksX16_judge_2 3 rfl rfl)
theorem dX16_judge_52 : decode cX16_judge 52 = .ok (.iinc 3 1, 3) := dk_132 3 1 (dk_at dksX16_judge_2 4 rfl rfl)
theorem dX16_judge_55 : decode cX16_judge 55 = .ok (.goto (-38), 3) := dk_167 255 218 (dk_at dksX16_judge_2 7 rfl rfl)
theorem dX16_judge_58 : decode cX16_judge 58 = .ok (.bipush (-9), 2) := dk_16 247 (dk_at dksX16_judge_2 10 rfl rfl)
theorem dX16_judge_60 : decode cX16_judge 60 = .ok (.ireturn, 1) := dk_172 (dk_at dksX16_judge_2 12 rfl rfl)
abbrev cX16_lots : ByteArray := prog_28_method_64_code
def yX16_lots : MethodName := ⟨RX16, "lots", "(II)I"⟩
def dkwX16_lots_5 : List UInt8 := [167, 255, 177, 21, 5, 172]
abbrev dktX16_lots_5 : List UInt8 := dkwX16_lots_5 ++ []
def dkwX16_lots_4 : List UInt8 := [21, 6, 120, 167, 0, 4, 3, 128, 54, 4, 42, 27, 21, 4, 182, 0, 214, 54, 6, 132, 7, 1]
abbrev dktX16_lots_4 : List UInt8 := dkwX16_lots_4 ++ dktX16_lots_5
def dkwX16_lots_3 : List UInt8 := [21, 4, 29, 18, 222, 126, 17, 1, 0, 108, 16, 10, 112, 42, 180, 0, 19, 21, 6, 46, 162, 0, 10, 4]
abbrev dktX16_lots_3 : List UInt8 := dkwX16_lots_3 ++ dktX16_lots_4
def dkwX16_lots_2 : List UInt8 := [155, 0, 73, 21, 5, 42, 21, 6, 21, 4, 182, 0, 155, 96, 54, 5, 29, 18, 220, 104, 18, 221, 96, 62]
abbrev dktX16_lots_2 : List UInt8 := dkwX16_lots_2 ++ dktX16_lots_3
def dkwX16_lots_1 : List UInt8 := [3, 54, 5, 42, 27, 21, 4, 182, 0, 214, 54, 6, 3, 54, 7, 21, 7, 16, 60, 162, 0, 78, 21, 6]
abbrev dktX16_lots_1 : List UInt8 := dkwX16_lots_1 ++ dktX16_lots_2
def dkwX16_lots_0 : List UInt8 := [27, 3, 8, 184, 0, 86, 154, 0, 10, 42, 16, 254, 182, 0, 75, 172, 28, 62, 42, 180, 0, 109, 54, 4]
abbrev dktX16_lots_0 : List UInt8 := dkwX16_lots_0 ++ dktX16_lots_1
theorem dksX16_lots_0 : cX16_lots.data.toList.drop 0 = dktX16_lots_0 := by decide +kernel
theorem dksX16_lots_1 : cX16_lots.data.toList.drop 24 = dktX16_lots_1 := dk_seg dksX16_lots_0 24 rfl rfl
theorem dksX16_lots_2 : cX16_lots.data.toList.drop 48 = dktX16_lots_2 := dk_seg dksX16_lots_1 24 rfl rfl
theorem dksX16_lots_3 : cX16_lots.data.toList.drop 72 = dktX16_lots_3 := dk_seg dksX16_lots_2 24 rfl rfl
theorem dksX16_lots_4 : cX16_lots.data.toList.drop 96 = dktX16_lots_4 := dk_seg dksX16_lots_3 24 rfl rfl
theorem dksX16_lots_5 : cX16_lots.data.toList.drop 118 = dktX16_lots_5 := dk_seg dksX16_lots_4 22 rfl rfl
theorem dX16_lots_0 : decode cX16_lots 0 = .ok (.iload_n 1, 1) := dk_27 (dk_at dksX16_lots_0 0 rfl rfl)
theorem dX16_lots_1 : decode cX16_lots 1 = .ok (.iconst 0, 1) := dk_3 (dk_at dksX16_lots_0 1 rfl rfl)
theorem dX16_lots_2 : decode cX16_lots 2 = .ok (.iconst 5, 1) := dk_8 (dk_at dksX16_lots_0 2 rfl rfl)
theorem dX16_lots_3 : decode cX16_lots 3 = .ok (.invokestatic 86, 3) := dk_184 0 86 (dk_at dksX16_lots_0 3 rfl rfl)
theorem dX16_lots_6 : decode cX16_lots 6 = .ok (.ifCond .ne 10, 3) := dk_154 0 10 (dk_at dksX16_lots_0 6 rfl rfl)
theorem dX16_lots_9 : decode cX16_lots 9 = .ok (.aload_n 0, 1) := dk_42 (dk_at dksX16_lots_0 9 rfl rfl)
theorem dX16_lots_10 : decode cX16_lots 10 = .ok (.bipush (-2), 2) := dk_16 254 (dk_at dksX16_lots_0 10 rfl rfl)
theorem dX16_lots_12 : decode cX16_lots 12 = .ok (.invokevirtual 75, 3) := dk_182 0 75 (dk_at dksX16_lots_0 12 rfl rfl)
theorem dX16_lots_15 : decode cX16_lots 15 = .ok (.ireturn, 1) := dk_172 (dk_at dksX16_lots_0 15 rfl rfl)
theorem dX16_lots_16 : decode cX16_lots 16 = .ok (.iload_n 2, 1) := dk_28 (dk_at dksX16_lots_0 16 rfl rfl)
theorem dX16_lots_17 : decode cX16_lots 17 = .ok (.istore_n 3, 1) := dk_62 (dk_at dksX16_lots_0 17 rfl rfl)
theorem dX16_lots_18 : decode cX16_lots 18 = .ok (.aload_n 0, 1) := dk_42 (dk_at dksX16_lots_0 18 rfl rfl)
theorem dX16_lots_19 : decode cX16_lots 19 = .ok (.getfield 109, 3) := dk_180 0 109 (dk_at dksX16_lots_0 19 rfl rfl)
theorem dX16_lots_22 : decode cX16_lots 22 = .ok (.istore 4, 2) := dk_54 4 (dk_at dksX16_lots_0 22 rfl rfl)
theorem dX16_lots_24 : decode cX16_lots 24 = .ok (.iconst 0, 1) := dk_3 (dk_at dksX16_lots_1 0 rfl rfl)
theorem dX16_lots_25 : decode cX16_lots 25 = .ok (.istore 5, 2) := dk_54 5 (dk_at dksX16_lots_1 1 rfl rfl)
theorem dX16_lots_27 : decode cX16_lots 27 = .ok (.aload_n 0, 1) := dk_42 (dk_at dksX16_lots_1 3 rfl rfl)
theorem dX16_lots_28 : decode cX16_lots 28 = .ok (.iload_n 1, 1) := dk_27 (dk_at dksX16_lots_1 4 rfl rfl)
theorem dX16_lots_29 : decode cX16_lots 29 = .ok (.iload 4, 2) := dk_21 4 (dk_at dksX16_lots_1 5 rfl rfl)
theorem dX16_lots_31 : decode cX16_lots 31 = .ok (.invokevirtual 214, 3) := dk_182 0 214 (dk_at dksX16_lots_1 7 rfl rfl)
theorem dX16_lots_34 : decode cX16_lots 34 = .ok (.istore 6, 2) := dk_54 6 (dk_at dksX16_lots_1 10 rfl rfl)
theorem dX16_lots_36 : decode cX16_lots 36 = .ok (.iconst 0, 1) := dk_3 (dk_at dksX16_lots_1 12 rfl rfl)
theorem dX16_lots_37 : decode cX16_lots 37 = .ok (.istore 7, 2) := dk_54 7 (dk_at dksX16_lots_1 13 rfl rfl)
theorem dX16_lots_39 : decode cX16_lots 39 = .ok (.iload 7, 2) := dk_21 7 (dk_at dksX16_lots_1 15 rfl rfl)
theorem dX16_lots_41 : decode cX16_lots 41 = .ok (.bipush 60, 2) := dk_16 60 (dk_at dksX16_lots_1 17 rfl rfl)
theorem dX16_lots_43 : decode cX16_lots 43 = .ok (.if_icmp .ge 78, 3) := dk_162 0 78 (dk_at dksX16_lots_1 19 rfl rfl)
theorem dX16_lots_46 : decode cX16_lots 46 = .ok (.iload 6, 2) := dk_21 6 (dk_at dksX16_lots_1 22 rfl rfl)
theorem dX16_lots_48 : decode cX16_lots 48 = .ok (.ifCond .lt 73, 3) := dk_155 0 73 (dk_at dksX16_lots_2 0 rfl rfl)
theorem dX16_lots_51 : decode cX16_lots 51 = .ok (.iload 5, 2) := dk_21 5 (dk_at dksX16_lots_2 3 rfl rfl)
theorem dX16_lots_53 : decode cX16_lots 53 = .ok (.aload_n 0, 1) := dk_42 (dk_at dksX16_lots_2 5 rfl rfl)
theorem dX16_lots_54 : decode cX16_lots 54 = .ok (.iload 6, 2) := dk_21 6 (dk_at dksX16_lots_2 6 rfl rfl)
theorem dX16_lots_56 : decode cX16_lots 56 = .ok (.iload 4, 2) := dk_21 4 (dk_at dksX16_lots_2 8 rfl rfl)
theorem dX16_lots_58 : decode cX16_lots 58 = .ok (.invokevirtual 155, 3) := dk_182 0 155 (dk_at dksX16_lots_2 10 rfl rfl)
theorem dX16_lots_61 : decode cX16_lots 61 = .ok (.iadd, 1) := dk_96 (dk_at dksX16_lots_2 13 rfl rfl)
theorem dX16_lots_62 : decode cX16_lots 62 = .ok (.istore 5, 2) := dk_54 5 (dk_at dksX16_lots_2 14 rfl rfl)
theorem dX16_lots_64 : decode cX16_lots 64 = .ok (.iload_n 3, 1) := dk_29 (dk_at dksX16_lots_2 16 rfl rfl)
theorem dX16_lots_65 : decode cX16_lots 65 = .ok (.ldc 220, 2) := dk_18 220 (dk_at dksX16_lots_2 17 rfl rfl)
theorem dX16_lots_67 : decode cX16_lots 67 = .ok (.imul, 1) := dk_104 (dk_at dksX16_lots_2 19 rfl rfl)
theorem dX16_lots_68 : decode cX16_lots 68 = .ok (.ldc 221, 2) := dk_18 221 (dk_at dksX16_lots_2 20 rfl rfl)
theorem dX16_lots_70 : decode cX16_lots 70 = .ok (.iadd, 1) := dk_96 (dk_at dksX16_lots_2 22 rfl rfl)
theorem dX16_lots_71 : decode cX16_lots 71 = .ok (.istore_n 3, 1) := dk_62 (dk_at dksX16_lots_2 23 rfl rfl)
theorem dX16_lots_72 : decode cX16_lots 72 = .ok (.iload 4, 2) := dk_21 4 (dk_at dksX16_lots_3 0 rfl rfl)
theorem dX16_lots_74 : decode cX16_lots 74 = .ok (.iload_n 3, 1) := dk_29 (dk_at dksX16_lots_3 2 rfl rfl)
theorem dX16_lots_75 : decode cX16_lots 75 = .ok (.ldc 222, 2) := dk_18 222 (dk_at dksX16_lots_3 3 rfl rfl)
theorem dX16_lots_77 : decode cX16_lots 77 = .ok (.iand, 1) := dk_126 (dk_at dksX16_lots_3 5 rfl rfl)
theorem dX16_lots_78 : decode cX16_lots 78 = .ok (.sipush 256, 3) := dk_17 1 0 (dk_at dksX16_lots_3 6 rfl rfl)
theorem dX16_lots_81 : decode cX16_lots 81 = .ok (.idiv, 1) := dk_108 (dk_at dksX16_lots_3 9 rfl rfl)
theorem dX16_lots_82 : decode cX16_lots 82 = .ok (.bipush 10, 2) := dk_16 10 (dk_at dksX16_lots_3 10 rfl rfl)
theorem dX16_lots_84 : decode cX16_lots 84 = .ok (.irem, 1) := dk_112 (dk_at dksX16_lots_3 12 rfl rfl)
theorem dX16_lots_85 : decode cX16_lots 85 = .ok (.aload_n 0, 1) := dk_42 (dk_at dksX16_lots_3 13 rfl rfl)
theorem dX16_lots_86 : decode cX16_lots 86 = .ok (.getfield 19, 3) := dk_180 0 19 (dk_at dksX16_lots_3 14 rfl rfl)
theorem dX16_lots_89 : decode cX16_lots 89 = .ok (.iload 6, 2) := dk_21 6 (dk_at dksX16_lots_3 17 rfl rfl)
theorem dX16_lots_91 : decode cX16_lots 91 = .ok (.iaload, 1) := dk_46 (dk_at dksX16_lots_3 19 rfl rfl)
theorem dX16_lots_92 : decode cX16_lots 92 = .ok (.if_icmp .ge 10, 3) := dk_162 0 10 (dk_at dksX16_lots_3 20 rfl rfl)
theorem dX16_lots_95 : decode cX16_lots 95 = .ok (.iconst 1, 1) := dk_4 (dk_at dksX16_lots_3 23 rfl rfl)
theorem dX16_lots_96 : decode cX16_lots 96 = .ok (.iload 6, 2) := dk_21 6 (dk_at dksX16_lots_4 0 rfl rfl)
theorem dX16_lots_98 : decode cX16_lots 98 = .ok (.ishl, 1) := dk_120 (dk_at dksX16_lots_4 2 rfl rfl)
theorem dX16_lots_99 : decode cX16_lots 99 = .ok (.goto 4, 3) := dk_167 0 4 (dk_at dksX16_lots_4 3 rfl rfl)
theorem dX16_lots_102 : decode cX16_lots 102 = .ok (.iconst 0, 1) := dk_3 (dk_at dksX16_lots_4 6 rfl rfl)
theorem dX16_lots_103 : decode cX16_lots 103 = .ok (.ior, 1) := dk_128 (dk_at dksX16_lots_4 7 rfl rfl)
theorem dX16_lots_104 : decode cX16_lots 104 = .ok (.istore 4, 2) := dk_54 4 (dk_at dksX16_lots_4 8 rfl rfl)
theorem dX16_lots_106 : decode cX16_lots 106 = .ok (.aload_n 0, 1) := dk_42 (dk_at dksX16_lots_4 10 rfl rfl)
theorem dX16_lots_107 : decode cX16_lots 107 = .ok (.iload_n 1, 1) := dk_27 (dk_at dksX16_lots_4 11 rfl rfl)
theorem dX16_lots_108 : decode cX16_lots 108 = .ok (.iload 4, 2) := dk_21 4 (dk_at dksX16_lots_4 12 rfl rfl)
theorem dX16_lots_110 : decode cX16_lots 110 = .ok (.invokevirtual 214, 3) := dk_182 0 214 (dk_at dksX16_lots_4 14 rfl rfl)
theorem dX16_lots_113 : decode cX16_lots 113 = .ok (.istore 6, 2) := dk_54 6 (dk_at dksX16_lots_4 17 rfl rfl)
theorem dX16_lots_115 : decode cX16_lots 115 = .ok (.iinc 7 1, 3) := dk_132 7 1 (dk_at dksX16_lots_4 19 rfl rfl)
theorem dX16_lots_118 : decode cX16_lots 118 = .ok (.goto (-79), 3) := dk_167 255 177 (dk_at dksX16_lots_5 0 rfl rfl)
theorem dX16_lots_121 : decode cX16_lots 121 = .ok (.iload 5, 2) := dk_21 5 (dk_at dksX16_lots_5 3 rfl rfl)
theorem dX16_lots_123 : decode cX16_lots 123 = .ok (.ireturn, 1) := dk_172 (dk_at dksX16_lots_5 5 rfl rfl)
abbrev cX16_count : ByteArray := prog_28_method_65_code
def yX16_count : MethodName := ⟨RX16, "count", "(I)I"⟩
def dkwX16_count_4 : List UInt8 := [180, 0, 217, 172, 42, 180, 0, 72, 172, 16, 247, 172]
abbrev dktX16_count_4 : List UInt8 := dkwX16_count_4 ++ []
def dkwX16_count_3 : List UInt8 := [180, 0, 109, 3, 182, 0, 162, 184, 0, 143, 100, 172, 42, 42, 182, 0, 165, 182, 0, 195, 172, 42]
abbrev dktX16_count_3 : List UInt8 := dkwX16_count_3 ++ dktX16_count_4
def dkwX16_count_2 : List UInt8 := [42, 180, 0, 60, 172, 42, 180, 0, 109, 184, 0, 143, 172, 42, 180, 0, 137, 172, 42, 180, 0, 60, 42, 42]
abbrev dktX16_count_2 : List UInt8 := dkwX16_count_2 ++ dktX16_count_3
def dkwX16_count_1 : List UInt8 := [170, 0, 0, 0, 0, 97, 0, 0, 0, 0, 0, 0, 0, 6, 0, 0, 0, 42, 0, 0, 0, 47, 0, 0, 0, 55, 0, 0, 0, 60, 0, 0, 0, 78, 0, 0, 0, 87, 0, 0, 0, 92]
abbrev dktX16_count_1 : List UInt8 := dkwX16_count_1 ++ dktX16_count_2
def dkwX16_count_0 : List UInt8 := [27, 16, 11, 16, 16, 184, 0, 86, 153, 0, 13, 42, 180, 0, 7, 27, 16, 10, 100, 46, 172, 27]
abbrev dktX16_count_0 : List UInt8 := dkwX16_count_0 ++ dktX16_count_1
theorem dksX16_count_0 : cX16_count.data.toList.drop 0 = dktX16_count_0 := by decide +kernel
theorem dksX16_count_1 : cX16_count.data.toList.drop 22 = dktX16_count_1 := dk_seg dksX16_count_0 22 rfl rfl
theorem dksX16_count_2 : cX16_count.data.toList.drop 64 = dktX16_count_2 := dk_seg dksX16_count_1 42 rfl rfl
theorem dksX16_count_3 : cX16_count.data.toList.drop 88 = dktX16_count_3 := dk_seg dksX16_count_2 24 rfl rfl
theorem dksX16_count_4 : cX16_count.data.toList.drop 110 = dktX16_count_4 := dk_seg dksX16_count_3 22 rfl rfl
theorem dX16_count_0 : decode cX16_count 0 = .ok (.iload_n 1, 1) := dk_27 (dk_at dksX16_count_0 0 rfl rfl)
theorem dX16_count_1 : decode cX16_count 1 = .ok (.bipush 11, 2) := dk_16 11 (dk_at dksX16_count_0 1 rfl rfl)
theorem dX16_count_3 : decode cX16_count 3 = .ok (.bipush 16, 2) := dk_16 16 (dk_at dksX16_count_0 3 rfl rfl)
theorem dX16_count_5 : decode cX16_count 5 = .ok (.invokestatic 86, 3) := dk_184 0 86 (dk_at dksX16_count_0 5 rfl rfl)
theorem dX16_count_8 : decode cX16_count 8 = .ok (.ifCond .eq 13, 3) := dk_153 0 13 (dk_at dksX16_count_0 8 rfl rfl)
theorem dX16_count_11 : decode cX16_count 11 = .ok (.aload_n 0, 1) := dk_42 (dk_at dksX16_count_0 11 rfl rfl)
theorem dX16_count_12 : decode cX16_count 12 = .ok (.getfield 7, 3) := dk_180 0 7 (dk_at dksX16_count_0 12 rfl rfl)
theorem dX16_count_15 : decode cX16_count 15 = .ok (.iload_n 1, 1) := dk_27 (dk_at dksX16_count_0 15 rfl rfl)
theorem dX16_count_16 : decode cX16_count 16 = .ok (.bipush 10, 2) := dk_16 10 (dk_at dksX16_count_0 16 rfl rfl)
theorem dX16_count_18 : decode cX16_count 18 = .ok (.isub, 1) := dk_100 (dk_at dksX16_count_0 18 rfl rfl)
theorem dX16_count_19 : decode cX16_count 19 = .ok (.iaload, 1) := dk_46 (dk_at dksX16_count_0 19 rfl rfl)
theorem dX16_count_20 : decode cX16_count 20 = .ok (.ireturn, 1) := dk_172 (dk_at dksX16_count_0 20 rfl rfl)
theorem dX16_count_21 : decode cX16_count 21 = .ok (.iload_n 1, 1) := dk_27 (dk_at dksX16_count_0 21 rfl rfl)
theorem dX16_count_22 : decode cX16_count 22 = .ok (.tableswitch 97 0 6 #[42, 47, 55, 60, 78, 87, 92], 42) := by decide +kernel
theorem dX16_count_64 : decode cX16_count 64 = .ok (.aload_n 0, 1) := dk_42 (dk_at dksX16_count_2 0 rfl rfl)
theorem dX16_count_65 : decode cX16_count 65 = .ok (.getfield 60, 3) := dk_180 0 60 (dk_at dksX16_count_2 1 rfl rfl)
theorem dX16_count_68 : decode cX16_count 68 = .ok (.ireturn, 1) := dk_172 (dk_at dksX16_count_2 4 rfl rfl)
theorem dX16_count_69 : decode cX16_count 69 = .ok (.aload_n 0, 1) := dk_42 (dk_at dksX16_count_2 5 rfl rfl)
theorem dX16_count_70 : decode cX16_count 70 = .ok (.getfield 109, 3) := dk_180 0 109 (dk_at dksX16_count_2 6 rfl rfl)
theorem dX16_count_73 : decode cX16_count 73 = .ok (.invokestatic 143, 3) := dk_184 0 143 (dk_at dksX16_count_2 9 rfl rfl)
theorem dX16_count_76 : decode cX16_count 76 = .ok (.ireturn, 1) := dk_172 (dk_at dksX16_count_2 12 rfl rfl)
theorem dX16_count_77 : decode cX16_count 77 = .ok (.aload_n 0, 1) := dk_42 (dk_at dksX16_count_2 13 rfl rfl)
theorem dX16_count_78 : decode cX16_count 78 = .ok (.getfield 137, 3) := dk_180 0 137 (dk_at dksX16_count_2 14 rfl rfl)
theorem dX16_count_81 : decode cX16_count 81 = .ok (.ireturn, 1) := dk_172 (dk_at dksX16_count_2 17 rfl rfl)
theorem dX16_count_82 : decode cX16_count 82 = .ok (.aload_n 0, 1) := dk_42 (dk_at dksX16_count_2 18 rfl rfl)
theorem dX16_count_83 : decode cX16_count 83 = .ok (.getfield 60, 3) := dk_180 0 60 (dk_at dksX16_count_2 19 rfl rfl)
theorem dX16_count_86 : decode cX16_count 86 = .ok (.aload_n 0, 1) := dk_42 (dk_at dksX16_count_2 22 rfl rfl)
theorem dX16_count_87 : decode cX16_count 87 = .ok (.aload_n 0, 1) := dk_42 (dk_at dksX16_count_2 23 rfl rfl)
theorem dX16_count_88 : decode cX16_count 88 = .ok (.getfield 109, 3) := dk_180 0 109 (dk_at dksX16_count_3 0 rfl rfl)
theorem dX16_count_91 : decode cX16_count 91 = .ok (.iconst 0, 1) := dk_3 (dk_at dksX16_count_3 3 rfl rfl)
theorem dX16_count_92 : decode cX16_count 92 = .ok (.invokevirtual 162, 3) := dk_182 0 162 (dk_at dksX16_count_3 4 rfl rfl)
theorem dX16_count_95 : decode cX16_count 95 = .ok (.invokestatic 143, 3) := dk_184 0 143 (dk_at dksX16_count_3 7 rfl rfl)
theorem dX16_count_98 : decode cX16_count 98 = .ok (.isub, 1) := dk_100 (dk_at dksX16_count_3 10 rfl rfl)
theorem dX16_count_99 : decode cX16_count 99 = .ok (.ireturn, 1) := dk_172 (dk_at dksX16_count_3 11 rfl rfl)
theorem dX16_count_100 : decode cX16_count 100 = .ok (.aload_n 0, 1) := dk_42 (dk_at dksX16_count_3 12 rfl rfl)
theorem dX16_count_101 : decode cX16_count 101 = .ok (.aload_n 0, 1) := dk_42 (dk_at dksX16_count_3 13 rfl rfl)
theorem dX16_count_102 : decode cX16_count 102 = .ok (.invokevirtual 165, 3) := dk_182 0 165 (dk_at dksX16_count_3 14 rfl rfl)
theorem dX16_count_105 : decode cX16_count 105 = .ok (.invokevirtual 195, 3) := dk_182 0 195 (dk_at dksX16_count_3 17 rfl rfl)
theorem dX16_count_108 : decode cX16_count 108 = .ok (.ireturn, 1) := dk_172 (dk_at dksX16_count_3 20 rfl rfl)
theorem dX16_count_109 : decode cX16_count 109 = .ok (.aload_n 0, 1) := dk_42 (dk_at dksX16_count_3 21 rfl rfl)
theorem dX16_count_110 : decode cX16_count 110 = .ok (.getfield 217, 3) := dk_180 0 217 (dk_at dksX16_count_4 0 rfl rfl)
theorem dX16_count_113 : decode cX16_count 113 = .ok (.ireturn, 1) := dk_172 (dk_at dksX16_count_4 3 rfl rfl)
theorem dX16_count_114 : decode cX16_count 114 = .ok (.aload_n 0, 1) := dk_42 (dk_at dksX16_count_4 4 rfl rfl)
theorem dX16_count_115 : decode cX16_count 115 = .ok (.getfield 72, 3) := dk_180 0 72 (dk_at dksX16_count_4 5 rfl rfl)
theorem dX16_count_118 : decode cX16_count 118 = .ok (.ireturn, 1) := dk_172 (dk_at dksX16_count_4 8 rfl rfl)
theorem dX16_count_119 : decode cX16_count 119 = .ok (.bipush (-9), 2) := dk_16 247 (dk_at dksX16_count_4 9 rfl rfl)
theorem dX16_count_121 : decode cX16_count 121 = .ok (.ireturn, 1) := dk_172 (dk_at dksX16_count_4 11 rfl rfl)
theorem q97 : (Jvm.Cond.initialized "WithoutThemModel") ∈ lw_all := lw_g (lw_at lw_m1 17 rfl) rfl
theorem q1094 : (Jvm.Cond.instantiable "WithoutThemModel" (26 : Nat)) ∈ lw_all := lw_g (lw_at lw_m5 54 rfl) rfl
theorem q1096 : (Jvm.Cond.instanceMethod ({ cls := "WithoutThemModel", name := "<init>", desc := "()V" } : Jvm.MethodName)) ∈ lw_all := lw_g (lw_at lw_m5 56 rfl) rfl
theorem q1097 : (Jvm.Cond.code ({ cls := "WithoutThemModel", name := "<init>", desc := "()V" } : Jvm.MethodName) prog_28_method_1_code (1 : Nat) (Option.none : Option Jvm.ClassFile.FieldType)) ∈ lw_all := lw_g (lw_at lw_m5 57 rfl) rfl
theorem q1098 : (Jvm.Cond.methodLink "WithoutThemModel" (1 : Nat) ({ cls := "java/lang/Object", name := "<init>", desc := "()V" } : Jvm.MethodName)) ∈ lw_all := lw_g (lw_at lw_m5 58 rfl) rfl
theorem q1099 : (Jvm.Cond.fieldLink "WithoutThemModel" (7 : Nat) "WithoutThemModel" "refused" "[I") ∈ lw_all := lw_g (lw_at lw_m5 59 rfl) rfl
theorem q1100 : (Jvm.Cond.fieldLink "WithoutThemModel" (13 : Nat) "WithoutThemModel" "kind" "[I") ∈ lw_all := lw_g (lw_at lw_m5 60 rfl) rfl
theorem q1101 : (Jvm.Cond.fieldLink "WithoutThemModel" (16 : Nat) "WithoutThemModel" "lasting" "[I") ∈ lw_all := lw_g (lw_at lw_m5 61 rfl) rfl
theorem q1102 : (Jvm.Cond.fieldLink "WithoutThemModel" (19 : Nat) "WithoutThemModel" "sure" "[I") ∈ lw_all := lw_g (lw_at lw_m5 62 rfl) rfl
theorem q1103 : (Jvm.Cond.fieldLink "WithoutThemModel" (22 : Nat) "WithoutThemModel" "cost" "[I") ∈ lw_all := lw_g (lw_at lw_m5 63 rfl) rfl
theorem q1104 : (Jvm.Cond.fieldLink "WithoutThemModel" (25 : Nat) "WithoutThemModel" "any" "[I") ∈ lw_all := lw_g (lw_at lw_m5 64 rfl) rfl
theorem q1105 : (Jvm.Cond.fieldLink "WithoutThemModel" (28 : Nat) "WithoutThemModel" "all" "[I") ∈ lw_all := lw_g (lw_at lw_m5 65 rfl) rfl
theorem q1106 : (Jvm.Cond.fieldLink "WithoutThemModel" (60 : Nat) "WithoutThemModel" "things" "I") ∈ lw_all := lw_g (lw_at lw_m5 66 rfl) rfl
theorem q1107 : (Jvm.Cond.fieldLink "WithoutThemModel" (109 : Nat) "WithoutThemModel" "hand" "I") ∈ lw_all := lw_g (lw_at lw_m5 67 rfl) rfl
theorem q1108 : (Jvm.Cond.fieldLink "WithoutThemModel" (137 : Nat) "WithoutThemModel" "minute" "I") ∈ lw_all := lw_g (lw_at lw_m5 68 rfl) rfl
theorem q1109 : (Jvm.Cond.fieldLink "WithoutThemModel" (31 : Nat) "WithoutThemModel" "tape" "[I") ∈ lw_all := lw_g (lw_at lw_m5 69 rfl) rfl
theorem q1110 : (Jvm.Cond.fieldLink "WithoutThemModel" (34 : Nat) "WithoutThemModel" "letter" "[I") ∈ lw_all := lw_g (lw_at lw_m5 70 rfl) rfl
theorem q1111 : (Jvm.Cond.fieldLink "WithoutThemModel" (37 : Nat) "WithoutThemModel" "letterAt" "[I") ∈ lw_all := lw_g (lw_at lw_m5 71 rfl) rfl
theorem q1112 : (Jvm.Cond.fieldLink "WithoutThemModel" (40 : Nat) "WithoutThemModel" "told" "[I") ∈ lw_all := lw_g (lw_at lw_m5 72 rfl) rfl
theorem q1113 : (Jvm.Cond.fieldLink "WithoutThemModel" (72 : Nat) "WithoutThemModel" "taped" "I") ∈ lw_all := lw_g (lw_at lw_m5 73 rfl) rfl
theorem q1114 : (Jvm.Cond.fieldLink "WithoutThemModel" (79 : Nat) "WithoutThemModel" "at" "I") ∈ lw_all := lw_g (lw_at lw_m5 74 rfl) rfl
theorem q1115 : (Jvm.Cond.fieldLink "WithoutThemModel" (97 : Nat) "WithoutThemModel" "statements" "I") ∈ lw_all := lw_g (lw_at lw_m5 75 rfl) rfl
theorem q1116 : (Jvm.Cond.fieldLink "WithoutThemModel" (43 : Nat) "WithoutThemModel" "kept" "[I") ∈ lw_all := lw_g (lw_at lw_m5 76 rfl) rfl
theorem q1117 : (Jvm.Cond.fieldLink "WithoutThemModel" (140 : Nat) "WithoutThemModel" "hasImage" "Z") ∈ lw_all := lw_g (lw_at lw_m5 77 rfl) rfl
theorem q1118 : (Jvm.Cond.fieldLink "WithoutThemModel" (123 : Nat) "WithoutThemModel" "isKeeping" "Z") ∈ lw_all := lw_g (lw_at lw_m5 78 rfl) rfl
theorem q1119 : (Jvm.Cond.fieldLink "WithoutThemModel" (127 : Nat) "WithoutThemModel" "cursor" "I") ∈ lw_all := lw_g (lw_at lw_m5 79 rfl) rfl
theorem q1120 : (Jvm.Cond.fieldLink "WithoutThemModel" (46 : Nat) "WithoutThemModel" "rest" "[I") ∈ lw_all := lw_g (lw_at lw_m5 80 rfl) rfl
theorem q1121 : (Jvm.Cond.fieldLink "WithoutThemModel" (49 : Nat) "WithoutThemModel" "upTo" "[I") ∈ lw_all := lw_g (lw_at lw_m5 81 rfl) rfl
theorem q1122 : (Jvm.Cond.fieldLink "WithoutThemModel" (52 : Nat) "WithoutThemModel" "fromOn" "[I") ∈ lw_all := lw_g (lw_at lw_m5 82 rfl) rfl
theorem q1123 : (Jvm.Cond.fieldLink "WithoutThemModel" (55 : Nat) "WithoutThemModel" "row" "[I") ∈ lw_all := lw_g (lw_at lw_m5 83 rfl) rfl
theorem q1124 : (Jvm.Cond.fieldLink "WithoutThemModel" (217 : Nat) "WithoutThemModel" "rowMany" "I") ∈ lw_all := lw_g (lw_at lw_m5 84 rfl) rfl
theorem q1125 : (Jvm.Cond.laysFinal "WithoutThemModel" "WithoutThemModel" "refused" "[I") ∈ lw_all := lw_g (lw_at lw_m5 85 rfl) rfl
theorem q1126 : (Jvm.Cond.soleField "WithoutThemModel" "refused") ∈ lw_all := lw_g (lw_at lw_m5 86 rfl) rfl
theorem q1127 : (Jvm.Cond.laysFinal "WithoutThemModel" "WithoutThemModel" "kind" "[I") ∈ lw_all := lw_g (lw_at lw_m5 87 rfl) rfl
theorem q1128 : (Jvm.Cond.soleField "WithoutThemModel" "kind") ∈ lw_all := lw_g (lw_at lw_m5 88 rfl) rfl
theorem q1129 : (Jvm.Cond.laysFinal "WithoutThemModel" "WithoutThemModel" "lasting" "[I") ∈ lw_all := lw_g (lw_at lw_m5 89 rfl) rfl
theorem q1130 : (Jvm.Cond.soleField "WithoutThemModel" "lasting") ∈ lw_all := lw_g (lw_at lw_m5 90 rfl) rfl
theorem q1131 : (Jvm.Cond.laysFinal "WithoutThemModel" "WithoutThemModel" "sure" "[I") ∈ lw_all := lw_g (lw_at lw_m5 91 rfl) rfl
theorem q1132 : (Jvm.Cond.soleField "WithoutThemModel" "sure") ∈ lw_all := lw_g (lw_at lw_m5 92 rfl) rfl
theorem q1133 : (Jvm.Cond.laysFinal "WithoutThemModel" "WithoutThemModel" "cost" "[I") ∈ lw_all := lw_g (lw_at lw_m5 93 rfl) rfl
theorem q1134 : (Jvm.Cond.soleField "WithoutThemModel" "cost") ∈ lw_all := lw_g (lw_at lw_m5 94 rfl) rfl
theorem q1135 : (Jvm.Cond.laysFinal "WithoutThemModel" "WithoutThemModel" "any" "[I") ∈ lw_all := lw_g (lw_at lw_m5 95 rfl) rfl
theorem q1136 : (Jvm.Cond.soleField "WithoutThemModel" "any") ∈ lw_all := lw_g (lw_at lw_m5 96 rfl) rfl
theorem q1137 : (Jvm.Cond.laysFinal "WithoutThemModel" "WithoutThemModel" "all" "[I") ∈ lw_all := lw_g (lw_at lw_m5 97 rfl) rfl
theorem q1138 : (Jvm.Cond.soleField "WithoutThemModel" "all") ∈ lw_all := lw_g (lw_at lw_m5 98 rfl) rfl
theorem q1139 : (Jvm.Cond.lays "WithoutThemModel" "WithoutThemModel" "things" "I") ∈ lw_all := lw_g (lw_at lw_m5 99 rfl) rfl
theorem q1140 : (Jvm.Cond.soleField "WithoutThemModel" "things") ∈ lw_all := lw_g (lw_at lw_m5 100 rfl) rfl
theorem q1141 : (Jvm.Cond.lays "WithoutThemModel" "WithoutThemModel" "hand" "I") ∈ lw_all := lw_g (lw_at lw_m5 101 rfl) rfl
theorem q1142 : (Jvm.Cond.soleField "WithoutThemModel" "hand") ∈ lw_all := lw_g (lw_at lw_m5 102 rfl) rfl
theorem q1143 : (Jvm.Cond.lays "WithoutThemModel" "WithoutThemModel" "minute" "I") ∈ lw_all := lw_g (lw_at lw_m5 103 rfl) rfl
theorem q1144 : (Jvm.Cond.soleField "WithoutThemModel" "minute") ∈ lw_all := lw_g (lw_at lw_m5 104 rfl) rfl
theorem q1145 : (Jvm.Cond.laysFinal "WithoutThemModel" "WithoutThemModel" "tape" "[I") ∈ lw_all := lw_g (lw_at lw_m5 105 rfl) rfl
theorem q1146 : (Jvm.Cond.soleField "WithoutThemModel" "tape") ∈ lw_all := lw_g (lw_at lw_m5 106 rfl) rfl
theorem q1147 : (Jvm.Cond.laysFinal "WithoutThemModel" "WithoutThemModel" "letter" "[I") ∈ lw_all := lw_g (lw_at lw_m5 107 rfl) rfl
theorem q1148 : (Jvm.Cond.soleField "WithoutThemModel" "letter") ∈ lw_all := lw_g (lw_at lw_m5 108 rfl) rfl
theorem q1149 : (Jvm.Cond.laysFinal "WithoutThemModel" "WithoutThemModel" "letterAt" "[I") ∈ lw_all := lw_g (lw_at lw_m5 109 rfl) rfl
theorem q1150 : (Jvm.Cond.soleField "WithoutThemModel" "letterAt") ∈ lw_all := lw_g (lw_at lw_m5 110 rfl) rfl
theorem q1151 : (Jvm.Cond.laysFinal "WithoutThemModel" "WithoutThemModel" "told" "[I") ∈ lw_all := lw_g (lw_at lw_m5 111 rfl) rfl
theorem q1152 : (Jvm.Cond.soleField "WithoutThemModel" "told") ∈ lw_all := lw_g (lw_at lw_m5 112 rfl) rfl
theorem q1153 : (Jvm.Cond.lays "WithoutThemModel" "WithoutThemModel" "taped" "I") ∈ lw_all := lw_g (lw_at lw_m5 113 rfl) rfl
theorem q1154 : (Jvm.Cond.soleField "WithoutThemModel" "taped") ∈ lw_all := lw_g (lw_at lw_m5 114 rfl) rfl
theorem q1155 : (Jvm.Cond.lays "WithoutThemModel" "WithoutThemModel" "at" "I") ∈ lw_all := lw_g (lw_at lw_m5 115 rfl) rfl
theorem q1156 : (Jvm.Cond.soleField "WithoutThemModel" "at") ∈ lw_all := lw_g (lw_at lw_m5 116 rfl) rfl
theorem q1157 : (Jvm.Cond.lays "WithoutThemModel" "WithoutThemModel" "statements" "I") ∈ lw_all := lw_g (lw_at lw_m5 117 rfl) rfl
theorem q1158 : (Jvm.Cond.soleField "WithoutThemModel" "statements") ∈ lw_all := lw_g (lw_at lw_m5 118 rfl) rfl
theorem q1159 : (Jvm.Cond.laysFinal "WithoutThemModel" "WithoutThemModel" "kept" "[I") ∈ lw_all := lw_g (lw_at lw_m5 119 rfl) rfl
theorem q1160 : (Jvm.Cond.soleField "WithoutThemModel" "kept") ∈ lw_all := lw_g (lw_at lw_m5 120 rfl) rfl
theorem q1161 : (Jvm.Cond.lays "WithoutThemModel" "WithoutThemModel" "hasImage" "Z") ∈ lw_all := lw_g (lw_at lw_m5 121 rfl) rfl
theorem q1162 : (Jvm.Cond.soleField "WithoutThemModel" "hasImage") ∈ lw_all := lw_g (lw_at lw_m5 122 rfl) rfl
theorem q1163 : (Jvm.Cond.lays "WithoutThemModel" "WithoutThemModel" "isKeeping" "Z") ∈ lw_all := lw_g (lw_at lw_m5 123 rfl) rfl
theorem q1164 : (Jvm.Cond.soleField "WithoutThemModel" "isKeeping") ∈ lw_all := lw_g (lw_at lw_m5 124 rfl) rfl
theorem q1165 : (Jvm.Cond.lays "WithoutThemModel" "WithoutThemModel" "cursor" "I") ∈ lw_all := lw_g (lw_at lw_m5 125 rfl) rfl
theorem q1166 : (Jvm.Cond.soleField "WithoutThemModel" "cursor") ∈ lw_all := lw_g (lw_at lw_m5 126 rfl) rfl
theorem q1167 : (Jvm.Cond.laysFinal "WithoutThemModel" "WithoutThemModel" "rest" "[I") ∈ lw_all := lw_g (lw_at lw_m5 127 rfl) rfl
theorem q1168 : (Jvm.Cond.soleField "WithoutThemModel" "rest") ∈ lw_all := lw_g (lw_at lw_m5 128 rfl) rfl
theorem q1169 : (Jvm.Cond.laysFinal "WithoutThemModel" "WithoutThemModel" "upTo" "[I") ∈ lw_all := lw_g (lw_at lw_m5 129 rfl) rfl
theorem q1170 : (Jvm.Cond.soleField "WithoutThemModel" "upTo") ∈ lw_all := lw_g (lw_at lw_m5 130 rfl) rfl
theorem q1171 : (Jvm.Cond.laysFinal "WithoutThemModel" "WithoutThemModel" "fromOn" "[I") ∈ lw_all := lw_g (lw_at lw_m5 131 rfl) rfl
theorem q1172 : (Jvm.Cond.soleField "WithoutThemModel" "fromOn") ∈ lw_all := lw_g (lw_at lw_m5 132 rfl) rfl
theorem q1173 : (Jvm.Cond.laysFinal "WithoutThemModel" "WithoutThemModel" "row" "[I") ∈ lw_all := lw_g (lw_at lw_m5 133 rfl) rfl
theorem q1174 : (Jvm.Cond.soleField "WithoutThemModel" "row") ∈ lw_all := lw_g (lw_at lw_m5 134 rfl) rfl
theorem q1175 : (Jvm.Cond.lays "WithoutThemModel" "WithoutThemModel" "rowMany" "I") ∈ lw_all := lw_g (lw_at lw_m5 135 rfl) rfl
theorem q1176 : (Jvm.Cond.soleField "WithoutThemModel" "rowMany") ∈ lw_all := lw_g (lw_at lw_m5 136 rfl) rfl
theorem q1177 : (Jvm.Cond.superclass "WithoutThemModel" "java/lang/Object") ∈ lw_all := lw_g (lw_at lw_m5 137 rfl) rfl
theorem q1179 : (Jvm.Cond.instanceMethod ({ cls := "WithoutThemModel", name := "letter", desc := "(I)I" } : Jvm.MethodName)) ∈ lw_all := lw_g (lw_at lw_m5 139 rfl) rfl
theorem q1180 : (Jvm.Cond.selects "WithoutThemModel" ({ cls := "WithoutThemModel", name := "letter", desc := "(I)I" } : Jvm.MethodName) ({ cls := "WithoutThemModel", name := "letter", desc := "(I)I" } : Jvm.MethodName)) ∈ lw_all := lw_g (lw_at lw_m5 140 rfl) rfl
theorem q1181 : (Jvm.Cond.code ({ cls := "WithoutThemModel", name := "letter", desc := "(I)I" } : Jvm.MethodName) prog_28_method_11_code (3 : Nat) (Option.some Jvm.ClassFile.FieldType.int)) ∈ lw_all := lw_g (lw_at lw_m5 141 rfl) rfl
theorem q1182 : (Jvm.Cond.methodLink "WithoutThemModel" (68 : Nat) ({ cls := "WithoutThemModel", name := "bound", desc := "(III)I" } : Jvm.MethodName)) ∈ lw_all := lw_g (lw_at lw_m5 142 rfl) rfl
theorem q1183 : (Jvm.Cond.static ({ cls := "WithoutThemModel", name := "bound", desc := "(III)I" } : Jvm.MethodName)) ∈ lw_all := lw_g (lw_at lw_m5 143 rfl) rfl
theorem q1184 : (Jvm.Cond.code ({ cls := "WithoutThemModel", name := "bound", desc := "(III)I" } : Jvm.MethodName) prog_28_method_5_code (3 : Nat) (Option.some Jvm.ClassFile.FieldType.int)) ∈ lw_all := lw_g (lw_at lw_m5 144 rfl) rfl
theorem q1185 : (Jvm.Cond.methodLink "WithoutThemModel" (75 : Nat) ({ cls := "WithoutThemModel", name := "no", desc := "(I)I" } : Jvm.MethodName)) ∈ lw_all := lw_g (lw_at lw_m5 145 rfl) rfl
theorem q1186 : (Jvm.Cond.privateMethod ({ cls := "WithoutThemModel", name := "no", desc := "(I)I" } : Jvm.MethodName)) ∈ lw_tbl := lw_at lw_m5 146 rfl
theorem q1187 : (Jvm.Cond.instanceMethod ({ cls := "WithoutThemModel", name := "no", desc := "(I)I" } : Jvm.MethodName)) ∈ lw_all := lw_g (lw_at lw_m5 147 rfl) rfl
theorem q1188 : (Jvm.Cond.code ({ cls := "WithoutThemModel", name := "no", desc := "(I)I" } : Jvm.MethodName) prog_28_method_2_code (2 : Nat) (Option.some Jvm.ClassFile.FieldType.int)) ∈ lw_all := lw_g (lw_at lw_m5 148 rfl) rfl
theorem q1190 : (Jvm.Cond.instanceMethod ({ cls := "WithoutThemModel", name := "house", desc := "()I" } : Jvm.MethodName)) ∈ lw_all := lw_g (lw_at lw_m5 150 rfl) rfl
theorem q1191 : (Jvm.Cond.selects "WithoutThemModel" ({ cls := "WithoutThemModel", name := "house", desc := "()I" } : Jvm.MethodName) ({ cls := "WithoutThemModel", name := "house", desc := "()I" } : Jvm.MethodName)) ∈ lw_all := lw_g (lw_at lw_m5 151 rfl) rfl
theorem q1192 : (Jvm.Cond.code ({ cls := "WithoutThemModel", name := "house", desc := "()I" } : Jvm.MethodName) prog_28_method_19_code (3 : Nat) (Option.some Jvm.ClassFile.FieldType.int)) ∈ lw_all := lw_g (lw_at lw_m5 152 rfl) rfl
theorem q1193 : (Jvm.Cond.methodLink "WithoutThemModel" (112 : Nat) ({ cls := "WithoutThemModel", name := "statement", desc := "()Z" } : Jvm.MethodName)) ∈ lw_all := lw_g (lw_at lw_m5 153 rfl) rfl
theorem q1194 : (Jvm.Cond.privateMethod ({ cls := "WithoutThemModel", name := "statement", desc := "()Z" } : Jvm.MethodName)) ∈ lw_tbl := lw_at lw_m5 154 rfl
theorem q1195 : (Jvm.Cond.instanceMethod ({ cls := "WithoutThemModel", name := "statement", desc := "()Z" } : Jvm.MethodName)) ∈ lw_all := lw_g (lw_at lw_m5 155 rfl) rfl
theorem q1196 : (Jvm.Cond.code ({ cls := "WithoutThemModel", name := "statement", desc := "()Z" } : Jvm.MethodName) prog_28_method_16_code (4 : Nat) (Option.some Jvm.ClassFile.FieldType.boolean)) ∈ lw_all := lw_g (lw_at lw_m5 156 rfl) rfl
theorem q1197 : (Jvm.Cond.methodLink "WithoutThemModel" (82 : Nat) ({ cls := "WithoutThemModel", name := "next", desc := "()I" } : Jvm.MethodName)) ∈ lw_all := lw_g (lw_at lw_m5 157 rfl) rfl
theorem q1198 : (Jvm.Cond.privateMethod ({ cls := "WithoutThemModel", name := "next", desc := "()I" } : Jvm.MethodName)) ∈ lw_tbl := lw_at lw_m5 158 rfl
theorem q1199 : (Jvm.Cond.instanceMethod ({ cls := "WithoutThemModel", name := "next", desc := "()I" } : Jvm.MethodName)) ∈ lw_all := lw_g (lw_at lw_m5 159 rfl) rfl
theorem q1200 : (Jvm.Cond.code ({ cls := "WithoutThemModel", name := "next", desc := "()I" } : Jvm.MethodName) prog_28_method_12_code (1 : Nat) (Option.some Jvm.ClassFile.FieldType.int)) ∈ lw_all := lw_g (lw_at lw_m5 160 rfl) rfl
theorem q1201 : (Jvm.Cond.methodLink "WithoutThemModel" (100 : Nat) ({ cls := "WithoutThemModel", name := "readsThing", desc := "(I)Z" } : Jvm.MethodName)) ∈ lw_all := lw_g (lw_at lw_m5 161 rfl) rfl
theorem q1202 : (Jvm.Cond.privateMethod ({ cls := "WithoutThemModel", name := "readsThing", desc := "(I)Z" } : Jvm.MethodName)) ∈ lw_tbl := lw_at lw_m5 162 rfl
theorem q1203 : (Jvm.Cond.instanceMethod ({ cls := "WithoutThemModel", name := "readsThing", desc := "(I)Z" } : Jvm.MethodName)) ∈ lw_all := lw_g (lw_at lw_m5 163 rfl) rfl
theorem q1204 : (Jvm.Cond.code ({ cls := "WithoutThemModel", name := "readsThing", desc := "(I)Z" } : Jvm.MethodName) prog_28_method_15_code (2 : Nat) (Option.some Jvm.ClassFile.FieldType.boolean)) ∈ lw_all := lw_g (lw_at lw_m5 164 rfl) rfl
theorem q1205 : (Jvm.Cond.methodLink "WithoutThemModel" (90 : Nat) ({ cls := "WithoutThemModel", name := "kindOf", desc := "(I)I" } : Jvm.MethodName)) ∈ lw_all := lw_g (lw_at lw_m5 165 rfl) rfl
theorem q1206 : (Jvm.Cond.static ({ cls := "WithoutThemModel", name := "kindOf", desc := "(I)I" } : Jvm.MethodName)) ∈ lw_all := lw_g (lw_at lw_m5 166 rfl) rfl
theorem q1207 : (Jvm.Cond.code ({ cls := "WithoutThemModel", name := "kindOf", desc := "(I)I" } : Jvm.MethodName) prog_28_method_14_code (1 : Nat) (Option.some Jvm.ClassFile.FieldType.int)) ∈ lw_all := lw_g (lw_at lw_m5 167 rfl) rfl
theorem q1208 : (Jvm.Cond.methodLink "WithoutThemModel" (93 : Nat) ({ cls := "WithoutThemModel", name := "readsNumber", desc := "(II)Z" } : Jvm.MethodName)) ∈ lw_all := lw_g (lw_at lw_m5 168 rfl) rfl
theorem q1209 : (Jvm.Cond.privateMethod ({ cls := "WithoutThemModel", name := "readsNumber", desc := "(II)Z" } : Jvm.MethodName)) ∈ lw_tbl := lw_at lw_m5 169 rfl
theorem q1210 : (Jvm.Cond.instanceMethod ({ cls := "WithoutThemModel", name := "readsNumber", desc := "(II)Z" } : Jvm.MethodName)) ∈ lw_all := lw_g (lw_at lw_m5 170 rfl) rfl
theorem q1211 : (Jvm.Cond.code ({ cls := "WithoutThemModel", name := "readsNumber", desc := "(II)Z" } : Jvm.MethodName) prog_28_method_13_code (5 : Nat) (Option.some Jvm.ClassFile.FieldType.boolean)) ∈ lw_all := lw_g (lw_at lw_m5 171 rfl) rfl
theorem q1212 : (Jvm.Cond.methodLink "WithoutThemModel" (86 : Nat) ({ cls := "WithoutThemModel", name := "isIn", desc := "(III)Z" } : Jvm.MethodName)) ∈ lw_all := lw_g (lw_at lw_m5 172 rfl) rfl
theorem q1213 : (Jvm.Cond.static ({ cls := "WithoutThemModel", name := "isIn", desc := "(III)Z" } : Jvm.MethodName)) ∈ lw_all := lw_g (lw_at lw_m5 173 rfl) rfl
theorem q1214 : (Jvm.Cond.code ({ cls := "WithoutThemModel", name := "isIn", desc := "(III)Z" } : Jvm.MethodName) prog_28_method_4_code (3 : Nat) (Option.some Jvm.ClassFile.FieldType.boolean)) ∈ lw_all := lw_g (lw_at lw_m5 174 rfl) rfl
theorem q1215 : (Jvm.Cond.methodLink "WithoutThemModel" (116 : Nat) ({ cls := "WithoutThemModel", name := "passesAll", desc := "(IZ)V" } : Jvm.MethodName)) ∈ lw_all := lw_g (lw_at lw_m5 175 rfl) rfl
theorem q1216 : (Jvm.Cond.privateMethod ({ cls := "WithoutThemModel", name := "passesAll", desc := "(IZ)V" } : Jvm.MethodName)) ∈ lw_tbl := lw_at lw_m5 176 rfl
theorem q1217 : (Jvm.Cond.instanceMethod ({ cls := "WithoutThemModel", name := "passesAll", desc := "(IZ)V" } : Jvm.MethodName)) ∈ lw_all := lw_g (lw_at lw_m5 177 rfl) rfl
theorem q1218 : (Jvm.Cond.code ({ cls := "WithoutThemModel", name := "passesAll", desc := "(IZ)V" } : Jvm.MethodName) prog_28_method_22_code (3 : Nat) (Option.none : Option Jvm.ClassFile.FieldType)) ∈ lw_all := lw_g (lw_at lw_m5 178 rfl) rfl
theorem q1219 : (Jvm.Cond.methodLink "WithoutThemModel" (130 : Nat) ({ cls := "WithoutThemModel", name := "passes", desc := "([I)V" } : Jvm.MethodName)) ∈ lw_all := lw_g (lw_at lw_m5 179 rfl) rfl
theorem q1220 : (Jvm.Cond.privateMethod ({ cls := "WithoutThemModel", name := "passes", desc := "([I)V" } : Jvm.MethodName)) ∈ lw_tbl := lw_at lw_m5 180 rfl
theorem q1221 : (Jvm.Cond.instanceMethod ({ cls := "WithoutThemModel", name := "passes", desc := "([I)V" } : Jvm.MethodName)) ∈ lw_all := lw_g (lw_at lw_m5 181 rfl) rfl
theorem q1222 : (Jvm.Cond.code ({ cls := "WithoutThemModel", name := "passes", desc := "([I)V" } : Jvm.MethodName) prog_28_method_20_code (3 : Nat) (Option.none : Option Jvm.ClassFile.FieldType)) ∈ lw_all := lw_g (lw_at lw_m5 182 rfl) rfl
theorem q1223 : (Jvm.Cond.methodLink "WithoutThemModel" (134 : Nat) ({ cls := "WithoutThemModel", name := "passOne", desc := "(I)I" } : Jvm.MethodName)) ∈ lw_all := lw_g (lw_at lw_m5 183 rfl) rfl
theorem q1224 : (Jvm.Cond.privateMethod ({ cls := "WithoutThemModel", name := "passOne", desc := "(I)I" } : Jvm.MethodName)) ∈ lw_tbl := lw_at lw_m5 184 rfl
theorem q1225 : (Jvm.Cond.instanceMethod ({ cls := "WithoutThemModel", name := "passOne", desc := "(I)I" } : Jvm.MethodName)) ∈ lw_all := lw_g (lw_at lw_m5 185 rfl) rfl
theorem q1226 : (Jvm.Cond.code ({ cls := "WithoutThemModel", name := "passOne", desc := "(I)I" } : Jvm.MethodName) prog_28_method_21_code (3 : Nat) (Option.some Jvm.ClassFile.FieldType.int)) ∈ lw_all := lw_g (lw_at lw_m5 186 rfl) rfl
theorem q1227 : (Jvm.Cond.methodLink "WithoutThemModel" (120 : Nat) ({ cls := "WithoutThemModel", name := "comes", desc := "(I)Z" } : Jvm.MethodName)) ∈ lw_all := lw_g (lw_at lw_m5 187 rfl) rfl
theorem q1228 : (Jvm.Cond.privateMethod ({ cls := "WithoutThemModel", name := "comes", desc := "(I)Z" } : Jvm.MethodName)) ∈ lw_tbl := lw_at lw_m5 188 rfl
theorem q1229 : (Jvm.Cond.instanceMethod ({ cls := "WithoutThemModel", name := "comes", desc := "(I)Z" } : Jvm.MethodName)) ∈ lw_all := lw_g (lw_at lw_m5 189 rfl) rfl
theorem q1230 : (Jvm.Cond.code ({ cls := "WithoutThemModel", name := "comes", desc := "(I)Z" } : Jvm.MethodName) prog_28_method_18_code (5 : Nat) (Option.some Jvm.ClassFile.FieldType.boolean)) ∈ lw_all := lw_g (lw_at lw_m5 190 rfl) rfl
theorem q1231 : (Jvm.Cond.methodLink "WithoutThemModel" (103 : Nat) ({ cls := "WithoutThemModel", name := "comesThing", desc := "(I)Z" } : Jvm.MethodName)) ∈ lw_all := lw_g (lw_at lw_m5 191 rfl) rfl
theorem q1232 : (Jvm.Cond.privateMethod ({ cls := "WithoutThemModel", name := "comesThing", desc := "(I)Z" } : Jvm.MethodName)) ∈ lw_tbl := lw_at lw_m5 192 rfl
theorem q1233 : (Jvm.Cond.instanceMethod ({ cls := "WithoutThemModel", name := "comesThing", desc := "(I)Z" } : Jvm.MethodName)) ∈ lw_all := lw_g (lw_at lw_m5 193 rfl) rfl
theorem q1234 : (Jvm.Cond.code ({ cls := "WithoutThemModel", name := "comesThing", desc := "(I)Z" } : Jvm.MethodName) prog_28_method_17_code (2 : Nat) (Option.some Jvm.ClassFile.FieldType.boolean)) ∈ lw_all := lw_g (lw_at lw_m5 194 rfl) rfl
theorem q1235 : (Jvm.Cond.methodLink "WithoutThemModel" (106 : Nat) ({ cls := "WithoutThemModel", name := "areTwo", desc := "(II)Z" } : Jvm.MethodName)) ∈ lw_all := lw_g (lw_at lw_m5 195 rfl) rfl
theorem q1236 : (Jvm.Cond.privateMethod ({ cls := "WithoutThemModel", name := "areTwo", desc := "(II)Z" } : Jvm.MethodName)) ∈ lw_tbl := lw_at lw_m5 196 rfl
theorem q1237 : (Jvm.Cond.instanceMethod ({ cls := "WithoutThemModel", name := "areTwo", desc := "(II)Z" } : Jvm.MethodName)) ∈ lw_all := lw_g (lw_at lw_m5 197 rfl) rfl
theorem q1238 : (Jvm.Cond.code ({ cls := "WithoutThemModel", name := "areTwo", desc := "(II)Z" } : Jvm.MethodName) prog_28_method_10_code (3 : Nat) (Option.some Jvm.ClassFile.FieldType.boolean)) ∈ lw_all := lw_g (lw_at lw_m5 198 rfl) rfl
theorem q1239 : (Jvm.Cond.methodLink "WithoutThemModel" (64 : Nat) ({ cls := "WithoutThemModel", name := "isThing", desc := "(I)Z" } : Jvm.MethodName)) ∈ lw_all := lw_g (lw_at lw_m5 199 rfl) rfl
theorem q1240 : (Jvm.Cond.privateMethod ({ cls := "WithoutThemModel", name := "isThing", desc := "(I)Z" } : Jvm.MethodName)) ∈ lw_tbl := lw_at lw_m5 200 rfl
theorem q1241 : (Jvm.Cond.instanceMethod ({ cls := "WithoutThemModel", name := "isThing", desc := "(I)Z" } : Jvm.MethodName)) ∈ lw_all := lw_g (lw_at lw_m5 201 rfl) rfl
theorem q1242 : (Jvm.Cond.code ({ cls := "WithoutThemModel", name := "isThing", desc := "(I)Z" } : Jvm.MethodName) prog_28_method_8_code (2 : Nat) (Option.some Jvm.ClassFile.FieldType.boolean)) ∈ lw_all := lw_g (lw_at lw_m5 202 rfl) rfl
theorem q1244 : (Jvm.Cond.instanceMethod ({ cls := "WithoutThemModel", name := "image", desc := "()I" } : Jvm.MethodName)) ∈ lw_all := lw_g (lw_at lw_m5 204 rfl) rfl
theorem q1245 : (Jvm.Cond.selects "WithoutThemModel" ({ cls := "WithoutThemModel", name := "image", desc := "()I" } : Jvm.MethodName) ({ cls := "WithoutThemModel", name := "image", desc := "()I" } : Jvm.MethodName)) ∈ lw_all := lw_g (lw_at lw_m5 205 rfl) rfl
theorem q1246 : (Jvm.Cond.code ({ cls := "WithoutThemModel", name := "image", desc := "()I" } : Jvm.MethodName) prog_28_method_23_code (1 : Nat) (Option.some Jvm.ClassFile.FieldType.int)) ∈ lw_all := lw_g (lw_at lw_m5 206 rfl) rfl
theorem q1248 : (Jvm.Cond.instanceMethod ({ cls := "WithoutThemModel", name := "on", desc := "()I" } : Jvm.MethodName)) ∈ lw_all := lw_g (lw_at lw_m5 208 rfl) rfl
theorem q1249 : (Jvm.Cond.selects "WithoutThemModel" ({ cls := "WithoutThemModel", name := "on", desc := "()I" } : Jvm.MethodName) ({ cls := "WithoutThemModel", name := "on", desc := "()I" } : Jvm.MethodName)) ∈ lw_all := lw_g (lw_at lw_m5 209 rfl) rfl
theorem q1250 : (Jvm.Cond.code ({ cls := "WithoutThemModel", name := "on", desc := "()I" } : Jvm.MethodName) prog_28_method_24_code (1 : Nat) (Option.some Jvm.ClassFile.FieldType.int)) ∈ lw_all := lw_g (lw_at lw_m5 210 rfl) rfl
theorem q1252 : (Jvm.Cond.instanceMethod ({ cls := "WithoutThemModel", name := "thing", desc := "(II)I" } : Jvm.MethodName)) ∈ lw_all := lw_g (lw_at lw_m5 212 rfl) rfl
theorem q1253 : (Jvm.Cond.selects "WithoutThemModel" ({ cls := "WithoutThemModel", name := "thing", desc := "(II)I" } : Jvm.MethodName) ({ cls := "WithoutThemModel", name := "thing", desc := "(II)I" } : Jvm.MethodName)) ∈ lw_all := lw_g (lw_at lw_m5 213 rfl) rfl
theorem q1254 : (Jvm.Cond.code ({ cls := "WithoutThemModel", name := "thing", desc := "(II)I" } : Jvm.MethodName) prog_28_method_30_code (3 : Nat) (Option.some Jvm.ClassFile.FieldType.int)) ∈ lw_all := lw_g (lw_at lw_m5 214 rfl) rfl
theorem q1255 : (Jvm.Cond.methodLink "WithoutThemModel" (155 : Nat) ({ cls := "WithoutThemModel", name := "goOf", desc := "(II)I" } : Jvm.MethodName)) ∈ lw_all := lw_g (lw_at lw_m5 215 rfl) rfl
theorem q1256 : (Jvm.Cond.privateMethod ({ cls := "WithoutThemModel", name := "goOf", desc := "(II)I" } : Jvm.MethodName)) ∈ lw_tbl := lw_at lw_m5 216 rfl
theorem q1257 : (Jvm.Cond.instanceMethod ({ cls := "WithoutThemModel", name := "goOf", desc := "(II)I" } : Jvm.MethodName)) ∈ lw_all := lw_g (lw_at lw_m5 217 rfl) rfl
theorem q1258 : (Jvm.Cond.code ({ cls := "WithoutThemModel", name := "goOf", desc := "(II)I" } : Jvm.MethodName) prog_28_method_27_code (4 : Nat) (Option.some Jvm.ClassFile.FieldType.int)) ∈ lw_all := lw_g (lw_at lw_m5 218 rfl) rfl
theorem q1259 : (Jvm.Cond.methodLink "WithoutThemModel" (146 : Nat) ({ cls := "WithoutThemModel", name := "has", desc := "(II)Z" } : Jvm.MethodName)) ∈ lw_all := lw_g (lw_at lw_m5 219 rfl) rfl
theorem q1260 : (Jvm.Cond.static ({ cls := "WithoutThemModel", name := "has", desc := "(II)Z" } : Jvm.MethodName)) ∈ lw_all := lw_g (lw_at lw_m5 220 rfl) rfl
theorem q1261 : (Jvm.Cond.code ({ cls := "WithoutThemModel", name := "has", desc := "(II)Z" } : Jvm.MethodName) prog_28_method_6_code (2 : Nat) (Option.some Jvm.ClassFile.FieldType.boolean)) ∈ lw_all := lw_g (lw_at lw_m5 221 rfl) rfl
theorem q1262 : (Jvm.Cond.methodLink "WithoutThemModel" (143 : Nat) ({ cls := "WithoutThemModel", name := "bits", desc := "(I)I" } : Jvm.MethodName)) ∈ lw_all := lw_g (lw_at lw_m5 222 rfl) rfl
theorem q1263 : (Jvm.Cond.static ({ cls := "WithoutThemModel", name := "bits", desc := "(I)I" } : Jvm.MethodName)) ∈ lw_all := lw_g (lw_at lw_m5 223 rfl) rfl
theorem q1264 : (Jvm.Cond.code ({ cls := "WithoutThemModel", name := "bits", desc := "(I)I" } : Jvm.MethodName) prog_28_method_7_code (3 : Nat) (Option.some Jvm.ClassFile.FieldType.int)) ∈ lw_all := lw_g (lw_at lw_m5 224 rfl) rfl
theorem q1266 : (Jvm.Cond.instanceMethod ({ cls := "WithoutThemModel", name := "need", desc := "(III)I" } : Jvm.MethodName)) ∈ lw_all := lw_g (lw_at lw_m5 226 rfl) rfl
theorem q1267 : (Jvm.Cond.selects "WithoutThemModel" ({ cls := "WithoutThemModel", name := "need", desc := "(III)I" } : Jvm.MethodName) ({ cls := "WithoutThemModel", name := "need", desc := "(III)I" } : Jvm.MethodName)) ∈ lw_all := lw_g (lw_at lw_m5 227 rfl) rfl
theorem q1268 : (Jvm.Cond.code ({ cls := "WithoutThemModel", name := "need", desc := "(III)I" } : Jvm.MethodName) prog_28_method_31_code (4 : Nat) (Option.some Jvm.ClassFile.FieldType.int)) ∈ lw_all := lw_g (lw_at lw_m5 228 rfl) rfl
theorem q1270 : (Jvm.Cond.instanceMethod ({ cls := "WithoutThemModel", name := "hand", desc := "(I)I" } : Jvm.MethodName)) ∈ lw_all := lw_g (lw_at lw_m5 230 rfl) rfl
theorem q1271 : (Jvm.Cond.selects "WithoutThemModel" ({ cls := "WithoutThemModel", name := "hand", desc := "(I)I" } : Jvm.MethodName) ({ cls := "WithoutThemModel", name := "hand", desc := "(I)I" } : Jvm.MethodName)) ∈ lw_all := lw_g (lw_at lw_m5 231 rfl) rfl
theorem q1272 : (Jvm.Cond.code ({ cls := "WithoutThemModel", name := "hand", desc := "(I)I" } : Jvm.MethodName) prog_28_method_32_code (2 : Nat) (Option.some Jvm.ClassFile.FieldType.int)) ∈ lw_all := lw_g (lw_at lw_m5 232 rfl) rfl
theorem q1274 : (Jvm.Cond.instanceMethod ({ cls := "WithoutThemModel", name := "take", desc := "(I)I" } : Jvm.MethodName)) ∈ lw_all := lw_g (lw_at lw_m5 234 rfl) rfl
theorem q1275 : (Jvm.Cond.selects "WithoutThemModel" ({ cls := "WithoutThemModel", name := "take", desc := "(I)I" } : Jvm.MethodName) ({ cls := "WithoutThemModel", name := "take", desc := "(I)I" } : Jvm.MethodName)) ∈ lw_all := lw_g (lw_at lw_m5 235 rfl) rfl
theorem q1276 : (Jvm.Cond.code ({ cls := "WithoutThemModel", name := "take", desc := "(I)I" } : Jvm.MethodName) prog_28_method_33_code (3 : Nat) (Option.some Jvm.ClassFile.FieldType.int)) ∈ lw_all := lw_g (lw_at lw_m5 236 rfl) rfl
theorem q1277 : (Jvm.Cond.methodLink "WithoutThemModel" (152 : Nat) ({ cls := "WithoutThemModel", name := "mayBy", desc := "(I)I" } : Jvm.MethodName)) ∈ lw_all := lw_g (lw_at lw_m5 237 rfl) rfl
theorem q1278 : (Jvm.Cond.privateMethod ({ cls := "WithoutThemModel", name := "mayBy", desc := "(I)I" } : Jvm.MethodName)) ∈ lw_tbl := lw_at lw_m5 238 rfl
theorem q1279 : (Jvm.Cond.instanceMethod ({ cls := "WithoutThemModel", name := "mayBy", desc := "(I)I" } : Jvm.MethodName)) ∈ lw_all := lw_g (lw_at lw_m5 239 rfl) rfl
theorem q1280 : (Jvm.Cond.code ({ cls := "WithoutThemModel", name := "mayBy", desc := "(I)I" } : Jvm.MethodName) prog_28_method_26_code (4 : Nat) (Option.some Jvm.ClassFile.FieldType.int)) ∈ lw_all := lw_g (lw_at lw_m6 0 rfl) rfl
theorem q1281 : (Jvm.Cond.methodLink "WithoutThemModel" (149 : Nat) ({ cls := "WithoutThemModel", name := "canHave", desc := "(II)Z" } : Jvm.MethodName)) ∈ lw_all := lw_g (lw_at lw_m6 1 rfl) rfl
theorem q1282 : (Jvm.Cond.privateMethod ({ cls := "WithoutThemModel", name := "canHave", desc := "(II)Z" } : Jvm.MethodName)) ∈ lw_tbl := lw_at lw_m6 2 rfl
theorem q1283 : (Jvm.Cond.instanceMethod ({ cls := "WithoutThemModel", name := "canHave", desc := "(II)Z" } : Jvm.MethodName)) ∈ lw_all := lw_g (lw_at lw_m6 3 rfl) rfl
theorem q1284 : (Jvm.Cond.code ({ cls := "WithoutThemModel", name := "canHave", desc := "(II)Z" } : Jvm.MethodName) prog_28_method_25_code (6 : Nat) (Option.some Jvm.ClassFile.FieldType.boolean)) ∈ lw_all := lw_g (lw_at lw_m6 4 rfl) rfl
theorem q1286 : (Jvm.Cond.instanceMethod ({ cls := "WithoutThemModel", name := "may", desc := "()I" } : Jvm.MethodName)) ∈ lw_all := lw_g (lw_at lw_m6 6 rfl) rfl
theorem q1287 : (Jvm.Cond.selects "WithoutThemModel" ({ cls := "WithoutThemModel", name := "may", desc := "()I" } : Jvm.MethodName) ({ cls := "WithoutThemModel", name := "may", desc := "()I" } : Jvm.MethodName)) ∈ lw_all := lw_g (lw_at lw_m6 7 rfl) rfl
theorem q1288 : (Jvm.Cond.code ({ cls := "WithoutThemModel", name := "may", desc := "()I" } : Jvm.MethodName) prog_28_method_34_code (1 : Nat) (Option.some Jvm.ClassFile.FieldType.int)) ∈ lw_all := lw_g (lw_at lw_m6 8 rfl) rfl
theorem q1290 : (Jvm.Cond.instanceMethod ({ cls := "WithoutThemModel", name := "with", desc := "(I)I" } : Jvm.MethodName)) ∈ lw_all := lw_g (lw_at lw_m6 10 rfl) rfl
theorem q1291 : (Jvm.Cond.selects "WithoutThemModel" ({ cls := "WithoutThemModel", name := "with", desc := "(I)I" } : Jvm.MethodName) ({ cls := "WithoutThemModel", name := "with", desc := "(I)I" } : Jvm.MethodName)) ∈ lw_all := lw_g (lw_at lw_m6 11 rfl) rfl
theorem q1292 : (Jvm.Cond.code ({ cls := "WithoutThemModel", name := "with", desc := "(I)I" } : Jvm.MethodName) prog_28_method_35_code (2 : Nat) (Option.some Jvm.ClassFile.FieldType.int)) ∈ lw_all := lw_g (lw_at lw_m6 12 rfl) rfl
theorem q1293 : (Jvm.Cond.methodLink "WithoutThemModel" (159 : Nat) ({ cls := "WithoutThemModel", name := "areThings", desc := "(I)Z" } : Jvm.MethodName)) ∈ lw_all := lw_g (lw_at lw_m6 13 rfl) rfl
theorem q1294 : (Jvm.Cond.privateMethod ({ cls := "WithoutThemModel", name := "areThings", desc := "(I)Z" } : Jvm.MethodName)) ∈ lw_tbl := lw_at lw_m6 14 rfl
theorem q1295 : (Jvm.Cond.instanceMethod ({ cls := "WithoutThemModel", name := "areThings", desc := "(I)Z" } : Jvm.MethodName)) ∈ lw_all := lw_g (lw_at lw_m6 15 rfl) rfl
theorem q1296 : (Jvm.Cond.code ({ cls := "WithoutThemModel", name := "areThings", desc := "(I)Z" } : Jvm.MethodName) prog_28_method_9_code (2 : Nat) (Option.some Jvm.ClassFile.FieldType.boolean)) ∈ lw_all := lw_g (lw_at lw_m6 16 rfl) rfl
theorem q1298 : (Jvm.Cond.instanceMethod ({ cls := "WithoutThemModel", name := "reach", desc := "()I" } : Jvm.MethodName)) ∈ lw_all := lw_g (lw_at lw_m6 18 rfl) rfl
theorem q1299 : (Jvm.Cond.selects "WithoutThemModel" ({ cls := "WithoutThemModel", name := "reach", desc := "()I" } : Jvm.MethodName) ({ cls := "WithoutThemModel", name := "reach", desc := "()I" } : Jvm.MethodName)) ∈ lw_all := lw_g (lw_at lw_m6 19 rfl) rfl
theorem q1300 : (Jvm.Cond.code ({ cls := "WithoutThemModel", name := "reach", desc := "()I" } : Jvm.MethodName) prog_28_method_36_code (1 : Nat) (Option.some Jvm.ClassFile.FieldType.int)) ∈ lw_all := lw_g (lw_at lw_m6 20 rfl) rfl
theorem q1301 : (Jvm.Cond.methodLink "WithoutThemModel" (162 : Nat) ({ cls := "WithoutThemModel", name := "reachOf", desc := "(II)I" } : Jvm.MethodName)) ∈ lw_all := lw_g (lw_at lw_m6 21 rfl) rfl
theorem q1302 : (Jvm.Cond.privateMethod ({ cls := "WithoutThemModel", name := "reachOf", desc := "(II)I" } : Jvm.MethodName)) ∈ lw_tbl := lw_at lw_m6 22 rfl
theorem q1303 : (Jvm.Cond.instanceMethod ({ cls := "WithoutThemModel", name := "reachOf", desc := "(II)I" } : Jvm.MethodName)) ∈ lw_all := lw_g (lw_at lw_m6 23 rfl) rfl
theorem q1304 : (Jvm.Cond.code ({ cls := "WithoutThemModel", name := "reachOf", desc := "(II)I" } : Jvm.MethodName) prog_28_method_28_code (5 : Nat) (Option.some Jvm.ClassFile.FieldType.int)) ∈ lw_all := lw_g (lw_at lw_m6 24 rfl) rfl
theorem q1306 : (Jvm.Cond.instanceMethod ({ cls := "WithoutThemModel", name := "soonest", desc := "(II)I" } : Jvm.MethodName)) ∈ lw_all := lw_g (lw_at lw_m6 26 rfl) rfl
theorem q1307 : (Jvm.Cond.selects "WithoutThemModel" ({ cls := "WithoutThemModel", name := "soonest", desc := "(II)I" } : Jvm.MethodName) ({ cls := "WithoutThemModel", name := "soonest", desc := "(II)I" } : Jvm.MethodName)) ∈ lw_all := lw_g (lw_at lw_m6 27 rfl) rfl
theorem q1308 : (Jvm.Cond.code ({ cls := "WithoutThemModel", name := "soonest", desc := "(II)I" } : Jvm.MethodName) prog_28_method_39_code (5 : Nat) (Option.some Jvm.ClassFile.FieldType.int)) ∈ lw_all := lw_g (lw_at lw_m6 28 rfl) rfl
theorem q1309 : (Jvm.Cond.methodLink "WithoutThemModel" (173 : Nat) ({ cls := "WithoutThemModel", name := "findRest", desc := "(IZ)V" } : Jvm.MethodName)) ∈ lw_all := lw_g (lw_at lw_m6 29 rfl) rfl
theorem q1310 : (Jvm.Cond.privateMethod ({ cls := "WithoutThemModel", name := "findRest", desc := "(IZ)V" } : Jvm.MethodName)) ∈ lw_tbl := lw_at lw_m6 30 rfl
theorem q1311 : (Jvm.Cond.instanceMethod ({ cls := "WithoutThemModel", name := "findRest", desc := "(IZ)V" } : Jvm.MethodName)) ∈ lw_all := lw_g (lw_at lw_m6 31 rfl) rfl
theorem q1312 : (Jvm.Cond.code ({ cls := "WithoutThemModel", name := "findRest", desc := "(IZ)V" } : Jvm.MethodName) prog_28_method_37_code (7 : Nat) (Option.none : Option Jvm.ClassFile.FieldType)) ∈ lw_all := lw_g (lw_at lw_m6 32 rfl) rfl
theorem q1313 : (Jvm.Cond.methodLink "WithoutThemModel" (165 : Nat) ({ cls := "WithoutThemModel", name := "whole", desc := "()I" } : Jvm.MethodName)) ∈ lw_all := lw_g (lw_at lw_m6 33 rfl) rfl
theorem q1314 : (Jvm.Cond.privateMethod ({ cls := "WithoutThemModel", name := "whole", desc := "()I" } : Jvm.MethodName)) ∈ lw_tbl := lw_at lw_m6 34 rfl
theorem q1315 : (Jvm.Cond.instanceMethod ({ cls := "WithoutThemModel", name := "whole", desc := "()I" } : Jvm.MethodName)) ∈ lw_all := lw_g (lw_at lw_m6 35 rfl) rfl
theorem q1316 : (Jvm.Cond.code ({ cls := "WithoutThemModel", name := "whole", desc := "()I" } : Jvm.MethodName) prog_28_method_29_code (1 : Nat) (Option.some Jvm.ClassFile.FieldType.int)) ∈ lw_all := lw_g (lw_at lw_m6 36 rfl) rfl
theorem q1317 : (Jvm.Cond.constant "WithoutThemModel" (168 : Nat) (100000000 : Int32)) ∈ lw_all := lw_g (lw_at lw_m6 37 rfl) rfl
theorem q1318 : (Jvm.Cond.methodLink "WithoutThemModel" (169 : Nat) ({ cls := "WithoutThemModel", name := "restBy", desc := "(IIZ)I" } : Jvm.MethodName)) ∈ lw_all := lw_g (lw_at lw_m6 38 rfl) rfl
theorem q1319 : (Jvm.Cond.privateMethod ({ cls := "WithoutThemModel", name := "restBy", desc := "(IIZ)I" } : Jvm.MethodName)) ∈ lw_tbl := lw_at lw_m6 39 rfl
theorem q1320 : (Jvm.Cond.instanceMethod ({ cls := "WithoutThemModel", name := "restBy", desc := "(IIZ)I" } : Jvm.MethodName)) ∈ lw_all := lw_g (lw_at lw_m6 40 rfl) rfl
theorem q1321 : (Jvm.Cond.code ({ cls := "WithoutThemModel", name := "restBy", desc := "(IIZ)I" } : Jvm.MethodName) prog_28_method_38_code (4 : Nat) (Option.some Jvm.ClassFile.FieldType.int)) ∈ lw_all := lw_g (lw_at lw_m6 41 rfl) rfl
theorem q1323 : (Jvm.Cond.instanceMethod ({ cls := "WithoutThemModel", name := "mean", desc := "(II)J" } : Jvm.MethodName)) ∈ lw_all := lw_g (lw_at lw_m6 43 rfl) rfl
theorem q1324 : (Jvm.Cond.selects "WithoutThemModel" ({ cls := "WithoutThemModel", name := "mean", desc := "(II)J" } : Jvm.MethodName) ({ cls := "WithoutThemModel", name := "mean", desc := "(II)J" } : Jvm.MethodName)) ∈ lw_all := lw_g (lw_at lw_m6 44 rfl) rfl
theorem q1325 : (Jvm.Cond.code ({ cls := "WithoutThemModel", name := "mean", desc := "(II)J" } : Jvm.MethodName) prog_28_method_42_code (3 : Nat) (Option.some Jvm.ClassFile.FieldType.long)) ∈ lw_all := lw_g (lw_at lw_m6 45 rfl) rfl
theorem q1326 : (Jvm.Cond.methodLink "WithoutThemModel" (180 : Nat) ({ cls := "WithoutThemModel", name := "lowest", desc := "(I)J" } : Jvm.MethodName)) ∈ lw_all := lw_g (lw_at lw_m6 46 rfl) rfl
theorem q1327 : (Jvm.Cond.privateMethod ({ cls := "WithoutThemModel", name := "lowest", desc := "(I)J" } : Jvm.MethodName)) ∈ lw_tbl := lw_at lw_m6 47 rfl
theorem q1328 : (Jvm.Cond.instanceMethod ({ cls := "WithoutThemModel", name := "lowest", desc := "(I)J" } : Jvm.MethodName)) ∈ lw_all := lw_g (lw_at lw_m6 48 rfl) rfl
theorem q1329 : (Jvm.Cond.code ({ cls := "WithoutThemModel", name := "lowest", desc := "(I)J" } : Jvm.MethodName) prog_28_method_3_code (2 : Nat) (Option.some Jvm.ClassFile.FieldType.long)) ∈ lw_all := lw_g (lw_at lw_m6 49 rfl) rfl
theorem q1330 : (Jvm.Cond.constantLong "WithoutThemModel" (58 : Nat) (4000000000000000000 : Int64)) ∈ lw_all := lw_g (lw_at lw_m6 50 rfl) rfl
theorem q1331 : (Jvm.Cond.constantLong "WithoutThemModel" (184 : Nat) (2520 : Int64)) ∈ lw_all := lw_g (lw_at lw_m6 51 rfl) rfl
theorem q1332 : (Jvm.Cond.methodLink "WithoutThemModel" (186 : Nat) ({ cls := "WithoutThemModel", name := "partOf", desc := "(JJI)J" } : Jvm.MethodName)) ∈ lw_all := lw_g (lw_at lw_m6 52 rfl) rfl
theorem q1333 : (Jvm.Cond.static ({ cls := "WithoutThemModel", name := "partOf", desc := "(JJI)J" } : Jvm.MethodName)) ∈ lw_all := lw_g (lw_at lw_m6 53 rfl) rfl
theorem q1334 : (Jvm.Cond.code ({ cls := "WithoutThemModel", name := "partOf", desc := "(JJI)J" } : Jvm.MethodName) prog_28_method_41_code (5 : Nat) (Option.some Jvm.ClassFile.FieldType.long)) ∈ lw_all := lw_g (lw_at lw_m6 54 rfl) rfl
theorem q1335 : (Jvm.Cond.methodLink "WithoutThemModel" (176 : Nat) ({ cls := "WithoutThemModel", name := "divisor", desc := "(JJ)J" } : Jvm.MethodName)) ∈ lw_all := lw_g (lw_at lw_m6 55 rfl) rfl
theorem q1336 : (Jvm.Cond.static ({ cls := "WithoutThemModel", name := "divisor", desc := "(JJ)J" } : Jvm.MethodName)) ∈ lw_all := lw_g (lw_at lw_m6 56 rfl) rfl
theorem q1337 : (Jvm.Cond.code ({ cls := "WithoutThemModel", name := "divisor", desc := "(JJ)J" } : Jvm.MethodName) prog_28_method_40_code (10 : Nat) (Option.some Jvm.ClassFile.FieldType.long)) ∈ lw_all := lw_g (lw_at lw_m6 57 rfl) rfl
theorem q1339 : (Jvm.Cond.instanceMethod ({ cls := "WithoutThemModel", name := "surely", desc := "(I)J" } : Jvm.MethodName)) ∈ lw_all := lw_g (lw_at lw_m6 59 rfl) rfl
theorem q1340 : (Jvm.Cond.selects "WithoutThemModel" ({ cls := "WithoutThemModel", name := "surely", desc := "(I)J" } : Jvm.MethodName) ({ cls := "WithoutThemModel", name := "surely", desc := "(I)J" } : Jvm.MethodName)) ∈ lw_all := lw_g (lw_at lw_m6 60 rfl) rfl
theorem q1341 : (Jvm.Cond.code ({ cls := "WithoutThemModel", name := "surely", desc := "(I)J" } : Jvm.MethodName) prog_28_method_43_code (8 : Nat) (Option.some Jvm.ClassFile.FieldType.long)) ∈ lw_all := lw_g (lw_at lw_m6 61 rfl) rfl
theorem q1342 : (Jvm.Cond.constantLong "WithoutThemModel" (190 : Nat) (10 : Int64)) ∈ lw_all := lw_g (lw_at lw_m6 62 rfl) rfl
theorem q1344 : (Jvm.Cond.instanceMethod ({ cls := "WithoutThemModel", name := "ringed", desc := "()I" } : Jvm.MethodName)) ∈ lw_all := lw_g (lw_at lw_m6 64 rfl) rfl
theorem q1345 : (Jvm.Cond.selects "WithoutThemModel" ({ cls := "WithoutThemModel", name := "ringed", desc := "()I" } : Jvm.MethodName) ({ cls := "WithoutThemModel", name := "ringed", desc := "()I" } : Jvm.MethodName)) ∈ lw_all := lw_g (lw_at lw_m6 65 rfl) rfl
theorem q1346 : (Jvm.Cond.code ({ cls := "WithoutThemModel", name := "ringed", desc := "()I" } : Jvm.MethodName) prog_28_method_45_code (4 : Nat) (Option.some Jvm.ClassFile.FieldType.int)) ∈ lw_all := lw_g (lw_at lw_m6 66 rfl) rfl
theorem q1347 : (Jvm.Cond.methodLink "WithoutThemModel" (192 : Nat) ({ cls := "WithoutThemModel", name := "isRinged", desc := "(II)Z" } : Jvm.MethodName)) ∈ lw_all := lw_g (lw_at lw_m6 67 rfl) rfl
theorem q1348 : (Jvm.Cond.privateMethod ({ cls := "WithoutThemModel", name := "isRinged", desc := "(II)Z" } : Jvm.MethodName)) ∈ lw_tbl := lw_at lw_m6 68 rfl
theorem q1349 : (Jvm.Cond.instanceMethod ({ cls := "WithoutThemModel", name := "isRinged", desc := "(II)Z" } : Jvm.MethodName)) ∈ lw_all := lw_g (lw_at lw_m6 69 rfl) rfl
theorem q1350 : (Jvm.Cond.code ({ cls := "WithoutThemModel", name := "isRinged", desc := "(II)Z" } : Jvm.MethodName) prog_28_method_44_code (5 : Nat) (Option.some Jvm.ClassFile.FieldType.boolean)) ∈ lw_all := lw_g (lw_at lw_m6 70 rfl) rfl
theorem q1352 : (Jvm.Cond.instanceMethod ({ cls := "WithoutThemModel", name := "beg", desc := "(I)I" } : Jvm.MethodName)) ∈ lw_all := lw_g (lw_at lw_m6 72 rfl) rfl
theorem q1353 : (Jvm.Cond.selects "WithoutThemModel" ({ cls := "WithoutThemModel", name := "beg", desc := "(I)I" } : Jvm.MethodName) ({ cls := "WithoutThemModel", name := "beg", desc := "(I)I" } : Jvm.MethodName)) ∈ lw_all := lw_g (lw_at lw_m6 73 rfl) rfl
theorem q1354 : (Jvm.Cond.code ({ cls := "WithoutThemModel", name := "beg", desc := "(I)I" } : Jvm.MethodName) prog_28_method_47_code (4 : Nat) (Option.some Jvm.ClassFile.FieldType.int)) ∈ lw_all := lw_g (lw_at lw_m6 74 rfl) rfl
theorem q1355 : (Jvm.Cond.methodLink "WithoutThemModel" (195 : Nat) ({ cls := "WithoutThemModel", name := "costOf", desc := "(I)I" } : Jvm.MethodName)) ∈ lw_all := lw_g (lw_at lw_m6 75 rfl) rfl
theorem q1356 : (Jvm.Cond.privateMethod ({ cls := "WithoutThemModel", name := "costOf", desc := "(I)I" } : Jvm.MethodName)) ∈ lw_tbl := lw_at lw_m6 76 rfl
theorem q1357 : (Jvm.Cond.instanceMethod ({ cls := "WithoutThemModel", name := "costOf", desc := "(I)I" } : Jvm.MethodName)) ∈ lw_all := lw_g (lw_at lw_m6 77 rfl) rfl
theorem q1358 : (Jvm.Cond.code ({ cls := "WithoutThemModel", name := "costOf", desc := "(I)I" } : Jvm.MethodName) prog_28_method_46_code (4 : Nat) (Option.some Jvm.ClassFile.FieldType.int)) ∈ lw_all := lw_g (lw_at lw_m6 78 rfl) rfl
theorem q1360 : (Jvm.Cond.instanceMethod ({ cls := "WithoutThemModel", name := "nails", desc := "()I" } : Jvm.MethodName)) ∈ lw_all := lw_g (lw_at lw_m6 80 rfl) rfl
theorem q1361 : (Jvm.Cond.selects "WithoutThemModel" ({ cls := "WithoutThemModel", name := "nails", desc := "()I" } : Jvm.MethodName) ({ cls := "WithoutThemModel", name := "nails", desc := "()I" } : Jvm.MethodName)) ∈ lw_all := lw_g (lw_at lw_m6 81 rfl) rfl
theorem q1362 : (Jvm.Cond.code ({ cls := "WithoutThemModel", name := "nails", desc := "()I" } : Jvm.MethodName) prog_28_method_48_code (3 : Nat) (Option.some Jvm.ClassFile.FieldType.int)) ∈ lw_all := lw_g (lw_at lw_m6 82 rfl) rfl
theorem q1364 : (Jvm.Cond.instanceMethod ({ cls := "WithoutThemModel", name := "spare", desc := "()I" } : Jvm.MethodName)) ∈ lw_all := lw_g (lw_at lw_m6 84 rfl) rfl
theorem q1365 : (Jvm.Cond.selects "WithoutThemModel" ({ cls := "WithoutThemModel", name := "spare", desc := "()I" } : Jvm.MethodName) ({ cls := "WithoutThemModel", name := "spare", desc := "()I" } : Jvm.MethodName)) ∈ lw_all := lw_g (lw_at lw_m6 85 rfl) rfl
theorem q1366 : (Jvm.Cond.code ({ cls := "WithoutThemModel", name := "spare", desc := "()I" } : Jvm.MethodName) prog_28_method_49_code (5 : Nat) (Option.some Jvm.ClassFile.FieldType.int)) ∈ lw_all := lw_g (lw_at lw_m6 86 rfl) rfl
theorem q1368 : (Jvm.Cond.instanceMethod ({ cls := "WithoutThemModel", name := "does", desc := "(I)I" } : Jvm.MethodName)) ∈ lw_all := lw_g (lw_at lw_m6 88 rfl) rfl
theorem q1369 : (Jvm.Cond.selects "WithoutThemModel" ({ cls := "WithoutThemModel", name := "does", desc := "(I)I" } : Jvm.MethodName) ({ cls := "WithoutThemModel", name := "does", desc := "(I)I" } : Jvm.MethodName)) ∈ lw_all := lw_g (lw_at lw_m6 89 rfl) rfl
theorem q1370 : (Jvm.Cond.code ({ cls := "WithoutThemModel", name := "does", desc := "(I)I" } : Jvm.MethodName) prog_28_method_50_code (3 : Nat) (Option.some Jvm.ClassFile.FieldType.int)) ∈ lw_all := lw_g (lw_at lw_m6 90 rfl) rfl
theorem q1372 : (Jvm.Cond.instanceMethod ({ cls := "WithoutThemModel", name := "ways", desc := "(I)I" } : Jvm.MethodName)) ∈ lw_all := lw_g (lw_at lw_m6 92 rfl) rfl
theorem q1373 : (Jvm.Cond.selects "WithoutThemModel" ({ cls := "WithoutThemModel", name := "ways", desc := "(I)I" } : Jvm.MethodName) ({ cls := "WithoutThemModel", name := "ways", desc := "(I)I" } : Jvm.MethodName)) ∈ lw_all := lw_g (lw_at lw_m6 93 rfl) rfl
theorem q1374 : (Jvm.Cond.code ({ cls := "WithoutThemModel", name := "ways", desc := "(I)I" } : Jvm.MethodName) prog_28_method_54_code (3 : Nat) (Option.some Jvm.ClassFile.FieldType.int)) ∈ lw_all := lw_g (lw_at lw_m6 94 rfl) rfl
theorem q1375 : (Jvm.Cond.methodLink "WithoutThemModel" (201 : Nat) ({ cls := "WithoutThemModel", name := "notAimed", desc := "(I)I" } : Jvm.MethodName)) ∈ lw_all := lw_g (lw_at lw_m6 95 rfl) rfl
theorem q1376 : (Jvm.Cond.privateMethod ({ cls := "WithoutThemModel", name := "notAimed", desc := "(I)I" } : Jvm.MethodName)) ∈ lw_tbl := lw_at lw_m6 96 rfl
theorem q1377 : (Jvm.Cond.instanceMethod ({ cls := "WithoutThemModel", name := "notAimed", desc := "(I)I" } : Jvm.MethodName)) ∈ lw_all := lw_g (lw_at lw_m6 97 rfl) rfl
theorem q1378 : (Jvm.Cond.code ({ cls := "WithoutThemModel", name := "notAimed", desc := "(I)I" } : Jvm.MethodName) prog_28_method_53_code (2 : Nat) (Option.some Jvm.ClassFile.FieldType.int)) ∈ lw_all := lw_g (lw_at lw_m6 98 rfl) rfl
theorem q1379 : (Jvm.Cond.methodLink "WithoutThemModel" (204 : Nat) ({ cls := "WithoutThemModel", name := "findWays", desc := "(I)V" } : Jvm.MethodName)) ∈ lw_all := lw_g (lw_at lw_m6 99 rfl) rfl
theorem q1380 : (Jvm.Cond.privateMethod ({ cls := "WithoutThemModel", name := "findWays", desc := "(I)V" } : Jvm.MethodName)) ∈ lw_tbl := lw_at lw_m6 100 rfl
theorem q1381 : (Jvm.Cond.instanceMethod ({ cls := "WithoutThemModel", name := "findWays", desc := "(I)V" } : Jvm.MethodName)) ∈ lw_all := lw_g (lw_at lw_m6 101 rfl) rfl
theorem q1382 : (Jvm.Cond.code ({ cls := "WithoutThemModel", name := "findWays", desc := "(I)V" } : Jvm.MethodName) prog_28_method_52_code (5 : Nat) (Option.none : Option Jvm.ClassFile.FieldType)) ∈ lw_all := lw_g (lw_at lw_m6 102 rfl) rfl
theorem q1383 : (Jvm.Cond.methodLink "WithoutThemModel" (198 : Nat) ({ cls := "WithoutThemModel", name := "isWithin", desc := "(II)Z" } : Jvm.MethodName)) ∈ lw_all := lw_g (lw_at lw_m6 103 rfl) rfl
theorem q1384 : (Jvm.Cond.privateMethod ({ cls := "WithoutThemModel", name := "isWithin", desc := "(II)Z" } : Jvm.MethodName)) ∈ lw_tbl := lw_at lw_m6 104 rfl
theorem q1385 : (Jvm.Cond.instanceMethod ({ cls := "WithoutThemModel", name := "isWithin", desc := "(II)Z" } : Jvm.MethodName)) ∈ lw_all := lw_g (lw_at lw_m6 105 rfl) rfl
theorem q1386 : (Jvm.Cond.code ({ cls := "WithoutThemModel", name := "isWithin", desc := "(II)Z" } : Jvm.MethodName) prog_28_method_51_code (3 : Nat) (Option.some Jvm.ClassFile.FieldType.boolean)) ∈ lw_all := lw_g (lw_at lw_m6 106 rfl) rfl
theorem q1388 : (Jvm.Cond.instanceMethod ({ cls := "WithoutThemModel", name := "must", desc := "(I)I" } : Jvm.MethodName)) ∈ lw_all := lw_g (lw_at lw_m6 108 rfl) rfl
theorem q1389 : (Jvm.Cond.selects "WithoutThemModel" ({ cls := "WithoutThemModel", name := "must", desc := "(I)I" } : Jvm.MethodName) ({ cls := "WithoutThemModel", name := "must", desc := "(I)I" } : Jvm.MethodName)) ∈ lw_all := lw_g (lw_at lw_m6 109 rfl) rfl
theorem q1390 : (Jvm.Cond.code ({ cls := "WithoutThemModel", name := "must", desc := "(I)I" } : Jvm.MethodName) prog_28_method_55_code (7 : Nat) (Option.some Jvm.ClassFile.FieldType.int)) ∈ lw_all := lw_g (lw_at lw_m6 110 rfl) rfl
theorem q1392 : (Jvm.Cond.instanceMethod ({ cls := "WithoutThemModel", name := "halfway", desc := "(II)I" } : Jvm.MethodName)) ∈ lw_all := lw_g (lw_at lw_m6 112 rfl) rfl
theorem q1393 : (Jvm.Cond.selects "WithoutThemModel" ({ cls := "WithoutThemModel", name := "halfway", desc := "(II)I" } : Jvm.MethodName) ({ cls := "WithoutThemModel", name := "halfway", desc := "(II)I" } : Jvm.MethodName)) ∈ lw_all := lw_g (lw_at lw_m6 113 rfl) rfl
theorem q1394 : (Jvm.Cond.code ({ cls := "WithoutThemModel", name := "halfway", desc := "(II)I" } : Jvm.MethodName) prog_28_method_56_code (6 : Nat) (Option.some Jvm.ClassFile.FieldType.int)) ∈ lw_all := lw_g (lw_at lw_m6 114 rfl) rfl
theorem q1396 : (Jvm.Cond.instanceMethod ({ cls := "WithoutThemModel", name := "drawer", desc := "(III)J" } : Jvm.MethodName)) ∈ lw_all := lw_g (lw_at lw_m6 116 rfl) rfl
theorem q1397 : (Jvm.Cond.selects "WithoutThemModel" ({ cls := "WithoutThemModel", name := "drawer", desc := "(III)J" } : Jvm.MethodName) ({ cls := "WithoutThemModel", name := "drawer", desc := "(III)J" } : Jvm.MethodName)) ∈ lw_all := lw_g (lw_at lw_m6 117 rfl) rfl
theorem q1398 : (Jvm.Cond.code ({ cls := "WithoutThemModel", name := "drawer", desc := "(III)J" } : Jvm.MethodName) prog_28_method_57_code (5 : Nat) (Option.some Jvm.ClassFile.FieldType.long)) ∈ lw_all := lw_g (lw_at lw_m6 118 rfl) rfl
theorem q1399 : (Jvm.Cond.constantLong "WithoutThemModel" (208 : Nat) (2 : Int64)) ∈ lw_all := lw_g (lw_at lw_m6 119 rfl) rfl
theorem q1401 : (Jvm.Cond.instanceMethod ({ cls := "WithoutThemModel", name := "seeker", desc := "(II)I" } : Jvm.MethodName)) ∈ lw_all := lw_g (lw_at lw_m6 121 rfl) rfl
theorem q1402 : (Jvm.Cond.selects "WithoutThemModel" ({ cls := "WithoutThemModel", name := "seeker", desc := "(II)I" } : Jvm.MethodName) ({ cls := "WithoutThemModel", name := "seeker", desc := "(II)I" } : Jvm.MethodName)) ∈ lw_all := lw_g (lw_at lw_m6 122 rfl) rfl
theorem q1403 : (Jvm.Cond.code ({ cls := "WithoutThemModel", name := "seeker", desc := "(II)I" } : Jvm.MethodName) prog_28_method_60_code (7 : Nat) (Option.some Jvm.ClassFile.FieldType.int)) ∈ lw_all := lw_g (lw_at lw_m6 123 rfl) rfl
theorem q1404 : (Jvm.Cond.methodLink "WithoutThemModel" (214 : Nat) ({ cls := "WithoutThemModel", name := "sought", desc := "(II)I" } : Jvm.MethodName)) ∈ lw_all := lw_g (lw_at lw_m6 124 rfl) rfl
theorem q1405 : (Jvm.Cond.privateMethod ({ cls := "WithoutThemModel", name := "sought", desc := "(II)I" } : Jvm.MethodName)) ∈ lw_tbl := lw_at lw_m6 125 rfl
theorem q1406 : (Jvm.Cond.instanceMethod ({ cls := "WithoutThemModel", name := "sought", desc := "(II)I" } : Jvm.MethodName)) ∈ lw_all := lw_g (lw_at lw_m6 126 rfl) rfl
theorem q1407 : (Jvm.Cond.code ({ cls := "WithoutThemModel", name := "sought", desc := "(II)I" } : Jvm.MethodName) prog_28_method_59_code (6 : Nat) (Option.some Jvm.ClassFile.FieldType.int)) ∈ lw_all := lw_g (lw_at lw_m6 127 rfl) rfl
theorem q1408 : (Jvm.Cond.methodLink "WithoutThemModel" (210 : Nat) ({ cls := "WithoutThemModel", name := "isBetter", desc := "(IIII)Z" } : Jvm.MethodName)) ∈ lw_all := lw_g (lw_at lw_m6 128 rfl) rfl
theorem q1409 : (Jvm.Cond.privateMethod ({ cls := "WithoutThemModel", name := "isBetter", desc := "(IIII)Z" } : Jvm.MethodName)) ∈ lw_tbl := lw_at lw_m6 129 rfl
theorem q1410 : (Jvm.Cond.instanceMethod ({ cls := "WithoutThemModel", name := "isBetter", desc := "(IIII)Z" } : Jvm.MethodName)) ∈ lw_all := lw_g (lw_at lw_m6 130 rfl) rfl
theorem q1411 : (Jvm.Cond.code ({ cls := "WithoutThemModel", name := "isBetter", desc := "(IIII)Z" } : Jvm.MethodName) prog_28_method_58_code (5 : Nat) (Option.some Jvm.ClassFile.FieldType.boolean)) ∈ lw_all := lw_g (lw_at lw_m6 131 rfl) rfl
theorem q1413 : (Jvm.Cond.instanceMethod ({ cls := "WithoutThemModel", name := "seeks", desc := "(I)I" } : Jvm.MethodName)) ∈ lw_all := lw_g (lw_at lw_m6 133 rfl) rfl
theorem q1414 : (Jvm.Cond.selects "WithoutThemModel" ({ cls := "WithoutThemModel", name := "seeks", desc := "(I)I" } : Jvm.MethodName) ({ cls := "WithoutThemModel", name := "seeks", desc := "(I)I" } : Jvm.MethodName)) ∈ lw_all := lw_g (lw_at lw_m6 134 rfl) rfl
theorem q1415 : (Jvm.Cond.code ({ cls := "WithoutThemModel", name := "seeks", desc := "(I)I" } : Jvm.MethodName) prog_28_method_61_code (5 : Nat) (Option.some Jvm.ClassFile.FieldType.int)) ∈ lw_all := lw_g (lw_at lw_m6 135 rfl) rfl
theorem q1417 : (Jvm.Cond.instanceMethod ({ cls := "WithoutThemModel", name := "row", desc := "(I)I" } : Jvm.MethodName)) ∈ lw_all := lw_g (lw_at lw_m6 137 rfl) rfl
theorem q1418 : (Jvm.Cond.selects "WithoutThemModel" ({ cls := "WithoutThemModel", name := "row", desc := "(I)I" } : Jvm.MethodName) ({ cls := "WithoutThemModel", name := "row", desc := "(I)I" } : Jvm.MethodName)) ∈ lw_all := lw_g (lw_at lw_m6 138 rfl) rfl
theorem q1419 : (Jvm.Cond.code ({ cls := "WithoutThemModel", name := "row", desc := "(I)I" } : Jvm.MethodName) prog_28_method_62_code (3 : Nat) (Option.some Jvm.ClassFile.FieldType.int)) ∈ lw_all := lw_g (lw_at lw_m6 139 rfl) rfl
theorem q1421 : (Jvm.Cond.instanceMethod ({ cls := "WithoutThemModel", name := "judge", desc := "()I" } : Jvm.MethodName)) ∈ lw_all := lw_g (lw_at lw_m6 141 rfl) rfl
theorem q1422 : (Jvm.Cond.selects "WithoutThemModel" ({ cls := "WithoutThemModel", name := "judge", desc := "()I" } : Jvm.MethodName) ({ cls := "WithoutThemModel", name := "judge", desc := "()I" } : Jvm.MethodName)) ∈ lw_all := lw_g (lw_at lw_m6 142 rfl) rfl
theorem q1423 : (Jvm.Cond.code ({ cls := "WithoutThemModel", name := "judge", desc := "()I" } : Jvm.MethodName) prog_28_method_63_code (4 : Nat) (Option.some Jvm.ClassFile.FieldType.int)) ∈ lw_all := lw_g (lw_at lw_m6 143 rfl) rfl
theorem q1425 : (Jvm.Cond.instanceMethod ({ cls := "WithoutThemModel", name := "lots", desc := "(II)I" } : Jvm.MethodName)) ∈ lw_all := lw_g (lw_at lw_m6 145 rfl) rfl
theorem q1426 : (Jvm.Cond.selects "WithoutThemModel" ({ cls := "WithoutThemModel", name := "lots", desc := "(II)I" } : Jvm.MethodName) ({ cls := "WithoutThemModel", name := "lots", desc := "(II)I" } : Jvm.MethodName)) ∈ lw_all := lw_g (lw_at lw_m6 146 rfl) rfl
theorem q1427 : (Jvm.Cond.code ({ cls := "WithoutThemModel", name := "lots", desc := "(II)I" } : Jvm.MethodName) prog_28_method_64_code (8 : Nat) (Option.some Jvm.ClassFile.FieldType.int)) ∈ lw_all := lw_g (lw_at lw_m6 147 rfl) rfl
theorem q1428 : (Jvm.Cond.constant "WithoutThemModel" (220 : Nat) (1664525 : Int32)) ∈ lw_all := lw_g (lw_at lw_m6 148 rfl) rfl
theorem q1429 : (Jvm.Cond.constant "WithoutThemModel" (221 : Nat) (1013904223 : Int32)) ∈ lw_all := lw_g (lw_at lw_m6 149 rfl) rfl
theorem q1430 : (Jvm.Cond.constant "WithoutThemModel" (222 : Nat) (2147483647 : Int32)) ∈ lw_all := lw_g (lw_at lw_m6 150 rfl) rfl
theorem q1432 : (Jvm.Cond.instanceMethod ({ cls := "WithoutThemModel", name := "count", desc := "(I)I" } : Jvm.MethodName)) ∈ lw_all := lw_g (lw_at lw_m6 152 rfl) rfl
theorem q1433 : (Jvm.Cond.selects "WithoutThemModel" ({ cls := "WithoutThemModel", name := "count", desc := "(I)I" } : Jvm.MethodName) ({ cls := "WithoutThemModel", name := "count", desc := "(I)I" } : Jvm.MethodName)) ∈ lw_all := lw_g (lw_at lw_m6 153 rfl) rfl
theorem q1434 : (Jvm.Cond.code ({ cls := "WithoutThemModel", name := "count", desc := "(I)I" } : Jvm.MethodName) prog_28_method_65_code (2 : Nat) (Option.some Jvm.ClassFile.FieldType.int)) ∈ lw_all := lw_g (lw_at lw_m6 154 rfl) rfl
theorem in_X16 : ∀ w ∈ wsX160, w ∈ lw_all := lw_in wsX160 [1125, 1127, 1129, 1131, 1133, 1135, 1137, 1139, 1141, 1143, 1145, 1147, 1149, 1151, 1153, 1155, 1157, 1159, 1161, 1163, 1165, 1167, 1169, 1171, 1173, 1175] (by decide +kernel) (by decide +kernel)
