/-! CoresAreWills -/
set_option maxRecDepth 100000
def RX0 : String := "CoresAreWills"
def TX0 : u_T := fun k => match k with
  | 0 => ("CoresAreWills", "kinds", "[LCoresAreWills$Kind;", true)
  | 1 => ("CoresAreWills", "core0", "LCoresAreWills$Core;", true)
  | 2 => ("CoresAreWills", "mind", "LCoresAreWills$Core;", true)
  | 3 => ("CoresAreWills", "imaged", "LCoresAreWills$Core;", true)
  | 4 => ("CoresAreWills", "hasImage", "Z", false)
  | 5 => ("CoresAreWills", "row", "[B", true)
  | 6 => ("CoresAreWills", "rowMany", "I", false)
  | 7 => ("CoresAreWills", "letters", "[C", true)
  | 8 => ("CoresAreWills", "letterMany", "I", false)
  | 9 => ("CoresAreWills", "refused", "[I", true)
  | 10 => ("CoresAreWills", "waysBy", "[J", true)
  | 11 => ("CoresAreWills", "waysThen", "[J", true)
  | 12 => ("CoresAreWills", "fewBy", "[I", true)
  | 13 => ("CoresAreWills", "fewThen", "[I", true)
  | 14 => ("CoresAreWills", "oneHas", "[I", true)
  | 15 => ("CoresAreWills", "otherHas", "[I", true)
  | _ => ("CoresAreWills", "lotSeed", "I", false)
def tyX0 : Nat → FieldType := fun k => match k with
  | 0 => .array (.object "CoresAreWills$Kind")
  | 1 => .object "CoresAreWills$Core"
  | 2 => .object "CoresAreWills$Core"
  | 3 => .object "CoresAreWills$Core"
  | 4 => .boolean
  | 5 => .array .byte
  | 6 => .int
  | 7 => .array .char
  | 8 => .int
  | 9 => .array .int
  | 10 => .array .long
  | 11 => .array .long
  | 12 => .array .int
  | 13 => .array .int
  | 14 => .array .int
  | 15 => .array .int
  | _ => .int
abbrev wsX00 : List Cond := u_ws RX0 TX0 17
set_option maxRecDepth 100000 in
theorem nmX0 : ∀ a, a < 17 → ∀ b, b < 17 → a ≠ b → (TX0 a).2.1 ≠ (TX0 b).2.1 := by decide +kernel
set_option maxRecDepth 100000 in
theorem tyX0_ok : ∀ k, k < 17 → parseFieldDescriptor (TX0 k).2.2.1 = some (tyX0 k) := by decide +kernel
abbrev cX0_init : ByteArray := prog_1_method_15_code
def yX0_init : MethodName := ⟨RX0, "<init>", "()V"⟩
def dkwX0_init_7 : List UInt8 := [181, 0, 97, 42, 7, 188, 10, 181, 0, 100, 42, 7, 188, 10, 181, 0, 103, 177]
abbrev dktX0_init_7 : List UInt8 := dkwX0_init_7 ++ []
def dkwX0_init_6 : List UInt8 := [42, 17, 0, 128, 188, 11, 181, 0, 91, 42, 17, 0, 128, 188, 10, 181, 0, 94, 42, 17, 0, 128, 188, 10]
abbrev dktX0_init_6 : List UInt8 := dkwX0_init_6 ++ dktX0_init_7
def dkwX0_init_5 : List UInt8 := [16, 96, 188, 5, 181, 0, 79, 42, 16, 7, 188, 10, 181, 0, 83, 42, 17, 0, 128, 188, 11, 181, 0, 87]
abbrev dktX0_init_5 : List UInt8 := dkwX0_init_5 ++ dktX0_init_6
def dkwX0_init_4 : List UInt8 := [181, 0, 69, 42, 187, 0, 62, 89, 183, 0, 64, 181, 0, 72, 42, 16, 16, 188, 8, 181, 0, 75, 42]
abbrev dktX0_init_4 : List UInt8 := dkwX0_init_4 ++ dktX0_init_5
def dkwX0_init_3 : List UInt8 := [181, 0, 58, 42, 187, 0, 62, 89, 183, 0, 64, 181, 0, 65, 42, 187, 0, 62, 89, 183, 0, 64]
abbrev dktX0_init_3 : List UInt8 := dkwX0_init_3 ++ dktX0_init_4
def dkwX0_init_2 : List UInt8 := [183, 0, 51, 83, 89, 7, 187, 0, 52, 89, 183, 0, 54, 83, 89, 8, 187, 0, 55, 89, 183, 0, 57, 83]
abbrev dktX0_init_2 : List UInt8 := dkwX0_init_2 ++ dktX0_init_3
def dkwX0_init_1 : List UInt8 := [187, 0, 43, 89, 183, 0, 45, 83, 89, 5, 187, 0, 46, 89, 183, 0, 48, 83, 89, 6, 187, 0, 49, 89]
abbrev dktX0_init_1 : List UInt8 := dkwX0_init_1 ++ dktX0_init_2
def dkwX0_init_0 : List UInt8 := [42, 183, 0, 33, 42, 16, 6, 189, 0, 38, 89, 3, 187, 0, 40, 89, 183, 0, 42, 83, 89, 4]
abbrev dktX0_init_0 : List UInt8 := dkwX0_init_0 ++ dktX0_init_1
theorem dksX0_init_0 : cX0_init.data.toList.drop 0 = dktX0_init_0 := by decide +kernel
theorem dksX0_init_1 : cX0_init.data.toList.drop 22 = dktX0_init_1 := dk_seg dksX0_init_0 22 rfl rfl
theorem dksX0_init_2 : cX0_init.data.toList.drop 46 = dktX0_init_2 := dk_seg dksX0_init_1 24 rfl rfl
theorem dksX0_init_3 : cX0_init.data.toList.drop 70 = dktX0_init_3 := dk_seg dksX0_init_2 24 rfl rfl
theorem dksX0_init_4 : cX0_init.data.toList.drop 92 = dktX0_init_4 := dk_seg dksX0_init_3 22 rfl rfl
theorem dksX0_init_5 : cX0_init.data.toList.drop 115 = dktX0_init_5 := dk_seg dksX0_init_4 23 rfl rfl
theorem dksX0_init_6 : cX0_init.data.toList.drop 139 = dktX0_init_6 := dk_seg dksX0_init_5 24 rfl rfl
theorem dksX0_init_7 : cX0_init.data.toList.drop 163 = dktX0_init_7 := dk_seg dksX0_init_6 24 rfl rfl
theorem dX0_init_0 : decode cX0_init 0 = .ok (.aload_n 0, 1) := dk_42 (dk_at dksX0_init_0 0 rfl rfl)
theorem dX0_init_1 : decode cX0_init 1 = .ok (.invokespecial 33, 3) := dk_183 0 33 (dk_at dksX0_init_0 1 rfl rfl)
theorem dX0_init_4 : decode cX0_init 4 = .ok (.aload_n 0, 1) := dk_42 (dk_at dksX0_init_0 4 rfl rfl)
theorem dX0_init_5 : decode cX0_init 5 = .ok (.bipush 6, 2) := dk_16 6 (dk_at dksX0_init_0 5 rfl rfl)
theorem dX0_init_7 : decode cX0_init 7 = .ok (.anewarray 38, 3) := dk_189 0 38 (dk_at dksX0_init_0 7 rfl rfl)
theorem dX0_init_10 : decode cX0_init 10 = .ok (.dup, 1) := dk_89 (dk_at dksX0_init_0 10 rfl rfl)
theorem dX0_init_11 : decode cX0_init 11 = .ok (.iconst 0, 1) := dk_3 (dk_at dksX0_init_0 11 rfl rfl)
theorem dX0_init_12 : decode cX0_init 12 = .ok (.new 40, 3) := dk_187 0 40 (dk_at dksX0_init_0 12 rfl rfl)
theorem dX0_init_15 : decode cX0_init 15 = .ok (.dup, 1) := dk_89 (dk_at dksX0_init_0 15 rfl rfl)
theorem dX0_init_16 : decode cX0_init 16 = .ok (.invokespecial 42, 3) := dk_183 0 42 (dk_at dksX0_init_0 16 rfl rfl)
theorem dX0_init_19 : decode cX0_init 19 = .ok (.aastore, 1) := dk_83 (dk_at dksX0_init_0 19 rfl rfl)
theorem dX0_init_20 : decode cX0_init 20 = .ok (.dup, 1) := dk_89 (dk_at dksX0_init_0 20 rfl rfl)
theorem dX0_init_21 : decode cX0_init 21 = .ok (.iconst 1, 1) := dk_4 (dk_at dksX0_init_0 21 rfl rfl)
theorem dX0_init_22 : decode cX0_init 22 = .ok (.new 43, 3) := dk_187 0 43 (dk_at dksX0_init_1 0 rfl rfl)
theorem dX0_init_25 : decode cX0_init 25 = .ok (.dup, 1) := dk_89 (dk_at dksX0_init_1 3 rfl rfl)
theorem dX0_init_26 : decode cX0_init 26 = .ok (.invokespecial 45, 3) := dk_183 0 45 (dk_at dksX0_init_1 4 rfl rfl)
theorem dX0_init_29 : decode cX0_init 29 = .ok (.aastore, 1) := dk_83 (dk_at dksX0_init_1 7 rfl rfl)
theorem dX0_init_30 : decode cX0_init 30 = .ok (.dup, 1) := dk_89 (dk_at dksX0_init_1 8 rfl rfl)
theorem dX0_init_31 : decode cX0_init 31 = .ok (.iconst 2, 1) := dk_5 (dk_at dksX0_init_1 9 rfl rfl)
theorem dX0_init_32 : decode cX0_init 32 = .ok (.new 46, 3) := dk_187 0 46 (dk_at dksX0_init_1 10 rfl rfl)
theorem dX0_init_35 : decode cX0_init 35 = .ok (.dup, 1) := dk_89 (dk_at dksX0_init_1 13 rfl rfl)
theorem dX0_init_36 : decode cX0_init 36 = .ok (.invokespecial 48, 3) := dk_183 0 48 (dk_at dksX0_init_1 14 rfl rfl)
theorem dX0_init_39 : decode cX0_init 39 = .ok (.aastore, 1) := dk_83 (dk_at dksX0_init_1 17 rfl rfl)
theorem dX0_init_40 : decode cX0_init 40 = .ok (.dup, 1) := dk_89 (dk_at dksX0_init_1 18 rfl rfl)
theorem dX0_init_41 : decode cX0_init 41 = .ok (.iconst 3, 1) := dk_6 (dk_at dksX0_init_1 19 rfl rfl)
theorem dX0_init_42 : decode cX0_init 42 = .ok (.new 49, 3) := dk_187 0 49 (dk_at dksX0_init_1 20 rfl rfl)
theorem dX0_init_45 : decode cX0_init 45 = .ok (.dup, 1) := dk_89 (dk_at dksX0_init_1 23 rfl rfl)
theorem dX0_init_46 : decode cX0_init 46 = .ok (.invokespecial 51, 3) := dk_183 0 51 (dk_at dksX0_init_2 0 rfl rfl)
theorem dX0_init_49 : decode cX0_init 49 = .ok (.aastore, 1) := dk_83 (dk_at dksX0_init_2 3 rfl rfl)
theorem dX0_init_50 : decode cX0_init 50 = .ok (.dup, 1) := dk_89 (dk_at dksX0_init_2 4 rfl rfl)
theorem dX0_init_51 : decode cX0_init 51 = .ok (.iconst 4, 1) := dk_7 (dk_at dksX0_init_2 5 rfl rfl)
theorem dX0_init_52 : decode cX0_init 52 = .ok (.new 52, 3) := dk_187 0 52 (dk_at dksX0_init_2 6 rfl rfl)
theorem dX0_init_55 : decode cX0_init 55 = .ok (.dup, 1) := dk_89 (dk_at dksX0_init_2 9 rfl rfl)
theorem dX0_init_56 : decode cX0_init 56 = .ok (.invokespecial 54, 3) := dk_183 0 54 (dk_at dksX0_init_2 10 rfl rfl)
theorem dX0_init_59 : decode cX0_init 59 = .ok (.aastore, 1) := dk_83 (dk_at dksX0_init_2 13 rfl rfl)
theorem dX0_init_60 : decode cX0_init 60 = .ok (.dup, 1) := dk_89 (dk_at dksX0_init_2 14 rfl rfl)
theorem dX0_init_61 : decode cX0_init 61 = .ok (.iconst 5, 1) := dk_8 (dk_at dksX0_init_2 15 rfl rfl)
theorem dX0_init_62 : decode cX0_init 62 = .ok (.new 55, 3) := dk_187 0 55 (dk_at dksX0_init_2 16 rfl rfl)
theorem dX0_init_65 : decode cX0_init 65 = .ok (.dup, 1) := dk_89 (dk_at dksX0_init_2 19 rfl rfl)
theorem dX0_init_66 : decode cX0_init 66 = .ok (.invokespecial 57, 3) := dk_183 0 57 (dk_at dksX0_init_2 20 rfl rfl)
theorem dX0_init_69 : decode cX0_init 69 = .ok (.aastore, 1) := dk_83 (dk_at dksX0_init_2 23 rfl rfl)
theorem dX0_init_70 : decode cX0_init 70 = .ok (.putfield 58, 3) := dk_181 0 58 (dk_at dksX0_init_3 0 rfl rfl)
theorem dX0_init_73 : decode cX0_init 73 = .ok (.aload_n 0, 1) := dk_42 (dk_at dksX0_init_3 3 rfl rfl)
theorem dX0_init_74 : decode cX0_init 74 = .ok (.new 62, 3) := dk_187 0 62 (dk_at dksX0_init_3 4 rfl rfl)
theorem dX0_init_77 : decode cX0_init 77 = .ok (.dup, 1) := dk_89 (dk_at dksX0_init_3 7 rfl rfl)
theorem dX0_init_78 : decode cX0_init 78 = .ok (.invokespecial 64, 3) := dk_183 0 64 (dk_at dksX0_init_3 8 rfl rfl)
theorem dX0_init_81 : decode cX0_init 81 = .ok (.putfield 65, 3) := dk_181 0 65 (dk_at dksX0_init_3 11 rfl rfl)
theorem dX0_init_84 : decode cX0_init 84 = .ok (.aload_n 0, 1) := dk_42 (dk_at dksX0_init_3 14 rfl rfl)
theorem dX0_init_85 : decode cX0_init 85 = .ok (.new 62, 3) := dk_187 0 62 (dk_at dksX0_init_3 15 rfl rfl)
theorem dX0_init_88 : decode cX0_init 88 = .ok (.dup, 1) := dk_89 (dk_at dksX0_init_3 18 rfl rfl)
theorem dX0_init_89 : decode cX0_init 89 = .ok (.invokespecial 64, 3) := dk_183 0 64 (dk_at dksX0_init_3 19 rfl rfl)
theorem dX0_init_92 : decode cX0_init 92 = .ok (.putfield 69, 3) := dk_181 0 69 (dk_at dksX0_init_4 0 rfl rfl)
theorem dX0_init_95 : decode cX0_init 95 = .ok (.aload_n 0, 1) := dk_42 (dk_at dksX0_init_4 3 rfl rfl)
theorem dX0_init_96 : decode cX0_init 96 = .ok (.new 62, 3) := dk_187 0 62 (dk_at dksX0_init_4 4 rfl rfl)
theorem dX0_init_99 : decode cX0_init 99 = .ok (.dup, 1) := dk_89 (dk_at dksX0_init_4 7 rfl rfl)
theorem dX0_init_100 : decode cX0_init 100 = .ok (.invokespecial 64, 3) := dk_183 0 64 (dk_at dksX0_init_4 8 rfl rfl)
theorem dX0_init_103 : decode cX0_init 103 = .ok (.putfield 72, 3) := dk_181 0 72 (dk_at dksX0_init_4 11 rfl rfl)
theorem dX0_init_106 : decode cX0_init 106 = .ok (.aload_n 0, 1) := dk_42 (dk_at dksX0_init_4 14 rfl rfl)
theorem dX0_init_107 : decode cX0_init 107 = .ok (.bipush 16, 2) := dk_16 16 (dk_at dksX0_init_4 15 rfl rfl)
theorem dX0_init_109 : decode cX0_init 109 = .ok (.newarray .byte, 2) := dk_188_8 (dk_at dksX0_init_4 17 rfl rfl)
theorem dX0_init_111 : decode cX0_init 111 = .ok (.putfield 75, 3) := dk_181 0 75 (dk_at dksX0_init_4 19 rfl rfl)
theorem dX0_init_114 : decode cX0_init 114 = .ok (.aload_n 0, 1) := dk_42 (dk_at dksX0_init_4 22 rfl rfl)
theorem dX0_init_115 : decode cX0_init 115 = .ok (.bipush 96, 2) := dk_16 96 (dk_at dksX0_init_5 0 rfl rfl)
theorem dX0_init_117 : decode cX0_init 117 = .ok (.newarray .char, 2) := dk_188_5 (dk_at dksX0_init_5 2 rfl rfl)
theorem dX0_init_119 : decode cX0_init 119 = .ok (.putfield 79, 3) := dk_181 0 79 (dk_at dksX0_init_5 4 rfl rfl)
theorem dX0_init_122 : decode cX0_init 122 = .ok (.aload_n 0, 1) := dk_42 (dk_at dksX0_init_5 7 rfl rfl)
theorem dX0_init_123 : decode cX0_init 123 = .ok (.bipush 7, 2) := dk_16 7 (dk_at dksX0_init_5 8 rfl rfl)
theorem dX0_init_125 : decode cX0_init 125 = .ok (.newarray .int, 2) := dk_188_10 (dk_at dksX0_init_5 10 rfl rfl)
theorem dX0_init_127 : decode cX0_init 127 = .ok (.putfield 83, 3) := dk_181 0 83 (dk_at dksX0_init_5 12 rfl rfl)
theorem dX0_init_130 : decode cX0_init 130 = .ok (.aload_n 0, 1) := dk_42 (dk_at dksX0_init_5 15 rfl rfl)
theorem dX0_init_131 : decode cX0_init 131 = .ok (.sipush 128, 3) := dk_17 0 128 (dk_at dksX0_init_5 16 rfl rfl)
theorem dX0_init_134 : decode cX0_init 134 = .ok (.newarray .long, 2) := dk_188_11 (dk_at dksX0_init_5 19 rfl rfl)
theorem dX0_init_136 : decode cX0_init 136 = .ok (.putfield 87, 3) := dk_181 0 87 (dk_at dksX0_init_5 21 rfl rfl)
theorem dX0_init_139 : decode cX0_init 139 = .ok (.aload_n 0, 1) := dk_42 (dk_at dksX0_init_6 0 rfl rfl)
theorem dX0_init_140 : decode cX0_init 140 = .ok (.sipush 128, 3) := dk_17 0 128 (dk_at dksX0_init_6 1 rfl rfl)
theorem dX0_init_143 : decode cX0_init 143 = .ok (.newarray .long, 2) := dk_188_11 (dk_at dksX0_init_6 4 rfl rfl)
theorem dX0_init_145 : decode cX0_init 145 = .ok (.putfield 91, 3) := dk_181 0 91 (dk_at dksX0_init_6 6 rfl rfl)
theorem dX0_init_148 : decode cX0_init 148 = .ok (.aload_n 0, 1) := dk_42 (dk_at dksX0_init_6 9 rfl rfl)
theorem dX0_init_149 : decode cX0_init 149 = .ok (.sipush 128, 3) := dk_17 0 128 (dk_at dksX0_init_6 10 rfl rfl)
theorem dX0_init_152 : decode cX0_init 152 = .ok (.newarray .int, 2) := dk_188_10 (dk_at dksX0_init_6 13 rfl rfl)
theorem dX0_init_154 : decode cX0_init 154 = .ok (.putfield 94, 3) := dk_181 0 94 (dk_at dksX0_init_6 15 rfl rfl)
theorem dX0_init_157 : decode cX0_init 157 = .ok (.aload_n 0, 1) := dk_42 (dk_at dksX0_init_6 18 rfl rfl)
theorem dX0_init_158 : decode cX0_init 158 = .ok (.sipush 128, 3) := dk_17 0 128 (dk_at dksX0_init_6 19 rfl rfl)
theorem dX0_init_161 : decode cX0_init 161 = .ok (.newarray .int, 2) := dk_188_10 (dk_at dksX0_init_6 22 rfl rfl)
theorem dX0_init_163 : decode cX0_init 163 = .ok (.putfield 97, 3) := dk_181 0 97 (dk_at dksX0_init_7 0 rfl rfl)
theorem dX0_init_166 : decode cX0_init 166 = .ok (.aload_n 0, 1) := dk_42 (dk_at dksX0_init_7 3 rfl rfl)
theorem dX0_init_167 : decode cX0_init 167 = .ok (.iconst 4, 1) := dk_7 (dk_at dksX0_init_7 4 rfl rfl)
theorem dX0_init_168 : decode cX0_init 168 = .ok (.newarray .int, 2) := dk_188_10 (dk_at dksX0_init_7 5 rfl rfl)
theorem dX0_init_170 : decode cX0_init 170 = .ok (.putfield 100, 3) := dk_181 0 100 (dk_at dksX0_init_7 7 rfl rfl)
theorem dX0_init_173 : decode cX0_init 173 = .ok (.aload_n 0, 1) := dk_42 (dk_at dksX0_init_7 10 rfl rfl)
theorem dX0_init_174 : decode cX0_init 174 = .ok (.iconst 4, 1) := dk_7 (dk_at dksX0_init_7 11 rfl rfl)
theorem dX0_init_175 : decode cX0_init 175 = .ok (.newarray .int, 2) := dk_188_10 (dk_at dksX0_init_7 12 rfl rfl)
theorem dX0_init_177 : decode cX0_init 177 = .ok (.putfield 103, 3) := dk_181 0 103 (dk_at dksX0_init_7 14 rfl rfl)
theorem dX0_init_180 : decode cX0_init 180 = .ok (.return_, 1) := dk_177 (dk_at dksX0_init_7 17 rfl rfl)
abbrev cX0_letter : ByteArray := prog_1_method_89_code
def yX0_letter : MethodName := ⟨RX0, "letter", "(I)I"⟩
def dkwX0_letter_0 : List UInt8 := [42, 3, 27, 3, 3, 182, 1, 236, 172]
abbrev dktX0_letter_0 : List UInt8 := dkwX0_letter_0 ++ []
theorem dksX0_letter_0 : cX0_letter.data.toList.drop 0 = dktX0_letter_0 := by decide +kernel
theorem dX0_letter_0 : decode cX0_letter 0 = .ok (.aload_n 0, 1) := dk_42 (dk_at dksX0_letter_0 0 rfl rfl)
theorem dX0_letter_1 : decode cX0_letter 1 = .ok (.iconst 0, 1) := dk_3 (dk_at dksX0_letter_0 1 rfl rfl)
theorem dX0_letter_2 : decode cX0_letter 2 = .ok (.iload_n 1, 1) := dk_27 (dk_at dksX0_letter_0 2 rfl rfl)
theorem dX0_letter_3 : decode cX0_letter 3 = .ok (.iconst 0, 1) := dk_3 (dk_at dksX0_letter_0 3 rfl rfl)
theorem dX0_letter_4 : decode cX0_letter 4 = .ok (.iconst 0, 1) := dk_3 (dk_at dksX0_letter_0 4 rfl rfl)
theorem dX0_letter_5 : decode cX0_letter 5 = .ok (.invokevirtual 492, 3) := dk_182 1 236 (dk_at dksX0_letter_0 5 rfl rfl)
theorem dX0_letter_8 : decode cX0_letter 8 = .ok (.ireturn, 1) := dk_172 (dk_at dksX0_letter_0 8 rfl rfl)
abbrev cX0_act : ByteArray := prog_1_method_57_code
def yX0_act : MethodName := ⟨RX0, "act", "(IIII)I"⟩
def dkwX0_act_0 : List UInt8 := [42, 27, 28, 29, 21, 4, 182, 1, 60, 172, 58, 5, 42, 25, 5, 182, 1, 65, 182, 1, 68, 172]
abbrev dktX0_act_0 : List UInt8 := dkwX0_act_0 ++ []
theorem dksX0_act_0 : cX0_act.data.toList.drop 0 = dktX0_act_0 := by decide +kernel
theorem dX0_act_0 : decode cX0_act 0 = .ok (.aload_n 0, 1) := dk_42 (dk_at dksX0_act_0 0 rfl rfl)
theorem dX0_act_1 : decode cX0_act 1 = .ok (.iload_n 1, 1) := dk_27 (dk_at dksX0_act_0 1 rfl rfl)
theorem dX0_act_2 : decode cX0_act 2 = .ok (.iload_n 2, 1) := dk_28 (dk_at dksX0_act_0 2 rfl rfl)
theorem dX0_act_3 : decode cX0_act 3 = .ok (.iload_n 3, 1) := dk_29 (dk_at dksX0_act_0 3 rfl rfl)
theorem dX0_act_4 : decode cX0_act 4 = .ok (.iload 4, 2) := dk_21 4 (dk_at dksX0_act_0 4 rfl rfl)
theorem dX0_act_6 : decode cX0_act 6 = .ok (.invokevirtual 316, 3) := dk_182 1 60 (dk_at dksX0_act_0 6 rfl rfl)
theorem dX0_act_9 : decode cX0_act 9 = .ok (.ireturn, 1) := dk_172 (dk_at dksX0_act_0 9 rfl rfl)
theorem dX0_act_10 : decode cX0_act 10 = .ok (.astore 5, 2) := dk_58 5 (dk_at dksX0_act_0 10 rfl rfl)
theorem dX0_act_12 : decode cX0_act 12 = .ok (.aload_n 0, 1) := dk_42 (dk_at dksX0_act_0 12 rfl rfl)
theorem dX0_act_13 : decode cX0_act 13 = .ok (.aload 5, 2) := dk_25 5 (dk_at dksX0_act_0 13 rfl rfl)
theorem dX0_act_15 : decode cX0_act 15 = .ok (.invokevirtual 321, 3) := dk_182 1 65 (dk_at dksX0_act_0 15 rfl rfl)
theorem dX0_act_18 : decode cX0_act 18 = .ok (.invokevirtual 324, 3) := dk_182 1 68 (dk_at dksX0_act_0 18 rfl rfl)
theorem dX0_act_21 : decode cX0_act 21 = .ok (.ireturn, 1) := dk_172 (dk_at dksX0_act_0 21 rfl rfl)
abbrev cX0_doIt : ByteArray := prog_1_method_56_code
def yX0_doIt : MethodName := ⟨RX0, "doIt", "(IIII)I"⟩
def dkwX0_doIt_1 : List UInt8 := [42, 27, 28, 29, 21, 4, 182, 1, 54, 167, 0, 12, 42, 27, 28, 29, 21, 4, 182, 1, 57, 172]
abbrev dktX0_doIt_1 : List UInt8 := dkwX0_doIt_1 ++ []
def dkwX0_doIt_0 : List UInt8 := [27, 16, 9, 162, 0, 15, 42, 27, 28, 29, 21, 4, 182, 1, 50, 167, 0, 30, 27, 16, 18, 162, 0, 15]
abbrev dktX0_doIt_0 : List UInt8 := dkwX0_doIt_0 ++ dktX0_doIt_1
theorem dksX0_doIt_0 : cX0_doIt.data.toList.drop 0 = dktX0_doIt_0 := by decide +kernel
theorem dksX0_doIt_1 : cX0_doIt.data.toList.drop 24 = dktX0_doIt_1 := dk_seg dksX0_doIt_0 24 rfl rfl
theorem dX0_doIt_0 : decode cX0_doIt 0 = .ok (.iload_n 1, 1) := dk_27 (dk_at dksX0_doIt_0 0 rfl rfl)
theorem dX0_doIt_1 : decode cX0_doIt 1 = .ok (.bipush 9, 2) := dk_16 9 (dk_at dksX0_doIt_0 1 rfl rfl)
theorem dX0_doIt_3 : decode cX0_doIt 3 = .ok (.if_icmp .ge 15, 3) := dk_162 0 15 (dk_at dksX0_doIt_0 3 rfl rfl)
theorem dX0_doIt_6 : decode cX0_doIt 6 = .ok (.aload_n 0, 1) := dk_42 (dk_at dksX0_doIt_0 6 rfl rfl)
theorem dX0_doIt_7 : decode cX0_doIt 7 = .ok (.iload_n 1, 1) := dk_27 (dk_at dksX0_doIt_0 7 rfl rfl)
theorem dX0_doIt_8 : decode cX0_doIt 8 = .ok (.iload_n 2, 1) := dk_28 (dk_at dksX0_doIt_0 8 rfl rfl)
theorem dX0_doIt_9 : decode cX0_doIt 9 = .ok (.iload_n 3, 1) := dk_29 (dk_at dksX0_doIt_0 9 rfl rfl)
theorem dX0_doIt_10 : decode cX0_doIt 10 = .ok (.iload 4, 2) := dk_21 4 (dk_at dksX0_doIt_0 10 rfl rfl)
theorem dX0_doIt_12 : decode cX0_doIt 12 = .ok (.invokevirtual 306, 3) := dk_182 1 50 (dk_at dksX0_doIt_0 12 rfl rfl)
theorem dX0_doIt_15 : decode cX0_doIt 15 = .ok (.goto 30, 3) := dk_167 0 30 (dk_at dksX0_doIt_0 15 rfl rfl)
theorem dX0_doIt_18 : decode cX0_doIt 18 = .ok (.iload_n 1, 1) := dk_27 (dk_at dksX0_doIt_0 18 rfl rfl)
theorem dX0_doIt_19 : decode cX0_doIt 19 = .ok (.bipush 18, 2) := dk_16 18 (dk_at dksX0_doIt_0 19 rfl rfl)
theorem dX0_doIt_21 : decode cX0_doIt 21 = .ok (.if_icmp .ge 15, 3) := dk_162 0 15 (dk_at dksX0_doIt_0 21 rfl rfl)
theorem dX0_doIt_24 : decode cX0_doIt 24 = .ok (.aload_n 0, 1) := dk_42 (dk_at dksX0_doIt_1 0 rfl rfl)
theorem dX0_doIt_25 : decode cX0_doIt 25 = .ok (.iload_n 1, 1) := dk_27 (dk_at dksX0_doIt_1 1 rfl rfl)
theorem dX0_doIt_26 : decode cX0_doIt 26 = .ok (.iload_n 2, 1) := dk_28 (dk_at dksX0_doIt_1 2 rfl rfl)
theorem dX0_doIt_27 : decode cX0_doIt 27 = .ok (.iload_n 3, 1) := dk_29 (dk_at dksX0_doIt_1 3 rfl rfl)
theorem dX0_doIt_28 : decode cX0_doIt 28 = .ok (.iload 4, 2) := dk_21 4 (dk_at dksX0_doIt_1 4 rfl rfl)
theorem dX0_doIt_30 : decode cX0_doIt 30 = .ok (.invokevirtual 310, 3) := dk_182 1 54 (dk_at dksX0_doIt_1 6 rfl rfl)
theorem dX0_doIt_33 : decode cX0_doIt 33 = .ok (.goto 12, 3) := dk_167 0 12 (dk_at dksX0_doIt_1 9 rfl rfl)
theorem dX0_doIt_36 : decode cX0_doIt 36 = .ok (.aload_n 0, 1) := dk_42 (dk_at dksX0_doIt_1 12 rfl rfl)
theorem dX0_doIt_37 : decode cX0_doIt 37 = .ok (.iload_n 1, 1) := dk_27 (dk_at dksX0_doIt_1 13 rfl rfl)
theorem dX0_doIt_38 : decode cX0_doIt 38 = .ok (.iload_n 2, 1) := dk_28 (dk_at dksX0_doIt_1 14 rfl rfl)
theorem dX0_doIt_39 : decode cX0_doIt 39 = .ok (.iload_n 3, 1) := dk_29 (dk_at dksX0_doIt_1 15 rfl rfl)
theorem dX0_doIt_40 : decode cX0_doIt 40 = .ok (.iload 4, 2) := dk_21 4 (dk_at dksX0_doIt_1 16 rfl rfl)
theorem dX0_doIt_42 : decode cX0_doIt 42 = .ok (.invokevirtual 313, 3) := dk_182 1 57 (dk_at dksX0_doIt_1 18 rfl rfl)
theorem dX0_doIt_45 : decode cX0_doIt 45 = .ok (.ireturn, 1) := dk_172 (dk_at dksX0_doIt_1 21 rfl rfl)
abbrev cX0_ofCore : ByteArray := prog_1_method_72_code
def yX0_ofCore : MethodName := ⟨RX0, "ofCore", "(IIII)I"⟩
def dkwX0_ofCore_4 : List UInt8 := [21, 4, 182, 1, 118, 172, 42, 182, 1, 122, 172]
abbrev dktX0_ofCore_4 : List UInt8 := dkwX0_ofCore_4 ++ []
def dkwX0_ofCore_3 : List UInt8 := [172, 42, 28, 29, 182, 1, 109, 172, 42, 28, 182, 1, 112, 172, 42, 28, 182, 1, 115, 172, 42, 28, 29]
abbrev dktX0_ofCore_3 : List UInt8 := dkwX0_ofCore_3 ++ dktX0_ofCore_4
def dkwX0_ofCore_2 : List UInt8 := [42, 28, 182, 1, 97, 172, 42, 182, 1, 100, 172, 42, 28, 29, 182, 1, 103, 172, 42, 28, 29, 182, 1, 106]
abbrev dktX0_ofCore_2 : List UInt8 := dkwX0_ofCore_2 ++ dktX0_ofCore_3
def dkwX0_ofCore_1 : List UInt8 := [170, 0, 0, 0, 0, 0, 100, 0, 0, 0, 0, 0, 0, 0, 7, 0, 0, 0, 47, 0, 0, 0, 53, 0, 0, 0, 58, 0, 0, 0, 65, 0, 0, 0, 72, 0, 0, 0, 79, 0, 0, 0, 85, 0, 0, 0, 91]
abbrev dktX0_ofCore_1 : List UInt8 := dkwX0_ofCore_1 ++ dktX0_ofCore_2
def dkwX0_ofCore_0 : List UInt8 := [27]
abbrev dktX0_ofCore_0 : List UInt8 := dkwX0_ofCore_0 ++ dktX0_ofCore_1
theorem dksX0_ofCore_0 : cX0_ofCore.data.toList.drop 0 = dktX0_ofCore_0 := by decide +kernel
theorem dksX0_ofCore_1 : cX0_ofCore.data.toList.drop 1 = dktX0_ofCore_1 := dk_seg dksX0_ofCore_0 1 rfl rfl
theorem dksX0_ofCore_2 : cX0_ofCore.data.toList.drop 48 = dktX0_ofCore_2 := dk_seg dksX0_ofCore_1 47 rfl rfl
theorem dksX0_ofCore_3 : cX0_ofCore.data.toList.drop 72 = dktX0_ofCore_3 := dk_seg dksX0_ofCore_2 24 rfl rfl
theorem dksX0_ofCore_4 : cX0_ofCore.data.toList.drop 95 = dktX0_ofCore_4 := dk_seg dksX0_ofCore_3 23 rfl rfl
theorem dX0_ofCore_0 : decode cX0_ofCore 0 = .ok (.iload_n 1, 1) := dk_27 (dk_at dksX0_ofCore_0 0 rfl rfl)
theorem dX0_ofCore_1 : decode cX0_ofCore 1 = .ok (.tableswitch 100 0 7 #[47, 53, 58, 65, 72, 79, 85, 91], 47) := by decide +kernel
theorem dX0_ofCore_48 : decode cX0_ofCore 48 = .ok (.aload_n 0, 1) := dk_42 (dk_at dksX0_ofCore_2 0 rfl rfl)
theorem dX0_ofCore_49 : decode cX0_ofCore 49 = .ok (.iload_n 2, 1) := dk_28 (dk_at dksX0_ofCore_2 1 rfl rfl)
theorem dX0_ofCore_50 : decode cX0_ofCore 50 = .ok (.invokevirtual 353, 3) := dk_182 1 97 (dk_at dksX0_ofCore_2 2 rfl rfl)
theorem dX0_ofCore_53 : decode cX0_ofCore 53 = .ok (.ireturn, 1) := dk_172 (dk_at dksX0_ofCore_2 5 rfl rfl)
theorem dX0_ofCore_54 : decode cX0_ofCore 54 = .ok (.aload_n 0, 1) := dk_42 (dk_at dksX0_ofCore_2 6 rfl rfl)
theorem dX0_ofCore_55 : decode cX0_ofCore 55 = .ok (.invokevirtual 356, 3) := dk_182 1 100 (dk_at dksX0_ofCore_2 7 rfl rfl)
theorem dX0_ofCore_58 : decode cX0_ofCore 58 = .ok (.ireturn, 1) := dk_172 (dk_at dksX0_ofCore_2 10 rfl rfl)
theorem dX0_ofCore_59 : decode cX0_ofCore 59 = .ok (.aload_n 0, 1) := dk_42 (dk_at dksX0_ofCore_2 11 rfl rfl)
theorem dX0_ofCore_60 : decode cX0_ofCore 60 = .ok (.iload_n 2, 1) := dk_28 (dk_at dksX0_ofCore_2 12 rfl rfl)
theorem dX0_ofCore_61 : decode cX0_ofCore 61 = .ok (.iload_n 3, 1) := dk_29 (dk_at dksX0_ofCore_2 13 rfl rfl)
theorem dX0_ofCore_62 : decode cX0_ofCore 62 = .ok (.invokevirtual 359, 3) := dk_182 1 103 (dk_at dksX0_ofCore_2 14 rfl rfl)
theorem dX0_ofCore_65 : decode cX0_ofCore 65 = .ok (.ireturn, 1) := dk_172 (dk_at dksX0_ofCore_2 17 rfl rfl)
theorem dX0_ofCore_66 : decode cX0_ofCore 66 = .ok (.aload_n 0, 1) := dk_42 (dk_at dksX0_ofCore_2 18 rfl rfl)
theorem dX0_ofCore_67 : decode cX0_ofCore 67 = .ok (.iload_n 2, 1) := dk_28 (dk_at dksX0_ofCore_2 19 rfl rfl)
theorem dX0_ofCore_68 : decode cX0_ofCore 68 = .ok (.iload_n 3, 1) := dk_29 (dk_at dksX0_ofCore_2 20 rfl rfl)
theorem dX0_ofCore_69 : decode cX0_ofCore 69 = .ok (.invokevirtual 362, 3) := dk_182 1 106 (dk_at dksX0_ofCore_2 21 rfl rfl)
theorem dX0_ofCore_72 : decode cX0_ofCore 72 = .ok (.ireturn, 1) := dk_172 (dk_at dksX0_ofCore_3 0 rfl rfl)
theorem dX0_ofCore_73 : decode cX0_ofCore 73 = .ok (.aload_n 0, 1) := dk_42 (dk_at dksX0_ofCore_3 1 rfl rfl)
theorem dX0_ofCore_74 : decode cX0_ofCore 74 = .ok (.iload_n 2, 1) := dk_28 (dk_at dksX0_ofCore_3 2 rfl rfl)
theorem dX0_ofCore_75 : decode cX0_ofCore 75 = .ok (.iload_n 3, 1) := dk_29 (dk_at dksX0_ofCore_3 3 rfl rfl)
theorem dX0_ofCore_76 : decode cX0_ofCore 76 = .ok (.invokevirtual 365, 3) := dk_182 1 109 (dk_at dksX0_ofCore_3 4 rfl rfl)
theorem dX0_ofCore_79 : decode cX0_ofCore 79 = .ok (.ireturn, 1) := dk_172 (dk_at dksX0_ofCore_3 7 rfl rfl)
theorem dX0_ofCore_80 : decode cX0_ofCore 80 = .ok (.aload_n 0, 1) := dk_42 (dk_at dksX0_ofCore_3 8 rfl rfl)
theorem dX0_ofCore_81 : decode cX0_ofCore 81 = .ok (.iload_n 2, 1) := dk_28 (dk_at dksX0_ofCore_3 9 rfl rfl)
theorem dX0_ofCore_82 : decode cX0_ofCore 82 = .ok (.invokevirtual 368, 3) := dk_182 1 112 (dk_at dksX0_ofCore_3 10 rfl rfl)
theorem dX0_ofCore_85 : decode cX0_ofCore 85 = .ok (.ireturn, 1) := dk_172 (dk_at dksX0_ofCore_3 13 rfl rfl)
theorem dX0_ofCore_86 : decode cX0_ofCore 86 = .ok (.aload_n 0, 1) := dk_42 (dk_at dksX0_ofCore_3 14 rfl rfl)
theorem dX0_ofCore_87 : decode cX0_ofCore 87 = .ok (.iload_n 2, 1) := dk_28 (dk_at dksX0_ofCore_3 15 rfl rfl)
theorem dX0_ofCore_88 : decode cX0_ofCore 88 = .ok (.invokevirtual 371, 3) := dk_182 1 115 (dk_at dksX0_ofCore_3 16 rfl rfl)
theorem dX0_ofCore_91 : decode cX0_ofCore 91 = .ok (.ireturn, 1) := dk_172 (dk_at dksX0_ofCore_3 19 rfl rfl)
theorem dX0_ofCore_92 : decode cX0_ofCore 92 = .ok (.aload_n 0, 1) := dk_42 (dk_at dksX0_ofCore_3 20 rfl rfl)
theorem dX0_ofCore_93 : decode cX0_ofCore 93 = .ok (.iload_n 2, 1) := dk_28 (dk_at dksX0_ofCore_3 21 rfl rfl)
theorem dX0_ofCore_94 : decode cX0_ofCore 94 = .ok (.iload_n 3, 1) := dk_29 (dk_at dksX0_ofCore_3 22 rfl rfl)
theorem dX0_ofCore_95 : decode cX0_ofCore 95 = .ok (.iload 4, 2) := dk_21 4 (dk_at dksX0_ofCore_4 0 rfl rfl)
theorem dX0_ofCore_97 : decode cX0_ofCore 97 = .ok (.invokevirtual 374, 3) := dk_182 1 118 (dk_at dksX0_ofCore_4 2 rfl rfl)
theorem dX0_ofCore_100 : decode cX0_ofCore 100 = .ok (.ireturn, 1) := dk_172 (dk_at dksX0_ofCore_4 5 rfl rfl)
theorem dX0_ofCore_101 : decode cX0_ofCore 101 = .ok (.aload_n 0, 1) := dk_42 (dk_at dksX0_ofCore_4 6 rfl rfl)
theorem dX0_ofCore_102 : decode cX0_ofCore 102 = .ok (.invokevirtual 378, 3) := dk_182 1 122 (dk_at dksX0_ofCore_4 7 rfl rfl)
theorem dX0_ofCore_105 : decode cX0_ofCore 105 = .ok (.ireturn, 1) := dk_172 (dk_at dksX0_ofCore_4 10 rfl rfl)
abbrev cX0_letterIt : ByteArray := prog_1_method_64_code
def yX0_letterIt : MethodName := ⟨RX0, "letterIt", "(I)I"⟩
def dkwX0_letterIt_2 : List UInt8 := [181, 0, 111, 42, 180, 0, 111, 172]
abbrev dktX0_letterIt_2 : List UInt8 := dkwX0_letterIt_2 ++ []
def dkwX0_letterIt_1 : List UInt8 := [16, 250, 184, 0, 9, 42, 180, 0, 79, 42, 180, 0, 111, 27, 146, 85, 42, 89, 180, 0, 111, 4, 96]
abbrev dktX0_letterIt_1 : List UInt8 := dkwX0_letterIt_1 ++ dktX0_letterIt_2
def dkwX0_letterIt_0 : List UInt8 := [27, 133, 9, 20, 1, 76, 184, 1, 78, 42, 180, 0, 111, 16, 96, 162, 0, 7, 4, 167, 0, 4, 3]
abbrev dktX0_letterIt_0 : List UInt8 := dkwX0_letterIt_0 ++ dktX0_letterIt_1
theorem dksX0_letterIt_0 : cX0_letterIt.data.toList.drop 0 = dktX0_letterIt_0 := by decide +kernel
theorem dksX0_letterIt_1 : cX0_letterIt.data.toList.drop 23 = dktX0_letterIt_1 := dk_seg dksX0_letterIt_0 23 rfl rfl
theorem dksX0_letterIt_2 : cX0_letterIt.data.toList.drop 46 = dktX0_letterIt_2 := dk_seg dksX0_letterIt_1 23 rfl rfl
theorem dX0_letterIt_0 : decode cX0_letterIt 0 = .ok (.iload_n 1, 1) := dk_27 (dk_at dksX0_letterIt_0 0 rfl rfl)
theorem dX0_letterIt_1 : decode cX0_letterIt 1 = .ok (.i2l, 1) := dk_133 (dk_at dksX0_letterIt_0 1 rfl rfl)
theorem dX0_letterIt_2 : decode cX0_letterIt 2 = .ok (.lconst 0, 1) := dk_9 (dk_at dksX0_letterIt_0 2 rfl rfl)
theorem dX0_letterIt_3 : decode cX0_letterIt 3 = .ok (.ldc2_w 332, 3) := dk_20 1 76 (dk_at dksX0_letterIt_0 3 rfl rfl)
theorem dX0_letterIt_6 : decode cX0_letterIt 6 = .ok (.invokestatic 334, 3) := dk_184 1 78 (dk_at dksX0_letterIt_0 6 rfl rfl)
theorem dX0_letterIt_9 : decode cX0_letterIt 9 = .ok (.aload_n 0, 1) := dk_42 (dk_at dksX0_letterIt_0 9 rfl rfl)
theorem dX0_letterIt_10 : decode cX0_letterIt 10 = .ok (.getfield 111, 3) := dk_180 0 111 (dk_at dksX0_letterIt_0 10 rfl rfl)
theorem dX0_letterIt_13 : decode cX0_letterIt 13 = .ok (.bipush 96, 2) := dk_16 96 (dk_at dksX0_letterIt_0 13 rfl rfl)
theorem dX0_letterIt_15 : decode cX0_letterIt 15 = .ok (.if_icmp .ge 7, 3) := dk_162 0 7 (dk_at dksX0_letterIt_0 15 rfl rfl)
theorem dX0_letterIt_18 : decode cX0_letterIt 18 = .ok (.iconst 1, 1) := dk_4 (dk_at dksX0_letterIt_0 18 rfl rfl)
theorem dX0_letterIt_19 : decode cX0_letterIt 19 = .ok (.goto 4, 3) := dk_167 0 4 (dk_at dksX0_letterIt_0 19 rfl rfl)
theorem dX0_letterIt_22 : decode cX0_letterIt 22 = .ok (.iconst 0, 1) := dk_3 (dk_at dksX0_letterIt_0 22 rfl rfl)
theorem dX0_letterIt_23 : decode cX0_letterIt 23 = .ok (.bipush (-6), 2) := dk_16 250 (dk_at dksX0_letterIt_1 0 rfl rfl)
theorem dX0_letterIt_25 : decode cX0_letterIt 25 = .ok (.invokestatic 9, 3) := dk_184 0 9 (dk_at dksX0_letterIt_1 2 rfl rfl)
theorem dX0_letterIt_28 : decode cX0_letterIt 28 = .ok (.aload_n 0, 1) := dk_42 (dk_at dksX0_letterIt_1 5 rfl rfl)
theorem dX0_letterIt_29 : decode cX0_letterIt 29 = .ok (.getfield 79, 3) := dk_180 0 79 (dk_at dksX0_letterIt_1 6 rfl rfl)
theorem dX0_letterIt_32 : decode cX0_letterIt 32 = .ok (.aload_n 0, 1) := dk_42 (dk_at dksX0_letterIt_1 9 rfl rfl)
theorem dX0_letterIt_33 : decode cX0_letterIt 33 = .ok (.getfield 111, 3) := dk_180 0 111 (dk_at dksX0_letterIt_1 10 rfl rfl)
theorem dX0_letterIt_36 : decode cX0_letterIt 36 = .ok (.iload_n 1, 1) := dk_27 (dk_at dksX0_letterIt_1 13 rfl rfl)
theorem dX0_letterIt_37 : decode cX0_letterIt 37 = .ok (.i2c, 1) := dk_146 (dk_at dksX0_letterIt_1 14 rfl rfl)
theorem dX0_letterIt_38 : decode cX0_letterIt 38 = .ok (.castore, 1) := dk_85 (dk_at dksX0_letterIt_1 15 rfl rfl)
theorem dX0_letterIt_39 : decode cX0_letterIt 39 = .ok (.aload_n 0, 1) := dk_42 (dk_at dksX0_letterIt_1 16 rfl rfl)
theorem dX0_letterIt_40 : decode cX0_letterIt 40 = .ok (.dup, 1) := dk_89 (dk_at dksX0_letterIt_1 17 rfl rfl)
theorem dX0_letterIt_41 : decode cX0_letterIt 41 = .ok (.getfield 111, 3) := dk_180 0 111 (dk_at dksX0_letterIt_1 18 rfl rfl)
theorem dX0_letterIt_44 : decode cX0_letterIt 44 = .ok (.iconst 1, 1) := dk_4 (dk_at dksX0_letterIt_1 21 rfl rfl)
theorem dX0_letterIt_45 : decode cX0_letterIt 45 = .ok (.iadd, 1) := dk_96 (dk_at dksX0_letterIt_1 22 rfl rfl)
theorem dX0_letterIt_46 : decode cX0_letterIt 46 = .ok (.putfield 111, 3) := dk_181 0 111 (dk_at dksX0_letterIt_2 0 rfl rfl)
theorem dX0_letterIt_49 : decode cX0_letterIt 49 = .ok (.aload_n 0, 1) := dk_42 (dk_at dksX0_letterIt_2 3 rfl rfl)
theorem dX0_letterIt_50 : decode cX0_letterIt 50 = .ok (.getfield 111, 3) := dk_180 0 111 (dk_at dksX0_letterIt_2 4 rfl rfl)
theorem dX0_letterIt_53 : decode cX0_letterIt 53 = .ok (.ireturn, 1) := dk_172 (dk_at dksX0_letterIt_2 7 rfl rfl)
abbrev cX0_within : ByteArray := prog_1_method_3_code
def yX0_within : MethodName := ⟨RX0, "within", "(JJJ)V"⟩
def dkwX0_within_1 : List UInt8 := [167, 0, 4, 3, 16, 250, 184, 0, 9, 177]
abbrev dktX0_within_1 : List UInt8 := dkwX0_within_1 ++ []
def dkwX0_within_0 : List UInt8 := [30, 32, 148, 155, 0, 7, 4, 167, 0, 4, 3, 16, 252, 184, 0, 9, 30, 22, 4, 148, 157, 0, 7, 4]
abbrev dktX0_within_0 : List UInt8 := dkwX0_within_0 ++ dktX0_within_1
theorem dksX0_within_0 : cX0_within.data.toList.drop 0 = dktX0_within_0 := by decide +kernel
theorem dksX0_within_1 : cX0_within.data.toList.drop 24 = dktX0_within_1 := dk_seg dksX0_within_0 24 rfl rfl
theorem dX0_within_0 : decode cX0_within 0 = .ok (.lload_n 0, 1) := dk_30 (dk_at dksX0_within_0 0 rfl rfl)
theorem dX0_within_1 : decode cX0_within 1 = .ok (.lload_n 2, 1) := dk_32 (dk_at dksX0_within_0 1 rfl rfl)
theorem dX0_within_2 : decode cX0_within 2 = .ok (.lcmp, 1) := dk_148 (dk_at dksX0_within_0 2 rfl rfl)
theorem dX0_within_3 : decode cX0_within 3 = .ok (.ifCond .lt 7, 3) := dk_155 0 7 (dk_at dksX0_within_0 3 rfl rfl)
theorem dX0_within_6 : decode cX0_within 6 = .ok (.iconst 1, 1) := dk_4 (dk_at dksX0_within_0 6 rfl rfl)
theorem dX0_within_7 : decode cX0_within 7 = .ok (.goto 4, 3) := dk_167 0 4 (dk_at dksX0_within_0 7 rfl rfl)
theorem dX0_within_10 : decode cX0_within 10 = .ok (.iconst 0, 1) := dk_3 (dk_at dksX0_within_0 10 rfl rfl)
theorem dX0_within_11 : decode cX0_within 11 = .ok (.bipush (-4), 2) := dk_16 252 (dk_at dksX0_within_0 11 rfl rfl)
theorem dX0_within_13 : decode cX0_within 13 = .ok (.invokestatic 9, 3) := dk_184 0 9 (dk_at dksX0_within_0 13 rfl rfl)
theorem dX0_within_16 : decode cX0_within 16 = .ok (.lload_n 0, 1) := dk_30 (dk_at dksX0_within_0 16 rfl rfl)
theorem dX0_within_17 : decode cX0_within 17 = .ok (.lload 4, 2) := dk_22 4 (dk_at dksX0_within_0 17 rfl rfl)
theorem dX0_within_19 : decode cX0_within 19 = .ok (.lcmp, 1) := dk_148 (dk_at dksX0_within_0 19 rfl rfl)
theorem dX0_within_20 : decode cX0_within 20 = .ok (.ifCond .gt 7, 3) := dk_157 0 7 (dk_at dksX0_within_0 20 rfl rfl)
theorem dX0_within_23 : decode cX0_within 23 = .ok (.iconst 1, 1) := dk_4 (dk_at dksX0_within_0 23 rfl rfl)
theorem dX0_within_24 : decode cX0_within 24 = .ok (.goto 4, 3) := dk_167 0 4 (dk_at dksX0_within_1 0 rfl rfl)
theorem dX0_within_27 : decode cX0_within 27 = .ok (.iconst 0, 1) := dk_3 (dk_at dksX0_within_1 3 rfl rfl)
theorem dX0_within_28 : decode cX0_within 28 = .ok (.bipush (-6), 2) := dk_16 250 (dk_at dksX0_within_1 4 rfl rfl)
theorem dX0_within_30 : decode cX0_within 30 = .ok (.invokestatic 9, 3) := dk_184 0 9 (dk_at dksX0_within_1 6 rfl rfl)
theorem dX0_within_33 : decode cX0_within 33 = .ok (.return_, 1) := dk_177 (dk_at dksX0_within_1 9 rfl rfl)
abbrev cX0_must : ByteArray := prog_1_method_2_code
def yX0_must : MethodName := ⟨RX0, "must", "(ZI)V"⟩
def dkwX0_must_0 : List UInt8 := [26, 154, 0, 12, 187, 0, 3, 89, 27, 183, 0, 5, 191, 177]
abbrev dktX0_must_0 : List UInt8 := dkwX0_must_0 ++ []
theorem dksX0_must_0 : cX0_must.data.toList.drop 0 = dktX0_must_0 := by decide +kernel
theorem dX0_must_0 : decode cX0_must 0 = .ok (.iload_n 0, 1) := dk_26 (dk_at dksX0_must_0 0 rfl rfl)
theorem dX0_must_1 : decode cX0_must 1 = .ok (.ifCond .ne 12, 3) := dk_154 0 12 (dk_at dksX0_must_0 1 rfl rfl)
theorem dX0_must_4 : decode cX0_must 4 = .ok (.new 3, 3) := dk_187 0 3 (dk_at dksX0_must_0 4 rfl rfl)
theorem dX0_must_7 : decode cX0_must 7 = .ok (.dup, 1) := dk_89 (dk_at dksX0_must_0 7 rfl rfl)
theorem dX0_must_8 : decode cX0_must 8 = .ok (.iload_n 1, 1) := dk_27 (dk_at dksX0_must_0 8 rfl rfl)
theorem dX0_must_9 : decode cX0_must 9 = .ok (.invokespecial 5, 3) := dk_183 0 5 (dk_at dksX0_must_0 9 rfl rfl)
theorem dX0_must_12 : decode cX0_must 12 = .ok (.athrow, 1) := dk_191 (dk_at dksX0_must_0 12 rfl rfl)
theorem dX0_must_13 : decode cX0_must 13 = .ok (.return_, 1) := dk_177 (dk_at dksX0_must_0 13 rfl rfl)
abbrev cX0_readCore : ByteArray := prog_1_method_17_code
def yX0_readCore : MethodName := ⟨RX0, "readCore", "()I"⟩
def dkwX0_readCore_4 : List UInt8 := [191, 132, 4, 1, 167, 255, 214, 42, 180, 0, 65, 42, 180, 0, 69, 182, 0, 127, 87, 29, 172]
abbrev dktX0_readCore_4 : List UInt8 := dkwX0_readCore_4 ++ []
def dkwX0_readCore_3 : List UInt8 := [182, 0, 131, 154, 0, 22, 187, 0, 135, 89, 17, 248, 48, 44, 21, 4, 50, 180, 0, 137, 100, 183, 0, 140]
abbrev dktX0_readCore_3 : List UInt8 := dkwX0_readCore_3 ++ dktX0_readCore_4
def dkwX0_readCore_2 : List UInt8 := [180, 0, 65, 182, 0, 127, 87, 3, 54, 4, 21, 4, 29, 162, 0, 42, 44, 21, 4, 50, 42, 180, 0, 69]
abbrev dktX0_readCore_2 : List UInt8 := dkwX0_readCore_2 ++ dktX0_readCore_3
def dkwX0_readCore_1 : List UInt8 := [43, 182, 0, 117, 83, 132, 3, 1, 43, 180, 0, 121, 43, 180, 0, 124, 161, 255, 238, 42, 180, 0, 69, 42]
abbrev dktX0_readCore_1 : List UInt8 := dkwX0_readCore_1 ++ dktX0_readCore_2
def dkwX0_readCore_0 : List UInt8 := [187, 0, 106, 89, 42, 183, 0, 108, 76, 42, 3, 181, 0, 111, 16, 96, 189, 0, 115, 77, 3, 62, 44, 29]
abbrev dktX0_readCore_0 : List UInt8 := dkwX0_readCore_0 ++ dktX0_readCore_1
theorem dksX0_readCore_0 : cX0_readCore.data.toList.drop 0 = dktX0_readCore_0 := by decide +kernel
theorem dksX0_readCore_1 : cX0_readCore.data.toList.drop 24 = dktX0_readCore_1 := dk_seg dksX0_readCore_0 24 rfl rfl
theorem dksX0_readCore_2 : cX0_readCore.data.toList.drop 48 = dktX0_readCore_2 := dk_seg dksX0_readCore_1 24 rfl rfl
theorem dksX0_readCore_3 : cX0_readCore.data.toList.drop 72 = dktX0_readCore_3 := dk_seg dksX0_readCore_2 24 rfl rfl
theorem dksX0_readCore_4 : cX0_readCore.data.toList.drop 96 = dktX0_readCore_4 := dk_seg dksX0_readCore_3 24 rfl rfl
theorem dX0_readCore_0 : decode cX0_readCore 0 = .ok (.new 106, 3) := dk_187 0 106 (dk_at dksX0_readCore_0 0 rfl rfl)
theorem dX0_readCore_3 : decode cX0_readCore 3 = .ok (.dup, 1) := dk_89 (dk_at dksX0_readCore_0 3 rfl rfl)
theorem dX0_readCore_4 : decode cX0_readCore 4 = .ok (.aload_n 0, 1) := dk_42 (dk_at dksX0_readCore_0 4 rfl rfl)
theorem dX0_readCore_5 : decode cX0_readCore 5 = .ok (.invokespecial 108, 3) := dk_183 0 108 (dk_at dksX0_readCore_0 5 rfl rfl)
theorem dX0_readCore_8 : decode cX0_readCore 8 = .ok (.astore_n 1, 1) := dk_76 (dk_at dksX0_readCore_0 8 rfl rfl)
theorem dX0_readCore_9 : decode cX0_readCore 9 = .ok (.aload_n 0, 1) := dk_42 (dk_at dksX0_readCore_0 9 rfl rfl)
theorem dX0_readCore_10 : decode cX0_readCore 10 = .ok (.iconst 0, 1) := dk_3 (dk_at dksX0_readCore_0 10 rfl rfl)
theorem dX0_readCore_11 : decode cX0_readCore 11 = .ok (.putfield 111, 3) := dk_181 0 111 (dk_at dksX0_readCore_0 11 rfl rfl)
theorem dX0_readCore_14 : decode cX0_readCore 14 = .ok (.bipush 96, 2) := dk_16 96 (dk_at dksX0_readCore_0 14 rfl rfl)
theorem dX0_readCore_16 : decode cX0_readCore 16 = .ok (.anewarray 115, 3) := dk_189 0 115 (dk_at dksX0_readCore_0 16 rfl rfl)
theorem dX0_readCore_19 : decode cX0_readCore 19 = .ok (.astore_n 2, 1) := dk_77 (dk_at dksX0_readCore_0 19 rfl rfl)
theorem dX0_readCore_20 : decode cX0_readCore 20 = .ok (.iconst 0, 1) := dk_3 (dk_at dksX0_readCore_0 20 rfl rfl)
theorem dX0_readCore_21 : decode cX0_readCore 21 = .ok (.istore_n 3, 1) := dk_62 (dk_at dksX0_readCore_0 21 rfl rfl)
theorem dX0_readCore_22 : decode cX0_readCore 22 = .ok (.aload_n 2, 1) := dk_44 (dk_at dksX0_readCore_0 22 rfl rfl)
theorem dX0_readCore_23 : decode cX0_readCore 23 = .ok (.iload_n 3, 1) := dk_29 (dk_at dksX0_readCore_0 23 rfl rfl)
theorem dX0_readCore_24 : decode cX0_readCore 24 = .ok (.aload_n 1, 1) := dk_43 (dk_at dksX0_readCore_1 0 rfl rfl)
theorem dX0_readCore_25 : decode cX0_readCore 25 = .ok (.invokevirtual 117, 3) := dk_182 0 117 (dk_at dksX0_readCore_1 1 rfl rfl)
theorem dX0_readCore_28 : decode cX0_readCore 28 = .ok (.aastore, 1) := dk_83 (dk_at dksX0_readCore_1 4 rfl rfl)
theorem dX0_readCore_29 : decode cX0_readCore 29 = .ok (.iinc 3 1, 3) := dk_132 3 1 (dk_at dksX0_readCore_1 5 rfl rfl)
theorem dX0_readCore_32 : decode cX0_readCore 32 = .ok (.aload_n 1, 1) := dk_43 (dk_at dksX0_readCore_1 8 rfl rfl)
theorem dX0_readCore_33 : decode cX0_readCore 33 = .ok (.getfield 121, 3) := dk_180 0 121 (dk_at dksX0_readCore_1 9 rfl rfl)
theorem dX0_readCore_36 : decode cX0_readCore 36 = .ok (.aload_n 1, 1) := dk_43 (dk_at dksX0_readCore_1 12 rfl rfl)
theorem dX0_readCore_37 : decode cX0_readCore 37 = .ok (.getfield 124, 3) := dk_180 0 124 (dk_at dksX0_readCore_1 13 rfl rfl)
theorem dX0_readCore_40 : decode cX0_readCore 40 = .ok (.if_icmp .lt (-18), 3) := dk_161 255 238 (dk_at dksX0_readCore_1 16 rfl rfl)
theorem dX0_readCore_43 : decode cX0_readCore 43 = .ok (.aload_n 0, 1) := dk_42 (dk_at dksX0_readCore_1 19 rfl rfl)
theorem dX0_readCore_44 : decode cX0_readCore 44 = .ok (.getfield 69, 3) := dk_180 0 69 (dk_at dksX0_readCore_1 20 rfl rfl)
theorem dX0_readCore_47 : decode cX0_readCore 47 = .ok (.aload_n 0, 1) := dk_42 (dk_at dksX0_readCore_1 23 rfl rfl)
theorem dX0_readCore_48 : decode cX0_readCore 48 = .ok (.getfield 65, 3) := dk_180 0 65 (dk_at dksX0_readCore_2 0 rfl rfl)
theorem dX0_readCore_51 : decode cX0_readCore 51 = .ok (.invokevirtual 127, 3) := dk_182 0 127 (dk_at dksX0_readCore_2 3 rfl rfl)
theorem dX0_readCore_54 : decode cX0_readCore 54 = .ok (.pop, 1) := dk_87 (dk_at dksX0_readCore_2 6 rfl rfl)
theorem dX0_readCore_55 : decode cX0_readCore 55 = .ok (.iconst 0, 1) := dk_3 (dk_at dksX0_readCore_2 7 rfl rfl)
theorem dX0_readCore_56 : decode cX0_readCore 56 = .ok (.istore 4, 2) := dk_54 4 (dk_at dksX0_readCore_2 8 rfl rfl)
theorem dX0_readCore_58 : decode cX0_readCore 58 = .ok (.iload 4, 2) := dk_21 4 (dk_at dksX0_readCore_2 10 rfl rfl)
theorem dX0_readCore_60 : decode cX0_readCore 60 = .ok (.iload_n 3, 1) := dk_29 (dk_at dksX0_readCore_2 12 rfl rfl)
theorem dX0_readCore_61 : decode cX0_readCore 61 = .ok (.if_icmp .ge 42, 3) := dk_162 0 42 (dk_at dksX0_readCore_2 13 rfl rfl)
theorem dX0_readCore_64 : decode cX0_readCore 64 = .ok (.aload_n 2, 1) := dk_44 (dk_at dksX0_readCore_2 16 rfl rfl)
theorem dX0_readCore_65 : decode cX0_readCore 65 = .ok (.iload 4, 2) := dk_21 4 (dk_at dksX0_readCore_2 17 rfl rfl)
theorem dX0_readCore_67 : decode cX0_readCore 67 = .ok (.aaload, 1) := dk_50 (dk_at dksX0_readCore_2 19 rfl rfl)
theorem dX0_readCore_68 : decode cX0_readCore 68 = .ok (.aload_n 0, 1) := dk_42 (dk_at dksX0_readCore_2 20 rfl rfl)
theorem dX0_readCore_69 : decode cX0_readCore 69 = .ok (.getfield 69, 3) := dk_180 0 69 (dk_at dksX0_readCore_2 21 rfl rfl)
theorem dX0_readCore_72 : decode cX0_readCore 72 = .ok (.invokevirtual 131, 3) := dk_182 0 131 (dk_at dksX0_readCore_3 0 rfl rfl)
theorem dX0_readCore_75 : decode cX0_readCore 75 = .ok (.ifCond .ne 22, 3) := dk_154 0 22 (dk_at dksX0_readCore_3 3 rfl rfl)
theorem dX0_readCore_78 : decode cX0_readCore 78 = .ok (.new 135, 3) := dk_187 0 135 (dk_at dksX0_readCore_3 6 rfl rfl)
theorem dX0_readCore_81 : decode cX0_readCore 81 = .ok (.dup, 1) := dk_89 (dk_at dksX0_readCore_3 9 rfl rfl)
theorem dX0_readCore_82 : decode cX0_readCore 82 = .ok (.sipush (-2000), 3) := dk_17 248 48 (dk_at dksX0_readCore_3 10 rfl rfl)
theorem dX0_readCore_85 : decode cX0_readCore 85 = .ok (.aload_n 2, 1) := dk_44 (dk_at dksX0_readCore_3 13 rfl rfl)
theorem dX0_readCore_86 : decode cX0_readCore 86 = .ok (.iload 4, 2) := dk_21 4 (dk_at dksX0_readCore_3 14 rfl rfl)
theorem dX0_readCore_88 : decode cX0_readCore 88 = .ok (.aaload, 1) := dk_50 (dk_at dksX0_readCore_3 16 rfl rfl)
theorem dX0_readCore_89 : decode cX0_readCore 89 = .ok (.getfield 137, 3) := dk_180 0 137 (dk_at dksX0_readCore_3 17 rfl rfl)
theorem dX0_readCore_92 : decode cX0_readCore 92 = .ok (.isub, 1) := dk_100 (dk_at dksX0_readCore_3 20 rfl rfl)
theorem dX0_readCore_93 : decode cX0_readCore 93 = .ok (.invokespecial 140, 3) := dk_183 0 140 (dk_at dksX0_readCore_3 21 rfl rfl)
theorem dX0_readCore_96 : decode cX0_readCore 96 = .ok (.athrow, 1) := dk_191 (dk_at dksX0_readCore_4 0 rfl rfl)
theorem dX0_readCore_97 : decode cX0_readCore 97 = .ok (.iinc 4 1, 3) := dk_132 4 1 (dk_at dksX0_readCore_4 1 rfl rfl)
theorem dX0_readCore_100 : decode cX0_readCore 100 = .ok (.goto (-42), 3) := dk_167 255 214 (dk_at dksX0_readCore_4 4 rfl rfl)
theorem dX0_readCore_103 : decode cX0_readCore 103 = .ok (.aload_n 0, 1) := dk_42 (dk_at dksX0_readCore_4 7 rfl rfl)
theorem dX0_readCore_104 : decode cX0_readCore 104 = .ok (.getfield 65, 3) := dk_180 0 65 (dk_at dksX0_readCore_4 8 rfl rfl)
theorem dX0_readCore_107 : decode cX0_readCore 107 = .ok (.aload_n 0, 1) := dk_42 (dk_at dksX0_readCore_4 11 rfl rfl)
theorem dX0_readCore_108 : decode cX0_readCore 108 = .ok (.getfield 69, 3) := dk_180 0 69 (dk_at dksX0_readCore_4 12 rfl rfl)
theorem dX0_readCore_111 : decode cX0_readCore 111 = .ok (.invokevirtual 127, 3) := dk_182 0 127 (dk_at dksX0_readCore_4 15 rfl rfl)
theorem dX0_readCore_114 : decode cX0_readCore 114 = .ok (.pop, 1) := dk_87 (dk_at dksX0_readCore_4 18 rfl rfl)
theorem dX0_readCore_115 : decode cX0_readCore 115 = .ok (.iload_n 3, 1) := dk_29 (dk_at dksX0_readCore_4 19 rfl rfl)
theorem dX0_readCore_116 : decode cX0_readCore 116 = .ok (.ireturn, 1) := dk_172 (dk_at dksX0_readCore_4 20 rfl rfl)
abbrev cX0_kindOf : ByteArray := prog_1_method_16_code
def yX0_kindOf : MethodName := ⟨RX0, "kindOf", "(I)I"⟩
def dkwX0_kindOf_2 : List UInt8 := [3, 172, 4, 172, 5, 172, 6, 172, 7, 172, 8, 172, 2, 172]
abbrev dktX0_kindOf_2 : List UInt8 := dkwX0_kindOf_2 ++ []
def dkwX0_kindOf_1 : List UInt8 := [170, 0, 0, 0, 0, 0, 103, 0, 0, 0, 101, 0, 0, 0, 119, 0, 0, 0, 93, 0, 0, 0, 103, 0, 0, 0, 103, 0, 0, 0, 103, 0, 0, 0, 103, 0, 0, 0, 103, 0, 0, 0, 101, 0, 0, 0, 97, 0, 0, 0, 103, 0, 0, 0, 91, 0, 0, 0, 103, 0, 0, 0, 99, 0, 0, 0, 103, 0, 0, 0, 103, 0, 0, 0, 103, 0, 0, 0, 103, 0, 0, 0, 103, 0, 0, 0, 103, 0, 0, 0, 95]
abbrev dktX0_kindOf_1 : List UInt8 := dkwX0_kindOf_1 ++ dktX0_kindOf_2
def dkwX0_kindOf_0 : List UInt8 := [27]
abbrev dktX0_kindOf_0 : List UInt8 := dkwX0_kindOf_0 ++ dktX0_kindOf_1
theorem dksX0_kindOf_0 : cX0_kindOf.data.toList.drop 0 = dktX0_kindOf_0 := by decide +kernel
theorem dksX0_kindOf_1 : cX0_kindOf.data.toList.drop 1 = dktX0_kindOf_1 := dk_seg dksX0_kindOf_0 1 rfl rfl
theorem dksX0_kindOf_2 : cX0_kindOf.data.toList.drop 92 = dktX0_kindOf_2 := dk_seg dksX0_kindOf_1 91 rfl rfl
theorem dX0_kindOf_0 : decode cX0_kindOf 0 = .ok (.iload_n 1, 1) := dk_27 (dk_at dksX0_kindOf_0 0 rfl rfl)
theorem dX0_kindOf_1 : decode cX0_kindOf 1 = .ok (.tableswitch 103 101 119 #[93, 103, 103, 103, 103, 103, 101, 97, 103, 91, 103, 99, 103, 103, 103, 103, 103, 103, 95], 91) := by decide +kernel
theorem dX0_kindOf_92 : decode cX0_kindOf 92 = .ok (.iconst 0, 1) := dk_3 (dk_at dksX0_kindOf_2 0 rfl rfl)
theorem dX0_kindOf_93 : decode cX0_kindOf 93 = .ok (.ireturn, 1) := dk_172 (dk_at dksX0_kindOf_2 1 rfl rfl)
theorem dX0_kindOf_94 : decode cX0_kindOf 94 = .ok (.iconst 1, 1) := dk_4 (dk_at dksX0_kindOf_2 2 rfl rfl)
theorem dX0_kindOf_95 : decode cX0_kindOf 95 = .ok (.ireturn, 1) := dk_172 (dk_at dksX0_kindOf_2 3 rfl rfl)
theorem dX0_kindOf_96 : decode cX0_kindOf 96 = .ok (.iconst 2, 1) := dk_5 (dk_at dksX0_kindOf_2 4 rfl rfl)
theorem dX0_kindOf_97 : decode cX0_kindOf 97 = .ok (.ireturn, 1) := dk_172 (dk_at dksX0_kindOf_2 5 rfl rfl)
theorem dX0_kindOf_98 : decode cX0_kindOf 98 = .ok (.iconst 3, 1) := dk_6 (dk_at dksX0_kindOf_2 6 rfl rfl)
theorem dX0_kindOf_99 : decode cX0_kindOf 99 = .ok (.ireturn, 1) := dk_172 (dk_at dksX0_kindOf_2 7 rfl rfl)
theorem dX0_kindOf_100 : decode cX0_kindOf 100 = .ok (.iconst 4, 1) := dk_7 (dk_at dksX0_kindOf_2 8 rfl rfl)
theorem dX0_kindOf_101 : decode cX0_kindOf 101 = .ok (.ireturn, 1) := dk_172 (dk_at dksX0_kindOf_2 9 rfl rfl)
theorem dX0_kindOf_102 : decode cX0_kindOf 102 = .ok (.iconst 5, 1) := dk_8 (dk_at dksX0_kindOf_2 10 rfl rfl)
theorem dX0_kindOf_103 : decode cX0_kindOf 103 = .ok (.ireturn, 1) := dk_172 (dk_at dksX0_kindOf_2 11 rfl rfl)
theorem dX0_kindOf_104 : decode cX0_kindOf 104 = .ok (.iconst (-1), 1) := dk_2 (dk_at dksX0_kindOf_2 12 rfl rfl)
theorem dX0_kindOf_105 : decode cX0_kindOf 105 = .ok (.ireturn, 1) := dk_172 (dk_at dksX0_kindOf_2 13 rfl rfl)
abbrev cX0_in : ByteArray := prog_1_method_1_code
def yX0_in : MethodName := ⟨RX0, "in", "(JJJ)Z"⟩
def dkwX0_in_0 : List UInt8 := [30, 32, 148, 155, 0, 14, 30, 22, 4, 148, 157, 0, 7, 4, 167, 0, 4, 3, 172]
abbrev dktX0_in_0 : List UInt8 := dkwX0_in_0 ++ []
theorem dksX0_in_0 : cX0_in.data.toList.drop 0 = dktX0_in_0 := by decide +kernel
theorem dX0_in_0 : decode cX0_in 0 = .ok (.lload_n 0, 1) := dk_30 (dk_at dksX0_in_0 0 rfl rfl)
theorem dX0_in_1 : decode cX0_in 1 = .ok (.lload_n 2, 1) := dk_32 (dk_at dksX0_in_0 1 rfl rfl)
theorem dX0_in_2 : decode cX0_in 2 = .ok (.lcmp, 1) := dk_148 (dk_at dksX0_in_0 2 rfl rfl)
theorem dX0_in_3 : decode cX0_in 3 = .ok (.ifCond .lt 14, 3) := dk_155 0 14 (dk_at dksX0_in_0 3 rfl rfl)
theorem dX0_in_6 : decode cX0_in 6 = .ok (.lload_n 0, 1) := dk_30 (dk_at dksX0_in_0 6 rfl rfl)
theorem dX0_in_7 : decode cX0_in 7 = .ok (.lload 4, 2) := dk_22 4 (dk_at dksX0_in_0 7 rfl rfl)
theorem dX0_in_9 : decode cX0_in 9 = .ok (.lcmp, 1) := dk_148 (dk_at dksX0_in_0 9 rfl rfl)
theorem dX0_in_10 : decode cX0_in 10 = .ok (.ifCond .gt 7, 3) := dk_157 0 7 (dk_at dksX0_in_0 10 rfl rfl)
theorem dX0_in_13 : decode cX0_in 13 = .ok (.iconst 1, 1) := dk_4 (dk_at dksX0_in_0 13 rfl rfl)
theorem dX0_in_14 : decode cX0_in 14 = .ok (.goto 4, 3) := dk_167 0 4 (dk_at dksX0_in_0 14 rfl rfl)
theorem dX0_in_17 : decode cX0_in 17 = .ok (.iconst 0, 1) := dk_3 (dk_at dksX0_in_0 17 rfl rfl)
theorem dX0_in_18 : decode cX0_in 18 = .ok (.ireturn, 1) := dk_172 (dk_at dksX0_in_0 18 rfl rfl)
abbrev cX0_cellsOf : ByteArray := prog_1_method_13_code
def yX0_cellsOf : MethodName := ⟨RX0, "cellsOf", "(II)I"⟩
def dkwX0_cellsOf_4 : List UInt8 := [21, 4, 4, 27, 8, 96, 4, 96, 120, 128, 167, 0, 5, 21, 4, 172]
abbrev dktX0_cellsOf_4 : List UInt8 := dkwX0_cellsOf_4 ++ []
def dkwX0_cellsOf_3 : List UInt8 := [3, 128, 29, 153, 0, 11, 4, 27, 8, 96, 120, 167, 0, 4, 3, 128, 54, 4, 26, 6, 160, 0, 16]
abbrev dktX0_cellsOf_3 : List UInt8 := dkwX0_cellsOf_3 ++ dktX0_cellsOf_4
def dkwX0_cellsOf_2 : List UInt8 := [27, 8, 108, 7, 160, 0, 5, 3, 172, 4, 27, 120, 28, 153, 0, 11, 4, 27, 4, 96, 120, 167, 0, 4]
abbrev dktX0_cellsOf_2 : List UInt8 := dkwX0_cellsOf_2 ++ dktX0_cellsOf_3
def dkwX0_cellsOf_1 : List UInt8 := [160, 0, 7, 4, 167, 0, 4, 3, 62, 28, 153, 0, 10, 27, 8, 112, 7, 159, 0, 14, 29, 153, 0, 12]
abbrev dktX0_cellsOf_1 : List UInt8 := dkwX0_cellsOf_1 ++ dktX0_cellsOf_2
def dkwX0_cellsOf_0 : List UInt8 := [26, 4, 159, 0, 8, 26, 6, 160, 0, 7, 4, 167, 0, 4, 3, 61, 26, 5, 159, 0, 8, 26, 6]
abbrev dktX0_cellsOf_0 : List UInt8 := dkwX0_cellsOf_0 ++ dktX0_cellsOf_1
theorem dksX0_cellsOf_0 : cX0_cellsOf.data.toList.drop 0 = dktX0_cellsOf_0 := by decide +kernel
theorem dksX0_cellsOf_1 : cX0_cellsOf.data.toList.drop 23 = dktX0_cellsOf_1 := dk_seg dksX0_cellsOf_0 23 rfl rfl
theorem dksX0_cellsOf_2 : cX0_cellsOf.data.toList.drop 47 = dktX0_cellsOf_2 := dk_seg dksX0_cellsOf_1 24 rfl rfl
theorem dksX0_cellsOf_3 : cX0_cellsOf.data.toList.drop 71 = dktX0_cellsOf_3 := dk_seg dksX0_cellsOf_2 24 rfl rfl
theorem dksX0_cellsOf_4 : cX0_cellsOf.data.toList.drop 94 = dktX0_cellsOf_4 := dk_seg dksX0_cellsOf_3 23 rfl rfl
theorem dX0_cellsOf_0 : decode cX0_cellsOf 0 = .ok (.iload_n 0, 1) := dk_26 (dk_at dksX0_cellsOf_0 0 rfl rfl)
theorem dX0_cellsOf_1 : decode cX0_cellsOf 1 = .ok (.iconst 1, 1) := dk_4 (dk_at dksX0_cellsOf_0 1 rfl rfl)
theorem dX0_cellsOf_2 : decode cX0_cellsOf 2 = .ok (.if_icmp .eq 8, 3) := dk_159 0 8 (dk_at dksX0_cellsOf_0 2 rfl rfl)
theorem dX0_cellsOf_5 : decode cX0_cellsOf 5 = .ok (.iload_n 0, 1) := dk_26 (dk_at dksX0_cellsOf_0 5 rfl rfl)
theorem dX0_cellsOf_6 : decode cX0_cellsOf 6 = .ok (.iconst 3, 1) := dk_6 (dk_at dksX0_cellsOf_0 6 rfl rfl)
theorem dX0_cellsOf_7 : decode cX0_cellsOf 7 = .ok (.if_icmp .ne 7, 3) := dk_160 0 7 (dk_at dksX0_cellsOf_0 7 rfl rfl)
theorem dX0_cellsOf_10 : decode cX0_cellsOf 10 = .ok (.iconst 1, 1) := dk_4 (dk_at dksX0_cellsOf_0 10 rfl rfl)
theorem dX0_cellsOf_11 : decode cX0_cellsOf 11 = .ok (.goto 4, 3) := dk_167 0 4 (dk_at dksX0_cellsOf_0 11 rfl rfl)
theorem dX0_cellsOf_14 : decode cX0_cellsOf 14 = .ok (.iconst 0, 1) := dk_3 (dk_at dksX0_cellsOf_0 14 rfl rfl)
theorem dX0_cellsOf_15 : decode cX0_cellsOf 15 = .ok (.istore_n 2, 1) := dk_61 (dk_at dksX0_cellsOf_0 15 rfl rfl)
theorem dX0_cellsOf_16 : decode cX0_cellsOf 16 = .ok (.iload_n 0, 1) := dk_26 (dk_at dksX0_cellsOf_0 16 rfl rfl)
theorem dX0_cellsOf_17 : decode cX0_cellsOf 17 = .ok (.iconst 2, 1) := dk_5 (dk_at dksX0_cellsOf_0 17 rfl rfl)
theorem dX0_cellsOf_18 : decode cX0_cellsOf 18 = .ok (.if_icmp .eq 8, 3) := dk_159 0 8 (dk_at dksX0_cellsOf_0 18 rfl rfl)
theorem dX0_cellsOf_21 : decode cX0_cellsOf 21 = .ok (.iload_n 0, 1) := dk_26 (dk_at dksX0_cellsOf_0 21 rfl rfl)
theorem dX0_cellsOf_22 : decode cX0_cellsOf 22 = .ok (.iconst 3, 1) := dk_6 (dk_at dksX0_cellsOf_0 22 rfl rfl)
theorem dX0_cellsOf_23 : decode cX0_cellsOf 23 = .ok (.if_icmp .ne 7, 3) := dk_160 0 7 (dk_at dksX0_cellsOf_1 0 rfl rfl)
theorem dX0_cellsOf_26 : decode cX0_cellsOf 26 = .ok (.iconst 1, 1) := dk_4 (dk_at dksX0_cellsOf_1 3 rfl rfl)
theorem dX0_cellsOf_27 : decode cX0_cellsOf 27 = .ok (.goto 4, 3) := dk_167 0 4 (dk_at dksX0_cellsOf_1 4 rfl rfl)
theorem dX0_cellsOf_30 : decode cX0_cellsOf 30 = .ok (.iconst 0, 1) := dk_3 (dk_at dksX0_cellsOf_1 7 rfl rfl)
theorem dX0_cellsOf_31 : decode cX0_cellsOf 31 = .ok (.istore_n 3, 1) := dk_62 (dk_at dksX0_cellsOf_1 8 rfl rfl)
theorem dX0_cellsOf_32 : decode cX0_cellsOf 32 = .ok (.iload_n 2, 1) := dk_28 (dk_at dksX0_cellsOf_1 9 rfl rfl)
theorem dX0_cellsOf_33 : decode cX0_cellsOf 33 = .ok (.ifCond .eq 10, 3) := dk_153 0 10 (dk_at dksX0_cellsOf_1 10 rfl rfl)
theorem dX0_cellsOf_36 : decode cX0_cellsOf 36 = .ok (.iload_n 1, 1) := dk_27 (dk_at dksX0_cellsOf_1 13 rfl rfl)
theorem dX0_cellsOf_37 : decode cX0_cellsOf 37 = .ok (.iconst 5, 1) := dk_8 (dk_at dksX0_cellsOf_1 14 rfl rfl)
theorem dX0_cellsOf_38 : decode cX0_cellsOf 38 = .ok (.irem, 1) := dk_112 (dk_at dksX0_cellsOf_1 15 rfl rfl)
theorem dX0_cellsOf_39 : decode cX0_cellsOf 39 = .ok (.iconst 4, 1) := dk_7 (dk_at dksX0_cellsOf_1 16 rfl rfl)
theorem dX0_cellsOf_40 : decode cX0_cellsOf 40 = .ok (.if_icmp .eq 14, 3) := dk_159 0 14 (dk_at dksX0_cellsOf_1 17 rfl rfl)
theorem dX0_cellsOf_43 : decode cX0_cellsOf 43 = .ok (.iload_n 3, 1) := dk_29 (dk_at dksX0_cellsOf_1 20 rfl rfl)
theorem dX0_cellsOf_44 : decode cX0_cellsOf 44 = .ok (.ifCond .eq 12, 3) := dk_153 0 12 (dk_at dksX0_cellsOf_1 21 rfl rfl)
theorem dX0_cellsOf_47 : decode cX0_cellsOf 47 = .ok (.iload_n 1, 1) := dk_27 (dk_at dksX0_cellsOf_2 0 rfl rfl)
theorem dX0_cellsOf_48 : decode cX0_cellsOf 48 = .ok (.iconst 5, 1) := dk_8 (dk_at dksX0_cellsOf_2 1 rfl rfl)
theorem dX0_cellsOf_49 : decode cX0_cellsOf 49 = .ok (.idiv, 1) := dk_108 (dk_at dksX0_cellsOf_2 2 rfl rfl)
theorem dX0_cellsOf_50 : decode cX0_cellsOf 50 = .ok (.iconst 4, 1) := dk_7 (dk_at dksX0_cellsOf_2 3 rfl rfl)
theorem dX0_cellsOf_51 : decode cX0_cellsOf 51 = .ok (.if_icmp .ne 5, 3) := dk_160 0 5 (dk_at dksX0_cellsOf_2 4 rfl rfl)
theorem dX0_cellsOf_54 : decode cX0_cellsOf 54 = .ok (.iconst 0, 1) := dk_3 (dk_at dksX0_cellsOf_2 7 rfl rfl)
theorem dX0_cellsOf_55 : decode cX0_cellsOf 55 = .ok (.ireturn, 1) := dk_172 (dk_at dksX0_cellsOf_2 8 rfl rfl)
theorem dX0_cellsOf_56 : decode cX0_cellsOf 56 = .ok (.iconst 1, 1) := dk_4 (dk_at dksX0_cellsOf_2 9 rfl rfl)
theorem dX0_cellsOf_57 : decode cX0_cellsOf 57 = .ok (.iload_n 1, 1) := dk_27 (dk_at dksX0_cellsOf_2 10 rfl rfl)
theorem dX0_cellsOf_58 : decode cX0_cellsOf 58 = .ok (.ishl, 1) := dk_120 (dk_at dksX0_cellsOf_2 11 rfl rfl)
theorem dX0_cellsOf_59 : decode cX0_cellsOf 59 = .ok (.iload_n 2, 1) := dk_28 (dk_at dksX0_cellsOf_2 12 rfl rfl)
theorem dX0_cellsOf_60 : decode cX0_cellsOf 60 = .ok (.ifCond .eq 11, 3) := dk_153 0 11 (dk_at dksX0_cellsOf_2 13 rfl rfl)
theorem dX0_cellsOf_63 : decode cX0_cellsOf 63 = .ok (.iconst 1, 1) := dk_4 (dk_at dksX0_cellsOf_2 16 rfl rfl)
theorem dX0_cellsOf_64 : decode cX0_cellsOf 64 = .ok (.iload_n 1, 1) := dk_27 (dk_at dksX0_cellsOf_2 17 rfl rfl)
theorem dX0_cellsOf_65 : decode cX0_cellsOf 65 = .ok (.iconst 1, 1) := dk_4 (dk_at dksX0_cellsOf_2 18 rfl rfl)
theorem dX0_cellsOf_66 : decode cX0_cellsOf 66 = .ok (.iadd, 1) := dk_96 (dk_at dksX0_cellsOf_2 19 rfl rfl)
theorem dX0_cellsOf_67 : decode cX0_cellsOf 67 = .ok (.ishl, 1) := dk_120 (dk_at dksX0_cellsOf_2 20 rfl rfl)
theorem dX0_cellsOf_68 : decode cX0_cellsOf 68 = .ok (.goto 4, 3) := dk_167 0 4 (dk_at dksX0_cellsOf_2 21 rfl rfl)
theorem dX0_cellsOf_71 : decode cX0_cellsOf 71 = .ok (.iconst 0, 1) := dk_3 (dk_at dksX0_cellsOf_3 0 rfl rfl)
theorem dX0_cellsOf_72 : decode cX0_cellsOf 72 = .ok (.ior, 1) := dk_128 (dk_at dksX0_cellsOf_3 1 rfl rfl)
theorem dX0_cellsOf_73 : decode cX0_cellsOf 73 = .ok (.iload_n 3, 1) := dk_29 (dk_at dksX0_cellsOf_3 2 rfl rfl)
theorem dX0_cellsOf_74 : decode cX0_cellsOf 74 = .ok (.ifCond .eq 11, 3) := dk_153 0 11 (dk_at dksX0_cellsOf_3 3 rfl rfl)
theorem dX0_cellsOf_77 : decode cX0_cellsOf 77 = .ok (.iconst 1, 1) := dk_4 (dk_at dksX0_cellsOf_3 6 rfl rfl)
theorem dX0_cellsOf_78 : decode cX0_cellsOf 78 = .ok (.iload_n 1, 1) := dk_27 (dk_at dksX0_cellsOf_3 7 rfl rfl)
theorem dX0_cellsOf_79 : decode cX0_cellsOf 79 = .ok (.iconst 5, 1) := dk_8 (dk_at dksX0_cellsOf_3 8 rfl rfl)
theorem dX0_cellsOf_80 : decode cX0_cellsOf 80 = .ok (.iadd, 1) := dk_96 (dk_at dksX0_cellsOf_3 9 rfl rfl)
theorem dX0_cellsOf_81 : decode cX0_cellsOf 81 = .ok (.ishl, 1) := dk_120 (dk_at dksX0_cellsOf_3 10 rfl rfl)
theorem dX0_cellsOf_82 : decode cX0_cellsOf 82 = .ok (.goto 4, 3) := dk_167 0 4 (dk_at dksX0_cellsOf_3 11 rfl rfl)
theorem dX0_cellsOf_85 : decode cX0_cellsOf 85 = .ok (.iconst 0, 1) := dk_3 (dk_at dksX0_cellsOf_3 14 rfl rfl)
theorem dX0_cellsOf_86 : decode cX0_cellsOf 86 = .ok (.ior, 1) := dk_128 (dk_at dksX0_cellsOf_3 15 rfl rfl)
theorem dX0_cellsOf_87 : decode cX0_cellsOf 87 = .ok (.istore 4, 2) := dk_54 4 (dk_at dksX0_cellsOf_3 16 rfl rfl)
theorem dX0_cellsOf_89 : decode cX0_cellsOf 89 = .ok (.iload_n 0, 1) := dk_26 (dk_at dksX0_cellsOf_3 18 rfl rfl)
theorem dX0_cellsOf_90 : decode cX0_cellsOf 90 = .ok (.iconst 3, 1) := dk_6 (dk_at dksX0_cellsOf_3 19 rfl rfl)
theorem dX0_cellsOf_91 : decode cX0_cellsOf 91 = .ok (.if_icmp .ne 16, 3) := dk_160 0 16 (dk_at dksX0_cellsOf_3 20 rfl rfl)
theorem dX0_cellsOf_94 : decode cX0_cellsOf 94 = .ok (.iload 4, 2) := dk_21 4 (dk_at dksX0_cellsOf_4 0 rfl rfl)
theorem dX0_cellsOf_96 : decode cX0_cellsOf 96 = .ok (.iconst 1, 1) := dk_4 (dk_at dksX0_cellsOf_4 2 rfl rfl)
theorem dX0_cellsOf_97 : decode cX0_cellsOf 97 = .ok (.iload_n 1, 1) := dk_27 (dk_at dksX0_cellsOf_4 3 rfl rfl)
theorem dX0_cellsOf_98 : decode cX0_cellsOf 98 = .ok (.iconst 5, 1) := dk_8 (dk_at dksX0_cellsOf_4 4 rfl rfl)
theorem dX0_cellsOf_99 : decode cX0_cellsOf 99 = .ok (.iadd, 1) := dk_96 (dk_at dksX0_cellsOf_4 5 rfl rfl)
theorem dX0_cellsOf_100 : decode cX0_cellsOf 100 = .ok (.iconst 1, 1) := dk_4 (dk_at dksX0_cellsOf_4 6 rfl rfl)
theorem dX0_cellsOf_101 : decode cX0_cellsOf 101 = .ok (.iadd, 1) := dk_96 (dk_at dksX0_cellsOf_4 7 rfl rfl)
theorem dX0_cellsOf_102 : decode cX0_cellsOf 102 = .ok (.ishl, 1) := dk_120 (dk_at dksX0_cellsOf_4 8 rfl rfl)
theorem dX0_cellsOf_103 : decode cX0_cellsOf 103 = .ok (.ior, 1) := dk_128 (dk_at dksX0_cellsOf_4 9 rfl rfl)
theorem dX0_cellsOf_104 : decode cX0_cellsOf 104 = .ok (.goto 5, 3) := dk_167 0 5 (dk_at dksX0_cellsOf_4 10 rfl rfl)
theorem dX0_cellsOf_107 : decode cX0_cellsOf 107 = .ok (.iload 4, 2) := dk_21 4 (dk_at dksX0_cellsOf_4 13 rfl rfl)
theorem dX0_cellsOf_109 : decode cX0_cellsOf 109 = .ok (.ireturn, 1) := dk_172 (dk_at dksX0_cellsOf_4 15 rfl rfl)
abbrev cX0_has : ByteArray := prog_1_method_5_code
def yX0_has : MethodName := ⟨RX0, "has", "(II)Z"⟩
def dkwX0_has_0 : List UInt8 := [26, 27, 122, 4, 126, 4, 160, 0, 7, 4, 167, 0, 4, 3, 172]
abbrev dktX0_has_0 : List UInt8 := dkwX0_has_0 ++ []
theorem dksX0_has_0 : cX0_has.data.toList.drop 0 = dktX0_has_0 := by decide +kernel
theorem dX0_has_0 : decode cX0_has 0 = .ok (.iload_n 0, 1) := dk_26 (dk_at dksX0_has_0 0 rfl rfl)
theorem dX0_has_1 : decode cX0_has 1 = .ok (.iload_n 1, 1) := dk_27 (dk_at dksX0_has_0 1 rfl rfl)
theorem dX0_has_2 : decode cX0_has 2 = .ok (.ishr, 1) := dk_122 (dk_at dksX0_has_0 2 rfl rfl)
theorem dX0_has_3 : decode cX0_has 3 = .ok (.iconst 1, 1) := dk_4 (dk_at dksX0_has_0 3 rfl rfl)
theorem dX0_has_4 : decode cX0_has 4 = .ok (.iand, 1) := dk_126 (dk_at dksX0_has_0 4 rfl rfl)
theorem dX0_has_5 : decode cX0_has 5 = .ok (.iconst 1, 1) := dk_4 (dk_at dksX0_has_0 5 rfl rfl)
theorem dX0_has_6 : decode cX0_has 6 = .ok (.if_icmp .ne 7, 3) := dk_160 0 7 (dk_at dksX0_has_0 6 rfl rfl)
theorem dX0_has_9 : decode cX0_has 9 = .ok (.iconst 1, 1) := dk_4 (dk_at dksX0_has_0 9 rfl rfl)
theorem dX0_has_10 : decode cX0_has 10 = .ok (.goto 4, 3) := dk_167 0 4 (dk_at dksX0_has_0 10 rfl rfl)
theorem dX0_has_13 : decode cX0_has 13 = .ok (.iconst 0, 1) := dk_3 (dk_at dksX0_has_0 13 rfl rfl)
theorem dX0_has_14 : decode cX0_has 14 = .ok (.ireturn, 1) := dk_172 (dk_at dksX0_has_0 14 rfl rfl)
abbrev cX0_heapOf : ByteArray := prog_1_method_11_code
def yX0_heapOf : MethodName := ⟨RX0, "heapOf", "(II)I"⟩
def dkwX0_heapOf_2 : List UInt8 := [132, 5, 1, 167, 255, 222, 28, 21, 4, 159, 0, 7, 4, 167, 0, 4, 3, 62, 167, 255, 197, 28, 172]
abbrev dktX0_heapOf_2 : List UInt8 := dkwX0_heapOf_2 ++ []
def dkwX0_heapOf_1 : List UInt8 := [21, 4, 21, 5, 184, 0, 21, 153, 0, 13, 21, 5, 184, 0, 25, 27, 126, 167, 0, 4, 3, 128, 61]
abbrev dktX0_heapOf_1 : List UInt8 := dkwX0_heapOf_1 ++ dktX0_heapOf_2
def dkwX0_heapOf_0 : List UInt8 := [4, 26, 120, 61, 4, 62, 29, 153, 0, 61, 28, 54, 4, 3, 54, 5, 21, 5, 16, 25, 162, 0, 33, 28]
abbrev dktX0_heapOf_0 : List UInt8 := dkwX0_heapOf_0 ++ dktX0_heapOf_1
theorem dksX0_heapOf_0 : cX0_heapOf.data.toList.drop 0 = dktX0_heapOf_0 := by decide +kernel
theorem dksX0_heapOf_1 : cX0_heapOf.data.toList.drop 24 = dktX0_heapOf_1 := dk_seg dksX0_heapOf_0 24 rfl rfl
theorem dksX0_heapOf_2 : cX0_heapOf.data.toList.drop 47 = dktX0_heapOf_2 := dk_seg dksX0_heapOf_1 23 rfl rfl
theorem dX0_heapOf_0 : decode cX0_heapOf 0 = .ok (.iconst 1, 1) := dk_4 (dk_at dksX0_heapOf_0 0 rfl rfl)
theorem dX0_heapOf_1 : decode cX0_heapOf 1 = .ok (.iload_n 0, 1) := dk_26 (dk_at dksX0_heapOf_0 1 rfl rfl)
theorem dX0_heapOf_2 : decode cX0_heapOf 2 = .ok (.ishl, 1) := dk_120 (dk_at dksX0_heapOf_0 2 rfl rfl)
theorem dX0_heapOf_3 : decode cX0_heapOf 3 = .ok (.istore_n 2, 1) := dk_61 (dk_at dksX0_heapOf_0 3 rfl rfl)
theorem dX0_heapOf_4 : decode cX0_heapOf 4 = .ok (.iconst 1, 1) := dk_4 (dk_at dksX0_heapOf_0 4 rfl rfl)
theorem dX0_heapOf_5 : decode cX0_heapOf 5 = .ok (.istore_n 3, 1) := dk_62 (dk_at dksX0_heapOf_0 5 rfl rfl)
theorem dX0_heapOf_6 : decode cX0_heapOf 6 = .ok (.iload_n 3, 1) := dk_29 (dk_at dksX0_heapOf_0 6 rfl rfl)
theorem dX0_heapOf_7 : decode cX0_heapOf 7 = .ok (.ifCond .eq 61, 3) := dk_153 0 61 (dk_at dksX0_heapOf_0 7 rfl rfl)
theorem dX0_heapOf_10 : decode cX0_heapOf 10 = .ok (.iload_n 2, 1) := dk_28 (dk_at dksX0_heapOf_0 10 rfl rfl)
theorem dX0_heapOf_11 : decode cX0_heapOf 11 = .ok (.istore 4, 2) := dk_54 4 (dk_at dksX0_heapOf_0 11 rfl rfl)
theorem dX0_heapOf_13 : decode cX0_heapOf 13 = .ok (.iconst 0, 1) := dk_3 (dk_at dksX0_heapOf_0 13 rfl rfl)
theorem dX0_heapOf_14 : decode cX0_heapOf 14 = .ok (.istore 5, 2) := dk_54 5 (dk_at dksX0_heapOf_0 14 rfl rfl)
theorem dX0_heapOf_16 : decode cX0_heapOf 16 = .ok (.iload 5, 2) := dk_21 5 (dk_at dksX0_heapOf_0 16 rfl rfl)
theorem dX0_heapOf_18 : decode cX0_heapOf 18 = .ok (.bipush 25, 2) := dk_16 25 (dk_at dksX0_heapOf_0 18 rfl rfl)
theorem dX0_heapOf_20 : decode cX0_heapOf 20 = .ok (.if_icmp .ge 33, 3) := dk_162 0 33 (dk_at dksX0_heapOf_0 20 rfl rfl)
theorem dX0_heapOf_23 : decode cX0_heapOf 23 = .ok (.iload_n 2, 1) := dk_28 (dk_at dksX0_heapOf_0 23 rfl rfl)
theorem dX0_heapOf_24 : decode cX0_heapOf 24 = .ok (.iload 4, 2) := dk_21 4 (dk_at dksX0_heapOf_1 0 rfl rfl)
theorem dX0_heapOf_26 : decode cX0_heapOf 26 = .ok (.iload 5, 2) := dk_21 5 (dk_at dksX0_heapOf_1 2 rfl rfl)
theorem dX0_heapOf_28 : decode cX0_heapOf 28 = .ok (.invokestatic 21, 3) := dk_184 0 21 (dk_at dksX0_heapOf_1 4 rfl rfl)
theorem dX0_heapOf_31 : decode cX0_heapOf 31 = .ok (.ifCond .eq 13, 3) := dk_153 0 13 (dk_at dksX0_heapOf_1 7 rfl rfl)
theorem dX0_heapOf_34 : decode cX0_heapOf 34 = .ok (.iload 5, 2) := dk_21 5 (dk_at dksX0_heapOf_1 10 rfl rfl)
theorem dX0_heapOf_36 : decode cX0_heapOf 36 = .ok (.invokestatic 25, 3) := dk_184 0 25 (dk_at dksX0_heapOf_1 12 rfl rfl)
theorem dX0_heapOf_39 : decode cX0_heapOf 39 = .ok (.iload_n 1, 1) := dk_27 (dk_at dksX0_heapOf_1 15 rfl rfl)
theorem dX0_heapOf_40 : decode cX0_heapOf 40 = .ok (.iand, 1) := dk_126 (dk_at dksX0_heapOf_1 16 rfl rfl)
theorem dX0_heapOf_41 : decode cX0_heapOf 41 = .ok (.goto 4, 3) := dk_167 0 4 (dk_at dksX0_heapOf_1 17 rfl rfl)
theorem dX0_heapOf_44 : decode cX0_heapOf 44 = .ok (.iconst 0, 1) := dk_3 (dk_at dksX0_heapOf_1 20 rfl rfl)
theorem dX0_heapOf_45 : decode cX0_heapOf 45 = .ok (.ior, 1) := dk_128 (dk_at dksX0_heapOf_1 21 rfl rfl)
theorem dX0_heapOf_46 : decode cX0_heapOf 46 = .ok (.istore_n 2, 1) := dk_61 (dk_at dksX0_heapOf_1 22 rfl rfl)
theorem dX0_heapOf_47 : decode cX0_heapOf 47 = .ok (.iinc 5 1, 3) := dk_132 5 1 (dk_at dksX0_heapOf_2 0 rfl rfl)
theorem dX0_heapOf_50 : decode cX0_heapOf 50 = .ok (.goto (-34), 3) := dk_167 255 222 (dk_at dksX0_heapOf_2 3 rfl rfl)
theorem dX0_heapOf_53 : decode cX0_heapOf 53 = .ok (.iload_n 2, 1) := dk_28 (dk_at dksX0_heapOf_2 6 rfl rfl)
theorem dX0_heapOf_54 : decode cX0_heapOf 54 = .ok (.iload 4, 2) := dk_21 4 (dk_at dksX0_heapOf_2 7 rfl rfl)
theorem dX0_heapOf_56 : decode cX0_heapOf 56 = .ok (.if_icmp .eq 7, 3) := dk_159 0 7 (dk_at dksX0_heapOf_2 9 rfl rfl)
theorem dX0_heapOf_59 : decode cX0_heapOf 59 = .ok (.iconst 1, 1) := dk_4 (dk_at dksX0_heapOf_2 12 rfl rfl)
theorem dX0_heapOf_60 : decode cX0_heapOf 60 = .ok (.goto 4, 3) := dk_167 0 4 (dk_at dksX0_heapOf_2 13 rfl rfl)
theorem dX0_heapOf_63 : decode cX0_heapOf 63 = .ok (.iconst 0, 1) := dk_3 (dk_at dksX0_heapOf_2 16 rfl rfl)
theorem dX0_heapOf_64 : decode cX0_heapOf 64 = .ok (.istore_n 3, 1) := dk_62 (dk_at dksX0_heapOf_2 17 rfl rfl)
theorem dX0_heapOf_65 : decode cX0_heapOf 65 = .ok (.goto (-59), 3) := dk_167 255 197 (dk_at dksX0_heapOf_2 18 rfl rfl)
theorem dX0_heapOf_68 : decode cX0_heapOf 68 = .ok (.iload_n 2, 1) := dk_28 (dk_at dksX0_heapOf_2 21 rfl rfl)
theorem dX0_heapOf_69 : decode cX0_heapOf 69 = .ok (.ireturn, 1) := dk_172 (dk_at dksX0_heapOf_2 22 rfl rfl)
abbrev cX0_besideBits : ByteArray := prog_1_method_12_code
def yX0_besideBits : MethodName := ⟨RX0, "besideBits", "(I)I"⟩
def dkwX0_besideBits_1 : List UInt8 := [167, 0, 6, 4, 29, 120, 128, 60, 132, 2, 1, 167, 255, 226, 27, 172]
abbrev dktX0_besideBits_1 : List UInt8 := dkwX0_besideBits_1 ++ []
def dkwX0_besideBits_0 : List UInt8 := [3, 60, 3, 61, 28, 7, 162, 0, 31, 26, 28, 184, 0, 29, 62, 27, 29, 16, 247, 160, 0, 7, 3]
abbrev dktX0_besideBits_0 : List UInt8 := dkwX0_besideBits_0 ++ dktX0_besideBits_1
theorem dksX0_besideBits_0 : cX0_besideBits.data.toList.drop 0 = dktX0_besideBits_0 := by decide +kernel
theorem dksX0_besideBits_1 : cX0_besideBits.data.toList.drop 23 = dktX0_besideBits_1 := dk_seg dksX0_besideBits_0 23 rfl rfl
theorem dX0_besideBits_0 : decode cX0_besideBits 0 = .ok (.iconst 0, 1) := dk_3 (dk_at dksX0_besideBits_0 0 rfl rfl)
theorem dX0_besideBits_1 : decode cX0_besideBits 1 = .ok (.istore_n 1, 1) := dk_60 (dk_at dksX0_besideBits_0 1 rfl rfl)
theorem dX0_besideBits_2 : decode cX0_besideBits 2 = .ok (.iconst 0, 1) := dk_3 (dk_at dksX0_besideBits_0 2 rfl rfl)
theorem dX0_besideBits_3 : decode cX0_besideBits 3 = .ok (.istore_n 2, 1) := dk_61 (dk_at dksX0_besideBits_0 3 rfl rfl)
theorem dX0_besideBits_4 : decode cX0_besideBits 4 = .ok (.iload_n 2, 1) := dk_28 (dk_at dksX0_besideBits_0 4 rfl rfl)
theorem dX0_besideBits_5 : decode cX0_besideBits 5 = .ok (.iconst 4, 1) := dk_7 (dk_at dksX0_besideBits_0 5 rfl rfl)
theorem dX0_besideBits_6 : decode cX0_besideBits 6 = .ok (.if_icmp .ge 31, 3) := dk_162 0 31 (dk_at dksX0_besideBits_0 6 rfl rfl)
theorem dX0_besideBits_9 : decode cX0_besideBits 9 = .ok (.iload_n 0, 1) := dk_26 (dk_at dksX0_besideBits_0 9 rfl rfl)
theorem dX0_besideBits_10 : decode cX0_besideBits 10 = .ok (.iload_n 2, 1) := dk_28 (dk_at dksX0_besideBits_0 10 rfl rfl)
theorem dX0_besideBits_11 : decode cX0_besideBits 11 = .ok (.invokestatic 29, 3) := dk_184 0 29 (dk_at dksX0_besideBits_0 11 rfl rfl)
theorem dX0_besideBits_14 : decode cX0_besideBits 14 = .ok (.istore_n 3, 1) := dk_62 (dk_at dksX0_besideBits_0 14 rfl rfl)
theorem dX0_besideBits_15 : decode cX0_besideBits 15 = .ok (.iload_n 1, 1) := dk_27 (dk_at dksX0_besideBits_0 15 rfl rfl)
theorem dX0_besideBits_16 : decode cX0_besideBits 16 = .ok (.iload_n 3, 1) := dk_29 (dk_at dksX0_besideBits_0 16 rfl rfl)
theorem dX0_besideBits_17 : decode cX0_besideBits 17 = .ok (.bipush (-9), 2) := dk_16 247 (dk_at dksX0_besideBits_0 17 rfl rfl)
theorem dX0_besideBits_19 : decode cX0_besideBits 19 = .ok (.if_icmp .ne 7, 3) := dk_160 0 7 (dk_at dksX0_besideBits_0 19 rfl rfl)
theorem dX0_besideBits_22 : decode cX0_besideBits 22 = .ok (.iconst 0, 1) := dk_3 (dk_at dksX0_besideBits_0 22 rfl rfl)
theorem dX0_besideBits_23 : decode cX0_besideBits 23 = .ok (.goto 6, 3) := dk_167 0 6 (dk_at dksX0_besideBits_1 0 rfl rfl)
theorem dX0_besideBits_26 : decode cX0_besideBits 26 = .ok (.iconst 1, 1) := dk_4 (dk_at dksX0_besideBits_1 3 rfl rfl)
theorem dX0_besideBits_27 : decode cX0_besideBits 27 = .ok (.iload_n 3, 1) := dk_29 (dk_at dksX0_besideBits_1 4 rfl rfl)
theorem dX0_besideBits_28 : decode cX0_besideBits 28 = .ok (.ishl, 1) := dk_120 (dk_at dksX0_besideBits_1 5 rfl rfl)
theorem dX0_besideBits_29 : decode cX0_besideBits 29 = .ok (.ior, 1) := dk_128 (dk_at dksX0_besideBits_1 6 rfl rfl)
theorem dX0_besideBits_30 : decode cX0_besideBits 30 = .ok (.istore_n 1, 1) := dk_60 (dk_at dksX0_besideBits_1 7 rfl rfl)
theorem dX0_besideBits_31 : decode cX0_besideBits 31 = .ok (.iinc 2 1, 3) := dk_132 2 1 (dk_at dksX0_besideBits_1 8 rfl rfl)
theorem dX0_besideBits_34 : decode cX0_besideBits 34 = .ok (.goto (-30), 3) := dk_167 255 226 (dk_at dksX0_besideBits_1 11 rfl rfl)
theorem dX0_besideBits_37 : decode cX0_besideBits 37 = .ok (.iload_n 1, 1) := dk_27 (dk_at dksX0_besideBits_1 14 rfl rfl)
theorem dX0_besideBits_38 : decode cX0_besideBits 38 = .ok (.ireturn, 1) := dk_172 (dk_at dksX0_besideBits_1 15 rfl rfl)
abbrev cX0_beside : ByteArray := prog_1_method_9_code
def yX0_beside : MethodName := ⟨RX0, "beside", "(II)I"⟩
def dkwX0_beside_4 : List UInt8 := [167, 0, 6, 26, 8, 96, 172]
abbrev dktX0_beside_4 : List UInt8 := dkwX0_beside_4 ++ []
def dkwX0_beside_3 : List UInt8 := [100, 172, 29, 7, 160, 0, 8, 16, 247, 167, 0, 6, 26, 4, 96, 172, 28, 7, 160, 0, 8, 16, 247]
abbrev dktX0_beside_3 : List UInt8 := dkwX0_beside_3 ++ dktX0_beside_4
def dkwX0_beside_2 : List UInt8 := [28, 154, 0, 8, 16, 247, 167, 0, 6, 26, 8, 100, 172, 29, 154, 0, 8, 16, 247, 167, 0, 6, 26, 4]
abbrev dktX0_beside_2 : List UInt8 := dkwX0_beside_2 ++ dktX0_beside_3
def dkwX0_beside_1 : List UInt8 := [170, 0, 0, 0, 0, 0, 67, 0, 0, 0, 0, 0, 0, 0, 2, 0, 0, 0, 27, 0, 0, 0, 40, 0, 0, 0, 53]
abbrev dktX0_beside_1 : List UInt8 := dkwX0_beside_1 ++ dktX0_beside_2
def dkwX0_beside_0 : List UInt8 := [26, 8, 108, 61, 26, 8, 112, 62, 27]
abbrev dktX0_beside_0 : List UInt8 := dkwX0_beside_0 ++ dktX0_beside_1
theorem dksX0_beside_0 : cX0_beside.data.toList.drop 0 = dktX0_beside_0 := by decide +kernel
theorem dksX0_beside_1 : cX0_beside.data.toList.drop 9 = dktX0_beside_1 := dk_seg dksX0_beside_0 9 rfl rfl
theorem dksX0_beside_2 : cX0_beside.data.toList.drop 36 = dktX0_beside_2 := dk_seg dksX0_beside_1 27 rfl rfl
theorem dksX0_beside_3 : cX0_beside.data.toList.drop 60 = dktX0_beside_3 := dk_seg dksX0_beside_2 24 rfl rfl
theorem dksX0_beside_4 : cX0_beside.data.toList.drop 83 = dktX0_beside_4 := dk_seg dksX0_beside_3 23 rfl rfl
theorem dX0_beside_0 : decode cX0_beside 0 = .ok (.iload_n 0, 1) := dk_26 (dk_at dksX0_beside_0 0 rfl rfl)
theorem dX0_beside_1 : decode cX0_beside 1 = .ok (.iconst 5, 1) := dk_8 (dk_at dksX0_beside_0 1 rfl rfl)
theorem dX0_beside_2 : decode cX0_beside 2 = .ok (.idiv, 1) := dk_108 (dk_at dksX0_beside_0 2 rfl rfl)
theorem dX0_beside_3 : decode cX0_beside 3 = .ok (.istore_n 2, 1) := dk_61 (dk_at dksX0_beside_0 3 rfl rfl)
theorem dX0_beside_4 : decode cX0_beside 4 = .ok (.iload_n 0, 1) := dk_26 (dk_at dksX0_beside_0 4 rfl rfl)
theorem dX0_beside_5 : decode cX0_beside 5 = .ok (.iconst 5, 1) := dk_8 (dk_at dksX0_beside_0 5 rfl rfl)
theorem dX0_beside_6 : decode cX0_beside 6 = .ok (.irem, 1) := dk_112 (dk_at dksX0_beside_0 6 rfl rfl)
theorem dX0_beside_7 : decode cX0_beside 7 = .ok (.istore_n 3, 1) := dk_62 (dk_at dksX0_beside_0 7 rfl rfl)
theorem dX0_beside_8 : decode cX0_beside 8 = .ok (.iload_n 1, 1) := dk_27 (dk_at dksX0_beside_0 8 rfl rfl)
theorem dX0_beside_9 : decode cX0_beside 9 = .ok (.tableswitch 67 0 2 #[27, 40, 53], 27) := by decide +kernel
theorem dX0_beside_36 : decode cX0_beside 36 = .ok (.iload_n 2, 1) := dk_28 (dk_at dksX0_beside_2 0 rfl rfl)
theorem dX0_beside_37 : decode cX0_beside 37 = .ok (.ifCond .ne 8, 3) := dk_154 0 8 (dk_at dksX0_beside_2 1 rfl rfl)
theorem dX0_beside_40 : decode cX0_beside 40 = .ok (.bipush (-9), 2) := dk_16 247 (dk_at dksX0_beside_2 4 rfl rfl)
theorem dX0_beside_42 : decode cX0_beside 42 = .ok (.goto 6, 3) := dk_167 0 6 (dk_at dksX0_beside_2 6 rfl rfl)
theorem dX0_beside_45 : decode cX0_beside 45 = .ok (.iload_n 0, 1) := dk_26 (dk_at dksX0_beside_2 9 rfl rfl)
theorem dX0_beside_46 : decode cX0_beside 46 = .ok (.iconst 5, 1) := dk_8 (dk_at dksX0_beside_2 10 rfl rfl)
theorem dX0_beside_47 : decode cX0_beside 47 = .ok (.isub, 1) := dk_100 (dk_at dksX0_beside_2 11 rfl rfl)
theorem dX0_beside_48 : decode cX0_beside 48 = .ok (.ireturn, 1) := dk_172 (dk_at dksX0_beside_2 12 rfl rfl)
theorem dX0_beside_49 : decode cX0_beside 49 = .ok (.iload_n 3, 1) := dk_29 (dk_at dksX0_beside_2 13 rfl rfl)
theorem dX0_beside_50 : decode cX0_beside 50 = .ok (.ifCond .ne 8, 3) := dk_154 0 8 (dk_at dksX0_beside_2 14 rfl rfl)
theorem dX0_beside_53 : decode cX0_beside 53 = .ok (.bipush (-9), 2) := dk_16 247 (dk_at dksX0_beside_2 17 rfl rfl)
theorem dX0_beside_55 : decode cX0_beside 55 = .ok (.goto 6, 3) := dk_167 0 6 (dk_at dksX0_beside_2 19 rfl rfl)
theorem dX0_beside_58 : decode cX0_beside 58 = .ok (.iload_n 0, 1) := dk_26 (dk_at dksX0_beside_2 22 rfl rfl)
theorem dX0_beside_59 : decode cX0_beside 59 = .ok (.iconst 1, 1) := dk_4 (dk_at dksX0_beside_2 23 rfl rfl)
theorem dX0_beside_60 : decode cX0_beside 60 = .ok (.isub, 1) := dk_100 (dk_at dksX0_beside_3 0 rfl rfl)
theorem dX0_beside_61 : decode cX0_beside 61 = .ok (.ireturn, 1) := dk_172 (dk_at dksX0_beside_3 1 rfl rfl)
theorem dX0_beside_62 : decode cX0_beside 62 = .ok (.iload_n 3, 1) := dk_29 (dk_at dksX0_beside_3 2 rfl rfl)
theorem dX0_beside_63 : decode cX0_beside 63 = .ok (.iconst 4, 1) := dk_7 (dk_at dksX0_beside_3 3 rfl rfl)
theorem dX0_beside_64 : decode cX0_beside 64 = .ok (.if_icmp .ne 8, 3) := dk_160 0 8 (dk_at dksX0_beside_3 4 rfl rfl)
theorem dX0_beside_67 : decode cX0_beside 67 = .ok (.bipush (-9), 2) := dk_16 247 (dk_at dksX0_beside_3 7 rfl rfl)
theorem dX0_beside_69 : decode cX0_beside 69 = .ok (.goto 6, 3) := dk_167 0 6 (dk_at dksX0_beside_3 9 rfl rfl)
theorem dX0_beside_72 : decode cX0_beside 72 = .ok (.iload_n 0, 1) := dk_26 (dk_at dksX0_beside_3 12 rfl rfl)
theorem dX0_beside_73 : decode cX0_beside 73 = .ok (.iconst 1, 1) := dk_4 (dk_at dksX0_beside_3 13 rfl rfl)
theorem dX0_beside_74 : decode cX0_beside 74 = .ok (.iadd, 1) := dk_96 (dk_at dksX0_beside_3 14 rfl rfl)
theorem dX0_beside_75 : decode cX0_beside 75 = .ok (.ireturn, 1) := dk_172 (dk_at dksX0_beside_3 15 rfl rfl)
theorem dX0_beside_76 : decode cX0_beside 76 = .ok (.iload_n 2, 1) := dk_28 (dk_at dksX0_beside_3 16 rfl rfl)
theorem dX0_beside_77 : decode cX0_beside 77 = .ok (.iconst 4, 1) := dk_7 (dk_at dksX0_beside_3 17 rfl rfl)
theorem dX0_beside_78 : decode cX0_beside 78 = .ok (.if_icmp .ne 8, 3) := dk_160 0 8 (dk_at dksX0_beside_3 18 rfl rfl)
theorem dX0_beside_81 : decode cX0_beside 81 = .ok (.bipush (-9), 2) := dk_16 247 (dk_at dksX0_beside_3 21 rfl rfl)
theorem dX0_beside_83 : decode cX0_beside 83 = .ok (.goto 6, 3) := dk_167 0 6 (dk_at dksX0_beside_4 0 rfl rfl)
theorem dX0_beside_86 : decode cX0_beside 86 = .ok (.iload_n 0, 1) := dk_26 (dk_at dksX0_beside_4 3 rfl rfl)
theorem dX0_beside_87 : decode cX0_beside 87 = .ok (.iconst 5, 1) := dk_8 (dk_at dksX0_beside_4 4 rfl rfl)
theorem dX0_beside_88 : decode cX0_beside 88 = .ok (.iadd, 1) := dk_96 (dk_at dksX0_beside_4 5 rfl rfl)
theorem dX0_beside_89 : decode cX0_beside 89 = .ok (.ireturn, 1) := dk_172 (dk_at dksX0_beside_4 6 rfl rfl)
abbrev cX0_manyIn : ByteArray := prog_1_method_10_code
def yX0_manyIn : MethodName := ⟨RX0, "manyIn", "(I)I"⟩
def dkwX0_manyIn_0 : List UInt8 := [3, 60, 26, 61, 28, 153, 0, 15, 132, 1, 1, 28, 28, 4, 100, 126, 61, 167, 255, 243, 27, 172]
abbrev dktX0_manyIn_0 : List UInt8 := dkwX0_manyIn_0 ++ []
theorem dksX0_manyIn_0 : cX0_manyIn.data.toList.drop 0 = dktX0_manyIn_0 := by decide +kernel
theorem dX0_manyIn_0 : decode cX0_manyIn 0 = .ok (.iconst 0, 1) := dk_3 (dk_at dksX0_manyIn_0 0 rfl rfl)
theorem dX0_manyIn_1 : decode cX0_manyIn 1 = .ok (.istore_n 1, 1) := dk_60 (dk_at dksX0_manyIn_0 1 rfl rfl)
theorem dX0_manyIn_2 : decode cX0_manyIn 2 = .ok (.iload_n 0, 1) := dk_26 (dk_at dksX0_manyIn_0 2 rfl rfl)
theorem dX0_manyIn_3 : decode cX0_manyIn 3 = .ok (.istore_n 2, 1) := dk_61 (dk_at dksX0_manyIn_0 3 rfl rfl)
theorem dX0_manyIn_4 : decode cX0_manyIn 4 = .ok (.iload_n 2, 1) := dk_28 (dk_at dksX0_manyIn_0 4 rfl rfl)
theorem dX0_manyIn_5 : decode cX0_manyIn 5 = .ok (.ifCond .eq 15, 3) := dk_153 0 15 (dk_at dksX0_manyIn_0 5 rfl rfl)
theorem dX0_manyIn_8 : decode cX0_manyIn 8 = .ok (.iinc 1 1, 3) := dk_132 1 1 (dk_at dksX0_manyIn_0 8 rfl rfl)
theorem dX0_manyIn_11 : decode cX0_manyIn 11 = .ok (.iload_n 2, 1) := dk_28 (dk_at dksX0_manyIn_0 11 rfl rfl)
theorem dX0_manyIn_12 : decode cX0_manyIn 12 = .ok (.iload_n 2, 1) := dk_28 (dk_at dksX0_manyIn_0 12 rfl rfl)
theorem dX0_manyIn_13 : decode cX0_manyIn 13 = .ok (.iconst 1, 1) := dk_4 (dk_at dksX0_manyIn_0 13 rfl rfl)
theorem dX0_manyIn_14 : decode cX0_manyIn 14 = .ok (.isub, 1) := dk_100 (dk_at dksX0_manyIn_0 14 rfl rfl)
theorem dX0_manyIn_15 : decode cX0_manyIn 15 = .ok (.iand, 1) := dk_126 (dk_at dksX0_manyIn_0 15 rfl rfl)
theorem dX0_manyIn_16 : decode cX0_manyIn 16 = .ok (.istore_n 2, 1) := dk_61 (dk_at dksX0_manyIn_0 16 rfl rfl)
theorem dX0_manyIn_17 : decode cX0_manyIn 17 = .ok (.goto (-13), 3) := dk_167 255 243 (dk_at dksX0_manyIn_0 17 rfl rfl)
theorem dX0_manyIn_20 : decode cX0_manyIn 20 = .ok (.iload_n 1, 1) := dk_27 (dk_at dksX0_manyIn_0 20 rfl rfl)
theorem dX0_manyIn_21 : decode cX0_manyIn 21 = .ok (.ireturn, 1) := dk_172 (dk_at dksX0_manyIn_0 21 rfl rfl)
abbrev cX0_rolled : ByteArray := prog_1_method_14_code
def yX0_rolled : MethodName := ⟨RX0, "rolled", "(I)I"⟩
def dkwX0_rolled_2 : List UInt8 := [27, 172]
abbrev dktX0_rolled_2 : List UInt8 := dkwX0_rolled_2 ++ []
def dkwX0_rolled_1 : List UInt8 := [27, 26, 28, 184, 0, 21, 153, 0, 9, 4, 29, 120, 167, 0, 4, 3, 128, 60, 132, 2, 1, 167, 255, 215]
abbrev dktX0_rolled_1 : List UInt8 := dkwX0_rolled_1 ++ dktX0_rolled_2
def dkwX0_rolled_0 : List UInt8 := [3, 60, 3, 61, 28, 16, 25, 162, 0, 41, 8, 28, 8, 112, 104, 8, 96, 4, 100, 28, 8, 108, 100, 62]
abbrev dktX0_rolled_0 : List UInt8 := dkwX0_rolled_0 ++ dktX0_rolled_1
theorem dksX0_rolled_0 : cX0_rolled.data.toList.drop 0 = dktX0_rolled_0 := by decide +kernel
theorem dksX0_rolled_1 : cX0_rolled.data.toList.drop 24 = dktX0_rolled_1 := dk_seg dksX0_rolled_0 24 rfl rfl
theorem dksX0_rolled_2 : cX0_rolled.data.toList.drop 48 = dktX0_rolled_2 := dk_seg dksX0_rolled_1 24 rfl rfl
theorem dX0_rolled_0 : decode cX0_rolled 0 = .ok (.iconst 0, 1) := dk_3 (dk_at dksX0_rolled_0 0 rfl rfl)
theorem dX0_rolled_1 : decode cX0_rolled 1 = .ok (.istore_n 1, 1) := dk_60 (dk_at dksX0_rolled_0 1 rfl rfl)
theorem dX0_rolled_2 : decode cX0_rolled 2 = .ok (.iconst 0, 1) := dk_3 (dk_at dksX0_rolled_0 2 rfl rfl)
theorem dX0_rolled_3 : decode cX0_rolled 3 = .ok (.istore_n 2, 1) := dk_61 (dk_at dksX0_rolled_0 3 rfl rfl)
theorem dX0_rolled_4 : decode cX0_rolled 4 = .ok (.iload_n 2, 1) := dk_28 (dk_at dksX0_rolled_0 4 rfl rfl)
theorem dX0_rolled_5 : decode cX0_rolled 5 = .ok (.bipush 25, 2) := dk_16 25 (dk_at dksX0_rolled_0 5 rfl rfl)
theorem dX0_rolled_7 : decode cX0_rolled 7 = .ok (.if_icmp .ge 41, 3) := dk_162 0 41 (dk_at dksX0_rolled_0 7 rfl rfl)
theorem dX0_rolled_10 : decode cX0_rolled 10 = .ok (.iconst 5, 1) := dk_8 (dk_at dksX0_rolled_0 10 rfl rfl)
theorem dX0_rolled_11 : decode cX0_rolled 11 = .ok (.iload_n 2, 1) := dk_28 (dk_at dksX0_rolled_0 11 rfl rfl)
theorem dX0_rolled_12 : decode cX0_rolled 12 = .ok (.iconst 5, 1) := dk_8 (dk_at dksX0_rolled_0 12 rfl rfl)
theorem dX0_rolled_13 : decode cX0_rolled 13 = .ok (.irem, 1) := dk_112 (dk_at dksX0_rolled_0 13 rfl rfl)
theorem dX0_rolled_14 : decode cX0_rolled 14 = .ok (.imul, 1) := dk_104 (dk_at dksX0_rolled_0 14 rfl rfl)
theorem dX0_rolled_15 : decode cX0_rolled 15 = .ok (.iconst 5, 1) := dk_8 (dk_at dksX0_rolled_0 15 rfl rfl)
theorem dX0_rolled_16 : decode cX0_rolled 16 = .ok (.iadd, 1) := dk_96 (dk_at dksX0_rolled_0 16 rfl rfl)
theorem dX0_rolled_17 : decode cX0_rolled 17 = .ok (.iconst 1, 1) := dk_4 (dk_at dksX0_rolled_0 17 rfl rfl)
theorem dX0_rolled_18 : decode cX0_rolled 18 = .ok (.isub, 1) := dk_100 (dk_at dksX0_rolled_0 18 rfl rfl)
theorem dX0_rolled_19 : decode cX0_rolled 19 = .ok (.iload_n 2, 1) := dk_28 (dk_at dksX0_rolled_0 19 rfl rfl)
theorem dX0_rolled_20 : decode cX0_rolled 20 = .ok (.iconst 5, 1) := dk_8 (dk_at dksX0_rolled_0 20 rfl rfl)
theorem dX0_rolled_21 : decode cX0_rolled 21 = .ok (.idiv, 1) := dk_108 (dk_at dksX0_rolled_0 21 rfl rfl)
theorem dX0_rolled_22 : decode cX0_rolled 22 = .ok (.isub, 1) := dk_100 (dk_at dksX0_rolled_0 22 rfl rfl)
theorem dX0_rolled_23 : decode cX0_rolled 23 = .ok (.istore_n 3, 1) := dk_62 (dk_at dksX0_rolled_0 23 rfl rfl)
theorem dX0_rolled_24 : decode cX0_rolled 24 = .ok (.iload_n 1, 1) := dk_27 (dk_at dksX0_rolled_1 0 rfl rfl)
theorem dX0_rolled_25 : decode cX0_rolled 25 = .ok (.iload_n 0, 1) := dk_26 (dk_at dksX0_rolled_1 1 rfl rfl)
theorem dX0_rolled_26 : decode cX0_rolled 26 = .ok (.iload_n 2, 1) := dk_28 (dk_at dksX0_rolled_1 2 rfl rfl)
theorem dX0_rolled_27 : decode cX0_rolled 27 = .ok (.invokestatic 21, 3) := dk_184 0 21 (dk_at dksX0_rolled_1 3 rfl rfl)
theorem dX0_rolled_30 : decode cX0_rolled 30 = .ok (.ifCond .eq 9, 3) := dk_153 0 9 (dk_at dksX0_rolled_1 6 rfl rfl)
theorem dX0_rolled_33 : decode cX0_rolled 33 = .ok (.iconst 1, 1) := dk_4 (dk_at dksX0_rolled_1 9 rfl rfl)
theorem dX0_rolled_34 : decode cX0_rolled 34 = .ok (.iload_n 3, 1) := dk_29 (dk_at dksX0_rolled_1 10 rfl rfl)
theorem dX0_rolled_35 : decode cX0_rolled 35 = .ok (.ishl, 1) := dk_120 (dk_at dksX0_rolled_1 11 rfl rfl)
theorem dX0_rolled_36 : decode cX0_rolled 36 = .ok (.goto 4, 3) := dk_167 0 4 (dk_at dksX0_rolled_1 12 rfl rfl)
theorem dX0_rolled_39 : decode cX0_rolled 39 = .ok (.iconst 0, 1) := dk_3 (dk_at dksX0_rolled_1 15 rfl rfl)
theorem dX0_rolled_40 : decode cX0_rolled 40 = .ok (.ior, 1) := dk_128 (dk_at dksX0_rolled_1 16 rfl rfl)
theorem dX0_rolled_41 : decode cX0_rolled 41 = .ok (.istore_n 1, 1) := dk_60 (dk_at dksX0_rolled_1 17 rfl rfl)
theorem dX0_rolled_42 : decode cX0_rolled 42 = .ok (.iinc 2 1, 3) := dk_132 2 1 (dk_at dksX0_rolled_1 18 rfl rfl)
theorem dX0_rolled_45 : decode cX0_rolled 45 = .ok (.goto (-41), 3) := dk_167 255 215 (dk_at dksX0_rolled_1 21 rfl rfl)
theorem dX0_rolled_48 : decode cX0_rolled 48 = .ok (.iload_n 1, 1) := dk_27 (dk_at dksX0_rolled_2 0 rfl rfl)
theorem dX0_rolled_49 : decode cX0_rolled 49 = .ok (.ireturn, 1) := dk_172 (dk_at dksX0_rolled_2 1 rfl rfl)
abbrev cX0_cellAsked : ByteArray := prog_1_method_65_code
def yX0_cellAsked : MethodName := ⟨RX0, "cellAsked", "(II)I"⟩
def dkwX0_cellAsked_3 : List UInt8 := [180, 0, 65, 180, 0, 168, 126, 184, 0, 165, 167, 0, 12, 29, 153, 0, 7, 4, 167, 0, 4, 3, 172]
abbrev dktX0_cellAsked_3 : List UInt8 := dkwX0_cellAsked_3 ++ []
def dkwX0_cellAsked_2 : List UInt8 := [180, 0, 168, 184, 0, 172, 184, 0, 165, 167, 0, 4, 3, 172, 28, 4, 160, 0, 21, 27, 184, 0, 25, 42]
abbrev dktX0_cellAsked_2 : List UInt8 := dkwX0_cellAsked_2 ++ dktX0_cellAsked_3
def dkwX0_cellAsked_1 : List UInt8 := [180, 0, 168, 27, 184, 0, 21, 62, 28, 5, 160, 0, 26, 29, 153, 0, 20, 27, 42, 180, 0, 65]
abbrev dktX0_cellAsked_1 : List UInt8 := dkwX0_cellAsked_1 ++ dktX0_cellAsked_2
def dkwX0_cellAsked_0 : List UInt8 := [27, 184, 1, 82, 28, 133, 9, 20, 0, 253, 184, 0, 13, 16, 254, 184, 0, 9, 42, 180, 0, 65]
abbrev dktX0_cellAsked_0 : List UInt8 := dkwX0_cellAsked_0 ++ dktX0_cellAsked_1
theorem dksX0_cellAsked_0 : cX0_cellAsked.data.toList.drop 0 = dktX0_cellAsked_0 := by decide +kernel
theorem dksX0_cellAsked_1 : cX0_cellAsked.data.toList.drop 22 = dktX0_cellAsked_1 := dk_seg dksX0_cellAsked_0 22 rfl rfl
theorem dksX0_cellAsked_2 : cX0_cellAsked.data.toList.drop 44 = dktX0_cellAsked_2 := dk_seg dksX0_cellAsked_1 22 rfl rfl
theorem dksX0_cellAsked_3 : cX0_cellAsked.data.toList.drop 68 = dktX0_cellAsked_3 := dk_seg dksX0_cellAsked_2 24 rfl rfl
theorem dX0_cellAsked_0 : decode cX0_cellAsked 0 = .ok (.iload_n 1, 1) := dk_27 (dk_at dksX0_cellAsked_0 0 rfl rfl)
theorem dX0_cellAsked_1 : decode cX0_cellAsked 1 = .ok (.invokestatic 338, 3) := dk_184 1 82 (dk_at dksX0_cellAsked_0 1 rfl rfl)
theorem dX0_cellAsked_4 : decode cX0_cellAsked 4 = .ok (.iload_n 2, 1) := dk_28 (dk_at dksX0_cellAsked_0 4 rfl rfl)
theorem dX0_cellAsked_5 : decode cX0_cellAsked 5 = .ok (.i2l, 1) := dk_133 (dk_at dksX0_cellAsked_0 5 rfl rfl)
theorem dX0_cellAsked_6 : decode cX0_cellAsked 6 = .ok (.lconst 0, 1) := dk_9 (dk_at dksX0_cellAsked_0 6 rfl rfl)
theorem dX0_cellAsked_7 : decode cX0_cellAsked 7 = .ok (.ldc2_w 253, 3) := dk_20 0 253 (dk_at dksX0_cellAsked_0 7 rfl rfl)
theorem dX0_cellAsked_10 : decode cX0_cellAsked 10 = .ok (.invokestatic 13, 3) := dk_184 0 13 (dk_at dksX0_cellAsked_0 10 rfl rfl)
theorem dX0_cellAsked_13 : decode cX0_cellAsked 13 = .ok (.bipush (-2), 2) := dk_16 254 (dk_at dksX0_cellAsked_0 13 rfl rfl)
theorem dX0_cellAsked_15 : decode cX0_cellAsked 15 = .ok (.invokestatic 9, 3) := dk_184 0 9 (dk_at dksX0_cellAsked_0 15 rfl rfl)
theorem dX0_cellAsked_18 : decode cX0_cellAsked 18 = .ok (.aload_n 0, 1) := dk_42 (dk_at dksX0_cellAsked_0 18 rfl rfl)
theorem dX0_cellAsked_19 : decode cX0_cellAsked 19 = .ok (.getfield 65, 3) := dk_180 0 65 (dk_at dksX0_cellAsked_0 19 rfl rfl)
theorem dX0_cellAsked_22 : decode cX0_cellAsked 22 = .ok (.getfield 168, 3) := dk_180 0 168 (dk_at dksX0_cellAsked_1 0 rfl rfl)
theorem dX0_cellAsked_25 : decode cX0_cellAsked 25 = .ok (.iload_n 1, 1) := dk_27 (dk_at dksX0_cellAsked_1 3 rfl rfl)
theorem dX0_cellAsked_26 : decode cX0_cellAsked 26 = .ok (.invokestatic 21, 3) := dk_184 0 21 (dk_at dksX0_cellAsked_1 4 rfl rfl)
theorem dX0_cellAsked_29 : decode cX0_cellAsked 29 = .ok (.istore_n 3, 1) := dk_62 (dk_at dksX0_cellAsked_1 7 rfl rfl)
theorem dX0_cellAsked_30 : decode cX0_cellAsked 30 = .ok (.iload_n 2, 1) := dk_28 (dk_at dksX0_cellAsked_1 8 rfl rfl)
theorem dX0_cellAsked_31 : decode cX0_cellAsked 31 = .ok (.iconst 2, 1) := dk_5 (dk_at dksX0_cellAsked_1 9 rfl rfl)
theorem dX0_cellAsked_32 : decode cX0_cellAsked 32 = .ok (.if_icmp .ne 26, 3) := dk_160 0 26 (dk_at dksX0_cellAsked_1 10 rfl rfl)
theorem dX0_cellAsked_35 : decode cX0_cellAsked 35 = .ok (.iload_n 3, 1) := dk_29 (dk_at dksX0_cellAsked_1 13 rfl rfl)
theorem dX0_cellAsked_36 : decode cX0_cellAsked 36 = .ok (.ifCond .eq 20, 3) := dk_153 0 20 (dk_at dksX0_cellAsked_1 14 rfl rfl)
theorem dX0_cellAsked_39 : decode cX0_cellAsked 39 = .ok (.iload_n 1, 1) := dk_27 (dk_at dksX0_cellAsked_1 17 rfl rfl)
theorem dX0_cellAsked_40 : decode cX0_cellAsked 40 = .ok (.aload_n 0, 1) := dk_42 (dk_at dksX0_cellAsked_1 18 rfl rfl)
theorem dX0_cellAsked_41 : decode cX0_cellAsked 41 = .ok (.getfield 65, 3) := dk_180 0 65 (dk_at dksX0_cellAsked_1 19 rfl rfl)
theorem dX0_cellAsked_44 : decode cX0_cellAsked 44 = .ok (.getfield 168, 3) := dk_180 0 168 (dk_at dksX0_cellAsked_2 0 rfl rfl)
theorem dX0_cellAsked_47 : decode cX0_cellAsked 47 = .ok (.invokestatic 172, 3) := dk_184 0 172 (dk_at dksX0_cellAsked_2 3 rfl rfl)
theorem dX0_cellAsked_50 : decode cX0_cellAsked 50 = .ok (.invokestatic 165, 3) := dk_184 0 165 (dk_at dksX0_cellAsked_2 6 rfl rfl)
theorem dX0_cellAsked_53 : decode cX0_cellAsked 53 = .ok (.goto 4, 3) := dk_167 0 4 (dk_at dksX0_cellAsked_2 9 rfl rfl)
theorem dX0_cellAsked_56 : decode cX0_cellAsked 56 = .ok (.iconst 0, 1) := dk_3 (dk_at dksX0_cellAsked_2 12 rfl rfl)
theorem dX0_cellAsked_57 : decode cX0_cellAsked 57 = .ok (.ireturn, 1) := dk_172 (dk_at dksX0_cellAsked_2 13 rfl rfl)
theorem dX0_cellAsked_58 : decode cX0_cellAsked 58 = .ok (.iload_n 2, 1) := dk_28 (dk_at dksX0_cellAsked_2 14 rfl rfl)
theorem dX0_cellAsked_59 : decode cX0_cellAsked 59 = .ok (.iconst 1, 1) := dk_4 (dk_at dksX0_cellAsked_2 15 rfl rfl)
theorem dX0_cellAsked_60 : decode cX0_cellAsked 60 = .ok (.if_icmp .ne 21, 3) := dk_160 0 21 (dk_at dksX0_cellAsked_2 16 rfl rfl)
theorem dX0_cellAsked_63 : decode cX0_cellAsked 63 = .ok (.iload_n 1, 1) := dk_27 (dk_at dksX0_cellAsked_2 19 rfl rfl)
theorem dX0_cellAsked_64 : decode cX0_cellAsked 64 = .ok (.invokestatic 25, 3) := dk_184 0 25 (dk_at dksX0_cellAsked_2 20 rfl rfl)
theorem dX0_cellAsked_67 : decode cX0_cellAsked 67 = .ok (.aload_n 0, 1) := dk_42 (dk_at dksX0_cellAsked_2 23 rfl rfl)
theorem dX0_cellAsked_68 : decode cX0_cellAsked 68 = .ok (.getfield 65, 3) := dk_180 0 65 (dk_at dksX0_cellAsked_3 0 rfl rfl)
theorem dX0_cellAsked_71 : decode cX0_cellAsked 71 = .ok (.getfield 168, 3) := dk_180 0 168 (dk_at dksX0_cellAsked_3 3 rfl rfl)
theorem dX0_cellAsked_74 : decode cX0_cellAsked 74 = .ok (.iand, 1) := dk_126 (dk_at dksX0_cellAsked_3 6 rfl rfl)
theorem dX0_cellAsked_75 : decode cX0_cellAsked 75 = .ok (.invokestatic 165, 3) := dk_184 0 165 (dk_at dksX0_cellAsked_3 7 rfl rfl)
theorem dX0_cellAsked_78 : decode cX0_cellAsked 78 = .ok (.goto 12, 3) := dk_167 0 12 (dk_at dksX0_cellAsked_3 10 rfl rfl)
theorem dX0_cellAsked_81 : decode cX0_cellAsked 81 = .ok (.iload_n 3, 1) := dk_29 (dk_at dksX0_cellAsked_3 13 rfl rfl)
theorem dX0_cellAsked_82 : decode cX0_cellAsked 82 = .ok (.ifCond .eq 7, 3) := dk_153 0 7 (dk_at dksX0_cellAsked_3 14 rfl rfl)
theorem dX0_cellAsked_85 : decode cX0_cellAsked 85 = .ok (.iconst 1, 1) := dk_4 (dk_at dksX0_cellAsked_3 17 rfl rfl)
theorem dX0_cellAsked_86 : decode cX0_cellAsked 86 = .ok (.goto 4, 3) := dk_167 0 4 (dk_at dksX0_cellAsked_3 18 rfl rfl)
theorem dX0_cellAsked_89 : decode cX0_cellAsked 89 = .ok (.iconst 0, 1) := dk_3 (dk_at dksX0_cellAsked_3 21 rfl rfl)
theorem dX0_cellAsked_90 : decode cX0_cellAsked 90 = .ok (.ireturn, 1) := dk_172 (dk_at dksX0_cellAsked_3 22 rfl rfl)
abbrev cX0_mustBeCell : ByteArray := prog_1_method_60_code
def yX0_mustBeCell : MethodName := ⟨RX0, "mustBeCell", "(I)V"⟩
def dkwX0_mustBeCell_0 : List UInt8 := [26, 16, 25, 184, 1, 73, 177]
abbrev dktX0_mustBeCell_0 : List UInt8 := dkwX0_mustBeCell_0 ++ []
theorem dksX0_mustBeCell_0 : cX0_mustBeCell.data.toList.drop 0 = dktX0_mustBeCell_0 := by decide +kernel
theorem dX0_mustBeCell_0 : decode cX0_mustBeCell 0 = .ok (.iload_n 0, 1) := dk_26 (dk_at dksX0_mustBeCell_0 0 rfl rfl)
theorem dX0_mustBeCell_1 : decode cX0_mustBeCell 1 = .ok (.bipush 25, 2) := dk_16 25 (dk_at dksX0_mustBeCell_0 1 rfl rfl)
theorem dX0_mustBeCell_3 : decode cX0_mustBeCell 3 = .ok (.invokestatic 329, 3) := dk_184 1 73 (dk_at dksX0_mustBeCell_0 3 rfl rfl)
theorem dX0_mustBeCell_6 : decode cX0_mustBeCell 6 = .ok (.return_, 1) := dk_177 (dk_at dksX0_mustBeCell_0 6 rfl rfl)
abbrev cX0_mustBe : ByteArray := prog_1_method_4_code
def yX0_mustBe : MethodName := ⟨RX0, "mustBe", "(II)V"⟩
def dkwX0_mustBe_0 : List UInt8 := [26, 133, 9, 27, 4, 100, 133, 184, 0, 13, 2, 184, 0, 9, 177]
abbrev dktX0_mustBe_0 : List UInt8 := dkwX0_mustBe_0 ++ []
theorem dksX0_mustBe_0 : cX0_mustBe.data.toList.drop 0 = dktX0_mustBe_0 := by decide +kernel
theorem dX0_mustBe_0 : decode cX0_mustBe 0 = .ok (.iload_n 0, 1) := dk_26 (dk_at dksX0_mustBe_0 0 rfl rfl)
theorem dX0_mustBe_1 : decode cX0_mustBe 1 = .ok (.i2l, 1) := dk_133 (dk_at dksX0_mustBe_0 1 rfl rfl)
theorem dX0_mustBe_2 : decode cX0_mustBe 2 = .ok (.lconst 0, 1) := dk_9 (dk_at dksX0_mustBe_0 2 rfl rfl)
theorem dX0_mustBe_3 : decode cX0_mustBe 3 = .ok (.iload_n 1, 1) := dk_27 (dk_at dksX0_mustBe_0 3 rfl rfl)
theorem dX0_mustBe_4 : decode cX0_mustBe 4 = .ok (.iconst 1, 1) := dk_4 (dk_at dksX0_mustBe_0 4 rfl rfl)
theorem dX0_mustBe_5 : decode cX0_mustBe 5 = .ok (.isub, 1) := dk_100 (dk_at dksX0_mustBe_0 5 rfl rfl)
theorem dX0_mustBe_6 : decode cX0_mustBe 6 = .ok (.i2l, 1) := dk_133 (dk_at dksX0_mustBe_0 6 rfl rfl)
theorem dX0_mustBe_7 : decode cX0_mustBe 7 = .ok (.invokestatic 13, 3) := dk_184 0 13 (dk_at dksX0_mustBe_0 7 rfl rfl)
theorem dX0_mustBe_10 : decode cX0_mustBe 10 = .ok (.iconst (-1), 1) := dk_2 (dk_at dksX0_mustBe_0 10 rfl rfl)
theorem dX0_mustBe_11 : decode cX0_mustBe 11 = .ok (.invokestatic 9, 3) := dk_184 0 9 (dk_at dksX0_mustBe_0 11 rfl rfl)
theorem dX0_mustBe_14 : decode cX0_mustBe 14 = .ok (.return_, 1) := dk_177 (dk_at dksX0_mustBe_0 14 rfl rfl)
abbrev cX0_heirAsked : ByteArray := prog_1_method_66_code
def yX0_heirAsked : MethodName := ⟨RX0, "heirAsked", "(II)I"⟩
def dkwX0_heirAsked_2 : List UInt8 := [180, 1, 31, 27, 46, 167, 0, 11, 42, 180, 0, 65, 27, 182, 0, 144, 172]
abbrev dktX0_heirAsked_2 : List UInt8 := dkwX0_heirAsked_2 ++ []
def dkwX0_heirAsked_1 : List UInt8 := [180, 0, 65, 180, 1, 28, 27, 50, 182, 1, 85, 167, 0, 28, 28, 4, 160, 0, 15, 42, 180, 0, 65]
abbrev dktX0_heirAsked_1 : List UInt8 := dkwX0_heirAsked_1 ++ dktX0_heirAsked_2
def dkwX0_heirAsked_0 : List UInt8 := [42, 27, 182, 0, 194, 28, 133, 9, 20, 0, 253, 184, 0, 13, 16, 254, 184, 0, 9, 28, 154, 0, 18, 42]
abbrev dktX0_heirAsked_0 : List UInt8 := dkwX0_heirAsked_0 ++ dktX0_heirAsked_1
theorem dksX0_heirAsked_0 : cX0_heirAsked.data.toList.drop 0 = dktX0_heirAsked_0 := by decide +kernel
theorem dksX0_heirAsked_1 : cX0_heirAsked.data.toList.drop 24 = dktX0_heirAsked_1 := dk_seg dksX0_heirAsked_0 24 rfl rfl
theorem dksX0_heirAsked_2 : cX0_heirAsked.data.toList.drop 47 = dktX0_heirAsked_2 := dk_seg dksX0_heirAsked_1 23 rfl rfl
theorem dX0_heirAsked_0 : decode cX0_heirAsked 0 = .ok (.aload_n 0, 1) := dk_42 (dk_at dksX0_heirAsked_0 0 rfl rfl)
theorem dX0_heirAsked_1 : decode cX0_heirAsked 1 = .ok (.iload_n 1, 1) := dk_27 (dk_at dksX0_heirAsked_0 1 rfl rfl)
theorem dX0_heirAsked_2 : decode cX0_heirAsked 2 = .ok (.invokevirtual 194, 3) := dk_182 0 194 (dk_at dksX0_heirAsked_0 2 rfl rfl)
theorem dX0_heirAsked_5 : decode cX0_heirAsked 5 = .ok (.iload_n 2, 1) := dk_28 (dk_at dksX0_heirAsked_0 5 rfl rfl)
theorem dX0_heirAsked_6 : decode cX0_heirAsked 6 = .ok (.i2l, 1) := dk_133 (dk_at dksX0_heirAsked_0 6 rfl rfl)
theorem dX0_heirAsked_7 : decode cX0_heirAsked 7 = .ok (.lconst 0, 1) := dk_9 (dk_at dksX0_heirAsked_0 7 rfl rfl)
theorem dX0_heirAsked_8 : decode cX0_heirAsked 8 = .ok (.ldc2_w 253, 3) := dk_20 0 253 (dk_at dksX0_heirAsked_0 8 rfl rfl)
theorem dX0_heirAsked_11 : decode cX0_heirAsked 11 = .ok (.invokestatic 13, 3) := dk_184 0 13 (dk_at dksX0_heirAsked_0 11 rfl rfl)
theorem dX0_heirAsked_14 : decode cX0_heirAsked 14 = .ok (.bipush (-2), 2) := dk_16 254 (dk_at dksX0_heirAsked_0 14 rfl rfl)
theorem dX0_heirAsked_16 : decode cX0_heirAsked 16 = .ok (.invokestatic 9, 3) := dk_184 0 9 (dk_at dksX0_heirAsked_0 16 rfl rfl)
theorem dX0_heirAsked_19 : decode cX0_heirAsked 19 = .ok (.iload_n 2, 1) := dk_28 (dk_at dksX0_heirAsked_0 19 rfl rfl)
theorem dX0_heirAsked_20 : decode cX0_heirAsked 20 = .ok (.ifCond .ne 18, 3) := dk_154 0 18 (dk_at dksX0_heirAsked_0 20 rfl rfl)
theorem dX0_heirAsked_23 : decode cX0_heirAsked 23 = .ok (.aload_n 0, 1) := dk_42 (dk_at dksX0_heirAsked_0 23 rfl rfl)
theorem dX0_heirAsked_24 : decode cX0_heirAsked 24 = .ok (.getfield 65, 3) := dk_180 0 65 (dk_at dksX0_heirAsked_1 0 rfl rfl)
theorem dX0_heirAsked_27 : decode cX0_heirAsked 27 = .ok (.getfield 284, 3) := dk_180 1 28 (dk_at dksX0_heirAsked_1 3 rfl rfl)
theorem dX0_heirAsked_30 : decode cX0_heirAsked 30 = .ok (.iload_n 1, 1) := dk_27 (dk_at dksX0_heirAsked_1 6 rfl rfl)
theorem dX0_heirAsked_31 : decode cX0_heirAsked 31 = .ok (.aaload, 1) := dk_50 (dk_at dksX0_heirAsked_1 7 rfl rfl)
theorem dX0_heirAsked_32 : decode cX0_heirAsked 32 = .ok (.invokevirtual 341, 3) := dk_182 1 85 (dk_at dksX0_heirAsked_1 8 rfl rfl)
theorem dX0_heirAsked_35 : decode cX0_heirAsked 35 = .ok (.goto 28, 3) := dk_167 0 28 (dk_at dksX0_heirAsked_1 11 rfl rfl)
theorem dX0_heirAsked_38 : decode cX0_heirAsked 38 = .ok (.iload_n 2, 1) := dk_28 (dk_at dksX0_heirAsked_1 14 rfl rfl)
theorem dX0_heirAsked_39 : decode cX0_heirAsked 39 = .ok (.iconst 1, 1) := dk_4 (dk_at dksX0_heirAsked_1 15 rfl rfl)
theorem dX0_heirAsked_40 : decode cX0_heirAsked 40 = .ok (.if_icmp .ne 15, 3) := dk_160 0 15 (dk_at dksX0_heirAsked_1 16 rfl rfl)
theorem dX0_heirAsked_43 : decode cX0_heirAsked 43 = .ok (.aload_n 0, 1) := dk_42 (dk_at dksX0_heirAsked_1 19 rfl rfl)
theorem dX0_heirAsked_44 : decode cX0_heirAsked 44 = .ok (.getfield 65, 3) := dk_180 0 65 (dk_at dksX0_heirAsked_1 20 rfl rfl)
theorem dX0_heirAsked_47 : decode cX0_heirAsked 47 = .ok (.getfield 287, 3) := dk_180 1 31 (dk_at dksX0_heirAsked_2 0 rfl rfl)
theorem dX0_heirAsked_50 : decode cX0_heirAsked 50 = .ok (.iload_n 1, 1) := dk_27 (dk_at dksX0_heirAsked_2 3 rfl rfl)
theorem dX0_heirAsked_51 : decode cX0_heirAsked 51 = .ok (.iaload, 1) := dk_46 (dk_at dksX0_heirAsked_2 4 rfl rfl)
theorem dX0_heirAsked_52 : decode cX0_heirAsked 52 = .ok (.goto 11, 3) := dk_167 0 11 (dk_at dksX0_heirAsked_2 5 rfl rfl)
theorem dX0_heirAsked_55 : decode cX0_heirAsked 55 = .ok (.aload_n 0, 1) := dk_42 (dk_at dksX0_heirAsked_2 8 rfl rfl)
theorem dX0_heirAsked_56 : decode cX0_heirAsked 56 = .ok (.getfield 65, 3) := dk_180 0 65 (dk_at dksX0_heirAsked_2 9 rfl rfl)
theorem dX0_heirAsked_59 : decode cX0_heirAsked 59 = .ok (.iload_n 1, 1) := dk_27 (dk_at dksX0_heirAsked_2 12 rfl rfl)
theorem dX0_heirAsked_60 : decode cX0_heirAsked 60 = .ok (.invokevirtual 144, 3) := dk_182 0 144 (dk_at dksX0_heirAsked_2 13 rfl rfl)
theorem dX0_heirAsked_63 : decode cX0_heirAsked 63 = .ok (.ireturn, 1) := dk_172 (dk_at dksX0_heirAsked_2 16 rfl rfl)
abbrev cX0_mustBeHeir : ByteArray := prog_1_method_61_code
def yX0_mustBeHeir : MethodName := ⟨RX0, "mustBeHeir", "(I)V"⟩
def dkwX0_mustBeHeir_0 : List UInt8 := [27, 42, 180, 0, 65, 180, 0, 141, 184, 1, 73, 177]
abbrev dktX0_mustBeHeir_0 : List UInt8 := dkwX0_mustBeHeir_0 ++ []
theorem dksX0_mustBeHeir_0 : cX0_mustBeHeir.data.toList.drop 0 = dktX0_mustBeHeir_0 := by decide +kernel
theorem dX0_mustBeHeir_0 : decode cX0_mustBeHeir 0 = .ok (.iload_n 1, 1) := dk_27 (dk_at dksX0_mustBeHeir_0 0 rfl rfl)
theorem dX0_mustBeHeir_1 : decode cX0_mustBeHeir 1 = .ok (.aload_n 0, 1) := dk_42 (dk_at dksX0_mustBeHeir_0 1 rfl rfl)
theorem dX0_mustBeHeir_2 : decode cX0_mustBeHeir 2 = .ok (.getfield 65, 3) := dk_180 0 65 (dk_at dksX0_mustBeHeir_0 2 rfl rfl)
theorem dX0_mustBeHeir_5 : decode cX0_mustBeHeir 5 = .ok (.getfield 141, 3) := dk_180 0 141 (dk_at dksX0_mustBeHeir_0 5 rfl rfl)
theorem dX0_mustBeHeir_8 : decode cX0_mustBeHeir 8 = .ok (.invokestatic 329, 3) := dk_184 1 73 (dk_at dksX0_mustBeHeir_0 8 rfl rfl)
theorem dX0_mustBeHeir_11 : decode cX0_mustBeHeir 11 = .ok (.return_, 1) := dk_177 (dk_at dksX0_mustBeHeir_0 11 rfl rfl)
abbrev cX0_biteIt : ByteArray := prog_1_method_67_code
def yX0_biteIt : MethodName := ⟨RX0, "biteIt", "(II)I"⟩
def dkwX0_biteIt_2 : List UInt8 := [184, 0, 165, 172]
abbrev dktX0_biteIt_2 : List UInt8 := dkwX0_biteIt_2 ++ []
def dkwX0_biteIt_1 : List UInt8 := [182, 0, 179, 16, 253, 184, 0, 9, 42, 180, 0, 65, 27, 28, 182, 1, 10, 42, 180, 0, 65, 180, 0, 168]
abbrev dktX0_biteIt_1 : List UInt8 := dkwX0_biteIt_1 ++ dktX0_biteIt_2
def dkwX0_biteIt_0 : List UInt8 := [27, 133, 9, 20, 0, 147, 184, 0, 13, 16, 254, 184, 0, 9, 28, 184, 1, 82, 42, 180, 0, 65, 27, 28]
abbrev dktX0_biteIt_0 : List UInt8 := dkwX0_biteIt_0 ++ dktX0_biteIt_1
theorem dksX0_biteIt_0 : cX0_biteIt.data.toList.drop 0 = dktX0_biteIt_0 := by decide +kernel
theorem dksX0_biteIt_1 : cX0_biteIt.data.toList.drop 24 = dktX0_biteIt_1 := dk_seg dksX0_biteIt_0 24 rfl rfl
theorem dksX0_biteIt_2 : cX0_biteIt.data.toList.drop 48 = dktX0_biteIt_2 := dk_seg dksX0_biteIt_1 24 rfl rfl
theorem dX0_biteIt_0 : decode cX0_biteIt 0 = .ok (.iload_n 1, 1) := dk_27 (dk_at dksX0_biteIt_0 0 rfl rfl)
theorem dX0_biteIt_1 : decode cX0_biteIt 1 = .ok (.i2l, 1) := dk_133 (dk_at dksX0_biteIt_0 1 rfl rfl)
theorem dX0_biteIt_2 : decode cX0_biteIt 2 = .ok (.lconst 0, 1) := dk_9 (dk_at dksX0_biteIt_0 2 rfl rfl)
theorem dX0_biteIt_3 : decode cX0_biteIt 3 = .ok (.ldc2_w 147, 3) := dk_20 0 147 (dk_at dksX0_biteIt_0 3 rfl rfl)
theorem dX0_biteIt_6 : decode cX0_biteIt 6 = .ok (.invokestatic 13, 3) := dk_184 0 13 (dk_at dksX0_biteIt_0 6 rfl rfl)
theorem dX0_biteIt_9 : decode cX0_biteIt 9 = .ok (.bipush (-2), 2) := dk_16 254 (dk_at dksX0_biteIt_0 9 rfl rfl)
theorem dX0_biteIt_11 : decode cX0_biteIt 11 = .ok (.invokestatic 9, 3) := dk_184 0 9 (dk_at dksX0_biteIt_0 11 rfl rfl)
theorem dX0_biteIt_14 : decode cX0_biteIt 14 = .ok (.iload_n 2, 1) := dk_28 (dk_at dksX0_biteIt_0 14 rfl rfl)
theorem dX0_biteIt_15 : decode cX0_biteIt 15 = .ok (.invokestatic 338, 3) := dk_184 1 82 (dk_at dksX0_biteIt_0 15 rfl rfl)
theorem dX0_biteIt_18 : decode cX0_biteIt 18 = .ok (.aload_n 0, 1) := dk_42 (dk_at dksX0_biteIt_0 18 rfl rfl)
theorem dX0_biteIt_19 : decode cX0_biteIt 19 = .ok (.getfield 65, 3) := dk_180 0 65 (dk_at dksX0_biteIt_0 19 rfl rfl)
theorem dX0_biteIt_22 : decode cX0_biteIt 22 = .ok (.iload_n 1, 1) := dk_27 (dk_at dksX0_biteIt_0 22 rfl rfl)
theorem dX0_biteIt_23 : decode cX0_biteIt 23 = .ok (.iload_n 2, 1) := dk_28 (dk_at dksX0_biteIt_0 23 rfl rfl)
theorem dX0_biteIt_24 : decode cX0_biteIt 24 = .ok (.invokevirtual 179, 3) := dk_182 0 179 (dk_at dksX0_biteIt_1 0 rfl rfl)
theorem dX0_biteIt_27 : decode cX0_biteIt 27 = .ok (.bipush (-3), 2) := dk_16 253 (dk_at dksX0_biteIt_1 3 rfl rfl)
theorem dX0_biteIt_29 : decode cX0_biteIt 29 = .ok (.invokestatic 9, 3) := dk_184 0 9 (dk_at dksX0_biteIt_1 5 rfl rfl)
theorem dX0_biteIt_32 : decode cX0_biteIt 32 = .ok (.aload_n 0, 1) := dk_42 (dk_at dksX0_biteIt_1 8 rfl rfl)
theorem dX0_biteIt_33 : decode cX0_biteIt 33 = .ok (.getfield 65, 3) := dk_180 0 65 (dk_at dksX0_biteIt_1 9 rfl rfl)
theorem dX0_biteIt_36 : decode cX0_biteIt 36 = .ok (.iload_n 1, 1) := dk_27 (dk_at dksX0_biteIt_1 12 rfl rfl)
theorem dX0_biteIt_37 : decode cX0_biteIt 37 = .ok (.iload_n 2, 1) := dk_28 (dk_at dksX0_biteIt_1 13 rfl rfl)
theorem dX0_biteIt_38 : decode cX0_biteIt 38 = .ok (.invokevirtual 266, 3) := dk_182 1 10 (dk_at dksX0_biteIt_1 14 rfl rfl)
theorem dX0_biteIt_41 : decode cX0_biteIt 41 = .ok (.aload_n 0, 1) := dk_42 (dk_at dksX0_biteIt_1 17 rfl rfl)
theorem dX0_biteIt_42 : decode cX0_biteIt 42 = .ok (.getfield 65, 3) := dk_180 0 65 (dk_at dksX0_biteIt_1 18 rfl rfl)
theorem dX0_biteIt_45 : decode cX0_biteIt 45 = .ok (.getfield 168, 3) := dk_180 0 168 (dk_at dksX0_biteIt_1 21 rfl rfl)
theorem dX0_biteIt_48 : decode cX0_biteIt 48 = .ok (.invokestatic 165, 3) := dk_184 0 165 (dk_at dksX0_biteIt_2 0 rfl rfl)
theorem dX0_biteIt_51 : decode cX0_biteIt 51 = .ok (.ireturn, 1) := dk_172 (dk_at dksX0_biteIt_2 3 rfl rfl)
abbrev cX0_healIt : ByteArray := prog_1_method_68_code
def yX0_healIt : MethodName := ⟨RX0, "healIt", "(I)I"⟩
def dkwX0_healIt_2 : List UInt8 := [42, 180, 0, 65, 180, 0, 168, 184, 0, 165, 172]
abbrev dktX0_healIt_2 : List UInt8 := dkwX0_healIt_2 ++ []
def dkwX0_healIt_1 : List UInt8 := [16, 253, 184, 0, 9, 42, 180, 0, 65, 42, 180, 0, 65, 180, 0, 168, 4, 27, 120, 128, 182, 0, 185, 87]
abbrev dktX0_healIt_1 : List UInt8 := dkwX0_healIt_1 ++ dktX0_healIt_2
def dkwX0_healIt_0 : List UInt8 := [27, 184, 1, 82, 42, 180, 0, 65, 180, 0, 168, 27, 184, 0, 21, 154, 0, 7, 4, 167, 0, 4, 3]
abbrev dktX0_healIt_0 : List UInt8 := dkwX0_healIt_0 ++ dktX0_healIt_1
theorem dksX0_healIt_0 : cX0_healIt.data.toList.drop 0 = dktX0_healIt_0 := by decide +kernel
theorem dksX0_healIt_1 : cX0_healIt.data.toList.drop 23 = dktX0_healIt_1 := dk_seg dksX0_healIt_0 23 rfl rfl
theorem dksX0_healIt_2 : cX0_healIt.data.toList.drop 47 = dktX0_healIt_2 := dk_seg dksX0_healIt_1 24 rfl rfl
theorem dX0_healIt_0 : decode cX0_healIt 0 = .ok (.iload_n 1, 1) := dk_27 (dk_at dksX0_healIt_0 0 rfl rfl)
theorem dX0_healIt_1 : decode cX0_healIt 1 = .ok (.invokestatic 338, 3) := dk_184 1 82 (dk_at dksX0_healIt_0 1 rfl rfl)
theorem dX0_healIt_4 : decode cX0_healIt 4 = .ok (.aload_n 0, 1) := dk_42 (dk_at dksX0_healIt_0 4 rfl rfl)
theorem dX0_healIt_5 : decode cX0_healIt 5 = .ok (.getfield 65, 3) := dk_180 0 65 (dk_at dksX0_healIt_0 5 rfl rfl)
theorem dX0_healIt_8 : decode cX0_healIt 8 = .ok (.getfield 168, 3) := dk_180 0 168 (dk_at dksX0_healIt_0 8 rfl rfl)
theorem dX0_healIt_11 : decode cX0_healIt 11 = .ok (.iload_n 1, 1) := dk_27 (dk_at dksX0_healIt_0 11 rfl rfl)
theorem dX0_healIt_12 : decode cX0_healIt 12 = .ok (.invokestatic 21, 3) := dk_184 0 21 (dk_at dksX0_healIt_0 12 rfl rfl)
theorem dX0_healIt_15 : decode cX0_healIt 15 = .ok (.ifCond .ne 7, 3) := dk_154 0 7 (dk_at dksX0_healIt_0 15 rfl rfl)
theorem dX0_healIt_18 : decode cX0_healIt 18 = .ok (.iconst 1, 1) := dk_4 (dk_at dksX0_healIt_0 18 rfl rfl)
theorem dX0_healIt_19 : decode cX0_healIt 19 = .ok (.goto 4, 3) := dk_167 0 4 (dk_at dksX0_healIt_0 19 rfl rfl)
theorem dX0_healIt_22 : decode cX0_healIt 22 = .ok (.iconst 0, 1) := dk_3 (dk_at dksX0_healIt_0 22 rfl rfl)
theorem dX0_healIt_23 : decode cX0_healIt 23 = .ok (.bipush (-3), 2) := dk_16 253 (dk_at dksX0_healIt_1 0 rfl rfl)
theorem dX0_healIt_25 : decode cX0_healIt 25 = .ok (.invokestatic 9, 3) := dk_184 0 9 (dk_at dksX0_healIt_1 2 rfl rfl)
theorem dX0_healIt_28 : decode cX0_healIt 28 = .ok (.aload_n 0, 1) := dk_42 (dk_at dksX0_healIt_1 5 rfl rfl)
theorem dX0_healIt_29 : decode cX0_healIt 29 = .ok (.getfield 65, 3) := dk_180 0 65 (dk_at dksX0_healIt_1 6 rfl rfl)
theorem dX0_healIt_32 : decode cX0_healIt 32 = .ok (.aload_n 0, 1) := dk_42 (dk_at dksX0_healIt_1 9 rfl rfl)
theorem dX0_healIt_33 : decode cX0_healIt 33 = .ok (.getfield 65, 3) := dk_180 0 65 (dk_at dksX0_healIt_1 10 rfl rfl)
theorem dX0_healIt_36 : decode cX0_healIt 36 = .ok (.getfield 168, 3) := dk_180 0 168 (dk_at dksX0_healIt_1 13 rfl rfl)
theorem dX0_healIt_39 : decode cX0_healIt 39 = .ok (.iconst 1, 1) := dk_4 (dk_at dksX0_healIt_1 16 rfl rfl)
theorem dX0_healIt_40 : decode cX0_healIt 40 = .ok (.iload_n 1, 1) := dk_27 (dk_at dksX0_healIt_1 17 rfl rfl)
theorem dX0_healIt_41 : decode cX0_healIt 41 = .ok (.ishl, 1) := dk_120 (dk_at dksX0_healIt_1 18 rfl rfl)
theorem dX0_healIt_42 : decode cX0_healIt 42 = .ok (.ior, 1) := dk_128 (dk_at dksX0_healIt_1 19 rfl rfl)
theorem dX0_healIt_43 : decode cX0_healIt 43 = .ok (.invokevirtual 185, 3) := dk_182 0 185 (dk_at dksX0_healIt_1 20 rfl rfl)
theorem dX0_healIt_46 : decode cX0_healIt 46 = .ok (.pop, 1) := dk_87 (dk_at dksX0_healIt_1 23 rfl rfl)
theorem dX0_healIt_47 : decode cX0_healIt 47 = .ok (.aload_n 0, 1) := dk_42 (dk_at dksX0_healIt_2 0 rfl rfl)
theorem dX0_healIt_48 : decode cX0_healIt 48 = .ok (.getfield 65, 3) := dk_180 0 65 (dk_at dksX0_healIt_2 1 rfl rfl)
theorem dX0_healIt_51 : decode cX0_healIt 51 = .ok (.getfield 168, 3) := dk_180 0 168 (dk_at dksX0_healIt_2 4 rfl rfl)
theorem dX0_healIt_54 : decode cX0_healIt 54 = .ok (.invokestatic 165, 3) := dk_184 0 165 (dk_at dksX0_healIt_2 7 rfl rfl)
theorem dX0_healIt_57 : decode cX0_healIt 57 = .ok (.ireturn, 1) := dk_172 (dk_at dksX0_healIt_2 10 rfl rfl)
abbrev cX0_rollIt : ByteArray := prog_1_method_69_code
def yX0_rollIt : MethodName := ⟨RX0, "rollIt", "(I)I"⟩
def dkwX0_rollIt_1 : List UInt8 := [184, 0, 165, 172]
abbrev dktX0_rollIt_1 : List UInt8 := dkwX0_rollIt_1 ++ []
def dkwX0_rollIt_0 : List UInt8 := [27, 133, 10, 20, 0, 147, 184, 1, 78, 42, 180, 0, 65, 27, 182, 1, 87, 42, 180, 0, 65, 180, 0, 168]
abbrev dktX0_rollIt_0 : List UInt8 := dkwX0_rollIt_0 ++ dktX0_rollIt_1
theorem dksX0_rollIt_0 : cX0_rollIt.data.toList.drop 0 = dktX0_rollIt_0 := by decide +kernel
theorem dksX0_rollIt_1 : cX0_rollIt.data.toList.drop 24 = dktX0_rollIt_1 := dk_seg dksX0_rollIt_0 24 rfl rfl
theorem dX0_rollIt_0 : decode cX0_rollIt 0 = .ok (.iload_n 1, 1) := dk_27 (dk_at dksX0_rollIt_0 0 rfl rfl)
theorem dX0_rollIt_1 : decode cX0_rollIt 1 = .ok (.i2l, 1) := dk_133 (dk_at dksX0_rollIt_0 1 rfl rfl)
theorem dX0_rollIt_2 : decode cX0_rollIt 2 = .ok (.lconst 1, 1) := dk_10 (dk_at dksX0_rollIt_0 2 rfl rfl)
theorem dX0_rollIt_3 : decode cX0_rollIt 3 = .ok (.ldc2_w 147, 3) := dk_20 0 147 (dk_at dksX0_rollIt_0 3 rfl rfl)
theorem dX0_rollIt_6 : decode cX0_rollIt 6 = .ok (.invokestatic 334, 3) := dk_184 1 78 (dk_at dksX0_rollIt_0 6 rfl rfl)
theorem dX0_rollIt_9 : decode cX0_rollIt 9 = .ok (.aload_n 0, 1) := dk_42 (dk_at dksX0_rollIt_0 9 rfl rfl)
theorem dX0_rollIt_10 : decode cX0_rollIt 10 = .ok (.getfield 65, 3) := dk_180 0 65 (dk_at dksX0_rollIt_0 10 rfl rfl)
theorem dX0_rollIt_13 : decode cX0_rollIt 13 = .ok (.iload_n 1, 1) := dk_27 (dk_at dksX0_rollIt_0 13 rfl rfl)
theorem dX0_rollIt_14 : decode cX0_rollIt 14 = .ok (.invokevirtual 343, 3) := dk_182 1 87 (dk_at dksX0_rollIt_0 14 rfl rfl)
theorem dX0_rollIt_17 : decode cX0_rollIt 17 = .ok (.aload_n 0, 1) := dk_42 (dk_at dksX0_rollIt_0 17 rfl rfl)
theorem dX0_rollIt_18 : decode cX0_rollIt 18 = .ok (.getfield 65, 3) := dk_180 0 65 (dk_at dksX0_rollIt_0 18 rfl rfl)
theorem dX0_rollIt_21 : decode cX0_rollIt 21 = .ok (.getfield 168, 3) := dk_180 0 168 (dk_at dksX0_rollIt_0 21 rfl rfl)
theorem dX0_rollIt_24 : decode cX0_rollIt 24 = .ok (.invokestatic 165, 3) := dk_184 0 165 (dk_at dksX0_rollIt_1 0 rfl rfl)
theorem dX0_rollIt_27 : decode cX0_rollIt 27 = .ok (.ireturn, 1) := dk_172 (dk_at dksX0_rollIt_1 3 rfl rfl)
abbrev cX0_turnIt : ByteArray := prog_1_method_70_code
def yX0_turnIt : MethodName := ⟨RX0, "turnIt", "(III)I"⟩
def dkwX0_turnIt_3 : List UInt8 := [50, 83, 42, 180, 0, 65, 180, 1, 31, 27, 29, 79, 21, 4, 172]
abbrev dktX0_turnIt_3 : List UInt8 := dkwX0_turnIt_3 ++ []
def dkwX0_turnIt_2 : List UInt8 := [180, 0, 65, 180, 1, 31, 27, 46, 96, 54, 4, 42, 180, 0, 65, 180, 1, 28, 27, 42, 180, 0, 58, 28]
abbrev dktX0_turnIt_2 : List UInt8 := dkwX0_turnIt_2 ++ dktX0_turnIt_3
def dkwX0_turnIt_1 : List UInt8 := [20, 1, 92, 184, 1, 78, 16, 10, 42, 180, 0, 65, 180, 1, 28, 27, 50, 182, 1, 85, 104, 42]
abbrev dktX0_turnIt_1 : List UInt8 := dkwX0_turnIt_1 ++ dktX0_turnIt_2
def dkwX0_turnIt_0 : List UInt8 := [42, 27, 182, 0, 194, 28, 133, 9, 20, 1, 90, 184, 0, 13, 16, 254, 184, 0, 9, 29, 133, 9]
abbrev dktX0_turnIt_0 : List UInt8 := dkwX0_turnIt_0 ++ dktX0_turnIt_1
theorem dksX0_turnIt_0 : cX0_turnIt.data.toList.drop 0 = dktX0_turnIt_0 := by decide +kernel
theorem dksX0_turnIt_1 : cX0_turnIt.data.toList.drop 22 = dktX0_turnIt_1 := dk_seg dksX0_turnIt_0 22 rfl rfl
theorem dksX0_turnIt_2 : cX0_turnIt.data.toList.drop 44 = dktX0_turnIt_2 := dk_seg dksX0_turnIt_1 22 rfl rfl
theorem dksX0_turnIt_3 : cX0_turnIt.data.toList.drop 68 = dktX0_turnIt_3 := dk_seg dksX0_turnIt_2 24 rfl rfl
theorem dX0_turnIt_0 : decode cX0_turnIt 0 = .ok (.aload_n 0, 1) := dk_42 (dk_at dksX0_turnIt_0 0 rfl rfl)
theorem dX0_turnIt_1 : decode cX0_turnIt 1 = .ok (.iload_n 1, 1) := dk_27 (dk_at dksX0_turnIt_0 1 rfl rfl)
theorem dX0_turnIt_2 : decode cX0_turnIt 2 = .ok (.invokevirtual 194, 3) := dk_182 0 194 (dk_at dksX0_turnIt_0 2 rfl rfl)
theorem dX0_turnIt_5 : decode cX0_turnIt 5 = .ok (.iload_n 2, 1) := dk_28 (dk_at dksX0_turnIt_0 5 rfl rfl)
theorem dX0_turnIt_6 : decode cX0_turnIt 6 = .ok (.i2l, 1) := dk_133 (dk_at dksX0_turnIt_0 6 rfl rfl)
theorem dX0_turnIt_7 : decode cX0_turnIt 7 = .ok (.lconst 0, 1) := dk_9 (dk_at dksX0_turnIt_0 7 rfl rfl)
theorem dX0_turnIt_8 : decode cX0_turnIt 8 = .ok (.ldc2_w 346, 3) := dk_20 1 90 (dk_at dksX0_turnIt_0 8 rfl rfl)
theorem dX0_turnIt_11 : decode cX0_turnIt 11 = .ok (.invokestatic 13, 3) := dk_184 0 13 (dk_at dksX0_turnIt_0 11 rfl rfl)
theorem dX0_turnIt_14 : decode cX0_turnIt 14 = .ok (.bipush (-2), 2) := dk_16 254 (dk_at dksX0_turnIt_0 14 rfl rfl)
theorem dX0_turnIt_16 : decode cX0_turnIt 16 = .ok (.invokestatic 9, 3) := dk_184 0 9 (dk_at dksX0_turnIt_0 16 rfl rfl)
theorem dX0_turnIt_19 : decode cX0_turnIt 19 = .ok (.iload_n 3, 1) := dk_29 (dk_at dksX0_turnIt_0 19 rfl rfl)
theorem dX0_turnIt_20 : decode cX0_turnIt 20 = .ok (.i2l, 1) := dk_133 (dk_at dksX0_turnIt_0 20 rfl rfl)
theorem dX0_turnIt_21 : decode cX0_turnIt 21 = .ok (.lconst 0, 1) := dk_9 (dk_at dksX0_turnIt_0 21 rfl rfl)
theorem dX0_turnIt_22 : decode cX0_turnIt 22 = .ok (.ldc2_w 348, 3) := dk_20 1 92 (dk_at dksX0_turnIt_1 0 rfl rfl)
theorem dX0_turnIt_25 : decode cX0_turnIt 25 = .ok (.invokestatic 334, 3) := dk_184 1 78 (dk_at dksX0_turnIt_1 3 rfl rfl)
theorem dX0_turnIt_28 : decode cX0_turnIt 28 = .ok (.bipush 10, 2) := dk_16 10 (dk_at dksX0_turnIt_1 6 rfl rfl)
theorem dX0_turnIt_30 : decode cX0_turnIt 30 = .ok (.aload_n 0, 1) := dk_42 (dk_at dksX0_turnIt_1 8 rfl rfl)
theorem dX0_turnIt_31 : decode cX0_turnIt 31 = .ok (.getfield 65, 3) := dk_180 0 65 (dk_at dksX0_turnIt_1 9 rfl rfl)
theorem dX0_turnIt_34 : decode cX0_turnIt 34 = .ok (.getfield 284, 3) := dk_180 1 28 (dk_at dksX0_turnIt_1 12 rfl rfl)
theorem dX0_turnIt_37 : decode cX0_turnIt 37 = .ok (.iload_n 1, 1) := dk_27 (dk_at dksX0_turnIt_1 15 rfl rfl)
theorem dX0_turnIt_38 : decode cX0_turnIt 38 = .ok (.aaload, 1) := dk_50 (dk_at dksX0_turnIt_1 16 rfl rfl)
theorem dX0_turnIt_39 : decode cX0_turnIt 39 = .ok (.invokevirtual 341, 3) := dk_182 1 85 (dk_at dksX0_turnIt_1 17 rfl rfl)
theorem dX0_turnIt_42 : decode cX0_turnIt 42 = .ok (.imul, 1) := dk_104 (dk_at dksX0_turnIt_1 20 rfl rfl)
theorem dX0_turnIt_43 : decode cX0_turnIt 43 = .ok (.aload_n 0, 1) := dk_42 (dk_at dksX0_turnIt_1 21 rfl rfl)
theorem dX0_turnIt_44 : decode cX0_turnIt 44 = .ok (.getfield 65, 3) := dk_180 0 65 (dk_at dksX0_turnIt_2 0 rfl rfl)
theorem dX0_turnIt_47 : decode cX0_turnIt 47 = .ok (.getfield 287, 3) := dk_180 1 31 (dk_at dksX0_turnIt_2 3 rfl rfl)
theorem dX0_turnIt_50 : decode cX0_turnIt 50 = .ok (.iload_n 1, 1) := dk_27 (dk_at dksX0_turnIt_2 6 rfl rfl)
theorem dX0_turnIt_51 : decode cX0_turnIt 51 = .ok (.iaload, 1) := dk_46 (dk_at dksX0_turnIt_2 7 rfl rfl)
theorem dX0_turnIt_52 : decode cX0_turnIt 52 = .ok (.iadd, 1) := dk_96 (dk_at dksX0_turnIt_2 8 rfl rfl)
theorem dX0_turnIt_53 : decode cX0_turnIt 53 = .ok (.istore 4, 2) := dk_54 4 (dk_at dksX0_turnIt_2 9 rfl rfl)
theorem dX0_turnIt_55 : decode cX0_turnIt 55 = .ok (.aload_n 0, 1) := dk_42 (dk_at dksX0_turnIt_2 11 rfl rfl)
theorem dX0_turnIt_56 : decode cX0_turnIt 56 = .ok (.getfield 65, 3) := dk_180 0 65 (dk_at dksX0_turnIt_2 12 rfl rfl)
theorem dX0_turnIt_59 : decode cX0_turnIt 59 = .ok (.getfield 284, 3) := dk_180 1 28 (dk_at dksX0_turnIt_2 15 rfl rfl)
theorem dX0_turnIt_62 : decode cX0_turnIt 62 = .ok (.iload_n 1, 1) := dk_27 (dk_at dksX0_turnIt_2 18 rfl rfl)
theorem dX0_turnIt_63 : decode cX0_turnIt 63 = .ok (.aload_n 0, 1) := dk_42 (dk_at dksX0_turnIt_2 19 rfl rfl)
theorem dX0_turnIt_64 : decode cX0_turnIt 64 = .ok (.getfield 58, 3) := dk_180 0 58 (dk_at dksX0_turnIt_2 20 rfl rfl)
theorem dX0_turnIt_67 : decode cX0_turnIt 67 = .ok (.iload_n 2, 1) := dk_28 (dk_at dksX0_turnIt_2 23 rfl rfl)
theorem dX0_turnIt_68 : decode cX0_turnIt 68 = .ok (.aaload, 1) := dk_50 (dk_at dksX0_turnIt_3 0 rfl rfl)
theorem dX0_turnIt_69 : decode cX0_turnIt 69 = .ok (.aastore, 1) := dk_83 (dk_at dksX0_turnIt_3 1 rfl rfl)
theorem dX0_turnIt_70 : decode cX0_turnIt 70 = .ok (.aload_n 0, 1) := dk_42 (dk_at dksX0_turnIt_3 2 rfl rfl)
theorem dX0_turnIt_71 : decode cX0_turnIt 71 = .ok (.getfield 65, 3) := dk_180 0 65 (dk_at dksX0_turnIt_3 3 rfl rfl)
theorem dX0_turnIt_74 : decode cX0_turnIt 74 = .ok (.getfield 287, 3) := dk_180 1 31 (dk_at dksX0_turnIt_3 6 rfl rfl)
theorem dX0_turnIt_77 : decode cX0_turnIt 77 = .ok (.iload_n 1, 1) := dk_27 (dk_at dksX0_turnIt_3 9 rfl rfl)
theorem dX0_turnIt_78 : decode cX0_turnIt 78 = .ok (.iload_n 3, 1) := dk_29 (dk_at dksX0_turnIt_3 10 rfl rfl)
theorem dX0_turnIt_79 : decode cX0_turnIt 79 = .ok (.iastore, 1) := dk_79 (dk_at dksX0_turnIt_3 11 rfl rfl)
theorem dX0_turnIt_80 : decode cX0_turnIt 80 = .ok (.iload 4, 2) := dk_21 4 (dk_at dksX0_turnIt_3 12 rfl rfl)
theorem dX0_turnIt_82 : decode cX0_turnIt 82 = .ok (.ireturn, 1) := dk_172 (dk_at dksX0_turnIt_3 14 rfl rfl)
abbrev cX0_allAnew : ByteArray := prog_1_method_71_code
def yX0_allAnew : MethodName := ⟨RX0, "allAnew", "()I"⟩
def dkwX0_allAnew_1 : List UInt8 := [182, 0, 185, 87, 27, 172]
abbrev dktX0_allAnew_1 : List UInt8 := dkwX0_allAnew_1 ++ []
def dkwX0_allAnew_0 : List UInt8 := [42, 180, 0, 65, 180, 1, 94, 60, 42, 180, 0, 65, 3, 181, 1, 94, 42, 180, 0, 65, 18, 171]
abbrev dktX0_allAnew_0 : List UInt8 := dkwX0_allAnew_0 ++ dktX0_allAnew_1
theorem dksX0_allAnew_0 : cX0_allAnew.data.toList.drop 0 = dktX0_allAnew_0 := by decide +kernel
theorem dksX0_allAnew_1 : cX0_allAnew.data.toList.drop 22 = dktX0_allAnew_1 := dk_seg dksX0_allAnew_0 22 rfl rfl
theorem dX0_allAnew_0 : decode cX0_allAnew 0 = .ok (.aload_n 0, 1) := dk_42 (dk_at dksX0_allAnew_0 0 rfl rfl)
theorem dX0_allAnew_1 : decode cX0_allAnew 1 = .ok (.getfield 65, 3) := dk_180 0 65 (dk_at dksX0_allAnew_0 1 rfl rfl)
theorem dX0_allAnew_4 : decode cX0_allAnew 4 = .ok (.getfield 350, 3) := dk_180 1 94 (dk_at dksX0_allAnew_0 4 rfl rfl)
theorem dX0_allAnew_7 : decode cX0_allAnew 7 = .ok (.istore_n 1, 1) := dk_60 (dk_at dksX0_allAnew_0 7 rfl rfl)
theorem dX0_allAnew_8 : decode cX0_allAnew 8 = .ok (.aload_n 0, 1) := dk_42 (dk_at dksX0_allAnew_0 8 rfl rfl)
theorem dX0_allAnew_9 : decode cX0_allAnew 9 = .ok (.getfield 65, 3) := dk_180 0 65 (dk_at dksX0_allAnew_0 9 rfl rfl)
theorem dX0_allAnew_12 : decode cX0_allAnew 12 = .ok (.iconst 0, 1) := dk_3 (dk_at dksX0_allAnew_0 12 rfl rfl)
theorem dX0_allAnew_13 : decode cX0_allAnew 13 = .ok (.putfield 350, 3) := dk_181 1 94 (dk_at dksX0_allAnew_0 13 rfl rfl)
theorem dX0_allAnew_16 : decode cX0_allAnew 16 = .ok (.aload_n 0, 1) := dk_42 (dk_at dksX0_allAnew_0 16 rfl rfl)
theorem dX0_allAnew_17 : decode cX0_allAnew 17 = .ok (.getfield 65, 3) := dk_180 0 65 (dk_at dksX0_allAnew_0 17 rfl rfl)
theorem dX0_allAnew_20 : decode cX0_allAnew 20 = .ok (.ldc 171, 2) := dk_18 171 (dk_at dksX0_allAnew_0 20 rfl rfl)
theorem dX0_allAnew_22 : decode cX0_allAnew 22 = .ok (.invokevirtual 185, 3) := dk_182 0 185 (dk_at dksX0_allAnew_1 0 rfl rfl)
theorem dX0_allAnew_25 : decode cX0_allAnew 25 = .ok (.pop, 1) := dk_87 (dk_at dksX0_allAnew_1 3 rfl rfl)
theorem dX0_allAnew_26 : decode cX0_allAnew 26 = .ok (.iload_n 1, 1) := dk_27 (dk_at dksX0_allAnew_1 4 rfl rfl)
theorem dX0_allAnew_27 : decode cX0_allAnew 27 = .ok (.ireturn, 1) := dk_172 (dk_at dksX0_allAnew_1 5 rfl rfl)
abbrev cX0_ofBites : ByteArray := prog_1_method_77_code
def yX0_ofBites : MethodName := ⟨RX0, "ofBites", "(IIII)I"⟩
def dkwX0_ofBites_4 : List UInt8 := [182, 1, 141, 172, 42, 28, 182, 1, 160, 172, 42, 28, 182, 1, 163, 172]
abbrev dktX0_ofBites_4 : List UInt8 := dkwX0_ofBites_4 ++ []
def dkwX0_ofBites_3 : List UInt8 := [182, 1, 154, 172, 42, 28, 29, 2, 182, 1, 154, 172, 42, 28, 29, 21, 4, 182, 1, 157, 172, 42, 2, 4]
abbrev dktX0_ofBites_3 : List UInt8 := dkwX0_ofBites_3 ++ dktX0_ofBites_4
def dkwX0_ofBites_2 : List UInt8 := [42, 28, 182, 1, 145, 172, 42, 28, 182, 1, 148, 172, 42, 28, 182, 1, 151, 172, 42, 28, 29, 4]
abbrev dktX0_ofBites_2 : List UInt8 := dkwX0_ofBites_2 ++ dktX0_ofBites_3
def dkwX0_ofBites_1 : List UInt8 := [170, 0, 0, 0, 0, 0, 103, 0, 0, 0, 9, 0, 0, 0, 16, 0, 0, 0, 47, 0, 0, 0, 53, 0, 0, 0, 59, 0, 0, 0, 65, 0, 0, 0, 73, 0, 0, 0, 81, 0, 0, 0, 90, 0, 0, 0, 97]
abbrev dktX0_ofBites_1 : List UInt8 := dkwX0_ofBites_1 ++ dktX0_ofBites_2
def dkwX0_ofBites_0 : List UInt8 := [27]
abbrev dktX0_ofBites_0 : List UInt8 := dkwX0_ofBites_0 ++ dktX0_ofBites_1
theorem dksX0_ofBites_0 : cX0_ofBites.data.toList.drop 0 = dktX0_ofBites_0 := by decide +kernel
theorem dksX0_ofBites_1 : cX0_ofBites.data.toList.drop 1 = dktX0_ofBites_1 := dk_seg dksX0_ofBites_0 1 rfl rfl
theorem dksX0_ofBites_2 : cX0_ofBites.data.toList.drop 48 = dktX0_ofBites_2 := dk_seg dksX0_ofBites_1 47 rfl rfl
theorem dksX0_ofBites_3 : cX0_ofBites.data.toList.drop 70 = dktX0_ofBites_3 := dk_seg dksX0_ofBites_2 22 rfl rfl
theorem dksX0_ofBites_4 : cX0_ofBites.data.toList.drop 94 = dktX0_ofBites_4 := dk_seg dksX0_ofBites_3 24 rfl rfl
theorem dX0_ofBites_0 : decode cX0_ofBites 0 = .ok (.iload_n 1, 1) := dk_27 (dk_at dksX0_ofBites_0 0 rfl rfl)
theorem dX0_ofBites_1 : decode cX0_ofBites 1 = .ok (.tableswitch 103 9 16 #[47, 53, 59, 65, 73, 81, 90, 97], 47) := by decide +kernel
theorem dX0_ofBites_48 : decode cX0_ofBites 48 = .ok (.aload_n 0, 1) := dk_42 (dk_at dksX0_ofBites_2 0 rfl rfl)
theorem dX0_ofBites_49 : decode cX0_ofBites 49 = .ok (.iload_n 2, 1) := dk_28 (dk_at dksX0_ofBites_2 1 rfl rfl)
theorem dX0_ofBites_50 : decode cX0_ofBites 50 = .ok (.invokevirtual 401, 3) := dk_182 1 145 (dk_at dksX0_ofBites_2 2 rfl rfl)
theorem dX0_ofBites_53 : decode cX0_ofBites 53 = .ok (.ireturn, 1) := dk_172 (dk_at dksX0_ofBites_2 5 rfl rfl)
theorem dX0_ofBites_54 : decode cX0_ofBites 54 = .ok (.aload_n 0, 1) := dk_42 (dk_at dksX0_ofBites_2 6 rfl rfl)
theorem dX0_ofBites_55 : decode cX0_ofBites 55 = .ok (.iload_n 2, 1) := dk_28 (dk_at dksX0_ofBites_2 7 rfl rfl)
theorem dX0_ofBites_56 : decode cX0_ofBites 56 = .ok (.invokevirtual 404, 3) := dk_182 1 148 (dk_at dksX0_ofBites_2 8 rfl rfl)
theorem dX0_ofBites_59 : decode cX0_ofBites 59 = .ok (.ireturn, 1) := dk_172 (dk_at dksX0_ofBites_2 11 rfl rfl)
theorem dX0_ofBites_60 : decode cX0_ofBites 60 = .ok (.aload_n 0, 1) := dk_42 (dk_at dksX0_ofBites_2 12 rfl rfl)
theorem dX0_ofBites_61 : decode cX0_ofBites 61 = .ok (.iload_n 2, 1) := dk_28 (dk_at dksX0_ofBites_2 13 rfl rfl)
theorem dX0_ofBites_62 : decode cX0_ofBites 62 = .ok (.invokevirtual 407, 3) := dk_182 1 151 (dk_at dksX0_ofBites_2 14 rfl rfl)
theorem dX0_ofBites_65 : decode cX0_ofBites 65 = .ok (.ireturn, 1) := dk_172 (dk_at dksX0_ofBites_2 17 rfl rfl)
theorem dX0_ofBites_66 : decode cX0_ofBites 66 = .ok (.aload_n 0, 1) := dk_42 (dk_at dksX0_ofBites_2 18 rfl rfl)
theorem dX0_ofBites_67 : decode cX0_ofBites 67 = .ok (.iload_n 2, 1) := dk_28 (dk_at dksX0_ofBites_2 19 rfl rfl)
theorem dX0_ofBites_68 : decode cX0_ofBites 68 = .ok (.iload_n 3, 1) := dk_29 (dk_at dksX0_ofBites_2 20 rfl rfl)
theorem dX0_ofBites_69 : decode cX0_ofBites 69 = .ok (.iconst 1, 1) := dk_4 (dk_at dksX0_ofBites_2 21 rfl rfl)
theorem dX0_ofBites_70 : decode cX0_ofBites 70 = .ok (.invokevirtual 410, 3) := dk_182 1 154 (dk_at dksX0_ofBites_3 0 rfl rfl)
theorem dX0_ofBites_73 : decode cX0_ofBites 73 = .ok (.ireturn, 1) := dk_172 (dk_at dksX0_ofBites_3 3 rfl rfl)
theorem dX0_ofBites_74 : decode cX0_ofBites 74 = .ok (.aload_n 0, 1) := dk_42 (dk_at dksX0_ofBites_3 4 rfl rfl)
theorem dX0_ofBites_75 : decode cX0_ofBites 75 = .ok (.iload_n 2, 1) := dk_28 (dk_at dksX0_ofBites_3 5 rfl rfl)
theorem dX0_ofBites_76 : decode cX0_ofBites 76 = .ok (.iload_n 3, 1) := dk_29 (dk_at dksX0_ofBites_3 6 rfl rfl)
theorem dX0_ofBites_77 : decode cX0_ofBites 77 = .ok (.iconst (-1), 1) := dk_2 (dk_at dksX0_ofBites_3 7 rfl rfl)
theorem dX0_ofBites_78 : decode cX0_ofBites 78 = .ok (.invokevirtual 410, 3) := dk_182 1 154 (dk_at dksX0_ofBites_3 8 rfl rfl)
theorem dX0_ofBites_81 : decode cX0_ofBites 81 = .ok (.ireturn, 1) := dk_172 (dk_at dksX0_ofBites_3 11 rfl rfl)
theorem dX0_ofBites_82 : decode cX0_ofBites 82 = .ok (.aload_n 0, 1) := dk_42 (dk_at dksX0_ofBites_3 12 rfl rfl)
theorem dX0_ofBites_83 : decode cX0_ofBites 83 = .ok (.iload_n 2, 1) := dk_28 (dk_at dksX0_ofBites_3 13 rfl rfl)
theorem dX0_ofBites_84 : decode cX0_ofBites 84 = .ok (.iload_n 3, 1) := dk_29 (dk_at dksX0_ofBites_3 14 rfl rfl)
theorem dX0_ofBites_85 : decode cX0_ofBites 85 = .ok (.iload 4, 2) := dk_21 4 (dk_at dksX0_ofBites_3 15 rfl rfl)
theorem dX0_ofBites_87 : decode cX0_ofBites 87 = .ok (.invokevirtual 413, 3) := dk_182 1 157 (dk_at dksX0_ofBites_3 17 rfl rfl)
theorem dX0_ofBites_90 : decode cX0_ofBites 90 = .ok (.ireturn, 1) := dk_172 (dk_at dksX0_ofBites_3 20 rfl rfl)
theorem dX0_ofBites_91 : decode cX0_ofBites 91 = .ok (.aload_n 0, 1) := dk_42 (dk_at dksX0_ofBites_3 21 rfl rfl)
theorem dX0_ofBites_92 : decode cX0_ofBites 92 = .ok (.iconst (-1), 1) := dk_2 (dk_at dksX0_ofBites_3 22 rfl rfl)
theorem dX0_ofBites_93 : decode cX0_ofBites 93 = .ok (.iconst 1, 1) := dk_4 (dk_at dksX0_ofBites_3 23 rfl rfl)
theorem dX0_ofBites_94 : decode cX0_ofBites 94 = .ok (.invokevirtual 397, 3) := dk_182 1 141 (dk_at dksX0_ofBites_4 0 rfl rfl)
theorem dX0_ofBites_97 : decode cX0_ofBites 97 = .ok (.ireturn, 1) := dk_172 (dk_at dksX0_ofBites_4 3 rfl rfl)
theorem dX0_ofBites_98 : decode cX0_ofBites 98 = .ok (.aload_n 0, 1) := dk_42 (dk_at dksX0_ofBites_4 4 rfl rfl)
theorem dX0_ofBites_99 : decode cX0_ofBites 99 = .ok (.iload_n 2, 1) := dk_28 (dk_at dksX0_ofBites_4 5 rfl rfl)
theorem dX0_ofBites_100 : decode cX0_ofBites 100 = .ok (.invokevirtual 416, 3) := dk_182 1 160 (dk_at dksX0_ofBites_4 6 rfl rfl)
theorem dX0_ofBites_103 : decode cX0_ofBites 103 = .ok (.ireturn, 1) := dk_172 (dk_at dksX0_ofBites_4 9 rfl rfl)
theorem dX0_ofBites_104 : decode cX0_ofBites 104 = .ok (.aload_n 0, 1) := dk_42 (dk_at dksX0_ofBites_4 10 rfl rfl)
theorem dX0_ofBites_105 : decode cX0_ofBites 105 = .ok (.iload_n 2, 1) := dk_28 (dk_at dksX0_ofBites_4 11 rfl rfl)
theorem dX0_ofBites_106 : decode cX0_ofBites 106 = .ok (.invokevirtual 419, 3) := dk_182 1 163 (dk_at dksX0_ofBites_4 12 rfl rfl)
theorem dX0_ofBites_109 : decode cX0_ofBites 109 = .ok (.ireturn, 1) := dk_172 (dk_at dksX0_ofBites_4 15 rfl rfl)
abbrev cX0_sharesTold : ByteArray := prog_1_method_73_code
def yX0_sharesTold : MethodName := ⟨RX0, "sharesTold", "(I)I"⟩
def dkwX0_sharesTold_0 : List UInt8 := [27, 184, 0, 197, 27, 154, 0, 13, 42, 180, 0, 65, 182, 1, 47, 167, 0, 7, 42, 182, 1, 125, 172]
abbrev dktX0_sharesTold_0 : List UInt8 := dkwX0_sharesTold_0 ++ []
theorem dksX0_sharesTold_0 : cX0_sharesTold.data.toList.drop 0 = dktX0_sharesTold_0 := by decide +kernel
theorem dX0_sharesTold_0 : decode cX0_sharesTold 0 = .ok (.iload_n 1, 1) := dk_27 (dk_at dksX0_sharesTold_0 0 rfl rfl)
theorem dX0_sharesTold_1 : decode cX0_sharesTold 1 = .ok (.invokestatic 197, 3) := dk_184 0 197 (dk_at dksX0_sharesTold_0 1 rfl rfl)
theorem dX0_sharesTold_4 : decode cX0_sharesTold 4 = .ok (.iload_n 1, 1) := dk_27 (dk_at dksX0_sharesTold_0 4 rfl rfl)
theorem dX0_sharesTold_5 : decode cX0_sharesTold 5 = .ok (.ifCond .ne 13, 3) := dk_154 0 13 (dk_at dksX0_sharesTold_0 5 rfl rfl)
theorem dX0_sharesTold_8 : decode cX0_sharesTold 8 = .ok (.aload_n 0, 1) := dk_42 (dk_at dksX0_sharesTold_0 8 rfl rfl)
theorem dX0_sharesTold_9 : decode cX0_sharesTold 9 = .ok (.getfield 65, 3) := dk_180 0 65 (dk_at dksX0_sharesTold_0 9 rfl rfl)
theorem dX0_sharesTold_12 : decode cX0_sharesTold 12 = .ok (.invokevirtual 303, 3) := dk_182 1 47 (dk_at dksX0_sharesTold_0 12 rfl rfl)
theorem dX0_sharesTold_15 : decode cX0_sharesTold 15 = .ok (.goto 7, 3) := dk_167 0 7 (dk_at dksX0_sharesTold_0 15 rfl rfl)
theorem dX0_sharesTold_18 : decode cX0_sharesTold 18 = .ok (.aload_n 0, 1) := dk_42 (dk_at dksX0_sharesTold_0 18 rfl rfl)
theorem dX0_sharesTold_19 : decode cX0_sharesTold 19 = .ok (.invokevirtual 381, 3) := dk_182 1 125 (dk_at dksX0_sharesTold_0 19 rfl rfl)
theorem dX0_sharesTold_22 : decode cX0_sharesTold 22 = .ok (.ireturn, 1) := dk_172 (dk_at dksX0_sharesTold_0 22 rfl rfl)
abbrev cX0_mustBeBit : ByteArray := prog_1_method_63_code
def yX0_mustBeBit : MethodName := ⟨RX0, "mustBeBit", "(I)V"⟩
def dkwX0_mustBeBit_0 : List UInt8 := [26, 133, 9, 10, 184, 0, 13, 16, 254, 184, 0, 9, 177]
abbrev dktX0_mustBeBit_0 : List UInt8 := dkwX0_mustBeBit_0 ++ []
theorem dksX0_mustBeBit_0 : cX0_mustBeBit.data.toList.drop 0 = dktX0_mustBeBit_0 := by decide +kernel
theorem dX0_mustBeBit_0 : decode cX0_mustBeBit 0 = .ok (.iload_n 0, 1) := dk_26 (dk_at dksX0_mustBeBit_0 0 rfl rfl)
theorem dX0_mustBeBit_1 : decode cX0_mustBeBit 1 = .ok (.i2l, 1) := dk_133 (dk_at dksX0_mustBeBit_0 1 rfl rfl)
theorem dX0_mustBeBit_2 : decode cX0_mustBeBit 2 = .ok (.lconst 0, 1) := dk_9 (dk_at dksX0_mustBeBit_0 2 rfl rfl)
theorem dX0_mustBeBit_3 : decode cX0_mustBeBit 3 = .ok (.lconst 1, 1) := dk_10 (dk_at dksX0_mustBeBit_0 3 rfl rfl)
theorem dX0_mustBeBit_4 : decode cX0_mustBeBit 4 = .ok (.invokestatic 13, 3) := dk_184 0 13 (dk_at dksX0_mustBeBit_0 4 rfl rfl)
theorem dX0_mustBeBit_7 : decode cX0_mustBeBit 7 = .ok (.bipush (-2), 2) := dk_16 254 (dk_at dksX0_mustBeBit_0 7 rfl rfl)
theorem dX0_mustBeBit_9 : decode cX0_mustBeBit 9 = .ok (.invokestatic 9, 3) := dk_184 0 9 (dk_at dksX0_mustBeBit_0 9 rfl rfl)
theorem dX0_mustBeBit_12 : decode cX0_mustBeBit 12 = .ok (.return_, 1) := dk_177 (dk_at dksX0_mustBeBit_0 12 rfl rfl)
abbrev cX0_richestOne : ByteArray := prog_1_method_19_code
def yX0_richestOne : MethodName := ⟨RX0, "richestOne", "()I"⟩
def dkwX0_richestOne_2 : List UInt8 := [132, 2, 1, 167, 255, 211, 27, 172]
abbrev dktX0_richestOne_2 : List UInt8 := dkwX0_richestOne_2 ++ []
def dkwX0_richestOne_1 : List UInt8 := [180, 0, 65, 28, 182, 0, 144, 42, 180, 0, 65, 27, 182, 0, 144, 164, 0, 7, 28, 167, 0, 4, 27, 60]
abbrev dktX0_richestOne_1 : List UInt8 := dkwX0_richestOne_1 ++ dktX0_richestOne_2
def dkwX0_richestOne_0 : List UInt8 := [16, 247, 60, 3, 61, 28, 42, 180, 0, 65, 180, 0, 141, 162, 0, 40, 27, 16, 247, 159, 0, 22, 42]
abbrev dktX0_richestOne_0 : List UInt8 := dkwX0_richestOne_0 ++ dktX0_richestOne_1
theorem dksX0_richestOne_0 : cX0_richestOne.data.toList.drop 0 = dktX0_richestOne_0 := by decide +kernel
theorem dksX0_richestOne_1 : cX0_richestOne.data.toList.drop 23 = dktX0_richestOne_1 := dk_seg dksX0_richestOne_0 23 rfl rfl
theorem dksX0_richestOne_2 : cX0_richestOne.data.toList.drop 47 = dktX0_richestOne_2 := dk_seg dksX0_richestOne_1 24 rfl rfl
theorem dX0_richestOne_0 : decode cX0_richestOne 0 = .ok (.bipush (-9), 2) := dk_16 247 (dk_at dksX0_richestOne_0 0 rfl rfl)
theorem dX0_richestOne_2 : decode cX0_richestOne 2 = .ok (.istore_n 1, 1) := dk_60 (dk_at dksX0_richestOne_0 2 rfl rfl)
theorem dX0_richestOne_3 : decode cX0_richestOne 3 = .ok (.iconst 0, 1) := dk_3 (dk_at dksX0_richestOne_0 3 rfl rfl)
theorem dX0_richestOne_4 : decode cX0_richestOne 4 = .ok (.istore_n 2, 1) := dk_61 (dk_at dksX0_richestOne_0 4 rfl rfl)
theorem dX0_richestOne_5 : decode cX0_richestOne 5 = .ok (.iload_n 2, 1) := dk_28 (dk_at dksX0_richestOne_0 5 rfl rfl)
theorem dX0_richestOne_6 : decode cX0_richestOne 6 = .ok (.aload_n 0, 1) := dk_42 (dk_at dksX0_richestOne_0 6 rfl rfl)
theorem dX0_richestOne_7 : decode cX0_richestOne 7 = .ok (.getfield 65, 3) := dk_180 0 65 (dk_at dksX0_richestOne_0 7 rfl rfl)
theorem dX0_richestOne_10 : decode cX0_richestOne 10 = .ok (.getfield 141, 3) := dk_180 0 141 (dk_at dksX0_richestOne_0 10 rfl rfl)
theorem dX0_richestOne_13 : decode cX0_richestOne 13 = .ok (.if_icmp .ge 40, 3) := dk_162 0 40 (dk_at dksX0_richestOne_0 13 rfl rfl)
theorem dX0_richestOne_16 : decode cX0_richestOne 16 = .ok (.iload_n 1, 1) := dk_27 (dk_at dksX0_richestOne_0 16 rfl rfl)
theorem dX0_richestOne_17 : decode cX0_richestOne 17 = .ok (.bipush (-9), 2) := dk_16 247 (dk_at dksX0_richestOne_0 17 rfl rfl)
theorem dX0_richestOne_19 : decode cX0_richestOne 19 = .ok (.if_icmp .eq 22, 3) := dk_159 0 22 (dk_at dksX0_richestOne_0 19 rfl rfl)
theorem dX0_richestOne_22 : decode cX0_richestOne 22 = .ok (.aload_n 0, 1) := dk_42 (dk_at dksX0_richestOne_0 22 rfl rfl)
theorem dX0_richestOne_23 : decode cX0_richestOne 23 = .ok (.getfield 65, 3) := dk_180 0 65 (dk_at dksX0_richestOne_1 0 rfl rfl)
theorem dX0_richestOne_26 : decode cX0_richestOne 26 = .ok (.iload_n 2, 1) := dk_28 (dk_at dksX0_richestOne_1 3 rfl rfl)
theorem dX0_richestOne_27 : decode cX0_richestOne 27 = .ok (.invokevirtual 144, 3) := dk_182 0 144 (dk_at dksX0_richestOne_1 4 rfl rfl)
theorem dX0_richestOne_30 : decode cX0_richestOne 30 = .ok (.aload_n 0, 1) := dk_42 (dk_at dksX0_richestOne_1 7 rfl rfl)
theorem dX0_richestOne_31 : decode cX0_richestOne 31 = .ok (.getfield 65, 3) := dk_180 0 65 (dk_at dksX0_richestOne_1 8 rfl rfl)
theorem dX0_richestOne_34 : decode cX0_richestOne 34 = .ok (.iload_n 1, 1) := dk_27 (dk_at dksX0_richestOne_1 11 rfl rfl)
theorem dX0_richestOne_35 : decode cX0_richestOne 35 = .ok (.invokevirtual 144, 3) := dk_182 0 144 (dk_at dksX0_richestOne_1 12 rfl rfl)
theorem dX0_richestOne_38 : decode cX0_richestOne 38 = .ok (.if_icmp .le 7, 3) := dk_164 0 7 (dk_at dksX0_richestOne_1 15 rfl rfl)
theorem dX0_richestOne_41 : decode cX0_richestOne 41 = .ok (.iload_n 2, 1) := dk_28 (dk_at dksX0_richestOne_1 18 rfl rfl)
theorem dX0_richestOne_42 : decode cX0_richestOne 42 = .ok (.goto 4, 3) := dk_167 0 4 (dk_at dksX0_richestOne_1 19 rfl rfl)
theorem dX0_richestOne_45 : decode cX0_richestOne 45 = .ok (.iload_n 1, 1) := dk_27 (dk_at dksX0_richestOne_1 22 rfl rfl)
theorem dX0_richestOne_46 : decode cX0_richestOne 46 = .ok (.istore_n 1, 1) := dk_60 (dk_at dksX0_richestOne_1 23 rfl rfl)
theorem dX0_richestOne_47 : decode cX0_richestOne 47 = .ok (.iinc 2 1, 3) := dk_132 2 1 (dk_at dksX0_richestOne_2 0 rfl rfl)
theorem dX0_richestOne_50 : decode cX0_richestOne 50 = .ok (.goto (-45), 3) := dk_167 255 211 (dk_at dksX0_richestOne_2 3 rfl rfl)
theorem dX0_richestOne_53 : decode cX0_richestOne 53 = .ok (.iload_n 1, 1) := dk_27 (dk_at dksX0_richestOne_2 6 rfl rfl)
theorem dX0_richestOne_54 : decode cX0_richestOne 54 = .ok (.ireturn, 1) := dk_172 (dk_at dksX0_richestOne_2 7 rfl rfl)
abbrev cX0_piecesTold : ByteArray := prog_1_method_21_code
def yX0_piecesTold : MethodName := ⟨RX0, "piecesTold", "(I)I"⟩
def dkwX0_piecesTold_3 : List UInt8 := [167, 0, 13, 42, 180, 0, 65, 180, 0, 159, 184, 0, 165, 172]
abbrev dktX0_piecesTold_3 : List UInt8 := dkwX0_piecesTold_3 ++ []
def dkwX0_piecesTold_2 : List UInt8 := [153, 0, 8, 16, 247, 167, 0, 31, 27, 5, 160, 0, 16, 42, 180, 0, 65, 180, 0, 159, 184, 0, 162]
abbrev dktX0_piecesTold_2 : List UInt8 := dkwX0_piecesTold_2 ++ dktX0_piecesTold_3
def dkwX0_piecesTold_1 : List UInt8 := [180, 0, 65, 180, 0, 149, 167, 0, 10, 42, 180, 0, 65, 180, 0, 152, 172, 42, 180, 0, 65, 182, 0, 155]
abbrev dktX0_piecesTold_1 : List UInt8 := dkwX0_piecesTold_1 ++ dktX0_piecesTold_2
def dkwX0_piecesTold_0 : List UInt8 := [27, 133, 9, 20, 0, 147, 184, 0, 13, 16, 254, 184, 0, 9, 27, 5, 162, 0, 25, 27, 154, 0, 13, 42]
abbrev dktX0_piecesTold_0 : List UInt8 := dkwX0_piecesTold_0 ++ dktX0_piecesTold_1
theorem dksX0_piecesTold_0 : cX0_piecesTold.data.toList.drop 0 = dktX0_piecesTold_0 := by decide +kernel
theorem dksX0_piecesTold_1 : cX0_piecesTold.data.toList.drop 24 = dktX0_piecesTold_1 := dk_seg dksX0_piecesTold_0 24 rfl rfl
theorem dksX0_piecesTold_2 : cX0_piecesTold.data.toList.drop 48 = dktX0_piecesTold_2 := dk_seg dksX0_piecesTold_1 24 rfl rfl
theorem dksX0_piecesTold_3 : cX0_piecesTold.data.toList.drop 71 = dktX0_piecesTold_3 := dk_seg dksX0_piecesTold_2 23 rfl rfl
theorem dX0_piecesTold_0 : decode cX0_piecesTold 0 = .ok (.iload_n 1, 1) := dk_27 (dk_at dksX0_piecesTold_0 0 rfl rfl)
theorem dX0_piecesTold_1 : decode cX0_piecesTold 1 = .ok (.i2l, 1) := dk_133 (dk_at dksX0_piecesTold_0 1 rfl rfl)
theorem dX0_piecesTold_2 : decode cX0_piecesTold 2 = .ok (.lconst 0, 1) := dk_9 (dk_at dksX0_piecesTold_0 2 rfl rfl)
theorem dX0_piecesTold_3 : decode cX0_piecesTold 3 = .ok (.ldc2_w 147, 3) := dk_20 0 147 (dk_at dksX0_piecesTold_0 3 rfl rfl)
theorem dX0_piecesTold_6 : decode cX0_piecesTold 6 = .ok (.invokestatic 13, 3) := dk_184 0 13 (dk_at dksX0_piecesTold_0 6 rfl rfl)
theorem dX0_piecesTold_9 : decode cX0_piecesTold 9 = .ok (.bipush (-2), 2) := dk_16 254 (dk_at dksX0_piecesTold_0 9 rfl rfl)
theorem dX0_piecesTold_11 : decode cX0_piecesTold 11 = .ok (.invokestatic 9, 3) := dk_184 0 9 (dk_at dksX0_piecesTold_0 11 rfl rfl)
theorem dX0_piecesTold_14 : decode cX0_piecesTold 14 = .ok (.iload_n 1, 1) := dk_27 (dk_at dksX0_piecesTold_0 14 rfl rfl)
theorem dX0_piecesTold_15 : decode cX0_piecesTold 15 = .ok (.iconst 2, 1) := dk_5 (dk_at dksX0_piecesTold_0 15 rfl rfl)
theorem dX0_piecesTold_16 : decode cX0_piecesTold 16 = .ok (.if_icmp .ge 25, 3) := dk_162 0 25 (dk_at dksX0_piecesTold_0 16 rfl rfl)
theorem dX0_piecesTold_19 : decode cX0_piecesTold 19 = .ok (.iload_n 1, 1) := dk_27 (dk_at dksX0_piecesTold_0 19 rfl rfl)
theorem dX0_piecesTold_20 : decode cX0_piecesTold 20 = .ok (.ifCond .ne 13, 3) := dk_154 0 13 (dk_at dksX0_piecesTold_0 20 rfl rfl)
theorem dX0_piecesTold_23 : decode cX0_piecesTold 23 = .ok (.aload_n 0, 1) := dk_42 (dk_at dksX0_piecesTold_0 23 rfl rfl)
theorem dX0_piecesTold_24 : decode cX0_piecesTold 24 = .ok (.getfield 65, 3) := dk_180 0 65 (dk_at dksX0_piecesTold_1 0 rfl rfl)
theorem dX0_piecesTold_27 : decode cX0_piecesTold 27 = .ok (.getfield 149, 3) := dk_180 0 149 (dk_at dksX0_piecesTold_1 3 rfl rfl)
theorem dX0_piecesTold_30 : decode cX0_piecesTold 30 = .ok (.goto 10, 3) := dk_167 0 10 (dk_at dksX0_piecesTold_1 6 rfl rfl)
theorem dX0_piecesTold_33 : decode cX0_piecesTold 33 = .ok (.aload_n 0, 1) := dk_42 (dk_at dksX0_piecesTold_1 9 rfl rfl)
theorem dX0_piecesTold_34 : decode cX0_piecesTold 34 = .ok (.getfield 65, 3) := dk_180 0 65 (dk_at dksX0_piecesTold_1 10 rfl rfl)
theorem dX0_piecesTold_37 : decode cX0_piecesTold 37 = .ok (.getfield 152, 3) := dk_180 0 152 (dk_at dksX0_piecesTold_1 13 rfl rfl)
theorem dX0_piecesTold_40 : decode cX0_piecesTold 40 = .ok (.ireturn, 1) := dk_172 (dk_at dksX0_piecesTold_1 16 rfl rfl)
theorem dX0_piecesTold_41 : decode cX0_piecesTold 41 = .ok (.aload_n 0, 1) := dk_42 (dk_at dksX0_piecesTold_1 17 rfl rfl)
theorem dX0_piecesTold_42 : decode cX0_piecesTold 42 = .ok (.getfield 65, 3) := dk_180 0 65 (dk_at dksX0_piecesTold_1 18 rfl rfl)
theorem dX0_piecesTold_45 : decode cX0_piecesTold 45 = .ok (.invokevirtual 155, 3) := dk_182 0 155 (dk_at dksX0_piecesTold_1 21 rfl rfl)
theorem dX0_piecesTold_48 : decode cX0_piecesTold 48 = .ok (.ifCond .eq 8, 3) := dk_153 0 8 (dk_at dksX0_piecesTold_2 0 rfl rfl)
theorem dX0_piecesTold_51 : decode cX0_piecesTold 51 = .ok (.bipush (-9), 2) := dk_16 247 (dk_at dksX0_piecesTold_2 3 rfl rfl)
theorem dX0_piecesTold_53 : decode cX0_piecesTold 53 = .ok (.goto 31, 3) := dk_167 0 31 (dk_at dksX0_piecesTold_2 5 rfl rfl)
theorem dX0_piecesTold_56 : decode cX0_piecesTold 56 = .ok (.iload_n 1, 1) := dk_27 (dk_at dksX0_piecesTold_2 8 rfl rfl)
theorem dX0_piecesTold_57 : decode cX0_piecesTold 57 = .ok (.iconst 2, 1) := dk_5 (dk_at dksX0_piecesTold_2 9 rfl rfl)
theorem dX0_piecesTold_58 : decode cX0_piecesTold 58 = .ok (.if_icmp .ne 16, 3) := dk_160 0 16 (dk_at dksX0_piecesTold_2 10 rfl rfl)
theorem dX0_piecesTold_61 : decode cX0_piecesTold 61 = .ok (.aload_n 0, 1) := dk_42 (dk_at dksX0_piecesTold_2 13 rfl rfl)
theorem dX0_piecesTold_62 : decode cX0_piecesTold 62 = .ok (.getfield 65, 3) := dk_180 0 65 (dk_at dksX0_piecesTold_2 14 rfl rfl)
theorem dX0_piecesTold_65 : decode cX0_piecesTold 65 = .ok (.getfield 159, 3) := dk_180 0 159 (dk_at dksX0_piecesTold_2 17 rfl rfl)
theorem dX0_piecesTold_68 : decode cX0_piecesTold 68 = .ok (.invokestatic 162, 3) := dk_184 0 162 (dk_at dksX0_piecesTold_2 20 rfl rfl)
theorem dX0_piecesTold_71 : decode cX0_piecesTold 71 = .ok (.goto 13, 3) := dk_167 0 13 (dk_at dksX0_piecesTold_3 0 rfl rfl)
theorem dX0_piecesTold_74 : decode cX0_piecesTold 74 = .ok (.aload_n 0, 1) := dk_42 (dk_at dksX0_piecesTold_3 3 rfl rfl)
theorem dX0_piecesTold_75 : decode cX0_piecesTold 75 = .ok (.getfield 65, 3) := dk_180 0 65 (dk_at dksX0_piecesTold_3 4 rfl rfl)
theorem dX0_piecesTold_78 : decode cX0_piecesTold 78 = .ok (.getfield 159, 3) := dk_180 0 159 (dk_at dksX0_piecesTold_3 7 rfl rfl)
theorem dX0_piecesTold_81 : decode cX0_piecesTold 81 = .ok (.invokestatic 165, 3) := dk_184 0 165 (dk_at dksX0_piecesTold_3 10 rfl rfl)
theorem dX0_piecesTold_84 : decode cX0_piecesTold 84 = .ok (.ireturn, 1) := dk_172 (dk_at dksX0_piecesTold_3 13 rfl rfl)
abbrev cX0_leastIn : ByteArray := prog_1_method_20_code
def yX0_leastIn : MethodName := ⟨RX0, "leastIn", "(I)I"⟩
def dkwX0_leastIn_0 : List UInt8 := [3, 60, 26, 27, 184, 0, 21, 154, 0, 9, 132, 1, 1, 167, 255, 245, 27, 172]
abbrev dktX0_leastIn_0 : List UInt8 := dkwX0_leastIn_0 ++ []
theorem dksX0_leastIn_0 : cX0_leastIn.data.toList.drop 0 = dktX0_leastIn_0 := by decide +kernel
theorem dX0_leastIn_0 : decode cX0_leastIn 0 = .ok (.iconst 0, 1) := dk_3 (dk_at dksX0_leastIn_0 0 rfl rfl)
theorem dX0_leastIn_1 : decode cX0_leastIn 1 = .ok (.istore_n 1, 1) := dk_60 (dk_at dksX0_leastIn_0 1 rfl rfl)
theorem dX0_leastIn_2 : decode cX0_leastIn 2 = .ok (.iload_n 0, 1) := dk_26 (dk_at dksX0_leastIn_0 2 rfl rfl)
theorem dX0_leastIn_3 : decode cX0_leastIn 3 = .ok (.iload_n 1, 1) := dk_27 (dk_at dksX0_leastIn_0 3 rfl rfl)
theorem dX0_leastIn_4 : decode cX0_leastIn 4 = .ok (.invokestatic 21, 3) := dk_184 0 21 (dk_at dksX0_leastIn_0 4 rfl rfl)
theorem dX0_leastIn_7 : decode cX0_leastIn 7 = .ok (.ifCond .ne 9, 3) := dk_154 0 9 (dk_at dksX0_leastIn_0 7 rfl rfl)
theorem dX0_leastIn_10 : decode cX0_leastIn 10 = .ok (.iinc 1 1, 3) := dk_132 1 1 (dk_at dksX0_leastIn_0 10 rfl rfl)
theorem dX0_leastIn_13 : decode cX0_leastIn 13 = .ok (.goto (-11), 3) := dk_167 255 245 (dk_at dksX0_leastIn_0 13 rfl rfl)
theorem dX0_leastIn_16 : decode cX0_leastIn 16 = .ok (.iload_n 1, 1) := dk_27 (dk_at dksX0_leastIn_0 16 rfl rfl)
theorem dX0_leastIn_17 : decode cX0_leastIn 17 = .ok (.ireturn, 1) := dk_172 (dk_at dksX0_leastIn_0 17 rfl rfl)
abbrev cX0_edgeTold : ByteArray := prog_1_method_74_code
def yX0_edgeTold : MethodName := ⟨RX0, "edgeTold", "(I)I"⟩
def dkwX0_edgeTold_0 : List UInt8 := [27, 184, 0, 197, 27, 154, 0, 10, 42, 182, 1, 128, 167, 0, 7, 42, 182, 1, 131, 172]
abbrev dktX0_edgeTold_0 : List UInt8 := dkwX0_edgeTold_0 ++ []
theorem dksX0_edgeTold_0 : cX0_edgeTold.data.toList.drop 0 = dktX0_edgeTold_0 := by decide +kernel
theorem dX0_edgeTold_0 : decode cX0_edgeTold 0 = .ok (.iload_n 1, 1) := dk_27 (dk_at dksX0_edgeTold_0 0 rfl rfl)
theorem dX0_edgeTold_1 : decode cX0_edgeTold 1 = .ok (.invokestatic 197, 3) := dk_184 0 197 (dk_at dksX0_edgeTold_0 1 rfl rfl)
theorem dX0_edgeTold_4 : decode cX0_edgeTold 4 = .ok (.iload_n 1, 1) := dk_27 (dk_at dksX0_edgeTold_0 4 rfl rfl)
theorem dX0_edgeTold_5 : decode cX0_edgeTold 5 = .ok (.ifCond .ne 10, 3) := dk_154 0 10 (dk_at dksX0_edgeTold_0 5 rfl rfl)
theorem dX0_edgeTold_8 : decode cX0_edgeTold 8 = .ok (.aload_n 0, 1) := dk_42 (dk_at dksX0_edgeTold_0 8 rfl rfl)
theorem dX0_edgeTold_9 : decode cX0_edgeTold 9 = .ok (.invokevirtual 384, 3) := dk_182 1 128 (dk_at dksX0_edgeTold_0 9 rfl rfl)
theorem dX0_edgeTold_12 : decode cX0_edgeTold 12 = .ok (.goto 7, 3) := dk_167 0 7 (dk_at dksX0_edgeTold_0 12 rfl rfl)
theorem dX0_edgeTold_15 : decode cX0_edgeTold 15 = .ok (.aload_n 0, 1) := dk_42 (dk_at dksX0_edgeTold_0 15 rfl rfl)
theorem dX0_edgeTold_16 : decode cX0_edgeTold 16 = .ok (.invokevirtual 387, 3) := dk_182 1 131 (dk_at dksX0_edgeTold_0 16 rfl rfl)
theorem dX0_edgeTold_19 : decode cX0_edgeTold 19 = .ok (.ireturn, 1) := dk_172 (dk_at dksX0_edgeTold_0 19 rfl rfl)
abbrev cX0_sides : ByteArray := prog_1_method_22_code
def yX0_sides : MethodName := ⟨RX0, "sides", "()I"⟩
def dkwX0_sides_3 : List UInt8 := [167, 255, 197, 132, 2, 1, 167, 255, 183, 27, 172]
abbrev dktX0_sides_3 : List UInt8 := dkwX0_sides_3 ++ []
def dkwX0_sides_2 : List UInt8 := [180, 0, 65, 180, 0, 168, 21, 4, 184, 0, 21, 154, 0, 7, 4, 167, 0, 4, 3, 96, 60, 132, 3, 1]
abbrev dktX0_sides_2 : List UInt8 := dkwX0_sides_2 ++ dktX0_sides_3
def dkwX0_sides_1 : List UInt8 := [28, 184, 0, 21, 153, 0, 46, 28, 29, 184, 0, 29, 54, 4, 27, 21, 4, 16, 247, 159, 0, 18, 42]
abbrev dktX0_sides_1 : List UInt8 := dkwX0_sides_1 ++ dktX0_sides_2
def dkwX0_sides_0 : List UInt8 := [3, 60, 3, 61, 28, 16, 25, 162, 0, 73, 3, 62, 29, 7, 162, 0, 60, 42, 180, 0, 65, 180, 0, 168]
abbrev dktX0_sides_0 : List UInt8 := dkwX0_sides_0 ++ dktX0_sides_1
theorem dksX0_sides_0 : cX0_sides.data.toList.drop 0 = dktX0_sides_0 := by decide +kernel
theorem dksX0_sides_1 : cX0_sides.data.toList.drop 24 = dktX0_sides_1 := dk_seg dksX0_sides_0 24 rfl rfl
theorem dksX0_sides_2 : cX0_sides.data.toList.drop 47 = dktX0_sides_2 := dk_seg dksX0_sides_1 23 rfl rfl
theorem dksX0_sides_3 : cX0_sides.data.toList.drop 71 = dktX0_sides_3 := dk_seg dksX0_sides_2 24 rfl rfl
theorem dX0_sides_0 : decode cX0_sides 0 = .ok (.iconst 0, 1) := dk_3 (dk_at dksX0_sides_0 0 rfl rfl)
theorem dX0_sides_1 : decode cX0_sides 1 = .ok (.istore_n 1, 1) := dk_60 (dk_at dksX0_sides_0 1 rfl rfl)
theorem dX0_sides_2 : decode cX0_sides 2 = .ok (.iconst 0, 1) := dk_3 (dk_at dksX0_sides_0 2 rfl rfl)
theorem dX0_sides_3 : decode cX0_sides 3 = .ok (.istore_n 2, 1) := dk_61 (dk_at dksX0_sides_0 3 rfl rfl)
theorem dX0_sides_4 : decode cX0_sides 4 = .ok (.iload_n 2, 1) := dk_28 (dk_at dksX0_sides_0 4 rfl rfl)
theorem dX0_sides_5 : decode cX0_sides 5 = .ok (.bipush 25, 2) := dk_16 25 (dk_at dksX0_sides_0 5 rfl rfl)
theorem dX0_sides_7 : decode cX0_sides 7 = .ok (.if_icmp .ge 73, 3) := dk_162 0 73 (dk_at dksX0_sides_0 7 rfl rfl)
theorem dX0_sides_10 : decode cX0_sides 10 = .ok (.iconst 0, 1) := dk_3 (dk_at dksX0_sides_0 10 rfl rfl)
theorem dX0_sides_11 : decode cX0_sides 11 = .ok (.istore_n 3, 1) := dk_62 (dk_at dksX0_sides_0 11 rfl rfl)
theorem dX0_sides_12 : decode cX0_sides 12 = .ok (.iload_n 3, 1) := dk_29 (dk_at dksX0_sides_0 12 rfl rfl)
theorem dX0_sides_13 : decode cX0_sides 13 = .ok (.iconst 4, 1) := dk_7 (dk_at dksX0_sides_0 13 rfl rfl)
theorem dX0_sides_14 : decode cX0_sides 14 = .ok (.if_icmp .ge 60, 3) := dk_162 0 60 (dk_at dksX0_sides_0 14 rfl rfl)
theorem dX0_sides_17 : decode cX0_sides 17 = .ok (.aload_n 0, 1) := dk_42 (dk_at dksX0_sides_0 17 rfl rfl)
theorem dX0_sides_18 : decode cX0_sides 18 = .ok (.getfield 65, 3) := dk_180 0 65 (dk_at dksX0_sides_0 18 rfl rfl)
theorem dX0_sides_21 : decode cX0_sides 21 = .ok (.getfield 168, 3) := dk_180 0 168 (dk_at dksX0_sides_0 21 rfl rfl)
theorem dX0_sides_24 : decode cX0_sides 24 = .ok (.iload_n 2, 1) := dk_28 (dk_at dksX0_sides_1 0 rfl rfl)
theorem dX0_sides_25 : decode cX0_sides 25 = .ok (.invokestatic 21, 3) := dk_184 0 21 (dk_at dksX0_sides_1 1 rfl rfl)
theorem dX0_sides_28 : decode cX0_sides 28 = .ok (.ifCond .eq 46, 3) := dk_153 0 46 (dk_at dksX0_sides_1 4 rfl rfl)
theorem dX0_sides_31 : decode cX0_sides 31 = .ok (.iload_n 2, 1) := dk_28 (dk_at dksX0_sides_1 7 rfl rfl)
theorem dX0_sides_32 : decode cX0_sides 32 = .ok (.iload_n 3, 1) := dk_29 (dk_at dksX0_sides_1 8 rfl rfl)
theorem dX0_sides_33 : decode cX0_sides 33 = .ok (.invokestatic 29, 3) := dk_184 0 29 (dk_at dksX0_sides_1 9 rfl rfl)
theorem dX0_sides_36 : decode cX0_sides 36 = .ok (.istore 4, 2) := dk_54 4 (dk_at dksX0_sides_1 12 rfl rfl)
theorem dX0_sides_38 : decode cX0_sides 38 = .ok (.iload_n 1, 1) := dk_27 (dk_at dksX0_sides_1 14 rfl rfl)
theorem dX0_sides_39 : decode cX0_sides 39 = .ok (.iload 4, 2) := dk_21 4 (dk_at dksX0_sides_1 15 rfl rfl)
theorem dX0_sides_41 : decode cX0_sides 41 = .ok (.bipush (-9), 2) := dk_16 247 (dk_at dksX0_sides_1 17 rfl rfl)
theorem dX0_sides_43 : decode cX0_sides 43 = .ok (.if_icmp .eq 18, 3) := dk_159 0 18 (dk_at dksX0_sides_1 19 rfl rfl)
theorem dX0_sides_46 : decode cX0_sides 46 = .ok (.aload_n 0, 1) := dk_42 (dk_at dksX0_sides_1 22 rfl rfl)
theorem dX0_sides_47 : decode cX0_sides 47 = .ok (.getfield 65, 3) := dk_180 0 65 (dk_at dksX0_sides_2 0 rfl rfl)
theorem dX0_sides_50 : decode cX0_sides 50 = .ok (.getfield 168, 3) := dk_180 0 168 (dk_at dksX0_sides_2 3 rfl rfl)
theorem dX0_sides_53 : decode cX0_sides 53 = .ok (.iload 4, 2) := dk_21 4 (dk_at dksX0_sides_2 6 rfl rfl)
theorem dX0_sides_55 : decode cX0_sides 55 = .ok (.invokestatic 21, 3) := dk_184 0 21 (dk_at dksX0_sides_2 8 rfl rfl)
theorem dX0_sides_58 : decode cX0_sides 58 = .ok (.ifCond .ne 7, 3) := dk_154 0 7 (dk_at dksX0_sides_2 11 rfl rfl)
theorem dX0_sides_61 : decode cX0_sides 61 = .ok (.iconst 1, 1) := dk_4 (dk_at dksX0_sides_2 14 rfl rfl)
theorem dX0_sides_62 : decode cX0_sides 62 = .ok (.goto 4, 3) := dk_167 0 4 (dk_at dksX0_sides_2 15 rfl rfl)
theorem dX0_sides_65 : decode cX0_sides 65 = .ok (.iconst 0, 1) := dk_3 (dk_at dksX0_sides_2 18 rfl rfl)
theorem dX0_sides_66 : decode cX0_sides 66 = .ok (.iadd, 1) := dk_96 (dk_at dksX0_sides_2 19 rfl rfl)
theorem dX0_sides_67 : decode cX0_sides 67 = .ok (.istore_n 1, 1) := dk_60 (dk_at dksX0_sides_2 20 rfl rfl)
theorem dX0_sides_68 : decode cX0_sides 68 = .ok (.iinc 3 1, 3) := dk_132 3 1 (dk_at dksX0_sides_2 21 rfl rfl)
theorem dX0_sides_71 : decode cX0_sides 71 = .ok (.goto (-59), 3) := dk_167 255 197 (dk_at dksX0_sides_3 0 rfl rfl)
theorem dX0_sides_74 : decode cX0_sides 74 = .ok (.iinc 2 1, 3) := dk_132 2 1 (dk_at dksX0_sides_3 3 rfl rfl)
theorem dX0_sides_77 : decode cX0_sides 77 = .ok (.goto (-73), 3) := dk_167 255 183 (dk_at dksX0_sides_3 6 rfl rfl)
theorem dX0_sides_80 : decode cX0_sides 80 = .ok (.iload_n 1, 1) := dk_27 (dk_at dksX0_sides_3 9 rfl rfl)
theorem dX0_sides_81 : decode cX0_sides 81 = .ok (.ireturn, 1) := dk_172 (dk_at dksX0_sides_3 10 rfl rfl)
abbrev cX0_holes : ByteArray := prog_1_method_24_code
def yX0_holes : MethodName := ⟨RX0, "holes", "()I"⟩
def dkwX0_holes_5 : List UInt8 := [132, 3, 1, 167, 255, 154, 28, 172]
abbrev dktX0_holes_5 : List UInt8 := dkwX0_holes_5 ++ []
def dkwX0_holes_4 : List UInt8 := [167, 255, 218, 27, 21, 4, 2, 130, 126, 60, 28, 21, 5, 153, 0, 7, 4, 167, 0, 4, 3, 96, 61]
abbrev dktX0_holes_4 : List UInt8 := dkwX0_holes_4 ++ dktX0_holes_5
def dkwX0_holes_3 : List UInt8 := [153, 0, 11, 21, 6, 184, 0, 175, 154, 0, 7, 4, 167, 0, 4, 3, 126, 54, 5, 132, 6, 1]
abbrev dktX0_holes_3 : List UInt8 := dkwX0_holes_3 ++ dktX0_holes_4
def dkwX0_holes_2 : List UInt8 := [54, 4, 4, 54, 5, 3, 54, 6, 21, 6, 16, 25, 162, 0, 37, 21, 5, 21, 4, 21, 6, 184, 0, 21]
abbrev dktX0_holes_2 : List UInt8 := dkwX0_holes_2 ++ dktX0_holes_3
def dkwX0_holes_1 : List UInt8 := [29, 184, 0, 21, 153, 0, 88, 29, 18, 171, 42, 180, 0, 65, 180, 0, 168, 2, 130, 126, 184, 0, 172]
abbrev dktX0_holes_1 : List UInt8 := dkwX0_holes_1 ++ dktX0_holes_2
def dkwX0_holes_0 : List UInt8 := [18, 171, 42, 180, 0, 65, 180, 0, 168, 2, 130, 126, 60, 3, 61, 3, 62, 29, 16, 25, 162, 0, 102, 27]
abbrev dktX0_holes_0 : List UInt8 := dkwX0_holes_0 ++ dktX0_holes_1
theorem dksX0_holes_0 : cX0_holes.data.toList.drop 0 = dktX0_holes_0 := by decide +kernel
theorem dksX0_holes_1 : cX0_holes.data.toList.drop 24 = dktX0_holes_1 := dk_seg dksX0_holes_0 24 rfl rfl
theorem dksX0_holes_2 : cX0_holes.data.toList.drop 47 = dktX0_holes_2 := dk_seg dksX0_holes_1 23 rfl rfl
theorem dksX0_holes_3 : cX0_holes.data.toList.drop 71 = dktX0_holes_3 := dk_seg dksX0_holes_2 24 rfl rfl
theorem dksX0_holes_4 : cX0_holes.data.toList.drop 93 = dktX0_holes_4 := dk_seg dksX0_holes_3 22 rfl rfl
theorem dksX0_holes_5 : cX0_holes.data.toList.drop 116 = dktX0_holes_5 := dk_seg dksX0_holes_4 23 rfl rfl
theorem dX0_holes_0 : decode cX0_holes 0 = .ok (.ldc 171, 2) := dk_18 171 (dk_at dksX0_holes_0 0 rfl rfl)
theorem dX0_holes_2 : decode cX0_holes 2 = .ok (.aload_n 0, 1) := dk_42 (dk_at dksX0_holes_0 2 rfl rfl)
theorem dX0_holes_3 : decode cX0_holes 3 = .ok (.getfield 65, 3) := dk_180 0 65 (dk_at dksX0_holes_0 3 rfl rfl)
theorem dX0_holes_6 : decode cX0_holes 6 = .ok (.getfield 168, 3) := dk_180 0 168 (dk_at dksX0_holes_0 6 rfl rfl)
theorem dX0_holes_9 : decode cX0_holes 9 = .ok (.iconst (-1), 1) := dk_2 (dk_at dksX0_holes_0 9 rfl rfl)
theorem dX0_holes_10 : decode cX0_holes 10 = .ok (.ixor, 1) := dk_130 (dk_at dksX0_holes_0 10 rfl rfl)
theorem dX0_holes_11 : decode cX0_holes 11 = .ok (.iand, 1) := dk_126 (dk_at dksX0_holes_0 11 rfl rfl)
theorem dX0_holes_12 : decode cX0_holes 12 = .ok (.istore_n 1, 1) := dk_60 (dk_at dksX0_holes_0 12 rfl rfl)
theorem dX0_holes_13 : decode cX0_holes 13 = .ok (.iconst 0, 1) := dk_3 (dk_at dksX0_holes_0 13 rfl rfl)
theorem dX0_holes_14 : decode cX0_holes 14 = .ok (.istore_n 2, 1) := dk_61 (dk_at dksX0_holes_0 14 rfl rfl)
theorem dX0_holes_15 : decode cX0_holes 15 = .ok (.iconst 0, 1) := dk_3 (dk_at dksX0_holes_0 15 rfl rfl)
theorem dX0_holes_16 : decode cX0_holes 16 = .ok (.istore_n 3, 1) := dk_62 (dk_at dksX0_holes_0 16 rfl rfl)
theorem dX0_holes_17 : decode cX0_holes 17 = .ok (.iload_n 3, 1) := dk_29 (dk_at dksX0_holes_0 17 rfl rfl)
theorem dX0_holes_18 : decode cX0_holes 18 = .ok (.bipush 25, 2) := dk_16 25 (dk_at dksX0_holes_0 18 rfl rfl)
theorem dX0_holes_20 : decode cX0_holes 20 = .ok (.if_icmp .ge 102, 3) := dk_162 0 102 (dk_at dksX0_holes_0 20 rfl rfl)
theorem dX0_holes_23 : decode cX0_holes 23 = .ok (.iload_n 1, 1) := dk_27 (dk_at dksX0_holes_0 23 rfl rfl)
theorem dX0_holes_24 : decode cX0_holes 24 = .ok (.iload_n 3, 1) := dk_29 (dk_at dksX0_holes_1 0 rfl rfl)
theorem dX0_holes_25 : decode cX0_holes 25 = .ok (.invokestatic 21, 3) := dk_184 0 21 (dk_at dksX0_holes_1 1 rfl rfl)
theorem dX0_holes_28 : decode cX0_holes 28 = .ok (.ifCond .eq 88, 3) := dk_153 0 88 (dk_at dksX0_holes_1 4 rfl rfl)
theorem dX0_holes_31 : decode cX0_holes 31 = .ok (.iload_n 3, 1) := dk_29 (dk_at dksX0_holes_1 7 rfl rfl)
theorem dX0_holes_32 : decode cX0_holes 32 = .ok (.ldc 171, 2) := dk_18 171 (dk_at dksX0_holes_1 8 rfl rfl)
theorem dX0_holes_34 : decode cX0_holes 34 = .ok (.aload_n 0, 1) := dk_42 (dk_at dksX0_holes_1 10 rfl rfl)
theorem dX0_holes_35 : decode cX0_holes 35 = .ok (.getfield 65, 3) := dk_180 0 65 (dk_at dksX0_holes_1 11 rfl rfl)
theorem dX0_holes_38 : decode cX0_holes 38 = .ok (.getfield 168, 3) := dk_180 0 168 (dk_at dksX0_holes_1 14 rfl rfl)
theorem dX0_holes_41 : decode cX0_holes 41 = .ok (.iconst (-1), 1) := dk_2 (dk_at dksX0_holes_1 17 rfl rfl)
theorem dX0_holes_42 : decode cX0_holes 42 = .ok (.ixor, 1) := dk_130 (dk_at dksX0_holes_1 18 rfl rfl)
theorem dX0_holes_43 : decode cX0_holes 43 = .ok (.iand, 1) := dk_126 (dk_at dksX0_holes_1 19 rfl rfl)
theorem dX0_holes_44 : decode cX0_holes 44 = .ok (.invokestatic 172, 3) := dk_184 0 172 (dk_at dksX0_holes_1 20 rfl rfl)
theorem dX0_holes_47 : decode cX0_holes 47 = .ok (.istore 4, 2) := dk_54 4 (dk_at dksX0_holes_2 0 rfl rfl)
theorem dX0_holes_49 : decode cX0_holes 49 = .ok (.iconst 1, 1) := dk_4 (dk_at dksX0_holes_2 2 rfl rfl)
theorem dX0_holes_50 : decode cX0_holes 50 = .ok (.istore 5, 2) := dk_54 5 (dk_at dksX0_holes_2 3 rfl rfl)
theorem dX0_holes_52 : decode cX0_holes 52 = .ok (.iconst 0, 1) := dk_3 (dk_at dksX0_holes_2 5 rfl rfl)
theorem dX0_holes_53 : decode cX0_holes 53 = .ok (.istore 6, 2) := dk_54 6 (dk_at dksX0_holes_2 6 rfl rfl)
theorem dX0_holes_55 : decode cX0_holes 55 = .ok (.iload 6, 2) := dk_21 6 (dk_at dksX0_holes_2 8 rfl rfl)
theorem dX0_holes_57 : decode cX0_holes 57 = .ok (.bipush 25, 2) := dk_16 25 (dk_at dksX0_holes_2 10 rfl rfl)
theorem dX0_holes_59 : decode cX0_holes 59 = .ok (.if_icmp .ge 37, 3) := dk_162 0 37 (dk_at dksX0_holes_2 12 rfl rfl)
theorem dX0_holes_62 : decode cX0_holes 62 = .ok (.iload 5, 2) := dk_21 5 (dk_at dksX0_holes_2 15 rfl rfl)
theorem dX0_holes_64 : decode cX0_holes 64 = .ok (.iload 4, 2) := dk_21 4 (dk_at dksX0_holes_2 17 rfl rfl)
theorem dX0_holes_66 : decode cX0_holes 66 = .ok (.iload 6, 2) := dk_21 6 (dk_at dksX0_holes_2 19 rfl rfl)
theorem dX0_holes_68 : decode cX0_holes 68 = .ok (.invokestatic 21, 3) := dk_184 0 21 (dk_at dksX0_holes_2 21 rfl rfl)
theorem dX0_holes_71 : decode cX0_holes 71 = .ok (.ifCond .eq 11, 3) := dk_153 0 11 (dk_at dksX0_holes_3 0 rfl rfl)
theorem dX0_holes_74 : decode cX0_holes 74 = .ok (.iload 6, 2) := dk_21 6 (dk_at dksX0_holes_3 3 rfl rfl)
theorem dX0_holes_76 : decode cX0_holes 76 = .ok (.invokestatic 175, 3) := dk_184 0 175 (dk_at dksX0_holes_3 5 rfl rfl)
theorem dX0_holes_79 : decode cX0_holes 79 = .ok (.ifCond .ne 7, 3) := dk_154 0 7 (dk_at dksX0_holes_3 8 rfl rfl)
theorem dX0_holes_82 : decode cX0_holes 82 = .ok (.iconst 1, 1) := dk_4 (dk_at dksX0_holes_3 11 rfl rfl)
theorem dX0_holes_83 : decode cX0_holes 83 = .ok (.goto 4, 3) := dk_167 0 4 (dk_at dksX0_holes_3 12 rfl rfl)
theorem dX0_holes_86 : decode cX0_holes 86 = .ok (.iconst 0, 1) := dk_3 (dk_at dksX0_holes_3 15 rfl rfl)
theorem dX0_holes_87 : decode cX0_holes 87 = .ok (.iand, 1) := dk_126 (dk_at dksX0_holes_3 16 rfl rfl)
theorem dX0_holes_88 : decode cX0_holes 88 = .ok (.istore 5, 2) := dk_54 5 (dk_at dksX0_holes_3 17 rfl rfl)
theorem dX0_holes_90 : decode cX0_holes 90 = .ok (.iinc 6 1, 3) := dk_132 6 1 (dk_at dksX0_holes_3 19 rfl rfl)
theorem dX0_holes_93 : decode cX0_holes 93 = .ok (.goto (-38), 3) := dk_167 255 218 (dk_at dksX0_holes_4 0 rfl rfl)
theorem dX0_holes_96 : decode cX0_holes 96 = .ok (.iload_n 1, 1) := dk_27 (dk_at dksX0_holes_4 3 rfl rfl)
theorem dX0_holes_97 : decode cX0_holes 97 = .ok (.iload 4, 2) := dk_21 4 (dk_at dksX0_holes_4 4 rfl rfl)
theorem dX0_holes_99 : decode cX0_holes 99 = .ok (.iconst (-1), 1) := dk_2 (dk_at dksX0_holes_4 6 rfl rfl)
theorem dX0_holes_100 : decode cX0_holes 100 = .ok (.ixor, 1) := dk_130 (dk_at dksX0_holes_4 7 rfl rfl)
theorem dX0_holes_101 : decode cX0_holes 101 = .ok (.iand, 1) := dk_126 (dk_at dksX0_holes_4 8 rfl rfl)
theorem dX0_holes_102 : decode cX0_holes 102 = .ok (.istore_n 1, 1) := dk_60 (dk_at dksX0_holes_4 9 rfl rfl)
theorem dX0_holes_103 : decode cX0_holes 103 = .ok (.iload_n 2, 1) := dk_28 (dk_at dksX0_holes_4 10 rfl rfl)
theorem dX0_holes_104 : decode cX0_holes 104 = .ok (.iload 5, 2) := dk_21 5 (dk_at dksX0_holes_4 11 rfl rfl)
theorem dX0_holes_106 : decode cX0_holes 106 = .ok (.ifCond .eq 7, 3) := dk_153 0 7 (dk_at dksX0_holes_4 13 rfl rfl)
theorem dX0_holes_109 : decode cX0_holes 109 = .ok (.iconst 1, 1) := dk_4 (dk_at dksX0_holes_4 16 rfl rfl)
theorem dX0_holes_110 : decode cX0_holes 110 = .ok (.goto 4, 3) := dk_167 0 4 (dk_at dksX0_holes_4 17 rfl rfl)
theorem dX0_holes_113 : decode cX0_holes 113 = .ok (.iconst 0, 1) := dk_3 (dk_at dksX0_holes_4 20 rfl rfl)
theorem dX0_holes_114 : decode cX0_holes 114 = .ok (.iadd, 1) := dk_96 (dk_at dksX0_holes_4 21 rfl rfl)
theorem dX0_holes_115 : decode cX0_holes 115 = .ok (.istore_n 2, 1) := dk_61 (dk_at dksX0_holes_4 22 rfl rfl)
theorem dX0_holes_116 : decode cX0_holes 116 = .ok (.iinc 3 1, 3) := dk_132 3 1 (dk_at dksX0_holes_5 0 rfl rfl)
theorem dX0_holes_119 : decode cX0_holes 119 = .ok (.goto (-102), 3) := dk_167 255 154 (dk_at dksX0_holes_5 3 rfl rfl)
theorem dX0_holes_122 : decode cX0_holes 122 = .ok (.iload_n 2, 1) := dk_28 (dk_at dksX0_holes_5 6 rfl rfl)
theorem dX0_holes_123 : decode cX0_holes 123 = .ok (.ireturn, 1) := dk_172 (dk_at dksX0_holes_5 7 rfl rfl)
abbrev cX0_isBorder : ByteArray := prog_1_method_23_code
def yX0_isBorder : MethodName := ⟨RX0, "isBorder", "(I)Z"⟩
def dkwX0_isBorder_0 : List UInt8 := [26, 184, 0, 25, 184, 0, 165, 7, 162, 0, 7, 4, 167, 0, 4, 3, 172]
abbrev dktX0_isBorder_0 : List UInt8 := dkwX0_isBorder_0 ++ []
theorem dksX0_isBorder_0 : cX0_isBorder.data.toList.drop 0 = dktX0_isBorder_0 := by decide +kernel
theorem dX0_isBorder_0 : decode cX0_isBorder 0 = .ok (.iload_n 0, 1) := dk_26 (dk_at dksX0_isBorder_0 0 rfl rfl)
theorem dX0_isBorder_1 : decode cX0_isBorder 1 = .ok (.invokestatic 25, 3) := dk_184 0 25 (dk_at dksX0_isBorder_0 1 rfl rfl)
theorem dX0_isBorder_4 : decode cX0_isBorder 4 = .ok (.invokestatic 165, 3) := dk_184 0 165 (dk_at dksX0_isBorder_0 4 rfl rfl)
theorem dX0_isBorder_7 : decode cX0_isBorder 7 = .ok (.iconst 4, 1) := dk_7 (dk_at dksX0_isBorder_0 7 rfl rfl)
theorem dX0_isBorder_8 : decode cX0_isBorder 8 = .ok (.if_icmp .ge 7, 3) := dk_162 0 7 (dk_at dksX0_isBorder_0 8 rfl rfl)
theorem dX0_isBorder_11 : decode cX0_isBorder 11 = .ok (.iconst 1, 1) := dk_4 (dk_at dksX0_isBorder_0 11 rfl rfl)
theorem dX0_isBorder_12 : decode cX0_isBorder 12 = .ok (.goto 4, 3) := dk_167 0 4 (dk_at dksX0_isBorder_0 12 rfl rfl)
theorem dX0_isBorder_15 : decode cX0_isBorder 15 = .ok (.iconst 0, 1) := dk_3 (dk_at dksX0_isBorder_0 15 rfl rfl)
theorem dX0_isBorder_16 : decode cX0_isBorder 16 = .ok (.ireturn, 1) := dk_172 (dk_at dksX0_isBorder_0 16 rfl rfl)
abbrev cX0_bestTold : ByteArray := prog_1_method_27_code
def yX0_bestTold : MethodName := ⟨RX0, "bestTold", "(III)I"⟩
def dkwX0_bestTold_2 : List UInt8 := [180, 0, 168, 21, 4, 184, 0, 208, 182, 0, 185, 27, 182, 0, 144, 172]
abbrev dktX0_bestTold_2 : List UInt8 := dkwX0_bestTold_2 ++ []
def dkwX0_bestTold_1 : List UInt8 := [153, 0, 10, 21, 4, 16, 247, 160, 0, 8, 21, 4, 167, 0, 26, 42, 182, 0, 204, 42, 180, 0, 65]
abbrev dktX0_bestTold_1 : List UInt8 := dkwX0_bestTold_1 ++ dktX0_bestTold_2
def dkwX0_bestTold_0 : List UInt8 := [42, 27, 182, 0, 194, 28, 184, 0, 197, 42, 42, 180, 0, 65, 27, 29, 182, 0, 200, 54, 4, 28]
abbrev dktX0_bestTold_0 : List UInt8 := dkwX0_bestTold_0 ++ dktX0_bestTold_1
theorem dksX0_bestTold_0 : cX0_bestTold.data.toList.drop 0 = dktX0_bestTold_0 := by decide +kernel
theorem dksX0_bestTold_1 : cX0_bestTold.data.toList.drop 22 = dktX0_bestTold_1 := dk_seg dksX0_bestTold_0 22 rfl rfl
theorem dksX0_bestTold_2 : cX0_bestTold.data.toList.drop 45 = dktX0_bestTold_2 := dk_seg dksX0_bestTold_1 23 rfl rfl
theorem dX0_bestTold_0 : decode cX0_bestTold 0 = .ok (.aload_n 0, 1) := dk_42 (dk_at dksX0_bestTold_0 0 rfl rfl)
theorem dX0_bestTold_1 : decode cX0_bestTold 1 = .ok (.iload_n 1, 1) := dk_27 (dk_at dksX0_bestTold_0 1 rfl rfl)
theorem dX0_bestTold_2 : decode cX0_bestTold 2 = .ok (.invokevirtual 194, 3) := dk_182 0 194 (dk_at dksX0_bestTold_0 2 rfl rfl)
theorem dX0_bestTold_5 : decode cX0_bestTold 5 = .ok (.iload_n 2, 1) := dk_28 (dk_at dksX0_bestTold_0 5 rfl rfl)
theorem dX0_bestTold_6 : decode cX0_bestTold 6 = .ok (.invokestatic 197, 3) := dk_184 0 197 (dk_at dksX0_bestTold_0 6 rfl rfl)
theorem dX0_bestTold_9 : decode cX0_bestTold 9 = .ok (.aload_n 0, 1) := dk_42 (dk_at dksX0_bestTold_0 9 rfl rfl)
theorem dX0_bestTold_10 : decode cX0_bestTold 10 = .ok (.aload_n 0, 1) := dk_42 (dk_at dksX0_bestTold_0 10 rfl rfl)
theorem dX0_bestTold_11 : decode cX0_bestTold 11 = .ok (.getfield 65, 3) := dk_180 0 65 (dk_at dksX0_bestTold_0 11 rfl rfl)
theorem dX0_bestTold_14 : decode cX0_bestTold 14 = .ok (.iload_n 1, 1) := dk_27 (dk_at dksX0_bestTold_0 14 rfl rfl)
theorem dX0_bestTold_15 : decode cX0_bestTold 15 = .ok (.iload_n 3, 1) := dk_29 (dk_at dksX0_bestTold_0 15 rfl rfl)
theorem dX0_bestTold_16 : decode cX0_bestTold 16 = .ok (.invokevirtual 200, 3) := dk_182 0 200 (dk_at dksX0_bestTold_0 16 rfl rfl)
theorem dX0_bestTold_19 : decode cX0_bestTold 19 = .ok (.istore 4, 2) := dk_54 4 (dk_at dksX0_bestTold_0 19 rfl rfl)
theorem dX0_bestTold_21 : decode cX0_bestTold 21 = .ok (.iload_n 2, 1) := dk_28 (dk_at dksX0_bestTold_0 21 rfl rfl)
theorem dX0_bestTold_22 : decode cX0_bestTold 22 = .ok (.ifCond .eq 10, 3) := dk_153 0 10 (dk_at dksX0_bestTold_1 0 rfl rfl)
theorem dX0_bestTold_25 : decode cX0_bestTold 25 = .ok (.iload 4, 2) := dk_21 4 (dk_at dksX0_bestTold_1 3 rfl rfl)
theorem dX0_bestTold_27 : decode cX0_bestTold 27 = .ok (.bipush (-9), 2) := dk_16 247 (dk_at dksX0_bestTold_1 5 rfl rfl)
theorem dX0_bestTold_29 : decode cX0_bestTold 29 = .ok (.if_icmp .ne 8, 3) := dk_160 0 8 (dk_at dksX0_bestTold_1 7 rfl rfl)
theorem dX0_bestTold_32 : decode cX0_bestTold 32 = .ok (.iload 4, 2) := dk_21 4 (dk_at dksX0_bestTold_1 10 rfl rfl)
theorem dX0_bestTold_34 : decode cX0_bestTold 34 = .ok (.goto 26, 3) := dk_167 0 26 (dk_at dksX0_bestTold_1 12 rfl rfl)
theorem dX0_bestTold_37 : decode cX0_bestTold 37 = .ok (.aload_n 0, 1) := dk_42 (dk_at dksX0_bestTold_1 15 rfl rfl)
theorem dX0_bestTold_38 : decode cX0_bestTold 38 = .ok (.invokevirtual 204, 3) := dk_182 0 204 (dk_at dksX0_bestTold_1 16 rfl rfl)
theorem dX0_bestTold_41 : decode cX0_bestTold 41 = .ok (.aload_n 0, 1) := dk_42 (dk_at dksX0_bestTold_1 19 rfl rfl)
theorem dX0_bestTold_42 : decode cX0_bestTold 42 = .ok (.getfield 65, 3) := dk_180 0 65 (dk_at dksX0_bestTold_1 20 rfl rfl)
theorem dX0_bestTold_45 : decode cX0_bestTold 45 = .ok (.getfield 168, 3) := dk_180 0 168 (dk_at dksX0_bestTold_2 0 rfl rfl)
theorem dX0_bestTold_48 : decode cX0_bestTold 48 = .ok (.iload 4, 2) := dk_21 4 (dk_at dksX0_bestTold_2 3 rfl rfl)
theorem dX0_bestTold_50 : decode cX0_bestTold 50 = .ok (.invokestatic 208, 3) := dk_184 0 208 (dk_at dksX0_bestTold_2 5 rfl rfl)
theorem dX0_bestTold_53 : decode cX0_bestTold 53 = .ok (.invokevirtual 185, 3) := dk_182 0 185 (dk_at dksX0_bestTold_2 8 rfl rfl)
theorem dX0_bestTold_56 : decode cX0_bestTold 56 = .ok (.iload_n 1, 1) := dk_27 (dk_at dksX0_bestTold_2 11 rfl rfl)
theorem dX0_bestTold_57 : decode cX0_bestTold 57 = .ok (.invokevirtual 144, 3) := dk_182 0 144 (dk_at dksX0_bestTold_2 12 rfl rfl)
theorem dX0_bestTold_60 : decode cX0_bestTold 60 = .ok (.ireturn, 1) := dk_172 (dk_at dksX0_bestTold_2 15 rfl rfl)
abbrev cX0_bestFor : ByteArray := prog_1_method_25_code
def yX0_bestFor : MethodName := ⟨RX0, "bestFor", "(LCoresAreWills$Core;II)I"⟩
def dkwX0_bestFor_5 : List UInt8 := [21, 9, 184, 0, 189, 54, 5, 132, 7, 1, 167, 255, 158, 21, 4, 172]
abbrev dktX0_bestFor_5 : List UInt8 := dkwX0_bestFor_5 ++ []
def dkwX0_bestFor_4 : List UInt8 := [164, 0, 17, 16, 100, 21, 8, 104, 21, 7, 16, 25, 112, 96, 167, 0, 5, 21, 4, 54, 4, 21, 5]
abbrev dktX0_bestFor_4 : List UInt8 := dkwX0_bestFor_4 ++ dktX0_bestFor_5
def dkwX0_bestFor_3 : List UInt8 := [184, 0, 182, 2, 130, 126, 182, 0, 185, 87, 29, 25, 6, 28, 182, 0, 144, 104, 54, 9, 21, 9, 21, 5]
abbrev dktX0_bestFor_3 : List UInt8 := dkwX0_bestFor_3 ++ dktX0_bestFor_4
def dkwX0_bestFor_2 : List UInt8 := [16, 25, 112, 182, 0, 179, 153, 0, 70, 25, 6, 43, 180, 0, 168, 21, 8, 21, 7, 16, 25, 112]
abbrev dktX0_bestFor_2 : List UInt8 := dkwX0_bestFor_2 ++ dktX0_bestFor_3
def dkwX0_bestFor_1 : List UInt8 := [58, 6, 3, 54, 7, 21, 7, 16, 100, 162, 0, 97, 21, 7, 16, 25, 108, 54, 8, 43, 21, 8, 21, 7]
abbrev dktX0_bestFor_1 : List UInt8 := dkwX0_bestFor_1 ++ dktX0_bestFor_2
def dkwX0_bestFor_0 : List UInt8 := [16, 247, 54, 4, 29, 43, 28, 182, 0, 144, 104, 54, 5, 187, 0, 62, 89, 183, 0, 64, 43, 182, 0, 127]
abbrev dktX0_bestFor_0 : List UInt8 := dkwX0_bestFor_0 ++ dktX0_bestFor_1
theorem dksX0_bestFor_0 : cX0_bestFor.data.toList.drop 0 = dktX0_bestFor_0 := by decide +kernel
theorem dksX0_bestFor_1 : cX0_bestFor.data.toList.drop 24 = dktX0_bestFor_1 := dk_seg dksX0_bestFor_0 24 rfl rfl
theorem dksX0_bestFor_2 : cX0_bestFor.data.toList.drop 48 = dktX0_bestFor_2 := dk_seg dksX0_bestFor_1 24 rfl rfl
theorem dksX0_bestFor_3 : cX0_bestFor.data.toList.drop 70 = dktX0_bestFor_3 := dk_seg dksX0_bestFor_2 22 rfl rfl
theorem dksX0_bestFor_4 : cX0_bestFor.data.toList.drop 94 = dktX0_bestFor_4 := dk_seg dksX0_bestFor_3 24 rfl rfl
theorem dksX0_bestFor_5 : cX0_bestFor.data.toList.drop 117 = dktX0_bestFor_5 := dk_seg dksX0_bestFor_4 23 rfl rfl
theorem dX0_bestFor_0 : decode cX0_bestFor 0 = .ok (.bipush (-9), 2) := dk_16 247 (dk_at dksX0_bestFor_0 0 rfl rfl)
theorem dX0_bestFor_2 : decode cX0_bestFor 2 = .ok (.istore 4, 2) := dk_54 4 (dk_at dksX0_bestFor_0 2 rfl rfl)
theorem dX0_bestFor_4 : decode cX0_bestFor 4 = .ok (.iload_n 3, 1) := dk_29 (dk_at dksX0_bestFor_0 4 rfl rfl)
theorem dX0_bestFor_5 : decode cX0_bestFor 5 = .ok (.aload_n 1, 1) := dk_43 (dk_at dksX0_bestFor_0 5 rfl rfl)
theorem dX0_bestFor_6 : decode cX0_bestFor 6 = .ok (.iload_n 2, 1) := dk_28 (dk_at dksX0_bestFor_0 6 rfl rfl)
theorem dX0_bestFor_7 : decode cX0_bestFor 7 = .ok (.invokevirtual 144, 3) := dk_182 0 144 (dk_at dksX0_bestFor_0 7 rfl rfl)
theorem dX0_bestFor_10 : decode cX0_bestFor 10 = .ok (.imul, 1) := dk_104 (dk_at dksX0_bestFor_0 10 rfl rfl)
theorem dX0_bestFor_11 : decode cX0_bestFor 11 = .ok (.istore 5, 2) := dk_54 5 (dk_at dksX0_bestFor_0 11 rfl rfl)
theorem dX0_bestFor_13 : decode cX0_bestFor 13 = .ok (.new 62, 3) := dk_187 0 62 (dk_at dksX0_bestFor_0 13 rfl rfl)
theorem dX0_bestFor_16 : decode cX0_bestFor 16 = .ok (.dup, 1) := dk_89 (dk_at dksX0_bestFor_0 16 rfl rfl)
theorem dX0_bestFor_17 : decode cX0_bestFor 17 = .ok (.invokespecial 64, 3) := dk_183 0 64 (dk_at dksX0_bestFor_0 17 rfl rfl)
theorem dX0_bestFor_20 : decode cX0_bestFor 20 = .ok (.aload_n 1, 1) := dk_43 (dk_at dksX0_bestFor_0 20 rfl rfl)
theorem dX0_bestFor_21 : decode cX0_bestFor 21 = .ok (.invokevirtual 127, 3) := dk_182 0 127 (dk_at dksX0_bestFor_0 21 rfl rfl)
theorem dX0_bestFor_24 : decode cX0_bestFor 24 = .ok (.astore 6, 2) := dk_58 6 (dk_at dksX0_bestFor_1 0 rfl rfl)
theorem dX0_bestFor_26 : decode cX0_bestFor 26 = .ok (.iconst 0, 1) := dk_3 (dk_at dksX0_bestFor_1 2 rfl rfl)
theorem dX0_bestFor_27 : decode cX0_bestFor 27 = .ok (.istore 7, 2) := dk_54 7 (dk_at dksX0_bestFor_1 3 rfl rfl)
theorem dX0_bestFor_29 : decode cX0_bestFor 29 = .ok (.iload 7, 2) := dk_21 7 (dk_at dksX0_bestFor_1 5 rfl rfl)
theorem dX0_bestFor_31 : decode cX0_bestFor 31 = .ok (.bipush 100, 2) := dk_16 100 (dk_at dksX0_bestFor_1 7 rfl rfl)
theorem dX0_bestFor_33 : decode cX0_bestFor 33 = .ok (.if_icmp .ge 97, 3) := dk_162 0 97 (dk_at dksX0_bestFor_1 9 rfl rfl)
theorem dX0_bestFor_36 : decode cX0_bestFor 36 = .ok (.iload 7, 2) := dk_21 7 (dk_at dksX0_bestFor_1 12 rfl rfl)
theorem dX0_bestFor_38 : decode cX0_bestFor 38 = .ok (.bipush 25, 2) := dk_16 25 (dk_at dksX0_bestFor_1 14 rfl rfl)
theorem dX0_bestFor_40 : decode cX0_bestFor 40 = .ok (.idiv, 1) := dk_108 (dk_at dksX0_bestFor_1 16 rfl rfl)
theorem dX0_bestFor_41 : decode cX0_bestFor 41 = .ok (.istore 8, 2) := dk_54 8 (dk_at dksX0_bestFor_1 17 rfl rfl)
theorem dX0_bestFor_43 : decode cX0_bestFor 43 = .ok (.aload_n 1, 1) := dk_43 (dk_at dksX0_bestFor_1 19 rfl rfl)
theorem dX0_bestFor_44 : decode cX0_bestFor 44 = .ok (.iload 8, 2) := dk_21 8 (dk_at dksX0_bestFor_1 20 rfl rfl)
theorem dX0_bestFor_46 : decode cX0_bestFor 46 = .ok (.iload 7, 2) := dk_21 7 (dk_at dksX0_bestFor_1 22 rfl rfl)
theorem dX0_bestFor_48 : decode cX0_bestFor 48 = .ok (.bipush 25, 2) := dk_16 25 (dk_at dksX0_bestFor_2 0 rfl rfl)
theorem dX0_bestFor_50 : decode cX0_bestFor 50 = .ok (.irem, 1) := dk_112 (dk_at dksX0_bestFor_2 2 rfl rfl)
theorem dX0_bestFor_51 : decode cX0_bestFor 51 = .ok (.invokevirtual 179, 3) := dk_182 0 179 (dk_at dksX0_bestFor_2 3 rfl rfl)
theorem dX0_bestFor_54 : decode cX0_bestFor 54 = .ok (.ifCond .eq 70, 3) := dk_153 0 70 (dk_at dksX0_bestFor_2 6 rfl rfl)
theorem dX0_bestFor_57 : decode cX0_bestFor 57 = .ok (.aload 6, 2) := dk_25 6 (dk_at dksX0_bestFor_2 9 rfl rfl)
theorem dX0_bestFor_59 : decode cX0_bestFor 59 = .ok (.aload_n 1, 1) := dk_43 (dk_at dksX0_bestFor_2 11 rfl rfl)
theorem dX0_bestFor_60 : decode cX0_bestFor 60 = .ok (.getfield 168, 3) := dk_180 0 168 (dk_at dksX0_bestFor_2 12 rfl rfl)
theorem dX0_bestFor_63 : decode cX0_bestFor 63 = .ok (.iload 8, 2) := dk_21 8 (dk_at dksX0_bestFor_2 15 rfl rfl)
theorem dX0_bestFor_65 : decode cX0_bestFor 65 = .ok (.iload 7, 2) := dk_21 7 (dk_at dksX0_bestFor_2 17 rfl rfl)
theorem dX0_bestFor_67 : decode cX0_bestFor 67 = .ok (.bipush 25, 2) := dk_16 25 (dk_at dksX0_bestFor_2 19 rfl rfl)
theorem dX0_bestFor_69 : decode cX0_bestFor 69 = .ok (.irem, 1) := dk_112 (dk_at dksX0_bestFor_2 21 rfl rfl)
theorem dX0_bestFor_70 : decode cX0_bestFor 70 = .ok (.invokestatic 182, 3) := dk_184 0 182 (dk_at dksX0_bestFor_3 0 rfl rfl)
theorem dX0_bestFor_73 : decode cX0_bestFor 73 = .ok (.iconst (-1), 1) := dk_2 (dk_at dksX0_bestFor_3 3 rfl rfl)
theorem dX0_bestFor_74 : decode cX0_bestFor 74 = .ok (.ixor, 1) := dk_130 (dk_at dksX0_bestFor_3 4 rfl rfl)
theorem dX0_bestFor_75 : decode cX0_bestFor 75 = .ok (.iand, 1) := dk_126 (dk_at dksX0_bestFor_3 5 rfl rfl)
theorem dX0_bestFor_76 : decode cX0_bestFor 76 = .ok (.invokevirtual 185, 3) := dk_182 0 185 (dk_at dksX0_bestFor_3 6 rfl rfl)
theorem dX0_bestFor_79 : decode cX0_bestFor 79 = .ok (.pop, 1) := dk_87 (dk_at dksX0_bestFor_3 9 rfl rfl)
theorem dX0_bestFor_80 : decode cX0_bestFor 80 = .ok (.iload_n 3, 1) := dk_29 (dk_at dksX0_bestFor_3 10 rfl rfl)
theorem dX0_bestFor_81 : decode cX0_bestFor 81 = .ok (.aload 6, 2) := dk_25 6 (dk_at dksX0_bestFor_3 11 rfl rfl)
theorem dX0_bestFor_83 : decode cX0_bestFor 83 = .ok (.iload_n 2, 1) := dk_28 (dk_at dksX0_bestFor_3 13 rfl rfl)
theorem dX0_bestFor_84 : decode cX0_bestFor 84 = .ok (.invokevirtual 144, 3) := dk_182 0 144 (dk_at dksX0_bestFor_3 14 rfl rfl)
theorem dX0_bestFor_87 : decode cX0_bestFor 87 = .ok (.imul, 1) := dk_104 (dk_at dksX0_bestFor_3 17 rfl rfl)
theorem dX0_bestFor_88 : decode cX0_bestFor 88 = .ok (.istore 9, 2) := dk_54 9 (dk_at dksX0_bestFor_3 18 rfl rfl)
theorem dX0_bestFor_90 : decode cX0_bestFor 90 = .ok (.iload 9, 2) := dk_21 9 (dk_at dksX0_bestFor_3 20 rfl rfl)
theorem dX0_bestFor_92 : decode cX0_bestFor 92 = .ok (.iload 5, 2) := dk_21 5 (dk_at dksX0_bestFor_3 22 rfl rfl)
theorem dX0_bestFor_94 : decode cX0_bestFor 94 = .ok (.if_icmp .le 17, 3) := dk_164 0 17 (dk_at dksX0_bestFor_4 0 rfl rfl)
theorem dX0_bestFor_97 : decode cX0_bestFor 97 = .ok (.bipush 100, 2) := dk_16 100 (dk_at dksX0_bestFor_4 3 rfl rfl)
theorem dX0_bestFor_99 : decode cX0_bestFor 99 = .ok (.iload 8, 2) := dk_21 8 (dk_at dksX0_bestFor_4 5 rfl rfl)
theorem dX0_bestFor_101 : decode cX0_bestFor 101 = .ok (.imul, 1) := dk_104 (dk_at dksX0_bestFor_4 7 rfl rfl)
theorem dX0_bestFor_102 : decode cX0_bestFor 102 = .ok (.iload 7, 2) := dk_21 7 (dk_at dksX0_bestFor_4 8 rfl rfl)
theorem dX0_bestFor_104 : decode cX0_bestFor 104 = .ok (.bipush 25, 2) := dk_16 25 (dk_at dksX0_bestFor_4 10 rfl rfl)
theorem dX0_bestFor_106 : decode cX0_bestFor 106 = .ok (.irem, 1) := dk_112 (dk_at dksX0_bestFor_4 12 rfl rfl)
theorem dX0_bestFor_107 : decode cX0_bestFor 107 = .ok (.iadd, 1) := dk_96 (dk_at dksX0_bestFor_4 13 rfl rfl)
theorem dX0_bestFor_108 : decode cX0_bestFor 108 = .ok (.goto 5, 3) := dk_167 0 5 (dk_at dksX0_bestFor_4 14 rfl rfl)
theorem dX0_bestFor_111 : decode cX0_bestFor 111 = .ok (.iload 4, 2) := dk_21 4 (dk_at dksX0_bestFor_4 17 rfl rfl)
theorem dX0_bestFor_113 : decode cX0_bestFor 113 = .ok (.istore 4, 2) := dk_54 4 (dk_at dksX0_bestFor_4 19 rfl rfl)
theorem dX0_bestFor_115 : decode cX0_bestFor 115 = .ok (.iload 5, 2) := dk_21 5 (dk_at dksX0_bestFor_4 21 rfl rfl)
theorem dX0_bestFor_117 : decode cX0_bestFor 117 = .ok (.iload 9, 2) := dk_21 9 (dk_at dksX0_bestFor_5 0 rfl rfl)
theorem dX0_bestFor_119 : decode cX0_bestFor 119 = .ok (.invokestatic 189, 3) := dk_184 0 189 (dk_at dksX0_bestFor_5 2 rfl rfl)
theorem dX0_bestFor_122 : decode cX0_bestFor 122 = .ok (.istore 5, 2) := dk_54 5 (dk_at dksX0_bestFor_5 5 rfl rfl)
theorem dX0_bestFor_124 : decode cX0_bestFor 124 = .ok (.iinc 7 1, 3) := dk_132 7 1 (dk_at dksX0_bestFor_5 7 rfl rfl)
theorem dX0_bestFor_127 : decode cX0_bestFor 127 = .ok (.goto (-98), 3) := dk_167 255 158 (dk_at dksX0_bestFor_5 10 rfl rfl)
theorem dX0_bestFor_130 : decode cX0_bestFor 130 = .ok (.iload 4, 2) := dk_21 4 (dk_at dksX0_bestFor_5 13 rfl rfl)
theorem dX0_bestFor_132 : decode cX0_bestFor 132 = .ok (.ireturn, 1) := dk_172 (dk_at dksX0_bestFor_5 15 rfl rfl)
abbrev cX0_openMind : ByteArray := prog_1_method_18_code
def yX0_openMind : MethodName := ⟨RX0, "openMind", "()LCoresAreWills$Core;"⟩
def dkwX0_openMind_0 : List UInt8 := [42, 180, 0, 69, 42, 180, 0, 65, 182, 0, 127, 87, 42, 180, 0, 69, 176]
abbrev dktX0_openMind_0 : List UInt8 := dkwX0_openMind_0 ++ []
theorem dksX0_openMind_0 : cX0_openMind.data.toList.drop 0 = dktX0_openMind_0 := by decide +kernel
theorem dX0_openMind_0 : decode cX0_openMind 0 = .ok (.aload_n 0, 1) := dk_42 (dk_at dksX0_openMind_0 0 rfl rfl)
theorem dX0_openMind_1 : decode cX0_openMind 1 = .ok (.getfield 69, 3) := dk_180 0 69 (dk_at dksX0_openMind_0 1 rfl rfl)
theorem dX0_openMind_4 : decode cX0_openMind 4 = .ok (.aload_n 0, 1) := dk_42 (dk_at dksX0_openMind_0 4 rfl rfl)
theorem dX0_openMind_5 : decode cX0_openMind 5 = .ok (.getfield 65, 3) := dk_180 0 65 (dk_at dksX0_openMind_0 5 rfl rfl)
theorem dX0_openMind_8 : decode cX0_openMind 8 = .ok (.invokevirtual 127, 3) := dk_182 0 127 (dk_at dksX0_openMind_0 8 rfl rfl)
theorem dX0_openMind_11 : decode cX0_openMind 11 = .ok (.pop, 1) := dk_87 (dk_at dksX0_openMind_0 11 rfl rfl)
theorem dX0_openMind_12 : decode cX0_openMind 12 = .ok (.aload_n 0, 1) := dk_42 (dk_at dksX0_openMind_0 12 rfl rfl)
theorem dX0_openMind_13 : decode cX0_openMind 13 = .ok (.getfield 69, 3) := dk_180 0 69 (dk_at dksX0_openMind_0 13 rfl rfl)
theorem dX0_openMind_16 : decode cX0_openMind 16 = .ok (.areturn, 1) := dk_176 (dk_at dksX0_openMind_0 16 rfl rfl)
abbrev cX0_without : ByteArray := prog_1_method_26_code
def yX0_without : MethodName := ⟨RX0, "without", "(II)I"⟩
def dkwX0_without_0 : List UInt8 := [26, 27, 16, 100, 108, 27, 16, 100, 112, 184, 0, 182, 2, 130, 126, 172]
abbrev dktX0_without_0 : List UInt8 := dkwX0_without_0 ++ []
theorem dksX0_without_0 : cX0_without.data.toList.drop 0 = dktX0_without_0 := by decide +kernel
theorem dX0_without_0 : decode cX0_without 0 = .ok (.iload_n 0, 1) := dk_26 (dk_at dksX0_without_0 0 rfl rfl)
theorem dX0_without_1 : decode cX0_without 1 = .ok (.iload_n 1, 1) := dk_27 (dk_at dksX0_without_0 1 rfl rfl)
theorem dX0_without_2 : decode cX0_without 2 = .ok (.bipush 100, 2) := dk_16 100 (dk_at dksX0_without_0 2 rfl rfl)
theorem dX0_without_4 : decode cX0_without 4 = .ok (.idiv, 1) := dk_108 (dk_at dksX0_without_0 4 rfl rfl)
theorem dX0_without_5 : decode cX0_without 5 = .ok (.iload_n 1, 1) := dk_27 (dk_at dksX0_without_0 5 rfl rfl)
theorem dX0_without_6 : decode cX0_without 6 = .ok (.bipush 100, 2) := dk_16 100 (dk_at dksX0_without_0 6 rfl rfl)
theorem dX0_without_8 : decode cX0_without 8 = .ok (.irem, 1) := dk_112 (dk_at dksX0_without_0 8 rfl rfl)
theorem dX0_without_9 : decode cX0_without 9 = .ok (.invokestatic 182, 3) := dk_184 0 182 (dk_at dksX0_without_0 9 rfl rfl)
theorem dX0_without_12 : decode cX0_without 12 = .ok (.iconst (-1), 1) := dk_2 (dk_at dksX0_without_0 12 rfl rfl)
theorem dX0_without_13 : decode cX0_without 13 = .ok (.ixor, 1) := dk_130 (dk_at dksX0_without_0 13 rfl rfl)
theorem dX0_without_14 : decode cX0_without 14 = .ok (.iand, 1) := dk_126 (dk_at dksX0_without_0 14 rfl rfl)
theorem dX0_without_15 : decode cX0_without 15 = .ok (.ireturn, 1) := dk_172 (dk_at dksX0_without_0 15 rfl rfl)
abbrev cX0_fewestTold : ByteArray := prog_1_method_75_code
def yX0_fewestTold : MethodName := ⟨RX0, "fewestTold", "(III)I"⟩
def dkwX0_fewestTold_1 : List UInt8 := [182, 1, 136, 172]
abbrev dktX0_fewestTold_1 : List UInt8 := dkwX0_fewestTold_1 ++ []
def dkwX0_fewestTold_0 : List UInt8 := [42, 27, 182, 0, 194, 28, 133, 9, 20, 1, 134, 184, 1, 78, 29, 184, 0, 197, 42, 27, 28, 29]
abbrev dktX0_fewestTold_0 : List UInt8 := dkwX0_fewestTold_0 ++ dktX0_fewestTold_1
theorem dksX0_fewestTold_0 : cX0_fewestTold.data.toList.drop 0 = dktX0_fewestTold_0 := by decide +kernel
theorem dksX0_fewestTold_1 : cX0_fewestTold.data.toList.drop 22 = dktX0_fewestTold_1 := dk_seg dksX0_fewestTold_0 22 rfl rfl
theorem dX0_fewestTold_0 : decode cX0_fewestTold 0 = .ok (.aload_n 0, 1) := dk_42 (dk_at dksX0_fewestTold_0 0 rfl rfl)
theorem dX0_fewestTold_1 : decode cX0_fewestTold 1 = .ok (.iload_n 1, 1) := dk_27 (dk_at dksX0_fewestTold_0 1 rfl rfl)
theorem dX0_fewestTold_2 : decode cX0_fewestTold 2 = .ok (.invokevirtual 194, 3) := dk_182 0 194 (dk_at dksX0_fewestTold_0 2 rfl rfl)
theorem dX0_fewestTold_5 : decode cX0_fewestTold 5 = .ok (.iload_n 2, 1) := dk_28 (dk_at dksX0_fewestTold_0 5 rfl rfl)
theorem dX0_fewestTold_6 : decode cX0_fewestTold 6 = .ok (.i2l, 1) := dk_133 (dk_at dksX0_fewestTold_0 6 rfl rfl)
theorem dX0_fewestTold_7 : decode cX0_fewestTold 7 = .ok (.lconst 0, 1) := dk_9 (dk_at dksX0_fewestTold_0 7 rfl rfl)
theorem dX0_fewestTold_8 : decode cX0_fewestTold 8 = .ok (.ldc2_w 390, 3) := dk_20 1 134 (dk_at dksX0_fewestTold_0 8 rfl rfl)
theorem dX0_fewestTold_11 : decode cX0_fewestTold 11 = .ok (.invokestatic 334, 3) := dk_184 1 78 (dk_at dksX0_fewestTold_0 11 rfl rfl)
theorem dX0_fewestTold_14 : decode cX0_fewestTold 14 = .ok (.iload_n 3, 1) := dk_29 (dk_at dksX0_fewestTold_0 14 rfl rfl)
theorem dX0_fewestTold_15 : decode cX0_fewestTold 15 = .ok (.invokestatic 197, 3) := dk_184 0 197 (dk_at dksX0_fewestTold_0 15 rfl rfl)
theorem dX0_fewestTold_18 : decode cX0_fewestTold 18 = .ok (.aload_n 0, 1) := dk_42 (dk_at dksX0_fewestTold_0 18 rfl rfl)
theorem dX0_fewestTold_19 : decode cX0_fewestTold 19 = .ok (.iload_n 1, 1) := dk_27 (dk_at dksX0_fewestTold_0 19 rfl rfl)
theorem dX0_fewestTold_20 : decode cX0_fewestTold 20 = .ok (.iload_n 2, 1) := dk_28 (dk_at dksX0_fewestTold_0 20 rfl rfl)
theorem dX0_fewestTold_21 : decode cX0_fewestTold 21 = .ok (.iload_n 3, 1) := dk_29 (dk_at dksX0_fewestTold_0 21 rfl rfl)
theorem dX0_fewestTold_22 : decode cX0_fewestTold 22 = .ok (.invokevirtual 392, 3) := dk_182 1 136 (dk_at dksX0_fewestTold_1 0 rfl rfl)
theorem dX0_fewestTold_25 : decode cX0_fewestTold 25 = .ok (.ireturn, 1) := dk_172 (dk_at dksX0_fewestTold_1 3 rfl rfl)
abbrev cX0_fewestFor : ByteArray := prog_1_method_29_code
def yX0_fewestFor : MethodName := ⟨RX0, "fewestFor", "(III)I"⟩
def dkwX0_fewestFor_7 : List UInt8 := [167, 255, 131, 132, 5, 1, 167, 255, 116, 16, 247, 172]
abbrev dktX0_fewestFor_7 : List UInt8 := dkwX0_fewestFor_7 ++ []
def dkwX0_fewestFor_6 : List UInt8 := [21, 5, 167, 0, 17, 16, 100, 21, 6, 16, 25, 108, 104, 21, 6, 16, 25, 112, 96, 172, 132, 6, 1]
abbrev dktX0_fewestFor_6 : List UInt8 := dkwX0_fewestFor_6 ++ dktX0_fewestFor_7
def dkwX0_fewestFor_5 : List UInt8 := [167, 0, 13, 42, 25, 4, 21, 7, 27, 28, 182, 0, 211, 54, 8, 21, 8, 153, 0, 27, 29, 154, 0, 8]
abbrev dktX0_fewestFor_5 : List UInt8 := dkwX0_fewestFor_5 ++ dktX0_fewestFor_6
def dkwX0_fewestFor_4 : List UInt8 := [160, 0, 26, 25, 4, 21, 7, 182, 0, 185, 27, 182, 0, 144, 28, 161, 0, 7, 4, 167, 0, 17, 3]
abbrev dktX0_fewestFor_4 : List UInt8 := dkwX0_fewestFor_4 ++ dktX0_fewestFor_5
def dkwX0_fewestFor_3 : List UInt8 := [180, 0, 168, 21, 6, 16, 25, 108, 21, 6, 16, 25, 112, 184, 0, 182, 2, 130, 126, 54, 7, 21, 5, 4]
abbrev dktX0_fewestFor_3 : List UInt8 := dkwX0_fewestFor_3 ++ dktX0_fewestFor_4
def dkwX0_fewestFor_2 : List UInt8 := [42, 180, 0, 65, 21, 6, 16, 25, 108, 21, 6, 16, 25, 112, 182, 0, 179, 153, 0, 98, 42, 180, 0, 65]
abbrev dktX0_fewestFor_2 : List UInt8 := dkwX0_fewestFor_2 ++ dktX0_fewestFor_3
def dkwX0_fewestFor_1 : List UInt8 := [182, 0, 204, 58, 4, 4, 54, 5, 21, 5, 5, 163, 0, 140, 3, 54, 6, 21, 6, 16, 100, 162, 0, 124]
abbrev dktX0_fewestFor_1 : List UInt8 := dkwX0_fewestFor_1 ++ dktX0_fewestFor_2
def dkwX0_fewestFor_0 : List UInt8 := [42, 180, 0, 65, 27, 182, 0, 144, 28, 161, 0, 14, 29, 154, 0, 7, 3, 167, 0, 5, 16, 247, 172, 42]
abbrev dktX0_fewestFor_0 : List UInt8 := dkwX0_fewestFor_0 ++ dktX0_fewestFor_1
theorem dksX0_fewestFor_0 : cX0_fewestFor.data.toList.drop 0 = dktX0_fewestFor_0 := by decide +kernel
theorem dksX0_fewestFor_1 : cX0_fewestFor.data.toList.drop 24 = dktX0_fewestFor_1 := dk_seg dksX0_fewestFor_0 24 rfl rfl
theorem dksX0_fewestFor_2 : cX0_fewestFor.data.toList.drop 48 = dktX0_fewestFor_2 := dk_seg dksX0_fewestFor_1 24 rfl rfl
theorem dksX0_fewestFor_3 : cX0_fewestFor.data.toList.drop 72 = dktX0_fewestFor_3 := dk_seg dksX0_fewestFor_2 24 rfl rfl
theorem dksX0_fewestFor_4 : cX0_fewestFor.data.toList.drop 96 = dktX0_fewestFor_4 := dk_seg dksX0_fewestFor_3 24 rfl rfl
theorem dksX0_fewestFor_5 : cX0_fewestFor.data.toList.drop 119 = dktX0_fewestFor_5 := dk_seg dksX0_fewestFor_4 23 rfl rfl
theorem dksX0_fewestFor_6 : cX0_fewestFor.data.toList.drop 143 = dktX0_fewestFor_6 := dk_seg dksX0_fewestFor_5 24 rfl rfl
theorem dksX0_fewestFor_7 : cX0_fewestFor.data.toList.drop 166 = dktX0_fewestFor_7 := dk_seg dksX0_fewestFor_6 23 rfl rfl
theorem dX0_fewestFor_0 : decode cX0_fewestFor 0 = .ok (.aload_n 0, 1) := dk_42 (dk_at dksX0_fewestFor_0 0 rfl rfl)
theorem dX0_fewestFor_1 : decode cX0_fewestFor 1 = .ok (.getfield 65, 3) := dk_180 0 65 (dk_at dksX0_fewestFor_0 1 rfl rfl)
theorem dX0_fewestFor_4 : decode cX0_fewestFor 4 = .ok (.iload_n 1, 1) := dk_27 (dk_at dksX0_fewestFor_0 4 rfl rfl)
theorem dX0_fewestFor_5 : decode cX0_fewestFor 5 = .ok (.invokevirtual 144, 3) := dk_182 0 144 (dk_at dksX0_fewestFor_0 5 rfl rfl)
theorem dX0_fewestFor_8 : decode cX0_fewestFor 8 = .ok (.iload_n 2, 1) := dk_28 (dk_at dksX0_fewestFor_0 8 rfl rfl)
theorem dX0_fewestFor_9 : decode cX0_fewestFor 9 = .ok (.if_icmp .lt 14, 3) := dk_161 0 14 (dk_at dksX0_fewestFor_0 9 rfl rfl)
theorem dX0_fewestFor_12 : decode cX0_fewestFor 12 = .ok (.iload_n 3, 1) := dk_29 (dk_at dksX0_fewestFor_0 12 rfl rfl)
theorem dX0_fewestFor_13 : decode cX0_fewestFor 13 = .ok (.ifCond .ne 7, 3) := dk_154 0 7 (dk_at dksX0_fewestFor_0 13 rfl rfl)
theorem dX0_fewestFor_16 : decode cX0_fewestFor 16 = .ok (.iconst 0, 1) := dk_3 (dk_at dksX0_fewestFor_0 16 rfl rfl)
theorem dX0_fewestFor_17 : decode cX0_fewestFor 17 = .ok (.goto 5, 3) := dk_167 0 5 (dk_at dksX0_fewestFor_0 17 rfl rfl)
theorem dX0_fewestFor_20 : decode cX0_fewestFor 20 = .ok (.bipush (-9), 2) := dk_16 247 (dk_at dksX0_fewestFor_0 20 rfl rfl)
theorem dX0_fewestFor_22 : decode cX0_fewestFor 22 = .ok (.ireturn, 1) := dk_172 (dk_at dksX0_fewestFor_0 22 rfl rfl)
theorem dX0_fewestFor_23 : decode cX0_fewestFor 23 = .ok (.aload_n 0, 1) := dk_42 (dk_at dksX0_fewestFor_0 23 rfl rfl)
theorem dX0_fewestFor_24 : decode cX0_fewestFor 24 = .ok (.invokevirtual 204, 3) := dk_182 0 204 (dk_at dksX0_fewestFor_1 0 rfl rfl)
theorem dX0_fewestFor_27 : decode cX0_fewestFor 27 = .ok (.astore 4, 2) := dk_58 4 (dk_at dksX0_fewestFor_1 3 rfl rfl)
theorem dX0_fewestFor_29 : decode cX0_fewestFor 29 = .ok (.iconst 1, 1) := dk_4 (dk_at dksX0_fewestFor_1 5 rfl rfl)
theorem dX0_fewestFor_30 : decode cX0_fewestFor 30 = .ok (.istore 5, 2) := dk_54 5 (dk_at dksX0_fewestFor_1 6 rfl rfl)
theorem dX0_fewestFor_32 : decode cX0_fewestFor 32 = .ok (.iload 5, 2) := dk_21 5 (dk_at dksX0_fewestFor_1 8 rfl rfl)
theorem dX0_fewestFor_34 : decode cX0_fewestFor 34 = .ok (.iconst 2, 1) := dk_5 (dk_at dksX0_fewestFor_1 10 rfl rfl)
theorem dX0_fewestFor_35 : decode cX0_fewestFor 35 = .ok (.if_icmp .gt 140, 3) := dk_163 0 140 (dk_at dksX0_fewestFor_1 11 rfl rfl)
theorem dX0_fewestFor_38 : decode cX0_fewestFor 38 = .ok (.iconst 0, 1) := dk_3 (dk_at dksX0_fewestFor_1 14 rfl rfl)
theorem dX0_fewestFor_39 : decode cX0_fewestFor 39 = .ok (.istore 6, 2) := dk_54 6 (dk_at dksX0_fewestFor_1 15 rfl rfl)
theorem dX0_fewestFor_41 : decode cX0_fewestFor 41 = .ok (.iload 6, 2) := dk_21 6 (dk_at dksX0_fewestFor_1 17 rfl rfl)
theorem dX0_fewestFor_43 : decode cX0_fewestFor 43 = .ok (.bipush 100, 2) := dk_16 100 (dk_at dksX0_fewestFor_1 19 rfl rfl)
theorem dX0_fewestFor_45 : decode cX0_fewestFor 45 = .ok (.if_icmp .ge 124, 3) := dk_162 0 124 (dk_at dksX0_fewestFor_1 21 rfl rfl)
theorem dX0_fewestFor_48 : decode cX0_fewestFor 48 = .ok (.aload_n 0, 1) := dk_42 (dk_at dksX0_fewestFor_2 0 rfl rfl)
theorem dX0_fewestFor_49 : decode cX0_fewestFor 49 = .ok (.getfield 65, 3) := dk_180 0 65 (dk_at dksX0_fewestFor_2 1 rfl rfl)
theorem dX0_fewestFor_52 : decode cX0_fewestFor 52 = .ok (.iload 6, 2) := dk_21 6 (dk_at dksX0_fewestFor_2 4 rfl rfl)
theorem dX0_fewestFor_54 : decode cX0_fewestFor 54 = .ok (.bipush 25, 2) := dk_16 25 (dk_at dksX0_fewestFor_2 6 rfl rfl)
theorem dX0_fewestFor_56 : decode cX0_fewestFor 56 = .ok (.idiv, 1) := dk_108 (dk_at dksX0_fewestFor_2 8 rfl rfl)
theorem dX0_fewestFor_57 : decode cX0_fewestFor 57 = .ok (.iload 6, 2) := dk_21 6 (dk_at dksX0_fewestFor_2 9 rfl rfl)
theorem dX0_fewestFor_59 : decode cX0_fewestFor 59 = .ok (.bipush 25, 2) := dk_16 25 (dk_at dksX0_fewestFor_2 11 rfl rfl)
theorem dX0_fewestFor_61 : decode cX0_fewestFor 61 = .ok (.irem, 1) := dk_112 (dk_at dksX0_fewestFor_2 13 rfl rfl)
theorem dX0_fewestFor_62 : decode cX0_fewestFor 62 = .ok (.invokevirtual 179, 3) := dk_182 0 179 (dk_at dksX0_fewestFor_2 14 rfl rfl)
theorem dX0_fewestFor_65 : decode cX0_fewestFor 65 = .ok (.ifCond .eq 98, 3) := dk_153 0 98 (dk_at dksX0_fewestFor_2 17 rfl rfl)
theorem dX0_fewestFor_68 : decode cX0_fewestFor 68 = .ok (.aload_n 0, 1) := dk_42 (dk_at dksX0_fewestFor_2 20 rfl rfl)
theorem dX0_fewestFor_69 : decode cX0_fewestFor 69 = .ok (.getfield 65, 3) := dk_180 0 65 (dk_at dksX0_fewestFor_2 21 rfl rfl)
theorem dX0_fewestFor_72 : decode cX0_fewestFor 72 = .ok (.getfield 168, 3) := dk_180 0 168 (dk_at dksX0_fewestFor_3 0 rfl rfl)
theorem dX0_fewestFor_75 : decode cX0_fewestFor 75 = .ok (.iload 6, 2) := dk_21 6 (dk_at dksX0_fewestFor_3 3 rfl rfl)
theorem dX0_fewestFor_77 : decode cX0_fewestFor 77 = .ok (.bipush 25, 2) := dk_16 25 (dk_at dksX0_fewestFor_3 5 rfl rfl)
theorem dX0_fewestFor_79 : decode cX0_fewestFor 79 = .ok (.idiv, 1) := dk_108 (dk_at dksX0_fewestFor_3 7 rfl rfl)
theorem dX0_fewestFor_80 : decode cX0_fewestFor 80 = .ok (.iload 6, 2) := dk_21 6 (dk_at dksX0_fewestFor_3 8 rfl rfl)
theorem dX0_fewestFor_82 : decode cX0_fewestFor 82 = .ok (.bipush 25, 2) := dk_16 25 (dk_at dksX0_fewestFor_3 10 rfl rfl)
theorem dX0_fewestFor_84 : decode cX0_fewestFor 84 = .ok (.irem, 1) := dk_112 (dk_at dksX0_fewestFor_3 12 rfl rfl)
theorem dX0_fewestFor_85 : decode cX0_fewestFor 85 = .ok (.invokestatic 182, 3) := dk_184 0 182 (dk_at dksX0_fewestFor_3 13 rfl rfl)
theorem dX0_fewestFor_88 : decode cX0_fewestFor 88 = .ok (.iconst (-1), 1) := dk_2 (dk_at dksX0_fewestFor_3 16 rfl rfl)
theorem dX0_fewestFor_89 : decode cX0_fewestFor 89 = .ok (.ixor, 1) := dk_130 (dk_at dksX0_fewestFor_3 17 rfl rfl)
theorem dX0_fewestFor_90 : decode cX0_fewestFor 90 = .ok (.iand, 1) := dk_126 (dk_at dksX0_fewestFor_3 18 rfl rfl)
theorem dX0_fewestFor_91 : decode cX0_fewestFor 91 = .ok (.istore 7, 2) := dk_54 7 (dk_at dksX0_fewestFor_3 19 rfl rfl)
theorem dX0_fewestFor_93 : decode cX0_fewestFor 93 = .ok (.iload 5, 2) := dk_21 5 (dk_at dksX0_fewestFor_3 21 rfl rfl)
theorem dX0_fewestFor_95 : decode cX0_fewestFor 95 = .ok (.iconst 1, 1) := dk_4 (dk_at dksX0_fewestFor_3 23 rfl rfl)
theorem dX0_fewestFor_96 : decode cX0_fewestFor 96 = .ok (.if_icmp .ne 26, 3) := dk_160 0 26 (dk_at dksX0_fewestFor_4 0 rfl rfl)
theorem dX0_fewestFor_99 : decode cX0_fewestFor 99 = .ok (.aload 4, 2) := dk_25 4 (dk_at dksX0_fewestFor_4 3 rfl rfl)
theorem dX0_fewestFor_101 : decode cX0_fewestFor 101 = .ok (.iload 7, 2) := dk_21 7 (dk_at dksX0_fewestFor_4 5 rfl rfl)
theorem dX0_fewestFor_103 : decode cX0_fewestFor 103 = .ok (.invokevirtual 185, 3) := dk_182 0 185 (dk_at dksX0_fewestFor_4 7 rfl rfl)
theorem dX0_fewestFor_106 : decode cX0_fewestFor 106 = .ok (.iload_n 1, 1) := dk_27 (dk_at dksX0_fewestFor_4 10 rfl rfl)
theorem dX0_fewestFor_107 : decode cX0_fewestFor 107 = .ok (.invokevirtual 144, 3) := dk_182 0 144 (dk_at dksX0_fewestFor_4 11 rfl rfl)
theorem dX0_fewestFor_110 : decode cX0_fewestFor 110 = .ok (.iload_n 2, 1) := dk_28 (dk_at dksX0_fewestFor_4 14 rfl rfl)
theorem dX0_fewestFor_111 : decode cX0_fewestFor 111 = .ok (.if_icmp .lt 7, 3) := dk_161 0 7 (dk_at dksX0_fewestFor_4 15 rfl rfl)
theorem dX0_fewestFor_114 : decode cX0_fewestFor 114 = .ok (.iconst 1, 1) := dk_4 (dk_at dksX0_fewestFor_4 18 rfl rfl)
theorem dX0_fewestFor_115 : decode cX0_fewestFor 115 = .ok (.goto 17, 3) := dk_167 0 17 (dk_at dksX0_fewestFor_4 19 rfl rfl)
theorem dX0_fewestFor_118 : decode cX0_fewestFor 118 = .ok (.iconst 0, 1) := dk_3 (dk_at dksX0_fewestFor_4 22 rfl rfl)
theorem dX0_fewestFor_119 : decode cX0_fewestFor 119 = .ok (.goto 13, 3) := dk_167 0 13 (dk_at dksX0_fewestFor_5 0 rfl rfl)
theorem dX0_fewestFor_122 : decode cX0_fewestFor 122 = .ok (.aload_n 0, 1) := dk_42 (dk_at dksX0_fewestFor_5 3 rfl rfl)
theorem dX0_fewestFor_123 : decode cX0_fewestFor 123 = .ok (.aload 4, 2) := dk_25 4 (dk_at dksX0_fewestFor_5 4 rfl rfl)
theorem dX0_fewestFor_125 : decode cX0_fewestFor 125 = .ok (.iload 7, 2) := dk_21 7 (dk_at dksX0_fewestFor_5 6 rfl rfl)
theorem dX0_fewestFor_127 : decode cX0_fewestFor 127 = .ok (.iload_n 1, 1) := dk_27 (dk_at dksX0_fewestFor_5 8 rfl rfl)
theorem dX0_fewestFor_128 : decode cX0_fewestFor 128 = .ok (.iload_n 2, 1) := dk_28 (dk_at dksX0_fewestFor_5 9 rfl rfl)
theorem dX0_fewestFor_129 : decode cX0_fewestFor 129 = .ok (.invokevirtual 211, 3) := dk_182 0 211 (dk_at dksX0_fewestFor_5 10 rfl rfl)
theorem dX0_fewestFor_132 : decode cX0_fewestFor 132 = .ok (.istore 8, 2) := dk_54 8 (dk_at dksX0_fewestFor_5 13 rfl rfl)
theorem dX0_fewestFor_134 : decode cX0_fewestFor 134 = .ok (.iload 8, 2) := dk_21 8 (dk_at dksX0_fewestFor_5 15 rfl rfl)
theorem dX0_fewestFor_136 : decode cX0_fewestFor 136 = .ok (.ifCond .eq 27, 3) := dk_153 0 27 (dk_at dksX0_fewestFor_5 17 rfl rfl)
theorem dX0_fewestFor_139 : decode cX0_fewestFor 139 = .ok (.iload_n 3, 1) := dk_29 (dk_at dksX0_fewestFor_5 20 rfl rfl)
theorem dX0_fewestFor_140 : decode cX0_fewestFor 140 = .ok (.ifCond .ne 8, 3) := dk_154 0 8 (dk_at dksX0_fewestFor_5 21 rfl rfl)
theorem dX0_fewestFor_143 : decode cX0_fewestFor 143 = .ok (.iload 5, 2) := dk_21 5 (dk_at dksX0_fewestFor_6 0 rfl rfl)
theorem dX0_fewestFor_145 : decode cX0_fewestFor 145 = .ok (.goto 17, 3) := dk_167 0 17 (dk_at dksX0_fewestFor_6 2 rfl rfl)
theorem dX0_fewestFor_148 : decode cX0_fewestFor 148 = .ok (.bipush 100, 2) := dk_16 100 (dk_at dksX0_fewestFor_6 5 rfl rfl)
theorem dX0_fewestFor_150 : decode cX0_fewestFor 150 = .ok (.iload 6, 2) := dk_21 6 (dk_at dksX0_fewestFor_6 7 rfl rfl)
theorem dX0_fewestFor_152 : decode cX0_fewestFor 152 = .ok (.bipush 25, 2) := dk_16 25 (dk_at dksX0_fewestFor_6 9 rfl rfl)
theorem dX0_fewestFor_154 : decode cX0_fewestFor 154 = .ok (.idiv, 1) := dk_108 (dk_at dksX0_fewestFor_6 11 rfl rfl)
theorem dX0_fewestFor_155 : decode cX0_fewestFor 155 = .ok (.imul, 1) := dk_104 (dk_at dksX0_fewestFor_6 12 rfl rfl)
theorem dX0_fewestFor_156 : decode cX0_fewestFor 156 = .ok (.iload 6, 2) := dk_21 6 (dk_at dksX0_fewestFor_6 13 rfl rfl)
theorem dX0_fewestFor_158 : decode cX0_fewestFor 158 = .ok (.bipush 25, 2) := dk_16 25 (dk_at dksX0_fewestFor_6 15 rfl rfl)
theorem dX0_fewestFor_160 : decode cX0_fewestFor 160 = .ok (.irem, 1) := dk_112 (dk_at dksX0_fewestFor_6 17 rfl rfl)
theorem dX0_fewestFor_161 : decode cX0_fewestFor 161 = .ok (.iadd, 1) := dk_96 (dk_at dksX0_fewestFor_6 18 rfl rfl)
theorem dX0_fewestFor_162 : decode cX0_fewestFor 162 = .ok (.ireturn, 1) := dk_172 (dk_at dksX0_fewestFor_6 19 rfl rfl)
theorem dX0_fewestFor_163 : decode cX0_fewestFor 163 = .ok (.iinc 6 1, 3) := dk_132 6 1 (dk_at dksX0_fewestFor_6 20 rfl rfl)
theorem dX0_fewestFor_166 : decode cX0_fewestFor 166 = .ok (.goto (-125), 3) := dk_167 255 131 (dk_at dksX0_fewestFor_7 0 rfl rfl)
theorem dX0_fewestFor_169 : decode cX0_fewestFor 169 = .ok (.iinc 5 1, 3) := dk_132 5 1 (dk_at dksX0_fewestFor_7 3 rfl rfl)
theorem dX0_fewestFor_172 : decode cX0_fewestFor 172 = .ok (.goto (-140), 3) := dk_167 255 116 (dk_at dksX0_fewestFor_7 6 rfl rfl)
theorem dX0_fewestFor_175 : decode cX0_fewestFor 175 = .ok (.bipush (-9), 2) := dk_16 247 (dk_at dksX0_fewestFor_7 9 rfl rfl)
theorem dX0_fewestFor_177 : decode cX0_fewestFor 177 = .ok (.ireturn, 1) := dk_172 (dk_at dksX0_fewestFor_7 11 rfl rfl)
abbrev cX0_hasBehindOne : ByteArray := prog_1_method_28_code
def yX0_hasBehindOne : MethodName := ⟨RX0, "hasBehindOne", "(LCoresAreWills$Core;III)Z"⟩
def dkwX0_hasBehindOne_2 : List UInt8 := [182, 0, 185, 29, 182, 0, 144, 21, 4, 161, 0, 5, 4, 172, 132, 5, 1, 167, 255, 196, 3, 172]
abbrev dktX0_hasBehindOne_2 : List UInt8 := dkwX0_hasBehindOne_2 ++ []
def dkwX0_hasBehindOne_1 : List UInt8 := [54, 6, 21, 6, 153, 0, 33, 21, 6, 28, 2, 130, 126, 154, 0, 24, 43, 28, 21, 6, 2, 130, 126]
abbrev dktX0_hasBehindOne_1 : List UInt8 := dkwX0_hasBehindOne_1 ++ dktX0_hasBehindOne_2
def dkwX0_hasBehindOne_0 : List UInt8 := [3, 54, 5, 21, 5, 16, 100, 162, 0, 59, 21, 5, 16, 25, 108, 21, 5, 16, 25, 112, 184, 0, 182]
abbrev dktX0_hasBehindOne_0 : List UInt8 := dkwX0_hasBehindOne_0 ++ dktX0_hasBehindOne_1
theorem dksX0_hasBehindOne_0 : cX0_hasBehindOne.data.toList.drop 0 = dktX0_hasBehindOne_0 := by decide +kernel
theorem dksX0_hasBehindOne_1 : cX0_hasBehindOne.data.toList.drop 23 = dktX0_hasBehindOne_1 := dk_seg dksX0_hasBehindOne_0 23 rfl rfl
theorem dksX0_hasBehindOne_2 : cX0_hasBehindOne.data.toList.drop 46 = dktX0_hasBehindOne_2 := dk_seg dksX0_hasBehindOne_1 23 rfl rfl
theorem dX0_hasBehindOne_0 : decode cX0_hasBehindOne 0 = .ok (.iconst 0, 1) := dk_3 (dk_at dksX0_hasBehindOne_0 0 rfl rfl)
theorem dX0_hasBehindOne_1 : decode cX0_hasBehindOne 1 = .ok (.istore 5, 2) := dk_54 5 (dk_at dksX0_hasBehindOne_0 1 rfl rfl)
theorem dX0_hasBehindOne_3 : decode cX0_hasBehindOne 3 = .ok (.iload 5, 2) := dk_21 5 (dk_at dksX0_hasBehindOne_0 3 rfl rfl)
theorem dX0_hasBehindOne_5 : decode cX0_hasBehindOne 5 = .ok (.bipush 100, 2) := dk_16 100 (dk_at dksX0_hasBehindOne_0 5 rfl rfl)
theorem dX0_hasBehindOne_7 : decode cX0_hasBehindOne 7 = .ok (.if_icmp .ge 59, 3) := dk_162 0 59 (dk_at dksX0_hasBehindOne_0 7 rfl rfl)
theorem dX0_hasBehindOne_10 : decode cX0_hasBehindOne 10 = .ok (.iload 5, 2) := dk_21 5 (dk_at dksX0_hasBehindOne_0 10 rfl rfl)
theorem dX0_hasBehindOne_12 : decode cX0_hasBehindOne 12 = .ok (.bipush 25, 2) := dk_16 25 (dk_at dksX0_hasBehindOne_0 12 rfl rfl)
theorem dX0_hasBehindOne_14 : decode cX0_hasBehindOne 14 = .ok (.idiv, 1) := dk_108 (dk_at dksX0_hasBehindOne_0 14 rfl rfl)
theorem dX0_hasBehindOne_15 : decode cX0_hasBehindOne 15 = .ok (.iload 5, 2) := dk_21 5 (dk_at dksX0_hasBehindOne_0 15 rfl rfl)
theorem dX0_hasBehindOne_17 : decode cX0_hasBehindOne 17 = .ok (.bipush 25, 2) := dk_16 25 (dk_at dksX0_hasBehindOne_0 17 rfl rfl)
theorem dX0_hasBehindOne_19 : decode cX0_hasBehindOne 19 = .ok (.irem, 1) := dk_112 (dk_at dksX0_hasBehindOne_0 19 rfl rfl)
theorem dX0_hasBehindOne_20 : decode cX0_hasBehindOne 20 = .ok (.invokestatic 182, 3) := dk_184 0 182 (dk_at dksX0_hasBehindOne_0 20 rfl rfl)
theorem dX0_hasBehindOne_23 : decode cX0_hasBehindOne 23 = .ok (.istore 6, 2) := dk_54 6 (dk_at dksX0_hasBehindOne_1 0 rfl rfl)
theorem dX0_hasBehindOne_25 : decode cX0_hasBehindOne 25 = .ok (.iload 6, 2) := dk_21 6 (dk_at dksX0_hasBehindOne_1 2 rfl rfl)
theorem dX0_hasBehindOne_27 : decode cX0_hasBehindOne 27 = .ok (.ifCond .eq 33, 3) := dk_153 0 33 (dk_at dksX0_hasBehindOne_1 4 rfl rfl)
theorem dX0_hasBehindOne_30 : decode cX0_hasBehindOne 30 = .ok (.iload 6, 2) := dk_21 6 (dk_at dksX0_hasBehindOne_1 7 rfl rfl)
theorem dX0_hasBehindOne_32 : decode cX0_hasBehindOne 32 = .ok (.iload_n 2, 1) := dk_28 (dk_at dksX0_hasBehindOne_1 9 rfl rfl)
theorem dX0_hasBehindOne_33 : decode cX0_hasBehindOne 33 = .ok (.iconst (-1), 1) := dk_2 (dk_at dksX0_hasBehindOne_1 10 rfl rfl)
theorem dX0_hasBehindOne_34 : decode cX0_hasBehindOne 34 = .ok (.ixor, 1) := dk_130 (dk_at dksX0_hasBehindOne_1 11 rfl rfl)
theorem dX0_hasBehindOne_35 : decode cX0_hasBehindOne 35 = .ok (.iand, 1) := dk_126 (dk_at dksX0_hasBehindOne_1 12 rfl rfl)
theorem dX0_hasBehindOne_36 : decode cX0_hasBehindOne 36 = .ok (.ifCond .ne 24, 3) := dk_154 0 24 (dk_at dksX0_hasBehindOne_1 13 rfl rfl)
theorem dX0_hasBehindOne_39 : decode cX0_hasBehindOne 39 = .ok (.aload_n 1, 1) := dk_43 (dk_at dksX0_hasBehindOne_1 16 rfl rfl)
theorem dX0_hasBehindOne_40 : decode cX0_hasBehindOne 40 = .ok (.iload_n 2, 1) := dk_28 (dk_at dksX0_hasBehindOne_1 17 rfl rfl)
theorem dX0_hasBehindOne_41 : decode cX0_hasBehindOne 41 = .ok (.iload 6, 2) := dk_21 6 (dk_at dksX0_hasBehindOne_1 18 rfl rfl)
theorem dX0_hasBehindOne_43 : decode cX0_hasBehindOne 43 = .ok (.iconst (-1), 1) := dk_2 (dk_at dksX0_hasBehindOne_1 20 rfl rfl)
theorem dX0_hasBehindOne_44 : decode cX0_hasBehindOne 44 = .ok (.ixor, 1) := dk_130 (dk_at dksX0_hasBehindOne_1 21 rfl rfl)
theorem dX0_hasBehindOne_45 : decode cX0_hasBehindOne 45 = .ok (.iand, 1) := dk_126 (dk_at dksX0_hasBehindOne_1 22 rfl rfl)
theorem dX0_hasBehindOne_46 : decode cX0_hasBehindOne 46 = .ok (.invokevirtual 185, 3) := dk_182 0 185 (dk_at dksX0_hasBehindOne_2 0 rfl rfl)
theorem dX0_hasBehindOne_49 : decode cX0_hasBehindOne 49 = .ok (.iload_n 3, 1) := dk_29 (dk_at dksX0_hasBehindOne_2 3 rfl rfl)
theorem dX0_hasBehindOne_50 : decode cX0_hasBehindOne 50 = .ok (.invokevirtual 144, 3) := dk_182 0 144 (dk_at dksX0_hasBehindOne_2 4 rfl rfl)
theorem dX0_hasBehindOne_53 : decode cX0_hasBehindOne 53 = .ok (.iload 4, 2) := dk_21 4 (dk_at dksX0_hasBehindOne_2 7 rfl rfl)
theorem dX0_hasBehindOne_55 : decode cX0_hasBehindOne 55 = .ok (.if_icmp .lt 5, 3) := dk_161 0 5 (dk_at dksX0_hasBehindOne_2 9 rfl rfl)
theorem dX0_hasBehindOne_58 : decode cX0_hasBehindOne 58 = .ok (.iconst 1, 1) := dk_4 (dk_at dksX0_hasBehindOne_2 12 rfl rfl)
theorem dX0_hasBehindOne_59 : decode cX0_hasBehindOne 59 = .ok (.ireturn, 1) := dk_172 (dk_at dksX0_hasBehindOne_2 13 rfl rfl)
theorem dX0_hasBehindOne_60 : decode cX0_hasBehindOne 60 = .ok (.iinc 5 1, 3) := dk_132 5 1 (dk_at dksX0_hasBehindOne_2 14 rfl rfl)
theorem dX0_hasBehindOne_63 : decode cX0_hasBehindOne 63 = .ok (.goto (-60), 3) := dk_167 255 196 (dk_at dksX0_hasBehindOne_2 17 rfl rfl)
theorem dX0_hasBehindOne_66 : decode cX0_hasBehindOne 66 = .ok (.iconst 0, 1) := dk_3 (dk_at dksX0_hasBehindOne_2 20 rfl rfl)
theorem dX0_hasBehindOne_67 : decode cX0_hasBehindOne 67 = .ok (.ireturn, 1) := dk_172 (dk_at dksX0_hasBehindOne_2 21 rfl rfl)
abbrev cX0_manyThatCan : ByteArray := prog_1_method_31_code
def yX0_manyThatCan : MethodName := ⟨RX0, "manyThatCan", "(IZ)I"⟩
def dkwX0_manyThatCan_4 : List UInt8 := [182, 0, 185, 182, 0, 215, 153, 0, 7, 4, 167, 0, 4, 3, 96, 62, 132, 5, 1, 167, 255, 154, 29, 172]
abbrev dktX0_manyThatCan_4 : List UInt8 := dkwX0_manyThatCan_4 ++ []
def dkwX0_manyThatCan_3 : List UInt8 := [42, 180, 0, 65, 180, 0, 168, 21, 5, 16, 25, 108, 21, 5, 16, 25, 112, 184, 0, 182, 2, 130, 126]
abbrev dktX0_manyThatCan_3 : List UInt8 := dkwX0_manyThatCan_3 ++ dktX0_manyThatCan_4
def dkwX0_manyThatCan_2 : List UInt8 := [21, 5, 16, 25, 108, 21, 5, 16, 25, 112, 182, 0, 179, 153, 0, 50, 29, 28, 153, 0, 38, 42, 25, 4]
abbrev dktX0_manyThatCan_2 : List UInt8 := dkwX0_manyThatCan_2 ++ dktX0_manyThatCan_3
def dkwX0_manyThatCan_1 : List UInt8 := [21, 5, 16, 25, 108, 160, 0, 7, 4, 167, 0, 4, 3, 54, 6, 21, 6, 153, 0, 70, 42, 180, 0, 65]
abbrev dktX0_manyThatCan_1 : List UInt8 := dkwX0_manyThatCan_1 ++ dktX0_manyThatCan_2
def dkwX0_manyThatCan_0 : List UInt8 := [3, 62, 42, 182, 0, 204, 58, 4, 3, 54, 5, 21, 5, 16, 100, 162, 0, 101, 27, 155, 0, 12, 27]
abbrev dktX0_manyThatCan_0 : List UInt8 := dkwX0_manyThatCan_0 ++ dktX0_manyThatCan_1
theorem dksX0_manyThatCan_0 : cX0_manyThatCan.data.toList.drop 0 = dktX0_manyThatCan_0 := by decide +kernel
theorem dksX0_manyThatCan_1 : cX0_manyThatCan.data.toList.drop 23 = dktX0_manyThatCan_1 := dk_seg dksX0_manyThatCan_0 23 rfl rfl
theorem dksX0_manyThatCan_2 : cX0_manyThatCan.data.toList.drop 47 = dktX0_manyThatCan_2 := dk_seg dksX0_manyThatCan_1 24 rfl rfl
theorem dksX0_manyThatCan_3 : cX0_manyThatCan.data.toList.drop 71 = dktX0_manyThatCan_3 := dk_seg dksX0_manyThatCan_2 24 rfl rfl
theorem dksX0_manyThatCan_4 : cX0_manyThatCan.data.toList.drop 94 = dktX0_manyThatCan_4 := dk_seg dksX0_manyThatCan_3 23 rfl rfl
theorem dX0_manyThatCan_0 : decode cX0_manyThatCan 0 = .ok (.iconst 0, 1) := dk_3 (dk_at dksX0_manyThatCan_0 0 rfl rfl)
theorem dX0_manyThatCan_1 : decode cX0_manyThatCan 1 = .ok (.istore_n 3, 1) := dk_62 (dk_at dksX0_manyThatCan_0 1 rfl rfl)
theorem dX0_manyThatCan_2 : decode cX0_manyThatCan 2 = .ok (.aload_n 0, 1) := dk_42 (dk_at dksX0_manyThatCan_0 2 rfl rfl)
theorem dX0_manyThatCan_3 : decode cX0_manyThatCan 3 = .ok (.invokevirtual 204, 3) := dk_182 0 204 (dk_at dksX0_manyThatCan_0 3 rfl rfl)
theorem dX0_manyThatCan_6 : decode cX0_manyThatCan 6 = .ok (.astore 4, 2) := dk_58 4 (dk_at dksX0_manyThatCan_0 6 rfl rfl)
theorem dX0_manyThatCan_8 : decode cX0_manyThatCan 8 = .ok (.iconst 0, 1) := dk_3 (dk_at dksX0_manyThatCan_0 8 rfl rfl)
theorem dX0_manyThatCan_9 : decode cX0_manyThatCan 9 = .ok (.istore 5, 2) := dk_54 5 (dk_at dksX0_manyThatCan_0 9 rfl rfl)
theorem dX0_manyThatCan_11 : decode cX0_manyThatCan 11 = .ok (.iload 5, 2) := dk_21 5 (dk_at dksX0_manyThatCan_0 11 rfl rfl)
theorem dX0_manyThatCan_13 : decode cX0_manyThatCan 13 = .ok (.bipush 100, 2) := dk_16 100 (dk_at dksX0_manyThatCan_0 13 rfl rfl)
theorem dX0_manyThatCan_15 : decode cX0_manyThatCan 15 = .ok (.if_icmp .ge 101, 3) := dk_162 0 101 (dk_at dksX0_manyThatCan_0 15 rfl rfl)
theorem dX0_manyThatCan_18 : decode cX0_manyThatCan 18 = .ok (.iload_n 1, 1) := dk_27 (dk_at dksX0_manyThatCan_0 18 rfl rfl)
theorem dX0_manyThatCan_19 : decode cX0_manyThatCan 19 = .ok (.ifCond .lt 12, 3) := dk_155 0 12 (dk_at dksX0_manyThatCan_0 19 rfl rfl)
theorem dX0_manyThatCan_22 : decode cX0_manyThatCan 22 = .ok (.iload_n 1, 1) := dk_27 (dk_at dksX0_manyThatCan_0 22 rfl rfl)
theorem dX0_manyThatCan_23 : decode cX0_manyThatCan 23 = .ok (.iload 5, 2) := dk_21 5 (dk_at dksX0_manyThatCan_1 0 rfl rfl)
theorem dX0_manyThatCan_25 : decode cX0_manyThatCan 25 = .ok (.bipush 25, 2) := dk_16 25 (dk_at dksX0_manyThatCan_1 2 rfl rfl)
theorem dX0_manyThatCan_27 : decode cX0_manyThatCan 27 = .ok (.idiv, 1) := dk_108 (dk_at dksX0_manyThatCan_1 4 rfl rfl)
theorem dX0_manyThatCan_28 : decode cX0_manyThatCan 28 = .ok (.if_icmp .ne 7, 3) := dk_160 0 7 (dk_at dksX0_manyThatCan_1 5 rfl rfl)
theorem dX0_manyThatCan_31 : decode cX0_manyThatCan 31 = .ok (.iconst 1, 1) := dk_4 (dk_at dksX0_manyThatCan_1 8 rfl rfl)
theorem dX0_manyThatCan_32 : decode cX0_manyThatCan 32 = .ok (.goto 4, 3) := dk_167 0 4 (dk_at dksX0_manyThatCan_1 9 rfl rfl)
theorem dX0_manyThatCan_35 : decode cX0_manyThatCan 35 = .ok (.iconst 0, 1) := dk_3 (dk_at dksX0_manyThatCan_1 12 rfl rfl)
theorem dX0_manyThatCan_36 : decode cX0_manyThatCan 36 = .ok (.istore 6, 2) := dk_54 6 (dk_at dksX0_manyThatCan_1 13 rfl rfl)
theorem dX0_manyThatCan_38 : decode cX0_manyThatCan 38 = .ok (.iload 6, 2) := dk_21 6 (dk_at dksX0_manyThatCan_1 15 rfl rfl)
theorem dX0_manyThatCan_40 : decode cX0_manyThatCan 40 = .ok (.ifCond .eq 70, 3) := dk_153 0 70 (dk_at dksX0_manyThatCan_1 17 rfl rfl)
theorem dX0_manyThatCan_43 : decode cX0_manyThatCan 43 = .ok (.aload_n 0, 1) := dk_42 (dk_at dksX0_manyThatCan_1 20 rfl rfl)
theorem dX0_manyThatCan_44 : decode cX0_manyThatCan 44 = .ok (.getfield 65, 3) := dk_180 0 65 (dk_at dksX0_manyThatCan_1 21 rfl rfl)
theorem dX0_manyThatCan_47 : decode cX0_manyThatCan 47 = .ok (.iload 5, 2) := dk_21 5 (dk_at dksX0_manyThatCan_2 0 rfl rfl)
theorem dX0_manyThatCan_49 : decode cX0_manyThatCan 49 = .ok (.bipush 25, 2) := dk_16 25 (dk_at dksX0_manyThatCan_2 2 rfl rfl)
theorem dX0_manyThatCan_51 : decode cX0_manyThatCan 51 = .ok (.idiv, 1) := dk_108 (dk_at dksX0_manyThatCan_2 4 rfl rfl)
theorem dX0_manyThatCan_52 : decode cX0_manyThatCan 52 = .ok (.iload 5, 2) := dk_21 5 (dk_at dksX0_manyThatCan_2 5 rfl rfl)
theorem dX0_manyThatCan_54 : decode cX0_manyThatCan 54 = .ok (.bipush 25, 2) := dk_16 25 (dk_at dksX0_manyThatCan_2 7 rfl rfl)
theorem dX0_manyThatCan_56 : decode cX0_manyThatCan 56 = .ok (.irem, 1) := dk_112 (dk_at dksX0_manyThatCan_2 9 rfl rfl)
theorem dX0_manyThatCan_57 : decode cX0_manyThatCan 57 = .ok (.invokevirtual 179, 3) := dk_182 0 179 (dk_at dksX0_manyThatCan_2 10 rfl rfl)
theorem dX0_manyThatCan_60 : decode cX0_manyThatCan 60 = .ok (.ifCond .eq 50, 3) := dk_153 0 50 (dk_at dksX0_manyThatCan_2 13 rfl rfl)
theorem dX0_manyThatCan_63 : decode cX0_manyThatCan 63 = .ok (.iload_n 3, 1) := dk_29 (dk_at dksX0_manyThatCan_2 16 rfl rfl)
theorem dX0_manyThatCan_64 : decode cX0_manyThatCan 64 = .ok (.iload_n 2, 1) := dk_28 (dk_at dksX0_manyThatCan_2 17 rfl rfl)
theorem dX0_manyThatCan_65 : decode cX0_manyThatCan 65 = .ok (.ifCond .eq 38, 3) := dk_153 0 38 (dk_at dksX0_manyThatCan_2 18 rfl rfl)
theorem dX0_manyThatCan_68 : decode cX0_manyThatCan 68 = .ok (.aload_n 0, 1) := dk_42 (dk_at dksX0_manyThatCan_2 21 rfl rfl)
theorem dX0_manyThatCan_69 : decode cX0_manyThatCan 69 = .ok (.aload 4, 2) := dk_25 4 (dk_at dksX0_manyThatCan_2 22 rfl rfl)
theorem dX0_manyThatCan_71 : decode cX0_manyThatCan 71 = .ok (.aload_n 0, 1) := dk_42 (dk_at dksX0_manyThatCan_3 0 rfl rfl)
theorem dX0_manyThatCan_72 : decode cX0_manyThatCan 72 = .ok (.getfield 65, 3) := dk_180 0 65 (dk_at dksX0_manyThatCan_3 1 rfl rfl)
theorem dX0_manyThatCan_75 : decode cX0_manyThatCan 75 = .ok (.getfield 168, 3) := dk_180 0 168 (dk_at dksX0_manyThatCan_3 4 rfl rfl)
theorem dX0_manyThatCan_78 : decode cX0_manyThatCan 78 = .ok (.iload 5, 2) := dk_21 5 (dk_at dksX0_manyThatCan_3 7 rfl rfl)
theorem dX0_manyThatCan_80 : decode cX0_manyThatCan 80 = .ok (.bipush 25, 2) := dk_16 25 (dk_at dksX0_manyThatCan_3 9 rfl rfl)
theorem dX0_manyThatCan_82 : decode cX0_manyThatCan 82 = .ok (.idiv, 1) := dk_108 (dk_at dksX0_manyThatCan_3 11 rfl rfl)
theorem dX0_manyThatCan_83 : decode cX0_manyThatCan 83 = .ok (.iload 5, 2) := dk_21 5 (dk_at dksX0_manyThatCan_3 12 rfl rfl)
theorem dX0_manyThatCan_85 : decode cX0_manyThatCan 85 = .ok (.bipush 25, 2) := dk_16 25 (dk_at dksX0_manyThatCan_3 14 rfl rfl)
theorem dX0_manyThatCan_87 : decode cX0_manyThatCan 87 = .ok (.irem, 1) := dk_112 (dk_at dksX0_manyThatCan_3 16 rfl rfl)
theorem dX0_manyThatCan_88 : decode cX0_manyThatCan 88 = .ok (.invokestatic 182, 3) := dk_184 0 182 (dk_at dksX0_manyThatCan_3 17 rfl rfl)
theorem dX0_manyThatCan_91 : decode cX0_manyThatCan 91 = .ok (.iconst (-1), 1) := dk_2 (dk_at dksX0_manyThatCan_3 20 rfl rfl)
theorem dX0_manyThatCan_92 : decode cX0_manyThatCan 92 = .ok (.ixor, 1) := dk_130 (dk_at dksX0_manyThatCan_3 21 rfl rfl)
theorem dX0_manyThatCan_93 : decode cX0_manyThatCan 93 = .ok (.iand, 1) := dk_126 (dk_at dksX0_manyThatCan_3 22 rfl rfl)
theorem dX0_manyThatCan_94 : decode cX0_manyThatCan 94 = .ok (.invokevirtual 185, 3) := dk_182 0 185 (dk_at dksX0_manyThatCan_4 0 rfl rfl)
theorem dX0_manyThatCan_97 : decode cX0_manyThatCan 97 = .ok (.invokevirtual 215, 3) := dk_182 0 215 (dk_at dksX0_manyThatCan_4 3 rfl rfl)
theorem dX0_manyThatCan_100 : decode cX0_manyThatCan 100 = .ok (.ifCond .eq 7, 3) := dk_153 0 7 (dk_at dksX0_manyThatCan_4 6 rfl rfl)
theorem dX0_manyThatCan_103 : decode cX0_manyThatCan 103 = .ok (.iconst 1, 1) := dk_4 (dk_at dksX0_manyThatCan_4 9 rfl rfl)
theorem dX0_manyThatCan_104 : decode cX0_manyThatCan 104 = .ok (.goto 4, 3) := dk_167 0 4 (dk_at dksX0_manyThatCan_4 10 rfl rfl)
theorem dX0_manyThatCan_107 : decode cX0_manyThatCan 107 = .ok (.iconst 0, 1) := dk_3 (dk_at dksX0_manyThatCan_4 13 rfl rfl)
theorem dX0_manyThatCan_108 : decode cX0_manyThatCan 108 = .ok (.iadd, 1) := dk_96 (dk_at dksX0_manyThatCan_4 14 rfl rfl)
theorem dX0_manyThatCan_109 : decode cX0_manyThatCan 109 = .ok (.istore_n 3, 1) := dk_62 (dk_at dksX0_manyThatCan_4 15 rfl rfl)
theorem dX0_manyThatCan_110 : decode cX0_manyThatCan 110 = .ok (.iinc 5 1, 3) := dk_132 5 1 (dk_at dksX0_manyThatCan_4 16 rfl rfl)
theorem dX0_manyThatCan_113 : decode cX0_manyThatCan 113 = .ok (.goto (-102), 3) := dk_167 255 154 (dk_at dksX0_manyThatCan_4 19 rfl rfl)
theorem dX0_manyThatCan_116 : decode cX0_manyThatCan 116 = .ok (.iload_n 3, 1) := dk_29 (dk_at dksX0_manyThatCan_4 22 rfl rfl)
theorem dX0_manyThatCan_117 : decode cX0_manyThatCan 117 = .ok (.ireturn, 1) := dk_172 (dk_at dksX0_manyThatCan_4 23 rfl rfl)
abbrev cX0_isSafe : ByteArray := prog_1_method_30_code
def yX0_isSafe : MethodName := ⟨RX0, "isSafe", "(LCoresAreWills$Core;)Z"⟩
def dkwX0_isSafe_2 : List UInt8 := [172]
abbrev dktX0_isSafe_2 : List UInt8 := dkwX0_isSafe_2 ++ []
def dkwX0_isSafe_1 : List UInt8 := [180, 0, 65, 29, 182, 0, 144, 160, 0, 7, 4, 167, 0, 4, 3, 126, 61, 132, 3, 1, 167, 255, 218, 28]
abbrev dktX0_isSafe_1 : List UInt8 := dkwX0_isSafe_1 ++ dktX0_isSafe_2
def dkwX0_isSafe_0 : List UInt8 := [4, 61, 3, 62, 29, 42, 180, 0, 65, 180, 0, 141, 162, 0, 33, 28, 43, 29, 182, 0, 144, 42]
abbrev dktX0_isSafe_0 : List UInt8 := dkwX0_isSafe_0 ++ dktX0_isSafe_1
theorem dksX0_isSafe_0 : cX0_isSafe.data.toList.drop 0 = dktX0_isSafe_0 := by decide +kernel
theorem dksX0_isSafe_1 : cX0_isSafe.data.toList.drop 22 = dktX0_isSafe_1 := dk_seg dksX0_isSafe_0 22 rfl rfl
theorem dksX0_isSafe_2 : cX0_isSafe.data.toList.drop 46 = dktX0_isSafe_2 := dk_seg dksX0_isSafe_1 24 rfl rfl
theorem dX0_isSafe_0 : decode cX0_isSafe 0 = .ok (.iconst 1, 1) := dk_4 (dk_at dksX0_isSafe_0 0 rfl rfl)
theorem dX0_isSafe_1 : decode cX0_isSafe 1 = .ok (.istore_n 2, 1) := dk_61 (dk_at dksX0_isSafe_0 1 rfl rfl)
theorem dX0_isSafe_2 : decode cX0_isSafe 2 = .ok (.iconst 0, 1) := dk_3 (dk_at dksX0_isSafe_0 2 rfl rfl)
theorem dX0_isSafe_3 : decode cX0_isSafe 3 = .ok (.istore_n 3, 1) := dk_62 (dk_at dksX0_isSafe_0 3 rfl rfl)
theorem dX0_isSafe_4 : decode cX0_isSafe 4 = .ok (.iload_n 3, 1) := dk_29 (dk_at dksX0_isSafe_0 4 rfl rfl)
theorem dX0_isSafe_5 : decode cX0_isSafe 5 = .ok (.aload_n 0, 1) := dk_42 (dk_at dksX0_isSafe_0 5 rfl rfl)
theorem dX0_isSafe_6 : decode cX0_isSafe 6 = .ok (.getfield 65, 3) := dk_180 0 65 (dk_at dksX0_isSafe_0 6 rfl rfl)
theorem dX0_isSafe_9 : decode cX0_isSafe 9 = .ok (.getfield 141, 3) := dk_180 0 141 (dk_at dksX0_isSafe_0 9 rfl rfl)
theorem dX0_isSafe_12 : decode cX0_isSafe 12 = .ok (.if_icmp .ge 33, 3) := dk_162 0 33 (dk_at dksX0_isSafe_0 12 rfl rfl)
theorem dX0_isSafe_15 : decode cX0_isSafe 15 = .ok (.iload_n 2, 1) := dk_28 (dk_at dksX0_isSafe_0 15 rfl rfl)
theorem dX0_isSafe_16 : decode cX0_isSafe 16 = .ok (.aload_n 1, 1) := dk_43 (dk_at dksX0_isSafe_0 16 rfl rfl)
theorem dX0_isSafe_17 : decode cX0_isSafe 17 = .ok (.iload_n 3, 1) := dk_29 (dk_at dksX0_isSafe_0 17 rfl rfl)
theorem dX0_isSafe_18 : decode cX0_isSafe 18 = .ok (.invokevirtual 144, 3) := dk_182 0 144 (dk_at dksX0_isSafe_0 18 rfl rfl)
theorem dX0_isSafe_21 : decode cX0_isSafe 21 = .ok (.aload_n 0, 1) := dk_42 (dk_at dksX0_isSafe_0 21 rfl rfl)
theorem dX0_isSafe_22 : decode cX0_isSafe 22 = .ok (.getfield 65, 3) := dk_180 0 65 (dk_at dksX0_isSafe_1 0 rfl rfl)
theorem dX0_isSafe_25 : decode cX0_isSafe 25 = .ok (.iload_n 3, 1) := dk_29 (dk_at dksX0_isSafe_1 3 rfl rfl)
theorem dX0_isSafe_26 : decode cX0_isSafe 26 = .ok (.invokevirtual 144, 3) := dk_182 0 144 (dk_at dksX0_isSafe_1 4 rfl rfl)
theorem dX0_isSafe_29 : decode cX0_isSafe 29 = .ok (.if_icmp .ne 7, 3) := dk_160 0 7 (dk_at dksX0_isSafe_1 7 rfl rfl)
theorem dX0_isSafe_32 : decode cX0_isSafe 32 = .ok (.iconst 1, 1) := dk_4 (dk_at dksX0_isSafe_1 10 rfl rfl)
theorem dX0_isSafe_33 : decode cX0_isSafe 33 = .ok (.goto 4, 3) := dk_167 0 4 (dk_at dksX0_isSafe_1 11 rfl rfl)
theorem dX0_isSafe_36 : decode cX0_isSafe 36 = .ok (.iconst 0, 1) := dk_3 (dk_at dksX0_isSafe_1 14 rfl rfl)
theorem dX0_isSafe_37 : decode cX0_isSafe 37 = .ok (.iand, 1) := dk_126 (dk_at dksX0_isSafe_1 15 rfl rfl)
theorem dX0_isSafe_38 : decode cX0_isSafe 38 = .ok (.istore_n 2, 1) := dk_61 (dk_at dksX0_isSafe_1 16 rfl rfl)
theorem dX0_isSafe_39 : decode cX0_isSafe 39 = .ok (.iinc 3 1, 3) := dk_132 3 1 (dk_at dksX0_isSafe_1 17 rfl rfl)
theorem dX0_isSafe_42 : decode cX0_isSafe 42 = .ok (.goto (-38), 3) := dk_167 255 218 (dk_at dksX0_isSafe_1 20 rfl rfl)
theorem dX0_isSafe_45 : decode cX0_isSafe 45 = .ok (.iload_n 2, 1) := dk_28 (dk_at dksX0_isSafe_1 23 rfl rfl)
theorem dX0_isSafe_46 : decode cX0_isSafe 46 = .ok (.ireturn, 1) := dk_172 (dk_at dksX0_isSafe_2 0 rfl rfl)
abbrev cX0_canTold : ByteArray := prog_1_method_76_code
def yX0_canTold : MethodName := ⟨RX0, "canTold", "(I)I"⟩
def dkwX0_canTold_0 : List UInt8 := [27, 133, 20, 1, 139, 20, 0, 147, 184, 0, 13, 16, 254, 184, 0, 9, 42, 27, 3, 182, 1, 141, 172]
abbrev dktX0_canTold_0 : List UInt8 := dkwX0_canTold_0 ++ []
theorem dksX0_canTold_0 : cX0_canTold.data.toList.drop 0 = dktX0_canTold_0 := by decide +kernel
theorem dX0_canTold_0 : decode cX0_canTold 0 = .ok (.iload_n 1, 1) := dk_27 (dk_at dksX0_canTold_0 0 rfl rfl)
theorem dX0_canTold_1 : decode cX0_canTold 1 = .ok (.i2l, 1) := dk_133 (dk_at dksX0_canTold_0 1 rfl rfl)
theorem dX0_canTold_2 : decode cX0_canTold 2 = .ok (.ldc2_w 395, 3) := dk_20 1 139 (dk_at dksX0_canTold_0 2 rfl rfl)
theorem dX0_canTold_5 : decode cX0_canTold 5 = .ok (.ldc2_w 147, 3) := dk_20 0 147 (dk_at dksX0_canTold_0 5 rfl rfl)
theorem dX0_canTold_8 : decode cX0_canTold 8 = .ok (.invokestatic 13, 3) := dk_184 0 13 (dk_at dksX0_canTold_0 8 rfl rfl)
theorem dX0_canTold_11 : decode cX0_canTold 11 = .ok (.bipush (-2), 2) := dk_16 254 (dk_at dksX0_canTold_0 11 rfl rfl)
theorem dX0_canTold_13 : decode cX0_canTold 13 = .ok (.invokestatic 9, 3) := dk_184 0 9 (dk_at dksX0_canTold_0 13 rfl rfl)
theorem dX0_canTold_16 : decode cX0_canTold 16 = .ok (.aload_n 0, 1) := dk_42 (dk_at dksX0_canTold_0 16 rfl rfl)
theorem dX0_canTold_17 : decode cX0_canTold 17 = .ok (.iload_n 1, 1) := dk_27 (dk_at dksX0_canTold_0 17 rfl rfl)
theorem dX0_canTold_18 : decode cX0_canTold 18 = .ok (.iconst 0, 1) := dk_3 (dk_at dksX0_canTold_0 18 rfl rfl)
theorem dX0_canTold_19 : decode cX0_canTold 19 = .ok (.invokevirtual 397, 3) := dk_182 1 141 (dk_at dksX0_canTold_0 19 rfl rfl)
theorem dX0_canTold_22 : decode cX0_canTold 22 = .ok (.ireturn, 1) := dk_172 (dk_at dksX0_canTold_0 22 rfl rfl)
abbrev cX0_waysTold : ByteArray := prog_1_method_35_code
def yX0_waysTold : MethodName := ⟨RX0, "waysTold", "(I)I"⟩
def dkwX0_waysTold_5 : List UInt8 := [167, 0, 9, 42, 180, 0, 97, 3, 46, 172]
abbrev dktX0_waysTold_5 : List UInt8 := dkwX0_waysTold_5 ++ []
def dkwX0_waysTold_4 : List UInt8 := [132, 3, 1, 167, 255, 228, 132, 2, 1, 167, 255, 178, 27, 154, 0, 13, 42, 180, 0, 91, 3, 47, 136]
abbrev dktX0_waysTold_4 : List UInt8 := dkwX0_waysTold_4 ++ dktX0_waysTold_5
def dkwX0_waysTold_3 : List UInt8 := [17, 0, 128, 162, 0, 27, 42, 180, 0, 94, 29, 46, 17, 3, 231, 162, 0, 9, 42, 28, 29, 182, 0, 236]
abbrev dktX0_waysTold_3 : List UInt8 := dkwX0_waysTold_3 ++ dktX0_waysTold_4
def dkwX0_waysTold_2 : List UInt8 := [180, 0, 97, 3, 42, 180, 0, 94, 3, 17, 0, 128, 184, 0, 230, 42, 182, 0, 227, 3, 62, 29]
abbrev dktX0_waysTold_2 : List UInt8 := dkwX0_waysTold_2 ++ dktX0_waysTold_3
def dkwX0_waysTold_1 : List UInt8 := [28, 16, 25, 162, 0, 78, 42, 180, 0, 91, 3, 42, 180, 0, 87, 3, 17, 0, 128, 184, 0, 230, 42]
abbrev dktX0_waysTold_1 : List UInt8 := dkwX0_waysTold_1 ++ dktX0_waysTold_2
def dkwX0_waysTold_0 : List UInt8 := [27, 184, 0, 197, 42, 182, 0, 227, 42, 180, 0, 91, 3, 10, 80, 42, 180, 0, 97, 3, 3, 79, 3, 61]
abbrev dktX0_waysTold_0 : List UInt8 := dkwX0_waysTold_0 ++ dktX0_waysTold_1
theorem dksX0_waysTold_0 : cX0_waysTold.data.toList.drop 0 = dktX0_waysTold_0 := by decide +kernel
theorem dksX0_waysTold_1 : cX0_waysTold.data.toList.drop 24 = dktX0_waysTold_1 := dk_seg dksX0_waysTold_0 24 rfl rfl
theorem dksX0_waysTold_2 : cX0_waysTold.data.toList.drop 47 = dktX0_waysTold_2 := dk_seg dksX0_waysTold_1 23 rfl rfl
theorem dksX0_waysTold_3 : cX0_waysTold.data.toList.drop 69 = dktX0_waysTold_3 := dk_seg dksX0_waysTold_2 22 rfl rfl
theorem dksX0_waysTold_4 : cX0_waysTold.data.toList.drop 93 = dktX0_waysTold_4 := dk_seg dksX0_waysTold_3 24 rfl rfl
theorem dksX0_waysTold_5 : cX0_waysTold.data.toList.drop 116 = dktX0_waysTold_5 := dk_seg dksX0_waysTold_4 23 rfl rfl
theorem dX0_waysTold_0 : decode cX0_waysTold 0 = .ok (.iload_n 1, 1) := dk_27 (dk_at dksX0_waysTold_0 0 rfl rfl)
theorem dX0_waysTold_1 : decode cX0_waysTold 1 = .ok (.invokestatic 197, 3) := dk_184 0 197 (dk_at dksX0_waysTold_0 1 rfl rfl)
theorem dX0_waysTold_4 : decode cX0_waysTold 4 = .ok (.aload_n 0, 1) := dk_42 (dk_at dksX0_waysTold_0 4 rfl rfl)
theorem dX0_waysTold_5 : decode cX0_waysTold 5 = .ok (.invokevirtual 227, 3) := dk_182 0 227 (dk_at dksX0_waysTold_0 5 rfl rfl)
theorem dX0_waysTold_8 : decode cX0_waysTold 8 = .ok (.aload_n 0, 1) := dk_42 (dk_at dksX0_waysTold_0 8 rfl rfl)
theorem dX0_waysTold_9 : decode cX0_waysTold 9 = .ok (.getfield 91, 3) := dk_180 0 91 (dk_at dksX0_waysTold_0 9 rfl rfl)
theorem dX0_waysTold_12 : decode cX0_waysTold 12 = .ok (.iconst 0, 1) := dk_3 (dk_at dksX0_waysTold_0 12 rfl rfl)
theorem dX0_waysTold_13 : decode cX0_waysTold 13 = .ok (.lconst 1, 1) := dk_10 (dk_at dksX0_waysTold_0 13 rfl rfl)
theorem dX0_waysTold_14 : decode cX0_waysTold 14 = .ok (.lastore, 1) := dk_80 (dk_at dksX0_waysTold_0 14 rfl rfl)
theorem dX0_waysTold_15 : decode cX0_waysTold 15 = .ok (.aload_n 0, 1) := dk_42 (dk_at dksX0_waysTold_0 15 rfl rfl)
theorem dX0_waysTold_16 : decode cX0_waysTold 16 = .ok (.getfield 97, 3) := dk_180 0 97 (dk_at dksX0_waysTold_0 16 rfl rfl)
theorem dX0_waysTold_19 : decode cX0_waysTold 19 = .ok (.iconst 0, 1) := dk_3 (dk_at dksX0_waysTold_0 19 rfl rfl)
theorem dX0_waysTold_20 : decode cX0_waysTold 20 = .ok (.iconst 0, 1) := dk_3 (dk_at dksX0_waysTold_0 20 rfl rfl)
theorem dX0_waysTold_21 : decode cX0_waysTold 21 = .ok (.iastore, 1) := dk_79 (dk_at dksX0_waysTold_0 21 rfl rfl)
theorem dX0_waysTold_22 : decode cX0_waysTold 22 = .ok (.iconst 0, 1) := dk_3 (dk_at dksX0_waysTold_0 22 rfl rfl)
theorem dX0_waysTold_23 : decode cX0_waysTold 23 = .ok (.istore_n 2, 1) := dk_61 (dk_at dksX0_waysTold_0 23 rfl rfl)
theorem dX0_waysTold_24 : decode cX0_waysTold 24 = .ok (.iload_n 2, 1) := dk_28 (dk_at dksX0_waysTold_1 0 rfl rfl)
theorem dX0_waysTold_25 : decode cX0_waysTold 25 = .ok (.bipush 25, 2) := dk_16 25 (dk_at dksX0_waysTold_1 1 rfl rfl)
theorem dX0_waysTold_27 : decode cX0_waysTold 27 = .ok (.if_icmp .ge 78, 3) := dk_162 0 78 (dk_at dksX0_waysTold_1 3 rfl rfl)
theorem dX0_waysTold_30 : decode cX0_waysTold 30 = .ok (.aload_n 0, 1) := dk_42 (dk_at dksX0_waysTold_1 6 rfl rfl)
theorem dX0_waysTold_31 : decode cX0_waysTold 31 = .ok (.getfield 91, 3) := dk_180 0 91 (dk_at dksX0_waysTold_1 7 rfl rfl)
theorem dX0_waysTold_34 : decode cX0_waysTold 34 = .ok (.iconst 0, 1) := dk_3 (dk_at dksX0_waysTold_1 10 rfl rfl)
theorem dX0_waysTold_35 : decode cX0_waysTold 35 = .ok (.aload_n 0, 1) := dk_42 (dk_at dksX0_waysTold_1 11 rfl rfl)
theorem dX0_waysTold_36 : decode cX0_waysTold 36 = .ok (.getfield 87, 3) := dk_180 0 87 (dk_at dksX0_waysTold_1 12 rfl rfl)
theorem dX0_waysTold_39 : decode cX0_waysTold 39 = .ok (.iconst 0, 1) := dk_3 (dk_at dksX0_waysTold_1 15 rfl rfl)
theorem dX0_waysTold_40 : decode cX0_waysTold 40 = .ok (.sipush 128, 3) := dk_17 0 128 (dk_at dksX0_waysTold_1 16 rfl rfl)
theorem dX0_waysTold_43 : decode cX0_waysTold 43 = .ok (.invokestatic 230, 3) := dk_184 0 230 (dk_at dksX0_waysTold_1 19 rfl rfl)
theorem dX0_waysTold_46 : decode cX0_waysTold 46 = .ok (.aload_n 0, 1) := dk_42 (dk_at dksX0_waysTold_1 22 rfl rfl)
theorem dX0_waysTold_47 : decode cX0_waysTold 47 = .ok (.getfield 97, 3) := dk_180 0 97 (dk_at dksX0_waysTold_2 0 rfl rfl)
theorem dX0_waysTold_50 : decode cX0_waysTold 50 = .ok (.iconst 0, 1) := dk_3 (dk_at dksX0_waysTold_2 3 rfl rfl)
theorem dX0_waysTold_51 : decode cX0_waysTold 51 = .ok (.aload_n 0, 1) := dk_42 (dk_at dksX0_waysTold_2 4 rfl rfl)
theorem dX0_waysTold_52 : decode cX0_waysTold 52 = .ok (.getfield 94, 3) := dk_180 0 94 (dk_at dksX0_waysTold_2 5 rfl rfl)
theorem dX0_waysTold_55 : decode cX0_waysTold 55 = .ok (.iconst 0, 1) := dk_3 (dk_at dksX0_waysTold_2 8 rfl rfl)
theorem dX0_waysTold_56 : decode cX0_waysTold 56 = .ok (.sipush 128, 3) := dk_17 0 128 (dk_at dksX0_waysTold_2 9 rfl rfl)
theorem dX0_waysTold_59 : decode cX0_waysTold 59 = .ok (.invokestatic 230, 3) := dk_184 0 230 (dk_at dksX0_waysTold_2 12 rfl rfl)
theorem dX0_waysTold_62 : decode cX0_waysTold 62 = .ok (.aload_n 0, 1) := dk_42 (dk_at dksX0_waysTold_2 15 rfl rfl)
theorem dX0_waysTold_63 : decode cX0_waysTold 63 = .ok (.invokevirtual 227, 3) := dk_182 0 227 (dk_at dksX0_waysTold_2 16 rfl rfl)
theorem dX0_waysTold_66 : decode cX0_waysTold 66 = .ok (.iconst 0, 1) := dk_3 (dk_at dksX0_waysTold_2 19 rfl rfl)
theorem dX0_waysTold_67 : decode cX0_waysTold 67 = .ok (.istore_n 3, 1) := dk_62 (dk_at dksX0_waysTold_2 20 rfl rfl)
theorem dX0_waysTold_68 : decode cX0_waysTold 68 = .ok (.iload_n 3, 1) := dk_29 (dk_at dksX0_waysTold_2 21 rfl rfl)
theorem dX0_waysTold_69 : decode cX0_waysTold 69 = .ok (.sipush 128, 3) := dk_17 0 128 (dk_at dksX0_waysTold_3 0 rfl rfl)
theorem dX0_waysTold_72 : decode cX0_waysTold 72 = .ok (.if_icmp .ge 27, 3) := dk_162 0 27 (dk_at dksX0_waysTold_3 3 rfl rfl)
theorem dX0_waysTold_75 : decode cX0_waysTold 75 = .ok (.aload_n 0, 1) := dk_42 (dk_at dksX0_waysTold_3 6 rfl rfl)
theorem dX0_waysTold_76 : decode cX0_waysTold 76 = .ok (.getfield 94, 3) := dk_180 0 94 (dk_at dksX0_waysTold_3 7 rfl rfl)
theorem dX0_waysTold_79 : decode cX0_waysTold 79 = .ok (.iload_n 3, 1) := dk_29 (dk_at dksX0_waysTold_3 10 rfl rfl)
theorem dX0_waysTold_80 : decode cX0_waysTold 80 = .ok (.iaload, 1) := dk_46 (dk_at dksX0_waysTold_3 11 rfl rfl)
theorem dX0_waysTold_81 : decode cX0_waysTold 81 = .ok (.sipush 999, 3) := dk_17 3 231 (dk_at dksX0_waysTold_3 12 rfl rfl)
theorem dX0_waysTold_84 : decode cX0_waysTold 84 = .ok (.if_icmp .ge 9, 3) := dk_162 0 9 (dk_at dksX0_waysTold_3 15 rfl rfl)
theorem dX0_waysTold_87 : decode cX0_waysTold 87 = .ok (.aload_n 0, 1) := dk_42 (dk_at dksX0_waysTold_3 18 rfl rfl)
theorem dX0_waysTold_88 : decode cX0_waysTold 88 = .ok (.iload_n 2, 1) := dk_28 (dk_at dksX0_waysTold_3 19 rfl rfl)
theorem dX0_waysTold_89 : decode cX0_waysTold 89 = .ok (.iload_n 3, 1) := dk_29 (dk_at dksX0_waysTold_3 20 rfl rfl)
theorem dX0_waysTold_90 : decode cX0_waysTold 90 = .ok (.invokevirtual 236, 3) := dk_182 0 236 (dk_at dksX0_waysTold_3 21 rfl rfl)
theorem dX0_waysTold_93 : decode cX0_waysTold 93 = .ok (.iinc 3 1, 3) := dk_132 3 1 (dk_at dksX0_waysTold_4 0 rfl rfl)
theorem dX0_waysTold_96 : decode cX0_waysTold 96 = .ok (.goto (-28), 3) := dk_167 255 228 (dk_at dksX0_waysTold_4 3 rfl rfl)
theorem dX0_waysTold_99 : decode cX0_waysTold 99 = .ok (.iinc 2 1, 3) := dk_132 2 1 (dk_at dksX0_waysTold_4 6 rfl rfl)
theorem dX0_waysTold_102 : decode cX0_waysTold 102 = .ok (.goto (-78), 3) := dk_167 255 178 (dk_at dksX0_waysTold_4 9 rfl rfl)
theorem dX0_waysTold_105 : decode cX0_waysTold 105 = .ok (.iload_n 1, 1) := dk_27 (dk_at dksX0_waysTold_4 12 rfl rfl)
theorem dX0_waysTold_106 : decode cX0_waysTold 106 = .ok (.ifCond .ne 13, 3) := dk_154 0 13 (dk_at dksX0_waysTold_4 13 rfl rfl)
theorem dX0_waysTold_109 : decode cX0_waysTold 109 = .ok (.aload_n 0, 1) := dk_42 (dk_at dksX0_waysTold_4 16 rfl rfl)
theorem dX0_waysTold_110 : decode cX0_waysTold 110 = .ok (.getfield 91, 3) := dk_180 0 91 (dk_at dksX0_waysTold_4 17 rfl rfl)
theorem dX0_waysTold_113 : decode cX0_waysTold 113 = .ok (.iconst 0, 1) := dk_3 (dk_at dksX0_waysTold_4 20 rfl rfl)
theorem dX0_waysTold_114 : decode cX0_waysTold 114 = .ok (.laload, 1) := dk_47 (dk_at dksX0_waysTold_4 21 rfl rfl)
theorem dX0_waysTold_115 : decode cX0_waysTold 115 = .ok (.l2i, 1) := dk_136 (dk_at dksX0_waysTold_4 22 rfl rfl)
theorem dX0_waysTold_116 : decode cX0_waysTold 116 = .ok (.goto 9, 3) := dk_167 0 9 (dk_at dksX0_waysTold_5 0 rfl rfl)
theorem dX0_waysTold_119 : decode cX0_waysTold 119 = .ok (.aload_n 0, 1) := dk_42 (dk_at dksX0_waysTold_5 3 rfl rfl)
theorem dX0_waysTold_120 : decode cX0_waysTold 120 = .ok (.getfield 97, 3) := dk_180 0 97 (dk_at dksX0_waysTold_5 4 rfl rfl)
theorem dX0_waysTold_123 : decode cX0_waysTold 123 = .ok (.iconst 0, 1) := dk_3 (dk_at dksX0_waysTold_5 7 rfl rfl)
theorem dX0_waysTold_124 : decode cX0_waysTold 124 = .ok (.iaload, 1) := dk_46 (dk_at dksX0_waysTold_5 8 rfl rfl)
theorem dX0_waysTold_125 : decode cX0_waysTold 125 = .ok (.ireturn, 1) := dk_172 (dk_at dksX0_waysTold_5 9 rfl rfl)
abbrev cX0_clearThen : ByteArray := prog_1_method_32_code
def yX0_clearThen : MethodName := ⟨RX0, "clearThen", "()V"⟩
def dkwX0_clearThen_1 : List UInt8 := [79, 132, 1, 1, 167, 255, 230, 177]
abbrev dktX0_clearThen_1 : List UInt8 := dkwX0_clearThen_1 ++ []
def dkwX0_clearThen_0 : List UInt8 := [3, 60, 27, 17, 0, 128, 162, 0, 25, 42, 180, 0, 91, 27, 9, 80, 42, 180, 0, 97, 27, 17, 3, 231]
abbrev dktX0_clearThen_0 : List UInt8 := dkwX0_clearThen_0 ++ dktX0_clearThen_1
theorem dksX0_clearThen_0 : cX0_clearThen.data.toList.drop 0 = dktX0_clearThen_0 := by decide +kernel
theorem dksX0_clearThen_1 : cX0_clearThen.data.toList.drop 24 = dktX0_clearThen_1 := dk_seg dksX0_clearThen_0 24 rfl rfl
theorem dX0_clearThen_0 : decode cX0_clearThen 0 = .ok (.iconst 0, 1) := dk_3 (dk_at dksX0_clearThen_0 0 rfl rfl)
theorem dX0_clearThen_1 : decode cX0_clearThen 1 = .ok (.istore_n 1, 1) := dk_60 (dk_at dksX0_clearThen_0 1 rfl rfl)
theorem dX0_clearThen_2 : decode cX0_clearThen 2 = .ok (.iload_n 1, 1) := dk_27 (dk_at dksX0_clearThen_0 2 rfl rfl)
theorem dX0_clearThen_3 : decode cX0_clearThen 3 = .ok (.sipush 128, 3) := dk_17 0 128 (dk_at dksX0_clearThen_0 3 rfl rfl)
theorem dX0_clearThen_6 : decode cX0_clearThen 6 = .ok (.if_icmp .ge 25, 3) := dk_162 0 25 (dk_at dksX0_clearThen_0 6 rfl rfl)
theorem dX0_clearThen_9 : decode cX0_clearThen 9 = .ok (.aload_n 0, 1) := dk_42 (dk_at dksX0_clearThen_0 9 rfl rfl)
theorem dX0_clearThen_10 : decode cX0_clearThen 10 = .ok (.getfield 91, 3) := dk_180 0 91 (dk_at dksX0_clearThen_0 10 rfl rfl)
theorem dX0_clearThen_13 : decode cX0_clearThen 13 = .ok (.iload_n 1, 1) := dk_27 (dk_at dksX0_clearThen_0 13 rfl rfl)
theorem dX0_clearThen_14 : decode cX0_clearThen 14 = .ok (.lconst 0, 1) := dk_9 (dk_at dksX0_clearThen_0 14 rfl rfl)
theorem dX0_clearThen_15 : decode cX0_clearThen 15 = .ok (.lastore, 1) := dk_80 (dk_at dksX0_clearThen_0 15 rfl rfl)
theorem dX0_clearThen_16 : decode cX0_clearThen 16 = .ok (.aload_n 0, 1) := dk_42 (dk_at dksX0_clearThen_0 16 rfl rfl)
theorem dX0_clearThen_17 : decode cX0_clearThen 17 = .ok (.getfield 97, 3) := dk_180 0 97 (dk_at dksX0_clearThen_0 17 rfl rfl)
theorem dX0_clearThen_20 : decode cX0_clearThen 20 = .ok (.iload_n 1, 1) := dk_27 (dk_at dksX0_clearThen_0 20 rfl rfl)
theorem dX0_clearThen_21 : decode cX0_clearThen 21 = .ok (.sipush 999, 3) := dk_17 3 231 (dk_at dksX0_clearThen_0 21 rfl rfl)
theorem dX0_clearThen_24 : decode cX0_clearThen 24 = .ok (.iastore, 1) := dk_79 (dk_at dksX0_clearThen_1 0 rfl rfl)
theorem dX0_clearThen_25 : decode cX0_clearThen 25 = .ok (.iinc 1 1, 3) := dk_132 1 1 (dk_at dksX0_clearThen_1 1 rfl rfl)
theorem dX0_clearThen_28 : decode cX0_clearThen 28 = .ok (.goto (-26), 3) := dk_167 255 230 (dk_at dksX0_clearThen_1 4 rfl rfl)
theorem dX0_clearThen_31 : decode cX0_clearThen 31 = .ok (.return_, 1) := dk_177 (dk_at dksX0_clearThen_1 7 rfl rfl)
abbrev cX0_coverFrom : ByteArray := prog_1_method_34_code
def yX0_coverFrom : MethodName := ⟨RX0, "coverFrom", "(II)V"⟩
def dkwX0_coverFrom_3 : List UInt8 := [154, 0, 13, 42, 28, 21, 5, 128, 28, 4, 182, 0, 223, 132, 3, 1, 167, 255, 200, 177]
abbrev dktX0_coverFrom_3 : List UInt8 := dkwX0_coverFrom_3 ++ []
def dkwX0_coverFrom_2 : List UInt8 := [54, 5, 21, 4, 153, 0, 33, 21, 4, 42, 180, 0, 65, 180, 0, 168, 126, 154, 0, 20, 21, 5, 28, 126]
abbrev dktX0_coverFrom_2 : List UInt8 := dkwX0_coverFrom_2 ++ dktX0_coverFrom_3
def dkwX0_coverFrom_1 : List UInt8 := [28, 3, 182, 0, 223, 177, 3, 62, 29, 7, 162, 0, 57, 29, 27, 184, 0, 182, 54, 4, 21, 4, 27, 122]
abbrev dktX0_coverFrom_1 : List UInt8 := dkwX0_coverFrom_1 ++ dktX0_coverFrom_2
def dkwX0_coverFrom_0 : List UInt8 := [42, 180, 0, 65, 180, 0, 168, 27, 184, 0, 21, 154, 0, 11, 28, 3, 184, 0, 21, 153, 0, 11, 42, 28]
abbrev dktX0_coverFrom_0 : List UInt8 := dkwX0_coverFrom_0 ++ dktX0_coverFrom_1
theorem dksX0_coverFrom_0 : cX0_coverFrom.data.toList.drop 0 = dktX0_coverFrom_0 := by decide +kernel
theorem dksX0_coverFrom_1 : cX0_coverFrom.data.toList.drop 24 = dktX0_coverFrom_1 := dk_seg dksX0_coverFrom_0 24 rfl rfl
theorem dksX0_coverFrom_2 : cX0_coverFrom.data.toList.drop 48 = dktX0_coverFrom_2 := dk_seg dksX0_coverFrom_1 24 rfl rfl
theorem dksX0_coverFrom_3 : cX0_coverFrom.data.toList.drop 72 = dktX0_coverFrom_3 := dk_seg dksX0_coverFrom_2 24 rfl rfl
theorem dX0_coverFrom_0 : decode cX0_coverFrom 0 = .ok (.aload_n 0, 1) := dk_42 (dk_at dksX0_coverFrom_0 0 rfl rfl)
theorem dX0_coverFrom_1 : decode cX0_coverFrom 1 = .ok (.getfield 65, 3) := dk_180 0 65 (dk_at dksX0_coverFrom_0 1 rfl rfl)
theorem dX0_coverFrom_4 : decode cX0_coverFrom 4 = .ok (.getfield 168, 3) := dk_180 0 168 (dk_at dksX0_coverFrom_0 4 rfl rfl)
theorem dX0_coverFrom_7 : decode cX0_coverFrom 7 = .ok (.iload_n 1, 1) := dk_27 (dk_at dksX0_coverFrom_0 7 rfl rfl)
theorem dX0_coverFrom_8 : decode cX0_coverFrom 8 = .ok (.invokestatic 21, 3) := dk_184 0 21 (dk_at dksX0_coverFrom_0 8 rfl rfl)
theorem dX0_coverFrom_11 : decode cX0_coverFrom 11 = .ok (.ifCond .ne 11, 3) := dk_154 0 11 (dk_at dksX0_coverFrom_0 11 rfl rfl)
theorem dX0_coverFrom_14 : decode cX0_coverFrom 14 = .ok (.iload_n 2, 1) := dk_28 (dk_at dksX0_coverFrom_0 14 rfl rfl)
theorem dX0_coverFrom_15 : decode cX0_coverFrom 15 = .ok (.iconst 0, 1) := dk_3 (dk_at dksX0_coverFrom_0 15 rfl rfl)
theorem dX0_coverFrom_16 : decode cX0_coverFrom 16 = .ok (.invokestatic 21, 3) := dk_184 0 21 (dk_at dksX0_coverFrom_0 16 rfl rfl)
theorem dX0_coverFrom_19 : decode cX0_coverFrom 19 = .ok (.ifCond .eq 11, 3) := dk_153 0 11 (dk_at dksX0_coverFrom_0 19 rfl rfl)
theorem dX0_coverFrom_22 : decode cX0_coverFrom 22 = .ok (.aload_n 0, 1) := dk_42 (dk_at dksX0_coverFrom_0 22 rfl rfl)
theorem dX0_coverFrom_23 : decode cX0_coverFrom 23 = .ok (.iload_n 2, 1) := dk_28 (dk_at dksX0_coverFrom_0 23 rfl rfl)
theorem dX0_coverFrom_24 : decode cX0_coverFrom 24 = .ok (.iload_n 2, 1) := dk_28 (dk_at dksX0_coverFrom_1 0 rfl rfl)
theorem dX0_coverFrom_25 : decode cX0_coverFrom 25 = .ok (.iconst 0, 1) := dk_3 (dk_at dksX0_coverFrom_1 1 rfl rfl)
theorem dX0_coverFrom_26 : decode cX0_coverFrom 26 = .ok (.invokevirtual 223, 3) := dk_182 0 223 (dk_at dksX0_coverFrom_1 2 rfl rfl)
theorem dX0_coverFrom_29 : decode cX0_coverFrom 29 = .ok (.return_, 1) := dk_177 (dk_at dksX0_coverFrom_1 5 rfl rfl)
theorem dX0_coverFrom_30 : decode cX0_coverFrom 30 = .ok (.iconst 0, 1) := dk_3 (dk_at dksX0_coverFrom_1 6 rfl rfl)
theorem dX0_coverFrom_31 : decode cX0_coverFrom 31 = .ok (.istore_n 3, 1) := dk_62 (dk_at dksX0_coverFrom_1 7 rfl rfl)
theorem dX0_coverFrom_32 : decode cX0_coverFrom 32 = .ok (.iload_n 3, 1) := dk_29 (dk_at dksX0_coverFrom_1 8 rfl rfl)
theorem dX0_coverFrom_33 : decode cX0_coverFrom 33 = .ok (.iconst 4, 1) := dk_7 (dk_at dksX0_coverFrom_1 9 rfl rfl)
theorem dX0_coverFrom_34 : decode cX0_coverFrom 34 = .ok (.if_icmp .ge 57, 3) := dk_162 0 57 (dk_at dksX0_coverFrom_1 10 rfl rfl)
theorem dX0_coverFrom_37 : decode cX0_coverFrom 37 = .ok (.iload_n 3, 1) := dk_29 (dk_at dksX0_coverFrom_1 13 rfl rfl)
theorem dX0_coverFrom_38 : decode cX0_coverFrom 38 = .ok (.iload_n 1, 1) := dk_27 (dk_at dksX0_coverFrom_1 14 rfl rfl)
theorem dX0_coverFrom_39 : decode cX0_coverFrom 39 = .ok (.invokestatic 182, 3) := dk_184 0 182 (dk_at dksX0_coverFrom_1 15 rfl rfl)
theorem dX0_coverFrom_42 : decode cX0_coverFrom 42 = .ok (.istore 4, 2) := dk_54 4 (dk_at dksX0_coverFrom_1 18 rfl rfl)
theorem dX0_coverFrom_44 : decode cX0_coverFrom 44 = .ok (.iload 4, 2) := dk_21 4 (dk_at dksX0_coverFrom_1 20 rfl rfl)
theorem dX0_coverFrom_46 : decode cX0_coverFrom 46 = .ok (.iload_n 1, 1) := dk_27 (dk_at dksX0_coverFrom_1 22 rfl rfl)
theorem dX0_coverFrom_47 : decode cX0_coverFrom 47 = .ok (.ishr, 1) := dk_122 (dk_at dksX0_coverFrom_1 23 rfl rfl)
theorem dX0_coverFrom_48 : decode cX0_coverFrom 48 = .ok (.istore 5, 2) := dk_54 5 (dk_at dksX0_coverFrom_2 0 rfl rfl)
theorem dX0_coverFrom_50 : decode cX0_coverFrom 50 = .ok (.iload 4, 2) := dk_21 4 (dk_at dksX0_coverFrom_2 2 rfl rfl)
theorem dX0_coverFrom_52 : decode cX0_coverFrom 52 = .ok (.ifCond .eq 33, 3) := dk_153 0 33 (dk_at dksX0_coverFrom_2 4 rfl rfl)
theorem dX0_coverFrom_55 : decode cX0_coverFrom 55 = .ok (.iload 4, 2) := dk_21 4 (dk_at dksX0_coverFrom_2 7 rfl rfl)
theorem dX0_coverFrom_57 : decode cX0_coverFrom 57 = .ok (.aload_n 0, 1) := dk_42 (dk_at dksX0_coverFrom_2 9 rfl rfl)
theorem dX0_coverFrom_58 : decode cX0_coverFrom 58 = .ok (.getfield 65, 3) := dk_180 0 65 (dk_at dksX0_coverFrom_2 10 rfl rfl)
theorem dX0_coverFrom_61 : decode cX0_coverFrom 61 = .ok (.getfield 168, 3) := dk_180 0 168 (dk_at dksX0_coverFrom_2 13 rfl rfl)
theorem dX0_coverFrom_64 : decode cX0_coverFrom 64 = .ok (.iand, 1) := dk_126 (dk_at dksX0_coverFrom_2 16 rfl rfl)
theorem dX0_coverFrom_65 : decode cX0_coverFrom 65 = .ok (.ifCond .ne 20, 3) := dk_154 0 20 (dk_at dksX0_coverFrom_2 17 rfl rfl)
theorem dX0_coverFrom_68 : decode cX0_coverFrom 68 = .ok (.iload 5, 2) := dk_21 5 (dk_at dksX0_coverFrom_2 20 rfl rfl)
theorem dX0_coverFrom_70 : decode cX0_coverFrom 70 = .ok (.iload_n 2, 1) := dk_28 (dk_at dksX0_coverFrom_2 22 rfl rfl)
theorem dX0_coverFrom_71 : decode cX0_coverFrom 71 = .ok (.iand, 1) := dk_126 (dk_at dksX0_coverFrom_2 23 rfl rfl)
theorem dX0_coverFrom_72 : decode cX0_coverFrom 72 = .ok (.ifCond .ne 13, 3) := dk_154 0 13 (dk_at dksX0_coverFrom_3 0 rfl rfl)
theorem dX0_coverFrom_75 : decode cX0_coverFrom 75 = .ok (.aload_n 0, 1) := dk_42 (dk_at dksX0_coverFrom_3 3 rfl rfl)
theorem dX0_coverFrom_76 : decode cX0_coverFrom 76 = .ok (.iload_n 2, 1) := dk_28 (dk_at dksX0_coverFrom_3 4 rfl rfl)
theorem dX0_coverFrom_77 : decode cX0_coverFrom 77 = .ok (.iload 5, 2) := dk_21 5 (dk_at dksX0_coverFrom_3 5 rfl rfl)
theorem dX0_coverFrom_79 : decode cX0_coverFrom 79 = .ok (.ior, 1) := dk_128 (dk_at dksX0_coverFrom_3 7 rfl rfl)
theorem dX0_coverFrom_80 : decode cX0_coverFrom 80 = .ok (.iload_n 2, 1) := dk_28 (dk_at dksX0_coverFrom_3 8 rfl rfl)
theorem dX0_coverFrom_81 : decode cX0_coverFrom 81 = .ok (.iconst 1, 1) := dk_4 (dk_at dksX0_coverFrom_3 9 rfl rfl)
theorem dX0_coverFrom_82 : decode cX0_coverFrom 82 = .ok (.invokevirtual 223, 3) := dk_182 0 223 (dk_at dksX0_coverFrom_3 10 rfl rfl)
theorem dX0_coverFrom_85 : decode cX0_coverFrom 85 = .ok (.iinc 3 1, 3) := dk_132 3 1 (dk_at dksX0_coverFrom_3 13 rfl rfl)
theorem dX0_coverFrom_88 : decode cX0_coverFrom 88 = .ok (.goto (-56), 3) := dk_167 255 200 (dk_at dksX0_coverFrom_3 16 rfl rfl)
theorem dX0_coverFrom_91 : decode cX0_coverFrom 91 = .ok (.return_, 1) := dk_177 (dk_at dksX0_coverFrom_3 19 rfl rfl)
abbrev cX0_goTo : ByteArray := prog_1_method_33_code
def yX0_goTo : MethodName := ⟨RX0, "goTo", "(III)V"⟩
def dkwX0_goTo_2 : List UInt8 := [46, 29, 96, 184, 0, 220, 79, 177]
abbrev dktX0_goTo_2 : List UInt8 := dkwX0_goTo_2 ++ []
def dkwX0_goTo_1 : List UInt8 := [97, 20, 0, 218, 113, 80, 42, 180, 0, 97, 21, 4, 42, 180, 0, 97, 21, 4, 46, 42, 180, 0, 94, 28]
abbrev dktX0_goTo_1 : List UInt8 := dkwX0_goTo_1 ++ dktX0_goTo_2
def dkwX0_goTo_0 : List UInt8 := [27, 4, 122, 54, 4, 42, 180, 0, 91, 21, 4, 42, 180, 0, 91, 21, 4, 47, 42, 180, 0, 87, 28, 47]
abbrev dktX0_goTo_0 : List UInt8 := dkwX0_goTo_0 ++ dktX0_goTo_1
theorem dksX0_goTo_0 : cX0_goTo.data.toList.drop 0 = dktX0_goTo_0 := by decide +kernel
theorem dksX0_goTo_1 : cX0_goTo.data.toList.drop 24 = dktX0_goTo_1 := dk_seg dksX0_goTo_0 24 rfl rfl
theorem dksX0_goTo_2 : cX0_goTo.data.toList.drop 48 = dktX0_goTo_2 := dk_seg dksX0_goTo_1 24 rfl rfl
theorem dX0_goTo_0 : decode cX0_goTo 0 = .ok (.iload_n 1, 1) := dk_27 (dk_at dksX0_goTo_0 0 rfl rfl)
theorem dX0_goTo_1 : decode cX0_goTo 1 = .ok (.iconst 1, 1) := dk_4 (dk_at dksX0_goTo_0 1 rfl rfl)
theorem dX0_goTo_2 : decode cX0_goTo 2 = .ok (.ishr, 1) := dk_122 (dk_at dksX0_goTo_0 2 rfl rfl)
theorem dX0_goTo_3 : decode cX0_goTo 3 = .ok (.istore 4, 2) := dk_54 4 (dk_at dksX0_goTo_0 3 rfl rfl)
theorem dX0_goTo_5 : decode cX0_goTo 5 = .ok (.aload_n 0, 1) := dk_42 (dk_at dksX0_goTo_0 5 rfl rfl)
theorem dX0_goTo_6 : decode cX0_goTo 6 = .ok (.getfield 91, 3) := dk_180 0 91 (dk_at dksX0_goTo_0 6 rfl rfl)
theorem dX0_goTo_9 : decode cX0_goTo 9 = .ok (.iload 4, 2) := dk_21 4 (dk_at dksX0_goTo_0 9 rfl rfl)
theorem dX0_goTo_11 : decode cX0_goTo 11 = .ok (.aload_n 0, 1) := dk_42 (dk_at dksX0_goTo_0 11 rfl rfl)
theorem dX0_goTo_12 : decode cX0_goTo 12 = .ok (.getfield 91, 3) := dk_180 0 91 (dk_at dksX0_goTo_0 12 rfl rfl)
theorem dX0_goTo_15 : decode cX0_goTo 15 = .ok (.iload 4, 2) := dk_21 4 (dk_at dksX0_goTo_0 15 rfl rfl)
theorem dX0_goTo_17 : decode cX0_goTo 17 = .ok (.laload, 1) := dk_47 (dk_at dksX0_goTo_0 17 rfl rfl)
theorem dX0_goTo_18 : decode cX0_goTo 18 = .ok (.aload_n 0, 1) := dk_42 (dk_at dksX0_goTo_0 18 rfl rfl)
theorem dX0_goTo_19 : decode cX0_goTo 19 = .ok (.getfield 87, 3) := dk_180 0 87 (dk_at dksX0_goTo_0 19 rfl rfl)
theorem dX0_goTo_22 : decode cX0_goTo 22 = .ok (.iload_n 2, 1) := dk_28 (dk_at dksX0_goTo_0 22 rfl rfl)
theorem dX0_goTo_23 : decode cX0_goTo 23 = .ok (.laload, 1) := dk_47 (dk_at dksX0_goTo_0 23 rfl rfl)
theorem dX0_goTo_24 : decode cX0_goTo 24 = .ok (.ladd, 1) := dk_97 (dk_at dksX0_goTo_1 0 rfl rfl)
theorem dX0_goTo_25 : decode cX0_goTo 25 = .ok (.ldc2_w 218, 3) := dk_20 0 218 (dk_at dksX0_goTo_1 1 rfl rfl)
theorem dX0_goTo_28 : decode cX0_goTo 28 = .ok (.lrem, 1) := dk_113 (dk_at dksX0_goTo_1 4 rfl rfl)
theorem dX0_goTo_29 : decode cX0_goTo 29 = .ok (.lastore, 1) := dk_80 (dk_at dksX0_goTo_1 5 rfl rfl)
theorem dX0_goTo_30 : decode cX0_goTo 30 = .ok (.aload_n 0, 1) := dk_42 (dk_at dksX0_goTo_1 6 rfl rfl)
theorem dX0_goTo_31 : decode cX0_goTo 31 = .ok (.getfield 97, 3) := dk_180 0 97 (dk_at dksX0_goTo_1 7 rfl rfl)
theorem dX0_goTo_34 : decode cX0_goTo 34 = .ok (.iload 4, 2) := dk_21 4 (dk_at dksX0_goTo_1 10 rfl rfl)
theorem dX0_goTo_36 : decode cX0_goTo 36 = .ok (.aload_n 0, 1) := dk_42 (dk_at dksX0_goTo_1 12 rfl rfl)
theorem dX0_goTo_37 : decode cX0_goTo 37 = .ok (.getfield 97, 3) := dk_180 0 97 (dk_at dksX0_goTo_1 13 rfl rfl)
theorem dX0_goTo_40 : decode cX0_goTo 40 = .ok (.iload 4, 2) := dk_21 4 (dk_at dksX0_goTo_1 16 rfl rfl)
theorem dX0_goTo_42 : decode cX0_goTo 42 = .ok (.iaload, 1) := dk_46 (dk_at dksX0_goTo_1 18 rfl rfl)
theorem dX0_goTo_43 : decode cX0_goTo 43 = .ok (.aload_n 0, 1) := dk_42 (dk_at dksX0_goTo_1 19 rfl rfl)
theorem dX0_goTo_44 : decode cX0_goTo 44 = .ok (.getfield 94, 3) := dk_180 0 94 (dk_at dksX0_goTo_1 20 rfl rfl)
theorem dX0_goTo_47 : decode cX0_goTo 47 = .ok (.iload_n 2, 1) := dk_28 (dk_at dksX0_goTo_1 23 rfl rfl)
theorem dX0_goTo_48 : decode cX0_goTo 48 = .ok (.iaload, 1) := dk_46 (dk_at dksX0_goTo_2 0 rfl rfl)
theorem dX0_goTo_49 : decode cX0_goTo 49 = .ok (.iload_n 3, 1) := dk_29 (dk_at dksX0_goTo_2 1 rfl rfl)
theorem dX0_goTo_50 : decode cX0_goTo 50 = .ok (.iadd, 1) := dk_96 (dk_at dksX0_goTo_2 2 rfl rfl)
theorem dX0_goTo_51 : decode cX0_goTo 51 = .ok (.invokestatic 220, 3) := dk_184 0 220 (dk_at dksX0_goTo_2 3 rfl rfl)
theorem dX0_goTo_54 : decode cX0_goTo 54 = .ok (.iastore, 1) := dk_79 (dk_at dksX0_goTo_2 6 rfl rfl)
theorem dX0_goTo_55 : decode cX0_goTo 55 = .ok (.return_, 1) := dk_177 (dk_at dksX0_goTo_2 7 rfl rfl)
abbrev cX0_ofRest : ByteArray := prog_1_method_83_code
def yX0_ofRest : MethodName := ⟨RX0, "ofRest", "(IIII)I"⟩
def dkwX0_ofRest_4 : List UInt8 := [42, 28, 29, 182, 1, 199, 172, 42, 27, 28, 29, 21, 4, 182, 1, 202, 172]
abbrev dktX0_ofRest_4 : List UInt8 := dkwX0_ofRest_4 ++ []
def dkwX0_ofRest_3 : List UInt8 := [28, 182, 1, 187, 172, 42, 28, 29, 182, 1, 190, 172, 42, 28, 182, 1, 193, 172, 42, 28, 182, 1, 196, 172]
abbrev dktX0_ofRest_3 : List UInt8 := dkwX0_ofRest_3 ++ dktX0_ofRest_4
def dkwX0_ofRest_2 : List UInt8 := [42, 28, 182, 1, 178, 172, 42, 28, 182, 1, 181, 172, 42, 28, 182, 1, 184, 172, 42, 28, 182, 0, 194, 42]
abbrev dktX0_ofRest_2 : List UInt8 := dkwX0_ofRest_2 ++ dktX0_ofRest_3
def dkwX0_ofRest_1 : List UInt8 := [170, 0, 0, 0, 0, 0, 102, 0, 0, 0, 18, 0, 0, 0, 25, 0, 0, 0, 47, 0, 0, 0, 53, 0, 0, 0, 59, 0, 0, 0, 65, 0, 0, 0, 76, 0, 0, 0, 83, 0, 0, 0, 89, 0, 0, 0, 95]
abbrev dktX0_ofRest_1 : List UInt8 := dkwX0_ofRest_1 ++ dktX0_ofRest_2
def dkwX0_ofRest_0 : List UInt8 := [27]
abbrev dktX0_ofRest_0 : List UInt8 := dkwX0_ofRest_0 ++ dktX0_ofRest_1
theorem dksX0_ofRest_0 : cX0_ofRest.data.toList.drop 0 = dktX0_ofRest_0 := by decide +kernel
theorem dksX0_ofRest_1 : cX0_ofRest.data.toList.drop 1 = dktX0_ofRest_1 := dk_seg dksX0_ofRest_0 1 rfl rfl
theorem dksX0_ofRest_2 : cX0_ofRest.data.toList.drop 48 = dktX0_ofRest_2 := dk_seg dksX0_ofRest_1 47 rfl rfl
theorem dksX0_ofRest_3 : cX0_ofRest.data.toList.drop 72 = dktX0_ofRest_3 := dk_seg dksX0_ofRest_2 24 rfl rfl
theorem dksX0_ofRest_4 : cX0_ofRest.data.toList.drop 96 = dktX0_ofRest_4 := dk_seg dksX0_ofRest_3 24 rfl rfl
theorem dX0_ofRest_0 : decode cX0_ofRest 0 = .ok (.iload_n 1, 1) := dk_27 (dk_at dksX0_ofRest_0 0 rfl rfl)
theorem dX0_ofRest_1 : decode cX0_ofRest 1 = .ok (.tableswitch 102 18 25 #[47, 53, 59, 65, 76, 83, 89, 95], 47) := by decide +kernel
theorem dX0_ofRest_48 : decode cX0_ofRest 48 = .ok (.aload_n 0, 1) := dk_42 (dk_at dksX0_ofRest_2 0 rfl rfl)
theorem dX0_ofRest_49 : decode cX0_ofRest 49 = .ok (.iload_n 2, 1) := dk_28 (dk_at dksX0_ofRest_2 1 rfl rfl)
theorem dX0_ofRest_50 : decode cX0_ofRest 50 = .ok (.invokevirtual 434, 3) := dk_182 1 178 (dk_at dksX0_ofRest_2 2 rfl rfl)
theorem dX0_ofRest_53 : decode cX0_ofRest 53 = .ok (.ireturn, 1) := dk_172 (dk_at dksX0_ofRest_2 5 rfl rfl)
theorem dX0_ofRest_54 : decode cX0_ofRest 54 = .ok (.aload_n 0, 1) := dk_42 (dk_at dksX0_ofRest_2 6 rfl rfl)
theorem dX0_ofRest_55 : decode cX0_ofRest 55 = .ok (.iload_n 2, 1) := dk_28 (dk_at dksX0_ofRest_2 7 rfl rfl)
theorem dX0_ofRest_56 : decode cX0_ofRest 56 = .ok (.invokevirtual 437, 3) := dk_182 1 181 (dk_at dksX0_ofRest_2 8 rfl rfl)
theorem dX0_ofRest_59 : decode cX0_ofRest 59 = .ok (.ireturn, 1) := dk_172 (dk_at dksX0_ofRest_2 11 rfl rfl)
theorem dX0_ofRest_60 : decode cX0_ofRest 60 = .ok (.aload_n 0, 1) := dk_42 (dk_at dksX0_ofRest_2 12 rfl rfl)
theorem dX0_ofRest_61 : decode cX0_ofRest 61 = .ok (.iload_n 2, 1) := dk_28 (dk_at dksX0_ofRest_2 13 rfl rfl)
theorem dX0_ofRest_62 : decode cX0_ofRest 62 = .ok (.invokevirtual 440, 3) := dk_182 1 184 (dk_at dksX0_ofRest_2 14 rfl rfl)
theorem dX0_ofRest_65 : decode cX0_ofRest 65 = .ok (.ireturn, 1) := dk_172 (dk_at dksX0_ofRest_2 17 rfl rfl)
theorem dX0_ofRest_66 : decode cX0_ofRest 66 = .ok (.aload_n 0, 1) := dk_42 (dk_at dksX0_ofRest_2 18 rfl rfl)
theorem dX0_ofRest_67 : decode cX0_ofRest 67 = .ok (.iload_n 2, 1) := dk_28 (dk_at dksX0_ofRest_2 19 rfl rfl)
theorem dX0_ofRest_68 : decode cX0_ofRest 68 = .ok (.invokevirtual 194, 3) := dk_182 0 194 (dk_at dksX0_ofRest_2 20 rfl rfl)
theorem dX0_ofRest_71 : decode cX0_ofRest 71 = .ok (.aload_n 0, 1) := dk_42 (dk_at dksX0_ofRest_2 23 rfl rfl)
theorem dX0_ofRest_72 : decode cX0_ofRest 72 = .ok (.iload_n 2, 1) := dk_28 (dk_at dksX0_ofRest_3 0 rfl rfl)
theorem dX0_ofRest_73 : decode cX0_ofRest 73 = .ok (.invokevirtual 443, 3) := dk_182 1 187 (dk_at dksX0_ofRest_3 1 rfl rfl)
theorem dX0_ofRest_76 : decode cX0_ofRest 76 = .ok (.ireturn, 1) := dk_172 (dk_at dksX0_ofRest_3 4 rfl rfl)
theorem dX0_ofRest_77 : decode cX0_ofRest 77 = .ok (.aload_n 0, 1) := dk_42 (dk_at dksX0_ofRest_3 5 rfl rfl)
theorem dX0_ofRest_78 : decode cX0_ofRest 78 = .ok (.iload_n 2, 1) := dk_28 (dk_at dksX0_ofRest_3 6 rfl rfl)
theorem dX0_ofRest_79 : decode cX0_ofRest 79 = .ok (.iload_n 3, 1) := dk_29 (dk_at dksX0_ofRest_3 7 rfl rfl)
theorem dX0_ofRest_80 : decode cX0_ofRest 80 = .ok (.invokevirtual 446, 3) := dk_182 1 190 (dk_at dksX0_ofRest_3 8 rfl rfl)
theorem dX0_ofRest_83 : decode cX0_ofRest 83 = .ok (.ireturn, 1) := dk_172 (dk_at dksX0_ofRest_3 11 rfl rfl)
theorem dX0_ofRest_84 : decode cX0_ofRest 84 = .ok (.aload_n 0, 1) := dk_42 (dk_at dksX0_ofRest_3 12 rfl rfl)
theorem dX0_ofRest_85 : decode cX0_ofRest 85 = .ok (.iload_n 2, 1) := dk_28 (dk_at dksX0_ofRest_3 13 rfl rfl)
theorem dX0_ofRest_86 : decode cX0_ofRest 86 = .ok (.invokevirtual 449, 3) := dk_182 1 193 (dk_at dksX0_ofRest_3 14 rfl rfl)
theorem dX0_ofRest_89 : decode cX0_ofRest 89 = .ok (.ireturn, 1) := dk_172 (dk_at dksX0_ofRest_3 17 rfl rfl)
theorem dX0_ofRest_90 : decode cX0_ofRest 90 = .ok (.aload_n 0, 1) := dk_42 (dk_at dksX0_ofRest_3 18 rfl rfl)
theorem dX0_ofRest_91 : decode cX0_ofRest 91 = .ok (.iload_n 2, 1) := dk_28 (dk_at dksX0_ofRest_3 19 rfl rfl)
theorem dX0_ofRest_92 : decode cX0_ofRest 92 = .ok (.invokevirtual 452, 3) := dk_182 1 196 (dk_at dksX0_ofRest_3 20 rfl rfl)
theorem dX0_ofRest_95 : decode cX0_ofRest 95 = .ok (.ireturn, 1) := dk_172 (dk_at dksX0_ofRest_3 23 rfl rfl)
theorem dX0_ofRest_96 : decode cX0_ofRest 96 = .ok (.aload_n 0, 1) := dk_42 (dk_at dksX0_ofRest_4 0 rfl rfl)
theorem dX0_ofRest_97 : decode cX0_ofRest 97 = .ok (.iload_n 2, 1) := dk_28 (dk_at dksX0_ofRest_4 1 rfl rfl)
theorem dX0_ofRest_98 : decode cX0_ofRest 98 = .ok (.iload_n 3, 1) := dk_29 (dk_at dksX0_ofRest_4 2 rfl rfl)
theorem dX0_ofRest_99 : decode cX0_ofRest 99 = .ok (.invokevirtual 455, 3) := dk_182 1 199 (dk_at dksX0_ofRest_4 3 rfl rfl)
theorem dX0_ofRest_102 : decode cX0_ofRest 102 = .ok (.ireturn, 1) := dk_172 (dk_at dksX0_ofRest_4 6 rfl rfl)
theorem dX0_ofRest_103 : decode cX0_ofRest 103 = .ok (.aload_n 0, 1) := dk_42 (dk_at dksX0_ofRest_4 7 rfl rfl)
theorem dX0_ofRest_104 : decode cX0_ofRest 104 = .ok (.iload_n 1, 1) := dk_27 (dk_at dksX0_ofRest_4 8 rfl rfl)
theorem dX0_ofRest_105 : decode cX0_ofRest 105 = .ok (.iload_n 2, 1) := dk_28 (dk_at dksX0_ofRest_4 9 rfl rfl)
theorem dX0_ofRest_106 : decode cX0_ofRest 106 = .ok (.iload_n 3, 1) := dk_29 (dk_at dksX0_ofRest_4 10 rfl rfl)
theorem dX0_ofRest_107 : decode cX0_ofRest 107 = .ok (.iload 4, 2) := dk_21 4 (dk_at dksX0_ofRest_4 11 rfl rfl)
theorem dX0_ofRest_109 : decode cX0_ofRest 109 = .ok (.invokevirtual 458, 3) := dk_182 1 202 (dk_at dksX0_ofRest_4 13 rfl rfl)
theorem dX0_ofRest_112 : decode cX0_ofRest 112 = .ok (.ireturn, 1) := dk_172 (dk_at dksX0_ofRest_4 16 rfl rfl)
abbrev cX0_alikeTold : ByteArray := prog_1_method_36_code
def yX0_alikeTold : MethodName := ⟨RX0, "alikeTold", "(I)I"⟩
def dkwX0_alikeTold_5 : List UInt8 := [27, 154, 0, 8, 21, 4, 167, 0, 4, 29, 172]
abbrev dktX0_alikeTold_5 : List UInt8 := dkwX0_alikeTold_5 ++ []
def dkwX0_alikeTold_4 : List UInt8 := [167, 255, 225, 21, 4, 21, 6, 153, 0, 7, 4, 167, 0, 4, 3, 96, 54, 4, 132, 5, 1, 167, 255, 170]
abbrev dktX0_alikeTold_4 : List UInt8 := dkwX0_alikeTold_4 ++ dktX0_alikeTold_5
def dkwX0_alikeTold_3 : List UInt8 := [44, 21, 7, 46, 44, 21, 5, 46, 159, 0, 7, 4, 167, 0, 4, 3, 126, 54, 6, 132, 7, 1]
abbrev dktX0_alikeTold_3 : List UInt8 := dkwX0_alikeTold_3 ++ dktX0_alikeTold_4
def dkwX0_alikeTold_2 : List UInt8 := [29, 44, 21, 5, 46, 184, 0, 220, 62, 4, 54, 6, 3, 54, 7, 21, 7, 21, 5, 162, 0, 30, 21, 6]
abbrev dktX0_alikeTold_2 : List UInt8 := dkwX0_alikeTold_2 ++ dktX0_alikeTold_3
def dkwX0_alikeTold_1 : List UInt8 := [54, 4, 4, 54, 5, 21, 5, 7, 162, 0, 86, 44, 21, 5, 44, 21, 5, 4, 100, 46, 184, 0, 240, 79]
abbrev dktX0_alikeTold_1 : List UInt8 := dkwX0_alikeTold_1 ++ dktX0_alikeTold_2
def dkwX0_alikeTold_0 : List UInt8 := [27, 184, 0, 197, 7, 188, 10, 77, 44, 3, 42, 180, 0, 65, 180, 0, 168, 79, 44, 3, 46, 62, 4]
abbrev dktX0_alikeTold_0 : List UInt8 := dkwX0_alikeTold_0 ++ dktX0_alikeTold_1
theorem dksX0_alikeTold_0 : cX0_alikeTold.data.toList.drop 0 = dktX0_alikeTold_0 := by decide +kernel
theorem dksX0_alikeTold_1 : cX0_alikeTold.data.toList.drop 23 = dktX0_alikeTold_1 := dk_seg dksX0_alikeTold_0 23 rfl rfl
theorem dksX0_alikeTold_2 : cX0_alikeTold.data.toList.drop 47 = dktX0_alikeTold_2 := dk_seg dksX0_alikeTold_1 24 rfl rfl
theorem dksX0_alikeTold_3 : cX0_alikeTold.data.toList.drop 71 = dktX0_alikeTold_3 := dk_seg dksX0_alikeTold_2 24 rfl rfl
theorem dksX0_alikeTold_4 : cX0_alikeTold.data.toList.drop 93 = dktX0_alikeTold_4 := dk_seg dksX0_alikeTold_3 22 rfl rfl
theorem dksX0_alikeTold_5 : cX0_alikeTold.data.toList.drop 117 = dktX0_alikeTold_5 := dk_seg dksX0_alikeTold_4 24 rfl rfl
theorem dX0_alikeTold_0 : decode cX0_alikeTold 0 = .ok (.iload_n 1, 1) := dk_27 (dk_at dksX0_alikeTold_0 0 rfl rfl)
theorem dX0_alikeTold_1 : decode cX0_alikeTold 1 = .ok (.invokestatic 197, 3) := dk_184 0 197 (dk_at dksX0_alikeTold_0 1 rfl rfl)
theorem dX0_alikeTold_4 : decode cX0_alikeTold 4 = .ok (.iconst 4, 1) := dk_7 (dk_at dksX0_alikeTold_0 4 rfl rfl)
theorem dX0_alikeTold_5 : decode cX0_alikeTold 5 = .ok (.newarray .int, 2) := dk_188_10 (dk_at dksX0_alikeTold_0 5 rfl rfl)
theorem dX0_alikeTold_7 : decode cX0_alikeTold 7 = .ok (.astore_n 2, 1) := dk_77 (dk_at dksX0_alikeTold_0 7 rfl rfl)
theorem dX0_alikeTold_8 : decode cX0_alikeTold 8 = .ok (.aload_n 2, 1) := dk_44 (dk_at dksX0_alikeTold_0 8 rfl rfl)
theorem dX0_alikeTold_9 : decode cX0_alikeTold 9 = .ok (.iconst 0, 1) := dk_3 (dk_at dksX0_alikeTold_0 9 rfl rfl)
theorem dX0_alikeTold_10 : decode cX0_alikeTold 10 = .ok (.aload_n 0, 1) := dk_42 (dk_at dksX0_alikeTold_0 10 rfl rfl)
theorem dX0_alikeTold_11 : decode cX0_alikeTold 11 = .ok (.getfield 65, 3) := dk_180 0 65 (dk_at dksX0_alikeTold_0 11 rfl rfl)
theorem dX0_alikeTold_14 : decode cX0_alikeTold 14 = .ok (.getfield 168, 3) := dk_180 0 168 (dk_at dksX0_alikeTold_0 14 rfl rfl)
theorem dX0_alikeTold_17 : decode cX0_alikeTold 17 = .ok (.iastore, 1) := dk_79 (dk_at dksX0_alikeTold_0 17 rfl rfl)
theorem dX0_alikeTold_18 : decode cX0_alikeTold 18 = .ok (.aload_n 2, 1) := dk_44 (dk_at dksX0_alikeTold_0 18 rfl rfl)
theorem dX0_alikeTold_19 : decode cX0_alikeTold 19 = .ok (.iconst 0, 1) := dk_3 (dk_at dksX0_alikeTold_0 19 rfl rfl)
theorem dX0_alikeTold_20 : decode cX0_alikeTold 20 = .ok (.iaload, 1) := dk_46 (dk_at dksX0_alikeTold_0 20 rfl rfl)
theorem dX0_alikeTold_21 : decode cX0_alikeTold 21 = .ok (.istore_n 3, 1) := dk_62 (dk_at dksX0_alikeTold_0 21 rfl rfl)
theorem dX0_alikeTold_22 : decode cX0_alikeTold 22 = .ok (.iconst 1, 1) := dk_4 (dk_at dksX0_alikeTold_0 22 rfl rfl)
theorem dX0_alikeTold_23 : decode cX0_alikeTold 23 = .ok (.istore 4, 2) := dk_54 4 (dk_at dksX0_alikeTold_1 0 rfl rfl)
theorem dX0_alikeTold_25 : decode cX0_alikeTold 25 = .ok (.iconst 1, 1) := dk_4 (dk_at dksX0_alikeTold_1 2 rfl rfl)
theorem dX0_alikeTold_26 : decode cX0_alikeTold 26 = .ok (.istore 5, 2) := dk_54 5 (dk_at dksX0_alikeTold_1 3 rfl rfl)
theorem dX0_alikeTold_28 : decode cX0_alikeTold 28 = .ok (.iload 5, 2) := dk_21 5 (dk_at dksX0_alikeTold_1 5 rfl rfl)
theorem dX0_alikeTold_30 : decode cX0_alikeTold 30 = .ok (.iconst 4, 1) := dk_7 (dk_at dksX0_alikeTold_1 7 rfl rfl)
theorem dX0_alikeTold_31 : decode cX0_alikeTold 31 = .ok (.if_icmp .ge 86, 3) := dk_162 0 86 (dk_at dksX0_alikeTold_1 8 rfl rfl)
theorem dX0_alikeTold_34 : decode cX0_alikeTold 34 = .ok (.aload_n 2, 1) := dk_44 (dk_at dksX0_alikeTold_1 11 rfl rfl)
theorem dX0_alikeTold_35 : decode cX0_alikeTold 35 = .ok (.iload 5, 2) := dk_21 5 (dk_at dksX0_alikeTold_1 12 rfl rfl)
theorem dX0_alikeTold_37 : decode cX0_alikeTold 37 = .ok (.aload_n 2, 1) := dk_44 (dk_at dksX0_alikeTold_1 14 rfl rfl)
theorem dX0_alikeTold_38 : decode cX0_alikeTold 38 = .ok (.iload 5, 2) := dk_21 5 (dk_at dksX0_alikeTold_1 15 rfl rfl)
theorem dX0_alikeTold_40 : decode cX0_alikeTold 40 = .ok (.iconst 1, 1) := dk_4 (dk_at dksX0_alikeTold_1 17 rfl rfl)
theorem dX0_alikeTold_41 : decode cX0_alikeTold 41 = .ok (.isub, 1) := dk_100 (dk_at dksX0_alikeTold_1 18 rfl rfl)
theorem dX0_alikeTold_42 : decode cX0_alikeTold 42 = .ok (.iaload, 1) := dk_46 (dk_at dksX0_alikeTold_1 19 rfl rfl)
theorem dX0_alikeTold_43 : decode cX0_alikeTold 43 = .ok (.invokestatic 240, 3) := dk_184 0 240 (dk_at dksX0_alikeTold_1 20 rfl rfl)
theorem dX0_alikeTold_46 : decode cX0_alikeTold 46 = .ok (.iastore, 1) := dk_79 (dk_at dksX0_alikeTold_1 23 rfl rfl)
theorem dX0_alikeTold_47 : decode cX0_alikeTold 47 = .ok (.iload_n 3, 1) := dk_29 (dk_at dksX0_alikeTold_2 0 rfl rfl)
theorem dX0_alikeTold_48 : decode cX0_alikeTold 48 = .ok (.aload_n 2, 1) := dk_44 (dk_at dksX0_alikeTold_2 1 rfl rfl)
theorem dX0_alikeTold_49 : decode cX0_alikeTold 49 = .ok (.iload 5, 2) := dk_21 5 (dk_at dksX0_alikeTold_2 2 rfl rfl)
theorem dX0_alikeTold_51 : decode cX0_alikeTold 51 = .ok (.iaload, 1) := dk_46 (dk_at dksX0_alikeTold_2 4 rfl rfl)
theorem dX0_alikeTold_52 : decode cX0_alikeTold 52 = .ok (.invokestatic 220, 3) := dk_184 0 220 (dk_at dksX0_alikeTold_2 5 rfl rfl)
theorem dX0_alikeTold_55 : decode cX0_alikeTold 55 = .ok (.istore_n 3, 1) := dk_62 (dk_at dksX0_alikeTold_2 8 rfl rfl)
theorem dX0_alikeTold_56 : decode cX0_alikeTold 56 = .ok (.iconst 1, 1) := dk_4 (dk_at dksX0_alikeTold_2 9 rfl rfl)
theorem dX0_alikeTold_57 : decode cX0_alikeTold 57 = .ok (.istore 6, 2) := dk_54 6 (dk_at dksX0_alikeTold_2 10 rfl rfl)
theorem dX0_alikeTold_59 : decode cX0_alikeTold 59 = .ok (.iconst 0, 1) := dk_3 (dk_at dksX0_alikeTold_2 12 rfl rfl)
theorem dX0_alikeTold_60 : decode cX0_alikeTold 60 = .ok (.istore 7, 2) := dk_54 7 (dk_at dksX0_alikeTold_2 13 rfl rfl)
theorem dX0_alikeTold_62 : decode cX0_alikeTold 62 = .ok (.iload 7, 2) := dk_21 7 (dk_at dksX0_alikeTold_2 15 rfl rfl)
theorem dX0_alikeTold_64 : decode cX0_alikeTold 64 = .ok (.iload 5, 2) := dk_21 5 (dk_at dksX0_alikeTold_2 17 rfl rfl)
theorem dX0_alikeTold_66 : decode cX0_alikeTold 66 = .ok (.if_icmp .ge 30, 3) := dk_162 0 30 (dk_at dksX0_alikeTold_2 19 rfl rfl)
theorem dX0_alikeTold_69 : decode cX0_alikeTold 69 = .ok (.iload 6, 2) := dk_21 6 (dk_at dksX0_alikeTold_2 22 rfl rfl)
theorem dX0_alikeTold_71 : decode cX0_alikeTold 71 = .ok (.aload_n 2, 1) := dk_44 (dk_at dksX0_alikeTold_3 0 rfl rfl)
theorem dX0_alikeTold_72 : decode cX0_alikeTold 72 = .ok (.iload 7, 2) := dk_21 7 (dk_at dksX0_alikeTold_3 1 rfl rfl)
theorem dX0_alikeTold_74 : decode cX0_alikeTold 74 = .ok (.iaload, 1) := dk_46 (dk_at dksX0_alikeTold_3 3 rfl rfl)
theorem dX0_alikeTold_75 : decode cX0_alikeTold 75 = .ok (.aload_n 2, 1) := dk_44 (dk_at dksX0_alikeTold_3 4 rfl rfl)
theorem dX0_alikeTold_76 : decode cX0_alikeTold 76 = .ok (.iload 5, 2) := dk_21 5 (dk_at dksX0_alikeTold_3 5 rfl rfl)
theorem dX0_alikeTold_78 : decode cX0_alikeTold 78 = .ok (.iaload, 1) := dk_46 (dk_at dksX0_alikeTold_3 7 rfl rfl)
theorem dX0_alikeTold_79 : decode cX0_alikeTold 79 = .ok (.if_icmp .eq 7, 3) := dk_159 0 7 (dk_at dksX0_alikeTold_3 8 rfl rfl)
theorem dX0_alikeTold_82 : decode cX0_alikeTold 82 = .ok (.iconst 1, 1) := dk_4 (dk_at dksX0_alikeTold_3 11 rfl rfl)
theorem dX0_alikeTold_83 : decode cX0_alikeTold 83 = .ok (.goto 4, 3) := dk_167 0 4 (dk_at dksX0_alikeTold_3 12 rfl rfl)
theorem dX0_alikeTold_86 : decode cX0_alikeTold 86 = .ok (.iconst 0, 1) := dk_3 (dk_at dksX0_alikeTold_3 15 rfl rfl)
theorem dX0_alikeTold_87 : decode cX0_alikeTold 87 = .ok (.iand, 1) := dk_126 (dk_at dksX0_alikeTold_3 16 rfl rfl)
theorem dX0_alikeTold_88 : decode cX0_alikeTold 88 = .ok (.istore 6, 2) := dk_54 6 (dk_at dksX0_alikeTold_3 17 rfl rfl)
theorem dX0_alikeTold_90 : decode cX0_alikeTold 90 = .ok (.iinc 7 1, 3) := dk_132 7 1 (dk_at dksX0_alikeTold_3 19 rfl rfl)
theorem dX0_alikeTold_93 : decode cX0_alikeTold 93 = .ok (.goto (-31), 3) := dk_167 255 225 (dk_at dksX0_alikeTold_4 0 rfl rfl)
theorem dX0_alikeTold_96 : decode cX0_alikeTold 96 = .ok (.iload 4, 2) := dk_21 4 (dk_at dksX0_alikeTold_4 3 rfl rfl)
theorem dX0_alikeTold_98 : decode cX0_alikeTold 98 = .ok (.iload 6, 2) := dk_21 6 (dk_at dksX0_alikeTold_4 5 rfl rfl)
theorem dX0_alikeTold_100 : decode cX0_alikeTold 100 = .ok (.ifCond .eq 7, 3) := dk_153 0 7 (dk_at dksX0_alikeTold_4 7 rfl rfl)
theorem dX0_alikeTold_103 : decode cX0_alikeTold 103 = .ok (.iconst 1, 1) := dk_4 (dk_at dksX0_alikeTold_4 10 rfl rfl)
theorem dX0_alikeTold_104 : decode cX0_alikeTold 104 = .ok (.goto 4, 3) := dk_167 0 4 (dk_at dksX0_alikeTold_4 11 rfl rfl)
theorem dX0_alikeTold_107 : decode cX0_alikeTold 107 = .ok (.iconst 0, 1) := dk_3 (dk_at dksX0_alikeTold_4 14 rfl rfl)
theorem dX0_alikeTold_108 : decode cX0_alikeTold 108 = .ok (.iadd, 1) := dk_96 (dk_at dksX0_alikeTold_4 15 rfl rfl)
theorem dX0_alikeTold_109 : decode cX0_alikeTold 109 = .ok (.istore 4, 2) := dk_54 4 (dk_at dksX0_alikeTold_4 16 rfl rfl)
theorem dX0_alikeTold_111 : decode cX0_alikeTold 111 = .ok (.iinc 5 1, 3) := dk_132 5 1 (dk_at dksX0_alikeTold_4 18 rfl rfl)
theorem dX0_alikeTold_114 : decode cX0_alikeTold 114 = .ok (.goto (-86), 3) := dk_167 255 170 (dk_at dksX0_alikeTold_4 21 rfl rfl)
theorem dX0_alikeTold_117 : decode cX0_alikeTold 117 = .ok (.iload_n 1, 1) := dk_27 (dk_at dksX0_alikeTold_5 0 rfl rfl)
theorem dX0_alikeTold_118 : decode cX0_alikeTold 118 = .ok (.ifCond .ne 8, 3) := dk_154 0 8 (dk_at dksX0_alikeTold_5 1 rfl rfl)
theorem dX0_alikeTold_121 : decode cX0_alikeTold 121 = .ok (.iload 4, 2) := dk_21 4 (dk_at dksX0_alikeTold_5 4 rfl rfl)
theorem dX0_alikeTold_123 : decode cX0_alikeTold 123 = .ok (.goto 4, 3) := dk_167 0 4 (dk_at dksX0_alikeTold_5 6 rfl rfl)
theorem dX0_alikeTold_126 : decode cX0_alikeTold 126 = .ok (.iload_n 3, 1) := dk_29 (dk_at dksX0_alikeTold_5 9 rfl rfl)
theorem dX0_alikeTold_127 : decode cX0_alikeTold 127 = .ok (.ireturn, 1) := dk_172 (dk_at dksX0_alikeTold_5 10 rfl rfl)
abbrev cX0_settlesTold : ByteArray := prog_1_method_78_code
def yX0_settlesTold : MethodName := ⟨RX0, "settlesTold", "(I)I"⟩
def dkwX0_settlesTold_0 : List UInt8 := [27, 184, 0, 197, 42, 27, 182, 1, 166, 172]
abbrev dktX0_settlesTold_0 : List UInt8 := dkwX0_settlesTold_0 ++ []
theorem dksX0_settlesTold_0 : cX0_settlesTold.data.toList.drop 0 = dktX0_settlesTold_0 := by decide +kernel
theorem dX0_settlesTold_0 : decode cX0_settlesTold 0 = .ok (.iload_n 1, 1) := dk_27 (dk_at dksX0_settlesTold_0 0 rfl rfl)
theorem dX0_settlesTold_1 : decode cX0_settlesTold 1 = .ok (.invokestatic 197, 3) := dk_184 0 197 (dk_at dksX0_settlesTold_0 1 rfl rfl)
theorem dX0_settlesTold_4 : decode cX0_settlesTold 4 = .ok (.aload_n 0, 1) := dk_42 (dk_at dksX0_settlesTold_0 4 rfl rfl)
theorem dX0_settlesTold_5 : decode cX0_settlesTold 5 = .ok (.iload_n 1, 1) := dk_27 (dk_at dksX0_settlesTold_0 5 rfl rfl)
theorem dX0_settlesTold_6 : decode cX0_settlesTold 6 = .ok (.invokevirtual 422, 3) := dk_182 1 166 (dk_at dksX0_settlesTold_0 6 rfl rfl)
theorem dX0_settlesTold_9 : decode cX0_settlesTold 9 = .ok (.ireturn, 1) := dk_172 (dk_at dksX0_settlesTold_0 9 rfl rfl)
abbrev cX0_settledBy : ByteArray := prog_1_method_37_code
def yX0_settledBy : MethodName := ⟨RX0, "settledBy", "(I)I"⟩
def dkwX0_settledBy_9 : List UInt8 := [16, 247, 172]
abbrev dktX0_settledBy_9 : List UInt8 := dkwX0_settledBy_9 ++ []
def dkwX0_settledBy_8 : List UInt8 := [182, 0, 155, 154, 0, 14, 27, 154, 0, 7, 5, 167, 0, 5, 21, 4, 172, 132, 3, 1, 167, 255, 145]
abbrev dktX0_settledBy_8 : List UInt8 := dkwX0_settledBy_8 ++ dktX0_settledBy_9
def dkwX0_settledBy_7 : List UInt8 := [42, 180, 0, 65, 180, 0, 168, 4, 21, 4, 120, 4, 21, 5, 120, 128, 2, 130, 126, 182, 0, 185]
abbrev dktX0_settledBy_7 : List UInt8 := dkwX0_settledBy_7 ++ dktX0_settledBy_8
def dkwX0_settledBy_6 : List UInt8 := [180, 0, 168, 21, 5, 184, 0, 21, 153, 0, 7, 4, 167, 0, 4, 3, 54, 6, 21, 6, 153, 0, 43, 44]
abbrev dktX0_settledBy_6 : List UInt8 := dkwX0_settledBy_6 ++ dktX0_settledBy_7
def dkwX0_settledBy_5 : List UInt8 := [162, 0, 37, 42, 180, 0, 65, 180, 0, 168, 21, 4, 184, 0, 21, 153, 0, 22, 42, 180, 0, 65]
abbrev dktX0_settledBy_5 : List UInt8 := dkwX0_settledBy_5 ++ dktX0_settledBy_6
def dkwX0_settledBy_4 : List UInt8 := [17, 2, 113, 162, 0, 110, 29, 16, 25, 108, 54, 4, 29, 16, 25, 112, 54, 5, 21, 4, 21, 5]
abbrev dktX0_settledBy_4 : List UInt8 := dkwX0_settledBy_4 ++ dktX0_settledBy_5
def dkwX0_settledBy_3 : List UInt8 := [154, 0, 13, 27, 154, 0, 7, 4, 167, 0, 4, 29, 172, 132, 3, 1, 167, 255, 200, 3, 62, 29]
abbrev dktX0_settledBy_3 : List UInt8 := dkwX0_settledBy_3 ++ dktX0_settledBy_4
def dkwX0_settledBy_2 : List UInt8 := [153, 0, 36, 44, 42, 180, 0, 65, 180, 0, 168, 4, 29, 120, 2, 130, 126, 182, 0, 185, 182, 0, 155]
abbrev dktX0_settledBy_2 : List UInt8 := dkwX0_settledBy_2 ++ dktX0_settledBy_3
def dkwX0_settledBy_1 : List UInt8 := [182, 0, 204, 77, 3, 62, 29, 16, 25, 162, 0, 56, 42, 180, 0, 65, 180, 0, 168, 29, 184, 0, 21]
abbrev dktX0_settledBy_1 : List UInt8 := dkwX0_settledBy_1 ++ dktX0_settledBy_2
def dkwX0_settledBy_0 : List UInt8 := [42, 180, 0, 65, 182, 0, 155, 154, 0, 14, 27, 154, 0, 7, 3, 167, 0, 5, 16, 247, 172, 42]
abbrev dktX0_settledBy_0 : List UInt8 := dkwX0_settledBy_0 ++ dktX0_settledBy_1
theorem dksX0_settledBy_0 : cX0_settledBy.data.toList.drop 0 = dktX0_settledBy_0 := by decide +kernel
theorem dksX0_settledBy_1 : cX0_settledBy.data.toList.drop 22 = dktX0_settledBy_1 := dk_seg dksX0_settledBy_0 22 rfl rfl
theorem dksX0_settledBy_2 : cX0_settledBy.data.toList.drop 45 = dktX0_settledBy_2 := dk_seg dksX0_settledBy_1 23 rfl rfl
theorem dksX0_settledBy_3 : cX0_settledBy.data.toList.drop 68 = dktX0_settledBy_3 := dk_seg dksX0_settledBy_2 23 rfl rfl
theorem dksX0_settledBy_4 : cX0_settledBy.data.toList.drop 90 = dktX0_settledBy_4 := dk_seg dksX0_settledBy_3 22 rfl rfl
theorem dksX0_settledBy_5 : cX0_settledBy.data.toList.drop 112 = dktX0_settledBy_5 := dk_seg dksX0_settledBy_4 22 rfl rfl
theorem dksX0_settledBy_6 : cX0_settledBy.data.toList.drop 134 = dktX0_settledBy_6 := dk_seg dksX0_settledBy_5 22 rfl rfl
theorem dksX0_settledBy_7 : cX0_settledBy.data.toList.drop 158 = dktX0_settledBy_7 := dk_seg dksX0_settledBy_6 24 rfl rfl
theorem dksX0_settledBy_8 : cX0_settledBy.data.toList.drop 180 = dktX0_settledBy_8 := dk_seg dksX0_settledBy_7 22 rfl rfl
theorem dksX0_settledBy_9 : cX0_settledBy.data.toList.drop 203 = dktX0_settledBy_9 := dk_seg dksX0_settledBy_8 23 rfl rfl
theorem dX0_settledBy_0 : decode cX0_settledBy 0 = .ok (.aload_n 0, 1) := dk_42 (dk_at dksX0_settledBy_0 0 rfl rfl)
theorem dX0_settledBy_1 : decode cX0_settledBy 1 = .ok (.getfield 65, 3) := dk_180 0 65 (dk_at dksX0_settledBy_0 1 rfl rfl)
theorem dX0_settledBy_4 : decode cX0_settledBy 4 = .ok (.invokevirtual 155, 3) := dk_182 0 155 (dk_at dksX0_settledBy_0 4 rfl rfl)
theorem dX0_settledBy_7 : decode cX0_settledBy 7 = .ok (.ifCond .ne 14, 3) := dk_154 0 14 (dk_at dksX0_settledBy_0 7 rfl rfl)
theorem dX0_settledBy_10 : decode cX0_settledBy 10 = .ok (.iload_n 1, 1) := dk_27 (dk_at dksX0_settledBy_0 10 rfl rfl)
theorem dX0_settledBy_11 : decode cX0_settledBy 11 = .ok (.ifCond .ne 7, 3) := dk_154 0 7 (dk_at dksX0_settledBy_0 11 rfl rfl)
theorem dX0_settledBy_14 : decode cX0_settledBy 14 = .ok (.iconst 0, 1) := dk_3 (dk_at dksX0_settledBy_0 14 rfl rfl)
theorem dX0_settledBy_15 : decode cX0_settledBy 15 = .ok (.goto 5, 3) := dk_167 0 5 (dk_at dksX0_settledBy_0 15 rfl rfl)
theorem dX0_settledBy_18 : decode cX0_settledBy 18 = .ok (.bipush (-9), 2) := dk_16 247 (dk_at dksX0_settledBy_0 18 rfl rfl)
theorem dX0_settledBy_20 : decode cX0_settledBy 20 = .ok (.ireturn, 1) := dk_172 (dk_at dksX0_settledBy_0 20 rfl rfl)
theorem dX0_settledBy_21 : decode cX0_settledBy 21 = .ok (.aload_n 0, 1) := dk_42 (dk_at dksX0_settledBy_0 21 rfl rfl)
theorem dX0_settledBy_22 : decode cX0_settledBy 22 = .ok (.invokevirtual 204, 3) := dk_182 0 204 (dk_at dksX0_settledBy_1 0 rfl rfl)
theorem dX0_settledBy_25 : decode cX0_settledBy 25 = .ok (.astore_n 2, 1) := dk_77 (dk_at dksX0_settledBy_1 3 rfl rfl)
theorem dX0_settledBy_26 : decode cX0_settledBy 26 = .ok (.iconst 0, 1) := dk_3 (dk_at dksX0_settledBy_1 4 rfl rfl)
theorem dX0_settledBy_27 : decode cX0_settledBy 27 = .ok (.istore_n 3, 1) := dk_62 (dk_at dksX0_settledBy_1 5 rfl rfl)
theorem dX0_settledBy_28 : decode cX0_settledBy 28 = .ok (.iload_n 3, 1) := dk_29 (dk_at dksX0_settledBy_1 6 rfl rfl)
theorem dX0_settledBy_29 : decode cX0_settledBy 29 = .ok (.bipush 25, 2) := dk_16 25 (dk_at dksX0_settledBy_1 7 rfl rfl)
theorem dX0_settledBy_31 : decode cX0_settledBy 31 = .ok (.if_icmp .ge 56, 3) := dk_162 0 56 (dk_at dksX0_settledBy_1 9 rfl rfl)
theorem dX0_settledBy_34 : decode cX0_settledBy 34 = .ok (.aload_n 0, 1) := dk_42 (dk_at dksX0_settledBy_1 12 rfl rfl)
theorem dX0_settledBy_35 : decode cX0_settledBy 35 = .ok (.getfield 65, 3) := dk_180 0 65 (dk_at dksX0_settledBy_1 13 rfl rfl)
theorem dX0_settledBy_38 : decode cX0_settledBy 38 = .ok (.getfield 168, 3) := dk_180 0 168 (dk_at dksX0_settledBy_1 16 rfl rfl)
theorem dX0_settledBy_41 : decode cX0_settledBy 41 = .ok (.iload_n 3, 1) := dk_29 (dk_at dksX0_settledBy_1 19 rfl rfl)
theorem dX0_settledBy_42 : decode cX0_settledBy 42 = .ok (.invokestatic 21, 3) := dk_184 0 21 (dk_at dksX0_settledBy_1 20 rfl rfl)
theorem dX0_settledBy_45 : decode cX0_settledBy 45 = .ok (.ifCond .eq 36, 3) := dk_153 0 36 (dk_at dksX0_settledBy_2 0 rfl rfl)
theorem dX0_settledBy_48 : decode cX0_settledBy 48 = .ok (.aload_n 2, 1) := dk_44 (dk_at dksX0_settledBy_2 3 rfl rfl)
theorem dX0_settledBy_49 : decode cX0_settledBy 49 = .ok (.aload_n 0, 1) := dk_42 (dk_at dksX0_settledBy_2 4 rfl rfl)
theorem dX0_settledBy_50 : decode cX0_settledBy 50 = .ok (.getfield 65, 3) := dk_180 0 65 (dk_at dksX0_settledBy_2 5 rfl rfl)
theorem dX0_settledBy_53 : decode cX0_settledBy 53 = .ok (.getfield 168, 3) := dk_180 0 168 (dk_at dksX0_settledBy_2 8 rfl rfl)
theorem dX0_settledBy_56 : decode cX0_settledBy 56 = .ok (.iconst 1, 1) := dk_4 (dk_at dksX0_settledBy_2 11 rfl rfl)
theorem dX0_settledBy_57 : decode cX0_settledBy 57 = .ok (.iload_n 3, 1) := dk_29 (dk_at dksX0_settledBy_2 12 rfl rfl)
theorem dX0_settledBy_58 : decode cX0_settledBy 58 = .ok (.ishl, 1) := dk_120 (dk_at dksX0_settledBy_2 13 rfl rfl)
theorem dX0_settledBy_59 : decode cX0_settledBy 59 = .ok (.iconst (-1), 1) := dk_2 (dk_at dksX0_settledBy_2 14 rfl rfl)
theorem dX0_settledBy_60 : decode cX0_settledBy 60 = .ok (.ixor, 1) := dk_130 (dk_at dksX0_settledBy_2 15 rfl rfl)
theorem dX0_settledBy_61 : decode cX0_settledBy 61 = .ok (.iand, 1) := dk_126 (dk_at dksX0_settledBy_2 16 rfl rfl)
theorem dX0_settledBy_62 : decode cX0_settledBy 62 = .ok (.invokevirtual 185, 3) := dk_182 0 185 (dk_at dksX0_settledBy_2 17 rfl rfl)
theorem dX0_settledBy_65 : decode cX0_settledBy 65 = .ok (.invokevirtual 155, 3) := dk_182 0 155 (dk_at dksX0_settledBy_2 20 rfl rfl)
theorem dX0_settledBy_68 : decode cX0_settledBy 68 = .ok (.ifCond .ne 13, 3) := dk_154 0 13 (dk_at dksX0_settledBy_3 0 rfl rfl)
theorem dX0_settledBy_71 : decode cX0_settledBy 71 = .ok (.iload_n 1, 1) := dk_27 (dk_at dksX0_settledBy_3 3 rfl rfl)
theorem dX0_settledBy_72 : decode cX0_settledBy 72 = .ok (.ifCond .ne 7, 3) := dk_154 0 7 (dk_at dksX0_settledBy_3 4 rfl rfl)
theorem dX0_settledBy_75 : decode cX0_settledBy 75 = .ok (.iconst 1, 1) := dk_4 (dk_at dksX0_settledBy_3 7 rfl rfl)
theorem dX0_settledBy_76 : decode cX0_settledBy 76 = .ok (.goto 4, 3) := dk_167 0 4 (dk_at dksX0_settledBy_3 8 rfl rfl)
theorem dX0_settledBy_79 : decode cX0_settledBy 79 = .ok (.iload_n 3, 1) := dk_29 (dk_at dksX0_settledBy_3 11 rfl rfl)
theorem dX0_settledBy_80 : decode cX0_settledBy 80 = .ok (.ireturn, 1) := dk_172 (dk_at dksX0_settledBy_3 12 rfl rfl)
theorem dX0_settledBy_81 : decode cX0_settledBy 81 = .ok (.iinc 3 1, 3) := dk_132 3 1 (dk_at dksX0_settledBy_3 13 rfl rfl)
theorem dX0_settledBy_84 : decode cX0_settledBy 84 = .ok (.goto (-56), 3) := dk_167 255 200 (dk_at dksX0_settledBy_3 16 rfl rfl)
theorem dX0_settledBy_87 : decode cX0_settledBy 87 = .ok (.iconst 0, 1) := dk_3 (dk_at dksX0_settledBy_3 19 rfl rfl)
theorem dX0_settledBy_88 : decode cX0_settledBy 88 = .ok (.istore_n 3, 1) := dk_62 (dk_at dksX0_settledBy_3 20 rfl rfl)
theorem dX0_settledBy_89 : decode cX0_settledBy 89 = .ok (.iload_n 3, 1) := dk_29 (dk_at dksX0_settledBy_3 21 rfl rfl)
theorem dX0_settledBy_90 : decode cX0_settledBy 90 = .ok (.sipush 625, 3) := dk_17 2 113 (dk_at dksX0_settledBy_4 0 rfl rfl)
theorem dX0_settledBy_93 : decode cX0_settledBy 93 = .ok (.if_icmp .ge 110, 3) := dk_162 0 110 (dk_at dksX0_settledBy_4 3 rfl rfl)
theorem dX0_settledBy_96 : decode cX0_settledBy 96 = .ok (.iload_n 3, 1) := dk_29 (dk_at dksX0_settledBy_4 6 rfl rfl)
theorem dX0_settledBy_97 : decode cX0_settledBy 97 = .ok (.bipush 25, 2) := dk_16 25 (dk_at dksX0_settledBy_4 7 rfl rfl)
theorem dX0_settledBy_99 : decode cX0_settledBy 99 = .ok (.idiv, 1) := dk_108 (dk_at dksX0_settledBy_4 9 rfl rfl)
theorem dX0_settledBy_100 : decode cX0_settledBy 100 = .ok (.istore 4, 2) := dk_54 4 (dk_at dksX0_settledBy_4 10 rfl rfl)
theorem dX0_settledBy_102 : decode cX0_settledBy 102 = .ok (.iload_n 3, 1) := dk_29 (dk_at dksX0_settledBy_4 12 rfl rfl)
theorem dX0_settledBy_103 : decode cX0_settledBy 103 = .ok (.bipush 25, 2) := dk_16 25 (dk_at dksX0_settledBy_4 13 rfl rfl)
theorem dX0_settledBy_105 : decode cX0_settledBy 105 = .ok (.irem, 1) := dk_112 (dk_at dksX0_settledBy_4 15 rfl rfl)
theorem dX0_settledBy_106 : decode cX0_settledBy 106 = .ok (.istore 5, 2) := dk_54 5 (dk_at dksX0_settledBy_4 16 rfl rfl)
theorem dX0_settledBy_108 : decode cX0_settledBy 108 = .ok (.iload 4, 2) := dk_21 4 (dk_at dksX0_settledBy_4 18 rfl rfl)
theorem dX0_settledBy_110 : decode cX0_settledBy 110 = .ok (.iload 5, 2) := dk_21 5 (dk_at dksX0_settledBy_4 20 rfl rfl)
theorem dX0_settledBy_112 : decode cX0_settledBy 112 = .ok (.if_icmp .ge 37, 3) := dk_162 0 37 (dk_at dksX0_settledBy_5 0 rfl rfl)
theorem dX0_settledBy_115 : decode cX0_settledBy 115 = .ok (.aload_n 0, 1) := dk_42 (dk_at dksX0_settledBy_5 3 rfl rfl)
theorem dX0_settledBy_116 : decode cX0_settledBy 116 = .ok (.getfield 65, 3) := dk_180 0 65 (dk_at dksX0_settledBy_5 4 rfl rfl)
theorem dX0_settledBy_119 : decode cX0_settledBy 119 = .ok (.getfield 168, 3) := dk_180 0 168 (dk_at dksX0_settledBy_5 7 rfl rfl)
theorem dX0_settledBy_122 : decode cX0_settledBy 122 = .ok (.iload 4, 2) := dk_21 4 (dk_at dksX0_settledBy_5 10 rfl rfl)
theorem dX0_settledBy_124 : decode cX0_settledBy 124 = .ok (.invokestatic 21, 3) := dk_184 0 21 (dk_at dksX0_settledBy_5 12 rfl rfl)
theorem dX0_settledBy_127 : decode cX0_settledBy 127 = .ok (.ifCond .eq 22, 3) := dk_153 0 22 (dk_at dksX0_settledBy_5 15 rfl rfl)
theorem dX0_settledBy_130 : decode cX0_settledBy 130 = .ok (.aload_n 0, 1) := dk_42 (dk_at dksX0_settledBy_5 18 rfl rfl)
theorem dX0_settledBy_131 : decode cX0_settledBy 131 = .ok (.getfield 65, 3) := dk_180 0 65 (dk_at dksX0_settledBy_5 19 rfl rfl)
theorem dX0_settledBy_134 : decode cX0_settledBy 134 = .ok (.getfield 168, 3) := dk_180 0 168 (dk_at dksX0_settledBy_6 0 rfl rfl)
theorem dX0_settledBy_137 : decode cX0_settledBy 137 = .ok (.iload 5, 2) := dk_21 5 (dk_at dksX0_settledBy_6 3 rfl rfl)
theorem dX0_settledBy_139 : decode cX0_settledBy 139 = .ok (.invokestatic 21, 3) := dk_184 0 21 (dk_at dksX0_settledBy_6 5 rfl rfl)
theorem dX0_settledBy_142 : decode cX0_settledBy 142 = .ok (.ifCond .eq 7, 3) := dk_153 0 7 (dk_at dksX0_settledBy_6 8 rfl rfl)
theorem dX0_settledBy_145 : decode cX0_settledBy 145 = .ok (.iconst 1, 1) := dk_4 (dk_at dksX0_settledBy_6 11 rfl rfl)
theorem dX0_settledBy_146 : decode cX0_settledBy 146 = .ok (.goto 4, 3) := dk_167 0 4 (dk_at dksX0_settledBy_6 12 rfl rfl)
theorem dX0_settledBy_149 : decode cX0_settledBy 149 = .ok (.iconst 0, 1) := dk_3 (dk_at dksX0_settledBy_6 15 rfl rfl)
theorem dX0_settledBy_150 : decode cX0_settledBy 150 = .ok (.istore 6, 2) := dk_54 6 (dk_at dksX0_settledBy_6 16 rfl rfl)
theorem dX0_settledBy_152 : decode cX0_settledBy 152 = .ok (.iload 6, 2) := dk_21 6 (dk_at dksX0_settledBy_6 18 rfl rfl)
theorem dX0_settledBy_154 : decode cX0_settledBy 154 = .ok (.ifCond .eq 43, 3) := dk_153 0 43 (dk_at dksX0_settledBy_6 20 rfl rfl)
theorem dX0_settledBy_157 : decode cX0_settledBy 157 = .ok (.aload_n 2, 1) := dk_44 (dk_at dksX0_settledBy_6 23 rfl rfl)
theorem dX0_settledBy_158 : decode cX0_settledBy 158 = .ok (.aload_n 0, 1) := dk_42 (dk_at dksX0_settledBy_7 0 rfl rfl)
theorem dX0_settledBy_159 : decode cX0_settledBy 159 = .ok (.getfield 65, 3) := dk_180 0 65 (dk_at dksX0_settledBy_7 1 rfl rfl)
theorem dX0_settledBy_162 : decode cX0_settledBy 162 = .ok (.getfield 168, 3) := dk_180 0 168 (dk_at dksX0_settledBy_7 4 rfl rfl)
theorem dX0_settledBy_165 : decode cX0_settledBy 165 = .ok (.iconst 1, 1) := dk_4 (dk_at dksX0_settledBy_7 7 rfl rfl)
theorem dX0_settledBy_166 : decode cX0_settledBy 166 = .ok (.iload 4, 2) := dk_21 4 (dk_at dksX0_settledBy_7 8 rfl rfl)
theorem dX0_settledBy_168 : decode cX0_settledBy 168 = .ok (.ishl, 1) := dk_120 (dk_at dksX0_settledBy_7 10 rfl rfl)
theorem dX0_settledBy_169 : decode cX0_settledBy 169 = .ok (.iconst 1, 1) := dk_4 (dk_at dksX0_settledBy_7 11 rfl rfl)
theorem dX0_settledBy_170 : decode cX0_settledBy 170 = .ok (.iload 5, 2) := dk_21 5 (dk_at dksX0_settledBy_7 12 rfl rfl)
theorem dX0_settledBy_172 : decode cX0_settledBy 172 = .ok (.ishl, 1) := dk_120 (dk_at dksX0_settledBy_7 14 rfl rfl)
theorem dX0_settledBy_173 : decode cX0_settledBy 173 = .ok (.ior, 1) := dk_128 (dk_at dksX0_settledBy_7 15 rfl rfl)
theorem dX0_settledBy_174 : decode cX0_settledBy 174 = .ok (.iconst (-1), 1) := dk_2 (dk_at dksX0_settledBy_7 16 rfl rfl)
theorem dX0_settledBy_175 : decode cX0_settledBy 175 = .ok (.ixor, 1) := dk_130 (dk_at dksX0_settledBy_7 17 rfl rfl)
theorem dX0_settledBy_176 : decode cX0_settledBy 176 = .ok (.iand, 1) := dk_126 (dk_at dksX0_settledBy_7 18 rfl rfl)
theorem dX0_settledBy_177 : decode cX0_settledBy 177 = .ok (.invokevirtual 185, 3) := dk_182 0 185 (dk_at dksX0_settledBy_7 19 rfl rfl)
theorem dX0_settledBy_180 : decode cX0_settledBy 180 = .ok (.invokevirtual 155, 3) := dk_182 0 155 (dk_at dksX0_settledBy_8 0 rfl rfl)
theorem dX0_settledBy_183 : decode cX0_settledBy 183 = .ok (.ifCond .ne 14, 3) := dk_154 0 14 (dk_at dksX0_settledBy_8 3 rfl rfl)
theorem dX0_settledBy_186 : decode cX0_settledBy 186 = .ok (.iload_n 1, 1) := dk_27 (dk_at dksX0_settledBy_8 6 rfl rfl)
theorem dX0_settledBy_187 : decode cX0_settledBy 187 = .ok (.ifCond .ne 7, 3) := dk_154 0 7 (dk_at dksX0_settledBy_8 7 rfl rfl)
theorem dX0_settledBy_190 : decode cX0_settledBy 190 = .ok (.iconst 2, 1) := dk_5 (dk_at dksX0_settledBy_8 10 rfl rfl)
theorem dX0_settledBy_191 : decode cX0_settledBy 191 = .ok (.goto 5, 3) := dk_167 0 5 (dk_at dksX0_settledBy_8 11 rfl rfl)
theorem dX0_settledBy_194 : decode cX0_settledBy 194 = .ok (.iload 4, 2) := dk_21 4 (dk_at dksX0_settledBy_8 14 rfl rfl)
theorem dX0_settledBy_196 : decode cX0_settledBy 196 = .ok (.ireturn, 1) := dk_172 (dk_at dksX0_settledBy_8 16 rfl rfl)
theorem dX0_settledBy_197 : decode cX0_settledBy 197 = .ok (.iinc 3 1, 3) := dk_132 3 1 (dk_at dksX0_settledBy_8 17 rfl rfl)
theorem dX0_settledBy_200 : decode cX0_settledBy 200 = .ok (.goto (-111), 3) := dk_167 255 145 (dk_at dksX0_settledBy_8 20 rfl rfl)
theorem dX0_settledBy_203 : decode cX0_settledBy 203 = .ok (.bipush (-9), 2) := dk_16 247 (dk_at dksX0_settledBy_9 0 rfl rfl)
theorem dX0_settledBy_205 : decode cX0_settledBy 205 = .ok (.ireturn, 1) := dk_172 (dk_at dksX0_settledBy_9 2 rfl rfl)
abbrev cX0_pipsTold : ByteArray := prog_1_method_79_code
def yX0_pipsTold : MethodName := ⟨RX0, "pipsTold", "(I)I"⟩
def dkwX0_pipsTold_1 : List UInt8 := [167, 0, 22, 42, 180, 0, 65, 180, 0, 168, 5, 184, 0, 21, 153, 0, 7, 4, 167, 0, 4, 3, 172]
abbrev dktX0_pipsTold_1 : List UInt8 := dkwX0_pipsTold_1 ++ []
def dkwX0_pipsTold_0 : List UInt8 := [27, 184, 0, 197, 27, 154, 0, 20, 42, 180, 0, 65, 180, 0, 168, 17, 56, 0, 126, 184, 0, 165]
abbrev dktX0_pipsTold_0 : List UInt8 := dkwX0_pipsTold_0 ++ dktX0_pipsTold_1
theorem dksX0_pipsTold_0 : cX0_pipsTold.data.toList.drop 0 = dktX0_pipsTold_0 := by decide +kernel
theorem dksX0_pipsTold_1 : cX0_pipsTold.data.toList.drop 22 = dktX0_pipsTold_1 := dk_seg dksX0_pipsTold_0 22 rfl rfl
theorem dX0_pipsTold_0 : decode cX0_pipsTold 0 = .ok (.iload_n 1, 1) := dk_27 (dk_at dksX0_pipsTold_0 0 rfl rfl)
theorem dX0_pipsTold_1 : decode cX0_pipsTold 1 = .ok (.invokestatic 197, 3) := dk_184 0 197 (dk_at dksX0_pipsTold_0 1 rfl rfl)
theorem dX0_pipsTold_4 : decode cX0_pipsTold 4 = .ok (.iload_n 1, 1) := dk_27 (dk_at dksX0_pipsTold_0 4 rfl rfl)
theorem dX0_pipsTold_5 : decode cX0_pipsTold 5 = .ok (.ifCond .ne 20, 3) := dk_154 0 20 (dk_at dksX0_pipsTold_0 5 rfl rfl)
theorem dX0_pipsTold_8 : decode cX0_pipsTold 8 = .ok (.aload_n 0, 1) := dk_42 (dk_at dksX0_pipsTold_0 8 rfl rfl)
theorem dX0_pipsTold_9 : decode cX0_pipsTold 9 = .ok (.getfield 65, 3) := dk_180 0 65 (dk_at dksX0_pipsTold_0 9 rfl rfl)
theorem dX0_pipsTold_12 : decode cX0_pipsTold 12 = .ok (.getfield 168, 3) := dk_180 0 168 (dk_at dksX0_pipsTold_0 12 rfl rfl)
theorem dX0_pipsTold_15 : decode cX0_pipsTold 15 = .ok (.sipush 14336, 3) := dk_17 56 0 (dk_at dksX0_pipsTold_0 15 rfl rfl)
theorem dX0_pipsTold_18 : decode cX0_pipsTold 18 = .ok (.iand, 1) := dk_126 (dk_at dksX0_pipsTold_0 18 rfl rfl)
theorem dX0_pipsTold_19 : decode cX0_pipsTold 19 = .ok (.invokestatic 165, 3) := dk_184 0 165 (dk_at dksX0_pipsTold_0 19 rfl rfl)
theorem dX0_pipsTold_22 : decode cX0_pipsTold 22 = .ok (.goto 22, 3) := dk_167 0 22 (dk_at dksX0_pipsTold_1 0 rfl rfl)
theorem dX0_pipsTold_25 : decode cX0_pipsTold 25 = .ok (.aload_n 0, 1) := dk_42 (dk_at dksX0_pipsTold_1 3 rfl rfl)
theorem dX0_pipsTold_26 : decode cX0_pipsTold 26 = .ok (.getfield 65, 3) := dk_180 0 65 (dk_at dksX0_pipsTold_1 4 rfl rfl)
theorem dX0_pipsTold_29 : decode cX0_pipsTold 29 = .ok (.getfield 168, 3) := dk_180 0 168 (dk_at dksX0_pipsTold_1 7 rfl rfl)
theorem dX0_pipsTold_32 : decode cX0_pipsTold 32 = .ok (.iconst 2, 1) := dk_5 (dk_at dksX0_pipsTold_1 10 rfl rfl)
theorem dX0_pipsTold_33 : decode cX0_pipsTold 33 = .ok (.invokestatic 21, 3) := dk_184 0 21 (dk_at dksX0_pipsTold_1 11 rfl rfl)
theorem dX0_pipsTold_36 : decode cX0_pipsTold 36 = .ok (.ifCond .eq 7, 3) := dk_153 0 7 (dk_at dksX0_pipsTold_1 14 rfl rfl)
theorem dX0_pipsTold_39 : decode cX0_pipsTold 39 = .ok (.iconst 1, 1) := dk_4 (dk_at dksX0_pipsTold_1 17 rfl rfl)
theorem dX0_pipsTold_40 : decode cX0_pipsTold 40 = .ok (.goto 4, 3) := dk_167 0 4 (dk_at dksX0_pipsTold_1 18 rfl rfl)
theorem dX0_pipsTold_43 : decode cX0_pipsTold 43 = .ok (.iconst 0, 1) := dk_3 (dk_at dksX0_pipsTold_1 21 rfl rfl)
theorem dX0_pipsTold_44 : decode cX0_pipsTold 44 = .ok (.ireturn, 1) := dk_172 (dk_at dksX0_pipsTold_1 22 rfl rfl)
abbrev cX0_worstGrudge : ByteArray := prog_1_method_39_code
def yX0_worstGrudge : MethodName := ⟨RX0, "worstGrudge", "(I)I"⟩
def dkwX0_worstGrudge_3 : List UInt8 := [61, 21, 6, 153, 0, 8, 21, 5, 167, 0, 4, 29, 62, 132, 4, 1, 167, 255, 177, 28, 172]
abbrev dktX0_worstGrudge_3 : List UInt8 := dkwX0_worstGrudge_3 ++ []
def dkwX0_worstGrudge_2 : List UInt8 := [21, 5, 29, 162, 0, 7, 4, 167, 0, 4, 3, 54, 6, 21, 6, 153, 0, 8, 21, 4, 167, 0, 4, 28]
abbrev dktX0_worstGrudge_2 : List UInt8 := dkwX0_worstGrudge_2 ++ dktX0_worstGrudge_3
def dkwX0_worstGrudge_1 : List UInt8 := [160, 0, 8, 16, 247, 167, 0, 10, 42, 21, 4, 27, 182, 0, 244, 54, 5, 21, 5, 16, 247, 159, 0, 13]
abbrev dktX0_worstGrudge_1 : List UInt8 := dkwX0_worstGrudge_1 ++ dktX0_worstGrudge_2
def dkwX0_worstGrudge_0 : List UInt8 := [16, 247, 61, 18, 243, 62, 3, 54, 4, 21, 4, 42, 180, 0, 65, 180, 0, 141, 162, 0, 73, 21, 4, 27]
abbrev dktX0_worstGrudge_0 : List UInt8 := dkwX0_worstGrudge_0 ++ dktX0_worstGrudge_1
theorem dksX0_worstGrudge_0 : cX0_worstGrudge.data.toList.drop 0 = dktX0_worstGrudge_0 := by decide +kernel
theorem dksX0_worstGrudge_1 : cX0_worstGrudge.data.toList.drop 24 = dktX0_worstGrudge_1 := dk_seg dksX0_worstGrudge_0 24 rfl rfl
theorem dksX0_worstGrudge_2 : cX0_worstGrudge.data.toList.drop 48 = dktX0_worstGrudge_2 := dk_seg dksX0_worstGrudge_1 24 rfl rfl
theorem dksX0_worstGrudge_3 : cX0_worstGrudge.data.toList.drop 72 = dktX0_worstGrudge_3 := dk_seg dksX0_worstGrudge_2 24 rfl rfl
theorem dX0_worstGrudge_0 : decode cX0_worstGrudge 0 = .ok (.bipush (-9), 2) := dk_16 247 (dk_at dksX0_worstGrudge_0 0 rfl rfl)
theorem dX0_worstGrudge_2 : decode cX0_worstGrudge 2 = .ok (.istore_n 2, 1) := dk_61 (dk_at dksX0_worstGrudge_0 2 rfl rfl)
theorem dX0_worstGrudge_3 : decode cX0_worstGrudge 3 = .ok (.ldc 243, 2) := dk_18 243 (dk_at dksX0_worstGrudge_0 3 rfl rfl)
theorem dX0_worstGrudge_5 : decode cX0_worstGrudge 5 = .ok (.istore_n 3, 1) := dk_62 (dk_at dksX0_worstGrudge_0 5 rfl rfl)
theorem dX0_worstGrudge_6 : decode cX0_worstGrudge 6 = .ok (.iconst 0, 1) := dk_3 (dk_at dksX0_worstGrudge_0 6 rfl rfl)
theorem dX0_worstGrudge_7 : decode cX0_worstGrudge 7 = .ok (.istore 4, 2) := dk_54 4 (dk_at dksX0_worstGrudge_0 7 rfl rfl)
theorem dX0_worstGrudge_9 : decode cX0_worstGrudge 9 = .ok (.iload 4, 2) := dk_21 4 (dk_at dksX0_worstGrudge_0 9 rfl rfl)
theorem dX0_worstGrudge_11 : decode cX0_worstGrudge 11 = .ok (.aload_n 0, 1) := dk_42 (dk_at dksX0_worstGrudge_0 11 rfl rfl)
theorem dX0_worstGrudge_12 : decode cX0_worstGrudge 12 = .ok (.getfield 65, 3) := dk_180 0 65 (dk_at dksX0_worstGrudge_0 12 rfl rfl)
theorem dX0_worstGrudge_15 : decode cX0_worstGrudge 15 = .ok (.getfield 141, 3) := dk_180 0 141 (dk_at dksX0_worstGrudge_0 15 rfl rfl)
theorem dX0_worstGrudge_18 : decode cX0_worstGrudge 18 = .ok (.if_icmp .ge 73, 3) := dk_162 0 73 (dk_at dksX0_worstGrudge_0 18 rfl rfl)
theorem dX0_worstGrudge_21 : decode cX0_worstGrudge 21 = .ok (.iload 4, 2) := dk_21 4 (dk_at dksX0_worstGrudge_0 21 rfl rfl)
theorem dX0_worstGrudge_23 : decode cX0_worstGrudge 23 = .ok (.iload_n 1, 1) := dk_27 (dk_at dksX0_worstGrudge_0 23 rfl rfl)
theorem dX0_worstGrudge_24 : decode cX0_worstGrudge 24 = .ok (.if_icmp .ne 8, 3) := dk_160 0 8 (dk_at dksX0_worstGrudge_1 0 rfl rfl)
theorem dX0_worstGrudge_27 : decode cX0_worstGrudge 27 = .ok (.bipush (-9), 2) := dk_16 247 (dk_at dksX0_worstGrudge_1 3 rfl rfl)
theorem dX0_worstGrudge_29 : decode cX0_worstGrudge 29 = .ok (.goto 10, 3) := dk_167 0 10 (dk_at dksX0_worstGrudge_1 5 rfl rfl)
theorem dX0_worstGrudge_32 : decode cX0_worstGrudge 32 = .ok (.aload_n 0, 1) := dk_42 (dk_at dksX0_worstGrudge_1 8 rfl rfl)
theorem dX0_worstGrudge_33 : decode cX0_worstGrudge 33 = .ok (.iload 4, 2) := dk_21 4 (dk_at dksX0_worstGrudge_1 9 rfl rfl)
theorem dX0_worstGrudge_35 : decode cX0_worstGrudge 35 = .ok (.iload_n 1, 1) := dk_27 (dk_at dksX0_worstGrudge_1 11 rfl rfl)
theorem dX0_worstGrudge_36 : decode cX0_worstGrudge 36 = .ok (.invokevirtual 244, 3) := dk_182 0 244 (dk_at dksX0_worstGrudge_1 12 rfl rfl)
theorem dX0_worstGrudge_39 : decode cX0_worstGrudge 39 = .ok (.istore 5, 2) := dk_54 5 (dk_at dksX0_worstGrudge_1 15 rfl rfl)
theorem dX0_worstGrudge_41 : decode cX0_worstGrudge 41 = .ok (.iload 5, 2) := dk_21 5 (dk_at dksX0_worstGrudge_1 17 rfl rfl)
theorem dX0_worstGrudge_43 : decode cX0_worstGrudge 43 = .ok (.bipush (-9), 2) := dk_16 247 (dk_at dksX0_worstGrudge_1 19 rfl rfl)
theorem dX0_worstGrudge_45 : decode cX0_worstGrudge 45 = .ok (.if_icmp .eq 13, 3) := dk_159 0 13 (dk_at dksX0_worstGrudge_1 21 rfl rfl)
theorem dX0_worstGrudge_48 : decode cX0_worstGrudge 48 = .ok (.iload 5, 2) := dk_21 5 (dk_at dksX0_worstGrudge_2 0 rfl rfl)
theorem dX0_worstGrudge_50 : decode cX0_worstGrudge 50 = .ok (.iload_n 3, 1) := dk_29 (dk_at dksX0_worstGrudge_2 2 rfl rfl)
theorem dX0_worstGrudge_51 : decode cX0_worstGrudge 51 = .ok (.if_icmp .ge 7, 3) := dk_162 0 7 (dk_at dksX0_worstGrudge_2 3 rfl rfl)
theorem dX0_worstGrudge_54 : decode cX0_worstGrudge 54 = .ok (.iconst 1, 1) := dk_4 (dk_at dksX0_worstGrudge_2 6 rfl rfl)
theorem dX0_worstGrudge_55 : decode cX0_worstGrudge 55 = .ok (.goto 4, 3) := dk_167 0 4 (dk_at dksX0_worstGrudge_2 7 rfl rfl)
theorem dX0_worstGrudge_58 : decode cX0_worstGrudge 58 = .ok (.iconst 0, 1) := dk_3 (dk_at dksX0_worstGrudge_2 10 rfl rfl)
theorem dX0_worstGrudge_59 : decode cX0_worstGrudge 59 = .ok (.istore 6, 2) := dk_54 6 (dk_at dksX0_worstGrudge_2 11 rfl rfl)
theorem dX0_worstGrudge_61 : decode cX0_worstGrudge 61 = .ok (.iload 6, 2) := dk_21 6 (dk_at dksX0_worstGrudge_2 13 rfl rfl)
theorem dX0_worstGrudge_63 : decode cX0_worstGrudge 63 = .ok (.ifCond .eq 8, 3) := dk_153 0 8 (dk_at dksX0_worstGrudge_2 15 rfl rfl)
theorem dX0_worstGrudge_66 : decode cX0_worstGrudge 66 = .ok (.iload 4, 2) := dk_21 4 (dk_at dksX0_worstGrudge_2 18 rfl rfl)
theorem dX0_worstGrudge_68 : decode cX0_worstGrudge 68 = .ok (.goto 4, 3) := dk_167 0 4 (dk_at dksX0_worstGrudge_2 20 rfl rfl)
theorem dX0_worstGrudge_71 : decode cX0_worstGrudge 71 = .ok (.iload_n 2, 1) := dk_28 (dk_at dksX0_worstGrudge_2 23 rfl rfl)
theorem dX0_worstGrudge_72 : decode cX0_worstGrudge 72 = .ok (.istore_n 2, 1) := dk_61 (dk_at dksX0_worstGrudge_3 0 rfl rfl)
theorem dX0_worstGrudge_73 : decode cX0_worstGrudge 73 = .ok (.iload 6, 2) := dk_21 6 (dk_at dksX0_worstGrudge_3 1 rfl rfl)
theorem dX0_worstGrudge_75 : decode cX0_worstGrudge 75 = .ok (.ifCond .eq 8, 3) := dk_153 0 8 (dk_at dksX0_worstGrudge_3 3 rfl rfl)
theorem dX0_worstGrudge_78 : decode cX0_worstGrudge 78 = .ok (.iload 5, 2) := dk_21 5 (dk_at dksX0_worstGrudge_3 6 rfl rfl)
theorem dX0_worstGrudge_80 : decode cX0_worstGrudge 80 = .ok (.goto 4, 3) := dk_167 0 4 (dk_at dksX0_worstGrudge_3 8 rfl rfl)
theorem dX0_worstGrudge_83 : decode cX0_worstGrudge 83 = .ok (.iload_n 3, 1) := dk_29 (dk_at dksX0_worstGrudge_3 11 rfl rfl)
theorem dX0_worstGrudge_84 : decode cX0_worstGrudge 84 = .ok (.istore_n 3, 1) := dk_62 (dk_at dksX0_worstGrudge_3 12 rfl rfl)
theorem dX0_worstGrudge_85 : decode cX0_worstGrudge 85 = .ok (.iinc 4 1, 3) := dk_132 4 1 (dk_at dksX0_worstGrudge_3 13 rfl rfl)
theorem dX0_worstGrudge_88 : decode cX0_worstGrudge 88 = .ok (.goto (-79), 3) := dk_167 255 177 (dk_at dksX0_worstGrudge_3 16 rfl rfl)
theorem dX0_worstGrudge_91 : decode cX0_worstGrudge 91 = .ok (.iload_n 2, 1) := dk_28 (dk_at dksX0_worstGrudge_3 19 rfl rfl)
theorem dX0_worstGrudge_92 : decode cX0_worstGrudge 92 = .ok (.ireturn, 1) := dk_172 (dk_at dksX0_worstGrudge_3 20 rfl rfl)
abbrev cX0_shareBy : ByteArray := prog_1_method_38_code
def yX0_shareBy : MethodName := ⟨RX0, "shareBy", "(II)I"⟩
def dkwX0_shareBy_1 : List UInt8 := [182, 0, 204, 42, 180, 0, 65, 180, 0, 168, 29, 184, 0, 208, 182, 0, 185, 28, 182, 0, 144, 172]
abbrev dktX0_shareBy_1 : List UInt8 := dkwX0_shareBy_1 ++ []
def dkwX0_shareBy_0 : List UInt8 := [42, 42, 180, 0, 65, 27, 4, 182, 0, 200, 62, 29, 16, 247, 160, 0, 8, 16, 247, 167, 0, 25, 42]
abbrev dktX0_shareBy_0 : List UInt8 := dkwX0_shareBy_0 ++ dktX0_shareBy_1
theorem dksX0_shareBy_0 : cX0_shareBy.data.toList.drop 0 = dktX0_shareBy_0 := by decide +kernel
theorem dksX0_shareBy_1 : cX0_shareBy.data.toList.drop 23 = dktX0_shareBy_1 := dk_seg dksX0_shareBy_0 23 rfl rfl
theorem dX0_shareBy_0 : decode cX0_shareBy 0 = .ok (.aload_n 0, 1) := dk_42 (dk_at dksX0_shareBy_0 0 rfl rfl)
theorem dX0_shareBy_1 : decode cX0_shareBy 1 = .ok (.aload_n 0, 1) := dk_42 (dk_at dksX0_shareBy_0 1 rfl rfl)
theorem dX0_shareBy_2 : decode cX0_shareBy 2 = .ok (.getfield 65, 3) := dk_180 0 65 (dk_at dksX0_shareBy_0 2 rfl rfl)
theorem dX0_shareBy_5 : decode cX0_shareBy 5 = .ok (.iload_n 1, 1) := dk_27 (dk_at dksX0_shareBy_0 5 rfl rfl)
theorem dX0_shareBy_6 : decode cX0_shareBy 6 = .ok (.iconst 1, 1) := dk_4 (dk_at dksX0_shareBy_0 6 rfl rfl)
theorem dX0_shareBy_7 : decode cX0_shareBy 7 = .ok (.invokevirtual 200, 3) := dk_182 0 200 (dk_at dksX0_shareBy_0 7 rfl rfl)
theorem dX0_shareBy_10 : decode cX0_shareBy 10 = .ok (.istore_n 3, 1) := dk_62 (dk_at dksX0_shareBy_0 10 rfl rfl)
theorem dX0_shareBy_11 : decode cX0_shareBy 11 = .ok (.iload_n 3, 1) := dk_29 (dk_at dksX0_shareBy_0 11 rfl rfl)
theorem dX0_shareBy_12 : decode cX0_shareBy 12 = .ok (.bipush (-9), 2) := dk_16 247 (dk_at dksX0_shareBy_0 12 rfl rfl)
theorem dX0_shareBy_14 : decode cX0_shareBy 14 = .ok (.if_icmp .ne 8, 3) := dk_160 0 8 (dk_at dksX0_shareBy_0 14 rfl rfl)
theorem dX0_shareBy_17 : decode cX0_shareBy 17 = .ok (.bipush (-9), 2) := dk_16 247 (dk_at dksX0_shareBy_0 17 rfl rfl)
theorem dX0_shareBy_19 : decode cX0_shareBy 19 = .ok (.goto 25, 3) := dk_167 0 25 (dk_at dksX0_shareBy_0 19 rfl rfl)
theorem dX0_shareBy_22 : decode cX0_shareBy 22 = .ok (.aload_n 0, 1) := dk_42 (dk_at dksX0_shareBy_0 22 rfl rfl)
theorem dX0_shareBy_23 : decode cX0_shareBy 23 = .ok (.invokevirtual 204, 3) := dk_182 0 204 (dk_at dksX0_shareBy_1 0 rfl rfl)
theorem dX0_shareBy_26 : decode cX0_shareBy 26 = .ok (.aload_n 0, 1) := dk_42 (dk_at dksX0_shareBy_1 3 rfl rfl)
theorem dX0_shareBy_27 : decode cX0_shareBy 27 = .ok (.getfield 65, 3) := dk_180 0 65 (dk_at dksX0_shareBy_1 4 rfl rfl)
theorem dX0_shareBy_30 : decode cX0_shareBy 30 = .ok (.getfield 168, 3) := dk_180 0 168 (dk_at dksX0_shareBy_1 7 rfl rfl)
theorem dX0_shareBy_33 : decode cX0_shareBy 33 = .ok (.iload_n 3, 1) := dk_29 (dk_at dksX0_shareBy_1 10 rfl rfl)
theorem dX0_shareBy_34 : decode cX0_shareBy 34 = .ok (.invokestatic 208, 3) := dk_184 0 208 (dk_at dksX0_shareBy_1 11 rfl rfl)
theorem dX0_shareBy_37 : decode cX0_shareBy 37 = .ok (.invokevirtual 185, 3) := dk_182 0 185 (dk_at dksX0_shareBy_1 14 rfl rfl)
theorem dX0_shareBy_40 : decode cX0_shareBy 40 = .ok (.iload_n 2, 1) := dk_28 (dk_at dksX0_shareBy_1 17 rfl rfl)
theorem dX0_shareBy_41 : decode cX0_shareBy 41 = .ok (.invokevirtual 144, 3) := dk_182 0 144 (dk_at dksX0_shareBy_1 18 rfl rfl)
theorem dX0_shareBy_44 : decode cX0_shareBy 44 = .ok (.ireturn, 1) := dk_172 (dk_at dksX0_shareBy_1 21 rfl rfl)
abbrev cX0_gainTold : ByteArray := prog_1_method_80_code
def yX0_gainTold : MethodName := ⟨RX0, "gainTold", "(II)I"⟩
def dkwX0_gainTold_0 : List UInt8 := [42, 27, 28, 182, 1, 169, 42, 27, 28, 182, 1, 172, 172]
abbrev dktX0_gainTold_0 : List UInt8 := dkwX0_gainTold_0 ++ []
theorem dksX0_gainTold_0 : cX0_gainTold.data.toList.drop 0 = dktX0_gainTold_0 := by decide +kernel
theorem dX0_gainTold_0 : decode cX0_gainTold 0 = .ok (.aload_n 0, 1) := dk_42 (dk_at dksX0_gainTold_0 0 rfl rfl)
theorem dX0_gainTold_1 : decode cX0_gainTold 1 = .ok (.iload_n 1, 1) := dk_27 (dk_at dksX0_gainTold_0 1 rfl rfl)
theorem dX0_gainTold_2 : decode cX0_gainTold 2 = .ok (.iload_n 2, 1) := dk_28 (dk_at dksX0_gainTold_0 2 rfl rfl)
theorem dX0_gainTold_3 : decode cX0_gainTold 3 = .ok (.invokevirtual 425, 3) := dk_182 1 169 (dk_at dksX0_gainTold_0 3 rfl rfl)
theorem dX0_gainTold_6 : decode cX0_gainTold 6 = .ok (.aload_n 0, 1) := dk_42 (dk_at dksX0_gainTold_0 6 rfl rfl)
theorem dX0_gainTold_7 : decode cX0_gainTold 7 = .ok (.iload_n 1, 1) := dk_27 (dk_at dksX0_gainTold_0 7 rfl rfl)
theorem dX0_gainTold_8 : decode cX0_gainTold 8 = .ok (.iload_n 2, 1) := dk_28 (dk_at dksX0_gainTold_0 8 rfl rfl)
theorem dX0_gainTold_9 : decode cX0_gainTold 9 = .ok (.invokevirtual 428, 3) := dk_182 1 172 (dk_at dksX0_gainTold_0 9 rfl rfl)
theorem dX0_gainTold_12 : decode cX0_gainTold 12 = .ok (.ireturn, 1) := dk_172 (dk_at dksX0_gainTold_0 12 rfl rfl)
abbrev cX0_mustBeTwo : ByteArray := prog_1_method_62_code
def yX0_mustBeTwo : MethodName := ⟨RX0, "mustBeTwo", "(II)V"⟩
def dkwX0_mustBeTwo_1 : List UInt8 := [177]
abbrev dktX0_mustBeTwo_1 : List UInt8 := dkwX0_mustBeTwo_1 ++ []
def dkwX0_mustBeTwo_0 : List UInt8 := [42, 27, 182, 0, 194, 42, 28, 182, 0, 194, 27, 28, 159, 0, 7, 4, 167, 0, 4, 3, 2, 184, 0, 9]
abbrev dktX0_mustBeTwo_0 : List UInt8 := dkwX0_mustBeTwo_0 ++ dktX0_mustBeTwo_1
theorem dksX0_mustBeTwo_0 : cX0_mustBeTwo.data.toList.drop 0 = dktX0_mustBeTwo_0 := by decide +kernel
theorem dksX0_mustBeTwo_1 : cX0_mustBeTwo.data.toList.drop 24 = dktX0_mustBeTwo_1 := dk_seg dksX0_mustBeTwo_0 24 rfl rfl
theorem dX0_mustBeTwo_0 : decode cX0_mustBeTwo 0 = .ok (.aload_n 0, 1) := dk_42 (dk_at dksX0_mustBeTwo_0 0 rfl rfl)
theorem dX0_mustBeTwo_1 : decode cX0_mustBeTwo 1 = .ok (.iload_n 1, 1) := dk_27 (dk_at dksX0_mustBeTwo_0 1 rfl rfl)
theorem dX0_mustBeTwo_2 : decode cX0_mustBeTwo 2 = .ok (.invokevirtual 194, 3) := dk_182 0 194 (dk_at dksX0_mustBeTwo_0 2 rfl rfl)
theorem dX0_mustBeTwo_5 : decode cX0_mustBeTwo 5 = .ok (.aload_n 0, 1) := dk_42 (dk_at dksX0_mustBeTwo_0 5 rfl rfl)
theorem dX0_mustBeTwo_6 : decode cX0_mustBeTwo 6 = .ok (.iload_n 2, 1) := dk_28 (dk_at dksX0_mustBeTwo_0 6 rfl rfl)
theorem dX0_mustBeTwo_7 : decode cX0_mustBeTwo 7 = .ok (.invokevirtual 194, 3) := dk_182 0 194 (dk_at dksX0_mustBeTwo_0 7 rfl rfl)
theorem dX0_mustBeTwo_10 : decode cX0_mustBeTwo 10 = .ok (.iload_n 1, 1) := dk_27 (dk_at dksX0_mustBeTwo_0 10 rfl rfl)
theorem dX0_mustBeTwo_11 : decode cX0_mustBeTwo 11 = .ok (.iload_n 2, 1) := dk_28 (dk_at dksX0_mustBeTwo_0 11 rfl rfl)
theorem dX0_mustBeTwo_12 : decode cX0_mustBeTwo 12 = .ok (.if_icmp .eq 7, 3) := dk_159 0 7 (dk_at dksX0_mustBeTwo_0 12 rfl rfl)
theorem dX0_mustBeTwo_15 : decode cX0_mustBeTwo 15 = .ok (.iconst 1, 1) := dk_4 (dk_at dksX0_mustBeTwo_0 15 rfl rfl)
theorem dX0_mustBeTwo_16 : decode cX0_mustBeTwo 16 = .ok (.goto 4, 3) := dk_167 0 4 (dk_at dksX0_mustBeTwo_0 16 rfl rfl)
theorem dX0_mustBeTwo_19 : decode cX0_mustBeTwo 19 = .ok (.iconst 0, 1) := dk_3 (dk_at dksX0_mustBeTwo_0 19 rfl rfl)
theorem dX0_mustBeTwo_20 : decode cX0_mustBeTwo 20 = .ok (.iconst (-1), 1) := dk_2 (dk_at dksX0_mustBeTwo_0 20 rfl rfl)
theorem dX0_mustBeTwo_21 : decode cX0_mustBeTwo 21 = .ok (.invokestatic 9, 3) := dk_184 0 9 (dk_at dksX0_mustBeTwo_0 21 rfl rfl)
theorem dX0_mustBeTwo_24 : decode cX0_mustBeTwo 24 = .ok (.return_, 1) := dk_177 (dk_at dksX0_mustBeTwo_1 0 rfl rfl)
abbrev cX0_gainOf : ByteArray := prog_1_method_40_code
def yX0_gainOf : MethodName := ⟨RX0, "gainOf", "(II)I"⟩
def dkwX0_gainOf_1 : List UInt8 := [182, 0, 144, 100, 172]
abbrev dktX0_gainOf_1 : List UInt8 := dkwX0_gainOf_1 ++ []
def dkwX0_gainOf_0 : List UInt8 := [42, 27, 28, 182, 0, 244, 62, 29, 16, 247, 160, 0, 7, 3, 167, 0, 13, 29, 42, 180, 0, 65, 28]
abbrev dktX0_gainOf_0 : List UInt8 := dkwX0_gainOf_0 ++ dktX0_gainOf_1
theorem dksX0_gainOf_0 : cX0_gainOf.data.toList.drop 0 = dktX0_gainOf_0 := by decide +kernel
theorem dksX0_gainOf_1 : cX0_gainOf.data.toList.drop 23 = dktX0_gainOf_1 := dk_seg dksX0_gainOf_0 23 rfl rfl
theorem dX0_gainOf_0 : decode cX0_gainOf 0 = .ok (.aload_n 0, 1) := dk_42 (dk_at dksX0_gainOf_0 0 rfl rfl)
theorem dX0_gainOf_1 : decode cX0_gainOf 1 = .ok (.iload_n 1, 1) := dk_27 (dk_at dksX0_gainOf_0 1 rfl rfl)
theorem dX0_gainOf_2 : decode cX0_gainOf 2 = .ok (.iload_n 2, 1) := dk_28 (dk_at dksX0_gainOf_0 2 rfl rfl)
theorem dX0_gainOf_3 : decode cX0_gainOf 3 = .ok (.invokevirtual 244, 3) := dk_182 0 244 (dk_at dksX0_gainOf_0 3 rfl rfl)
theorem dX0_gainOf_6 : decode cX0_gainOf 6 = .ok (.istore_n 3, 1) := dk_62 (dk_at dksX0_gainOf_0 6 rfl rfl)
theorem dX0_gainOf_7 : decode cX0_gainOf 7 = .ok (.iload_n 3, 1) := dk_29 (dk_at dksX0_gainOf_0 7 rfl rfl)
theorem dX0_gainOf_8 : decode cX0_gainOf 8 = .ok (.bipush (-9), 2) := dk_16 247 (dk_at dksX0_gainOf_0 8 rfl rfl)
theorem dX0_gainOf_10 : decode cX0_gainOf 10 = .ok (.if_icmp .ne 7, 3) := dk_160 0 7 (dk_at dksX0_gainOf_0 10 rfl rfl)
theorem dX0_gainOf_13 : decode cX0_gainOf 13 = .ok (.iconst 0, 1) := dk_3 (dk_at dksX0_gainOf_0 13 rfl rfl)
theorem dX0_gainOf_14 : decode cX0_gainOf 14 = .ok (.goto 13, 3) := dk_167 0 13 (dk_at dksX0_gainOf_0 14 rfl rfl)
theorem dX0_gainOf_17 : decode cX0_gainOf 17 = .ok (.iload_n 3, 1) := dk_29 (dk_at dksX0_gainOf_0 17 rfl rfl)
theorem dX0_gainOf_18 : decode cX0_gainOf 18 = .ok (.aload_n 0, 1) := dk_42 (dk_at dksX0_gainOf_0 18 rfl rfl)
theorem dX0_gainOf_19 : decode cX0_gainOf 19 = .ok (.getfield 65, 3) := dk_180 0 65 (dk_at dksX0_gainOf_0 19 rfl rfl)
theorem dX0_gainOf_22 : decode cX0_gainOf 22 = .ok (.iload_n 2, 1) := dk_28 (dk_at dksX0_gainOf_0 22 rfl rfl)
theorem dX0_gainOf_23 : decode cX0_gainOf 23 = .ok (.invokevirtual 144, 3) := dk_182 0 144 (dk_at dksX0_gainOf_1 0 rfl rfl)
theorem dX0_gainOf_26 : decode cX0_gainOf 26 = .ok (.isub, 1) := dk_100 (dk_at dksX0_gainOf_1 3 rfl rfl)
theorem dX0_gainOf_27 : decode cX0_gainOf 27 = .ok (.ireturn, 1) := dk_172 (dk_at dksX0_gainOf_1 4 rfl rfl)
abbrev cX0_joinTold : ByteArray := prog_1_method_81_code
def yX0_joinTold : MethodName := ⟨RX0, "joinTold", "(I)I"⟩
def dkwX0_joinTold_2 : List UInt8 := [180, 0, 149, 172]
abbrev dktX0_joinTold_2 : List UInt8 := dkwX0_joinTold_2 ++ []
def dkwX0_joinTold_1 : List UInt8 := [16, 253, 184, 0, 9, 42, 182, 0, 204, 42, 180, 0, 65, 180, 0, 168, 4, 27, 120, 128, 182, 0, 185]
abbrev dktX0_joinTold_1 : List UInt8 := dkwX0_joinTold_1 ++ dktX0_joinTold_2
def dkwX0_joinTold_0 : List UInt8 := [27, 184, 1, 82, 42, 180, 0, 65, 180, 0, 168, 27, 184, 0, 21, 154, 0, 7, 4, 167, 0, 4, 3]
abbrev dktX0_joinTold_0 : List UInt8 := dkwX0_joinTold_0 ++ dktX0_joinTold_1
theorem dksX0_joinTold_0 : cX0_joinTold.data.toList.drop 0 = dktX0_joinTold_0 := by decide +kernel
theorem dksX0_joinTold_1 : cX0_joinTold.data.toList.drop 23 = dktX0_joinTold_1 := dk_seg dksX0_joinTold_0 23 rfl rfl
theorem dksX0_joinTold_2 : cX0_joinTold.data.toList.drop 46 = dktX0_joinTold_2 := dk_seg dksX0_joinTold_1 23 rfl rfl
theorem dX0_joinTold_0 : decode cX0_joinTold 0 = .ok (.iload_n 1, 1) := dk_27 (dk_at dksX0_joinTold_0 0 rfl rfl)
theorem dX0_joinTold_1 : decode cX0_joinTold 1 = .ok (.invokestatic 338, 3) := dk_184 1 82 (dk_at dksX0_joinTold_0 1 rfl rfl)
theorem dX0_joinTold_4 : decode cX0_joinTold 4 = .ok (.aload_n 0, 1) := dk_42 (dk_at dksX0_joinTold_0 4 rfl rfl)
theorem dX0_joinTold_5 : decode cX0_joinTold 5 = .ok (.getfield 65, 3) := dk_180 0 65 (dk_at dksX0_joinTold_0 5 rfl rfl)
theorem dX0_joinTold_8 : decode cX0_joinTold 8 = .ok (.getfield 168, 3) := dk_180 0 168 (dk_at dksX0_joinTold_0 8 rfl rfl)
theorem dX0_joinTold_11 : decode cX0_joinTold 11 = .ok (.iload_n 1, 1) := dk_27 (dk_at dksX0_joinTold_0 11 rfl rfl)
theorem dX0_joinTold_12 : decode cX0_joinTold 12 = .ok (.invokestatic 21, 3) := dk_184 0 21 (dk_at dksX0_joinTold_0 12 rfl rfl)
theorem dX0_joinTold_15 : decode cX0_joinTold 15 = .ok (.ifCond .ne 7, 3) := dk_154 0 7 (dk_at dksX0_joinTold_0 15 rfl rfl)
theorem dX0_joinTold_18 : decode cX0_joinTold 18 = .ok (.iconst 1, 1) := dk_4 (dk_at dksX0_joinTold_0 18 rfl rfl)
theorem dX0_joinTold_19 : decode cX0_joinTold 19 = .ok (.goto 4, 3) := dk_167 0 4 (dk_at dksX0_joinTold_0 19 rfl rfl)
theorem dX0_joinTold_22 : decode cX0_joinTold 22 = .ok (.iconst 0, 1) := dk_3 (dk_at dksX0_joinTold_0 22 rfl rfl)
theorem dX0_joinTold_23 : decode cX0_joinTold 23 = .ok (.bipush (-3), 2) := dk_16 253 (dk_at dksX0_joinTold_1 0 rfl rfl)
theorem dX0_joinTold_25 : decode cX0_joinTold 25 = .ok (.invokestatic 9, 3) := dk_184 0 9 (dk_at dksX0_joinTold_1 2 rfl rfl)
theorem dX0_joinTold_28 : decode cX0_joinTold 28 = .ok (.aload_n 0, 1) := dk_42 (dk_at dksX0_joinTold_1 5 rfl rfl)
theorem dX0_joinTold_29 : decode cX0_joinTold 29 = .ok (.invokevirtual 204, 3) := dk_182 0 204 (dk_at dksX0_joinTold_1 6 rfl rfl)
theorem dX0_joinTold_32 : decode cX0_joinTold 32 = .ok (.aload_n 0, 1) := dk_42 (dk_at dksX0_joinTold_1 9 rfl rfl)
theorem dX0_joinTold_33 : decode cX0_joinTold 33 = .ok (.getfield 65, 3) := dk_180 0 65 (dk_at dksX0_joinTold_1 10 rfl rfl)
theorem dX0_joinTold_36 : decode cX0_joinTold 36 = .ok (.getfield 168, 3) := dk_180 0 168 (dk_at dksX0_joinTold_1 13 rfl rfl)
theorem dX0_joinTold_39 : decode cX0_joinTold 39 = .ok (.iconst 1, 1) := dk_4 (dk_at dksX0_joinTold_1 16 rfl rfl)
theorem dX0_joinTold_40 : decode cX0_joinTold 40 = .ok (.iload_n 1, 1) := dk_27 (dk_at dksX0_joinTold_1 17 rfl rfl)
theorem dX0_joinTold_41 : decode cX0_joinTold 41 = .ok (.ishl, 1) := dk_120 (dk_at dksX0_joinTold_1 18 rfl rfl)
theorem dX0_joinTold_42 : decode cX0_joinTold 42 = .ok (.ior, 1) := dk_128 (dk_at dksX0_joinTold_1 19 rfl rfl)
theorem dX0_joinTold_43 : decode cX0_joinTold 43 = .ok (.invokevirtual 185, 3) := dk_182 0 185 (dk_at dksX0_joinTold_1 20 rfl rfl)
theorem dX0_joinTold_46 : decode cX0_joinTold 46 = .ok (.getfield 149, 3) := dk_180 0 149 (dk_at dksX0_joinTold_2 0 rfl rfl)
theorem dX0_joinTold_49 : decode cX0_joinTold 49 = .ok (.ireturn, 1) := dk_172 (dk_at dksX0_joinTold_2 3 rfl rfl)
abbrev cX0_bridgeTold : ByteArray := prog_1_method_44_code
def yX0_bridgeTold : MethodName := ⟨RX0, "bridgeTold", "(I)I"⟩
def dkwX0_bridgeTold_2 : List UInt8 := [167, 0, 7, 28, 184, 0, 162, 172]
abbrev dktX0_bridgeTold_2 : List UInt8 := dkwX0_bridgeTold_2 ++ []
def dkwX0_bridgeTold_1 : List UInt8 := [42, 182, 1, 3, 61, 27, 154, 0, 10, 28, 184, 0, 165, 167, 0, 16, 28, 154, 0, 8, 16, 247]
abbrev dktX0_bridgeTold_1 : List UInt8 := dkwX0_bridgeTold_1 ++ dktX0_bridgeTold_2
def dkwX0_bridgeTold_0 : List UInt8 := [27, 133, 9, 20, 0, 253, 184, 0, 13, 16, 254, 184, 0, 9, 27, 5, 160, 0, 8, 42, 182, 0, 255, 172]
abbrev dktX0_bridgeTold_0 : List UInt8 := dkwX0_bridgeTold_0 ++ dktX0_bridgeTold_1
theorem dksX0_bridgeTold_0 : cX0_bridgeTold.data.toList.drop 0 = dktX0_bridgeTold_0 := by decide +kernel
theorem dksX0_bridgeTold_1 : cX0_bridgeTold.data.toList.drop 24 = dktX0_bridgeTold_1 := dk_seg dksX0_bridgeTold_0 24 rfl rfl
theorem dksX0_bridgeTold_2 : cX0_bridgeTold.data.toList.drop 46 = dktX0_bridgeTold_2 := dk_seg dksX0_bridgeTold_1 22 rfl rfl
theorem dX0_bridgeTold_0 : decode cX0_bridgeTold 0 = .ok (.iload_n 1, 1) := dk_27 (dk_at dksX0_bridgeTold_0 0 rfl rfl)
theorem dX0_bridgeTold_1 : decode cX0_bridgeTold 1 = .ok (.i2l, 1) := dk_133 (dk_at dksX0_bridgeTold_0 1 rfl rfl)
theorem dX0_bridgeTold_2 : decode cX0_bridgeTold 2 = .ok (.lconst 0, 1) := dk_9 (dk_at dksX0_bridgeTold_0 2 rfl rfl)
theorem dX0_bridgeTold_3 : decode cX0_bridgeTold 3 = .ok (.ldc2_w 253, 3) := dk_20 0 253 (dk_at dksX0_bridgeTold_0 3 rfl rfl)
theorem dX0_bridgeTold_6 : decode cX0_bridgeTold 6 = .ok (.invokestatic 13, 3) := dk_184 0 13 (dk_at dksX0_bridgeTold_0 6 rfl rfl)
theorem dX0_bridgeTold_9 : decode cX0_bridgeTold 9 = .ok (.bipush (-2), 2) := dk_16 254 (dk_at dksX0_bridgeTold_0 9 rfl rfl)
theorem dX0_bridgeTold_11 : decode cX0_bridgeTold 11 = .ok (.invokestatic 9, 3) := dk_184 0 9 (dk_at dksX0_bridgeTold_0 11 rfl rfl)
theorem dX0_bridgeTold_14 : decode cX0_bridgeTold 14 = .ok (.iload_n 1, 1) := dk_27 (dk_at dksX0_bridgeTold_0 14 rfl rfl)
theorem dX0_bridgeTold_15 : decode cX0_bridgeTold 15 = .ok (.iconst 2, 1) := dk_5 (dk_at dksX0_bridgeTold_0 15 rfl rfl)
theorem dX0_bridgeTold_16 : decode cX0_bridgeTold 16 = .ok (.if_icmp .ne 8, 3) := dk_160 0 8 (dk_at dksX0_bridgeTold_0 16 rfl rfl)
theorem dX0_bridgeTold_19 : decode cX0_bridgeTold 19 = .ok (.aload_n 0, 1) := dk_42 (dk_at dksX0_bridgeTold_0 19 rfl rfl)
theorem dX0_bridgeTold_20 : decode cX0_bridgeTold 20 = .ok (.invokevirtual 255, 3) := dk_182 0 255 (dk_at dksX0_bridgeTold_0 20 rfl rfl)
theorem dX0_bridgeTold_23 : decode cX0_bridgeTold 23 = .ok (.ireturn, 1) := dk_172 (dk_at dksX0_bridgeTold_0 23 rfl rfl)
theorem dX0_bridgeTold_24 : decode cX0_bridgeTold 24 = .ok (.aload_n 0, 1) := dk_42 (dk_at dksX0_bridgeTold_1 0 rfl rfl)
theorem dX0_bridgeTold_25 : decode cX0_bridgeTold 25 = .ok (.invokevirtual 259, 3) := dk_182 1 3 (dk_at dksX0_bridgeTold_1 1 rfl rfl)
theorem dX0_bridgeTold_28 : decode cX0_bridgeTold 28 = .ok (.istore_n 2, 1) := dk_61 (dk_at dksX0_bridgeTold_1 4 rfl rfl)
theorem dX0_bridgeTold_29 : decode cX0_bridgeTold 29 = .ok (.iload_n 1, 1) := dk_27 (dk_at dksX0_bridgeTold_1 5 rfl rfl)
theorem dX0_bridgeTold_30 : decode cX0_bridgeTold 30 = .ok (.ifCond .ne 10, 3) := dk_154 0 10 (dk_at dksX0_bridgeTold_1 6 rfl rfl)
theorem dX0_bridgeTold_33 : decode cX0_bridgeTold 33 = .ok (.iload_n 2, 1) := dk_28 (dk_at dksX0_bridgeTold_1 9 rfl rfl)
theorem dX0_bridgeTold_34 : decode cX0_bridgeTold 34 = .ok (.invokestatic 165, 3) := dk_184 0 165 (dk_at dksX0_bridgeTold_1 10 rfl rfl)
theorem dX0_bridgeTold_37 : decode cX0_bridgeTold 37 = .ok (.goto 16, 3) := dk_167 0 16 (dk_at dksX0_bridgeTold_1 13 rfl rfl)
theorem dX0_bridgeTold_40 : decode cX0_bridgeTold 40 = .ok (.iload_n 2, 1) := dk_28 (dk_at dksX0_bridgeTold_1 16 rfl rfl)
theorem dX0_bridgeTold_41 : decode cX0_bridgeTold 41 = .ok (.ifCond .ne 8, 3) := dk_154 0 8 (dk_at dksX0_bridgeTold_1 17 rfl rfl)
theorem dX0_bridgeTold_44 : decode cX0_bridgeTold 44 = .ok (.bipush (-9), 2) := dk_16 247 (dk_at dksX0_bridgeTold_1 20 rfl rfl)
theorem dX0_bridgeTold_46 : decode cX0_bridgeTold 46 = .ok (.goto 7, 3) := dk_167 0 7 (dk_at dksX0_bridgeTold_2 0 rfl rfl)
theorem dX0_bridgeTold_49 : decode cX0_bridgeTold 49 = .ok (.iload_n 2, 1) := dk_28 (dk_at dksX0_bridgeTold_2 3 rfl rfl)
theorem dX0_bridgeTold_50 : decode cX0_bridgeTold 50 = .ok (.invokestatic 162, 3) := dk_184 0 162 (dk_at dksX0_bridgeTold_2 4 rfl rfl)
theorem dX0_bridgeTold_53 : decode cX0_bridgeTold 53 = .ok (.ireturn, 1) := dk_172 (dk_at dksX0_bridgeTold_2 7 rfl rfl)
abbrev cX0_middleCell : ByteArray := prog_1_method_43_code
def yX0_middleCell : MethodName := ⟨RX0, "middleCell", "()I"⟩
def dkwX0_middleCell_2 : List UInt8 := [153, 0, 11, 29, 153, 0, 7, 28, 167, 0, 4, 27, 60, 132, 2, 1, 167, 255, 198, 27, 172]
abbrev dktX0_middleCell_2 : List UInt8 := dkwX0_middleCell_2 ++ []
def dkwX0_middleCell_1 : List UInt8 := [182, 0, 250, 162, 0, 7, 4, 167, 0, 4, 3, 62, 42, 180, 0, 65, 180, 0, 168, 28, 184, 0, 21]
abbrev dktX0_middleCell_1 : List UInt8 := dkwX0_middleCell_1 ++ dktX0_middleCell_2
def dkwX0_middleCell_0 : List UInt8 := [16, 247, 60, 3, 61, 28, 16, 25, 162, 0, 58, 27, 16, 247, 159, 0, 16, 42, 28, 182, 0, 250, 42, 27]
abbrev dktX0_middleCell_0 : List UInt8 := dkwX0_middleCell_0 ++ dktX0_middleCell_1
theorem dksX0_middleCell_0 : cX0_middleCell.data.toList.drop 0 = dktX0_middleCell_0 := by decide +kernel
theorem dksX0_middleCell_1 : cX0_middleCell.data.toList.drop 24 = dktX0_middleCell_1 := dk_seg dksX0_middleCell_0 24 rfl rfl
theorem dksX0_middleCell_2 : cX0_middleCell.data.toList.drop 47 = dktX0_middleCell_2 := dk_seg dksX0_middleCell_1 23 rfl rfl
theorem dX0_middleCell_0 : decode cX0_middleCell 0 = .ok (.bipush (-9), 2) := dk_16 247 (dk_at dksX0_middleCell_0 0 rfl rfl)
theorem dX0_middleCell_2 : decode cX0_middleCell 2 = .ok (.istore_n 1, 1) := dk_60 (dk_at dksX0_middleCell_0 2 rfl rfl)
theorem dX0_middleCell_3 : decode cX0_middleCell 3 = .ok (.iconst 0, 1) := dk_3 (dk_at dksX0_middleCell_0 3 rfl rfl)
theorem dX0_middleCell_4 : decode cX0_middleCell 4 = .ok (.istore_n 2, 1) := dk_61 (dk_at dksX0_middleCell_0 4 rfl rfl)
theorem dX0_middleCell_5 : decode cX0_middleCell 5 = .ok (.iload_n 2, 1) := dk_28 (dk_at dksX0_middleCell_0 5 rfl rfl)
theorem dX0_middleCell_6 : decode cX0_middleCell 6 = .ok (.bipush 25, 2) := dk_16 25 (dk_at dksX0_middleCell_0 6 rfl rfl)
theorem dX0_middleCell_8 : decode cX0_middleCell 8 = .ok (.if_icmp .ge 58, 3) := dk_162 0 58 (dk_at dksX0_middleCell_0 8 rfl rfl)
theorem dX0_middleCell_11 : decode cX0_middleCell 11 = .ok (.iload_n 1, 1) := dk_27 (dk_at dksX0_middleCell_0 11 rfl rfl)
theorem dX0_middleCell_12 : decode cX0_middleCell 12 = .ok (.bipush (-9), 2) := dk_16 247 (dk_at dksX0_middleCell_0 12 rfl rfl)
theorem dX0_middleCell_14 : decode cX0_middleCell 14 = .ok (.if_icmp .eq 16, 3) := dk_159 0 16 (dk_at dksX0_middleCell_0 14 rfl rfl)
theorem dX0_middleCell_17 : decode cX0_middleCell 17 = .ok (.aload_n 0, 1) := dk_42 (dk_at dksX0_middleCell_0 17 rfl rfl)
theorem dX0_middleCell_18 : decode cX0_middleCell 18 = .ok (.iload_n 2, 1) := dk_28 (dk_at dksX0_middleCell_0 18 rfl rfl)
theorem dX0_middleCell_19 : decode cX0_middleCell 19 = .ok (.invokevirtual 250, 3) := dk_182 0 250 (dk_at dksX0_middleCell_0 19 rfl rfl)
theorem dX0_middleCell_22 : decode cX0_middleCell 22 = .ok (.aload_n 0, 1) := dk_42 (dk_at dksX0_middleCell_0 22 rfl rfl)
theorem dX0_middleCell_23 : decode cX0_middleCell 23 = .ok (.iload_n 1, 1) := dk_27 (dk_at dksX0_middleCell_0 23 rfl rfl)
theorem dX0_middleCell_24 : decode cX0_middleCell 24 = .ok (.invokevirtual 250, 3) := dk_182 0 250 (dk_at dksX0_middleCell_1 0 rfl rfl)
theorem dX0_middleCell_27 : decode cX0_middleCell 27 = .ok (.if_icmp .ge 7, 3) := dk_162 0 7 (dk_at dksX0_middleCell_1 3 rfl rfl)
theorem dX0_middleCell_30 : decode cX0_middleCell 30 = .ok (.iconst 1, 1) := dk_4 (dk_at dksX0_middleCell_1 6 rfl rfl)
theorem dX0_middleCell_31 : decode cX0_middleCell 31 = .ok (.goto 4, 3) := dk_167 0 4 (dk_at dksX0_middleCell_1 7 rfl rfl)
theorem dX0_middleCell_34 : decode cX0_middleCell 34 = .ok (.iconst 0, 1) := dk_3 (dk_at dksX0_middleCell_1 10 rfl rfl)
theorem dX0_middleCell_35 : decode cX0_middleCell 35 = .ok (.istore_n 3, 1) := dk_62 (dk_at dksX0_middleCell_1 11 rfl rfl)
theorem dX0_middleCell_36 : decode cX0_middleCell 36 = .ok (.aload_n 0, 1) := dk_42 (dk_at dksX0_middleCell_1 12 rfl rfl)
theorem dX0_middleCell_37 : decode cX0_middleCell 37 = .ok (.getfield 65, 3) := dk_180 0 65 (dk_at dksX0_middleCell_1 13 rfl rfl)
theorem dX0_middleCell_40 : decode cX0_middleCell 40 = .ok (.getfield 168, 3) := dk_180 0 168 (dk_at dksX0_middleCell_1 16 rfl rfl)
theorem dX0_middleCell_43 : decode cX0_middleCell 43 = .ok (.iload_n 2, 1) := dk_28 (dk_at dksX0_middleCell_1 19 rfl rfl)
theorem dX0_middleCell_44 : decode cX0_middleCell 44 = .ok (.invokestatic 21, 3) := dk_184 0 21 (dk_at dksX0_middleCell_1 20 rfl rfl)
theorem dX0_middleCell_47 : decode cX0_middleCell 47 = .ok (.ifCond .eq 11, 3) := dk_153 0 11 (dk_at dksX0_middleCell_2 0 rfl rfl)
theorem dX0_middleCell_50 : decode cX0_middleCell 50 = .ok (.iload_n 3, 1) := dk_29 (dk_at dksX0_middleCell_2 3 rfl rfl)
theorem dX0_middleCell_51 : decode cX0_middleCell 51 = .ok (.ifCond .eq 7, 3) := dk_153 0 7 (dk_at dksX0_middleCell_2 4 rfl rfl)
theorem dX0_middleCell_54 : decode cX0_middleCell 54 = .ok (.iload_n 2, 1) := dk_28 (dk_at dksX0_middleCell_2 7 rfl rfl)
theorem dX0_middleCell_55 : decode cX0_middleCell 55 = .ok (.goto 4, 3) := dk_167 0 4 (dk_at dksX0_middleCell_2 8 rfl rfl)
theorem dX0_middleCell_58 : decode cX0_middleCell 58 = .ok (.iload_n 1, 1) := dk_27 (dk_at dksX0_middleCell_2 11 rfl rfl)
theorem dX0_middleCell_59 : decode cX0_middleCell 59 = .ok (.istore_n 1, 1) := dk_60 (dk_at dksX0_middleCell_2 12 rfl rfl)
theorem dX0_middleCell_60 : decode cX0_middleCell 60 = .ok (.iinc 2 1, 3) := dk_132 2 1 (dk_at dksX0_middleCell_2 13 rfl rfl)
theorem dX0_middleCell_63 : decode cX0_middleCell 63 = .ok (.goto (-58), 3) := dk_167 255 198 (dk_at dksX0_middleCell_2 16 rfl rfl)
theorem dX0_middleCell_66 : decode cX0_middleCell 66 = .ok (.iload_n 1, 1) := dk_27 (dk_at dksX0_middleCell_2 19 rfl rfl)
theorem dX0_middleCell_67 : decode cX0_middleCell 67 = .ok (.ireturn, 1) := dk_172 (dk_at dksX0_middleCell_2 20 rfl rfl)
abbrev cX0_stepsFrom : ByteArray := prog_1_method_42_code
def yX0_stepsFrom : MethodName := ⟨RX0, "stepsFrom", "(I)I"⟩
def dkwX0_stepsFrom_2 : List UInt8 := [21, 4, 167, 0, 4, 3, 96, 61, 132, 3, 1, 167, 255, 201, 28, 172]
abbrev dktX0_stepsFrom_2 : List UInt8 := dkwX0_stepsFrom_2 ++ []
def dkwX0_stepsFrom_1 : List UInt8 := [8, 112, 100, 184, 0, 247, 96, 54, 4, 28, 42, 180, 0, 65, 180, 0, 168, 29, 184, 0, 21, 153, 0, 8]
abbrev dktX0_stepsFrom_1 : List UInt8 := dkwX0_stepsFrom_1 ++ dktX0_stepsFrom_2
def dkwX0_stepsFrom_0 : List UInt8 := [3, 61, 3, 62, 29, 16, 25, 162, 0, 55, 29, 8, 108, 27, 8, 108, 100, 184, 0, 247, 29, 8, 112, 27]
abbrev dktX0_stepsFrom_0 : List UInt8 := dkwX0_stepsFrom_0 ++ dktX0_stepsFrom_1
theorem dksX0_stepsFrom_0 : cX0_stepsFrom.data.toList.drop 0 = dktX0_stepsFrom_0 := by decide +kernel
theorem dksX0_stepsFrom_1 : cX0_stepsFrom.data.toList.drop 24 = dktX0_stepsFrom_1 := dk_seg dksX0_stepsFrom_0 24 rfl rfl
theorem dksX0_stepsFrom_2 : cX0_stepsFrom.data.toList.drop 48 = dktX0_stepsFrom_2 := dk_seg dksX0_stepsFrom_1 24 rfl rfl
theorem dX0_stepsFrom_0 : decode cX0_stepsFrom 0 = .ok (.iconst 0, 1) := dk_3 (dk_at dksX0_stepsFrom_0 0 rfl rfl)
theorem dX0_stepsFrom_1 : decode cX0_stepsFrom 1 = .ok (.istore_n 2, 1) := dk_61 (dk_at dksX0_stepsFrom_0 1 rfl rfl)
theorem dX0_stepsFrom_2 : decode cX0_stepsFrom 2 = .ok (.iconst 0, 1) := dk_3 (dk_at dksX0_stepsFrom_0 2 rfl rfl)
theorem dX0_stepsFrom_3 : decode cX0_stepsFrom 3 = .ok (.istore_n 3, 1) := dk_62 (dk_at dksX0_stepsFrom_0 3 rfl rfl)
theorem dX0_stepsFrom_4 : decode cX0_stepsFrom 4 = .ok (.iload_n 3, 1) := dk_29 (dk_at dksX0_stepsFrom_0 4 rfl rfl)
theorem dX0_stepsFrom_5 : decode cX0_stepsFrom 5 = .ok (.bipush 25, 2) := dk_16 25 (dk_at dksX0_stepsFrom_0 5 rfl rfl)
theorem dX0_stepsFrom_7 : decode cX0_stepsFrom 7 = .ok (.if_icmp .ge 55, 3) := dk_162 0 55 (dk_at dksX0_stepsFrom_0 7 rfl rfl)
theorem dX0_stepsFrom_10 : decode cX0_stepsFrom 10 = .ok (.iload_n 3, 1) := dk_29 (dk_at dksX0_stepsFrom_0 10 rfl rfl)
theorem dX0_stepsFrom_11 : decode cX0_stepsFrom 11 = .ok (.iconst 5, 1) := dk_8 (dk_at dksX0_stepsFrom_0 11 rfl rfl)
theorem dX0_stepsFrom_12 : decode cX0_stepsFrom 12 = .ok (.idiv, 1) := dk_108 (dk_at dksX0_stepsFrom_0 12 rfl rfl)
theorem dX0_stepsFrom_13 : decode cX0_stepsFrom 13 = .ok (.iload_n 1, 1) := dk_27 (dk_at dksX0_stepsFrom_0 13 rfl rfl)
theorem dX0_stepsFrom_14 : decode cX0_stepsFrom 14 = .ok (.iconst 5, 1) := dk_8 (dk_at dksX0_stepsFrom_0 14 rfl rfl)
theorem dX0_stepsFrom_15 : decode cX0_stepsFrom 15 = .ok (.idiv, 1) := dk_108 (dk_at dksX0_stepsFrom_0 15 rfl rfl)
theorem dX0_stepsFrom_16 : decode cX0_stepsFrom 16 = .ok (.isub, 1) := dk_100 (dk_at dksX0_stepsFrom_0 16 rfl rfl)
theorem dX0_stepsFrom_17 : decode cX0_stepsFrom 17 = .ok (.invokestatic 247, 3) := dk_184 0 247 (dk_at dksX0_stepsFrom_0 17 rfl rfl)
theorem dX0_stepsFrom_20 : decode cX0_stepsFrom 20 = .ok (.iload_n 3, 1) := dk_29 (dk_at dksX0_stepsFrom_0 20 rfl rfl)
theorem dX0_stepsFrom_21 : decode cX0_stepsFrom 21 = .ok (.iconst 5, 1) := dk_8 (dk_at dksX0_stepsFrom_0 21 rfl rfl)
theorem dX0_stepsFrom_22 : decode cX0_stepsFrom 22 = .ok (.irem, 1) := dk_112 (dk_at dksX0_stepsFrom_0 22 rfl rfl)
theorem dX0_stepsFrom_23 : decode cX0_stepsFrom 23 = .ok (.iload_n 1, 1) := dk_27 (dk_at dksX0_stepsFrom_0 23 rfl rfl)
theorem dX0_stepsFrom_24 : decode cX0_stepsFrom 24 = .ok (.iconst 5, 1) := dk_8 (dk_at dksX0_stepsFrom_1 0 rfl rfl)
theorem dX0_stepsFrom_25 : decode cX0_stepsFrom 25 = .ok (.irem, 1) := dk_112 (dk_at dksX0_stepsFrom_1 1 rfl rfl)
theorem dX0_stepsFrom_26 : decode cX0_stepsFrom 26 = .ok (.isub, 1) := dk_100 (dk_at dksX0_stepsFrom_1 2 rfl rfl)
theorem dX0_stepsFrom_27 : decode cX0_stepsFrom 27 = .ok (.invokestatic 247, 3) := dk_184 0 247 (dk_at dksX0_stepsFrom_1 3 rfl rfl)
theorem dX0_stepsFrom_30 : decode cX0_stepsFrom 30 = .ok (.iadd, 1) := dk_96 (dk_at dksX0_stepsFrom_1 6 rfl rfl)
theorem dX0_stepsFrom_31 : decode cX0_stepsFrom 31 = .ok (.istore 4, 2) := dk_54 4 (dk_at dksX0_stepsFrom_1 7 rfl rfl)
theorem dX0_stepsFrom_33 : decode cX0_stepsFrom 33 = .ok (.iload_n 2, 1) := dk_28 (dk_at dksX0_stepsFrom_1 9 rfl rfl)
theorem dX0_stepsFrom_34 : decode cX0_stepsFrom 34 = .ok (.aload_n 0, 1) := dk_42 (dk_at dksX0_stepsFrom_1 10 rfl rfl)
theorem dX0_stepsFrom_35 : decode cX0_stepsFrom 35 = .ok (.getfield 65, 3) := dk_180 0 65 (dk_at dksX0_stepsFrom_1 11 rfl rfl)
theorem dX0_stepsFrom_38 : decode cX0_stepsFrom 38 = .ok (.getfield 168, 3) := dk_180 0 168 (dk_at dksX0_stepsFrom_1 14 rfl rfl)
theorem dX0_stepsFrom_41 : decode cX0_stepsFrom 41 = .ok (.iload_n 3, 1) := dk_29 (dk_at dksX0_stepsFrom_1 17 rfl rfl)
theorem dX0_stepsFrom_42 : decode cX0_stepsFrom 42 = .ok (.invokestatic 21, 3) := dk_184 0 21 (dk_at dksX0_stepsFrom_1 18 rfl rfl)
theorem dX0_stepsFrom_45 : decode cX0_stepsFrom 45 = .ok (.ifCond .eq 8, 3) := dk_153 0 8 (dk_at dksX0_stepsFrom_1 21 rfl rfl)
theorem dX0_stepsFrom_48 : decode cX0_stepsFrom 48 = .ok (.iload 4, 2) := dk_21 4 (dk_at dksX0_stepsFrom_2 0 rfl rfl)
theorem dX0_stepsFrom_50 : decode cX0_stepsFrom 50 = .ok (.goto 4, 3) := dk_167 0 4 (dk_at dksX0_stepsFrom_2 2 rfl rfl)
theorem dX0_stepsFrom_53 : decode cX0_stepsFrom 53 = .ok (.iconst 0, 1) := dk_3 (dk_at dksX0_stepsFrom_2 5 rfl rfl)
theorem dX0_stepsFrom_54 : decode cX0_stepsFrom 54 = .ok (.iadd, 1) := dk_96 (dk_at dksX0_stepsFrom_2 6 rfl rfl)
theorem dX0_stepsFrom_55 : decode cX0_stepsFrom 55 = .ok (.istore_n 2, 1) := dk_61 (dk_at dksX0_stepsFrom_2 7 rfl rfl)
theorem dX0_stepsFrom_56 : decode cX0_stepsFrom 56 = .ok (.iinc 3 1, 3) := dk_132 3 1 (dk_at dksX0_stepsFrom_2 8 rfl rfl)
theorem dX0_stepsFrom_59 : decode cX0_stepsFrom 59 = .ok (.goto (-55), 3) := dk_167 255 201 (dk_at dksX0_stepsFrom_2 11 rfl rfl)
theorem dX0_stepsFrom_62 : decode cX0_stepsFrom 62 = .ok (.iload_n 2, 1) := dk_28 (dk_at dksX0_stepsFrom_2 14 rfl rfl)
theorem dX0_stepsFrom_63 : decode cX0_stepsFrom 63 = .ok (.ireturn, 1) := dk_172 (dk_at dksX0_stepsFrom_2 15 rfl rfl)
abbrev cX0_bridgeBits : ByteArray := prog_1_method_41_code
def yX0_bridgeBits : MethodName := ⟨RX0, "bridgeBits", "()I"⟩
def dkwX0_bridgeBits_3 : List UInt8 := [153, 0, 9, 4, 29, 120, 167, 0, 4, 3, 128, 60, 132, 3, 1, 167, 255, 181, 27, 172]
abbrev dktX0_bridgeBits_3 : List UInt8 := dkwX0_bridgeBits_3 ++ []
def dkwX0_bridgeBits_2 : List UInt8 := [180, 0, 149, 42, 180, 0, 65, 180, 0, 149, 164, 0, 7, 4, 167, 0, 4, 3, 54, 4, 27, 21, 4]
abbrev dktX0_bridgeBits_2 : List UInt8 := dkwX0_bridgeBits_2 ++ dktX0_bridgeBits_3
def dkwX0_bridgeBits_1 : List UInt8 := [184, 0, 21, 153, 0, 37, 44, 42, 180, 0, 65, 180, 0, 168, 4, 29, 120, 2, 130, 126, 182, 0, 185]
abbrev dktX0_bridgeBits_1 : List UInt8 := dkwX0_bridgeBits_1 ++ dktX0_bridgeBits_2
def dkwX0_bridgeBits_0 : List UInt8 := [3, 60, 42, 182, 0, 204, 77, 3, 62, 29, 16, 25, 162, 0, 75, 42, 180, 0, 65, 180, 0, 168, 29]
abbrev dktX0_bridgeBits_0 : List UInt8 := dkwX0_bridgeBits_0 ++ dktX0_bridgeBits_1
theorem dksX0_bridgeBits_0 : cX0_bridgeBits.data.toList.drop 0 = dktX0_bridgeBits_0 := by decide +kernel
theorem dksX0_bridgeBits_1 : cX0_bridgeBits.data.toList.drop 23 = dktX0_bridgeBits_1 := dk_seg dksX0_bridgeBits_0 23 rfl rfl
theorem dksX0_bridgeBits_2 : cX0_bridgeBits.data.toList.drop 46 = dktX0_bridgeBits_2 := dk_seg dksX0_bridgeBits_1 23 rfl rfl
theorem dksX0_bridgeBits_3 : cX0_bridgeBits.data.toList.drop 69 = dktX0_bridgeBits_3 := dk_seg dksX0_bridgeBits_2 23 rfl rfl
theorem dX0_bridgeBits_0 : decode cX0_bridgeBits 0 = .ok (.iconst 0, 1) := dk_3 (dk_at dksX0_bridgeBits_0 0 rfl rfl)
theorem dX0_bridgeBits_1 : decode cX0_bridgeBits 1 = .ok (.istore_n 1, 1) := dk_60 (dk_at dksX0_bridgeBits_0 1 rfl rfl)
theorem dX0_bridgeBits_2 : decode cX0_bridgeBits 2 = .ok (.aload_n 0, 1) := dk_42 (dk_at dksX0_bridgeBits_0 2 rfl rfl)
theorem dX0_bridgeBits_3 : decode cX0_bridgeBits 3 = .ok (.invokevirtual 204, 3) := dk_182 0 204 (dk_at dksX0_bridgeBits_0 3 rfl rfl)
theorem dX0_bridgeBits_6 : decode cX0_bridgeBits 6 = .ok (.astore_n 2, 1) := dk_77 (dk_at dksX0_bridgeBits_0 6 rfl rfl)
theorem dX0_bridgeBits_7 : decode cX0_bridgeBits 7 = .ok (.iconst 0, 1) := dk_3 (dk_at dksX0_bridgeBits_0 7 rfl rfl)
theorem dX0_bridgeBits_8 : decode cX0_bridgeBits 8 = .ok (.istore_n 3, 1) := dk_62 (dk_at dksX0_bridgeBits_0 8 rfl rfl)
theorem dX0_bridgeBits_9 : decode cX0_bridgeBits 9 = .ok (.iload_n 3, 1) := dk_29 (dk_at dksX0_bridgeBits_0 9 rfl rfl)
theorem dX0_bridgeBits_10 : decode cX0_bridgeBits 10 = .ok (.bipush 25, 2) := dk_16 25 (dk_at dksX0_bridgeBits_0 10 rfl rfl)
theorem dX0_bridgeBits_12 : decode cX0_bridgeBits 12 = .ok (.if_icmp .ge 75, 3) := dk_162 0 75 (dk_at dksX0_bridgeBits_0 12 rfl rfl)
theorem dX0_bridgeBits_15 : decode cX0_bridgeBits 15 = .ok (.aload_n 0, 1) := dk_42 (dk_at dksX0_bridgeBits_0 15 rfl rfl)
theorem dX0_bridgeBits_16 : decode cX0_bridgeBits 16 = .ok (.getfield 65, 3) := dk_180 0 65 (dk_at dksX0_bridgeBits_0 16 rfl rfl)
theorem dX0_bridgeBits_19 : decode cX0_bridgeBits 19 = .ok (.getfield 168, 3) := dk_180 0 168 (dk_at dksX0_bridgeBits_0 19 rfl rfl)
theorem dX0_bridgeBits_22 : decode cX0_bridgeBits 22 = .ok (.iload_n 3, 1) := dk_29 (dk_at dksX0_bridgeBits_0 22 rfl rfl)
theorem dX0_bridgeBits_23 : decode cX0_bridgeBits 23 = .ok (.invokestatic 21, 3) := dk_184 0 21 (dk_at dksX0_bridgeBits_1 0 rfl rfl)
theorem dX0_bridgeBits_26 : decode cX0_bridgeBits 26 = .ok (.ifCond .eq 37, 3) := dk_153 0 37 (dk_at dksX0_bridgeBits_1 3 rfl rfl)
theorem dX0_bridgeBits_29 : decode cX0_bridgeBits 29 = .ok (.aload_n 2, 1) := dk_44 (dk_at dksX0_bridgeBits_1 6 rfl rfl)
theorem dX0_bridgeBits_30 : decode cX0_bridgeBits 30 = .ok (.aload_n 0, 1) := dk_42 (dk_at dksX0_bridgeBits_1 7 rfl rfl)
theorem dX0_bridgeBits_31 : decode cX0_bridgeBits 31 = .ok (.getfield 65, 3) := dk_180 0 65 (dk_at dksX0_bridgeBits_1 8 rfl rfl)
theorem dX0_bridgeBits_34 : decode cX0_bridgeBits 34 = .ok (.getfield 168, 3) := dk_180 0 168 (dk_at dksX0_bridgeBits_1 11 rfl rfl)
theorem dX0_bridgeBits_37 : decode cX0_bridgeBits 37 = .ok (.iconst 1, 1) := dk_4 (dk_at dksX0_bridgeBits_1 14 rfl rfl)
theorem dX0_bridgeBits_38 : decode cX0_bridgeBits 38 = .ok (.iload_n 3, 1) := dk_29 (dk_at dksX0_bridgeBits_1 15 rfl rfl)
theorem dX0_bridgeBits_39 : decode cX0_bridgeBits 39 = .ok (.ishl, 1) := dk_120 (dk_at dksX0_bridgeBits_1 16 rfl rfl)
theorem dX0_bridgeBits_40 : decode cX0_bridgeBits 40 = .ok (.iconst (-1), 1) := dk_2 (dk_at dksX0_bridgeBits_1 17 rfl rfl)
theorem dX0_bridgeBits_41 : decode cX0_bridgeBits 41 = .ok (.ixor, 1) := dk_130 (dk_at dksX0_bridgeBits_1 18 rfl rfl)
theorem dX0_bridgeBits_42 : decode cX0_bridgeBits 42 = .ok (.iand, 1) := dk_126 (dk_at dksX0_bridgeBits_1 19 rfl rfl)
theorem dX0_bridgeBits_43 : decode cX0_bridgeBits 43 = .ok (.invokevirtual 185, 3) := dk_182 0 185 (dk_at dksX0_bridgeBits_1 20 rfl rfl)
theorem dX0_bridgeBits_46 : decode cX0_bridgeBits 46 = .ok (.getfield 149, 3) := dk_180 0 149 (dk_at dksX0_bridgeBits_2 0 rfl rfl)
theorem dX0_bridgeBits_49 : decode cX0_bridgeBits 49 = .ok (.aload_n 0, 1) := dk_42 (dk_at dksX0_bridgeBits_2 3 rfl rfl)
theorem dX0_bridgeBits_50 : decode cX0_bridgeBits 50 = .ok (.getfield 65, 3) := dk_180 0 65 (dk_at dksX0_bridgeBits_2 4 rfl rfl)
theorem dX0_bridgeBits_53 : decode cX0_bridgeBits 53 = .ok (.getfield 149, 3) := dk_180 0 149 (dk_at dksX0_bridgeBits_2 7 rfl rfl)
theorem dX0_bridgeBits_56 : decode cX0_bridgeBits 56 = .ok (.if_icmp .le 7, 3) := dk_164 0 7 (dk_at dksX0_bridgeBits_2 10 rfl rfl)
theorem dX0_bridgeBits_59 : decode cX0_bridgeBits 59 = .ok (.iconst 1, 1) := dk_4 (dk_at dksX0_bridgeBits_2 13 rfl rfl)
theorem dX0_bridgeBits_60 : decode cX0_bridgeBits 60 = .ok (.goto 4, 3) := dk_167 0 4 (dk_at dksX0_bridgeBits_2 14 rfl rfl)
theorem dX0_bridgeBits_63 : decode cX0_bridgeBits 63 = .ok (.iconst 0, 1) := dk_3 (dk_at dksX0_bridgeBits_2 17 rfl rfl)
theorem dX0_bridgeBits_64 : decode cX0_bridgeBits 64 = .ok (.istore 4, 2) := dk_54 4 (dk_at dksX0_bridgeBits_2 18 rfl rfl)
theorem dX0_bridgeBits_66 : decode cX0_bridgeBits 66 = .ok (.iload_n 1, 1) := dk_27 (dk_at dksX0_bridgeBits_2 20 rfl rfl)
theorem dX0_bridgeBits_67 : decode cX0_bridgeBits 67 = .ok (.iload 4, 2) := dk_21 4 (dk_at dksX0_bridgeBits_2 21 rfl rfl)
theorem dX0_bridgeBits_69 : decode cX0_bridgeBits 69 = .ok (.ifCond .eq 9, 3) := dk_153 0 9 (dk_at dksX0_bridgeBits_3 0 rfl rfl)
theorem dX0_bridgeBits_72 : decode cX0_bridgeBits 72 = .ok (.iconst 1, 1) := dk_4 (dk_at dksX0_bridgeBits_3 3 rfl rfl)
theorem dX0_bridgeBits_73 : decode cX0_bridgeBits 73 = .ok (.iload_n 3, 1) := dk_29 (dk_at dksX0_bridgeBits_3 4 rfl rfl)
theorem dX0_bridgeBits_74 : decode cX0_bridgeBits 74 = .ok (.ishl, 1) := dk_120 (dk_at dksX0_bridgeBits_3 5 rfl rfl)
theorem dX0_bridgeBits_75 : decode cX0_bridgeBits 75 = .ok (.goto 4, 3) := dk_167 0 4 (dk_at dksX0_bridgeBits_3 6 rfl rfl)
theorem dX0_bridgeBits_78 : decode cX0_bridgeBits 78 = .ok (.iconst 0, 1) := dk_3 (dk_at dksX0_bridgeBits_3 9 rfl rfl)
theorem dX0_bridgeBits_79 : decode cX0_bridgeBits 79 = .ok (.ior, 1) := dk_128 (dk_at dksX0_bridgeBits_3 10 rfl rfl)
theorem dX0_bridgeBits_80 : decode cX0_bridgeBits 80 = .ok (.istore_n 1, 1) := dk_60 (dk_at dksX0_bridgeBits_3 11 rfl rfl)
theorem dX0_bridgeBits_81 : decode cX0_bridgeBits 81 = .ok (.iinc 3 1, 3) := dk_132 3 1 (dk_at dksX0_bridgeBits_3 12 rfl rfl)
theorem dX0_bridgeBits_84 : decode cX0_bridgeBits 84 = .ok (.goto (-75), 3) := dk_167 255 181 (dk_at dksX0_bridgeBits_3 15 rfl rfl)
theorem dX0_bridgeBits_87 : decode cX0_bridgeBits 87 = .ok (.iload_n 1, 1) := dk_27 (dk_at dksX0_bridgeBits_3 18 rfl rfl)
theorem dX0_bridgeBits_88 : decode cX0_bridgeBits 88 = .ok (.ireturn, 1) := dk_172 (dk_at dksX0_bridgeBits_3 19 rfl rfl)
abbrev cX0_twoTold : ByteArray := prog_1_method_82_code
def yX0_twoTold : MethodName := ⟨RX0, "twoTold", "(II)I"⟩
def dkwX0_twoTold_0 : List UInt8 := [42, 27, 28, 182, 1, 169, 42, 27, 28, 182, 1, 175, 172]
abbrev dktX0_twoTold_0 : List UInt8 := dkwX0_twoTold_0 ++ []
theorem dksX0_twoTold_0 : cX0_twoTold.data.toList.drop 0 = dktX0_twoTold_0 := by decide +kernel
theorem dX0_twoTold_0 : decode cX0_twoTold 0 = .ok (.aload_n 0, 1) := dk_42 (dk_at dksX0_twoTold_0 0 rfl rfl)
theorem dX0_twoTold_1 : decode cX0_twoTold 1 = .ok (.iload_n 1, 1) := dk_27 (dk_at dksX0_twoTold_0 1 rfl rfl)
theorem dX0_twoTold_2 : decode cX0_twoTold 2 = .ok (.iload_n 2, 1) := dk_28 (dk_at dksX0_twoTold_0 2 rfl rfl)
theorem dX0_twoTold_3 : decode cX0_twoTold 3 = .ok (.invokevirtual 425, 3) := dk_182 1 169 (dk_at dksX0_twoTold_0 3 rfl rfl)
theorem dX0_twoTold_6 : decode cX0_twoTold 6 = .ok (.aload_n 0, 1) := dk_42 (dk_at dksX0_twoTold_0 6 rfl rfl)
theorem dX0_twoTold_7 : decode cX0_twoTold 7 = .ok (.iload_n 1, 1) := dk_27 (dk_at dksX0_twoTold_0 7 rfl rfl)
theorem dX0_twoTold_8 : decode cX0_twoTold 8 = .ok (.iload_n 2, 1) := dk_28 (dk_at dksX0_twoTold_0 8 rfl rfl)
theorem dX0_twoTold_9 : decode cX0_twoTold 9 = .ok (.invokevirtual 431, 3) := dk_182 1 175 (dk_at dksX0_twoTold_0 9 rfl rfl)
theorem dX0_twoTold_12 : decode cX0_twoTold 12 = .ok (.ireturn, 1) := dk_172 (dk_at dksX0_twoTold_0 12 rfl rfl)
abbrev cX0_restingBites : ByteArray := prog_1_method_47_code
def yX0_restingBites : MethodName := ⟨RX0, "restingBites", "(II)I"⟩
def dkwX0_restingBites_5 : List UInt8 := [167, 255, 203, 16, 247, 172]
abbrev dktX0_restingBites_5 : List UInt8 := dkwX0_restingBites_5 ++ []
def dkwX0_restingBites_4 : List UInt8 := [180, 0, 103, 29, 4, 130, 46, 161, 0, 14, 16, 10, 29, 5, 108, 104, 29, 5, 112, 96, 172, 132, 3, 1]
abbrev dktX0_restingBites_4 : List UInt8 := dkwX0_restingBites_4 ++ dktX0_restingBites_5
def dkwX0_restingBites_3 : List UInt8 := [42, 180, 0, 100, 29, 46, 42, 180, 0, 100, 29, 5, 130, 46, 161, 0, 31, 42, 180, 0, 103, 29, 46, 42]
abbrev dktX0_restingBites_3 : List UInt8 := dkwX0_restingBites_3 ++ dktX0_restingBites_4
def dkwX0_restingBites_2 : List UInt8 := [180, 0, 103, 29, 25, 4, 28, 182, 0, 144, 79, 132, 3, 1, 167, 255, 198, 3, 62, 29, 7, 162, 0, 54]
abbrev dktX0_restingBites_2 : List UInt8 := dkwX0_restingBites_2 ++ dktX0_restingBites_3
def dkwX0_restingBites_1 : List UInt8 := [25, 4, 28, 29, 5, 112, 182, 1, 13, 42, 180, 0, 100, 29, 25, 4, 27, 182, 0, 144, 79, 42]
abbrev dktX0_restingBites_1 : List UInt8 := dkwX0_restingBites_1 ++ dktX0_restingBites_2
def dkwX0_restingBites_0 : List UInt8 := [3, 62, 29, 7, 162, 0, 59, 42, 182, 0, 204, 58, 4, 42, 25, 4, 27, 29, 5, 108, 182, 1, 13, 42]
abbrev dktX0_restingBites_0 : List UInt8 := dkwX0_restingBites_0 ++ dktX0_restingBites_1
theorem dksX0_restingBites_0 : cX0_restingBites.data.toList.drop 0 = dktX0_restingBites_0 := by decide +kernel
theorem dksX0_restingBites_1 : cX0_restingBites.data.toList.drop 24 = dktX0_restingBites_1 := dk_seg dksX0_restingBites_0 24 rfl rfl
theorem dksX0_restingBites_2 : cX0_restingBites.data.toList.drop 46 = dktX0_restingBites_2 := dk_seg dksX0_restingBites_1 22 rfl rfl
theorem dksX0_restingBites_3 : cX0_restingBites.data.toList.drop 70 = dktX0_restingBites_3 := dk_seg dksX0_restingBites_2 24 rfl rfl
theorem dksX0_restingBites_4 : cX0_restingBites.data.toList.drop 94 = dktX0_restingBites_4 := dk_seg dksX0_restingBites_3 24 rfl rfl
theorem dksX0_restingBites_5 : cX0_restingBites.data.toList.drop 118 = dktX0_restingBites_5 := dk_seg dksX0_restingBites_4 24 rfl rfl
theorem dX0_restingBites_0 : decode cX0_restingBites 0 = .ok (.iconst 0, 1) := dk_3 (dk_at dksX0_restingBites_0 0 rfl rfl)
theorem dX0_restingBites_1 : decode cX0_restingBites 1 = .ok (.istore_n 3, 1) := dk_62 (dk_at dksX0_restingBites_0 1 rfl rfl)
theorem dX0_restingBites_2 : decode cX0_restingBites 2 = .ok (.iload_n 3, 1) := dk_29 (dk_at dksX0_restingBites_0 2 rfl rfl)
theorem dX0_restingBites_3 : decode cX0_restingBites 3 = .ok (.iconst 4, 1) := dk_7 (dk_at dksX0_restingBites_0 3 rfl rfl)
theorem dX0_restingBites_4 : decode cX0_restingBites 4 = .ok (.if_icmp .ge 59, 3) := dk_162 0 59 (dk_at dksX0_restingBites_0 4 rfl rfl)
theorem dX0_restingBites_7 : decode cX0_restingBites 7 = .ok (.aload_n 0, 1) := dk_42 (dk_at dksX0_restingBites_0 7 rfl rfl)
theorem dX0_restingBites_8 : decode cX0_restingBites 8 = .ok (.invokevirtual 204, 3) := dk_182 0 204 (dk_at dksX0_restingBites_0 8 rfl rfl)
theorem dX0_restingBites_11 : decode cX0_restingBites 11 = .ok (.astore 4, 2) := dk_58 4 (dk_at dksX0_restingBites_0 11 rfl rfl)
theorem dX0_restingBites_13 : decode cX0_restingBites 13 = .ok (.aload_n 0, 1) := dk_42 (dk_at dksX0_restingBites_0 13 rfl rfl)
theorem dX0_restingBites_14 : decode cX0_restingBites 14 = .ok (.aload 4, 2) := dk_25 4 (dk_at dksX0_restingBites_0 14 rfl rfl)
theorem dX0_restingBites_16 : decode cX0_restingBites 16 = .ok (.iload_n 1, 1) := dk_27 (dk_at dksX0_restingBites_0 16 rfl rfl)
theorem dX0_restingBites_17 : decode cX0_restingBites 17 = .ok (.iload_n 3, 1) := dk_29 (dk_at dksX0_restingBites_0 17 rfl rfl)
theorem dX0_restingBites_18 : decode cX0_restingBites 18 = .ok (.iconst 2, 1) := dk_5 (dk_at dksX0_restingBites_0 18 rfl rfl)
theorem dX0_restingBites_19 : decode cX0_restingBites 19 = .ok (.idiv, 1) := dk_108 (dk_at dksX0_restingBites_0 19 rfl rfl)
theorem dX0_restingBites_20 : decode cX0_restingBites 20 = .ok (.invokevirtual 269, 3) := dk_182 1 13 (dk_at dksX0_restingBites_0 20 rfl rfl)
theorem dX0_restingBites_23 : decode cX0_restingBites 23 = .ok (.aload_n 0, 1) := dk_42 (dk_at dksX0_restingBites_0 23 rfl rfl)
theorem dX0_restingBites_24 : decode cX0_restingBites 24 = .ok (.aload 4, 2) := dk_25 4 (dk_at dksX0_restingBites_1 0 rfl rfl)
theorem dX0_restingBites_26 : decode cX0_restingBites 26 = .ok (.iload_n 2, 1) := dk_28 (dk_at dksX0_restingBites_1 2 rfl rfl)
theorem dX0_restingBites_27 : decode cX0_restingBites 27 = .ok (.iload_n 3, 1) := dk_29 (dk_at dksX0_restingBites_1 3 rfl rfl)
theorem dX0_restingBites_28 : decode cX0_restingBites 28 = .ok (.iconst 2, 1) := dk_5 (dk_at dksX0_restingBites_1 4 rfl rfl)
theorem dX0_restingBites_29 : decode cX0_restingBites 29 = .ok (.irem, 1) := dk_112 (dk_at dksX0_restingBites_1 5 rfl rfl)
theorem dX0_restingBites_30 : decode cX0_restingBites 30 = .ok (.invokevirtual 269, 3) := dk_182 1 13 (dk_at dksX0_restingBites_1 6 rfl rfl)
theorem dX0_restingBites_33 : decode cX0_restingBites 33 = .ok (.aload_n 0, 1) := dk_42 (dk_at dksX0_restingBites_1 9 rfl rfl)
theorem dX0_restingBites_34 : decode cX0_restingBites 34 = .ok (.getfield 100, 3) := dk_180 0 100 (dk_at dksX0_restingBites_1 10 rfl rfl)
theorem dX0_restingBites_37 : decode cX0_restingBites 37 = .ok (.iload_n 3, 1) := dk_29 (dk_at dksX0_restingBites_1 13 rfl rfl)
theorem dX0_restingBites_38 : decode cX0_restingBites 38 = .ok (.aload 4, 2) := dk_25 4 (dk_at dksX0_restingBites_1 14 rfl rfl)
theorem dX0_restingBites_40 : decode cX0_restingBites 40 = .ok (.iload_n 1, 1) := dk_27 (dk_at dksX0_restingBites_1 16 rfl rfl)
theorem dX0_restingBites_41 : decode cX0_restingBites 41 = .ok (.invokevirtual 144, 3) := dk_182 0 144 (dk_at dksX0_restingBites_1 17 rfl rfl)
theorem dX0_restingBites_44 : decode cX0_restingBites 44 = .ok (.iastore, 1) := dk_79 (dk_at dksX0_restingBites_1 20 rfl rfl)
theorem dX0_restingBites_45 : decode cX0_restingBites 45 = .ok (.aload_n 0, 1) := dk_42 (dk_at dksX0_restingBites_1 21 rfl rfl)
theorem dX0_restingBites_46 : decode cX0_restingBites 46 = .ok (.getfield 103, 3) := dk_180 0 103 (dk_at dksX0_restingBites_2 0 rfl rfl)
theorem dX0_restingBites_49 : decode cX0_restingBites 49 = .ok (.iload_n 3, 1) := dk_29 (dk_at dksX0_restingBites_2 3 rfl rfl)
theorem dX0_restingBites_50 : decode cX0_restingBites 50 = .ok (.aload 4, 2) := dk_25 4 (dk_at dksX0_restingBites_2 4 rfl rfl)
theorem dX0_restingBites_52 : decode cX0_restingBites 52 = .ok (.iload_n 2, 1) := dk_28 (dk_at dksX0_restingBites_2 6 rfl rfl)
theorem dX0_restingBites_53 : decode cX0_restingBites 53 = .ok (.invokevirtual 144, 3) := dk_182 0 144 (dk_at dksX0_restingBites_2 7 rfl rfl)
theorem dX0_restingBites_56 : decode cX0_restingBites 56 = .ok (.iastore, 1) := dk_79 (dk_at dksX0_restingBites_2 10 rfl rfl)
theorem dX0_restingBites_57 : decode cX0_restingBites 57 = .ok (.iinc 3 1, 3) := dk_132 3 1 (dk_at dksX0_restingBites_2 11 rfl rfl)
theorem dX0_restingBites_60 : decode cX0_restingBites 60 = .ok (.goto (-58), 3) := dk_167 255 198 (dk_at dksX0_restingBites_2 14 rfl rfl)
theorem dX0_restingBites_63 : decode cX0_restingBites 63 = .ok (.iconst 0, 1) := dk_3 (dk_at dksX0_restingBites_2 17 rfl rfl)
theorem dX0_restingBites_64 : decode cX0_restingBites 64 = .ok (.istore_n 3, 1) := dk_62 (dk_at dksX0_restingBites_2 18 rfl rfl)
theorem dX0_restingBites_65 : decode cX0_restingBites 65 = .ok (.iload_n 3, 1) := dk_29 (dk_at dksX0_restingBites_2 19 rfl rfl)
theorem dX0_restingBites_66 : decode cX0_restingBites 66 = .ok (.iconst 4, 1) := dk_7 (dk_at dksX0_restingBites_2 20 rfl rfl)
theorem dX0_restingBites_67 : decode cX0_restingBites 67 = .ok (.if_icmp .ge 54, 3) := dk_162 0 54 (dk_at dksX0_restingBites_2 21 rfl rfl)
theorem dX0_restingBites_70 : decode cX0_restingBites 70 = .ok (.aload_n 0, 1) := dk_42 (dk_at dksX0_restingBites_3 0 rfl rfl)
theorem dX0_restingBites_71 : decode cX0_restingBites 71 = .ok (.getfield 100, 3) := dk_180 0 100 (dk_at dksX0_restingBites_3 1 rfl rfl)
theorem dX0_restingBites_74 : decode cX0_restingBites 74 = .ok (.iload_n 3, 1) := dk_29 (dk_at dksX0_restingBites_3 4 rfl rfl)
theorem dX0_restingBites_75 : decode cX0_restingBites 75 = .ok (.iaload, 1) := dk_46 (dk_at dksX0_restingBites_3 5 rfl rfl)
theorem dX0_restingBites_76 : decode cX0_restingBites 76 = .ok (.aload_n 0, 1) := dk_42 (dk_at dksX0_restingBites_3 6 rfl rfl)
theorem dX0_restingBites_77 : decode cX0_restingBites 77 = .ok (.getfield 100, 3) := dk_180 0 100 (dk_at dksX0_restingBites_3 7 rfl rfl)
theorem dX0_restingBites_80 : decode cX0_restingBites 80 = .ok (.iload_n 3, 1) := dk_29 (dk_at dksX0_restingBites_3 10 rfl rfl)
theorem dX0_restingBites_81 : decode cX0_restingBites 81 = .ok (.iconst 2, 1) := dk_5 (dk_at dksX0_restingBites_3 11 rfl rfl)
theorem dX0_restingBites_82 : decode cX0_restingBites 82 = .ok (.ixor, 1) := dk_130 (dk_at dksX0_restingBites_3 12 rfl rfl)
theorem dX0_restingBites_83 : decode cX0_restingBites 83 = .ok (.iaload, 1) := dk_46 (dk_at dksX0_restingBites_3 13 rfl rfl)
theorem dX0_restingBites_84 : decode cX0_restingBites 84 = .ok (.if_icmp .lt 31, 3) := dk_161 0 31 (dk_at dksX0_restingBites_3 14 rfl rfl)
theorem dX0_restingBites_87 : decode cX0_restingBites 87 = .ok (.aload_n 0, 1) := dk_42 (dk_at dksX0_restingBites_3 17 rfl rfl)
theorem dX0_restingBites_88 : decode cX0_restingBites 88 = .ok (.getfield 103, 3) := dk_180 0 103 (dk_at dksX0_restingBites_3 18 rfl rfl)
theorem dX0_restingBites_91 : decode cX0_restingBites 91 = .ok (.iload_n 3, 1) := dk_29 (dk_at dksX0_restingBites_3 21 rfl rfl)
theorem dX0_restingBites_92 : decode cX0_restingBites 92 = .ok (.iaload, 1) := dk_46 (dk_at dksX0_restingBites_3 22 rfl rfl)
theorem dX0_restingBites_93 : decode cX0_restingBites 93 = .ok (.aload_n 0, 1) := dk_42 (dk_at dksX0_restingBites_3 23 rfl rfl)
theorem dX0_restingBites_94 : decode cX0_restingBites 94 = .ok (.getfield 103, 3) := dk_180 0 103 (dk_at dksX0_restingBites_4 0 rfl rfl)
theorem dX0_restingBites_97 : decode cX0_restingBites 97 = .ok (.iload_n 3, 1) := dk_29 (dk_at dksX0_restingBites_4 3 rfl rfl)
theorem dX0_restingBites_98 : decode cX0_restingBites 98 = .ok (.iconst 1, 1) := dk_4 (dk_at dksX0_restingBites_4 4 rfl rfl)
theorem dX0_restingBites_99 : decode cX0_restingBites 99 = .ok (.ixor, 1) := dk_130 (dk_at dksX0_restingBites_4 5 rfl rfl)
theorem dX0_restingBites_100 : decode cX0_restingBites 100 = .ok (.iaload, 1) := dk_46 (dk_at dksX0_restingBites_4 6 rfl rfl)
theorem dX0_restingBites_101 : decode cX0_restingBites 101 = .ok (.if_icmp .lt 14, 3) := dk_161 0 14 (dk_at dksX0_restingBites_4 7 rfl rfl)
theorem dX0_restingBites_104 : decode cX0_restingBites 104 = .ok (.bipush 10, 2) := dk_16 10 (dk_at dksX0_restingBites_4 10 rfl rfl)
theorem dX0_restingBites_106 : decode cX0_restingBites 106 = .ok (.iload_n 3, 1) := dk_29 (dk_at dksX0_restingBites_4 12 rfl rfl)
theorem dX0_restingBites_107 : decode cX0_restingBites 107 = .ok (.iconst 2, 1) := dk_5 (dk_at dksX0_restingBites_4 13 rfl rfl)
theorem dX0_restingBites_108 : decode cX0_restingBites 108 = .ok (.idiv, 1) := dk_108 (dk_at dksX0_restingBites_4 14 rfl rfl)
theorem dX0_restingBites_109 : decode cX0_restingBites 109 = .ok (.imul, 1) := dk_104 (dk_at dksX0_restingBites_4 15 rfl rfl)
theorem dX0_restingBites_110 : decode cX0_restingBites 110 = .ok (.iload_n 3, 1) := dk_29 (dk_at dksX0_restingBites_4 16 rfl rfl)
theorem dX0_restingBites_111 : decode cX0_restingBites 111 = .ok (.iconst 2, 1) := dk_5 (dk_at dksX0_restingBites_4 17 rfl rfl)
theorem dX0_restingBites_112 : decode cX0_restingBites 112 = .ok (.irem, 1) := dk_112 (dk_at dksX0_restingBites_4 18 rfl rfl)
theorem dX0_restingBites_113 : decode cX0_restingBites 113 = .ok (.iadd, 1) := dk_96 (dk_at dksX0_restingBites_4 19 rfl rfl)
theorem dX0_restingBites_114 : decode cX0_restingBites 114 = .ok (.ireturn, 1) := dk_172 (dk_at dksX0_restingBites_4 20 rfl rfl)
theorem dX0_restingBites_115 : decode cX0_restingBites 115 = .ok (.iinc 3 1, 3) := dk_132 3 1 (dk_at dksX0_restingBites_4 21 rfl rfl)
theorem dX0_restingBites_118 : decode cX0_restingBites 118 = .ok (.goto (-53), 3) := dk_167 255 203 (dk_at dksX0_restingBites_5 0 rfl rfl)
theorem dX0_restingBites_121 : decode cX0_restingBites 121 = .ok (.bipush (-9), 2) := dk_16 247 (dk_at dksX0_restingBites_5 3 rfl rfl)
theorem dX0_restingBites_123 : decode cX0_restingBites 123 = .ok (.ireturn, 1) := dk_172 (dk_at dksX0_restingBites_5 5 rfl rfl)
abbrev cX0_biteAs : ByteArray := prog_1_method_46_code
def yX0_biteAs : MethodName := ⟨RX0, "biteAs", "(LCoresAreWills$Core;II)V"⟩
def dkwX0_biteAs_1 : List UInt8 := [159, 0, 17, 43, 21, 4, 16, 100, 108, 21, 4, 16, 100, 112, 182, 1, 10, 177]
abbrev dktX0_biteAs_1 : List UInt8 := dkwX0_biteAs_1 ++ []
def dkwX0_biteAs_0 : List UInt8 := [29, 154, 0, 13, 42, 43, 28, 4, 182, 0, 200, 167, 0, 7, 43, 184, 1, 6, 54, 4, 21, 4, 16, 247]
abbrev dktX0_biteAs_0 : List UInt8 := dkwX0_biteAs_0 ++ dktX0_biteAs_1
theorem dksX0_biteAs_0 : cX0_biteAs.data.toList.drop 0 = dktX0_biteAs_0 := by decide +kernel
theorem dksX0_biteAs_1 : cX0_biteAs.data.toList.drop 24 = dktX0_biteAs_1 := dk_seg dksX0_biteAs_0 24 rfl rfl
theorem dX0_biteAs_0 : decode cX0_biteAs 0 = .ok (.iload_n 3, 1) := dk_29 (dk_at dksX0_biteAs_0 0 rfl rfl)
theorem dX0_biteAs_1 : decode cX0_biteAs 1 = .ok (.ifCond .ne 13, 3) := dk_154 0 13 (dk_at dksX0_biteAs_0 1 rfl rfl)
theorem dX0_biteAs_4 : decode cX0_biteAs 4 = .ok (.aload_n 0, 1) := dk_42 (dk_at dksX0_biteAs_0 4 rfl rfl)
theorem dX0_biteAs_5 : decode cX0_biteAs 5 = .ok (.aload_n 1, 1) := dk_43 (dk_at dksX0_biteAs_0 5 rfl rfl)
theorem dX0_biteAs_6 : decode cX0_biteAs 6 = .ok (.iload_n 2, 1) := dk_28 (dk_at dksX0_biteAs_0 6 rfl rfl)
theorem dX0_biteAs_7 : decode cX0_biteAs 7 = .ok (.iconst 1, 1) := dk_4 (dk_at dksX0_biteAs_0 7 rfl rfl)
theorem dX0_biteAs_8 : decode cX0_biteAs 8 = .ok (.invokevirtual 200, 3) := dk_182 0 200 (dk_at dksX0_biteAs_0 8 rfl rfl)
theorem dX0_biteAs_11 : decode cX0_biteAs 11 = .ok (.goto 7, 3) := dk_167 0 7 (dk_at dksX0_biteAs_0 11 rfl rfl)
theorem dX0_biteAs_14 : decode cX0_biteAs 14 = .ok (.aload_n 1, 1) := dk_43 (dk_at dksX0_biteAs_0 14 rfl rfl)
theorem dX0_biteAs_15 : decode cX0_biteAs 15 = .ok (.invokestatic 262, 3) := dk_184 1 6 (dk_at dksX0_biteAs_0 15 rfl rfl)
theorem dX0_biteAs_18 : decode cX0_biteAs 18 = .ok (.istore 4, 2) := dk_54 4 (dk_at dksX0_biteAs_0 18 rfl rfl)
theorem dX0_biteAs_20 : decode cX0_biteAs 20 = .ok (.iload 4, 2) := dk_21 4 (dk_at dksX0_biteAs_0 20 rfl rfl)
theorem dX0_biteAs_22 : decode cX0_biteAs 22 = .ok (.bipush (-9), 2) := dk_16 247 (dk_at dksX0_biteAs_0 22 rfl rfl)
theorem dX0_biteAs_24 : decode cX0_biteAs 24 = .ok (.if_icmp .eq 17, 3) := dk_159 0 17 (dk_at dksX0_biteAs_1 0 rfl rfl)
theorem dX0_biteAs_27 : decode cX0_biteAs 27 = .ok (.aload_n 1, 1) := dk_43 (dk_at dksX0_biteAs_1 3 rfl rfl)
theorem dX0_biteAs_28 : decode cX0_biteAs 28 = .ok (.iload 4, 2) := dk_21 4 (dk_at dksX0_biteAs_1 4 rfl rfl)
theorem dX0_biteAs_30 : decode cX0_biteAs 30 = .ok (.bipush 100, 2) := dk_16 100 (dk_at dksX0_biteAs_1 6 rfl rfl)
theorem dX0_biteAs_32 : decode cX0_biteAs 32 = .ok (.idiv, 1) := dk_108 (dk_at dksX0_biteAs_1 8 rfl rfl)
theorem dX0_biteAs_33 : decode cX0_biteAs 33 = .ok (.iload 4, 2) := dk_21 4 (dk_at dksX0_biteAs_1 9 rfl rfl)
theorem dX0_biteAs_35 : decode cX0_biteAs 35 = .ok (.bipush 100, 2) := dk_16 100 (dk_at dksX0_biteAs_1 11 rfl rfl)
theorem dX0_biteAs_37 : decode cX0_biteAs 37 = .ok (.irem, 1) := dk_112 (dk_at dksX0_biteAs_1 13 rfl rfl)
theorem dX0_biteAs_38 : decode cX0_biteAs 38 = .ok (.invokevirtual 266, 3) := dk_182 1 10 (dk_at dksX0_biteAs_1 14 rfl rfl)
theorem dX0_biteAs_41 : decode cX0_biteAs 41 = .ok (.return_, 1) := dk_177 (dk_at dksX0_biteAs_1 17 rfl rfl)
abbrev cX0_firstThatCan : ByteArray := prog_1_method_45_code
def yX0_firstThatCan : MethodName := ⟨RX0, "firstThatCan", "(LCoresAreWills$Core;)I"⟩
def dkwX0_firstThatCan_1 : List UInt8 := [167, 255, 236, 16, 247, 172]
abbrev dktX0_firstThatCan_1 : List UInt8 := dkwX0_firstThatCan_1 ++ []
def dkwX0_firstThatCan_0 : List UInt8 := [3, 60, 27, 16, 25, 162, 0, 20, 42, 3, 27, 182, 0, 179, 153, 0, 5, 27, 172, 132, 1, 1]
abbrev dktX0_firstThatCan_0 : List UInt8 := dkwX0_firstThatCan_0 ++ dktX0_firstThatCan_1
theorem dksX0_firstThatCan_0 : cX0_firstThatCan.data.toList.drop 0 = dktX0_firstThatCan_0 := by decide +kernel
theorem dksX0_firstThatCan_1 : cX0_firstThatCan.data.toList.drop 22 = dktX0_firstThatCan_1 := dk_seg dksX0_firstThatCan_0 22 rfl rfl
theorem dX0_firstThatCan_0 : decode cX0_firstThatCan 0 = .ok (.iconst 0, 1) := dk_3 (dk_at dksX0_firstThatCan_0 0 rfl rfl)
theorem dX0_firstThatCan_1 : decode cX0_firstThatCan 1 = .ok (.istore_n 1, 1) := dk_60 (dk_at dksX0_firstThatCan_0 1 rfl rfl)
theorem dX0_firstThatCan_2 : decode cX0_firstThatCan 2 = .ok (.iload_n 1, 1) := dk_27 (dk_at dksX0_firstThatCan_0 2 rfl rfl)
theorem dX0_firstThatCan_3 : decode cX0_firstThatCan 3 = .ok (.bipush 25, 2) := dk_16 25 (dk_at dksX0_firstThatCan_0 3 rfl rfl)
theorem dX0_firstThatCan_5 : decode cX0_firstThatCan 5 = .ok (.if_icmp .ge 20, 3) := dk_162 0 20 (dk_at dksX0_firstThatCan_0 5 rfl rfl)
theorem dX0_firstThatCan_8 : decode cX0_firstThatCan 8 = .ok (.aload_n 0, 1) := dk_42 (dk_at dksX0_firstThatCan_0 8 rfl rfl)
theorem dX0_firstThatCan_9 : decode cX0_firstThatCan 9 = .ok (.iconst 0, 1) := dk_3 (dk_at dksX0_firstThatCan_0 9 rfl rfl)
theorem dX0_firstThatCan_10 : decode cX0_firstThatCan 10 = .ok (.iload_n 1, 1) := dk_27 (dk_at dksX0_firstThatCan_0 10 rfl rfl)
theorem dX0_firstThatCan_11 : decode cX0_firstThatCan 11 = .ok (.invokevirtual 179, 3) := dk_182 0 179 (dk_at dksX0_firstThatCan_0 11 rfl rfl)
theorem dX0_firstThatCan_14 : decode cX0_firstThatCan 14 = .ok (.ifCond .eq 5, 3) := dk_153 0 5 (dk_at dksX0_firstThatCan_0 14 rfl rfl)
theorem dX0_firstThatCan_17 : decode cX0_firstThatCan 17 = .ok (.iload_n 1, 1) := dk_27 (dk_at dksX0_firstThatCan_0 17 rfl rfl)
theorem dX0_firstThatCan_18 : decode cX0_firstThatCan 18 = .ok (.ireturn, 1) := dk_172 (dk_at dksX0_firstThatCan_0 18 rfl rfl)
theorem dX0_firstThatCan_19 : decode cX0_firstThatCan 19 = .ok (.iinc 1 1, 3) := dk_132 1 1 (dk_at dksX0_firstThatCan_0 19 rfl rfl)
theorem dX0_firstThatCan_22 : decode cX0_firstThatCan 22 = .ok (.goto (-20), 3) := dk_167 255 236 (dk_at dksX0_firstThatCan_1 0 rfl rfl)
theorem dX0_firstThatCan_25 : decode cX0_firstThatCan 25 = .ok (.bipush (-9), 2) := dk_16 247 (dk_at dksX0_firstThatCan_1 3 rfl rfl)
theorem dX0_firstThatCan_27 : decode cX0_firstThatCan 27 = .ok (.ireturn, 1) := dk_172 (dk_at dksX0_firstThatCan_1 5 rfl rfl)
abbrev cX0_ofLast : ByteArray := prog_1_method_86_code
def yX0_ofLast : MethodName := ⟨RX0, "ofLast", "(IIII)I"⟩
def dkwX0_ofLast_8 : List UInt8 := [172]
abbrev dktX0_ofLast_8 : List UInt8 := dkwX0_ofLast_8 ++ []
def dkwX0_ofLast_7 : List UInt8 := [16, 253, 184, 0, 9, 42, 180, 0, 65, 42, 180, 0, 72, 182, 0, 127, 87, 42, 180, 0, 65, 180, 1, 94]
abbrev dktX0_ofLast_7 : List UInt8 := dkwX0_ofLast_7 ++ dktX0_ofLast_8
def dkwX0_ofLast_6 : List UInt8 := [42, 180, 0, 72, 42, 180, 0, 65, 182, 0, 127, 87, 42, 180, 0, 65, 180, 1, 94, 172, 42, 180, 1, 224]
abbrev dktX0_ofLast_6 : List UInt8 := dkwX0_ofLast_6 ++ dktX0_ofLast_7
def dkwX0_ofLast_5 : List UInt8 := [54, 5, 42, 3, 181, 1, 25, 21, 5, 172, 42, 28, 29, 21, 4, 182, 1, 221, 172, 42, 4, 181, 1, 224]
abbrev dktX0_ofLast_5 : List UInt8 := dkwX0_ofLast_5 ++ dktX0_ofLast_6
def dkwX0_ofLast_4 : List UInt8 := [42, 89, 180, 1, 25, 4, 96, 181, 1, 25, 42, 180, 1, 25, 172, 42, 182, 1, 218, 172, 42, 180, 1, 25]
abbrev dktX0_ofLast_4 : List UInt8 := dkwX0_ofLast_4 ++ dktX0_ofLast_5
def dkwX0_ofLast_3 : List UInt8 := [162, 0, 7, 4, 167, 0, 4, 3, 16, 250, 184, 0, 9, 42, 180, 0, 75, 42, 180, 1, 25, 28, 145, 84]
abbrev dktX0_ofLast_3 : List UInt8 := dkwX0_ofLast_3 ++ dktX0_ofLast_4
def dkwX0_ofLast_2 : List UInt8 := [42, 28, 29, 182, 1, 213, 172, 28, 133, 9, 20, 1, 216, 184, 1, 78, 42, 180, 1, 25, 16, 16]
abbrev dktX0_ofLast_2 : List UInt8 := dkwX0_ofLast_2 ++ dktX0_ofLast_3
def dkwX0_ofLast_1 : List UInt8 := [170, 0, 0, 0, 0, 0, 153, 0, 0, 0, 26, 0, 0, 0, 31, 0, 0, 0, 39, 0, 0, 0, 46, 0, 0, 0, 100, 0, 0, 0, 105, 0, 0, 0, 119, 0, 0, 0, 128]
abbrev dktX0_ofLast_1 : List UInt8 := dkwX0_ofLast_1 ++ dktX0_ofLast_2
def dkwX0_ofLast_0 : List UInt8 := [27]
abbrev dktX0_ofLast_0 : List UInt8 := dkwX0_ofLast_0 ++ dktX0_ofLast_1
theorem dksX0_ofLast_0 : cX0_ofLast.data.toList.drop 0 = dktX0_ofLast_0 := by decide +kernel
theorem dksX0_ofLast_1 : cX0_ofLast.data.toList.drop 1 = dktX0_ofLast_1 := dk_seg dksX0_ofLast_0 1 rfl rfl
theorem dksX0_ofLast_2 : cX0_ofLast.data.toList.drop 40 = dktX0_ofLast_2 := dk_seg dksX0_ofLast_1 39 rfl rfl
theorem dksX0_ofLast_3 : cX0_ofLast.data.toList.drop 62 = dktX0_ofLast_3 := dk_seg dksX0_ofLast_2 22 rfl rfl
theorem dksX0_ofLast_4 : cX0_ofLast.data.toList.drop 86 = dktX0_ofLast_4 := dk_seg dksX0_ofLast_3 24 rfl rfl
theorem dksX0_ofLast_5 : cX0_ofLast.data.toList.drop 110 = dktX0_ofLast_5 := dk_seg dksX0_ofLast_4 24 rfl rfl
theorem dksX0_ofLast_6 : cX0_ofLast.data.toList.drop 134 = dktX0_ofLast_6 := dk_seg dksX0_ofLast_5 24 rfl rfl
theorem dksX0_ofLast_7 : cX0_ofLast.data.toList.drop 158 = dktX0_ofLast_7 := dk_seg dksX0_ofLast_6 24 rfl rfl
theorem dksX0_ofLast_8 : cX0_ofLast.data.toList.drop 182 = dktX0_ofLast_8 := dk_seg dksX0_ofLast_7 24 rfl rfl
theorem dX0_ofLast_0 : decode cX0_ofLast 0 = .ok (.iload_n 1, 1) := dk_27 (dk_at dksX0_ofLast_0 0 rfl rfl)
theorem dX0_ofLast_1 : decode cX0_ofLast 1 = .ok (.tableswitch 153 26 31 #[39, 46, 100, 105, 119, 128], 39) := by decide +kernel
theorem dX0_ofLast_40 : decode cX0_ofLast 40 = .ok (.aload_n 0, 1) := dk_42 (dk_at dksX0_ofLast_2 0 rfl rfl)
theorem dX0_ofLast_41 : decode cX0_ofLast 41 = .ok (.iload_n 2, 1) := dk_28 (dk_at dksX0_ofLast_2 1 rfl rfl)
theorem dX0_ofLast_42 : decode cX0_ofLast 42 = .ok (.iload_n 3, 1) := dk_29 (dk_at dksX0_ofLast_2 2 rfl rfl)
theorem dX0_ofLast_43 : decode cX0_ofLast 43 = .ok (.invokevirtual 469, 3) := dk_182 1 213 (dk_at dksX0_ofLast_2 3 rfl rfl)
theorem dX0_ofLast_46 : decode cX0_ofLast 46 = .ok (.ireturn, 1) := dk_172 (dk_at dksX0_ofLast_2 6 rfl rfl)
theorem dX0_ofLast_47 : decode cX0_ofLast 47 = .ok (.iload_n 2, 1) := dk_28 (dk_at dksX0_ofLast_2 7 rfl rfl)
theorem dX0_ofLast_48 : decode cX0_ofLast 48 = .ok (.i2l, 1) := dk_133 (dk_at dksX0_ofLast_2 8 rfl rfl)
theorem dX0_ofLast_49 : decode cX0_ofLast 49 = .ok (.lconst 0, 1) := dk_9 (dk_at dksX0_ofLast_2 9 rfl rfl)
theorem dX0_ofLast_50 : decode cX0_ofLast 50 = .ok (.ldc2_w 472, 3) := dk_20 1 216 (dk_at dksX0_ofLast_2 10 rfl rfl)
theorem dX0_ofLast_53 : decode cX0_ofLast 53 = .ok (.invokestatic 334, 3) := dk_184 1 78 (dk_at dksX0_ofLast_2 13 rfl rfl)
theorem dX0_ofLast_56 : decode cX0_ofLast 56 = .ok (.aload_n 0, 1) := dk_42 (dk_at dksX0_ofLast_2 16 rfl rfl)
theorem dX0_ofLast_57 : decode cX0_ofLast 57 = .ok (.getfield 281, 3) := dk_180 1 25 (dk_at dksX0_ofLast_2 17 rfl rfl)
theorem dX0_ofLast_60 : decode cX0_ofLast 60 = .ok (.bipush 16, 2) := dk_16 16 (dk_at dksX0_ofLast_2 20 rfl rfl)
theorem dX0_ofLast_62 : decode cX0_ofLast 62 = .ok (.if_icmp .ge 7, 3) := dk_162 0 7 (dk_at dksX0_ofLast_3 0 rfl rfl)
theorem dX0_ofLast_65 : decode cX0_ofLast 65 = .ok (.iconst 1, 1) := dk_4 (dk_at dksX0_ofLast_3 3 rfl rfl)
theorem dX0_ofLast_66 : decode cX0_ofLast 66 = .ok (.goto 4, 3) := dk_167 0 4 (dk_at dksX0_ofLast_3 4 rfl rfl)
theorem dX0_ofLast_69 : decode cX0_ofLast 69 = .ok (.iconst 0, 1) := dk_3 (dk_at dksX0_ofLast_3 7 rfl rfl)
theorem dX0_ofLast_70 : decode cX0_ofLast 70 = .ok (.bipush (-6), 2) := dk_16 250 (dk_at dksX0_ofLast_3 8 rfl rfl)
theorem dX0_ofLast_72 : decode cX0_ofLast 72 = .ok (.invokestatic 9, 3) := dk_184 0 9 (dk_at dksX0_ofLast_3 10 rfl rfl)
theorem dX0_ofLast_75 : decode cX0_ofLast 75 = .ok (.aload_n 0, 1) := dk_42 (dk_at dksX0_ofLast_3 13 rfl rfl)
theorem dX0_ofLast_76 : decode cX0_ofLast 76 = .ok (.getfield 75, 3) := dk_180 0 75 (dk_at dksX0_ofLast_3 14 rfl rfl)
theorem dX0_ofLast_79 : decode cX0_ofLast 79 = .ok (.aload_n 0, 1) := dk_42 (dk_at dksX0_ofLast_3 17 rfl rfl)
theorem dX0_ofLast_80 : decode cX0_ofLast 80 = .ok (.getfield 281, 3) := dk_180 1 25 (dk_at dksX0_ofLast_3 18 rfl rfl)
theorem dX0_ofLast_83 : decode cX0_ofLast 83 = .ok (.iload_n 2, 1) := dk_28 (dk_at dksX0_ofLast_3 21 rfl rfl)
theorem dX0_ofLast_84 : decode cX0_ofLast 84 = .ok (.i2b, 1) := dk_145 (dk_at dksX0_ofLast_3 22 rfl rfl)
theorem dX0_ofLast_85 : decode cX0_ofLast 85 = .ok (.bastore, 1) := dk_84 (dk_at dksX0_ofLast_3 23 rfl rfl)
theorem dX0_ofLast_86 : decode cX0_ofLast 86 = .ok (.aload_n 0, 1) := dk_42 (dk_at dksX0_ofLast_4 0 rfl rfl)
theorem dX0_ofLast_87 : decode cX0_ofLast 87 = .ok (.dup, 1) := dk_89 (dk_at dksX0_ofLast_4 1 rfl rfl)
theorem dX0_ofLast_88 : decode cX0_ofLast 88 = .ok (.getfield 281, 3) := dk_180 1 25 (dk_at dksX0_ofLast_4 2 rfl rfl)
theorem dX0_ofLast_91 : decode cX0_ofLast 91 = .ok (.iconst 1, 1) := dk_4 (dk_at dksX0_ofLast_4 5 rfl rfl)
theorem dX0_ofLast_92 : decode cX0_ofLast 92 = .ok (.iadd, 1) := dk_96 (dk_at dksX0_ofLast_4 6 rfl rfl)
theorem dX0_ofLast_93 : decode cX0_ofLast 93 = .ok (.putfield 281, 3) := dk_181 1 25 (dk_at dksX0_ofLast_4 7 rfl rfl)
theorem dX0_ofLast_96 : decode cX0_ofLast 96 = .ok (.aload_n 0, 1) := dk_42 (dk_at dksX0_ofLast_4 10 rfl rfl)
theorem dX0_ofLast_97 : decode cX0_ofLast 97 = .ok (.getfield 281, 3) := dk_180 1 25 (dk_at dksX0_ofLast_4 11 rfl rfl)
theorem dX0_ofLast_100 : decode cX0_ofLast 100 = .ok (.ireturn, 1) := dk_172 (dk_at dksX0_ofLast_4 14 rfl rfl)
theorem dX0_ofLast_101 : decode cX0_ofLast 101 = .ok (.aload_n 0, 1) := dk_42 (dk_at dksX0_ofLast_4 15 rfl rfl)
theorem dX0_ofLast_102 : decode cX0_ofLast 102 = .ok (.invokevirtual 474, 3) := dk_182 1 218 (dk_at dksX0_ofLast_4 16 rfl rfl)
theorem dX0_ofLast_105 : decode cX0_ofLast 105 = .ok (.ireturn, 1) := dk_172 (dk_at dksX0_ofLast_4 19 rfl rfl)
theorem dX0_ofLast_106 : decode cX0_ofLast 106 = .ok (.aload_n 0, 1) := dk_42 (dk_at dksX0_ofLast_4 20 rfl rfl)
theorem dX0_ofLast_107 : decode cX0_ofLast 107 = .ok (.getfield 281, 3) := dk_180 1 25 (dk_at dksX0_ofLast_4 21 rfl rfl)
theorem dX0_ofLast_110 : decode cX0_ofLast 110 = .ok (.istore 5, 2) := dk_54 5 (dk_at dksX0_ofLast_5 0 rfl rfl)
theorem dX0_ofLast_112 : decode cX0_ofLast 112 = .ok (.aload_n 0, 1) := dk_42 (dk_at dksX0_ofLast_5 2 rfl rfl)
theorem dX0_ofLast_113 : decode cX0_ofLast 113 = .ok (.iconst 0, 1) := dk_3 (dk_at dksX0_ofLast_5 3 rfl rfl)
theorem dX0_ofLast_114 : decode cX0_ofLast 114 = .ok (.putfield 281, 3) := dk_181 1 25 (dk_at dksX0_ofLast_5 4 rfl rfl)
theorem dX0_ofLast_117 : decode cX0_ofLast 117 = .ok (.iload 5, 2) := dk_21 5 (dk_at dksX0_ofLast_5 7 rfl rfl)
theorem dX0_ofLast_119 : decode cX0_ofLast 119 = .ok (.ireturn, 1) := dk_172 (dk_at dksX0_ofLast_5 9 rfl rfl)
theorem dX0_ofLast_120 : decode cX0_ofLast 120 = .ok (.aload_n 0, 1) := dk_42 (dk_at dksX0_ofLast_5 10 rfl rfl)
theorem dX0_ofLast_121 : decode cX0_ofLast 121 = .ok (.iload_n 2, 1) := dk_28 (dk_at dksX0_ofLast_5 11 rfl rfl)
theorem dX0_ofLast_122 : decode cX0_ofLast 122 = .ok (.iload_n 3, 1) := dk_29 (dk_at dksX0_ofLast_5 12 rfl rfl)
theorem dX0_ofLast_123 : decode cX0_ofLast 123 = .ok (.iload 4, 2) := dk_21 4 (dk_at dksX0_ofLast_5 13 rfl rfl)
theorem dX0_ofLast_125 : decode cX0_ofLast 125 = .ok (.invokevirtual 477, 3) := dk_182 1 221 (dk_at dksX0_ofLast_5 15 rfl rfl)
theorem dX0_ofLast_128 : decode cX0_ofLast 128 = .ok (.ireturn, 1) := dk_172 (dk_at dksX0_ofLast_5 18 rfl rfl)
theorem dX0_ofLast_129 : decode cX0_ofLast 129 = .ok (.aload_n 0, 1) := dk_42 (dk_at dksX0_ofLast_5 19 rfl rfl)
theorem dX0_ofLast_130 : decode cX0_ofLast 130 = .ok (.iconst 1, 1) := dk_4 (dk_at dksX0_ofLast_5 20 rfl rfl)
theorem dX0_ofLast_131 : decode cX0_ofLast 131 = .ok (.putfield 480, 3) := dk_181 1 224 (dk_at dksX0_ofLast_5 21 rfl rfl)
theorem dX0_ofLast_134 : decode cX0_ofLast 134 = .ok (.aload_n 0, 1) := dk_42 (dk_at dksX0_ofLast_6 0 rfl rfl)
theorem dX0_ofLast_135 : decode cX0_ofLast 135 = .ok (.getfield 72, 3) := dk_180 0 72 (dk_at dksX0_ofLast_6 1 rfl rfl)
theorem dX0_ofLast_138 : decode cX0_ofLast 138 = .ok (.aload_n 0, 1) := dk_42 (dk_at dksX0_ofLast_6 4 rfl rfl)
theorem dX0_ofLast_139 : decode cX0_ofLast 139 = .ok (.getfield 65, 3) := dk_180 0 65 (dk_at dksX0_ofLast_6 5 rfl rfl)
theorem dX0_ofLast_142 : decode cX0_ofLast 142 = .ok (.invokevirtual 127, 3) := dk_182 0 127 (dk_at dksX0_ofLast_6 8 rfl rfl)
theorem dX0_ofLast_145 : decode cX0_ofLast 145 = .ok (.pop, 1) := dk_87 (dk_at dksX0_ofLast_6 11 rfl rfl)
theorem dX0_ofLast_146 : decode cX0_ofLast 146 = .ok (.aload_n 0, 1) := dk_42 (dk_at dksX0_ofLast_6 12 rfl rfl)
theorem dX0_ofLast_147 : decode cX0_ofLast 147 = .ok (.getfield 65, 3) := dk_180 0 65 (dk_at dksX0_ofLast_6 13 rfl rfl)
theorem dX0_ofLast_150 : decode cX0_ofLast 150 = .ok (.getfield 350, 3) := dk_180 1 94 (dk_at dksX0_ofLast_6 16 rfl rfl)
theorem dX0_ofLast_153 : decode cX0_ofLast 153 = .ok (.ireturn, 1) := dk_172 (dk_at dksX0_ofLast_6 19 rfl rfl)
theorem dX0_ofLast_154 : decode cX0_ofLast 154 = .ok (.aload_n 0, 1) := dk_42 (dk_at dksX0_ofLast_6 20 rfl rfl)
theorem dX0_ofLast_155 : decode cX0_ofLast 155 = .ok (.getfield 480, 3) := dk_180 1 224 (dk_at dksX0_ofLast_6 21 rfl rfl)
theorem dX0_ofLast_158 : decode cX0_ofLast 158 = .ok (.bipush (-3), 2) := dk_16 253 (dk_at dksX0_ofLast_7 0 rfl rfl)
theorem dX0_ofLast_160 : decode cX0_ofLast 160 = .ok (.invokestatic 9, 3) := dk_184 0 9 (dk_at dksX0_ofLast_7 2 rfl rfl)
theorem dX0_ofLast_163 : decode cX0_ofLast 163 = .ok (.aload_n 0, 1) := dk_42 (dk_at dksX0_ofLast_7 5 rfl rfl)
theorem dX0_ofLast_164 : decode cX0_ofLast 164 = .ok (.getfield 65, 3) := dk_180 0 65 (dk_at dksX0_ofLast_7 6 rfl rfl)
theorem dX0_ofLast_167 : decode cX0_ofLast 167 = .ok (.aload_n 0, 1) := dk_42 (dk_at dksX0_ofLast_7 9 rfl rfl)
theorem dX0_ofLast_168 : decode cX0_ofLast 168 = .ok (.getfield 72, 3) := dk_180 0 72 (dk_at dksX0_ofLast_7 10 rfl rfl)
theorem dX0_ofLast_171 : decode cX0_ofLast 171 = .ok (.invokevirtual 127, 3) := dk_182 0 127 (dk_at dksX0_ofLast_7 13 rfl rfl)
theorem dX0_ofLast_174 : decode cX0_ofLast 174 = .ok (.pop, 1) := dk_87 (dk_at dksX0_ofLast_7 16 rfl rfl)
theorem dX0_ofLast_175 : decode cX0_ofLast 175 = .ok (.aload_n 0, 1) := dk_42 (dk_at dksX0_ofLast_7 17 rfl rfl)
theorem dX0_ofLast_176 : decode cX0_ofLast 176 = .ok (.getfield 65, 3) := dk_180 0 65 (dk_at dksX0_ofLast_7 18 rfl rfl)
theorem dX0_ofLast_179 : decode cX0_ofLast 179 = .ok (.getfield 350, 3) := dk_180 1 94 (dk_at dksX0_ofLast_7 21 rfl rfl)
theorem dX0_ofLast_182 : decode cX0_ofLast 182 = .ok (.ireturn, 1) := dk_172 (dk_at dksX0_ofLast_8 0 rfl rfl)
abbrev cX0_whatTold : ByteArray := prog_1_method_84_code
def yX0_whatTold : MethodName := ⟨RX0, "whatTold", "(II)I"⟩
def dkwX0_whatTold_0 : List UInt8 := [42, 27, 182, 0, 194, 28, 184, 0, 197, 42, 27, 28, 182, 1, 205, 172]
abbrev dktX0_whatTold_0 : List UInt8 := dkwX0_whatTold_0 ++ []
theorem dksX0_whatTold_0 : cX0_whatTold.data.toList.drop 0 = dktX0_whatTold_0 := by decide +kernel
theorem dX0_whatTold_0 : decode cX0_whatTold 0 = .ok (.aload_n 0, 1) := dk_42 (dk_at dksX0_whatTold_0 0 rfl rfl)
theorem dX0_whatTold_1 : decode cX0_whatTold 1 = .ok (.iload_n 1, 1) := dk_27 (dk_at dksX0_whatTold_0 1 rfl rfl)
theorem dX0_whatTold_2 : decode cX0_whatTold 2 = .ok (.invokevirtual 194, 3) := dk_182 0 194 (dk_at dksX0_whatTold_0 2 rfl rfl)
theorem dX0_whatTold_5 : decode cX0_whatTold 5 = .ok (.iload_n 2, 1) := dk_28 (dk_at dksX0_whatTold_0 5 rfl rfl)
theorem dX0_whatTold_6 : decode cX0_whatTold 6 = .ok (.invokestatic 197, 3) := dk_184 0 197 (dk_at dksX0_whatTold_0 6 rfl rfl)
theorem dX0_whatTold_9 : decode cX0_whatTold 9 = .ok (.aload_n 0, 1) := dk_42 (dk_at dksX0_whatTold_0 9 rfl rfl)
theorem dX0_whatTold_10 : decode cX0_whatTold 10 = .ok (.iload_n 1, 1) := dk_27 (dk_at dksX0_whatTold_0 10 rfl rfl)
theorem dX0_whatTold_11 : decode cX0_whatTold 11 = .ok (.iload_n 2, 1) := dk_28 (dk_at dksX0_whatTold_0 11 rfl rfl)
theorem dX0_whatTold_12 : decode cX0_whatTold 12 = .ok (.invokevirtual 461, 3) := dk_182 1 205 (dk_at dksX0_whatTold_0 12 rfl rfl)
theorem dX0_whatTold_15 : decode cX0_whatTold 15 = .ok (.ireturn, 1) := dk_172 (dk_at dksX0_whatTold_0 15 rfl rfl)
abbrev cX0_fitting : ByteArray := prog_1_method_51_code
def yX0_fitting : MethodName := ⟨RX0, "fitting", "(II)I"⟩
def dkwX0_fitting_4 : List UInt8 := [21, 4, 120, 167, 0, 4, 3, 128, 62, 132, 4, 1, 167, 255, 158, 29, 172]
abbrev dktX0_fitting_4 : List UInt8 := dkwX0_fitting_4 ++ []
def dkwX0_fitting_3 : List UInt8 := [167, 0, 10, 25, 5, 180, 1, 31, 27, 46, 79, 29, 42, 25, 5, 27, 182, 1, 34, 153, 0, 10, 4]
abbrev dktX0_fitting_3 : List UInt8 := dkwX0_fitting_3 ++ dktX0_fitting_4
def dkwX0_fitting_2 : List UInt8 := [167, 0, 10, 25, 5, 180, 1, 28, 27, 50, 83, 25, 5, 180, 1, 31, 27, 28, 4, 160, 0, 8, 21, 4]
abbrev dktX0_fitting_2 : List UInt8 := dkwX0_fitting_2 ++ dktX0_fitting_3
def dkwX0_fitting_1 : List UInt8 := [182, 0, 204, 58, 5, 25, 5, 180, 1, 28, 27, 28, 154, 0, 13, 42, 180, 0, 58, 21, 4, 50]
abbrev dktX0_fitting_1 : List UInt8 := dkwX0_fitting_1 ++ dktX0_fitting_2
def dkwX0_fitting_0 : List UInt8 := [3, 62, 3, 54, 4, 21, 4, 28, 154, 0, 8, 16, 6, 167, 0, 5, 16, 10, 162, 0, 88, 42]
abbrev dktX0_fitting_0 : List UInt8 := dkwX0_fitting_0 ++ dktX0_fitting_1
theorem dksX0_fitting_0 : cX0_fitting.data.toList.drop 0 = dktX0_fitting_0 := by decide +kernel
theorem dksX0_fitting_1 : cX0_fitting.data.toList.drop 22 = dktX0_fitting_1 := dk_seg dksX0_fitting_0 22 rfl rfl
theorem dksX0_fitting_2 : cX0_fitting.data.toList.drop 44 = dktX0_fitting_2 := dk_seg dksX0_fitting_1 22 rfl rfl
theorem dksX0_fitting_3 : cX0_fitting.data.toList.drop 68 = dktX0_fitting_3 := dk_seg dksX0_fitting_2 24 rfl rfl
theorem dksX0_fitting_4 : cX0_fitting.data.toList.drop 91 = dktX0_fitting_4 := dk_seg dksX0_fitting_3 23 rfl rfl
theorem dX0_fitting_0 : decode cX0_fitting 0 = .ok (.iconst 0, 1) := dk_3 (dk_at dksX0_fitting_0 0 rfl rfl)
theorem dX0_fitting_1 : decode cX0_fitting 1 = .ok (.istore_n 3, 1) := dk_62 (dk_at dksX0_fitting_0 1 rfl rfl)
theorem dX0_fitting_2 : decode cX0_fitting 2 = .ok (.iconst 0, 1) := dk_3 (dk_at dksX0_fitting_0 2 rfl rfl)
theorem dX0_fitting_3 : decode cX0_fitting 3 = .ok (.istore 4, 2) := dk_54 4 (dk_at dksX0_fitting_0 3 rfl rfl)
theorem dX0_fitting_5 : decode cX0_fitting 5 = .ok (.iload 4, 2) := dk_21 4 (dk_at dksX0_fitting_0 5 rfl rfl)
theorem dX0_fitting_7 : decode cX0_fitting 7 = .ok (.iload_n 2, 1) := dk_28 (dk_at dksX0_fitting_0 7 rfl rfl)
theorem dX0_fitting_8 : decode cX0_fitting 8 = .ok (.ifCond .ne 8, 3) := dk_154 0 8 (dk_at dksX0_fitting_0 8 rfl rfl)
theorem dX0_fitting_11 : decode cX0_fitting 11 = .ok (.bipush 6, 2) := dk_16 6 (dk_at dksX0_fitting_0 11 rfl rfl)
theorem dX0_fitting_13 : decode cX0_fitting 13 = .ok (.goto 5, 3) := dk_167 0 5 (dk_at dksX0_fitting_0 13 rfl rfl)
theorem dX0_fitting_16 : decode cX0_fitting 16 = .ok (.bipush 10, 2) := dk_16 10 (dk_at dksX0_fitting_0 16 rfl rfl)
theorem dX0_fitting_18 : decode cX0_fitting 18 = .ok (.if_icmp .ge 88, 3) := dk_162 0 88 (dk_at dksX0_fitting_0 18 rfl rfl)
theorem dX0_fitting_21 : decode cX0_fitting 21 = .ok (.aload_n 0, 1) := dk_42 (dk_at dksX0_fitting_0 21 rfl rfl)
theorem dX0_fitting_22 : decode cX0_fitting 22 = .ok (.invokevirtual 204, 3) := dk_182 0 204 (dk_at dksX0_fitting_1 0 rfl rfl)
theorem dX0_fitting_25 : decode cX0_fitting 25 = .ok (.astore 5, 2) := dk_58 5 (dk_at dksX0_fitting_1 3 rfl rfl)
theorem dX0_fitting_27 : decode cX0_fitting 27 = .ok (.aload 5, 2) := dk_25 5 (dk_at dksX0_fitting_1 5 rfl rfl)
theorem dX0_fitting_29 : decode cX0_fitting 29 = .ok (.getfield 284, 3) := dk_180 1 28 (dk_at dksX0_fitting_1 7 rfl rfl)
theorem dX0_fitting_32 : decode cX0_fitting 32 = .ok (.iload_n 1, 1) := dk_27 (dk_at dksX0_fitting_1 10 rfl rfl)
theorem dX0_fitting_33 : decode cX0_fitting 33 = .ok (.iload_n 2, 1) := dk_28 (dk_at dksX0_fitting_1 11 rfl rfl)
theorem dX0_fitting_34 : decode cX0_fitting 34 = .ok (.ifCond .ne 13, 3) := dk_154 0 13 (dk_at dksX0_fitting_1 12 rfl rfl)
theorem dX0_fitting_37 : decode cX0_fitting 37 = .ok (.aload_n 0, 1) := dk_42 (dk_at dksX0_fitting_1 15 rfl rfl)
theorem dX0_fitting_38 : decode cX0_fitting 38 = .ok (.getfield 58, 3) := dk_180 0 58 (dk_at dksX0_fitting_1 16 rfl rfl)
theorem dX0_fitting_41 : decode cX0_fitting 41 = .ok (.iload 4, 2) := dk_21 4 (dk_at dksX0_fitting_1 19 rfl rfl)
theorem dX0_fitting_43 : decode cX0_fitting 43 = .ok (.aaload, 1) := dk_50 (dk_at dksX0_fitting_1 21 rfl rfl)
theorem dX0_fitting_44 : decode cX0_fitting 44 = .ok (.goto 10, 3) := dk_167 0 10 (dk_at dksX0_fitting_2 0 rfl rfl)
theorem dX0_fitting_47 : decode cX0_fitting 47 = .ok (.aload 5, 2) := dk_25 5 (dk_at dksX0_fitting_2 3 rfl rfl)
theorem dX0_fitting_49 : decode cX0_fitting 49 = .ok (.getfield 284, 3) := dk_180 1 28 (dk_at dksX0_fitting_2 5 rfl rfl)
theorem dX0_fitting_52 : decode cX0_fitting 52 = .ok (.iload_n 1, 1) := dk_27 (dk_at dksX0_fitting_2 8 rfl rfl)
theorem dX0_fitting_53 : decode cX0_fitting 53 = .ok (.aaload, 1) := dk_50 (dk_at dksX0_fitting_2 9 rfl rfl)
theorem dX0_fitting_54 : decode cX0_fitting 54 = .ok (.aastore, 1) := dk_83 (dk_at dksX0_fitting_2 10 rfl rfl)
theorem dX0_fitting_55 : decode cX0_fitting 55 = .ok (.aload 5, 2) := dk_25 5 (dk_at dksX0_fitting_2 11 rfl rfl)
theorem dX0_fitting_57 : decode cX0_fitting 57 = .ok (.getfield 287, 3) := dk_180 1 31 (dk_at dksX0_fitting_2 13 rfl rfl)
theorem dX0_fitting_60 : decode cX0_fitting 60 = .ok (.iload_n 1, 1) := dk_27 (dk_at dksX0_fitting_2 16 rfl rfl)
theorem dX0_fitting_61 : decode cX0_fitting 61 = .ok (.iload_n 2, 1) := dk_28 (dk_at dksX0_fitting_2 17 rfl rfl)
theorem dX0_fitting_62 : decode cX0_fitting 62 = .ok (.iconst 1, 1) := dk_4 (dk_at dksX0_fitting_2 18 rfl rfl)
theorem dX0_fitting_63 : decode cX0_fitting 63 = .ok (.if_icmp .ne 8, 3) := dk_160 0 8 (dk_at dksX0_fitting_2 19 rfl rfl)
theorem dX0_fitting_66 : decode cX0_fitting 66 = .ok (.iload 4, 2) := dk_21 4 (dk_at dksX0_fitting_2 22 rfl rfl)
theorem dX0_fitting_68 : decode cX0_fitting 68 = .ok (.goto 10, 3) := dk_167 0 10 (dk_at dksX0_fitting_3 0 rfl rfl)
theorem dX0_fitting_71 : decode cX0_fitting 71 = .ok (.aload 5, 2) := dk_25 5 (dk_at dksX0_fitting_3 3 rfl rfl)
theorem dX0_fitting_73 : decode cX0_fitting 73 = .ok (.getfield 287, 3) := dk_180 1 31 (dk_at dksX0_fitting_3 5 rfl rfl)
theorem dX0_fitting_76 : decode cX0_fitting 76 = .ok (.iload_n 1, 1) := dk_27 (dk_at dksX0_fitting_3 8 rfl rfl)
theorem dX0_fitting_77 : decode cX0_fitting 77 = .ok (.iaload, 1) := dk_46 (dk_at dksX0_fitting_3 9 rfl rfl)
theorem dX0_fitting_78 : decode cX0_fitting 78 = .ok (.iastore, 1) := dk_79 (dk_at dksX0_fitting_3 10 rfl rfl)
theorem dX0_fitting_79 : decode cX0_fitting 79 = .ok (.iload_n 3, 1) := dk_29 (dk_at dksX0_fitting_3 11 rfl rfl)
theorem dX0_fitting_80 : decode cX0_fitting 80 = .ok (.aload_n 0, 1) := dk_42 (dk_at dksX0_fitting_3 12 rfl rfl)
theorem dX0_fitting_81 : decode cX0_fitting 81 = .ok (.aload 5, 2) := dk_25 5 (dk_at dksX0_fitting_3 13 rfl rfl)
theorem dX0_fitting_83 : decode cX0_fitting 83 = .ok (.iload_n 1, 1) := dk_27 (dk_at dksX0_fitting_3 15 rfl rfl)
theorem dX0_fitting_84 : decode cX0_fitting 84 = .ok (.invokevirtual 290, 3) := dk_182 1 34 (dk_at dksX0_fitting_3 16 rfl rfl)
theorem dX0_fitting_87 : decode cX0_fitting 87 = .ok (.ifCond .eq 10, 3) := dk_153 0 10 (dk_at dksX0_fitting_3 19 rfl rfl)
theorem dX0_fitting_90 : decode cX0_fitting 90 = .ok (.iconst 1, 1) := dk_4 (dk_at dksX0_fitting_3 22 rfl rfl)
theorem dX0_fitting_91 : decode cX0_fitting 91 = .ok (.iload 4, 2) := dk_21 4 (dk_at dksX0_fitting_4 0 rfl rfl)
theorem dX0_fitting_93 : decode cX0_fitting 93 = .ok (.ishl, 1) := dk_120 (dk_at dksX0_fitting_4 2 rfl rfl)
theorem dX0_fitting_94 : decode cX0_fitting 94 = .ok (.goto 4, 3) := dk_167 0 4 (dk_at dksX0_fitting_4 3 rfl rfl)
theorem dX0_fitting_97 : decode cX0_fitting 97 = .ok (.iconst 0, 1) := dk_3 (dk_at dksX0_fitting_4 6 rfl rfl)
theorem dX0_fitting_98 : decode cX0_fitting 98 = .ok (.ior, 1) := dk_128 (dk_at dksX0_fitting_4 7 rfl rfl)
theorem dX0_fitting_99 : decode cX0_fitting 99 = .ok (.istore_n 3, 1) := dk_62 (dk_at dksX0_fitting_4 8 rfl rfl)
theorem dX0_fitting_100 : decode cX0_fitting 100 = .ok (.iinc 4 1, 3) := dk_132 4 1 (dk_at dksX0_fitting_4 9 rfl rfl)
theorem dX0_fitting_103 : decode cX0_fitting 103 = .ok (.goto (-98), 3) := dk_167 255 158 (dk_at dksX0_fitting_4 12 rfl rfl)
theorem dX0_fitting_106 : decode cX0_fitting 106 = .ok (.iload_n 3, 1) := dk_29 (dk_at dksX0_fitting_4 15 rfl rfl)
theorem dX0_fitting_107 : decode cX0_fitting 107 = .ok (.ireturn, 1) := dk_172 (dk_at dksX0_fitting_4 16 rfl rfl)
abbrev cX0_isRow : ByteArray := prog_1_method_50_code
def yX0_isRow : MethodName := ⟨RX0, "isRow", "(LCoresAreWills$Core;I)Z"⟩
def dkwX0_isRow_2 : List UInt8 := [182, 0, 185, 28, 182, 0, 144, 159, 0, 5, 3, 172, 132, 4, 1, 167, 255, 205, 4, 172]
abbrev dktX0_isRow_2 : List UInt8 := dkwX0_isRow_2 ++ []
def dkwX0_isRow_1 : List UInt8 := [21, 4, 51, 43, 21, 4, 154, 0, 7, 29, 167, 0, 13, 29, 4, 21, 4, 4, 100, 120, 2, 130, 126]
abbrev dktX0_isRow_1 : List UInt8 := dkwX0_isRow_1 ++ dktX0_isRow_2
def dkwX0_isRow_0 : List UInt8 := [42, 180, 0, 65, 180, 0, 168, 62, 3, 54, 4, 21, 4, 42, 180, 1, 25, 162, 0, 48, 42, 180, 0, 75]
abbrev dktX0_isRow_0 : List UInt8 := dkwX0_isRow_0 ++ dktX0_isRow_1
theorem dksX0_isRow_0 : cX0_isRow.data.toList.drop 0 = dktX0_isRow_0 := by decide +kernel
theorem dksX0_isRow_1 : cX0_isRow.data.toList.drop 24 = dktX0_isRow_1 := dk_seg dksX0_isRow_0 24 rfl rfl
theorem dksX0_isRow_2 : cX0_isRow.data.toList.drop 47 = dktX0_isRow_2 := dk_seg dksX0_isRow_1 23 rfl rfl
theorem dX0_isRow_0 : decode cX0_isRow 0 = .ok (.aload_n 0, 1) := dk_42 (dk_at dksX0_isRow_0 0 rfl rfl)
theorem dX0_isRow_1 : decode cX0_isRow 1 = .ok (.getfield 65, 3) := dk_180 0 65 (dk_at dksX0_isRow_0 1 rfl rfl)
theorem dX0_isRow_4 : decode cX0_isRow 4 = .ok (.getfield 168, 3) := dk_180 0 168 (dk_at dksX0_isRow_0 4 rfl rfl)
theorem dX0_isRow_7 : decode cX0_isRow 7 = .ok (.istore_n 3, 1) := dk_62 (dk_at dksX0_isRow_0 7 rfl rfl)
theorem dX0_isRow_8 : decode cX0_isRow 8 = .ok (.iconst 0, 1) := dk_3 (dk_at dksX0_isRow_0 8 rfl rfl)
theorem dX0_isRow_9 : decode cX0_isRow 9 = .ok (.istore 4, 2) := dk_54 4 (dk_at dksX0_isRow_0 9 rfl rfl)
theorem dX0_isRow_11 : decode cX0_isRow 11 = .ok (.iload 4, 2) := dk_21 4 (dk_at dksX0_isRow_0 11 rfl rfl)
theorem dX0_isRow_13 : decode cX0_isRow 13 = .ok (.aload_n 0, 1) := dk_42 (dk_at dksX0_isRow_0 13 rfl rfl)
theorem dX0_isRow_14 : decode cX0_isRow 14 = .ok (.getfield 281, 3) := dk_180 1 25 (dk_at dksX0_isRow_0 14 rfl rfl)
theorem dX0_isRow_17 : decode cX0_isRow 17 = .ok (.if_icmp .ge 48, 3) := dk_162 0 48 (dk_at dksX0_isRow_0 17 rfl rfl)
theorem dX0_isRow_20 : decode cX0_isRow 20 = .ok (.aload_n 0, 1) := dk_42 (dk_at dksX0_isRow_0 20 rfl rfl)
theorem dX0_isRow_21 : decode cX0_isRow 21 = .ok (.getfield 75, 3) := dk_180 0 75 (dk_at dksX0_isRow_0 21 rfl rfl)
theorem dX0_isRow_24 : decode cX0_isRow 24 = .ok (.iload 4, 2) := dk_21 4 (dk_at dksX0_isRow_1 0 rfl rfl)
theorem dX0_isRow_26 : decode cX0_isRow 26 = .ok (.baload, 1) := dk_51 (dk_at dksX0_isRow_1 2 rfl rfl)
theorem dX0_isRow_27 : decode cX0_isRow 27 = .ok (.aload_n 1, 1) := dk_43 (dk_at dksX0_isRow_1 3 rfl rfl)
theorem dX0_isRow_28 : decode cX0_isRow 28 = .ok (.iload 4, 2) := dk_21 4 (dk_at dksX0_isRow_1 4 rfl rfl)
theorem dX0_isRow_30 : decode cX0_isRow 30 = .ok (.ifCond .ne 7, 3) := dk_154 0 7 (dk_at dksX0_isRow_1 6 rfl rfl)
theorem dX0_isRow_33 : decode cX0_isRow 33 = .ok (.iload_n 3, 1) := dk_29 (dk_at dksX0_isRow_1 9 rfl rfl)
theorem dX0_isRow_34 : decode cX0_isRow 34 = .ok (.goto 13, 3) := dk_167 0 13 (dk_at dksX0_isRow_1 10 rfl rfl)
theorem dX0_isRow_37 : decode cX0_isRow 37 = .ok (.iload_n 3, 1) := dk_29 (dk_at dksX0_isRow_1 13 rfl rfl)
theorem dX0_isRow_38 : decode cX0_isRow 38 = .ok (.iconst 1, 1) := dk_4 (dk_at dksX0_isRow_1 14 rfl rfl)
theorem dX0_isRow_39 : decode cX0_isRow 39 = .ok (.iload 4, 2) := dk_21 4 (dk_at dksX0_isRow_1 15 rfl rfl)
theorem dX0_isRow_41 : decode cX0_isRow 41 = .ok (.iconst 1, 1) := dk_4 (dk_at dksX0_isRow_1 17 rfl rfl)
theorem dX0_isRow_42 : decode cX0_isRow 42 = .ok (.isub, 1) := dk_100 (dk_at dksX0_isRow_1 18 rfl rfl)
theorem dX0_isRow_43 : decode cX0_isRow 43 = .ok (.ishl, 1) := dk_120 (dk_at dksX0_isRow_1 19 rfl rfl)
theorem dX0_isRow_44 : decode cX0_isRow 44 = .ok (.iconst (-1), 1) := dk_2 (dk_at dksX0_isRow_1 20 rfl rfl)
theorem dX0_isRow_45 : decode cX0_isRow 45 = .ok (.ixor, 1) := dk_130 (dk_at dksX0_isRow_1 21 rfl rfl)
theorem dX0_isRow_46 : decode cX0_isRow 46 = .ok (.iand, 1) := dk_126 (dk_at dksX0_isRow_1 22 rfl rfl)
theorem dX0_isRow_47 : decode cX0_isRow 47 = .ok (.invokevirtual 185, 3) := dk_182 0 185 (dk_at dksX0_isRow_2 0 rfl rfl)
theorem dX0_isRow_50 : decode cX0_isRow 50 = .ok (.iload_n 2, 1) := dk_28 (dk_at dksX0_isRow_2 3 rfl rfl)
theorem dX0_isRow_51 : decode cX0_isRow 51 = .ok (.invokevirtual 144, 3) := dk_182 0 144 (dk_at dksX0_isRow_2 4 rfl rfl)
theorem dX0_isRow_54 : decode cX0_isRow 54 = .ok (.if_icmp .eq 5, 3) := dk_159 0 5 (dk_at dksX0_isRow_2 7 rfl rfl)
theorem dX0_isRow_57 : decode cX0_isRow 57 = .ok (.iconst 0, 1) := dk_3 (dk_at dksX0_isRow_2 10 rfl rfl)
theorem dX0_isRow_58 : decode cX0_isRow 58 = .ok (.ireturn, 1) := dk_172 (dk_at dksX0_isRow_2 11 rfl rfl)
theorem dX0_isRow_59 : decode cX0_isRow 59 = .ok (.iinc 4 1, 3) := dk_132 4 1 (dk_at dksX0_isRow_2 12 rfl rfl)
theorem dX0_isRow_62 : decode cX0_isRow 62 = .ok (.goto (-51), 3) := dk_167 255 205 (dk_at dksX0_isRow_2 15 rfl rfl)
theorem dX0_isRow_65 : decode cX0_isRow 65 = .ok (.iconst 1, 1) := dk_4 (dk_at dksX0_isRow_2 18 rfl rfl)
theorem dX0_isRow_66 : decode cX0_isRow 66 = .ok (.ireturn, 1) := dk_172 (dk_at dksX0_isRow_2 19 rfl rfl)
abbrev cX0_judgeRow : ByteArray := prog_1_method_52_code
def yX0_judgeRow : MethodName := ⟨RX0, "judgeRow", "()I"⟩
def dkwX0_judgeRow_2 : List UInt8 := [172, 132, 2, 1, 167, 255, 218, 16, 247, 172]
abbrev dktX0_judgeRow_2 : List UInt8 := dkwX0_judgeRow_2 ++ []
def dkwX0_judgeRow_1 : List UInt8 := [180, 0, 141, 162, 0, 20, 42, 180, 0, 65, 28, 182, 0, 144, 42, 180, 0, 75, 28, 51, 159, 0, 5, 28]
abbrev dktX0_judgeRow_1 : List UInt8 := dkwX0_judgeRow_1 ++ dktX0_judgeRow_2
def dkwX0_judgeRow_0 : List UInt8 := [42, 180, 1, 25, 60, 42, 3, 181, 1, 25, 3, 61, 28, 27, 162, 0, 39, 28, 42, 180, 0, 65]
abbrev dktX0_judgeRow_0 : List UInt8 := dkwX0_judgeRow_0 ++ dktX0_judgeRow_1
theorem dksX0_judgeRow_0 : cX0_judgeRow.data.toList.drop 0 = dktX0_judgeRow_0 := by decide +kernel
theorem dksX0_judgeRow_1 : cX0_judgeRow.data.toList.drop 22 = dktX0_judgeRow_1 := dk_seg dksX0_judgeRow_0 22 rfl rfl
theorem dksX0_judgeRow_2 : cX0_judgeRow.data.toList.drop 46 = dktX0_judgeRow_2 := dk_seg dksX0_judgeRow_1 24 rfl rfl
theorem dX0_judgeRow_0 : decode cX0_judgeRow 0 = .ok (.aload_n 0, 1) := dk_42 (dk_at dksX0_judgeRow_0 0 rfl rfl)
theorem dX0_judgeRow_1 : decode cX0_judgeRow 1 = .ok (.getfield 281, 3) := dk_180 1 25 (dk_at dksX0_judgeRow_0 1 rfl rfl)
theorem dX0_judgeRow_4 : decode cX0_judgeRow 4 = .ok (.istore_n 1, 1) := dk_60 (dk_at dksX0_judgeRow_0 4 rfl rfl)
theorem dX0_judgeRow_5 : decode cX0_judgeRow 5 = .ok (.aload_n 0, 1) := dk_42 (dk_at dksX0_judgeRow_0 5 rfl rfl)
theorem dX0_judgeRow_6 : decode cX0_judgeRow 6 = .ok (.iconst 0, 1) := dk_3 (dk_at dksX0_judgeRow_0 6 rfl rfl)
theorem dX0_judgeRow_7 : decode cX0_judgeRow 7 = .ok (.putfield 281, 3) := dk_181 1 25 (dk_at dksX0_judgeRow_0 7 rfl rfl)
theorem dX0_judgeRow_10 : decode cX0_judgeRow 10 = .ok (.iconst 0, 1) := dk_3 (dk_at dksX0_judgeRow_0 10 rfl rfl)
theorem dX0_judgeRow_11 : decode cX0_judgeRow 11 = .ok (.istore_n 2, 1) := dk_61 (dk_at dksX0_judgeRow_0 11 rfl rfl)
theorem dX0_judgeRow_12 : decode cX0_judgeRow 12 = .ok (.iload_n 2, 1) := dk_28 (dk_at dksX0_judgeRow_0 12 rfl rfl)
theorem dX0_judgeRow_13 : decode cX0_judgeRow 13 = .ok (.iload_n 1, 1) := dk_27 (dk_at dksX0_judgeRow_0 13 rfl rfl)
theorem dX0_judgeRow_14 : decode cX0_judgeRow 14 = .ok (.if_icmp .ge 39, 3) := dk_162 0 39 (dk_at dksX0_judgeRow_0 14 rfl rfl)
theorem dX0_judgeRow_17 : decode cX0_judgeRow 17 = .ok (.iload_n 2, 1) := dk_28 (dk_at dksX0_judgeRow_0 17 rfl rfl)
theorem dX0_judgeRow_18 : decode cX0_judgeRow 18 = .ok (.aload_n 0, 1) := dk_42 (dk_at dksX0_judgeRow_0 18 rfl rfl)
theorem dX0_judgeRow_19 : decode cX0_judgeRow 19 = .ok (.getfield 65, 3) := dk_180 0 65 (dk_at dksX0_judgeRow_0 19 rfl rfl)
theorem dX0_judgeRow_22 : decode cX0_judgeRow 22 = .ok (.getfield 141, 3) := dk_180 0 141 (dk_at dksX0_judgeRow_1 0 rfl rfl)
theorem dX0_judgeRow_25 : decode cX0_judgeRow 25 = .ok (.if_icmp .ge 20, 3) := dk_162 0 20 (dk_at dksX0_judgeRow_1 3 rfl rfl)
theorem dX0_judgeRow_28 : decode cX0_judgeRow 28 = .ok (.aload_n 0, 1) := dk_42 (dk_at dksX0_judgeRow_1 6 rfl rfl)
theorem dX0_judgeRow_29 : decode cX0_judgeRow 29 = .ok (.getfield 65, 3) := dk_180 0 65 (dk_at dksX0_judgeRow_1 7 rfl rfl)
theorem dX0_judgeRow_32 : decode cX0_judgeRow 32 = .ok (.iload_n 2, 1) := dk_28 (dk_at dksX0_judgeRow_1 10 rfl rfl)
theorem dX0_judgeRow_33 : decode cX0_judgeRow 33 = .ok (.invokevirtual 144, 3) := dk_182 0 144 (dk_at dksX0_judgeRow_1 11 rfl rfl)
theorem dX0_judgeRow_36 : decode cX0_judgeRow 36 = .ok (.aload_n 0, 1) := dk_42 (dk_at dksX0_judgeRow_1 14 rfl rfl)
theorem dX0_judgeRow_37 : decode cX0_judgeRow 37 = .ok (.getfield 75, 3) := dk_180 0 75 (dk_at dksX0_judgeRow_1 15 rfl rfl)
theorem dX0_judgeRow_40 : decode cX0_judgeRow 40 = .ok (.iload_n 2, 1) := dk_28 (dk_at dksX0_judgeRow_1 18 rfl rfl)
theorem dX0_judgeRow_41 : decode cX0_judgeRow 41 = .ok (.baload, 1) := dk_51 (dk_at dksX0_judgeRow_1 19 rfl rfl)
theorem dX0_judgeRow_42 : decode cX0_judgeRow 42 = .ok (.if_icmp .eq 5, 3) := dk_159 0 5 (dk_at dksX0_judgeRow_1 20 rfl rfl)
theorem dX0_judgeRow_45 : decode cX0_judgeRow 45 = .ok (.iload_n 2, 1) := dk_28 (dk_at dksX0_judgeRow_1 23 rfl rfl)
theorem dX0_judgeRow_46 : decode cX0_judgeRow 46 = .ok (.ireturn, 1) := dk_172 (dk_at dksX0_judgeRow_2 0 rfl rfl)
theorem dX0_judgeRow_47 : decode cX0_judgeRow 47 = .ok (.iinc 2 1, 3) := dk_132 2 1 (dk_at dksX0_judgeRow_2 1 rfl rfl)
theorem dX0_judgeRow_50 : decode cX0_judgeRow 50 = .ok (.goto (-38), 3) := dk_167 255 218 (dk_at dksX0_judgeRow_2 4 rfl rfl)
theorem dX0_judgeRow_53 : decode cX0_judgeRow 53 = .ok (.bipush (-9), 2) := dk_16 247 (dk_at dksX0_judgeRow_2 7 rfl rfl)
theorem dX0_judgeRow_55 : decode cX0_judgeRow 55 = .ok (.ireturn, 1) := dk_172 (dk_at dksX0_judgeRow_2 9 rfl rfl)
abbrev cX0_lotsTold : ByteArray := prog_1_method_85_code
def yX0_lotsTold : MethodName := ⟨RX0, "lotsTold", "(III)I"⟩
def dkwX0_lotsTold_0 : List UInt8 := [27, 133, 10, 20, 1, 208, 184, 1, 78, 29, 184, 0, 197, 42, 27, 28, 29, 182, 1, 210, 172]
abbrev dktX0_lotsTold_0 : List UInt8 := dkwX0_lotsTold_0 ++ []
theorem dksX0_lotsTold_0 : cX0_lotsTold.data.toList.drop 0 = dktX0_lotsTold_0 := by decide +kernel
theorem dX0_lotsTold_0 : decode cX0_lotsTold 0 = .ok (.iload_n 1, 1) := dk_27 (dk_at dksX0_lotsTold_0 0 rfl rfl)
theorem dX0_lotsTold_1 : decode cX0_lotsTold 1 = .ok (.i2l, 1) := dk_133 (dk_at dksX0_lotsTold_0 1 rfl rfl)
theorem dX0_lotsTold_2 : decode cX0_lotsTold 2 = .ok (.lconst 1, 1) := dk_10 (dk_at dksX0_lotsTold_0 2 rfl rfl)
theorem dX0_lotsTold_3 : decode cX0_lotsTold 3 = .ok (.ldc2_w 464, 3) := dk_20 1 208 (dk_at dksX0_lotsTold_0 3 rfl rfl)
theorem dX0_lotsTold_6 : decode cX0_lotsTold 6 = .ok (.invokestatic 334, 3) := dk_184 1 78 (dk_at dksX0_lotsTold_0 6 rfl rfl)
theorem dX0_lotsTold_9 : decode cX0_lotsTold 9 = .ok (.iload_n 3, 1) := dk_29 (dk_at dksX0_lotsTold_0 9 rfl rfl)
theorem dX0_lotsTold_10 : decode cX0_lotsTold 10 = .ok (.invokestatic 197, 3) := dk_184 0 197 (dk_at dksX0_lotsTold_0 10 rfl rfl)
theorem dX0_lotsTold_13 : decode cX0_lotsTold 13 = .ok (.aload_n 0, 1) := dk_42 (dk_at dksX0_lotsTold_0 13 rfl rfl)
theorem dX0_lotsTold_14 : decode cX0_lotsTold 14 = .ok (.iload_n 1, 1) := dk_27 (dk_at dksX0_lotsTold_0 14 rfl rfl)
theorem dX0_lotsTold_15 : decode cX0_lotsTold 15 = .ok (.iload_n 2, 1) := dk_28 (dk_at dksX0_lotsTold_0 15 rfl rfl)
theorem dX0_lotsTold_16 : decode cX0_lotsTold 16 = .ok (.iload_n 3, 1) := dk_29 (dk_at dksX0_lotsTold_0 16 rfl rfl)
theorem dX0_lotsTold_17 : decode cX0_lotsTold 17 = .ok (.invokevirtual 466, 3) := dk_182 1 210 (dk_at dksX0_lotsTold_0 17 rfl rfl)
theorem dX0_lotsTold_20 : decode cX0_lotsTold 20 = .ok (.ireturn, 1) := dk_172 (dk_at dksX0_lotsTold_0 20 rfl rfl)
abbrev cX0_byLots : ByteArray := prog_1_method_54_code
def yX0_byLots : MethodName := ⟨RX0, "byLots", "(III)I"⟩
def dkwX0_byLots_4 : List UInt8 := [153, 0, 7, 4, 167, 0, 4, 3, 96, 54, 4, 132, 5, 1, 167, 255, 159, 21, 4, 172]
abbrev dktX0_byLots_4 : List UInt8 := dkwX0_byLots_4 ++ []
def dkwX0_byLots_3 : List UInt8 := [167, 255, 210, 21, 4, 29, 154, 0, 11, 25, 6, 182, 1, 47, 167, 0, 16, 25, 6, 182, 0, 155]
abbrev dktX0_byLots_3 : List UInt8 := dkwX0_byLots_3 ++ dktX0_byLots_4
def dkwX0_byLots_2 : List UInt8 := [25, 6, 21, 8, 21, 9, 182, 0, 179, 153, 0, 12, 25, 6, 21, 8, 21, 9, 182, 1, 10, 132, 7, 1]
abbrev dktX0_byLots_2 : List UInt8 := dkwX0_byLots_2 ++ dktX0_byLots_3
def dkwX0_byLots_1 : List UInt8 := [54, 7, 21, 7, 16, 6, 162, 0, 45, 42, 7, 182, 1, 44, 54, 8, 42, 16, 25, 182, 1, 44, 54, 9]
abbrev dktX0_byLots_1 : List UInt8 := dkwX0_byLots_1 ++ dktX0_byLots_2
def dkwX0_byLots_0 : List UInt8 := [42, 28, 181, 1, 38, 3, 54, 4, 3, 54, 5, 21, 5, 27, 162, 0, 97, 42, 182, 0, 204, 58, 6, 3]
abbrev dktX0_byLots_0 : List UInt8 := dkwX0_byLots_0 ++ dktX0_byLots_1
theorem dksX0_byLots_0 : cX0_byLots.data.toList.drop 0 = dktX0_byLots_0 := by decide +kernel
theorem dksX0_byLots_1 : cX0_byLots.data.toList.drop 24 = dktX0_byLots_1 := dk_seg dksX0_byLots_0 24 rfl rfl
theorem dksX0_byLots_2 : cX0_byLots.data.toList.drop 48 = dktX0_byLots_2 := dk_seg dksX0_byLots_1 24 rfl rfl
theorem dksX0_byLots_3 : cX0_byLots.data.toList.drop 72 = dktX0_byLots_3 := dk_seg dksX0_byLots_2 24 rfl rfl
theorem dksX0_byLots_4 : cX0_byLots.data.toList.drop 94 = dktX0_byLots_4 := dk_seg dksX0_byLots_3 22 rfl rfl
theorem dX0_byLots_0 : decode cX0_byLots 0 = .ok (.aload_n 0, 1) := dk_42 (dk_at dksX0_byLots_0 0 rfl rfl)
theorem dX0_byLots_1 : decode cX0_byLots 1 = .ok (.iload_n 2, 1) := dk_28 (dk_at dksX0_byLots_0 1 rfl rfl)
theorem dX0_byLots_2 : decode cX0_byLots 2 = .ok (.putfield 294, 3) := dk_181 1 38 (dk_at dksX0_byLots_0 2 rfl rfl)
theorem dX0_byLots_5 : decode cX0_byLots 5 = .ok (.iconst 0, 1) := dk_3 (dk_at dksX0_byLots_0 5 rfl rfl)
theorem dX0_byLots_6 : decode cX0_byLots 6 = .ok (.istore 4, 2) := dk_54 4 (dk_at dksX0_byLots_0 6 rfl rfl)
theorem dX0_byLots_8 : decode cX0_byLots 8 = .ok (.iconst 0, 1) := dk_3 (dk_at dksX0_byLots_0 8 rfl rfl)
theorem dX0_byLots_9 : decode cX0_byLots 9 = .ok (.istore 5, 2) := dk_54 5 (dk_at dksX0_byLots_0 9 rfl rfl)
theorem dX0_byLots_11 : decode cX0_byLots 11 = .ok (.iload 5, 2) := dk_21 5 (dk_at dksX0_byLots_0 11 rfl rfl)
theorem dX0_byLots_13 : decode cX0_byLots 13 = .ok (.iload_n 1, 1) := dk_27 (dk_at dksX0_byLots_0 13 rfl rfl)
theorem dX0_byLots_14 : decode cX0_byLots 14 = .ok (.if_icmp .ge 97, 3) := dk_162 0 97 (dk_at dksX0_byLots_0 14 rfl rfl)
theorem dX0_byLots_17 : decode cX0_byLots 17 = .ok (.aload_n 0, 1) := dk_42 (dk_at dksX0_byLots_0 17 rfl rfl)
theorem dX0_byLots_18 : decode cX0_byLots 18 = .ok (.invokevirtual 204, 3) := dk_182 0 204 (dk_at dksX0_byLots_0 18 rfl rfl)
theorem dX0_byLots_21 : decode cX0_byLots 21 = .ok (.astore 6, 2) := dk_58 6 (dk_at dksX0_byLots_0 21 rfl rfl)
theorem dX0_byLots_23 : decode cX0_byLots 23 = .ok (.iconst 0, 1) := dk_3 (dk_at dksX0_byLots_0 23 rfl rfl)
theorem dX0_byLots_24 : decode cX0_byLots 24 = .ok (.istore 7, 2) := dk_54 7 (dk_at dksX0_byLots_1 0 rfl rfl)
theorem dX0_byLots_26 : decode cX0_byLots 26 = .ok (.iload 7, 2) := dk_21 7 (dk_at dksX0_byLots_1 2 rfl rfl)
theorem dX0_byLots_28 : decode cX0_byLots 28 = .ok (.bipush 6, 2) := dk_16 6 (dk_at dksX0_byLots_1 4 rfl rfl)
theorem dX0_byLots_30 : decode cX0_byLots 30 = .ok (.if_icmp .ge 45, 3) := dk_162 0 45 (dk_at dksX0_byLots_1 6 rfl rfl)
theorem dX0_byLots_33 : decode cX0_byLots 33 = .ok (.aload_n 0, 1) := dk_42 (dk_at dksX0_byLots_1 9 rfl rfl)
theorem dX0_byLots_34 : decode cX0_byLots 34 = .ok (.iconst 4, 1) := dk_7 (dk_at dksX0_byLots_1 10 rfl rfl)
theorem dX0_byLots_35 : decode cX0_byLots 35 = .ok (.invokevirtual 300, 3) := dk_182 1 44 (dk_at dksX0_byLots_1 11 rfl rfl)
theorem dX0_byLots_38 : decode cX0_byLots 38 = .ok (.istore 8, 2) := dk_54 8 (dk_at dksX0_byLots_1 14 rfl rfl)
theorem dX0_byLots_40 : decode cX0_byLots 40 = .ok (.aload_n 0, 1) := dk_42 (dk_at dksX0_byLots_1 16 rfl rfl)
theorem dX0_byLots_41 : decode cX0_byLots 41 = .ok (.bipush 25, 2) := dk_16 25 (dk_at dksX0_byLots_1 17 rfl rfl)
theorem dX0_byLots_43 : decode cX0_byLots 43 = .ok (.invokevirtual 300, 3) := dk_182 1 44 (dk_at dksX0_byLots_1 19 rfl rfl)
theorem dX0_byLots_46 : decode cX0_byLots 46 = .ok (.istore 9, 2) := dk_54 9 (dk_at dksX0_byLots_1 22 rfl rfl)
theorem dX0_byLots_48 : decode cX0_byLots 48 = .ok (.aload 6, 2) := dk_25 6 (dk_at dksX0_byLots_2 0 rfl rfl)
theorem dX0_byLots_50 : decode cX0_byLots 50 = .ok (.iload 8, 2) := dk_21 8 (dk_at dksX0_byLots_2 2 rfl rfl)
theorem dX0_byLots_52 : decode cX0_byLots 52 = .ok (.iload 9, 2) := dk_21 9 (dk_at dksX0_byLots_2 4 rfl rfl)
theorem dX0_byLots_54 : decode cX0_byLots 54 = .ok (.invokevirtual 179, 3) := dk_182 0 179 (dk_at dksX0_byLots_2 6 rfl rfl)
theorem dX0_byLots_57 : decode cX0_byLots 57 = .ok (.ifCond .eq 12, 3) := dk_153 0 12 (dk_at dksX0_byLots_2 9 rfl rfl)
theorem dX0_byLots_60 : decode cX0_byLots 60 = .ok (.aload 6, 2) := dk_25 6 (dk_at dksX0_byLots_2 12 rfl rfl)
theorem dX0_byLots_62 : decode cX0_byLots 62 = .ok (.iload 8, 2) := dk_21 8 (dk_at dksX0_byLots_2 14 rfl rfl)
theorem dX0_byLots_64 : decode cX0_byLots 64 = .ok (.iload 9, 2) := dk_21 9 (dk_at dksX0_byLots_2 16 rfl rfl)
theorem dX0_byLots_66 : decode cX0_byLots 66 = .ok (.invokevirtual 266, 3) := dk_182 1 10 (dk_at dksX0_byLots_2 18 rfl rfl)
theorem dX0_byLots_69 : decode cX0_byLots 69 = .ok (.iinc 7 1, 3) := dk_132 7 1 (dk_at dksX0_byLots_2 21 rfl rfl)
theorem dX0_byLots_72 : decode cX0_byLots 72 = .ok (.goto (-46), 3) := dk_167 255 210 (dk_at dksX0_byLots_3 0 rfl rfl)
theorem dX0_byLots_75 : decode cX0_byLots 75 = .ok (.iload 4, 2) := dk_21 4 (dk_at dksX0_byLots_3 3 rfl rfl)
theorem dX0_byLots_77 : decode cX0_byLots 77 = .ok (.iload_n 3, 1) := dk_29 (dk_at dksX0_byLots_3 5 rfl rfl)
theorem dX0_byLots_78 : decode cX0_byLots 78 = .ok (.ifCond .ne 11, 3) := dk_154 0 11 (dk_at dksX0_byLots_3 6 rfl rfl)
theorem dX0_byLots_81 : decode cX0_byLots 81 = .ok (.aload 6, 2) := dk_25 6 (dk_at dksX0_byLots_3 9 rfl rfl)
theorem dX0_byLots_83 : decode cX0_byLots 83 = .ok (.invokevirtual 303, 3) := dk_182 1 47 (dk_at dksX0_byLots_3 11 rfl rfl)
theorem dX0_byLots_86 : decode cX0_byLots 86 = .ok (.goto 16, 3) := dk_167 0 16 (dk_at dksX0_byLots_3 14 rfl rfl)
theorem dX0_byLots_89 : decode cX0_byLots 89 = .ok (.aload 6, 2) := dk_25 6 (dk_at dksX0_byLots_3 17 rfl rfl)
theorem dX0_byLots_91 : decode cX0_byLots 91 = .ok (.invokevirtual 155, 3) := dk_182 0 155 (dk_at dksX0_byLots_3 19 rfl rfl)
theorem dX0_byLots_94 : decode cX0_byLots 94 = .ok (.ifCond .eq 7, 3) := dk_153 0 7 (dk_at dksX0_byLots_4 0 rfl rfl)
theorem dX0_byLots_97 : decode cX0_byLots 97 = .ok (.iconst 1, 1) := dk_4 (dk_at dksX0_byLots_4 3 rfl rfl)
theorem dX0_byLots_98 : decode cX0_byLots 98 = .ok (.goto 4, 3) := dk_167 0 4 (dk_at dksX0_byLots_4 4 rfl rfl)
theorem dX0_byLots_101 : decode cX0_byLots 101 = .ok (.iconst 0, 1) := dk_3 (dk_at dksX0_byLots_4 7 rfl rfl)
theorem dX0_byLots_102 : decode cX0_byLots 102 = .ok (.iadd, 1) := dk_96 (dk_at dksX0_byLots_4 8 rfl rfl)
theorem dX0_byLots_103 : decode cX0_byLots 103 = .ok (.istore 4, 2) := dk_54 4 (dk_at dksX0_byLots_4 9 rfl rfl)
theorem dX0_byLots_105 : decode cX0_byLots 105 = .ok (.iinc 5 1, 3) := dk_132 5 1 (dk_at dksX0_byLots_4 11 rfl rfl)
theorem dX0_byLots_108 : decode cX0_byLots 108 = .ok (.goto (-97), 3) := dk_167 255 159 (dk_at dksX0_byLots_4 14 rfl rfl)
theorem dX0_byLots_111 : decode cX0_byLots 111 = .ok (.iload 4, 2) := dk_21 4 (dk_at dksX0_byLots_4 17 rfl rfl)
theorem dX0_byLots_113 : decode cX0_byLots 113 = .ok (.ireturn, 1) := dk_172 (dk_at dksX0_byLots_4 19 rfl rfl)
abbrev cX0_drawBelow : ByteArray := prog_1_method_53_code
def yX0_drawBelow : MethodName := ⟨RX0, "drawBelow", "(I)I"⟩
def dkwX0_drawBelow_1 : List UInt8 := [17, 1, 0, 108, 27, 112, 172]
abbrev dktX0_drawBelow_1 : List UInt8 := dkwX0_drawBelow_1 ++ []
def dkwX0_drawBelow_0 : List UInt8 := [42, 42, 180, 1, 38, 19, 1, 41, 104, 19, 1, 42, 96, 181, 1, 38, 42, 180, 1, 38, 19, 1, 43, 126]
abbrev dktX0_drawBelow_0 : List UInt8 := dkwX0_drawBelow_0 ++ dktX0_drawBelow_1
theorem dksX0_drawBelow_0 : cX0_drawBelow.data.toList.drop 0 = dktX0_drawBelow_0 := by decide +kernel
theorem dksX0_drawBelow_1 : cX0_drawBelow.data.toList.drop 24 = dktX0_drawBelow_1 := dk_seg dksX0_drawBelow_0 24 rfl rfl
theorem dX0_drawBelow_0 : decode cX0_drawBelow 0 = .ok (.aload_n 0, 1) := dk_42 (dk_at dksX0_drawBelow_0 0 rfl rfl)
theorem dX0_drawBelow_1 : decode cX0_drawBelow 1 = .ok (.aload_n 0, 1) := dk_42 (dk_at dksX0_drawBelow_0 1 rfl rfl)
theorem dX0_drawBelow_2 : decode cX0_drawBelow 2 = .ok (.getfield 294, 3) := dk_180 1 38 (dk_at dksX0_drawBelow_0 2 rfl rfl)
theorem dX0_drawBelow_5 : decode cX0_drawBelow 5 = .ok (.ldc_w 297, 3) := dk_19 1 41 (dk_at dksX0_drawBelow_0 5 rfl rfl)
theorem dX0_drawBelow_8 : decode cX0_drawBelow 8 = .ok (.imul, 1) := dk_104 (dk_at dksX0_drawBelow_0 8 rfl rfl)
theorem dX0_drawBelow_9 : decode cX0_drawBelow 9 = .ok (.ldc_w 298, 3) := dk_19 1 42 (dk_at dksX0_drawBelow_0 9 rfl rfl)
theorem dX0_drawBelow_12 : decode cX0_drawBelow 12 = .ok (.iadd, 1) := dk_96 (dk_at dksX0_drawBelow_0 12 rfl rfl)
theorem dX0_drawBelow_13 : decode cX0_drawBelow 13 = .ok (.putfield 294, 3) := dk_181 1 38 (dk_at dksX0_drawBelow_0 13 rfl rfl)
theorem dX0_drawBelow_16 : decode cX0_drawBelow 16 = .ok (.aload_n 0, 1) := dk_42 (dk_at dksX0_drawBelow_0 16 rfl rfl)
theorem dX0_drawBelow_17 : decode cX0_drawBelow 17 = .ok (.getfield 294, 3) := dk_180 1 38 (dk_at dksX0_drawBelow_0 17 rfl rfl)
theorem dX0_drawBelow_20 : decode cX0_drawBelow 20 = .ok (.ldc_w 299, 3) := dk_19 1 43 (dk_at dksX0_drawBelow_0 20 rfl rfl)
theorem dX0_drawBelow_23 : decode cX0_drawBelow 23 = .ok (.iand, 1) := dk_126 (dk_at dksX0_drawBelow_0 23 rfl rfl)
theorem dX0_drawBelow_24 : decode cX0_drawBelow 24 = .ok (.sipush 256, 3) := dk_17 1 0 (dk_at dksX0_drawBelow_1 0 rfl rfl)
theorem dX0_drawBelow_27 : decode cX0_drawBelow 27 = .ok (.idiv, 1) := dk_108 (dk_at dksX0_drawBelow_1 3 rfl rfl)
theorem dX0_drawBelow_28 : decode cX0_drawBelow 28 = .ok (.iload_n 1, 1) := dk_27 (dk_at dksX0_drawBelow_1 4 rfl rfl)
theorem dX0_drawBelow_29 : decode cX0_drawBelow 29 = .ok (.irem, 1) := dk_112 (dk_at dksX0_drawBelow_1 5 rfl rfl)
theorem dX0_drawBelow_30 : decode cX0_drawBelow 30 = .ok (.ireturn, 1) := dk_172 (dk_at dksX0_drawBelow_1 6 rfl rfl)
abbrev cX0_refuse : ByteArray := prog_1_method_55_code
def yX0_refuse : MethodName := ⟨RX0, "refuse", "(I)I"⟩
def dkwX0_refuse_0 : List UInt8 := [27, 16, 236, 164, 0, 14, 42, 180, 0, 83, 27, 116, 92, 46, 4, 96, 79, 27, 172]
abbrev dktX0_refuse_0 : List UInt8 := dkwX0_refuse_0 ++ []
theorem dksX0_refuse_0 : cX0_refuse.data.toList.drop 0 = dktX0_refuse_0 := by decide +kernel
theorem dX0_refuse_0 : decode cX0_refuse 0 = .ok (.iload_n 1, 1) := dk_27 (dk_at dksX0_refuse_0 0 rfl rfl)
theorem dX0_refuse_1 : decode cX0_refuse 1 = .ok (.bipush (-20), 2) := dk_16 236 (dk_at dksX0_refuse_0 1 rfl rfl)
theorem dX0_refuse_3 : decode cX0_refuse 3 = .ok (.if_icmp .le 14, 3) := dk_164 0 14 (dk_at dksX0_refuse_0 3 rfl rfl)
theorem dX0_refuse_6 : decode cX0_refuse 6 = .ok (.aload_n 0, 1) := dk_42 (dk_at dksX0_refuse_0 6 rfl rfl)
theorem dX0_refuse_7 : decode cX0_refuse 7 = .ok (.getfield 83, 3) := dk_180 0 83 (dk_at dksX0_refuse_0 7 rfl rfl)
theorem dX0_refuse_10 : decode cX0_refuse 10 = .ok (.iload_n 1, 1) := dk_27 (dk_at dksX0_refuse_0 10 rfl rfl)
theorem dX0_refuse_11 : decode cX0_refuse 11 = .ok (.ineg, 1) := dk_116 (dk_at dksX0_refuse_0 11 rfl rfl)
theorem dX0_refuse_12 : decode cX0_refuse 12 = .ok (.dup2, 1) := dk_92 (dk_at dksX0_refuse_0 12 rfl rfl)
theorem dX0_refuse_13 : decode cX0_refuse 13 = .ok (.iaload, 1) := dk_46 (dk_at dksX0_refuse_0 13 rfl rfl)
theorem dX0_refuse_14 : decode cX0_refuse 14 = .ok (.iconst 1, 1) := dk_4 (dk_at dksX0_refuse_0 14 rfl rfl)
theorem dX0_refuse_15 : decode cX0_refuse 15 = .ok (.iadd, 1) := dk_96 (dk_at dksX0_refuse_0 15 rfl rfl)
theorem dX0_refuse_16 : decode cX0_refuse 16 = .ok (.iastore, 1) := dk_79 (dk_at dksX0_refuse_0 16 rfl rfl)
theorem dX0_refuse_17 : decode cX0_refuse 17 = .ok (.iload_n 1, 1) := dk_27 (dk_at dksX0_refuse_0 17 rfl rfl)
theorem dX0_refuse_18 : decode cX0_refuse 18 = .ok (.ireturn, 1) := dk_172 (dk_at dksX0_refuse_0 18 rfl rfl)
abbrev cX0_core : ByteArray := prog_1_method_90_code
def yX0_core : MethodName := ⟨RX0, "core", "()I"⟩
def dkwX0_core_0 : List UInt8 := [42, 4, 3, 3, 3, 182, 1, 236, 172]
abbrev dktX0_core_0 : List UInt8 := dkwX0_core_0 ++ []
theorem dksX0_core_0 : cX0_core.data.toList.drop 0 = dktX0_core_0 := by decide +kernel
theorem dX0_core_0 : decode cX0_core 0 = .ok (.aload_n 0, 1) := dk_42 (dk_at dksX0_core_0 0 rfl rfl)
theorem dX0_core_1 : decode cX0_core 1 = .ok (.iconst 1, 1) := dk_4 (dk_at dksX0_core_0 1 rfl rfl)
theorem dX0_core_2 : decode cX0_core 2 = .ok (.iconst 0, 1) := dk_3 (dk_at dksX0_core_0 2 rfl rfl)
theorem dX0_core_3 : decode cX0_core 3 = .ok (.iconst 0, 1) := dk_3 (dk_at dksX0_core_0 3 rfl rfl)
theorem dX0_core_4 : decode cX0_core 4 = .ok (.iconst 0, 1) := dk_3 (dk_at dksX0_core_0 4 rfl rfl)
theorem dX0_core_5 : decode cX0_core 5 = .ok (.invokevirtual 492, 3) := dk_182 1 236 (dk_at dksX0_core_0 5 rfl rfl)
theorem dX0_core_8 : decode cX0_core 8 = .ok (.ireturn, 1) := dk_172 (dk_at dksX0_core_0 8 rfl rfl)
abbrev cX0_cell : ByteArray := prog_1_method_91_code
def yX0_cell : MethodName := ⟨RX0, "cell", "(II)I"⟩
def dkwX0_cell_0 : List UInt8 := [42, 5, 27, 28, 3, 182, 1, 236, 172]
abbrev dktX0_cell_0 : List UInt8 := dkwX0_cell_0 ++ []
theorem dksX0_cell_0 : cX0_cell.data.toList.drop 0 = dktX0_cell_0 := by decide +kernel
theorem dX0_cell_0 : decode cX0_cell 0 = .ok (.aload_n 0, 1) := dk_42 (dk_at dksX0_cell_0 0 rfl rfl)
theorem dX0_cell_1 : decode cX0_cell 1 = .ok (.iconst 2, 1) := dk_5 (dk_at dksX0_cell_0 1 rfl rfl)
theorem dX0_cell_2 : decode cX0_cell 2 = .ok (.iload_n 1, 1) := dk_27 (dk_at dksX0_cell_0 2 rfl rfl)
theorem dX0_cell_3 : decode cX0_cell 3 = .ok (.iload_n 2, 1) := dk_28 (dk_at dksX0_cell_0 3 rfl rfl)
theorem dX0_cell_4 : decode cX0_cell 4 = .ok (.iconst 0, 1) := dk_3 (dk_at dksX0_cell_0 4 rfl rfl)
theorem dX0_cell_5 : decode cX0_cell 5 = .ok (.invokevirtual 492, 3) := dk_182 1 236 (dk_at dksX0_cell_0 5 rfl rfl)
theorem dX0_cell_8 : decode cX0_cell 8 = .ok (.ireturn, 1) := dk_172 (dk_at dksX0_cell_0 8 rfl rfl)
abbrev cX0_heir : ByteArray := prog_1_method_92_code
def yX0_heir : MethodName := ⟨RX0, "heir", "(II)I"⟩
def dkwX0_heir_0 : List UInt8 := [42, 6, 27, 28, 3, 182, 1, 236, 172]
abbrev dktX0_heir_0 : List UInt8 := dkwX0_heir_0 ++ []
theorem dksX0_heir_0 : cX0_heir.data.toList.drop 0 = dktX0_heir_0 := by decide +kernel
theorem dX0_heir_0 : decode cX0_heir 0 = .ok (.aload_n 0, 1) := dk_42 (dk_at dksX0_heir_0 0 rfl rfl)
theorem dX0_heir_1 : decode cX0_heir 1 = .ok (.iconst 3, 1) := dk_6 (dk_at dksX0_heir_0 1 rfl rfl)
theorem dX0_heir_2 : decode cX0_heir 2 = .ok (.iload_n 1, 1) := dk_27 (dk_at dksX0_heir_0 2 rfl rfl)
theorem dX0_heir_3 : decode cX0_heir 3 = .ok (.iload_n 2, 1) := dk_28 (dk_at dksX0_heir_0 3 rfl rfl)
theorem dX0_heir_4 : decode cX0_heir 4 = .ok (.iconst 0, 1) := dk_3 (dk_at dksX0_heir_0 4 rfl rfl)
theorem dX0_heir_5 : decode cX0_heir 5 = .ok (.invokevirtual 492, 3) := dk_182 1 236 (dk_at dksX0_heir_0 5 rfl rfl)
theorem dX0_heir_8 : decode cX0_heir 8 = .ok (.ireturn, 1) := dk_172 (dk_at dksX0_heir_0 8 rfl rfl)
abbrev cX0_bites : ByteArray := prog_1_method_93_code
def yX0_bites : MethodName := ⟨RX0, "bites", "(II)I"⟩
def dkwX0_bites_0 : List UInt8 := [42, 7, 27, 28, 3, 182, 1, 236, 172]
abbrev dktX0_bites_0 : List UInt8 := dkwX0_bites_0 ++ []
theorem dksX0_bites_0 : cX0_bites.data.toList.drop 0 = dktX0_bites_0 := by decide +kernel
theorem dX0_bites_0 : decode cX0_bites 0 = .ok (.aload_n 0, 1) := dk_42 (dk_at dksX0_bites_0 0 rfl rfl)
theorem dX0_bites_1 : decode cX0_bites 1 = .ok (.iconst 4, 1) := dk_7 (dk_at dksX0_bites_0 1 rfl rfl)
theorem dX0_bites_2 : decode cX0_bites 2 = .ok (.iload_n 1, 1) := dk_27 (dk_at dksX0_bites_0 2 rfl rfl)
theorem dX0_bites_3 : decode cX0_bites 3 = .ok (.iload_n 2, 1) := dk_28 (dk_at dksX0_bites_0 3 rfl rfl)
theorem dX0_bites_4 : decode cX0_bites 4 = .ok (.iconst 0, 1) := dk_3 (dk_at dksX0_bites_0 4 rfl rfl)
theorem dX0_bites_5 : decode cX0_bites 5 = .ok (.invokevirtual 492, 3) := dk_182 1 236 (dk_at dksX0_bites_0 5 rfl rfl)
theorem dX0_bites_8 : decode cX0_bites 8 = .ok (.ireturn, 1) := dk_172 (dk_at dksX0_bites_0 8 rfl rfl)
abbrev cX0_heals : ByteArray := prog_1_method_94_code
def yX0_heals : MethodName := ⟨RX0, "heals", "(I)I"⟩
def dkwX0_heals_0 : List UInt8 := [42, 8, 27, 3, 3, 182, 1, 236, 172]
abbrev dktX0_heals_0 : List UInt8 := dkwX0_heals_0 ++ []
theorem dksX0_heals_0 : cX0_heals.data.toList.drop 0 = dktX0_heals_0 := by decide +kernel
theorem dX0_heals_0 : decode cX0_heals 0 = .ok (.aload_n 0, 1) := dk_42 (dk_at dksX0_heals_0 0 rfl rfl)
theorem dX0_heals_1 : decode cX0_heals 1 = .ok (.iconst 5, 1) := dk_8 (dk_at dksX0_heals_0 1 rfl rfl)
theorem dX0_heals_2 : decode cX0_heals 2 = .ok (.iload_n 1, 1) := dk_27 (dk_at dksX0_heals_0 2 rfl rfl)
theorem dX0_heals_3 : decode cX0_heals 3 = .ok (.iconst 0, 1) := dk_3 (dk_at dksX0_heals_0 3 rfl rfl)
theorem dX0_heals_4 : decode cX0_heals 4 = .ok (.iconst 0, 1) := dk_3 (dk_at dksX0_heals_0 4 rfl rfl)
theorem dX0_heals_5 : decode cX0_heals 5 = .ok (.invokevirtual 492, 3) := dk_182 1 236 (dk_at dksX0_heals_0 5 rfl rfl)
theorem dX0_heals_8 : decode cX0_heals 8 = .ok (.ireturn, 1) := dk_172 (dk_at dksX0_heals_0 8 rfl rfl)
abbrev cX0_rolls : ByteArray := prog_1_method_95_code
def yX0_rolls : MethodName := ⟨RX0, "rolls", "(I)I"⟩
def dkwX0_rolls_0 : List UInt8 := [42, 16, 6, 27, 3, 3, 182, 1, 236, 172]
abbrev dktX0_rolls_0 : List UInt8 := dkwX0_rolls_0 ++ []
theorem dksX0_rolls_0 : cX0_rolls.data.toList.drop 0 = dktX0_rolls_0 := by decide +kernel
theorem dX0_rolls_0 : decode cX0_rolls 0 = .ok (.aload_n 0, 1) := dk_42 (dk_at dksX0_rolls_0 0 rfl rfl)
theorem dX0_rolls_1 : decode cX0_rolls 1 = .ok (.bipush 6, 2) := dk_16 6 (dk_at dksX0_rolls_0 1 rfl rfl)
theorem dX0_rolls_3 : decode cX0_rolls 3 = .ok (.iload_n 1, 1) := dk_27 (dk_at dksX0_rolls_0 3 rfl rfl)
theorem dX0_rolls_4 : decode cX0_rolls 4 = .ok (.iconst 0, 1) := dk_3 (dk_at dksX0_rolls_0 4 rfl rfl)
theorem dX0_rolls_5 : decode cX0_rolls 5 = .ok (.iconst 0, 1) := dk_3 (dk_at dksX0_rolls_0 5 rfl rfl)
theorem dX0_rolls_6 : decode cX0_rolls 6 = .ok (.invokevirtual 492, 3) := dk_182 1 236 (dk_at dksX0_rolls_0 6 rfl rfl)
theorem dX0_rolls_9 : decode cX0_rolls 9 = .ok (.ireturn, 1) := dk_172 (dk_at dksX0_rolls_0 9 rfl rfl)
abbrev cX0_turn : ByteArray := prog_1_method_96_code
def yX0_turn : MethodName := ⟨RX0, "turn", "(III)I"⟩
def dkwX0_turn_0 : List UInt8 := [42, 16, 7, 27, 28, 29, 182, 1, 236, 172]
abbrev dktX0_turn_0 : List UInt8 := dkwX0_turn_0 ++ []
theorem dksX0_turn_0 : cX0_turn.data.toList.drop 0 = dktX0_turn_0 := by decide +kernel
theorem dX0_turn_0 : decode cX0_turn 0 = .ok (.aload_n 0, 1) := dk_42 (dk_at dksX0_turn_0 0 rfl rfl)
theorem dX0_turn_1 : decode cX0_turn 1 = .ok (.bipush 7, 2) := dk_16 7 (dk_at dksX0_turn_0 1 rfl rfl)
theorem dX0_turn_3 : decode cX0_turn 3 = .ok (.iload_n 1, 1) := dk_27 (dk_at dksX0_turn_0 3 rfl rfl)
theorem dX0_turn_4 : decode cX0_turn 4 = .ok (.iload_n 2, 1) := dk_28 (dk_at dksX0_turn_0 4 rfl rfl)
theorem dX0_turn_5 : decode cX0_turn 5 = .ok (.iload_n 3, 1) := dk_29 (dk_at dksX0_turn_0 5 rfl rfl)
theorem dX0_turn_6 : decode cX0_turn 6 = .ok (.invokevirtual 492, 3) := dk_182 1 236 (dk_at dksX0_turn_0 6 rfl rfl)
theorem dX0_turn_9 : decode cX0_turn 9 = .ok (.ireturn, 1) := dk_172 (dk_at dksX0_turn_0 9 rfl rfl)
abbrev cX0_anew : ByteArray := prog_1_method_97_code
def yX0_anew : MethodName := ⟨RX0, "anew", "()I"⟩
def dkwX0_anew_0 : List UInt8 := [42, 16, 8, 3, 3, 3, 182, 1, 236, 172]
abbrev dktX0_anew_0 : List UInt8 := dkwX0_anew_0 ++ []
theorem dksX0_anew_0 : cX0_anew.data.toList.drop 0 = dktX0_anew_0 := by decide +kernel
theorem dX0_anew_0 : decode cX0_anew 0 = .ok (.aload_n 0, 1) := dk_42 (dk_at dksX0_anew_0 0 rfl rfl)
theorem dX0_anew_1 : decode cX0_anew 1 = .ok (.bipush 8, 2) := dk_16 8 (dk_at dksX0_anew_0 1 rfl rfl)
theorem dX0_anew_3 : decode cX0_anew 3 = .ok (.iconst 0, 1) := dk_3 (dk_at dksX0_anew_0 3 rfl rfl)
theorem dX0_anew_4 : decode cX0_anew 4 = .ok (.iconst 0, 1) := dk_3 (dk_at dksX0_anew_0 4 rfl rfl)
theorem dX0_anew_5 : decode cX0_anew 5 = .ok (.iconst 0, 1) := dk_3 (dk_at dksX0_anew_0 5 rfl rfl)
theorem dX0_anew_6 : decode cX0_anew 6 = .ok (.invokevirtual 492, 3) := dk_182 1 236 (dk_at dksX0_anew_0 6 rfl rfl)
theorem dX0_anew_9 : decode cX0_anew 9 = .ok (.ireturn, 1) := dk_172 (dk_at dksX0_anew_0 9 rfl rfl)
abbrev cX0_shares : ByteArray := prog_1_method_98_code
def yX0_shares : MethodName := ⟨RX0, "shares", "(I)I"⟩
def dkwX0_shares_0 : List UInt8 := [42, 16, 9, 27, 3, 3, 182, 1, 236, 172]
abbrev dktX0_shares_0 : List UInt8 := dkwX0_shares_0 ++ []
theorem dksX0_shares_0 : cX0_shares.data.toList.drop 0 = dktX0_shares_0 := by decide +kernel
theorem dX0_shares_0 : decode cX0_shares 0 = .ok (.aload_n 0, 1) := dk_42 (dk_at dksX0_shares_0 0 rfl rfl)
theorem dX0_shares_1 : decode cX0_shares 1 = .ok (.bipush 9, 2) := dk_16 9 (dk_at dksX0_shares_0 1 rfl rfl)
theorem dX0_shares_3 : decode cX0_shares 3 = .ok (.iload_n 1, 1) := dk_27 (dk_at dksX0_shares_0 3 rfl rfl)
theorem dX0_shares_4 : decode cX0_shares 4 = .ok (.iconst 0, 1) := dk_3 (dk_at dksX0_shares_0 4 rfl rfl)
theorem dX0_shares_5 : decode cX0_shares 5 = .ok (.iconst 0, 1) := dk_3 (dk_at dksX0_shares_0 5 rfl rfl)
theorem dX0_shares_6 : decode cX0_shares 6 = .ok (.invokevirtual 492, 3) := dk_182 1 236 (dk_at dksX0_shares_0 6 rfl rfl)
theorem dX0_shares_9 : decode cX0_shares 9 = .ok (.ireturn, 1) := dk_172 (dk_at dksX0_shares_0 9 rfl rfl)
abbrev cX0_pieces : ByteArray := prog_1_method_99_code
def yX0_pieces : MethodName := ⟨RX0, "pieces", "(I)I"⟩
def dkwX0_pieces_0 : List UInt8 := [42, 16, 10, 27, 3, 3, 182, 1, 236, 172]
abbrev dktX0_pieces_0 : List UInt8 := dkwX0_pieces_0 ++ []
theorem dksX0_pieces_0 : cX0_pieces.data.toList.drop 0 = dktX0_pieces_0 := by decide +kernel
theorem dX0_pieces_0 : decode cX0_pieces 0 = .ok (.aload_n 0, 1) := dk_42 (dk_at dksX0_pieces_0 0 rfl rfl)
theorem dX0_pieces_1 : decode cX0_pieces 1 = .ok (.bipush 10, 2) := dk_16 10 (dk_at dksX0_pieces_0 1 rfl rfl)
theorem dX0_pieces_3 : decode cX0_pieces 3 = .ok (.iload_n 1, 1) := dk_27 (dk_at dksX0_pieces_0 3 rfl rfl)
theorem dX0_pieces_4 : decode cX0_pieces 4 = .ok (.iconst 0, 1) := dk_3 (dk_at dksX0_pieces_0 4 rfl rfl)
theorem dX0_pieces_5 : decode cX0_pieces 5 = .ok (.iconst 0, 1) := dk_3 (dk_at dksX0_pieces_0 5 rfl rfl)
theorem dX0_pieces_6 : decode cX0_pieces 6 = .ok (.invokevirtual 492, 3) := dk_182 1 236 (dk_at dksX0_pieces_0 6 rfl rfl)
theorem dX0_pieces_9 : decode cX0_pieces 9 = .ok (.ireturn, 1) := dk_172 (dk_at dksX0_pieces_0 9 rfl rfl)
abbrev cX0_edge : ByteArray := prog_1_method_100_code
def yX0_edge : MethodName := ⟨RX0, "edge", "(I)I"⟩
def dkwX0_edge_0 : List UInt8 := [42, 16, 11, 27, 3, 3, 182, 1, 236, 172]
abbrev dktX0_edge_0 : List UInt8 := dkwX0_edge_0 ++ []
theorem dksX0_edge_0 : cX0_edge.data.toList.drop 0 = dktX0_edge_0 := by decide +kernel
theorem dX0_edge_0 : decode cX0_edge 0 = .ok (.aload_n 0, 1) := dk_42 (dk_at dksX0_edge_0 0 rfl rfl)
theorem dX0_edge_1 : decode cX0_edge 1 = .ok (.bipush 11, 2) := dk_16 11 (dk_at dksX0_edge_0 1 rfl rfl)
theorem dX0_edge_3 : decode cX0_edge 3 = .ok (.iload_n 1, 1) := dk_27 (dk_at dksX0_edge_0 3 rfl rfl)
theorem dX0_edge_4 : decode cX0_edge 4 = .ok (.iconst 0, 1) := dk_3 (dk_at dksX0_edge_0 4 rfl rfl)
theorem dX0_edge_5 : decode cX0_edge 5 = .ok (.iconst 0, 1) := dk_3 (dk_at dksX0_edge_0 5 rfl rfl)
theorem dX0_edge_6 : decode cX0_edge 6 = .ok (.invokevirtual 492, 3) := dk_182 1 236 (dk_at dksX0_edge_0 6 rfl rfl)
theorem dX0_edge_9 : decode cX0_edge 9 = .ok (.ireturn, 1) := dk_172 (dk_at dksX0_edge_0 9 rfl rfl)
abbrev cX0_best : ByteArray := prog_1_method_101_code
def yX0_best : MethodName := ⟨RX0, "best", "(II)I"⟩
def dkwX0_best_0 : List UInt8 := [42, 16, 12, 27, 28, 3, 182, 1, 236, 172]
abbrev dktX0_best_0 : List UInt8 := dkwX0_best_0 ++ []
theorem dksX0_best_0 : cX0_best.data.toList.drop 0 = dktX0_best_0 := by decide +kernel
theorem dX0_best_0 : decode cX0_best 0 = .ok (.aload_n 0, 1) := dk_42 (dk_at dksX0_best_0 0 rfl rfl)
theorem dX0_best_1 : decode cX0_best 1 = .ok (.bipush 12, 2) := dk_16 12 (dk_at dksX0_best_0 1 rfl rfl)
theorem dX0_best_3 : decode cX0_best 3 = .ok (.iload_n 1, 1) := dk_27 (dk_at dksX0_best_0 3 rfl rfl)
theorem dX0_best_4 : decode cX0_best 4 = .ok (.iload_n 2, 1) := dk_28 (dk_at dksX0_best_0 4 rfl rfl)
theorem dX0_best_5 : decode cX0_best 5 = .ok (.iconst 0, 1) := dk_3 (dk_at dksX0_best_0 5 rfl rfl)
theorem dX0_best_6 : decode cX0_best 6 = .ok (.invokevirtual 492, 3) := dk_182 1 236 (dk_at dksX0_best_0 6 rfl rfl)
theorem dX0_best_9 : decode cX0_best 9 = .ok (.ireturn, 1) := dk_172 (dk_at dksX0_best_0 9 rfl rfl)
abbrev cX0_worst : ByteArray := prog_1_method_102_code
def yX0_worst : MethodName := ⟨RX0, "worst", "(II)I"⟩
def dkwX0_worst_0 : List UInt8 := [42, 16, 13, 27, 28, 3, 182, 1, 236, 172]
abbrev dktX0_worst_0 : List UInt8 := dkwX0_worst_0 ++ []
theorem dksX0_worst_0 : cX0_worst.data.toList.drop 0 = dktX0_worst_0 := by decide +kernel
theorem dX0_worst_0 : decode cX0_worst 0 = .ok (.aload_n 0, 1) := dk_42 (dk_at dksX0_worst_0 0 rfl rfl)
theorem dX0_worst_1 : decode cX0_worst 1 = .ok (.bipush 13, 2) := dk_16 13 (dk_at dksX0_worst_0 1 rfl rfl)
theorem dX0_worst_3 : decode cX0_worst 3 = .ok (.iload_n 1, 1) := dk_27 (dk_at dksX0_worst_0 3 rfl rfl)
theorem dX0_worst_4 : decode cX0_worst 4 = .ok (.iload_n 2, 1) := dk_28 (dk_at dksX0_worst_0 4 rfl rfl)
theorem dX0_worst_5 : decode cX0_worst 5 = .ok (.iconst 0, 1) := dk_3 (dk_at dksX0_worst_0 5 rfl rfl)
theorem dX0_worst_6 : decode cX0_worst 6 = .ok (.invokevirtual 492, 3) := dk_182 1 236 (dk_at dksX0_worst_0 6 rfl rfl)
theorem dX0_worst_9 : decode cX0_worst 9 = .ok (.ireturn, 1) := dk_172 (dk_at dksX0_worst_0 9 rfl rfl)
abbrev cX0_fewest : ByteArray := prog_1_method_103_code
def yX0_fewest : MethodName := ⟨RX0, "fewest", "(III)I"⟩
def dkwX0_fewest_0 : List UInt8 := [42, 16, 14, 27, 28, 29, 182, 1, 236, 172]
abbrev dktX0_fewest_0 : List UInt8 := dkwX0_fewest_0 ++ []
theorem dksX0_fewest_0 : cX0_fewest.data.toList.drop 0 = dktX0_fewest_0 := by decide +kernel
theorem dX0_fewest_0 : decode cX0_fewest 0 = .ok (.aload_n 0, 1) := dk_42 (dk_at dksX0_fewest_0 0 rfl rfl)
theorem dX0_fewest_1 : decode cX0_fewest 1 = .ok (.bipush 14, 2) := dk_16 14 (dk_at dksX0_fewest_0 1 rfl rfl)
theorem dX0_fewest_3 : decode cX0_fewest 3 = .ok (.iload_n 1, 1) := dk_27 (dk_at dksX0_fewest_0 3 rfl rfl)
theorem dX0_fewest_4 : decode cX0_fewest 4 = .ok (.iload_n 2, 1) := dk_28 (dk_at dksX0_fewest_0 4 rfl rfl)
theorem dX0_fewest_5 : decode cX0_fewest 5 = .ok (.iload_n 3, 1) := dk_29 (dk_at dksX0_fewest_0 5 rfl rfl)
theorem dX0_fewest_6 : decode cX0_fewest 6 = .ok (.invokevirtual 492, 3) := dk_182 1 236 (dk_at dksX0_fewest_0 6 rfl rfl)
theorem dX0_fewest_9 : decode cX0_fewest 9 = .ok (.ireturn, 1) := dk_172 (dk_at dksX0_fewest_0 9 rfl rfl)
abbrev cX0_safe : ByteArray := prog_1_method_104_code
def yX0_safe : MethodName := ⟨RX0, "safe", "()I"⟩
def dkwX0_safe_0 : List UInt8 := [42, 16, 15, 3, 3, 3, 182, 1, 236, 172]
abbrev dktX0_safe_0 : List UInt8 := dkwX0_safe_0 ++ []
theorem dksX0_safe_0 : cX0_safe.data.toList.drop 0 = dktX0_safe_0 := by decide +kernel
theorem dX0_safe_0 : decode cX0_safe 0 = .ok (.aload_n 0, 1) := dk_42 (dk_at dksX0_safe_0 0 rfl rfl)
theorem dX0_safe_1 : decode cX0_safe 1 = .ok (.bipush 15, 2) := dk_16 15 (dk_at dksX0_safe_0 1 rfl rfl)
theorem dX0_safe_3 : decode cX0_safe 3 = .ok (.iconst 0, 1) := dk_3 (dk_at dksX0_safe_0 3 rfl rfl)
theorem dX0_safe_4 : decode cX0_safe 4 = .ok (.iconst 0, 1) := dk_3 (dk_at dksX0_safe_0 4 rfl rfl)
theorem dX0_safe_5 : decode cX0_safe 5 = .ok (.iconst 0, 1) := dk_3 (dk_at dksX0_safe_0 5 rfl rfl)
theorem dX0_safe_6 : decode cX0_safe 6 = .ok (.invokevirtual 492, 3) := dk_182 1 236 (dk_at dksX0_safe_0 6 rfl rfl)
theorem dX0_safe_9 : decode cX0_safe 9 = .ok (.ireturn, 1) := dk_172 (dk_at dksX0_safe_0 9 rfl rfl)
abbrev cX0_can : ByteArray := prog_1_method_105_code
def yX0_can : MethodName := ⟨RX0, "can", "(I)I"⟩
def dkwX0_can_0 : List UInt8 := [42, 16, 16, 27, 3, 3, 182, 1, 236, 172]
abbrev dktX0_can_0 : List UInt8 := dkwX0_can_0 ++ []
theorem dksX0_can_0 : cX0_can.data.toList.drop 0 = dktX0_can_0 := by decide +kernel
theorem dX0_can_0 : decode cX0_can 0 = .ok (.aload_n 0, 1) := dk_42 (dk_at dksX0_can_0 0 rfl rfl)
theorem dX0_can_1 : decode cX0_can 1 = .ok (.bipush 16, 2) := dk_16 16 (dk_at dksX0_can_0 1 rfl rfl)
theorem dX0_can_3 : decode cX0_can 3 = .ok (.iload_n 1, 1) := dk_27 (dk_at dksX0_can_0 3 rfl rfl)
theorem dX0_can_4 : decode cX0_can 4 = .ok (.iconst 0, 1) := dk_3 (dk_at dksX0_can_0 4 rfl rfl)
theorem dX0_can_5 : decode cX0_can 5 = .ok (.iconst 0, 1) := dk_3 (dk_at dksX0_can_0 5 rfl rfl)
theorem dX0_can_6 : decode cX0_can 6 = .ok (.invokevirtual 492, 3) := dk_182 1 236 (dk_at dksX0_can_0 6 rfl rfl)
theorem dX0_can_9 : decode cX0_can 9 = .ok (.ireturn, 1) := dk_172 (dk_at dksX0_can_0 9 rfl rfl)
abbrev cX0_ways : ByteArray := prog_1_method_106_code
def yX0_ways : MethodName := ⟨RX0, "ways", "(I)I"⟩
def dkwX0_ways_0 : List UInt8 := [42, 16, 17, 27, 3, 3, 182, 1, 236, 172]
abbrev dktX0_ways_0 : List UInt8 := dkwX0_ways_0 ++ []
theorem dksX0_ways_0 : cX0_ways.data.toList.drop 0 = dktX0_ways_0 := by decide +kernel
theorem dX0_ways_0 : decode cX0_ways 0 = .ok (.aload_n 0, 1) := dk_42 (dk_at dksX0_ways_0 0 rfl rfl)
theorem dX0_ways_1 : decode cX0_ways 1 = .ok (.bipush 17, 2) := dk_16 17 (dk_at dksX0_ways_0 1 rfl rfl)
theorem dX0_ways_3 : decode cX0_ways 3 = .ok (.iload_n 1, 1) := dk_27 (dk_at dksX0_ways_0 3 rfl rfl)
theorem dX0_ways_4 : decode cX0_ways 4 = .ok (.iconst 0, 1) := dk_3 (dk_at dksX0_ways_0 4 rfl rfl)
theorem dX0_ways_5 : decode cX0_ways 5 = .ok (.iconst 0, 1) := dk_3 (dk_at dksX0_ways_0 5 rfl rfl)
theorem dX0_ways_6 : decode cX0_ways 6 = .ok (.invokevirtual 492, 3) := dk_182 1 236 (dk_at dksX0_ways_0 6 rfl rfl)
theorem dX0_ways_9 : decode cX0_ways 9 = .ok (.ireturn, 1) := dk_172 (dk_at dksX0_ways_0 9 rfl rfl)
abbrev cX0_alike : ByteArray := prog_1_method_107_code
def yX0_alike : MethodName := ⟨RX0, "alike", "(I)I"⟩
def dkwX0_alike_0 : List UInt8 := [42, 16, 18, 27, 3, 3, 182, 1, 236, 172]
abbrev dktX0_alike_0 : List UInt8 := dkwX0_alike_0 ++ []
theorem dksX0_alike_0 : cX0_alike.data.toList.drop 0 = dktX0_alike_0 := by decide +kernel
theorem dX0_alike_0 : decode cX0_alike 0 = .ok (.aload_n 0, 1) := dk_42 (dk_at dksX0_alike_0 0 rfl rfl)
theorem dX0_alike_1 : decode cX0_alike 1 = .ok (.bipush 18, 2) := dk_16 18 (dk_at dksX0_alike_0 1 rfl rfl)
theorem dX0_alike_3 : decode cX0_alike 3 = .ok (.iload_n 1, 1) := dk_27 (dk_at dksX0_alike_0 3 rfl rfl)
theorem dX0_alike_4 : decode cX0_alike 4 = .ok (.iconst 0, 1) := dk_3 (dk_at dksX0_alike_0 4 rfl rfl)
theorem dX0_alike_5 : decode cX0_alike 5 = .ok (.iconst 0, 1) := dk_3 (dk_at dksX0_alike_0 5 rfl rfl)
theorem dX0_alike_6 : decode cX0_alike 6 = .ok (.invokevirtual 492, 3) := dk_182 1 236 (dk_at dksX0_alike_0 6 rfl rfl)
theorem dX0_alike_9 : decode cX0_alike 9 = .ok (.ireturn, 1) := dk_172 (dk_at dksX0_alike_0 9 rfl rfl)
abbrev cX0_settles : ByteArray := prog_1_method_108_code
def yX0_settles : MethodName := ⟨RX0, "settles", "(I)I"⟩
def dkwX0_settles_0 : List UInt8 := [42, 16, 19, 27, 3, 3, 182, 1, 236, 172]
abbrev dktX0_settles_0 : List UInt8 := dkwX0_settles_0 ++ []
theorem dksX0_settles_0 : cX0_settles.data.toList.drop 0 = dktX0_settles_0 := by decide +kernel
theorem dX0_settles_0 : decode cX0_settles 0 = .ok (.aload_n 0, 1) := dk_42 (dk_at dksX0_settles_0 0 rfl rfl)
theorem dX0_settles_1 : decode cX0_settles 1 = .ok (.bipush 19, 2) := dk_16 19 (dk_at dksX0_settles_0 1 rfl rfl)
theorem dX0_settles_3 : decode cX0_settles 3 = .ok (.iload_n 1, 1) := dk_27 (dk_at dksX0_settles_0 3 rfl rfl)
theorem dX0_settles_4 : decode cX0_settles 4 = .ok (.iconst 0, 1) := dk_3 (dk_at dksX0_settles_0 4 rfl rfl)
theorem dX0_settles_5 : decode cX0_settles 5 = .ok (.iconst 0, 1) := dk_3 (dk_at dksX0_settles_0 5 rfl rfl)
theorem dX0_settles_6 : decode cX0_settles 6 = .ok (.invokevirtual 492, 3) := dk_182 1 236 (dk_at dksX0_settles_0 6 rfl rfl)
theorem dX0_settles_9 : decode cX0_settles 9 = .ok (.ireturn, 1) := dk_172 (dk_at dksX0_settles_0 9 rfl rfl)
abbrev cX0_pips : ByteArray := prog_1_method_109_code
def yX0_pips : MethodName := ⟨RX0, "pips", "(I)I"⟩
def dkwX0_pips_0 : List UInt8 := [42, 16, 20, 27, 3, 3, 182, 1, 236, 172]
abbrev dktX0_pips_0 : List UInt8 := dkwX0_pips_0 ++ []
theorem dksX0_pips_0 : cX0_pips.data.toList.drop 0 = dktX0_pips_0 := by decide +kernel
theorem dX0_pips_0 : decode cX0_pips 0 = .ok (.aload_n 0, 1) := dk_42 (dk_at dksX0_pips_0 0 rfl rfl)
theorem dX0_pips_1 : decode cX0_pips 1 = .ok (.bipush 20, 2) := dk_16 20 (dk_at dksX0_pips_0 1 rfl rfl)
theorem dX0_pips_3 : decode cX0_pips 3 = .ok (.iload_n 1, 1) := dk_27 (dk_at dksX0_pips_0 3 rfl rfl)
theorem dX0_pips_4 : decode cX0_pips 4 = .ok (.iconst 0, 1) := dk_3 (dk_at dksX0_pips_0 4 rfl rfl)
theorem dX0_pips_5 : decode cX0_pips 5 = .ok (.iconst 0, 1) := dk_3 (dk_at dksX0_pips_0 5 rfl rfl)
theorem dX0_pips_6 : decode cX0_pips 6 = .ok (.invokevirtual 492, 3) := dk_182 1 236 (dk_at dksX0_pips_0 6 rfl rfl)
theorem dX0_pips_9 : decode cX0_pips 9 = .ok (.ireturn, 1) := dk_172 (dk_at dksX0_pips_0 9 rfl rfl)
abbrev cX0_grudge : ByteArray := prog_1_method_110_code
def yX0_grudge : MethodName := ⟨RX0, "grudge", "(I)I"⟩
def dkwX0_grudge_0 : List UInt8 := [42, 16, 21, 27, 3, 3, 182, 1, 236, 172]
abbrev dktX0_grudge_0 : List UInt8 := dkwX0_grudge_0 ++ []
theorem dksX0_grudge_0 : cX0_grudge.data.toList.drop 0 = dktX0_grudge_0 := by decide +kernel
theorem dX0_grudge_0 : decode cX0_grudge 0 = .ok (.aload_n 0, 1) := dk_42 (dk_at dksX0_grudge_0 0 rfl rfl)
theorem dX0_grudge_1 : decode cX0_grudge 1 = .ok (.bipush 21, 2) := dk_16 21 (dk_at dksX0_grudge_0 1 rfl rfl)
theorem dX0_grudge_3 : decode cX0_grudge 3 = .ok (.iload_n 1, 1) := dk_27 (dk_at dksX0_grudge_0 3 rfl rfl)
theorem dX0_grudge_4 : decode cX0_grudge 4 = .ok (.iconst 0, 1) := dk_3 (dk_at dksX0_grudge_0 4 rfl rfl)
theorem dX0_grudge_5 : decode cX0_grudge 5 = .ok (.iconst 0, 1) := dk_3 (dk_at dksX0_grudge_0 5 rfl rfl)
theorem dX0_grudge_6 : decode cX0_grudge 6 = .ok (.invokevirtual 492, 3) := dk_182 1 236 (dk_at dksX0_grudge_0 6 rfl rfl)
theorem dX0_grudge_9 : decode cX0_grudge 9 = .ok (.ireturn, 1) := dk_172 (dk_at dksX0_grudge_0 9 rfl rfl)
abbrev cX0_gain : ByteArray := prog_1_method_111_code
def yX0_gain : MethodName := ⟨RX0, "gain", "(II)I"⟩
def dkwX0_gain_0 : List UInt8 := [42, 16, 22, 27, 28, 3, 182, 1, 239, 172]
abbrev dktX0_gain_0 : List UInt8 := dkwX0_gain_0 ++ []
theorem dksX0_gain_0 : cX0_gain.data.toList.drop 0 = dktX0_gain_0 := by decide +kernel
theorem dX0_gain_0 : decode cX0_gain 0 = .ok (.aload_n 0, 1) := dk_42 (dk_at dksX0_gain_0 0 rfl rfl)
theorem dX0_gain_1 : decode cX0_gain 1 = .ok (.bipush 22, 2) := dk_16 22 (dk_at dksX0_gain_0 1 rfl rfl)
theorem dX0_gain_3 : decode cX0_gain 3 = .ok (.iload_n 1, 1) := dk_27 (dk_at dksX0_gain_0 3 rfl rfl)
theorem dX0_gain_4 : decode cX0_gain 4 = .ok (.iload_n 2, 1) := dk_28 (dk_at dksX0_gain_0 4 rfl rfl)
theorem dX0_gain_5 : decode cX0_gain 5 = .ok (.iconst 0, 1) := dk_3 (dk_at dksX0_gain_0 5 rfl rfl)
theorem dX0_gain_6 : decode cX0_gain 6 = .ok (.invokevirtual 495, 3) := dk_182 1 239 (dk_at dksX0_gain_0 6 rfl rfl)
theorem dX0_gain_9 : decode cX0_gain 9 = .ok (.ireturn, 1) := dk_172 (dk_at dksX0_gain_0 9 rfl rfl)
abbrev cX0_actFar : ByteArray := prog_1_method_58_code
def yX0_actFar : MethodName := ⟨RX0, "actFar", "(IIII)I"⟩
def dkwX0_actFar_1 : List UInt8 := [172]
abbrev dktX0_actFar_1 : List UInt8 := dkwX0_actFar_1 ++ []
def dkwX0_actFar_0 : List UInt8 := [42, 27, 28, 29, 21, 4, 182, 1, 60, 172, 58, 5, 18, 243, 42, 25, 5, 182, 1, 65, 182, 1, 68, 100]
abbrev dktX0_actFar_0 : List UInt8 := dkwX0_actFar_0 ++ dktX0_actFar_1
theorem dksX0_actFar_0 : cX0_actFar.data.toList.drop 0 = dktX0_actFar_0 := by decide +kernel
theorem dksX0_actFar_1 : cX0_actFar.data.toList.drop 24 = dktX0_actFar_1 := dk_seg dksX0_actFar_0 24 rfl rfl
theorem dX0_actFar_0 : decode cX0_actFar 0 = .ok (.aload_n 0, 1) := dk_42 (dk_at dksX0_actFar_0 0 rfl rfl)
theorem dX0_actFar_1 : decode cX0_actFar 1 = .ok (.iload_n 1, 1) := dk_27 (dk_at dksX0_actFar_0 1 rfl rfl)
theorem dX0_actFar_2 : decode cX0_actFar 2 = .ok (.iload_n 2, 1) := dk_28 (dk_at dksX0_actFar_0 2 rfl rfl)
theorem dX0_actFar_3 : decode cX0_actFar 3 = .ok (.iload_n 3, 1) := dk_29 (dk_at dksX0_actFar_0 3 rfl rfl)
theorem dX0_actFar_4 : decode cX0_actFar 4 = .ok (.iload 4, 2) := dk_21 4 (dk_at dksX0_actFar_0 4 rfl rfl)
theorem dX0_actFar_6 : decode cX0_actFar 6 = .ok (.invokevirtual 316, 3) := dk_182 1 60 (dk_at dksX0_actFar_0 6 rfl rfl)
theorem dX0_actFar_9 : decode cX0_actFar 9 = .ok (.ireturn, 1) := dk_172 (dk_at dksX0_actFar_0 9 rfl rfl)
theorem dX0_actFar_10 : decode cX0_actFar 10 = .ok (.astore 5, 2) := dk_58 5 (dk_at dksX0_actFar_0 10 rfl rfl)
theorem dX0_actFar_12 : decode cX0_actFar 12 = .ok (.ldc 243, 2) := dk_18 243 (dk_at dksX0_actFar_0 12 rfl rfl)
theorem dX0_actFar_14 : decode cX0_actFar 14 = .ok (.aload_n 0, 1) := dk_42 (dk_at dksX0_actFar_0 14 rfl rfl)
theorem dX0_actFar_15 : decode cX0_actFar 15 = .ok (.aload 5, 2) := dk_25 5 (dk_at dksX0_actFar_0 15 rfl rfl)
theorem dX0_actFar_17 : decode cX0_actFar 17 = .ok (.invokevirtual 321, 3) := dk_182 1 65 (dk_at dksX0_actFar_0 17 rfl rfl)
theorem dX0_actFar_20 : decode cX0_actFar 20 = .ok (.invokevirtual 324, 3) := dk_182 1 68 (dk_at dksX0_actFar_0 20 rfl rfl)
theorem dX0_actFar_23 : decode cX0_actFar 23 = .ok (.isub, 1) := dk_100 (dk_at dksX0_actFar_0 23 rfl rfl)
theorem dX0_actFar_24 : decode cX0_actFar 24 = .ok (.ireturn, 1) := dk_172 (dk_at dksX0_actFar_1 0 rfl rfl)
abbrev cX0_join : ByteArray := prog_1_method_112_code
def yX0_join : MethodName := ⟨RX0, "join", "(I)I"⟩
def dkwX0_join_0 : List UInt8 := [42, 16, 23, 27, 3, 3, 182, 1, 236, 172]
abbrev dktX0_join_0 : List UInt8 := dkwX0_join_0 ++ []
theorem dksX0_join_0 : cX0_join.data.toList.drop 0 = dktX0_join_0 := by decide +kernel
theorem dX0_join_0 : decode cX0_join 0 = .ok (.aload_n 0, 1) := dk_42 (dk_at dksX0_join_0 0 rfl rfl)
theorem dX0_join_1 : decode cX0_join 1 = .ok (.bipush 23, 2) := dk_16 23 (dk_at dksX0_join_0 1 rfl rfl)
theorem dX0_join_3 : decode cX0_join 3 = .ok (.iload_n 1, 1) := dk_27 (dk_at dksX0_join_0 3 rfl rfl)
theorem dX0_join_4 : decode cX0_join 4 = .ok (.iconst 0, 1) := dk_3 (dk_at dksX0_join_0 4 rfl rfl)
theorem dX0_join_5 : decode cX0_join 5 = .ok (.iconst 0, 1) := dk_3 (dk_at dksX0_join_0 5 rfl rfl)
theorem dX0_join_6 : decode cX0_join 6 = .ok (.invokevirtual 492, 3) := dk_182 1 236 (dk_at dksX0_join_0 6 rfl rfl)
theorem dX0_join_9 : decode cX0_join 9 = .ok (.ireturn, 1) := dk_172 (dk_at dksX0_join_0 9 rfl rfl)
abbrev cX0_bridge : ByteArray := prog_1_method_113_code
def yX0_bridge : MethodName := ⟨RX0, "bridge", "(I)I"⟩
def dkwX0_bridge_0 : List UInt8 := [42, 16, 24, 27, 3, 3, 182, 1, 236, 172]
abbrev dktX0_bridge_0 : List UInt8 := dkwX0_bridge_0 ++ []
theorem dksX0_bridge_0 : cX0_bridge.data.toList.drop 0 = dktX0_bridge_0 := by decide +kernel
theorem dX0_bridge_0 : decode cX0_bridge 0 = .ok (.aload_n 0, 1) := dk_42 (dk_at dksX0_bridge_0 0 rfl rfl)
theorem dX0_bridge_1 : decode cX0_bridge 1 = .ok (.bipush 24, 2) := dk_16 24 (dk_at dksX0_bridge_0 1 rfl rfl)
theorem dX0_bridge_3 : decode cX0_bridge 3 = .ok (.iload_n 1, 1) := dk_27 (dk_at dksX0_bridge_0 3 rfl rfl)
theorem dX0_bridge_4 : decode cX0_bridge 4 = .ok (.iconst 0, 1) := dk_3 (dk_at dksX0_bridge_0 4 rfl rfl)
theorem dX0_bridge_5 : decode cX0_bridge 5 = .ok (.iconst 0, 1) := dk_3 (dk_at dksX0_bridge_0 5 rfl rfl)
theorem dX0_bridge_6 : decode cX0_bridge 6 = .ok (.invokevirtual 492, 3) := dk_182 1 236 (dk_at dksX0_bridge_0 6 rfl rfl)
theorem dX0_bridge_9 : decode cX0_bridge 9 = .ok (.ireturn, 1) := dk_172 (dk_at dksX0_bridge_0 9 rfl rfl)
abbrev cX0_two : ByteArray := prog_1_method_114_code
def yX0_two : MethodName := ⟨RX0, "two", "(II)I"⟩
def dkwX0_two_0 : List UInt8 := [42, 16, 25, 27, 28, 3, 182, 1, 236, 172]
abbrev dktX0_two_0 : List UInt8 := dkwX0_two_0 ++ []
theorem dksX0_two_0 : cX0_two.data.toList.drop 0 = dktX0_two_0 := by decide +kernel
theorem dX0_two_0 : decode cX0_two 0 = .ok (.aload_n 0, 1) := dk_42 (dk_at dksX0_two_0 0 rfl rfl)
theorem dX0_two_1 : decode cX0_two 1 = .ok (.bipush 25, 2) := dk_16 25 (dk_at dksX0_two_0 1 rfl rfl)
theorem dX0_two_3 : decode cX0_two 3 = .ok (.iload_n 1, 1) := dk_27 (dk_at dksX0_two_0 3 rfl rfl)
theorem dX0_two_4 : decode cX0_two 4 = .ok (.iload_n 2, 1) := dk_28 (dk_at dksX0_two_0 4 rfl rfl)
theorem dX0_two_5 : decode cX0_two 5 = .ok (.iconst 0, 1) := dk_3 (dk_at dksX0_two_0 5 rfl rfl)
theorem dX0_two_6 : decode cX0_two 6 = .ok (.invokevirtual 492, 3) := dk_182 1 236 (dk_at dksX0_two_0 6 rfl rfl)
theorem dX0_two_9 : decode cX0_two 9 = .ok (.ireturn, 1) := dk_172 (dk_at dksX0_two_0 9 rfl rfl)
abbrev cX0_chance : ByteArray := prog_1_method_115_code
def yX0_chance : MethodName := ⟨RX0, "chance", "(IIII)J"⟩
def dkwX0_chance_0 : List UInt8 := [42, 27, 28, 29, 21, 4, 182, 1, 242, 173]
abbrev dktX0_chance_0 : List UInt8 := dkwX0_chance_0 ++ []
theorem dksX0_chance_0 : cX0_chance.data.toList.drop 0 = dktX0_chance_0 := by decide +kernel
theorem dX0_chance_0 : decode cX0_chance 0 = .ok (.aload_n 0, 1) := dk_42 (dk_at dksX0_chance_0 0 rfl rfl)
theorem dX0_chance_1 : decode cX0_chance 1 = .ok (.iload_n 1, 1) := dk_27 (dk_at dksX0_chance_0 1 rfl rfl)
theorem dX0_chance_2 : decode cX0_chance 2 = .ok (.iload_n 2, 1) := dk_28 (dk_at dksX0_chance_0 2 rfl rfl)
theorem dX0_chance_3 : decode cX0_chance 3 = .ok (.iload_n 3, 1) := dk_29 (dk_at dksX0_chance_0 3 rfl rfl)
theorem dX0_chance_4 : decode cX0_chance 4 = .ok (.iload 4, 2) := dk_21 4 (dk_at dksX0_chance_0 4 rfl rfl)
theorem dX0_chance_6 : decode cX0_chance 6 = .ok (.invokevirtual 498, 3) := dk_182 1 242 (dk_at dksX0_chance_0 6 rfl rfl)
theorem dX0_chance_9 : decode cX0_chance 9 = .ok (.lreturn, 1) := dk_173 (dk_at dksX0_chance_0 9 rfl rfl)
abbrev cX0_chanceTold : ByteArray := prog_1_method_87_code
def yX0_chanceTold : MethodName := ⟨RX0, "chanceTold", "(IIII)J"⟩
def dkwX0_chanceTold_2 : List UInt8 := [184, 0, 197, 42, 27, 28, 29, 21, 4, 182, 1, 228, 173, 58, 5, 42, 25, 5, 182, 1, 232, 173]
abbrev dktX0_chanceTold_2 : List UInt8 := dkwX0_chanceTold_2 ++ []
def dkwX0_chanceTold_1 : List UInt8 := [5, 163, 0, 13, 29, 16, 40, 163, 0, 7, 4, 167, 0, 4, 3, 16, 250, 184, 0, 9, 21, 4]
abbrev dktX0_chanceTold_1 : List UInt8 := dkwX0_chanceTold_1 ++ dktX0_chanceTold_2
def dkwX0_chanceTold_0 : List UInt8 := [42, 27, 182, 0, 194, 28, 155, 0, 11, 29, 155, 0, 7, 4, 167, 0, 4, 3, 16, 252, 184, 0, 9, 28]
abbrev dktX0_chanceTold_0 : List UInt8 := dkwX0_chanceTold_0 ++ dktX0_chanceTold_1
theorem dksX0_chanceTold_0 : cX0_chanceTold.data.toList.drop 0 = dktX0_chanceTold_0 := by decide +kernel
theorem dksX0_chanceTold_1 : cX0_chanceTold.data.toList.drop 24 = dktX0_chanceTold_1 := dk_seg dksX0_chanceTold_0 24 rfl rfl
theorem dksX0_chanceTold_2 : cX0_chanceTold.data.toList.drop 46 = dktX0_chanceTold_2 := dk_seg dksX0_chanceTold_1 22 rfl rfl
theorem dX0_chanceTold_0 : decode cX0_chanceTold 0 = .ok (.aload_n 0, 1) := dk_42 (dk_at dksX0_chanceTold_0 0 rfl rfl)
theorem dX0_chanceTold_1 : decode cX0_chanceTold 1 = .ok (.iload_n 1, 1) := dk_27 (dk_at dksX0_chanceTold_0 1 rfl rfl)
theorem dX0_chanceTold_2 : decode cX0_chanceTold 2 = .ok (.invokevirtual 194, 3) := dk_182 0 194 (dk_at dksX0_chanceTold_0 2 rfl rfl)
theorem dX0_chanceTold_5 : decode cX0_chanceTold 5 = .ok (.iload_n 2, 1) := dk_28 (dk_at dksX0_chanceTold_0 5 rfl rfl)
theorem dX0_chanceTold_6 : decode cX0_chanceTold 6 = .ok (.ifCond .lt 11, 3) := dk_155 0 11 (dk_at dksX0_chanceTold_0 6 rfl rfl)
theorem dX0_chanceTold_9 : decode cX0_chanceTold 9 = .ok (.iload_n 3, 1) := dk_29 (dk_at dksX0_chanceTold_0 9 rfl rfl)
theorem dX0_chanceTold_10 : decode cX0_chanceTold 10 = .ok (.ifCond .lt 7, 3) := dk_155 0 7 (dk_at dksX0_chanceTold_0 10 rfl rfl)
theorem dX0_chanceTold_13 : decode cX0_chanceTold 13 = .ok (.iconst 1, 1) := dk_4 (dk_at dksX0_chanceTold_0 13 rfl rfl)
theorem dX0_chanceTold_14 : decode cX0_chanceTold 14 = .ok (.goto 4, 3) := dk_167 0 4 (dk_at dksX0_chanceTold_0 14 rfl rfl)
theorem dX0_chanceTold_17 : decode cX0_chanceTold 17 = .ok (.iconst 0, 1) := dk_3 (dk_at dksX0_chanceTold_0 17 rfl rfl)
theorem dX0_chanceTold_18 : decode cX0_chanceTold 18 = .ok (.bipush (-4), 2) := dk_16 252 (dk_at dksX0_chanceTold_0 18 rfl rfl)
theorem dX0_chanceTold_20 : decode cX0_chanceTold 20 = .ok (.invokestatic 9, 3) := dk_184 0 9 (dk_at dksX0_chanceTold_0 20 rfl rfl)
theorem dX0_chanceTold_23 : decode cX0_chanceTold 23 = .ok (.iload_n 2, 1) := dk_28 (dk_at dksX0_chanceTold_0 23 rfl rfl)
theorem dX0_chanceTold_24 : decode cX0_chanceTold 24 = .ok (.iconst 2, 1) := dk_5 (dk_at dksX0_chanceTold_1 0 rfl rfl)
theorem dX0_chanceTold_25 : decode cX0_chanceTold 25 = .ok (.if_icmp .gt 13, 3) := dk_163 0 13 (dk_at dksX0_chanceTold_1 1 rfl rfl)
theorem dX0_chanceTold_28 : decode cX0_chanceTold 28 = .ok (.iload_n 3, 1) := dk_29 (dk_at dksX0_chanceTold_1 4 rfl rfl)
theorem dX0_chanceTold_29 : decode cX0_chanceTold 29 = .ok (.bipush 40, 2) := dk_16 40 (dk_at dksX0_chanceTold_1 5 rfl rfl)
theorem dX0_chanceTold_31 : decode cX0_chanceTold 31 = .ok (.if_icmp .gt 7, 3) := dk_163 0 7 (dk_at dksX0_chanceTold_1 7 rfl rfl)
theorem dX0_chanceTold_34 : decode cX0_chanceTold 34 = .ok (.iconst 1, 1) := dk_4 (dk_at dksX0_chanceTold_1 10 rfl rfl)
theorem dX0_chanceTold_35 : decode cX0_chanceTold 35 = .ok (.goto 4, 3) := dk_167 0 4 (dk_at dksX0_chanceTold_1 11 rfl rfl)
theorem dX0_chanceTold_38 : decode cX0_chanceTold 38 = .ok (.iconst 0, 1) := dk_3 (dk_at dksX0_chanceTold_1 14 rfl rfl)
theorem dX0_chanceTold_39 : decode cX0_chanceTold 39 = .ok (.bipush (-6), 2) := dk_16 250 (dk_at dksX0_chanceTold_1 15 rfl rfl)
theorem dX0_chanceTold_41 : decode cX0_chanceTold 41 = .ok (.invokestatic 9, 3) := dk_184 0 9 (dk_at dksX0_chanceTold_1 17 rfl rfl)
theorem dX0_chanceTold_44 : decode cX0_chanceTold 44 = .ok (.iload 4, 2) := dk_21 4 (dk_at dksX0_chanceTold_1 20 rfl rfl)
theorem dX0_chanceTold_46 : decode cX0_chanceTold 46 = .ok (.invokestatic 197, 3) := dk_184 0 197 (dk_at dksX0_chanceTold_2 0 rfl rfl)
theorem dX0_chanceTold_49 : decode cX0_chanceTold 49 = .ok (.aload_n 0, 1) := dk_42 (dk_at dksX0_chanceTold_2 3 rfl rfl)
theorem dX0_chanceTold_50 : decode cX0_chanceTold 50 = .ok (.iload_n 1, 1) := dk_27 (dk_at dksX0_chanceTold_2 4 rfl rfl)
theorem dX0_chanceTold_51 : decode cX0_chanceTold 51 = .ok (.iload_n 2, 1) := dk_28 (dk_at dksX0_chanceTold_2 5 rfl rfl)
theorem dX0_chanceTold_52 : decode cX0_chanceTold 52 = .ok (.iload_n 3, 1) := dk_29 (dk_at dksX0_chanceTold_2 6 rfl rfl)
theorem dX0_chanceTold_53 : decode cX0_chanceTold 53 = .ok (.iload 4, 2) := dk_21 4 (dk_at dksX0_chanceTold_2 7 rfl rfl)
theorem dX0_chanceTold_55 : decode cX0_chanceTold 55 = .ok (.invokevirtual 484, 3) := dk_182 1 228 (dk_at dksX0_chanceTold_2 9 rfl rfl)
theorem dX0_chanceTold_58 : decode cX0_chanceTold 58 = .ok (.lreturn, 1) := dk_173 (dk_at dksX0_chanceTold_2 12 rfl rfl)
theorem dX0_chanceTold_59 : decode cX0_chanceTold 59 = .ok (.astore 5, 2) := dk_58 5 (dk_at dksX0_chanceTold_2 13 rfl rfl)
theorem dX0_chanceTold_61 : decode cX0_chanceTold 61 = .ok (.aload_n 0, 1) := dk_42 (dk_at dksX0_chanceTold_2 15 rfl rfl)
theorem dX0_chanceTold_62 : decode cX0_chanceTold 62 = .ok (.aload 5, 2) := dk_25 5 (dk_at dksX0_chanceTold_2 16 rfl rfl)
theorem dX0_chanceTold_64 : decode cX0_chanceTold 64 = .ok (.invokevirtual 488, 3) := dk_182 1 232 (dk_at dksX0_chanceTold_2 18 rfl rfl)
theorem dX0_chanceTold_67 : decode cX0_chanceTold 67 = .ok (.lreturn, 1) := dk_173 (dk_at dksX0_chanceTold_2 21 rfl rfl)
abbrev cX0_chancePart : ByteArray := prog_1_method_49_code
def yX0_chancePart : MethodName := ⟨RX0, "chancePart", "(IIII)J"⟩
def dkwX0_chancePart_2 : List UInt8 := [182, 0, 204, 42, 180, 0, 65, 180, 0, 168, 28, 27, 29, 182, 1, 17, 22, 5, 21, 4, 184, 1, 21, 173]
abbrev dktX0_chancePart_2 : List UInt8 := dkwX0_chancePart_2 ++ []
def dkwX0_chancePart_1 : List UInt8 := [21, 7, 158, 0, 20, 22, 5, 21, 7, 133, 105, 55, 5, 132, 7, 255, 132, 8, 1, 167, 255, 231, 42, 42]
abbrev dktX0_chancePart_1 : List UInt8 := dkwX0_chancePart_1 ++ dktX0_chancePart_2
def dkwX0_chancePart_0 : List UInt8 := [10, 55, 5, 42, 180, 0, 65, 180, 0, 168, 184, 0, 165, 54, 7, 3, 54, 8, 21, 8, 28, 162, 0, 25]
abbrev dktX0_chancePart_0 : List UInt8 := dkwX0_chancePart_0 ++ dktX0_chancePart_1
theorem dksX0_chancePart_0 : cX0_chancePart.data.toList.drop 0 = dktX0_chancePart_0 := by decide +kernel
theorem dksX0_chancePart_1 : cX0_chancePart.data.toList.drop 24 = dktX0_chancePart_1 := dk_seg dksX0_chancePart_0 24 rfl rfl
theorem dksX0_chancePart_2 : cX0_chancePart.data.toList.drop 48 = dktX0_chancePart_2 := dk_seg dksX0_chancePart_1 24 rfl rfl
theorem dX0_chancePart_0 : decode cX0_chancePart 0 = .ok (.lconst 1, 1) := dk_10 (dk_at dksX0_chancePart_0 0 rfl rfl)
theorem dX0_chancePart_1 : decode cX0_chancePart 1 = .ok (.lstore 5, 2) := dk_55 5 (dk_at dksX0_chancePart_0 1 rfl rfl)
theorem dX0_chancePart_3 : decode cX0_chancePart 3 = .ok (.aload_n 0, 1) := dk_42 (dk_at dksX0_chancePart_0 3 rfl rfl)
theorem dX0_chancePart_4 : decode cX0_chancePart 4 = .ok (.getfield 65, 3) := dk_180 0 65 (dk_at dksX0_chancePart_0 4 rfl rfl)
theorem dX0_chancePart_7 : decode cX0_chancePart 7 = .ok (.getfield 168, 3) := dk_180 0 168 (dk_at dksX0_chancePart_0 7 rfl rfl)
theorem dX0_chancePart_10 : decode cX0_chancePart 10 = .ok (.invokestatic 165, 3) := dk_184 0 165 (dk_at dksX0_chancePart_0 10 rfl rfl)
theorem dX0_chancePart_13 : decode cX0_chancePart 13 = .ok (.istore 7, 2) := dk_54 7 (dk_at dksX0_chancePart_0 13 rfl rfl)
theorem dX0_chancePart_15 : decode cX0_chancePart 15 = .ok (.iconst 0, 1) := dk_3 (dk_at dksX0_chancePart_0 15 rfl rfl)
theorem dX0_chancePart_16 : decode cX0_chancePart 16 = .ok (.istore 8, 2) := dk_54 8 (dk_at dksX0_chancePart_0 16 rfl rfl)
theorem dX0_chancePart_18 : decode cX0_chancePart 18 = .ok (.iload 8, 2) := dk_21 8 (dk_at dksX0_chancePart_0 18 rfl rfl)
theorem dX0_chancePart_20 : decode cX0_chancePart 20 = .ok (.iload_n 2, 1) := dk_28 (dk_at dksX0_chancePart_0 20 rfl rfl)
theorem dX0_chancePart_21 : decode cX0_chancePart 21 = .ok (.if_icmp .ge 25, 3) := dk_162 0 25 (dk_at dksX0_chancePart_0 21 rfl rfl)
theorem dX0_chancePart_24 : decode cX0_chancePart 24 = .ok (.iload 7, 2) := dk_21 7 (dk_at dksX0_chancePart_1 0 rfl rfl)
theorem dX0_chancePart_26 : decode cX0_chancePart 26 = .ok (.ifCond .le 20, 3) := dk_158 0 20 (dk_at dksX0_chancePart_1 2 rfl rfl)
theorem dX0_chancePart_29 : decode cX0_chancePart 29 = .ok (.lload 5, 2) := dk_22 5 (dk_at dksX0_chancePart_1 5 rfl rfl)
theorem dX0_chancePart_31 : decode cX0_chancePart 31 = .ok (.iload 7, 2) := dk_21 7 (dk_at dksX0_chancePart_1 7 rfl rfl)
theorem dX0_chancePart_33 : decode cX0_chancePart 33 = .ok (.i2l, 1) := dk_133 (dk_at dksX0_chancePart_1 9 rfl rfl)
theorem dX0_chancePart_34 : decode cX0_chancePart 34 = .ok (.lmul, 1) := dk_105 (dk_at dksX0_chancePart_1 10 rfl rfl)
theorem dX0_chancePart_35 : decode cX0_chancePart 35 = .ok (.lstore 5, 2) := dk_55 5 (dk_at dksX0_chancePart_1 11 rfl rfl)
theorem dX0_chancePart_37 : decode cX0_chancePart 37 = .ok (.iinc 7 (-1), 3) := dk_132 7 255 (dk_at dksX0_chancePart_1 13 rfl rfl)
theorem dX0_chancePart_40 : decode cX0_chancePart 40 = .ok (.iinc 8 1, 3) := dk_132 8 1 (dk_at dksX0_chancePart_1 16 rfl rfl)
theorem dX0_chancePart_43 : decode cX0_chancePart 43 = .ok (.goto (-25), 3) := dk_167 255 231 (dk_at dksX0_chancePart_1 19 rfl rfl)
theorem dX0_chancePart_46 : decode cX0_chancePart 46 = .ok (.aload_n 0, 1) := dk_42 (dk_at dksX0_chancePart_1 22 rfl rfl)
theorem dX0_chancePart_47 : decode cX0_chancePart 47 = .ok (.aload_n 0, 1) := dk_42 (dk_at dksX0_chancePart_1 23 rfl rfl)
theorem dX0_chancePart_48 : decode cX0_chancePart 48 = .ok (.invokevirtual 204, 3) := dk_182 0 204 (dk_at dksX0_chancePart_2 0 rfl rfl)
theorem dX0_chancePart_51 : decode cX0_chancePart 51 = .ok (.aload_n 0, 1) := dk_42 (dk_at dksX0_chancePart_2 3 rfl rfl)
theorem dX0_chancePart_52 : decode cX0_chancePart 52 = .ok (.getfield 65, 3) := dk_180 0 65 (dk_at dksX0_chancePart_2 4 rfl rfl)
theorem dX0_chancePart_55 : decode cX0_chancePart 55 = .ok (.getfield 168, 3) := dk_180 0 168 (dk_at dksX0_chancePart_2 7 rfl rfl)
theorem dX0_chancePart_58 : decode cX0_chancePart 58 = .ok (.iload_n 2, 1) := dk_28 (dk_at dksX0_chancePart_2 10 rfl rfl)
theorem dX0_chancePart_59 : decode cX0_chancePart 59 = .ok (.iload_n 1, 1) := dk_27 (dk_at dksX0_chancePart_2 11 rfl rfl)
theorem dX0_chancePart_60 : decode cX0_chancePart 60 = .ok (.iload_n 3, 1) := dk_29 (dk_at dksX0_chancePart_2 12 rfl rfl)
theorem dX0_chancePart_61 : decode cX0_chancePart 61 = .ok (.invokevirtual 273, 3) := dk_182 1 17 (dk_at dksX0_chancePart_2 13 rfl rfl)
theorem dX0_chancePart_64 : decode cX0_chancePart 64 = .ok (.lload 5, 2) := dk_22 5 (dk_at dksX0_chancePart_2 16 rfl rfl)
theorem dX0_chancePart_66 : decode cX0_chancePart 66 = .ok (.iload 4, 2) := dk_21 4 (dk_at dksX0_chancePart_2 18 rfl rfl)
theorem dX0_chancePart_68 : decode cX0_chancePart 68 = .ok (.invokestatic 277, 3) := dk_184 1 21 (dk_at dksX0_chancePart_2 20 rfl rfl)
theorem dX0_chancePart_71 : decode cX0_chancePart 71 = .ok (.lreturn, 1) := dk_173 (dk_at dksX0_chancePart_2 23 rfl rfl)
abbrev cX0_manyWays : ByteArray := prog_1_method_48_code
def yX0_manyWays : MethodName := ⟨RX0, "manyWays", "(LCoresAreWills$Core;IIII)J"⟩
def dkwX0_manyWays_3 : List UInt8 := [182, 1, 17, 167, 0, 4, 9, 97, 55, 6, 132, 8, 1, 167, 255, 208, 22, 6, 173]
abbrev dktX0_manyWays_3 : List UInt8 := dkwX0_manyWays_3 ++ []
def dkwX0_manyWays_2 : List UInt8 := [184, 0, 21, 153, 0, 26, 42, 43, 28, 4, 21, 8, 120, 2, 130, 126, 29, 4, 100, 21, 4, 21, 5]
abbrev dktX0_manyWays_2 : List UInt8 := dkwX0_manyWays_2 ++ dktX0_manyWays_3
def dkwX0_manyWays_1 : List UInt8 := [167, 0, 4, 9, 173, 9, 55, 6, 3, 54, 8, 21, 8, 16, 25, 162, 0, 47, 22, 6, 28, 21, 8]
abbrev dktX0_manyWays_1 : List UInt8 := dkwX0_manyWays_1 ++ dktX0_manyWays_2
def dkwX0_manyWays_0 : List UInt8 := [29, 153, 0, 7, 28, 154, 0, 24, 43, 28, 182, 0, 185, 21, 4, 182, 0, 144, 21, 5, 161, 0, 7, 10]
abbrev dktX0_manyWays_0 : List UInt8 := dkwX0_manyWays_0 ++ dktX0_manyWays_1
theorem dksX0_manyWays_0 : cX0_manyWays.data.toList.drop 0 = dktX0_manyWays_0 := by decide +kernel
theorem dksX0_manyWays_1 : cX0_manyWays.data.toList.drop 24 = dktX0_manyWays_1 := dk_seg dksX0_manyWays_0 24 rfl rfl
theorem dksX0_manyWays_2 : cX0_manyWays.data.toList.drop 47 = dktX0_manyWays_2 := dk_seg dksX0_manyWays_1 23 rfl rfl
theorem dksX0_manyWays_3 : cX0_manyWays.data.toList.drop 70 = dktX0_manyWays_3 := dk_seg dksX0_manyWays_2 23 rfl rfl
theorem dX0_manyWays_0 : decode cX0_manyWays 0 = .ok (.iload_n 3, 1) := dk_29 (dk_at dksX0_manyWays_0 0 rfl rfl)
theorem dX0_manyWays_1 : decode cX0_manyWays 1 = .ok (.ifCond .eq 7, 3) := dk_153 0 7 (dk_at dksX0_manyWays_0 1 rfl rfl)
theorem dX0_manyWays_4 : decode cX0_manyWays 4 = .ok (.iload_n 2, 1) := dk_28 (dk_at dksX0_manyWays_0 4 rfl rfl)
theorem dX0_manyWays_5 : decode cX0_manyWays 5 = .ok (.ifCond .ne 24, 3) := dk_154 0 24 (dk_at dksX0_manyWays_0 5 rfl rfl)
theorem dX0_manyWays_8 : decode cX0_manyWays 8 = .ok (.aload_n 1, 1) := dk_43 (dk_at dksX0_manyWays_0 8 rfl rfl)
theorem dX0_manyWays_9 : decode cX0_manyWays 9 = .ok (.iload_n 2, 1) := dk_28 (dk_at dksX0_manyWays_0 9 rfl rfl)
theorem dX0_manyWays_10 : decode cX0_manyWays 10 = .ok (.invokevirtual 185, 3) := dk_182 0 185 (dk_at dksX0_manyWays_0 10 rfl rfl)
theorem dX0_manyWays_13 : decode cX0_manyWays 13 = .ok (.iload 4, 2) := dk_21 4 (dk_at dksX0_manyWays_0 13 rfl rfl)
theorem dX0_manyWays_15 : decode cX0_manyWays 15 = .ok (.invokevirtual 144, 3) := dk_182 0 144 (dk_at dksX0_manyWays_0 15 rfl rfl)
theorem dX0_manyWays_18 : decode cX0_manyWays 18 = .ok (.iload 5, 2) := dk_21 5 (dk_at dksX0_manyWays_0 18 rfl rfl)
theorem dX0_manyWays_20 : decode cX0_manyWays 20 = .ok (.if_icmp .lt 7, 3) := dk_161 0 7 (dk_at dksX0_manyWays_0 20 rfl rfl)
theorem dX0_manyWays_23 : decode cX0_manyWays 23 = .ok (.lconst 1, 1) := dk_10 (dk_at dksX0_manyWays_0 23 rfl rfl)
theorem dX0_manyWays_24 : decode cX0_manyWays 24 = .ok (.goto 4, 3) := dk_167 0 4 (dk_at dksX0_manyWays_1 0 rfl rfl)
theorem dX0_manyWays_27 : decode cX0_manyWays 27 = .ok (.lconst 0, 1) := dk_9 (dk_at dksX0_manyWays_1 3 rfl rfl)
theorem dX0_manyWays_28 : decode cX0_manyWays 28 = .ok (.lreturn, 1) := dk_173 (dk_at dksX0_manyWays_1 4 rfl rfl)
theorem dX0_manyWays_29 : decode cX0_manyWays 29 = .ok (.lconst 0, 1) := dk_9 (dk_at dksX0_manyWays_1 5 rfl rfl)
theorem dX0_manyWays_30 : decode cX0_manyWays 30 = .ok (.lstore 6, 2) := dk_55 6 (dk_at dksX0_manyWays_1 6 rfl rfl)
theorem dX0_manyWays_32 : decode cX0_manyWays 32 = .ok (.iconst 0, 1) := dk_3 (dk_at dksX0_manyWays_1 8 rfl rfl)
theorem dX0_manyWays_33 : decode cX0_manyWays 33 = .ok (.istore 8, 2) := dk_54 8 (dk_at dksX0_manyWays_1 9 rfl rfl)
theorem dX0_manyWays_35 : decode cX0_manyWays 35 = .ok (.iload 8, 2) := dk_21 8 (dk_at dksX0_manyWays_1 11 rfl rfl)
theorem dX0_manyWays_37 : decode cX0_manyWays 37 = .ok (.bipush 25, 2) := dk_16 25 (dk_at dksX0_manyWays_1 13 rfl rfl)
theorem dX0_manyWays_39 : decode cX0_manyWays 39 = .ok (.if_icmp .ge 47, 3) := dk_162 0 47 (dk_at dksX0_manyWays_1 15 rfl rfl)
theorem dX0_manyWays_42 : decode cX0_manyWays 42 = .ok (.lload 6, 2) := dk_22 6 (dk_at dksX0_manyWays_1 18 rfl rfl)
theorem dX0_manyWays_44 : decode cX0_manyWays 44 = .ok (.iload_n 2, 1) := dk_28 (dk_at dksX0_manyWays_1 20 rfl rfl)
theorem dX0_manyWays_45 : decode cX0_manyWays 45 = .ok (.iload 8, 2) := dk_21 8 (dk_at dksX0_manyWays_1 21 rfl rfl)
theorem dX0_manyWays_47 : decode cX0_manyWays 47 = .ok (.invokestatic 21, 3) := dk_184 0 21 (dk_at dksX0_manyWays_2 0 rfl rfl)
theorem dX0_manyWays_50 : decode cX0_manyWays 50 = .ok (.ifCond .eq 26, 3) := dk_153 0 26 (dk_at dksX0_manyWays_2 3 rfl rfl)
theorem dX0_manyWays_53 : decode cX0_manyWays 53 = .ok (.aload_n 0, 1) := dk_42 (dk_at dksX0_manyWays_2 6 rfl rfl)
theorem dX0_manyWays_54 : decode cX0_manyWays 54 = .ok (.aload_n 1, 1) := dk_43 (dk_at dksX0_manyWays_2 7 rfl rfl)
theorem dX0_manyWays_55 : decode cX0_manyWays 55 = .ok (.iload_n 2, 1) := dk_28 (dk_at dksX0_manyWays_2 8 rfl rfl)
theorem dX0_manyWays_56 : decode cX0_manyWays 56 = .ok (.iconst 1, 1) := dk_4 (dk_at dksX0_manyWays_2 9 rfl rfl)
theorem dX0_manyWays_57 : decode cX0_manyWays 57 = .ok (.iload 8, 2) := dk_21 8 (dk_at dksX0_manyWays_2 10 rfl rfl)
theorem dX0_manyWays_59 : decode cX0_manyWays 59 = .ok (.ishl, 1) := dk_120 (dk_at dksX0_manyWays_2 12 rfl rfl)
theorem dX0_manyWays_60 : decode cX0_manyWays 60 = .ok (.iconst (-1), 1) := dk_2 (dk_at dksX0_manyWays_2 13 rfl rfl)
theorem dX0_manyWays_61 : decode cX0_manyWays 61 = .ok (.ixor, 1) := dk_130 (dk_at dksX0_manyWays_2 14 rfl rfl)
theorem dX0_manyWays_62 : decode cX0_manyWays 62 = .ok (.iand, 1) := dk_126 (dk_at dksX0_manyWays_2 15 rfl rfl)
theorem dX0_manyWays_63 : decode cX0_manyWays 63 = .ok (.iload_n 3, 1) := dk_29 (dk_at dksX0_manyWays_2 16 rfl rfl)
theorem dX0_manyWays_64 : decode cX0_manyWays 64 = .ok (.iconst 1, 1) := dk_4 (dk_at dksX0_manyWays_2 17 rfl rfl)
theorem dX0_manyWays_65 : decode cX0_manyWays 65 = .ok (.isub, 1) := dk_100 (dk_at dksX0_manyWays_2 18 rfl rfl)
theorem dX0_manyWays_66 : decode cX0_manyWays 66 = .ok (.iload 4, 2) := dk_21 4 (dk_at dksX0_manyWays_2 19 rfl rfl)
theorem dX0_manyWays_68 : decode cX0_manyWays 68 = .ok (.iload 5, 2) := dk_21 5 (dk_at dksX0_manyWays_2 21 rfl rfl)
theorem dX0_manyWays_70 : decode cX0_manyWays 70 = .ok (.invokevirtual 273, 3) := dk_182 1 17 (dk_at dksX0_manyWays_3 0 rfl rfl)
theorem dX0_manyWays_73 : decode cX0_manyWays 73 = .ok (.goto 4, 3) := dk_167 0 4 (dk_at dksX0_manyWays_3 3 rfl rfl)
theorem dX0_manyWays_76 : decode cX0_manyWays 76 = .ok (.lconst 0, 1) := dk_9 (dk_at dksX0_manyWays_3 6 rfl rfl)
theorem dX0_manyWays_77 : decode cX0_manyWays 77 = .ok (.ladd, 1) := dk_97 (dk_at dksX0_manyWays_3 7 rfl rfl)
theorem dX0_manyWays_78 : decode cX0_manyWays 78 = .ok (.lstore 6, 2) := dk_55 6 (dk_at dksX0_manyWays_3 8 rfl rfl)
theorem dX0_manyWays_80 : decode cX0_manyWays 80 = .ok (.iinc 8 1, 3) := dk_132 8 1 (dk_at dksX0_manyWays_3 10 rfl rfl)
theorem dX0_manyWays_83 : decode cX0_manyWays 83 = .ok (.goto (-48), 3) := dk_167 255 208 (dk_at dksX0_manyWays_3 13 rfl rfl)
theorem dX0_manyWays_86 : decode cX0_manyWays 86 = .ok (.lload 6, 2) := dk_22 6 (dk_at dksX0_manyWays_3 16 rfl rfl)
theorem dX0_manyWays_88 : decode cX0_manyWays 88 = .ok (.lreturn, 1) := dk_173 (dk_at dksX0_manyWays_3 18 rfl rfl)
abbrev cX0_partOf : ByteArray := prog_1_method_8_code
def yX0_partOf : MethodName := ⟨RX0, "partOf", "(JJI)J"⟩
def dkwX0_partOf_1 : List UInt8 := [22, 5, 109, 167, 0, 7, 32, 22, 5, 109, 173]
abbrev dktX0_partOf_1 : List UInt8 := dkwX0_partOf_1 ++ []
def dkwX0_partOf_0 : List UInt8 := [30, 9, 148, 154, 0, 7, 21, 4, 133, 173, 30, 32, 184, 0, 17, 55, 5, 21, 4, 154, 0, 10, 30]
abbrev dktX0_partOf_0 : List UInt8 := dkwX0_partOf_0 ++ dktX0_partOf_1
theorem dksX0_partOf_0 : cX0_partOf.data.toList.drop 0 = dktX0_partOf_0 := by decide +kernel
theorem dksX0_partOf_1 : cX0_partOf.data.toList.drop 23 = dktX0_partOf_1 := dk_seg dksX0_partOf_0 23 rfl rfl
theorem dX0_partOf_0 : decode cX0_partOf 0 = .ok (.lload_n 0, 1) := dk_30 (dk_at dksX0_partOf_0 0 rfl rfl)
theorem dX0_partOf_1 : decode cX0_partOf 1 = .ok (.lconst 0, 1) := dk_9 (dk_at dksX0_partOf_0 1 rfl rfl)
theorem dX0_partOf_2 : decode cX0_partOf 2 = .ok (.lcmp, 1) := dk_148 (dk_at dksX0_partOf_0 2 rfl rfl)
theorem dX0_partOf_3 : decode cX0_partOf 3 = .ok (.ifCond .ne 7, 3) := dk_154 0 7 (dk_at dksX0_partOf_0 3 rfl rfl)
theorem dX0_partOf_6 : decode cX0_partOf 6 = .ok (.iload 4, 2) := dk_21 4 (dk_at dksX0_partOf_0 6 rfl rfl)
theorem dX0_partOf_8 : decode cX0_partOf 8 = .ok (.i2l, 1) := dk_133 (dk_at dksX0_partOf_0 8 rfl rfl)
theorem dX0_partOf_9 : decode cX0_partOf 9 = .ok (.lreturn, 1) := dk_173 (dk_at dksX0_partOf_0 9 rfl rfl)
theorem dX0_partOf_10 : decode cX0_partOf 10 = .ok (.lload_n 0, 1) := dk_30 (dk_at dksX0_partOf_0 10 rfl rfl)
theorem dX0_partOf_11 : decode cX0_partOf 11 = .ok (.lload_n 2, 1) := dk_32 (dk_at dksX0_partOf_0 11 rfl rfl)
theorem dX0_partOf_12 : decode cX0_partOf 12 = .ok (.invokestatic 17, 3) := dk_184 0 17 (dk_at dksX0_partOf_0 12 rfl rfl)
theorem dX0_partOf_15 : decode cX0_partOf 15 = .ok (.lstore 5, 2) := dk_55 5 (dk_at dksX0_partOf_0 15 rfl rfl)
theorem dX0_partOf_17 : decode cX0_partOf 17 = .ok (.iload 4, 2) := dk_21 4 (dk_at dksX0_partOf_0 17 rfl rfl)
theorem dX0_partOf_19 : decode cX0_partOf 19 = .ok (.ifCond .ne 10, 3) := dk_154 0 10 (dk_at dksX0_partOf_0 19 rfl rfl)
theorem dX0_partOf_22 : decode cX0_partOf 22 = .ok (.lload_n 0, 1) := dk_30 (dk_at dksX0_partOf_0 22 rfl rfl)
theorem dX0_partOf_23 : decode cX0_partOf 23 = .ok (.lload 5, 2) := dk_22 5 (dk_at dksX0_partOf_1 0 rfl rfl)
theorem dX0_partOf_25 : decode cX0_partOf 25 = .ok (.ldiv, 1) := dk_109 (dk_at dksX0_partOf_1 2 rfl rfl)
theorem dX0_partOf_26 : decode cX0_partOf 26 = .ok (.goto 7, 3) := dk_167 0 7 (dk_at dksX0_partOf_1 3 rfl rfl)
theorem dX0_partOf_29 : decode cX0_partOf 29 = .ok (.lload_n 2, 1) := dk_32 (dk_at dksX0_partOf_1 6 rfl rfl)
theorem dX0_partOf_30 : decode cX0_partOf 30 = .ok (.lload 5, 2) := dk_22 5 (dk_at dksX0_partOf_1 7 rfl rfl)
theorem dX0_partOf_32 : decode cX0_partOf 32 = .ok (.ldiv, 1) := dk_109 (dk_at dksX0_partOf_1 9 rfl rfl)
theorem dX0_partOf_33 : decode cX0_partOf 33 = .ok (.lreturn, 1) := dk_173 (dk_at dksX0_partOf_1 10 rfl rfl)
abbrev cX0_divisor : ByteArray := prog_1_method_7_code
def yX0_divisor : MethodName := ⟨RX0, "divisor", "(JJ)J"⟩
def dkwX0_divisor_1 : List UInt8 := [22, 8, 55, 6, 167, 255, 234, 22, 4, 173]
abbrev dktX0_divisor_1 : List UInt8 := dkwX0_divisor_1 ++ []
def dkwX0_divisor_0 : List UInt8 := [30, 55, 4, 32, 55, 6, 22, 6, 9, 148, 153, 0, 21, 22, 4, 22, 6, 113, 55, 8, 22, 6, 55, 4]
abbrev dktX0_divisor_0 : List UInt8 := dkwX0_divisor_0 ++ dktX0_divisor_1
theorem dksX0_divisor_0 : cX0_divisor.data.toList.drop 0 = dktX0_divisor_0 := by decide +kernel
theorem dksX0_divisor_1 : cX0_divisor.data.toList.drop 24 = dktX0_divisor_1 := dk_seg dksX0_divisor_0 24 rfl rfl
theorem dX0_divisor_0 : decode cX0_divisor 0 = .ok (.lload_n 0, 1) := dk_30 (dk_at dksX0_divisor_0 0 rfl rfl)
theorem dX0_divisor_1 : decode cX0_divisor 1 = .ok (.lstore 4, 2) := dk_55 4 (dk_at dksX0_divisor_0 1 rfl rfl)
theorem dX0_divisor_3 : decode cX0_divisor 3 = .ok (.lload_n 2, 1) := dk_32 (dk_at dksX0_divisor_0 3 rfl rfl)
theorem dX0_divisor_4 : decode cX0_divisor 4 = .ok (.lstore 6, 2) := dk_55 6 (dk_at dksX0_divisor_0 4 rfl rfl)
theorem dX0_divisor_6 : decode cX0_divisor 6 = .ok (.lload 6, 2) := dk_22 6 (dk_at dksX0_divisor_0 6 rfl rfl)
theorem dX0_divisor_8 : decode cX0_divisor 8 = .ok (.lconst 0, 1) := dk_9 (dk_at dksX0_divisor_0 8 rfl rfl)
theorem dX0_divisor_9 : decode cX0_divisor 9 = .ok (.lcmp, 1) := dk_148 (dk_at dksX0_divisor_0 9 rfl rfl)
theorem dX0_divisor_10 : decode cX0_divisor 10 = .ok (.ifCond .eq 21, 3) := dk_153 0 21 (dk_at dksX0_divisor_0 10 rfl rfl)
theorem dX0_divisor_13 : decode cX0_divisor 13 = .ok (.lload 4, 2) := dk_22 4 (dk_at dksX0_divisor_0 13 rfl rfl)
theorem dX0_divisor_15 : decode cX0_divisor 15 = .ok (.lload 6, 2) := dk_22 6 (dk_at dksX0_divisor_0 15 rfl rfl)
theorem dX0_divisor_17 : decode cX0_divisor 17 = .ok (.lrem, 1) := dk_113 (dk_at dksX0_divisor_0 17 rfl rfl)
theorem dX0_divisor_18 : decode cX0_divisor 18 = .ok (.lstore 8, 2) := dk_55 8 (dk_at dksX0_divisor_0 18 rfl rfl)
theorem dX0_divisor_20 : decode cX0_divisor 20 = .ok (.lload 6, 2) := dk_22 6 (dk_at dksX0_divisor_0 20 rfl rfl)
theorem dX0_divisor_22 : decode cX0_divisor 22 = .ok (.lstore 4, 2) := dk_55 4 (dk_at dksX0_divisor_0 22 rfl rfl)
theorem dX0_divisor_24 : decode cX0_divisor 24 = .ok (.lload 8, 2) := dk_22 8 (dk_at dksX0_divisor_1 0 rfl rfl)
theorem dX0_divisor_26 : decode cX0_divisor 26 = .ok (.lstore 6, 2) := dk_55 6 (dk_at dksX0_divisor_1 2 rfl rfl)
theorem dX0_divisor_28 : decode cX0_divisor 28 = .ok (.goto (-22), 3) := dk_167 255 234 (dk_at dksX0_divisor_1 4 rfl rfl)
theorem dX0_divisor_31 : decode cX0_divisor 31 = .ok (.lload 4, 2) := dk_22 4 (dk_at dksX0_divisor_1 7 rfl rfl)
theorem dX0_divisor_33 : decode cX0_divisor 33 = .ok (.lreturn, 1) := dk_173 (dk_at dksX0_divisor_1 9 rfl rfl)
abbrev cX0_far : ByteArray := prog_1_method_59_code
def yX0_far : MethodName := ⟨RX0, "far", "(LCoresAreWills$Refusal;)J"⟩
def dkwX0_far_0 : List UInt8 := [20, 1, 71, 42, 43, 182, 1, 65, 182, 1, 68, 133, 101, 173]
abbrev dktX0_far_0 : List UInt8 := dkwX0_far_0 ++ []
theorem dksX0_far_0 : cX0_far.data.toList.drop 0 = dktX0_far_0 := by decide +kernel
theorem dX0_far_0 : decode cX0_far 0 = .ok (.ldc2_w 327, 3) := dk_20 1 71 (dk_at dksX0_far_0 0 rfl rfl)
theorem dX0_far_3 : decode cX0_far 3 = .ok (.aload_n 0, 1) := dk_42 (dk_at dksX0_far_0 3 rfl rfl)
theorem dX0_far_4 : decode cX0_far 4 = .ok (.aload_n 1, 1) := dk_43 (dk_at dksX0_far_0 4 rfl rfl)
theorem dX0_far_5 : decode cX0_far 5 = .ok (.invokevirtual 321, 3) := dk_182 1 65 (dk_at dksX0_far_0 5 rfl rfl)
theorem dX0_far_8 : decode cX0_far 8 = .ok (.invokevirtual 324, 3) := dk_182 1 68 (dk_at dksX0_far_0 8 rfl rfl)
theorem dX0_far_11 : decode cX0_far 11 = .ok (.i2l, 1) := dk_133 (dk_at dksX0_far_0 11 rfl rfl)
theorem dX0_far_12 : decode cX0_far 12 = .ok (.lsub, 1) := dk_101 (dk_at dksX0_far_0 12 rfl rfl)
theorem dX0_far_13 : decode cX0_far 13 = .ok (.lreturn, 1) := dk_173 (dk_at dksX0_far_0 13 rfl rfl)
abbrev cX0_mean : ByteArray := prog_1_method_116_code
def yX0_mean : MethodName := ⟨RX0, "mean", "(I)J"⟩
def dkwX0_mean_0 : List UInt8 := [42, 27, 182, 1, 245, 173]
abbrev dktX0_mean_0 : List UInt8 := dkwX0_mean_0 ++ []
theorem dksX0_mean_0 : cX0_mean.data.toList.drop 0 = dktX0_mean_0 := by decide +kernel
theorem dX0_mean_0 : decode cX0_mean 0 = .ok (.aload_n 0, 1) := dk_42 (dk_at dksX0_mean_0 0 rfl rfl)
theorem dX0_mean_1 : decode cX0_mean 1 = .ok (.iload_n 1, 1) := dk_27 (dk_at dksX0_mean_0 1 rfl rfl)
theorem dX0_mean_2 : decode cX0_mean 2 = .ok (.invokevirtual 501, 3) := dk_182 1 245 (dk_at dksX0_mean_0 2 rfl rfl)
theorem dX0_mean_5 : decode cX0_mean 5 = .ok (.lreturn, 1) := dk_173 (dk_at dksX0_mean_0 5 rfl rfl)
abbrev cX0_meanTold : ByteArray := prog_1_method_88_code
def yX0_meanTold : MethodName := ⟨RX0, "meanTold", "(I)J"⟩
def dkwX0_meanTold_1 : List UInt8 := [27, 184, 1, 21, 173, 77, 42, 44, 182, 1, 232, 173]
abbrev dktX0_meanTold_1 : List UInt8 := dkwX0_meanTold_1 ++ []
def dkwX0_meanTold_0 : List UInt8 := [27, 184, 0, 197, 42, 180, 0, 65, 182, 1, 47, 133, 4, 42, 180, 0, 65, 180, 0, 141, 184, 0, 189, 133]
abbrev dktX0_meanTold_0 : List UInt8 := dkwX0_meanTold_0 ++ dktX0_meanTold_1
theorem dksX0_meanTold_0 : cX0_meanTold.data.toList.drop 0 = dktX0_meanTold_0 := by decide +kernel
theorem dksX0_meanTold_1 : cX0_meanTold.data.toList.drop 24 = dktX0_meanTold_1 := dk_seg dksX0_meanTold_0 24 rfl rfl
theorem dX0_meanTold_0 : decode cX0_meanTold 0 = .ok (.iload_n 1, 1) := dk_27 (dk_at dksX0_meanTold_0 0 rfl rfl)
theorem dX0_meanTold_1 : decode cX0_meanTold 1 = .ok (.invokestatic 197, 3) := dk_184 0 197 (dk_at dksX0_meanTold_0 1 rfl rfl)
theorem dX0_meanTold_4 : decode cX0_meanTold 4 = .ok (.aload_n 0, 1) := dk_42 (dk_at dksX0_meanTold_0 4 rfl rfl)
theorem dX0_meanTold_5 : decode cX0_meanTold 5 = .ok (.getfield 65, 3) := dk_180 0 65 (dk_at dksX0_meanTold_0 5 rfl rfl)
theorem dX0_meanTold_8 : decode cX0_meanTold 8 = .ok (.invokevirtual 303, 3) := dk_182 1 47 (dk_at dksX0_meanTold_0 8 rfl rfl)
theorem dX0_meanTold_11 : decode cX0_meanTold 11 = .ok (.i2l, 1) := dk_133 (dk_at dksX0_meanTold_0 11 rfl rfl)
theorem dX0_meanTold_12 : decode cX0_meanTold 12 = .ok (.iconst 1, 1) := dk_4 (dk_at dksX0_meanTold_0 12 rfl rfl)
theorem dX0_meanTold_13 : decode cX0_meanTold 13 = .ok (.aload_n 0, 1) := dk_42 (dk_at dksX0_meanTold_0 13 rfl rfl)
theorem dX0_meanTold_14 : decode cX0_meanTold 14 = .ok (.getfield 65, 3) := dk_180 0 65 (dk_at dksX0_meanTold_0 14 rfl rfl)
theorem dX0_meanTold_17 : decode cX0_meanTold 17 = .ok (.getfield 141, 3) := dk_180 0 141 (dk_at dksX0_meanTold_0 17 rfl rfl)
theorem dX0_meanTold_20 : decode cX0_meanTold 20 = .ok (.invokestatic 189, 3) := dk_184 0 189 (dk_at dksX0_meanTold_0 20 rfl rfl)
theorem dX0_meanTold_23 : decode cX0_meanTold 23 = .ok (.i2l, 1) := dk_133 (dk_at dksX0_meanTold_0 23 rfl rfl)
theorem dX0_meanTold_24 : decode cX0_meanTold 24 = .ok (.iload_n 1, 1) := dk_27 (dk_at dksX0_meanTold_1 0 rfl rfl)
theorem dX0_meanTold_25 : decode cX0_meanTold 25 = .ok (.invokestatic 277, 3) := dk_184 1 21 (dk_at dksX0_meanTold_1 1 rfl rfl)
theorem dX0_meanTold_28 : decode cX0_meanTold 28 = .ok (.lreturn, 1) := dk_173 (dk_at dksX0_meanTold_1 4 rfl rfl)
theorem dX0_meanTold_29 : decode cX0_meanTold 29 = .ok (.astore_n 2, 1) := dk_77 (dk_at dksX0_meanTold_1 5 rfl rfl)
theorem dX0_meanTold_30 : decode cX0_meanTold 30 = .ok (.aload_n 0, 1) := dk_42 (dk_at dksX0_meanTold_1 6 rfl rfl)
theorem dX0_meanTold_31 : decode cX0_meanTold 31 = .ok (.aload_n 2, 1) := dk_44 (dk_at dksX0_meanTold_1 7 rfl rfl)
theorem dX0_meanTold_32 : decode cX0_meanTold 32 = .ok (.invokevirtual 488, 3) := dk_182 1 232 (dk_at dksX0_meanTold_1 8 rfl rfl)
theorem dX0_meanTold_35 : decode cX0_meanTold 35 = .ok (.lreturn, 1) := dk_173 (dk_at dksX0_meanTold_1 11 rfl rfl)
abbrev cX0_whatIs : ByteArray := prog_1_method_117_code
def yX0_whatIs : MethodName := ⟨RX0, "whatIs", "(II)I"⟩
def dkwX0_whatIs_0 : List UInt8 := [42, 16, 26, 27, 28, 3, 182, 1, 236, 172]
abbrev dktX0_whatIs_0 : List UInt8 := dkwX0_whatIs_0 ++ []
theorem dksX0_whatIs_0 : cX0_whatIs.data.toList.drop 0 = dktX0_whatIs_0 := by decide +kernel
theorem dX0_whatIs_0 : decode cX0_whatIs 0 = .ok (.aload_n 0, 1) := dk_42 (dk_at dksX0_whatIs_0 0 rfl rfl)
theorem dX0_whatIs_1 : decode cX0_whatIs 1 = .ok (.bipush 26, 2) := dk_16 26 (dk_at dksX0_whatIs_0 1 rfl rfl)
theorem dX0_whatIs_3 : decode cX0_whatIs 3 = .ok (.iload_n 1, 1) := dk_27 (dk_at dksX0_whatIs_0 3 rfl rfl)
theorem dX0_whatIs_4 : decode cX0_whatIs 4 = .ok (.iload_n 2, 1) := dk_28 (dk_at dksX0_whatIs_0 4 rfl rfl)
theorem dX0_whatIs_5 : decode cX0_whatIs 5 = .ok (.iconst 0, 1) := dk_3 (dk_at dksX0_whatIs_0 5 rfl rfl)
theorem dX0_whatIs_6 : decode cX0_whatIs 6 = .ok (.invokevirtual 492, 3) := dk_182 1 236 (dk_at dksX0_whatIs_0 6 rfl rfl)
theorem dX0_whatIs_9 : decode cX0_whatIs 9 = .ok (.ireturn, 1) := dk_172 (dk_at dksX0_whatIs_0 9 rfl rfl)
abbrev cX0_row : ByteArray := prog_1_method_118_code
def yX0_row : MethodName := ⟨RX0, "row", "(I)I"⟩
def dkwX0_row_0 : List UInt8 := [42, 16, 27, 27, 3, 3, 182, 1, 236, 172]
abbrev dktX0_row_0 : List UInt8 := dkwX0_row_0 ++ []
theorem dksX0_row_0 : cX0_row.data.toList.drop 0 = dktX0_row_0 := by decide +kernel
theorem dX0_row_0 : decode cX0_row 0 = .ok (.aload_n 0, 1) := dk_42 (dk_at dksX0_row_0 0 rfl rfl)
theorem dX0_row_1 : decode cX0_row 1 = .ok (.bipush 27, 2) := dk_16 27 (dk_at dksX0_row_0 1 rfl rfl)
theorem dX0_row_3 : decode cX0_row 3 = .ok (.iload_n 1, 1) := dk_27 (dk_at dksX0_row_0 3 rfl rfl)
theorem dX0_row_4 : decode cX0_row 4 = .ok (.iconst 0, 1) := dk_3 (dk_at dksX0_row_0 4 rfl rfl)
theorem dX0_row_5 : decode cX0_row 5 = .ok (.iconst 0, 1) := dk_3 (dk_at dksX0_row_0 5 rfl rfl)
theorem dX0_row_6 : decode cX0_row 6 = .ok (.invokevirtual 492, 3) := dk_182 1 236 (dk_at dksX0_row_0 6 rfl rfl)
theorem dX0_row_9 : decode cX0_row 9 = .ok (.ireturn, 1) := dk_172 (dk_at dksX0_row_0 9 rfl rfl)
abbrev cX0_judge : ByteArray := prog_1_method_119_code
def yX0_judge : MethodName := ⟨RX0, "judge", "()I"⟩
def dkwX0_judge_0 : List UInt8 := [42, 16, 28, 3, 3, 3, 182, 1, 236, 172]
abbrev dktX0_judge_0 : List UInt8 := dkwX0_judge_0 ++ []
theorem dksX0_judge_0 : cX0_judge.data.toList.drop 0 = dktX0_judge_0 := by decide +kernel
theorem dX0_judge_0 : decode cX0_judge 0 = .ok (.aload_n 0, 1) := dk_42 (dk_at dksX0_judge_0 0 rfl rfl)
theorem dX0_judge_1 : decode cX0_judge 1 = .ok (.bipush 28, 2) := dk_16 28 (dk_at dksX0_judge_0 1 rfl rfl)
theorem dX0_judge_3 : decode cX0_judge 3 = .ok (.iconst 0, 1) := dk_3 (dk_at dksX0_judge_0 3 rfl rfl)
theorem dX0_judge_4 : decode cX0_judge 4 = .ok (.iconst 0, 1) := dk_3 (dk_at dksX0_judge_0 4 rfl rfl)
theorem dX0_judge_5 : decode cX0_judge 5 = .ok (.iconst 0, 1) := dk_3 (dk_at dksX0_judge_0 5 rfl rfl)
theorem dX0_judge_6 : decode cX0_judge 6 = .ok (.invokevirtual 492, 3) := dk_182 1 236 (dk_at dksX0_judge_0 6 rfl rfl)
theorem dX0_judge_9 : decode cX0_judge 9 = .ok (.ireturn, 1) := dk_172 (dk_at dksX0_judge_0 9 rfl rfl)
abbrev cX0_clear : ByteArray := prog_1_method_120_code
def yX0_clear : MethodName := ⟨RX0, "clear", "()I"⟩
def dkwX0_clear_0 : List UInt8 := [42, 16, 29, 3, 3, 3, 182, 1, 236, 172]
abbrev dktX0_clear_0 : List UInt8 := dkwX0_clear_0 ++ []
theorem dksX0_clear_0 : cX0_clear.data.toList.drop 0 = dktX0_clear_0 := by decide +kernel
theorem dX0_clear_0 : decode cX0_clear 0 = .ok (.aload_n 0, 1) := dk_42 (dk_at dksX0_clear_0 0 rfl rfl)
theorem dX0_clear_1 : decode cX0_clear 1 = .ok (.bipush 29, 2) := dk_16 29 (dk_at dksX0_clear_0 1 rfl rfl)
theorem dX0_clear_3 : decode cX0_clear 3 = .ok (.iconst 0, 1) := dk_3 (dk_at dksX0_clear_0 3 rfl rfl)
theorem dX0_clear_4 : decode cX0_clear 4 = .ok (.iconst 0, 1) := dk_3 (dk_at dksX0_clear_0 4 rfl rfl)
theorem dX0_clear_5 : decode cX0_clear 5 = .ok (.iconst 0, 1) := dk_3 (dk_at dksX0_clear_0 5 rfl rfl)
theorem dX0_clear_6 : decode cX0_clear 6 = .ok (.invokevirtual 492, 3) := dk_182 1 236 (dk_at dksX0_clear_0 6 rfl rfl)
theorem dX0_clear_9 : decode cX0_clear 9 = .ok (.ireturn, 1) := dk_172 (dk_at dksX0_clear_0 9 rfl rfl)
abbrev cX0_lots : ByteArray := prog_1_method_121_code
def yX0_lots : MethodName := ⟨RX0, "lots", "(III)I"⟩
def dkwX0_lots_0 : List UInt8 := [42, 16, 30, 27, 28, 29, 182, 1, 236, 172]
abbrev dktX0_lots_0 : List UInt8 := dkwX0_lots_0 ++ []
theorem dksX0_lots_0 : cX0_lots.data.toList.drop 0 = dktX0_lots_0 := by decide +kernel
theorem dX0_lots_0 : decode cX0_lots 0 = .ok (.aload_n 0, 1) := dk_42 (dk_at dksX0_lots_0 0 rfl rfl)
theorem dX0_lots_1 : decode cX0_lots 1 = .ok (.bipush 30, 2) := dk_16 30 (dk_at dksX0_lots_0 1 rfl rfl)
theorem dX0_lots_3 : decode cX0_lots 3 = .ok (.iload_n 1, 1) := dk_27 (dk_at dksX0_lots_0 3 rfl rfl)
theorem dX0_lots_4 : decode cX0_lots 4 = .ok (.iload_n 2, 1) := dk_28 (dk_at dksX0_lots_0 4 rfl rfl)
theorem dX0_lots_5 : decode cX0_lots 5 = .ok (.iload_n 3, 1) := dk_29 (dk_at dksX0_lots_0 5 rfl rfl)
theorem dX0_lots_6 : decode cX0_lots 6 = .ok (.invokevirtual 492, 3) := dk_182 1 236 (dk_at dksX0_lots_0 6 rfl rfl)
theorem dX0_lots_9 : decode cX0_lots 9 = .ok (.ireturn, 1) := dk_172 (dk_at dksX0_lots_0 9 rfl rfl)
abbrev cX0_image : ByteArray := prog_1_method_122_code
def yX0_image : MethodName := ⟨RX0, "image", "()I"⟩
def dkwX0_image_0 : List UInt8 := [42, 16, 31, 3, 3, 3, 182, 1, 236, 172]
abbrev dktX0_image_0 : List UInt8 := dkwX0_image_0 ++ []
theorem dksX0_image_0 : cX0_image.data.toList.drop 0 = dktX0_image_0 := by decide +kernel
theorem dX0_image_0 : decode cX0_image 0 = .ok (.aload_n 0, 1) := dk_42 (dk_at dksX0_image_0 0 rfl rfl)
theorem dX0_image_1 : decode cX0_image 1 = .ok (.bipush 31, 2) := dk_16 31 (dk_at dksX0_image_0 1 rfl rfl)
theorem dX0_image_3 : decode cX0_image 3 = .ok (.iconst 0, 1) := dk_3 (dk_at dksX0_image_0 3 rfl rfl)
theorem dX0_image_4 : decode cX0_image 4 = .ok (.iconst 0, 1) := dk_3 (dk_at dksX0_image_0 4 rfl rfl)
theorem dX0_image_5 : decode cX0_image 5 = .ok (.iconst 0, 1) := dk_3 (dk_at dksX0_image_0 5 rfl rfl)
theorem dX0_image_6 : decode cX0_image 6 = .ok (.invokevirtual 492, 3) := dk_182 1 236 (dk_at dksX0_image_0 6 rfl rfl)
theorem dX0_image_9 : decode cX0_image 9 = .ok (.ireturn, 1) := dk_172 (dk_at dksX0_image_0 9 rfl rfl)
abbrev cX0_on : ByteArray := prog_1_method_123_code
def yX0_on : MethodName := ⟨RX0, "on", "()I"⟩
def dkwX0_on_0 : List UInt8 := [42, 16, 32, 3, 3, 3, 182, 1, 236, 172]
abbrev dktX0_on_0 : List UInt8 := dkwX0_on_0 ++ []
theorem dksX0_on_0 : cX0_on.data.toList.drop 0 = dktX0_on_0 := by decide +kernel
theorem dX0_on_0 : decode cX0_on 0 = .ok (.aload_n 0, 1) := dk_42 (dk_at dksX0_on_0 0 rfl rfl)
theorem dX0_on_1 : decode cX0_on 1 = .ok (.bipush 32, 2) := dk_16 32 (dk_at dksX0_on_0 1 rfl rfl)
theorem dX0_on_3 : decode cX0_on 3 = .ok (.iconst 0, 1) := dk_3 (dk_at dksX0_on_0 3 rfl rfl)
theorem dX0_on_4 : decode cX0_on 4 = .ok (.iconst 0, 1) := dk_3 (dk_at dksX0_on_0 4 rfl rfl)
theorem dX0_on_5 : decode cX0_on 5 = .ok (.iconst 0, 1) := dk_3 (dk_at dksX0_on_0 5 rfl rfl)
theorem dX0_on_6 : decode cX0_on 6 = .ok (.invokevirtual 492, 3) := dk_182 1 236 (dk_at dksX0_on_0 6 rfl rfl)
theorem dX0_on_9 : decode cX0_on 9 = .ok (.ireturn, 1) := dk_172 (dk_at dksX0_on_0 9 rfl rfl)
abbrev cX0_count : ByteArray := prog_1_method_124_code
def yX0_count : MethodName := ⟨RX0, "count", "(I)I"⟩
def dkwX0_count_6 : List UInt8 := [16, 247, 172]
abbrev dktX0_count_6 : List UInt8 := dkwX0_count_6 ++ []
def dkwX0_count_5 : List UInt8 := [20, 1, 249, 20, 1, 251, 184, 0, 13, 153, 0, 15, 42, 180, 0, 83, 27, 16, 10, 100, 46, 167, 0, 5]
abbrev dktX0_count_5 : List UInt8 := dkwX0_count_5 ++ dktX0_count_6
def dkwX0_count_4 : List UInt8 := [182, 0, 155, 153, 0, 7, 4, 167, 0, 4, 3, 172, 42, 180, 1, 25, 172, 42, 180, 0, 111, 172, 27, 133]
abbrev dktX0_count_4 : List UInt8 := dkwX0_count_4 ++ dktX0_count_5
def dkwX0_count_3 : List UInt8 := [42, 180, 0, 65, 180, 0, 168, 184, 0, 165, 172, 42, 180, 0, 65, 182, 1, 47, 172, 42, 180, 0, 65]
abbrev dktX0_count_3 : List UInt8 := dkwX0_count_3 ++ dktX0_count_4
def dkwX0_count_2 : List UInt8 := [42, 180, 0, 65, 180, 0, 141, 172, 42, 180, 0, 65, 180, 1, 94, 172, 42, 180, 0, 65, 180, 0, 168, 172]
abbrev dktX0_count_2 : List UInt8 := dkwX0_count_2 ++ dktX0_count_3
def dkwX0_count_1 : List UInt8 := [170, 0, 0, 0, 0, 0, 116, 0, 0, 0, 0, 0, 0, 0, 7, 0, 0, 0, 47, 0, 0, 0, 55, 0, 0, 0, 63, 0, 0, 0, 71, 0, 0, 0, 82, 0, 0, 0, 90, 0, 0, 0, 106, 0, 0, 0, 111]
abbrev dktX0_count_1 : List UInt8 := dkwX0_count_1 ++ dktX0_count_2
def dkwX0_count_0 : List UInt8 := [27]
abbrev dktX0_count_0 : List UInt8 := dkwX0_count_0 ++ dktX0_count_1
theorem dksX0_count_0 : cX0_count.data.toList.drop 0 = dktX0_count_0 := by decide +kernel
theorem dksX0_count_1 : cX0_count.data.toList.drop 1 = dktX0_count_1 := dk_seg dksX0_count_0 1 rfl rfl
theorem dksX0_count_2 : cX0_count.data.toList.drop 48 = dktX0_count_2 := dk_seg dksX0_count_1 47 rfl rfl
theorem dksX0_count_3 : cX0_count.data.toList.drop 72 = dktX0_count_3 := dk_seg dksX0_count_2 24 rfl rfl
theorem dksX0_count_4 : cX0_count.data.toList.drop 95 = dktX0_count_4 := dk_seg dksX0_count_3 23 rfl rfl
theorem dksX0_count_5 : cX0_count.data.toList.drop 119 = dktX0_count_5 := dk_seg dksX0_count_4 24 rfl rfl
theorem dksX0_count_6 : cX0_count.data.toList.drop 143 = dktX0_count_6 := dk_seg dksX0_count_5 24 rfl rfl
theorem dX0_count_0 : decode cX0_count 0 = .ok (.iload_n 1, 1) := dk_27 (dk_at dksX0_count_0 0 rfl rfl)
theorem dX0_count_1 : decode cX0_count 1 = .ok (.tableswitch 116 0 7 #[47, 55, 63, 71, 82, 90, 106, 111], 47) := by decide +kernel
theorem dX0_count_48 : decode cX0_count 48 = .ok (.aload_n 0, 1) := dk_42 (dk_at dksX0_count_2 0 rfl rfl)
theorem dX0_count_49 : decode cX0_count 49 = .ok (.getfield 65, 3) := dk_180 0 65 (dk_at dksX0_count_2 1 rfl rfl)
theorem dX0_count_52 : decode cX0_count 52 = .ok (.getfield 141, 3) := dk_180 0 141 (dk_at dksX0_count_2 4 rfl rfl)
theorem dX0_count_55 : decode cX0_count 55 = .ok (.ireturn, 1) := dk_172 (dk_at dksX0_count_2 7 rfl rfl)
theorem dX0_count_56 : decode cX0_count 56 = .ok (.aload_n 0, 1) := dk_42 (dk_at dksX0_count_2 8 rfl rfl)
theorem dX0_count_57 : decode cX0_count 57 = .ok (.getfield 65, 3) := dk_180 0 65 (dk_at dksX0_count_2 9 rfl rfl)
theorem dX0_count_60 : decode cX0_count 60 = .ok (.getfield 350, 3) := dk_180 1 94 (dk_at dksX0_count_2 12 rfl rfl)
theorem dX0_count_63 : decode cX0_count 63 = .ok (.ireturn, 1) := dk_172 (dk_at dksX0_count_2 15 rfl rfl)
theorem dX0_count_64 : decode cX0_count 64 = .ok (.aload_n 0, 1) := dk_42 (dk_at dksX0_count_2 16 rfl rfl)
theorem dX0_count_65 : decode cX0_count 65 = .ok (.getfield 65, 3) := dk_180 0 65 (dk_at dksX0_count_2 17 rfl rfl)
theorem dX0_count_68 : decode cX0_count 68 = .ok (.getfield 168, 3) := dk_180 0 168 (dk_at dksX0_count_2 20 rfl rfl)
theorem dX0_count_71 : decode cX0_count 71 = .ok (.ireturn, 1) := dk_172 (dk_at dksX0_count_2 23 rfl rfl)
theorem dX0_count_72 : decode cX0_count 72 = .ok (.aload_n 0, 1) := dk_42 (dk_at dksX0_count_3 0 rfl rfl)
theorem dX0_count_73 : decode cX0_count 73 = .ok (.getfield 65, 3) := dk_180 0 65 (dk_at dksX0_count_3 1 rfl rfl)
theorem dX0_count_76 : decode cX0_count 76 = .ok (.getfield 168, 3) := dk_180 0 168 (dk_at dksX0_count_3 4 rfl rfl)
theorem dX0_count_79 : decode cX0_count 79 = .ok (.invokestatic 165, 3) := dk_184 0 165 (dk_at dksX0_count_3 7 rfl rfl)
theorem dX0_count_82 : decode cX0_count 82 = .ok (.ireturn, 1) := dk_172 (dk_at dksX0_count_3 10 rfl rfl)
theorem dX0_count_83 : decode cX0_count 83 = .ok (.aload_n 0, 1) := dk_42 (dk_at dksX0_count_3 11 rfl rfl)
theorem dX0_count_84 : decode cX0_count 84 = .ok (.getfield 65, 3) := dk_180 0 65 (dk_at dksX0_count_3 12 rfl rfl)
theorem dX0_count_87 : decode cX0_count 87 = .ok (.invokevirtual 303, 3) := dk_182 1 47 (dk_at dksX0_count_3 15 rfl rfl)
theorem dX0_count_90 : decode cX0_count 90 = .ok (.ireturn, 1) := dk_172 (dk_at dksX0_count_3 18 rfl rfl)
theorem dX0_count_91 : decode cX0_count 91 = .ok (.aload_n 0, 1) := dk_42 (dk_at dksX0_count_3 19 rfl rfl)
theorem dX0_count_92 : decode cX0_count 92 = .ok (.getfield 65, 3) := dk_180 0 65 (dk_at dksX0_count_3 20 rfl rfl)
theorem dX0_count_95 : decode cX0_count 95 = .ok (.invokevirtual 155, 3) := dk_182 0 155 (dk_at dksX0_count_4 0 rfl rfl)
theorem dX0_count_98 : decode cX0_count 98 = .ok (.ifCond .eq 7, 3) := dk_153 0 7 (dk_at dksX0_count_4 3 rfl rfl)
theorem dX0_count_101 : decode cX0_count 101 = .ok (.iconst 1, 1) := dk_4 (dk_at dksX0_count_4 6 rfl rfl)
theorem dX0_count_102 : decode cX0_count 102 = .ok (.goto 4, 3) := dk_167 0 4 (dk_at dksX0_count_4 7 rfl rfl)
theorem dX0_count_105 : decode cX0_count 105 = .ok (.iconst 0, 1) := dk_3 (dk_at dksX0_count_4 10 rfl rfl)
theorem dX0_count_106 : decode cX0_count 106 = .ok (.ireturn, 1) := dk_172 (dk_at dksX0_count_4 11 rfl rfl)
theorem dX0_count_107 : decode cX0_count 107 = .ok (.aload_n 0, 1) := dk_42 (dk_at dksX0_count_4 12 rfl rfl)
theorem dX0_count_108 : decode cX0_count 108 = .ok (.getfield 281, 3) := dk_180 1 25 (dk_at dksX0_count_4 13 rfl rfl)
theorem dX0_count_111 : decode cX0_count 111 = .ok (.ireturn, 1) := dk_172 (dk_at dksX0_count_4 16 rfl rfl)
theorem dX0_count_112 : decode cX0_count 112 = .ok (.aload_n 0, 1) := dk_42 (dk_at dksX0_count_4 17 rfl rfl)
theorem dX0_count_113 : decode cX0_count 113 = .ok (.getfield 111, 3) := dk_180 0 111 (dk_at dksX0_count_4 18 rfl rfl)
theorem dX0_count_116 : decode cX0_count 116 = .ok (.ireturn, 1) := dk_172 (dk_at dksX0_count_4 21 rfl rfl)
theorem dX0_count_117 : decode cX0_count 117 = .ok (.iload_n 1, 1) := dk_27 (dk_at dksX0_count_4 22 rfl rfl)
theorem dX0_count_118 : decode cX0_count 118 = .ok (.i2l, 1) := dk_133 (dk_at dksX0_count_4 23 rfl rfl)
theorem dX0_count_119 : decode cX0_count 119 = .ok (.ldc2_w 505, 3) := dk_20 1 249 (dk_at dksX0_count_5 0 rfl rfl)
theorem dX0_count_122 : decode cX0_count 122 = .ok (.ldc2_w 507, 3) := dk_20 1 251 (dk_at dksX0_count_5 3 rfl rfl)
theorem dX0_count_125 : decode cX0_count 125 = .ok (.invokestatic 13, 3) := dk_184 0 13 (dk_at dksX0_count_5 6 rfl rfl)
theorem dX0_count_128 : decode cX0_count 128 = .ok (.ifCond .eq 15, 3) := dk_153 0 15 (dk_at dksX0_count_5 9 rfl rfl)
theorem dX0_count_131 : decode cX0_count 131 = .ok (.aload_n 0, 1) := dk_42 (dk_at dksX0_count_5 12 rfl rfl)
theorem dX0_count_132 : decode cX0_count 132 = .ok (.getfield 83, 3) := dk_180 0 83 (dk_at dksX0_count_5 13 rfl rfl)
theorem dX0_count_135 : decode cX0_count 135 = .ok (.iload_n 1, 1) := dk_27 (dk_at dksX0_count_5 16 rfl rfl)
theorem dX0_count_136 : decode cX0_count 136 = .ok (.bipush 10, 2) := dk_16 10 (dk_at dksX0_count_5 17 rfl rfl)
theorem dX0_count_138 : decode cX0_count 138 = .ok (.isub, 1) := dk_100 (dk_at dksX0_count_5 19 rfl rfl)
theorem dX0_count_139 : decode cX0_count 139 = .ok (.iaload, 1) := dk_46 (dk_at dksX0_count_5 20 rfl rfl)
theorem dX0_count_140 : decode cX0_count 140 = .ok (.goto 5, 3) := dk_167 0 5 (dk_at dksX0_count_5 21 rfl rfl)
theorem dX0_count_143 : decode cX0_count 143 = .ok (.bipush (-9), 2) := dk_16 247 (dk_at dksX0_count_6 0 rfl rfl)
theorem dX0_count_145 : decode cX0_count 145 = .ok (.ireturn, 1) := dk_172 (dk_at dksX0_count_6 2 rfl rfl)
theorem q102 : (Jvm.Cond.initialized "CoresAreWills") ∈ lw_all := lw_g (lw_at lw_m1 1 rfl) rfl
theorem q128 : (Jvm.Cond.instantiable "CoresAreWills" (17 : Nat)) ∈ lw_all := lw_g (lw_at lw_m1 27 rfl) rfl
theorem q130 : (Jvm.Cond.instanceMethod ({ cls := "CoresAreWills", name := "<init>", desc := "()V" } : Jvm.MethodName)) ∈ lw_all := lw_g (lw_at lw_m1 29 rfl) rfl
theorem q131 : (Jvm.Cond.code ({ cls := "CoresAreWills", name := "<init>", desc := "()V" } : Jvm.MethodName) prog_1_method_15_code (1 : Nat) (Option.none : Option Jvm.ClassFile.FieldType)) ∈ lw_all := lw_g (lw_at lw_m1 30 rfl) rfl
theorem q132 : (Jvm.Cond.methodLink "CoresAreWills" (33 : Nat) ({ cls := "java/lang/Object", name := "<init>", desc := "()V" } : Jvm.MethodName)) ∈ lw_all := lw_g (lw_at lw_m1 31 rfl) rfl
theorem q135 : (Jvm.Cond.classLink "CoresAreWills" (38 : Nat) "CoresAreWills$Kind") ∈ lw_all := lw_g (lw_at lw_m1 34 rfl) rfl
theorem q137 : (Jvm.Cond.classLink "CoresAreWills" (40 : Nat) "CoresAreWills$Nephew") ∈ lw_all := lw_g (lw_at lw_m1 36 rfl) rfl
theorem q139 : (Jvm.Cond.methodLinkNest "CoresAreWills" (42 : Nat) ({ cls := "CoresAreWills$Nephew", name := "<init>", desc := "()V" } : Jvm.MethodName) "CoresAreWills") ∈ lw_tbl := lw_at lw_m1 38 rfl
theorem q147 : (Jvm.Cond.classLink "CoresAreWills" (43 : Nat) "CoresAreWills$Elder") ∈ lw_all := lw_g (lw_at lw_m1 46 rfl) rfl
theorem q149 : (Jvm.Cond.methodLinkNest "CoresAreWills" (45 : Nat) ({ cls := "CoresAreWills$Elder", name := "<init>", desc := "()V" } : Jvm.MethodName) "CoresAreWills") ∈ lw_tbl := lw_at lw_m1 48 rfl
theorem q154 : (Jvm.Cond.classLink "CoresAreWills" (46 : Nat) "CoresAreWills$Widow") ∈ lw_all := lw_g (lw_at lw_m1 53 rfl) rfl
theorem q156 : (Jvm.Cond.methodLinkNest "CoresAreWills" (48 : Nat) ({ cls := "CoresAreWills$Widow", name := "<init>", desc := "()V" } : Jvm.MethodName) "CoresAreWills") ∈ lw_tbl := lw_at lw_m1 55 rfl
theorem q161 : (Jvm.Cond.classLink "CoresAreWills" (49 : Nat) "CoresAreWills$Lawyer") ∈ lw_all := lw_g (lw_at lw_m1 60 rfl) rfl
theorem q163 : (Jvm.Cond.methodLinkNest "CoresAreWills" (51 : Nat) ({ cls := "CoresAreWills$Lawyer", name := "<init>", desc := "()V" } : Jvm.MethodName) "CoresAreWills") ∈ lw_tbl := lw_at lw_m1 62 rfl
theorem q168 : (Jvm.Cond.classLink "CoresAreWills" (52 : Nat) "CoresAreWills$Pig") ∈ lw_all := lw_g (lw_at lw_m1 67 rfl) rfl
theorem q170 : (Jvm.Cond.methodLinkNest "CoresAreWills" (54 : Nat) ({ cls := "CoresAreWills$Pig", name := "<init>", desc := "()V" } : Jvm.MethodName) "CoresAreWills") ∈ lw_tbl := lw_at lw_m1 69 rfl
theorem q175 : (Jvm.Cond.classLink "CoresAreWills" (55 : Nat) "CoresAreWills$Kitchen") ∈ lw_all := lw_g (lw_at lw_m1 74 rfl) rfl
theorem q177 : (Jvm.Cond.methodLinkNest "CoresAreWills" (57 : Nat) ({ cls := "CoresAreWills$Kitchen", name := "<init>", desc := "()V" } : Jvm.MethodName) "CoresAreWills") ∈ lw_tbl := lw_at lw_m1 76 rfl
theorem q182 : (Jvm.Cond.classLink "CoresAreWills" (62 : Nat) "CoresAreWills$Core") ∈ lw_all := lw_g (lw_at lw_m1 81 rfl) rfl
theorem q184 : (Jvm.Cond.methodLinkNest "CoresAreWills" (64 : Nat) ({ cls := "CoresAreWills$Core", name := "<init>", desc := "()V" } : Jvm.MethodName) "CoresAreWills") ∈ lw_tbl := lw_at lw_m1 83 rfl
theorem q193 : (Jvm.Cond.fieldLinkNest "CoresAreWills" (168 : Nat) "CoresAreWills$Core" "left" "I" "CoresAreWills") ∈ lw_tbl := lw_at lw_m1 92 rfl
theorem q196 : (Jvm.Cond.fieldLinkNest "CoresAreWills" (141 : Nat) "CoresAreWills$Core" "heirs" "I" "CoresAreWills") ∈ lw_tbl := lw_at lw_m1 95 rfl
theorem q198 : (Jvm.Cond.fieldLinkNest "CoresAreWills" (284 : Nat) "CoresAreWills$Core" "kind" "[LCoresAreWills$Kind;" "CoresAreWills") ∈ lw_tbl := lw_at lw_m1 97 rfl
theorem q200 : (Jvm.Cond.fieldLinkNest "CoresAreWills" (287 : Nat) "CoresAreWills$Core" "figures" "[I" "CoresAreWills") ∈ lw_tbl := lw_at lw_m1 99 rfl
theorem q203 : (Jvm.Cond.fieldLinkNest "CoresAreWills" (350 : Nat) "CoresAreWills$Core" "bitten" "I" "CoresAreWills") ∈ lw_tbl := lw_at lw_m1 102 rfl
theorem q208 : (Jvm.Cond.fieldLinkNest "CoresAreWills" (159 : Nat) "CoresAreWills$Core" "deed" "I" "CoresAreWills") ∈ lw_tbl := lw_at lw_m1 107 rfl
theorem q211 : (Jvm.Cond.fieldLinkNest "CoresAreWills" (149 : Nat) "CoresAreWills$Core" "pieceMany" "I" "CoresAreWills") ∈ lw_tbl := lw_at lw_m1 110 rfl
theorem q213 : (Jvm.Cond.fieldLinkNest "CoresAreWills" (152 : Nat) "CoresAreWills$Core" "leastPiece" "I" "CoresAreWills") ∈ lw_tbl := lw_at lw_m1 112 rfl
theorem q233 : (Jvm.Cond.fieldLink "CoresAreWills" (58 : Nat) "CoresAreWills" "kinds" "[LCoresAreWills$Kind;") ∈ lw_all := lw_g (lw_at lw_m1 132 rfl) rfl
theorem q234 : (Jvm.Cond.fieldLink "CoresAreWills" (65 : Nat) "CoresAreWills" "core0" "LCoresAreWills$Core;") ∈ lw_all := lw_g (lw_at lw_m1 133 rfl) rfl
theorem q235 : (Jvm.Cond.fieldLink "CoresAreWills" (69 : Nat) "CoresAreWills" "mind" "LCoresAreWills$Core;") ∈ lw_all := lw_g (lw_at lw_m1 134 rfl) rfl
theorem q236 : (Jvm.Cond.fieldLink "CoresAreWills" (72 : Nat) "CoresAreWills" "imaged" "LCoresAreWills$Core;") ∈ lw_all := lw_g (lw_at lw_m1 135 rfl) rfl
theorem q237 : (Jvm.Cond.fieldLink "CoresAreWills" (480 : Nat) "CoresAreWills" "hasImage" "Z") ∈ lw_all := lw_g (lw_at lw_m1 136 rfl) rfl
theorem q238 : (Jvm.Cond.fieldLink "CoresAreWills" (75 : Nat) "CoresAreWills" "row" "[B") ∈ lw_all := lw_g (lw_at lw_m1 137 rfl) rfl
theorem q239 : (Jvm.Cond.fieldLink "CoresAreWills" (281 : Nat) "CoresAreWills" "rowMany" "I") ∈ lw_all := lw_g (lw_at lw_m1 138 rfl) rfl
theorem q241 : (Jvm.Cond.fieldLink "CoresAreWills" (79 : Nat) "CoresAreWills" "letters" "[C") ∈ lw_all := lw_g (lw_at lw_m1 140 rfl) rfl
theorem q243 : (Jvm.Cond.fieldLink "CoresAreWills" (111 : Nat) "CoresAreWills" "letterMany" "I") ∈ lw_all := lw_g (lw_at lw_m1 142 rfl) rfl
theorem q244 : (Jvm.Cond.fieldLink "CoresAreWills" (83 : Nat) "CoresAreWills" "refused" "[I") ∈ lw_all := lw_g (lw_at lw_m1 143 rfl) rfl
theorem q245 : (Jvm.Cond.fieldLink "CoresAreWills" (87 : Nat) "CoresAreWills" "waysBy" "[J") ∈ lw_all := lw_g (lw_at lw_m1 144 rfl) rfl
theorem q246 : (Jvm.Cond.fieldLink "CoresAreWills" (91 : Nat) "CoresAreWills" "waysThen" "[J") ∈ lw_all := lw_g (lw_at lw_m1 145 rfl) rfl
theorem q247 : (Jvm.Cond.fieldLink "CoresAreWills" (94 : Nat) "CoresAreWills" "fewBy" "[I") ∈ lw_all := lw_g (lw_at lw_m1 146 rfl) rfl
theorem q248 : (Jvm.Cond.fieldLink "CoresAreWills" (97 : Nat) "CoresAreWills" "fewThen" "[I") ∈ lw_all := lw_g (lw_at lw_m1 147 rfl) rfl
theorem q249 : (Jvm.Cond.fieldLink "CoresAreWills" (100 : Nat) "CoresAreWills" "oneHas" "[I") ∈ lw_all := lw_g (lw_at lw_m1 148 rfl) rfl
theorem q250 : (Jvm.Cond.fieldLink "CoresAreWills" (103 : Nat) "CoresAreWills" "otherHas" "[I") ∈ lw_all := lw_g (lw_at lw_m1 149 rfl) rfl
theorem q251 : (Jvm.Cond.fieldLink "CoresAreWills" (294 : Nat) "CoresAreWills" "lotSeed" "I") ∈ lw_all := lw_g (lw_at lw_m1 150 rfl) rfl
theorem q252 : (Jvm.Cond.laysFinal "CoresAreWills" "CoresAreWills" "kinds" "[LCoresAreWills$Kind;") ∈ lw_all := lw_g (lw_at lw_m1 151 rfl) rfl
theorem q253 : (Jvm.Cond.soleField "CoresAreWills" "kinds") ∈ lw_all := lw_g (lw_at lw_m1 152 rfl) rfl
theorem q254 : (Jvm.Cond.laysFinal "CoresAreWills" "CoresAreWills" "core0" "LCoresAreWills$Core;") ∈ lw_all := lw_g (lw_at lw_m1 153 rfl) rfl
theorem q255 : (Jvm.Cond.soleField "CoresAreWills" "core0") ∈ lw_all := lw_g (lw_at lw_m1 154 rfl) rfl
theorem q256 : (Jvm.Cond.laysFinal "CoresAreWills" "CoresAreWills" "mind" "LCoresAreWills$Core;") ∈ lw_all := lw_g (lw_at lw_m1 155 rfl) rfl
theorem q257 : (Jvm.Cond.soleField "CoresAreWills" "mind") ∈ lw_all := lw_g (lw_at lw_m1 156 rfl) rfl
theorem q258 : (Jvm.Cond.laysFinal "CoresAreWills" "CoresAreWills" "imaged" "LCoresAreWills$Core;") ∈ lw_all := lw_g (lw_at lw_m1 157 rfl) rfl
theorem q259 : (Jvm.Cond.soleField "CoresAreWills" "imaged") ∈ lw_all := lw_g (lw_at lw_m1 158 rfl) rfl
theorem q260 : (Jvm.Cond.lays "CoresAreWills" "CoresAreWills" "hasImage" "Z") ∈ lw_all := lw_g (lw_at lw_m1 159 rfl) rfl
theorem q261 : (Jvm.Cond.soleField "CoresAreWills" "hasImage") ∈ lw_all := lw_g (lw_at lw_m1 160 rfl) rfl
theorem q262 : (Jvm.Cond.laysFinal "CoresAreWills" "CoresAreWills" "row" "[B") ∈ lw_all := lw_g (lw_at lw_m1 161 rfl) rfl
theorem q263 : (Jvm.Cond.soleField "CoresAreWills" "row") ∈ lw_all := lw_g (lw_at lw_m1 162 rfl) rfl
theorem q264 : (Jvm.Cond.lays "CoresAreWills" "CoresAreWills" "rowMany" "I") ∈ lw_all := lw_g (lw_at lw_m1 163 rfl) rfl
theorem q265 : (Jvm.Cond.soleField "CoresAreWills" "rowMany") ∈ lw_all := lw_g (lw_at lw_m1 164 rfl) rfl
theorem q266 : (Jvm.Cond.laysFinal "CoresAreWills" "CoresAreWills" "letters" "[C") ∈ lw_all := lw_g (lw_at lw_m1 165 rfl) rfl
theorem q267 : (Jvm.Cond.soleField "CoresAreWills" "letters") ∈ lw_all := lw_g (lw_at lw_m1 166 rfl) rfl
theorem q268 : (Jvm.Cond.lays "CoresAreWills" "CoresAreWills" "letterMany" "I") ∈ lw_all := lw_g (lw_at lw_m1 167 rfl) rfl
theorem q269 : (Jvm.Cond.soleField "CoresAreWills" "letterMany") ∈ lw_all := lw_g (lw_at lw_m1 168 rfl) rfl
theorem q270 : (Jvm.Cond.laysFinal "CoresAreWills" "CoresAreWills" "refused" "[I") ∈ lw_all := lw_g (lw_at lw_m1 169 rfl) rfl
theorem q271 : (Jvm.Cond.soleField "CoresAreWills" "refused") ∈ lw_all := lw_g (lw_at lw_m1 170 rfl) rfl
theorem q272 : (Jvm.Cond.laysFinal "CoresAreWills" "CoresAreWills" "waysBy" "[J") ∈ lw_all := lw_g (lw_at lw_m1 171 rfl) rfl
theorem q273 : (Jvm.Cond.soleField "CoresAreWills" "waysBy") ∈ lw_all := lw_g (lw_at lw_m1 172 rfl) rfl
theorem q274 : (Jvm.Cond.laysFinal "CoresAreWills" "CoresAreWills" "waysThen" "[J") ∈ lw_all := lw_g (lw_at lw_m1 173 rfl) rfl
theorem q275 : (Jvm.Cond.soleField "CoresAreWills" "waysThen") ∈ lw_all := lw_g (lw_at lw_m1 174 rfl) rfl
theorem q276 : (Jvm.Cond.laysFinal "CoresAreWills" "CoresAreWills" "fewBy" "[I") ∈ lw_all := lw_g (lw_at lw_m1 175 rfl) rfl
theorem q277 : (Jvm.Cond.soleField "CoresAreWills" "fewBy") ∈ lw_all := lw_g (lw_at lw_m1 176 rfl) rfl
theorem q278 : (Jvm.Cond.laysFinal "CoresAreWills" "CoresAreWills" "fewThen" "[I") ∈ lw_all := lw_g (lw_at lw_m1 177 rfl) rfl
theorem q279 : (Jvm.Cond.soleField "CoresAreWills" "fewThen") ∈ lw_all := lw_g (lw_at lw_m1 178 rfl) rfl
theorem q280 : (Jvm.Cond.laysFinal "CoresAreWills" "CoresAreWills" "oneHas" "[I") ∈ lw_all := lw_g (lw_at lw_m1 179 rfl) rfl
theorem q281 : (Jvm.Cond.soleField "CoresAreWills" "oneHas") ∈ lw_all := lw_g (lw_at lw_m1 180 rfl) rfl
theorem q282 : (Jvm.Cond.laysFinal "CoresAreWills" "CoresAreWills" "otherHas" "[I") ∈ lw_all := lw_g (lw_at lw_m1 181 rfl) rfl
theorem q283 : (Jvm.Cond.soleField "CoresAreWills" "otherHas") ∈ lw_all := lw_g (lw_at lw_m1 182 rfl) rfl
theorem q284 : (Jvm.Cond.lays "CoresAreWills" "CoresAreWills" "lotSeed" "I") ∈ lw_all := lw_g (lw_at lw_m1 183 rfl) rfl
theorem q285 : (Jvm.Cond.soleField "CoresAreWills" "lotSeed") ∈ lw_all := lw_g (lw_at lw_m1 184 rfl) rfl
theorem q286 : (Jvm.Cond.superclass "CoresAreWills" "java/lang/Object") ∈ lw_all := lw_g (lw_at lw_m1 185 rfl) rfl
theorem q291 : (Jvm.Cond.instanceMethod ({ cls := "CoresAreWills", name := "letter", desc := "(I)I" } : Jvm.MethodName)) ∈ lw_all := lw_g (lw_at lw_m1 190 rfl) rfl
theorem q292 : (Jvm.Cond.selects "CoresAreWills" ({ cls := "CoresAreWills", name := "letter", desc := "(I)I" } : Jvm.MethodName) ({ cls := "CoresAreWills", name := "letter", desc := "(I)I" } : Jvm.MethodName)) ∈ lw_all := lw_g (lw_at lw_m1 191 rfl) rfl
theorem q293 : (Jvm.Cond.code ({ cls := "CoresAreWills", name := "letter", desc := "(I)I" } : Jvm.MethodName) prog_1_method_89_code (2 : Nat) (Option.some Jvm.ClassFile.FieldType.int)) ∈ lw_all := lw_g (lw_at lw_m1 192 rfl) rfl
theorem q294 : (Jvm.Cond.methodLink "CoresAreWills" (492 : Nat) ({ cls := "CoresAreWills", name := "act", desc := "(IIII)I" } : Jvm.MethodName)) ∈ lw_all := lw_g (lw_at lw_m1 193 rfl) rfl
theorem q295 : (Jvm.Cond.privateMethod ({ cls := "CoresAreWills", name := "act", desc := "(IIII)I" } : Jvm.MethodName)) ∈ lw_tbl := lw_at lw_m1 194 rfl
theorem q296 : (Jvm.Cond.instanceMethod ({ cls := "CoresAreWills", name := "act", desc := "(IIII)I" } : Jvm.MethodName)) ∈ lw_all := lw_g (lw_at lw_m1 195 rfl) rfl
theorem q297 : (Jvm.Cond.codeWith ({ cls := "CoresAreWills", name := "act", desc := "(IIII)I" } : Jvm.MethodName) prog_1_method_57_code (6 : Nat) (Option.some Jvm.ClassFile.FieldType.int) [((0 : Nat), (9 : Nat), (10 : Nat), (319 : Nat))]) ∈ lw_all := lw_g (lw_at lw_m1 196 rfl) rfl
theorem q298 : (Jvm.Cond.classLink "CoresAreWills" (319 : Nat) "CoresAreWills$Refusal") ∈ lw_all := lw_g (lw_at lw_m1 197 rfl) rfl
theorem q299 : (Jvm.Cond.methodLink "CoresAreWills" (316 : Nat) ({ cls := "CoresAreWills", name := "doIt", desc := "(IIII)I" } : Jvm.MethodName)) ∈ lw_all := lw_g (lw_at lw_m1 198 rfl) rfl
theorem q300 : (Jvm.Cond.privateMethod ({ cls := "CoresAreWills", name := "doIt", desc := "(IIII)I" } : Jvm.MethodName)) ∈ lw_tbl := lw_at lw_m1 199 rfl
theorem q301 : (Jvm.Cond.instanceMethod ({ cls := "CoresAreWills", name := "doIt", desc := "(IIII)I" } : Jvm.MethodName)) ∈ lw_all := lw_g (lw_at lw_m1 200 rfl) rfl
theorem q302 : (Jvm.Cond.code ({ cls := "CoresAreWills", name := "doIt", desc := "(IIII)I" } : Jvm.MethodName) prog_1_method_56_code (5 : Nat) (Option.some Jvm.ClassFile.FieldType.int)) ∈ lw_all := lw_g (lw_at lw_m1 201 rfl) rfl
theorem q303 : (Jvm.Cond.methodLink "CoresAreWills" (306 : Nat) ({ cls := "CoresAreWills", name := "ofCore", desc := "(IIII)I" } : Jvm.MethodName)) ∈ lw_all := lw_g (lw_at lw_m1 202 rfl) rfl
theorem q304 : (Jvm.Cond.privateMethod ({ cls := "CoresAreWills", name := "ofCore", desc := "(IIII)I" } : Jvm.MethodName)) ∈ lw_tbl := lw_at lw_m1 203 rfl
theorem q305 : (Jvm.Cond.instanceMethod ({ cls := "CoresAreWills", name := "ofCore", desc := "(IIII)I" } : Jvm.MethodName)) ∈ lw_all := lw_g (lw_at lw_m1 204 rfl) rfl
theorem q306 : (Jvm.Cond.code ({ cls := "CoresAreWills", name := "ofCore", desc := "(IIII)I" } : Jvm.MethodName) prog_1_method_72_code (5 : Nat) (Option.some Jvm.ClassFile.FieldType.int)) ∈ lw_all := lw_g (lw_at lw_m1 205 rfl) rfl
theorem q307 : (Jvm.Cond.methodLink "CoresAreWills" (353 : Nat) ({ cls := "CoresAreWills", name := "letterIt", desc := "(I)I" } : Jvm.MethodName)) ∈ lw_all := lw_g (lw_at lw_m1 206 rfl) rfl
theorem q308 : (Jvm.Cond.privateMethod ({ cls := "CoresAreWills", name := "letterIt", desc := "(I)I" } : Jvm.MethodName)) ∈ lw_tbl := lw_at lw_m1 207 rfl
theorem q309 : (Jvm.Cond.instanceMethod ({ cls := "CoresAreWills", name := "letterIt", desc := "(I)I" } : Jvm.MethodName)) ∈ lw_all := lw_g (lw_at lw_m1 208 rfl) rfl
theorem q310 : (Jvm.Cond.code ({ cls := "CoresAreWills", name := "letterIt", desc := "(I)I" } : Jvm.MethodName) prog_1_method_64_code (2 : Nat) (Option.some Jvm.ClassFile.FieldType.int)) ∈ lw_all := lw_g (lw_at lw_m1 209 rfl) rfl
theorem q311 : (Jvm.Cond.constantLong "CoresAreWills" (332 : Nat) (255 : Int64)) ∈ lw_all := lw_g (lw_at lw_m1 210 rfl) rfl
theorem q312 : (Jvm.Cond.methodLink "CoresAreWills" (334 : Nat) ({ cls := "CoresAreWills", name := "within", desc := "(JJJ)V" } : Jvm.MethodName)) ∈ lw_all := lw_g (lw_at lw_m1 211 rfl) rfl
theorem q313 : (Jvm.Cond.static ({ cls := "CoresAreWills", name := "within", desc := "(JJJ)V" } : Jvm.MethodName)) ∈ lw_all := lw_g (lw_at lw_m1 212 rfl) rfl
theorem q314 : (Jvm.Cond.code ({ cls := "CoresAreWills", name := "within", desc := "(JJJ)V" } : Jvm.MethodName) prog_1_method_3_code (6 : Nat) (Option.none : Option Jvm.ClassFile.FieldType)) ∈ lw_all := lw_g (lw_at lw_m1 213 rfl) rfl
theorem q315 : (Jvm.Cond.methodLink "CoresAreWills" (9 : Nat) ({ cls := "CoresAreWills", name := "must", desc := "(ZI)V" } : Jvm.MethodName)) ∈ lw_all := lw_g (lw_at lw_m1 214 rfl) rfl
theorem q316 : (Jvm.Cond.static ({ cls := "CoresAreWills", name := "must", desc := "(ZI)V" } : Jvm.MethodName)) ∈ lw_all := lw_g (lw_at lw_m1 215 rfl) rfl
theorem q317 : (Jvm.Cond.code ({ cls := "CoresAreWills", name := "must", desc := "(ZI)V" } : Jvm.MethodName) prog_1_method_2_code (2 : Nat) (Option.none : Option Jvm.ClassFile.FieldType)) ∈ lw_all := lw_g (lw_at lw_m1 216 rfl) rfl
theorem q318 : (Jvm.Cond.classLink "CoresAreWills" (3 : Nat) "CoresAreWills$Refused") ∈ lw_all := lw_g (lw_at lw_m1 217 rfl) rfl
theorem q359 : (Jvm.Cond.methodLink "CoresAreWills" (5 : Nat) ({ cls := "CoresAreWills$Refused", name := "<init>", desc := "(I)V" } : Jvm.MethodName)) ∈ lw_all := lw_g (lw_at lw_m2 18 rfl) rfl
theorem q387 : (Jvm.Cond.methodLink "CoresAreWills" (356 : Nat) ({ cls := "CoresAreWills", name := "readCore", desc := "()I" } : Jvm.MethodName)) ∈ lw_all := lw_g (lw_at lw_m2 46 rfl) rfl
theorem q388 : (Jvm.Cond.privateMethod ({ cls := "CoresAreWills", name := "readCore", desc := "()I" } : Jvm.MethodName)) ∈ lw_tbl := lw_at lw_m2 47 rfl
theorem q389 : (Jvm.Cond.instanceMethod ({ cls := "CoresAreWills", name := "readCore", desc := "()I" } : Jvm.MethodName)) ∈ lw_all := lw_g (lw_at lw_m2 48 rfl) rfl
theorem q390 : (Jvm.Cond.code ({ cls := "CoresAreWills", name := "readCore", desc := "()I" } : Jvm.MethodName) prog_1_method_17_code (5 : Nat) (Option.some Jvm.ClassFile.FieldType.int)) ∈ lw_all := lw_g (lw_at lw_m2 49 rfl) rfl
theorem q391 : (Jvm.Cond.classLink "CoresAreWills" (106 : Nat) "CoresAreWills$Reader") ∈ lw_all := lw_g (lw_at lw_m2 50 rfl) rfl
theorem q393 : (Jvm.Cond.methodLinkNest "CoresAreWills" (108 : Nat) ({ cls := "CoresAreWills$Reader", name := "<init>", desc := "(LCoresAreWills;)V" } : Jvm.MethodName) "CoresAreWills") ∈ lw_tbl := lw_at lw_m2 52 rfl
theorem q398 : (Jvm.Cond.fieldLinkNest "CoresAreWills" (124 : Nat) "CoresAreWills$Reader" "size" "I" "CoresAreWills") ∈ lw_tbl := lw_at lw_m2 57 rfl
theorem q400 : (Jvm.Cond.fieldLinkNest "CoresAreWills" (121 : Nat) "CoresAreWills$Reader" "at" "I" "CoresAreWills") ∈ lw_tbl := lw_at lw_m2 59 rfl
theorem q409 : (Jvm.Cond.classLink "CoresAreWills" (115 : Nat) "CoresAreWills$Told") ∈ lw_all := lw_g (lw_at lw_m2 68 rfl) rfl
theorem q411 : (Jvm.Cond.methodLink "CoresAreWills" (117 : Nat) ({ cls := "CoresAreWills$Reader", name := "statement", desc := "()LCoresAreWills$Told;" } : Jvm.MethodName)) ∈ lw_all := lw_g (lw_at lw_m2 70 rfl) rfl
theorem q451 : (Jvm.Cond.fieldLink "CoresAreWills" (137 : Nat) "CoresAreWills$Told" "start" "I") ∈ lw_all := lw_g (lw_at lw_m2 110 rfl) rfl
theorem q460 : (Jvm.Cond.privateMethod ({ cls := "CoresAreWills", name := "kindOf", desc := "(I)I" } : Jvm.MethodName)) ∈ lw_tbl := lw_at lw_m2 119 rfl
theorem q461 : (Jvm.Cond.instanceMethod ({ cls := "CoresAreWills", name := "kindOf", desc := "(I)I" } : Jvm.MethodName)) ∈ lw_all := lw_g (lw_at lw_m2 120 rfl) rfl
theorem q462 : (Jvm.Cond.code ({ cls := "CoresAreWills", name := "kindOf", desc := "(I)I" } : Jvm.MethodName) prog_1_method_16_code (2 : Nat) (Option.some Jvm.ClassFile.FieldType.int)) ∈ lw_all := lw_g (lw_at lw_m2 121 rfl) rfl
theorem q472 : (Jvm.Cond.static ({ cls := "CoresAreWills", name := "in", desc := "(JJJ)Z" } : Jvm.MethodName)) ∈ lw_all := lw_g (lw_at lw_m2 131 rfl) rfl
theorem q473 : (Jvm.Cond.code ({ cls := "CoresAreWills", name := "in", desc := "(JJJ)Z" } : Jvm.MethodName) prog_1_method_1_code (6 : Nat) (Option.some Jvm.ClassFile.FieldType.boolean)) ∈ lw_all := lw_g (lw_at lw_m2 132 rfl) rfl
theorem q534 : (Jvm.Cond.methodLink "CoresAreWills" (127 : Nat) ({ cls := "CoresAreWills$Core", name := "set", desc := "(LCoresAreWills$Core;)LCoresAreWills$Core;" } : Jvm.MethodName)) ∈ lw_all := lw_g (lw_at lw_m2 193 rfl) rfl
theorem q541 : (Jvm.Cond.methodLink "CoresAreWills" (131 : Nat) ({ cls := "CoresAreWills$Told", name := "comes", desc := "(LCoresAreWills$Core;)Z" } : Jvm.MethodName)) ∈ lw_all := lw_g (lw_at lw_m2 200 rfl) rfl
theorem q564 : (Jvm.Cond.static ({ cls := "CoresAreWills", name := "cellsOf", desc := "(II)I" } : Jvm.MethodName)) ∈ lw_all := lw_g (lw_at lw_m2 223 rfl) rfl
theorem q565 : (Jvm.Cond.code ({ cls := "CoresAreWills", name := "cellsOf", desc := "(II)I" } : Jvm.MethodName) prog_1_method_13_code (5 : Nat) (Option.some Jvm.ClassFile.FieldType.int)) ∈ lw_all := lw_g (lw_at lw_m2 224 rfl) rfl
theorem q589 : (Jvm.Cond.static ({ cls := "CoresAreWills", name := "has", desc := "(II)Z" } : Jvm.MethodName)) ∈ lw_all := lw_g (lw_at lw_m3 8 rfl) rfl
theorem q590 : (Jvm.Cond.code ({ cls := "CoresAreWills", name := "has", desc := "(II)Z" } : Jvm.MethodName) prog_1_method_5_code (2 : Nat) (Option.some Jvm.ClassFile.FieldType.boolean)) ∈ lw_all := lw_g (lw_at lw_m3 9 rfl) rfl
theorem q592 : (Jvm.Cond.static ({ cls := "CoresAreWills", name := "heapOf", desc := "(II)I" } : Jvm.MethodName)) ∈ lw_all := lw_g (lw_at lw_m3 11 rfl) rfl
theorem q593 : (Jvm.Cond.code ({ cls := "CoresAreWills", name := "heapOf", desc := "(II)I" } : Jvm.MethodName) prog_1_method_11_code (6 : Nat) (Option.some Jvm.ClassFile.FieldType.int)) ∈ lw_all := lw_g (lw_at lw_m3 12 rfl) rfl
theorem q594 : (Jvm.Cond.methodLink "CoresAreWills" (21 : Nat) ({ cls := "CoresAreWills", name := "has", desc := "(II)Z" } : Jvm.MethodName)) ∈ lw_all := lw_g (lw_at lw_m3 13 rfl) rfl
theorem q595 : (Jvm.Cond.methodLink "CoresAreWills" (25 : Nat) ({ cls := "CoresAreWills", name := "besideBits", desc := "(I)I" } : Jvm.MethodName)) ∈ lw_all := lw_g (lw_at lw_m3 14 rfl) rfl
theorem q596 : (Jvm.Cond.static ({ cls := "CoresAreWills", name := "besideBits", desc := "(I)I" } : Jvm.MethodName)) ∈ lw_all := lw_g (lw_at lw_m3 15 rfl) rfl
theorem q597 : (Jvm.Cond.code ({ cls := "CoresAreWills", name := "besideBits", desc := "(I)I" } : Jvm.MethodName) prog_1_method_12_code (4 : Nat) (Option.some Jvm.ClassFile.FieldType.int)) ∈ lw_all := lw_g (lw_at lw_m3 16 rfl) rfl
theorem q598 : (Jvm.Cond.methodLink "CoresAreWills" (29 : Nat) ({ cls := "CoresAreWills", name := "beside", desc := "(II)I" } : Jvm.MethodName)) ∈ lw_all := lw_g (lw_at lw_m3 17 rfl) rfl
theorem q599 : (Jvm.Cond.static ({ cls := "CoresAreWills", name := "beside", desc := "(II)I" } : Jvm.MethodName)) ∈ lw_all := lw_g (lw_at lw_m3 18 rfl) rfl
theorem q600 : (Jvm.Cond.code ({ cls := "CoresAreWills", name := "beside", desc := "(II)I" } : Jvm.MethodName) prog_1_method_9_code (4 : Nat) (Option.some Jvm.ClassFile.FieldType.int)) ∈ lw_all := lw_g (lw_at lw_m3 19 rfl) rfl
theorem q602 : (Jvm.Cond.static ({ cls := "CoresAreWills", name := "manyIn", desc := "(I)I" } : Jvm.MethodName)) ∈ lw_all := lw_g (lw_at lw_m3 21 rfl) rfl
theorem q603 : (Jvm.Cond.code ({ cls := "CoresAreWills", name := "manyIn", desc := "(I)I" } : Jvm.MethodName) prog_1_method_10_code (3 : Nat) (Option.some Jvm.ClassFile.FieldType.int)) ∈ lw_all := lw_g (lw_at lw_m3 22 rfl) rfl
theorem q637 : (Jvm.Cond.static ({ cls := "CoresAreWills", name := "rolled", desc := "(I)I" } : Jvm.MethodName)) ∈ lw_all := lw_g (lw_at lw_m3 56 rfl) rfl
theorem q638 : (Jvm.Cond.code ({ cls := "CoresAreWills", name := "rolled", desc := "(I)I" } : Jvm.MethodName) prog_1_method_14_code (4 : Nat) (Option.some Jvm.ClassFile.FieldType.int)) ∈ lw_all := lw_g (lw_at lw_m3 57 rfl) rfl
theorem q639 : (Jvm.Cond.classLink "CoresAreWills" (135 : Nat) "CoresAreWills$Fault") ∈ lw_all := lw_g (lw_at lw_m3 58 rfl) rfl
theorem q640 : (Jvm.Cond.methodLink "CoresAreWills" (140 : Nat) ({ cls := "CoresAreWills$Fault", name := "<init>", desc := "(I)V" } : Jvm.MethodName)) ∈ lw_all := lw_g (lw_at lw_m3 59 rfl) rfl
theorem q641 : (Jvm.Cond.methodLink "CoresAreWills" (359 : Nat) ({ cls := "CoresAreWills", name := "cellAsked", desc := "(II)I" } : Jvm.MethodName)) ∈ lw_all := lw_g (lw_at lw_m3 60 rfl) rfl
theorem q642 : (Jvm.Cond.privateMethod ({ cls := "CoresAreWills", name := "cellAsked", desc := "(II)I" } : Jvm.MethodName)) ∈ lw_tbl := lw_at lw_m3 61 rfl
theorem q643 : (Jvm.Cond.instanceMethod ({ cls := "CoresAreWills", name := "cellAsked", desc := "(II)I" } : Jvm.MethodName)) ∈ lw_all := lw_g (lw_at lw_m3 62 rfl) rfl
theorem q644 : (Jvm.Cond.code ({ cls := "CoresAreWills", name := "cellAsked", desc := "(II)I" } : Jvm.MethodName) prog_1_method_65_code (4 : Nat) (Option.some Jvm.ClassFile.FieldType.int)) ∈ lw_all := lw_g (lw_at lw_m3 63 rfl) rfl
theorem q645 : (Jvm.Cond.methodLink "CoresAreWills" (338 : Nat) ({ cls := "CoresAreWills", name := "mustBeCell", desc := "(I)V" } : Jvm.MethodName)) ∈ lw_all := lw_g (lw_at lw_m3 64 rfl) rfl
theorem q646 : (Jvm.Cond.static ({ cls := "CoresAreWills", name := "mustBeCell", desc := "(I)V" } : Jvm.MethodName)) ∈ lw_all := lw_g (lw_at lw_m3 65 rfl) rfl
theorem q647 : (Jvm.Cond.code ({ cls := "CoresAreWills", name := "mustBeCell", desc := "(I)V" } : Jvm.MethodName) prog_1_method_60_code (1 : Nat) (Option.none : Option Jvm.ClassFile.FieldType)) ∈ lw_all := lw_g (lw_at lw_m3 66 rfl) rfl
theorem q648 : (Jvm.Cond.methodLink "CoresAreWills" (329 : Nat) ({ cls := "CoresAreWills", name := "mustBe", desc := "(II)V" } : Jvm.MethodName)) ∈ lw_all := lw_g (lw_at lw_m3 67 rfl) rfl
theorem q649 : (Jvm.Cond.static ({ cls := "CoresAreWills", name := "mustBe", desc := "(II)V" } : Jvm.MethodName)) ∈ lw_all := lw_g (lw_at lw_m3 68 rfl) rfl
theorem q650 : (Jvm.Cond.code ({ cls := "CoresAreWills", name := "mustBe", desc := "(II)V" } : Jvm.MethodName) prog_1_method_4_code (2 : Nat) (Option.none : Option Jvm.ClassFile.FieldType)) ∈ lw_all := lw_g (lw_at lw_m3 69 rfl) rfl
theorem q651 : (Jvm.Cond.methodLink "CoresAreWills" (13 : Nat) ({ cls := "CoresAreWills", name := "in", desc := "(JJJ)Z" } : Jvm.MethodName)) ∈ lw_all := lw_g (lw_at lw_m3 70 rfl) rfl
theorem q652 : (Jvm.Cond.constantLong "CoresAreWills" (253 : Nat) (2 : Int64)) ∈ lw_all := lw_g (lw_at lw_m3 71 rfl) rfl
theorem q653 : (Jvm.Cond.methodLink "CoresAreWills" (172 : Nat) ({ cls := "CoresAreWills", name := "heapOf", desc := "(II)I" } : Jvm.MethodName)) ∈ lw_all := lw_g (lw_at lw_m3 72 rfl) rfl
theorem q654 : (Jvm.Cond.methodLink "CoresAreWills" (165 : Nat) ({ cls := "CoresAreWills", name := "manyIn", desc := "(I)I" } : Jvm.MethodName)) ∈ lw_all := lw_g (lw_at lw_m3 73 rfl) rfl
theorem q655 : (Jvm.Cond.methodLink "CoresAreWills" (362 : Nat) ({ cls := "CoresAreWills", name := "heirAsked", desc := "(II)I" } : Jvm.MethodName)) ∈ lw_all := lw_g (lw_at lw_m3 74 rfl) rfl
theorem q656 : (Jvm.Cond.privateMethod ({ cls := "CoresAreWills", name := "heirAsked", desc := "(II)I" } : Jvm.MethodName)) ∈ lw_tbl := lw_at lw_m3 75 rfl
theorem q657 : (Jvm.Cond.instanceMethod ({ cls := "CoresAreWills", name := "heirAsked", desc := "(II)I" } : Jvm.MethodName)) ∈ lw_all := lw_g (lw_at lw_m3 76 rfl) rfl
theorem q658 : (Jvm.Cond.code ({ cls := "CoresAreWills", name := "heirAsked", desc := "(II)I" } : Jvm.MethodName) prog_1_method_66_code (3 : Nat) (Option.some Jvm.ClassFile.FieldType.int)) ∈ lw_all := lw_g (lw_at lw_m3 77 rfl) rfl
theorem q659 : (Jvm.Cond.methodLink "CoresAreWills" (194 : Nat) ({ cls := "CoresAreWills", name := "mustBeHeir", desc := "(I)V" } : Jvm.MethodName)) ∈ lw_all := lw_g (lw_at lw_m3 78 rfl) rfl
theorem q660 : (Jvm.Cond.privateMethod ({ cls := "CoresAreWills", name := "mustBeHeir", desc := "(I)V" } : Jvm.MethodName)) ∈ lw_tbl := lw_at lw_m3 79 rfl
theorem q661 : (Jvm.Cond.instanceMethod ({ cls := "CoresAreWills", name := "mustBeHeir", desc := "(I)V" } : Jvm.MethodName)) ∈ lw_all := lw_g (lw_at lw_m3 80 rfl) rfl
theorem q662 : (Jvm.Cond.code ({ cls := "CoresAreWills", name := "mustBeHeir", desc := "(I)V" } : Jvm.MethodName) prog_1_method_61_code (2 : Nat) (Option.none : Option Jvm.ClassFile.FieldType)) ∈ lw_all := lw_g (lw_at lw_m3 81 rfl) rfl
theorem q663 : (Jvm.Cond.methodLink "CoresAreWills" (341 : Nat) ({ cls := "CoresAreWills$Kind", name := "kind", desc := "()I" } : Jvm.MethodName)) ∈ lw_all := lw_g (lw_at lw_m3 82 rfl) rfl
theorem q684 : (Jvm.Cond.methodLink "CoresAreWills" (144 : Nat) ({ cls := "CoresAreWills$Core", name := "shareOf", desc := "(I)I" } : Jvm.MethodName)) ∈ lw_all := lw_g (lw_at lw_m3 103 rfl) rfl
theorem q737 : (Jvm.Cond.methodLink "CoresAreWills" (365 : Nat) ({ cls := "CoresAreWills", name := "biteIt", desc := "(II)I" } : Jvm.MethodName)) ∈ lw_all := lw_g (lw_at lw_m3 156 rfl) rfl
theorem q738 : (Jvm.Cond.privateMethod ({ cls := "CoresAreWills", name := "biteIt", desc := "(II)I" } : Jvm.MethodName)) ∈ lw_tbl := lw_at lw_m3 157 rfl
theorem q739 : (Jvm.Cond.instanceMethod ({ cls := "CoresAreWills", name := "biteIt", desc := "(II)I" } : Jvm.MethodName)) ∈ lw_all := lw_g (lw_at lw_m3 158 rfl) rfl
theorem q740 : (Jvm.Cond.code ({ cls := "CoresAreWills", name := "biteIt", desc := "(II)I" } : Jvm.MethodName) prog_1_method_67_code (3 : Nat) (Option.some Jvm.ClassFile.FieldType.int)) ∈ lw_all := lw_g (lw_at lw_m3 159 rfl) rfl
theorem q741 : (Jvm.Cond.constantLong "CoresAreWills" (147 : Nat) (3 : Int64)) ∈ lw_all := lw_g (lw_at lw_m3 160 rfl) rfl
theorem q742 : (Jvm.Cond.methodLink "CoresAreWills" (179 : Nat) ({ cls := "CoresAreWills$Core", name := "canBite", desc := "(II)Z" } : Jvm.MethodName)) ∈ lw_all := lw_g (lw_at lw_m3 161 rfl) rfl
theorem q743 : (Jvm.Cond.methodLink "CoresAreWills" (266 : Nat) ({ cls := "CoresAreWills$Core", name := "bite", desc := "(II)V" } : Jvm.MethodName)) ∈ lw_all := lw_g (lw_at lw_m3 162 rfl) rfl
theorem q744 : (Jvm.Cond.methodLink "CoresAreWills" (368 : Nat) ({ cls := "CoresAreWills", name := "healIt", desc := "(I)I" } : Jvm.MethodName)) ∈ lw_all := lw_g (lw_at lw_m3 163 rfl) rfl
theorem q745 : (Jvm.Cond.privateMethod ({ cls := "CoresAreWills", name := "healIt", desc := "(I)I" } : Jvm.MethodName)) ∈ lw_tbl := lw_at lw_m3 164 rfl
theorem q746 : (Jvm.Cond.instanceMethod ({ cls := "CoresAreWills", name := "healIt", desc := "(I)I" } : Jvm.MethodName)) ∈ lw_all := lw_g (lw_at lw_m3 165 rfl) rfl
theorem q747 : (Jvm.Cond.code ({ cls := "CoresAreWills", name := "healIt", desc := "(I)I" } : Jvm.MethodName) prog_1_method_68_code (2 : Nat) (Option.some Jvm.ClassFile.FieldType.int)) ∈ lw_all := lw_g (lw_at lw_m3 166 rfl) rfl
theorem q748 : (Jvm.Cond.methodLink "CoresAreWills" (185 : Nat) ({ cls := "CoresAreWills$Core", name := "leave", desc := "(I)LCoresAreWills$Core;" } : Jvm.MethodName)) ∈ lw_all := lw_g (lw_at lw_m3 167 rfl) rfl
theorem q749 : (Jvm.Cond.methodLink "CoresAreWills" (371 : Nat) ({ cls := "CoresAreWills", name := "rollIt", desc := "(I)I" } : Jvm.MethodName)) ∈ lw_all := lw_g (lw_at lw_m3 168 rfl) rfl
theorem q750 : (Jvm.Cond.privateMethod ({ cls := "CoresAreWills", name := "rollIt", desc := "(I)I" } : Jvm.MethodName)) ∈ lw_tbl := lw_at lw_m3 169 rfl
theorem q751 : (Jvm.Cond.instanceMethod ({ cls := "CoresAreWills", name := "rollIt", desc := "(I)I" } : Jvm.MethodName)) ∈ lw_all := lw_g (lw_at lw_m3 170 rfl) rfl
theorem q752 : (Jvm.Cond.code ({ cls := "CoresAreWills", name := "rollIt", desc := "(I)I" } : Jvm.MethodName) prog_1_method_69_code (2 : Nat) (Option.some Jvm.ClassFile.FieldType.int)) ∈ lw_all := lw_g (lw_at lw_m3 171 rfl) rfl
theorem q753 : (Jvm.Cond.methodLink "CoresAreWills" (343 : Nat) ({ cls := "CoresAreWills$Core", name := "roll", desc := "(I)V" } : Jvm.MethodName)) ∈ lw_all := lw_g (lw_at lw_m3 172 rfl) rfl
theorem q754 : (Jvm.Cond.methodLink "CoresAreWills" (374 : Nat) ({ cls := "CoresAreWills", name := "turnIt", desc := "(III)I" } : Jvm.MethodName)) ∈ lw_all := lw_g (lw_at lw_m3 173 rfl) rfl
theorem q755 : (Jvm.Cond.privateMethod ({ cls := "CoresAreWills", name := "turnIt", desc := "(III)I" } : Jvm.MethodName)) ∈ lw_tbl := lw_at lw_m3 174 rfl
theorem q756 : (Jvm.Cond.instanceMethod ({ cls := "CoresAreWills", name := "turnIt", desc := "(III)I" } : Jvm.MethodName)) ∈ lw_all := lw_g (lw_at lw_m3 175 rfl) rfl
theorem q757 : (Jvm.Cond.code ({ cls := "CoresAreWills", name := "turnIt", desc := "(III)I" } : Jvm.MethodName) prog_1_method_70_code (5 : Nat) (Option.some Jvm.ClassFile.FieldType.int)) ∈ lw_all := lw_g (lw_at lw_m3 176 rfl) rfl
theorem q758 : (Jvm.Cond.constantLong "CoresAreWills" (346 : Nat) (5 : Int64)) ∈ lw_all := lw_g (lw_at lw_m3 177 rfl) rfl
theorem q759 : (Jvm.Cond.constantLong "CoresAreWills" (348 : Nat) (9 : Int64)) ∈ lw_all := lw_g (lw_at lw_m3 178 rfl) rfl
theorem q760 : (Jvm.Cond.methodLink "CoresAreWills" (378 : Nat) ({ cls := "CoresAreWills", name := "allAnew", desc := "()I" } : Jvm.MethodName)) ∈ lw_all := lw_g (lw_at lw_m3 179 rfl) rfl
theorem q761 : (Jvm.Cond.privateMethod ({ cls := "CoresAreWills", name := "allAnew", desc := "()I" } : Jvm.MethodName)) ∈ lw_tbl := lw_at lw_m3 180 rfl
theorem q762 : (Jvm.Cond.instanceMethod ({ cls := "CoresAreWills", name := "allAnew", desc := "()I" } : Jvm.MethodName)) ∈ lw_all := lw_g (lw_at lw_m3 181 rfl) rfl
theorem q763 : (Jvm.Cond.code ({ cls := "CoresAreWills", name := "allAnew", desc := "()I" } : Jvm.MethodName) prog_1_method_71_code (2 : Nat) (Option.some Jvm.ClassFile.FieldType.int)) ∈ lw_all := lw_g (lw_at lw_m3 182 rfl) rfl
theorem q764 : (Jvm.Cond.constant "CoresAreWills" (171 : Nat) (33554431 : Int32)) ∈ lw_all := lw_g (lw_at lw_m3 183 rfl) rfl
theorem q765 : (Jvm.Cond.methodLink "CoresAreWills" (310 : Nat) ({ cls := "CoresAreWills", name := "ofBites", desc := "(IIII)I" } : Jvm.MethodName)) ∈ lw_all := lw_g (lw_at lw_m3 184 rfl) rfl
theorem q766 : (Jvm.Cond.privateMethod ({ cls := "CoresAreWills", name := "ofBites", desc := "(IIII)I" } : Jvm.MethodName)) ∈ lw_tbl := lw_at lw_m3 185 rfl
theorem q767 : (Jvm.Cond.instanceMethod ({ cls := "CoresAreWills", name := "ofBites", desc := "(IIII)I" } : Jvm.MethodName)) ∈ lw_all := lw_g (lw_at lw_m3 186 rfl) rfl
theorem q768 : (Jvm.Cond.code ({ cls := "CoresAreWills", name := "ofBites", desc := "(IIII)I" } : Jvm.MethodName) prog_1_method_77_code (5 : Nat) (Option.some Jvm.ClassFile.FieldType.int)) ∈ lw_all := lw_g (lw_at lw_m3 187 rfl) rfl
theorem q769 : (Jvm.Cond.methodLink "CoresAreWills" (401 : Nat) ({ cls := "CoresAreWills", name := "sharesTold", desc := "(I)I" } : Jvm.MethodName)) ∈ lw_all := lw_g (lw_at lw_m3 188 rfl) rfl
theorem q770 : (Jvm.Cond.privateMethod ({ cls := "CoresAreWills", name := "sharesTold", desc := "(I)I" } : Jvm.MethodName)) ∈ lw_tbl := lw_at lw_m3 189 rfl
theorem q771 : (Jvm.Cond.instanceMethod ({ cls := "CoresAreWills", name := "sharesTold", desc := "(I)I" } : Jvm.MethodName)) ∈ lw_all := lw_g (lw_at lw_m3 190 rfl) rfl
theorem q772 : (Jvm.Cond.code ({ cls := "CoresAreWills", name := "sharesTold", desc := "(I)I" } : Jvm.MethodName) prog_1_method_73_code (2 : Nat) (Option.some Jvm.ClassFile.FieldType.int)) ∈ lw_all := lw_g (lw_at lw_m3 191 rfl) rfl
theorem q773 : (Jvm.Cond.methodLink "CoresAreWills" (197 : Nat) ({ cls := "CoresAreWills", name := "mustBeBit", desc := "(I)V" } : Jvm.MethodName)) ∈ lw_all := lw_g (lw_at lw_m3 192 rfl) rfl
theorem q774 : (Jvm.Cond.static ({ cls := "CoresAreWills", name := "mustBeBit", desc := "(I)V" } : Jvm.MethodName)) ∈ lw_all := lw_g (lw_at lw_m3 193 rfl) rfl
theorem q775 : (Jvm.Cond.code ({ cls := "CoresAreWills", name := "mustBeBit", desc := "(I)V" } : Jvm.MethodName) prog_1_method_63_code (1 : Nat) (Option.none : Option Jvm.ClassFile.FieldType)) ∈ lw_all := lw_g (lw_at lw_m3 194 rfl) rfl
theorem q776 : (Jvm.Cond.methodLink "CoresAreWills" (303 : Nat) ({ cls := "CoresAreWills$Core", name := "allShares", desc := "()I" } : Jvm.MethodName)) ∈ lw_all := lw_g (lw_at lw_m3 195 rfl) rfl
theorem q781 : (Jvm.Cond.methodLink "CoresAreWills" (381 : Nat) ({ cls := "CoresAreWills", name := "richestOne", desc := "()I" } : Jvm.MethodName)) ∈ lw_all := lw_g (lw_at lw_m3 200 rfl) rfl
theorem q782 : (Jvm.Cond.privateMethod ({ cls := "CoresAreWills", name := "richestOne", desc := "()I" } : Jvm.MethodName)) ∈ lw_tbl := lw_at lw_m3 201 rfl
theorem q783 : (Jvm.Cond.instanceMethod ({ cls := "CoresAreWills", name := "richestOne", desc := "()I" } : Jvm.MethodName)) ∈ lw_all := lw_g (lw_at lw_m3 202 rfl) rfl
theorem q784 : (Jvm.Cond.code ({ cls := "CoresAreWills", name := "richestOne", desc := "()I" } : Jvm.MethodName) prog_1_method_19_code (3 : Nat) (Option.some Jvm.ClassFile.FieldType.int)) ∈ lw_all := lw_g (lw_at lw_m3 203 rfl) rfl
theorem q785 : (Jvm.Cond.methodLink "CoresAreWills" (404 : Nat) ({ cls := "CoresAreWills", name := "piecesTold", desc := "(I)I" } : Jvm.MethodName)) ∈ lw_all := lw_g (lw_at lw_m3 204 rfl) rfl
theorem q786 : (Jvm.Cond.privateMethod ({ cls := "CoresAreWills", name := "piecesTold", desc := "(I)I" } : Jvm.MethodName)) ∈ lw_tbl := lw_at lw_m3 205 rfl
theorem q787 : (Jvm.Cond.instanceMethod ({ cls := "CoresAreWills", name := "piecesTold", desc := "(I)I" } : Jvm.MethodName)) ∈ lw_all := lw_g (lw_at lw_m3 206 rfl) rfl
theorem q788 : (Jvm.Cond.code ({ cls := "CoresAreWills", name := "piecesTold", desc := "(I)I" } : Jvm.MethodName) prog_1_method_21_code (2 : Nat) (Option.some Jvm.ClassFile.FieldType.int)) ∈ lw_all := lw_g (lw_at lw_m3 207 rfl) rfl
theorem q789 : (Jvm.Cond.methodLink "CoresAreWills" (155 : Nat) ({ cls := "CoresAreWills$Core", name := "isInChancery", desc := "()Z" } : Jvm.MethodName)) ∈ lw_all := lw_g (lw_at lw_m3 208 rfl) rfl
theorem q790 : (Jvm.Cond.methodLink "CoresAreWills" (162 : Nat) ({ cls := "CoresAreWills", name := "leastIn", desc := "(I)I" } : Jvm.MethodName)) ∈ lw_all := lw_g (lw_at lw_m3 209 rfl) rfl
theorem q791 : (Jvm.Cond.static ({ cls := "CoresAreWills", name := "leastIn", desc := "(I)I" } : Jvm.MethodName)) ∈ lw_all := lw_g (lw_at lw_m3 210 rfl) rfl
theorem q792 : (Jvm.Cond.code ({ cls := "CoresAreWills", name := "leastIn", desc := "(I)I" } : Jvm.MethodName) prog_1_method_20_code (2 : Nat) (Option.some Jvm.ClassFile.FieldType.int)) ∈ lw_all := lw_g (lw_at lw_m3 211 rfl) rfl
theorem q793 : (Jvm.Cond.methodLink "CoresAreWills" (407 : Nat) ({ cls := "CoresAreWills", name := "edgeTold", desc := "(I)I" } : Jvm.MethodName)) ∈ lw_all := lw_g (lw_at lw_m3 212 rfl) rfl
theorem q794 : (Jvm.Cond.privateMethod ({ cls := "CoresAreWills", name := "edgeTold", desc := "(I)I" } : Jvm.MethodName)) ∈ lw_tbl := lw_at lw_m3 213 rfl
theorem q795 : (Jvm.Cond.instanceMethod ({ cls := "CoresAreWills", name := "edgeTold", desc := "(I)I" } : Jvm.MethodName)) ∈ lw_all := lw_g (lw_at lw_m3 214 rfl) rfl
theorem q796 : (Jvm.Cond.code ({ cls := "CoresAreWills", name := "edgeTold", desc := "(I)I" } : Jvm.MethodName) prog_1_method_74_code (2 : Nat) (Option.some Jvm.ClassFile.FieldType.int)) ∈ lw_all := lw_g (lw_at lw_m3 215 rfl) rfl
theorem q797 : (Jvm.Cond.methodLink "CoresAreWills" (384 : Nat) ({ cls := "CoresAreWills", name := "sides", desc := "()I" } : Jvm.MethodName)) ∈ lw_all := lw_g (lw_at lw_m3 216 rfl) rfl
theorem q798 : (Jvm.Cond.privateMethod ({ cls := "CoresAreWills", name := "sides", desc := "()I" } : Jvm.MethodName)) ∈ lw_tbl := lw_at lw_m3 217 rfl
theorem q799 : (Jvm.Cond.instanceMethod ({ cls := "CoresAreWills", name := "sides", desc := "()I" } : Jvm.MethodName)) ∈ lw_all := lw_g (lw_at lw_m3 218 rfl) rfl
theorem q800 : (Jvm.Cond.code ({ cls := "CoresAreWills", name := "sides", desc := "()I" } : Jvm.MethodName) prog_1_method_22_code (5 : Nat) (Option.some Jvm.ClassFile.FieldType.int)) ∈ lw_all := lw_g (lw_at lw_m3 219 rfl) rfl
theorem q801 : (Jvm.Cond.methodLink "CoresAreWills" (387 : Nat) ({ cls := "CoresAreWills", name := "holes", desc := "()I" } : Jvm.MethodName)) ∈ lw_all := lw_g (lw_at lw_m3 220 rfl) rfl
theorem q802 : (Jvm.Cond.privateMethod ({ cls := "CoresAreWills", name := "holes", desc := "()I" } : Jvm.MethodName)) ∈ lw_tbl := lw_at lw_m3 221 rfl
theorem q803 : (Jvm.Cond.instanceMethod ({ cls := "CoresAreWills", name := "holes", desc := "()I" } : Jvm.MethodName)) ∈ lw_all := lw_g (lw_at lw_m3 222 rfl) rfl
theorem q804 : (Jvm.Cond.code ({ cls := "CoresAreWills", name := "holes", desc := "()I" } : Jvm.MethodName) prog_1_method_24_code (7 : Nat) (Option.some Jvm.ClassFile.FieldType.int)) ∈ lw_all := lw_g (lw_at lw_m3 223 rfl) rfl
theorem q805 : (Jvm.Cond.methodLink "CoresAreWills" (175 : Nat) ({ cls := "CoresAreWills", name := "isBorder", desc := "(I)Z" } : Jvm.MethodName)) ∈ lw_all := lw_g (lw_at lw_m3 224 rfl) rfl
theorem q806 : (Jvm.Cond.static ({ cls := "CoresAreWills", name := "isBorder", desc := "(I)Z" } : Jvm.MethodName)) ∈ lw_all := lw_g (lw_at lw_m3 225 rfl) rfl
theorem q807 : (Jvm.Cond.code ({ cls := "CoresAreWills", name := "isBorder", desc := "(I)Z" } : Jvm.MethodName) prog_1_method_23_code (1 : Nat) (Option.some Jvm.ClassFile.FieldType.boolean)) ∈ lw_all := lw_g (lw_at lw_m3 226 rfl) rfl
theorem q808 : (Jvm.Cond.methodLink "CoresAreWills" (410 : Nat) ({ cls := "CoresAreWills", name := "bestTold", desc := "(III)I" } : Jvm.MethodName)) ∈ lw_all := lw_g (lw_at lw_m3 227 rfl) rfl
theorem q809 : (Jvm.Cond.privateMethod ({ cls := "CoresAreWills", name := "bestTold", desc := "(III)I" } : Jvm.MethodName)) ∈ lw_tbl := lw_at lw_m3 228 rfl
theorem q810 : (Jvm.Cond.instanceMethod ({ cls := "CoresAreWills", name := "bestTold", desc := "(III)I" } : Jvm.MethodName)) ∈ lw_all := lw_g (lw_at lw_m3 229 rfl) rfl
theorem q811 : (Jvm.Cond.code ({ cls := "CoresAreWills", name := "bestTold", desc := "(III)I" } : Jvm.MethodName) prog_1_method_27_code (5 : Nat) (Option.some Jvm.ClassFile.FieldType.int)) ∈ lw_all := lw_g (lw_at lw_m3 230 rfl) rfl
theorem q812 : (Jvm.Cond.methodLink "CoresAreWills" (200 : Nat) ({ cls := "CoresAreWills", name := "bestFor", desc := "(LCoresAreWills$Core;II)I" } : Jvm.MethodName)) ∈ lw_all := lw_g (lw_at lw_m3 231 rfl) rfl
theorem q813 : (Jvm.Cond.privateMethod ({ cls := "CoresAreWills", name := "bestFor", desc := "(LCoresAreWills$Core;II)I" } : Jvm.MethodName)) ∈ lw_tbl := lw_at lw_m3 232 rfl
theorem q814 : (Jvm.Cond.instanceMethod ({ cls := "CoresAreWills", name := "bestFor", desc := "(LCoresAreWills$Core;II)I" } : Jvm.MethodName)) ∈ lw_all := lw_g (lw_at lw_m3 233 rfl) rfl
theorem q815 : (Jvm.Cond.code ({ cls := "CoresAreWills", name := "bestFor", desc := "(LCoresAreWills$Core;II)I" } : Jvm.MethodName) prog_1_method_25_code (10 : Nat) (Option.some Jvm.ClassFile.FieldType.int)) ∈ lw_all := lw_g (lw_at lw_m3 234 rfl) rfl
theorem q816 : (Jvm.Cond.methodLink "CoresAreWills" (182 : Nat) ({ cls := "CoresAreWills", name := "cellsOf", desc := "(II)I" } : Jvm.MethodName)) ∈ lw_all := lw_g (lw_at lw_m3 235 rfl) rfl
theorem q817 : (Jvm.Cond.methodLink "CoresAreWills" (189 : Nat) ({ cls := "java/lang/Math", name := "max", desc := "(II)I" } : Jvm.MethodName)) ∈ lw_all := lw_g (lw_at lw_m3 236 rfl) rfl
theorem q818 : (Jvm.Cond.methodLink "CoresAreWills" (204 : Nat) ({ cls := "CoresAreWills", name := "openMind", desc := "()LCoresAreWills$Core;" } : Jvm.MethodName)) ∈ lw_all := lw_g (lw_at lw_m3 237 rfl) rfl
theorem q819 : (Jvm.Cond.privateMethod ({ cls := "CoresAreWills", name := "openMind", desc := "()LCoresAreWills$Core;" } : Jvm.MethodName)) ∈ lw_tbl := lw_at lw_m3 238 rfl
theorem q820 : (Jvm.Cond.instanceMethod ({ cls := "CoresAreWills", name := "openMind", desc := "()LCoresAreWills$Core;" } : Jvm.MethodName)) ∈ lw_all := lw_g (lw_at lw_m3 239 rfl) rfl
theorem q821 : (Jvm.Cond.code ({ cls := "CoresAreWills", name := "openMind", desc := "()LCoresAreWills$Core;" } : Jvm.MethodName) prog_1_method_18_code (1 : Nat) (Option.some (Jvm.ClassFile.FieldType.object "CoresAreWills$Core"))) ∈ lw_all := lw_g (lw_at lw_m4 0 rfl) rfl
theorem q822 : (Jvm.Cond.methodLink "CoresAreWills" (208 : Nat) ({ cls := "CoresAreWills", name := "without", desc := "(II)I" } : Jvm.MethodName)) ∈ lw_all := lw_g (lw_at lw_m4 1 rfl) rfl
theorem q823 : (Jvm.Cond.static ({ cls := "CoresAreWills", name := "without", desc := "(II)I" } : Jvm.MethodName)) ∈ lw_all := lw_g (lw_at lw_m4 2 rfl) rfl
theorem q824 : (Jvm.Cond.code ({ cls := "CoresAreWills", name := "without", desc := "(II)I" } : Jvm.MethodName) prog_1_method_26_code (2 : Nat) (Option.some Jvm.ClassFile.FieldType.int)) ∈ lw_all := lw_g (lw_at lw_m4 3 rfl) rfl
theorem q825 : (Jvm.Cond.methodLink "CoresAreWills" (413 : Nat) ({ cls := "CoresAreWills", name := "fewestTold", desc := "(III)I" } : Jvm.MethodName)) ∈ lw_all := lw_g (lw_at lw_m4 4 rfl) rfl
theorem q826 : (Jvm.Cond.privateMethod ({ cls := "CoresAreWills", name := "fewestTold", desc := "(III)I" } : Jvm.MethodName)) ∈ lw_tbl := lw_at lw_m4 5 rfl
theorem q827 : (Jvm.Cond.instanceMethod ({ cls := "CoresAreWills", name := "fewestTold", desc := "(III)I" } : Jvm.MethodName)) ∈ lw_all := lw_g (lw_at lw_m4 6 rfl) rfl
theorem q828 : (Jvm.Cond.code ({ cls := "CoresAreWills", name := "fewestTold", desc := "(III)I" } : Jvm.MethodName) prog_1_method_75_code (4 : Nat) (Option.some Jvm.ClassFile.FieldType.int)) ∈ lw_all := lw_g (lw_at lw_m4 7 rfl) rfl
theorem q829 : (Jvm.Cond.constantLong "CoresAreWills" (390 : Nat) (40 : Int64)) ∈ lw_all := lw_g (lw_at lw_m4 8 rfl) rfl
theorem q830 : (Jvm.Cond.methodLink "CoresAreWills" (392 : Nat) ({ cls := "CoresAreWills", name := "fewestFor", desc := "(III)I" } : Jvm.MethodName)) ∈ lw_all := lw_g (lw_at lw_m4 9 rfl) rfl
theorem q831 : (Jvm.Cond.privateMethod ({ cls := "CoresAreWills", name := "fewestFor", desc := "(III)I" } : Jvm.MethodName)) ∈ lw_tbl := lw_at lw_m4 10 rfl
theorem q832 : (Jvm.Cond.instanceMethod ({ cls := "CoresAreWills", name := "fewestFor", desc := "(III)I" } : Jvm.MethodName)) ∈ lw_all := lw_g (lw_at lw_m4 11 rfl) rfl
theorem q833 : (Jvm.Cond.code ({ cls := "CoresAreWills", name := "fewestFor", desc := "(III)I" } : Jvm.MethodName) prog_1_method_29_code (9 : Nat) (Option.some Jvm.ClassFile.FieldType.int)) ∈ lw_all := lw_g (lw_at lw_m4 12 rfl) rfl
theorem q834 : (Jvm.Cond.methodLink "CoresAreWills" (211 : Nat) ({ cls := "CoresAreWills", name := "hasBehindOne", desc := "(LCoresAreWills$Core;III)Z" } : Jvm.MethodName)) ∈ lw_all := lw_g (lw_at lw_m4 13 rfl) rfl
theorem q835 : (Jvm.Cond.privateMethod ({ cls := "CoresAreWills", name := "hasBehindOne", desc := "(LCoresAreWills$Core;III)Z" } : Jvm.MethodName)) ∈ lw_tbl := lw_at lw_m4 14 rfl
theorem q836 : (Jvm.Cond.instanceMethod ({ cls := "CoresAreWills", name := "hasBehindOne", desc := "(LCoresAreWills$Core;III)Z" } : Jvm.MethodName)) ∈ lw_all := lw_g (lw_at lw_m4 15 rfl) rfl
theorem q837 : (Jvm.Cond.code ({ cls := "CoresAreWills", name := "hasBehindOne", desc := "(LCoresAreWills$Core;III)Z" } : Jvm.MethodName) prog_1_method_28_code (7 : Nat) (Option.some Jvm.ClassFile.FieldType.boolean)) ∈ lw_all := lw_g (lw_at lw_m4 16 rfl) rfl
theorem q838 : (Jvm.Cond.methodLink "CoresAreWills" (397 : Nat) ({ cls := "CoresAreWills", name := "manyThatCan", desc := "(IZ)I" } : Jvm.MethodName)) ∈ lw_all := lw_g (lw_at lw_m4 17 rfl) rfl
theorem q839 : (Jvm.Cond.privateMethod ({ cls := "CoresAreWills", name := "manyThatCan", desc := "(IZ)I" } : Jvm.MethodName)) ∈ lw_tbl := lw_at lw_m4 18 rfl
theorem q840 : (Jvm.Cond.instanceMethod ({ cls := "CoresAreWills", name := "manyThatCan", desc := "(IZ)I" } : Jvm.MethodName)) ∈ lw_all := lw_g (lw_at lw_m4 19 rfl) rfl
theorem q841 : (Jvm.Cond.code ({ cls := "CoresAreWills", name := "manyThatCan", desc := "(IZ)I" } : Jvm.MethodName) prog_1_method_31_code (7 : Nat) (Option.some Jvm.ClassFile.FieldType.int)) ∈ lw_all := lw_g (lw_at lw_m4 20 rfl) rfl
theorem q842 : (Jvm.Cond.methodLink "CoresAreWills" (215 : Nat) ({ cls := "CoresAreWills", name := "isSafe", desc := "(LCoresAreWills$Core;)Z" } : Jvm.MethodName)) ∈ lw_all := lw_g (lw_at lw_m4 21 rfl) rfl
theorem q843 : (Jvm.Cond.privateMethod ({ cls := "CoresAreWills", name := "isSafe", desc := "(LCoresAreWills$Core;)Z" } : Jvm.MethodName)) ∈ lw_tbl := lw_at lw_m4 22 rfl
theorem q844 : (Jvm.Cond.instanceMethod ({ cls := "CoresAreWills", name := "isSafe", desc := "(LCoresAreWills$Core;)Z" } : Jvm.MethodName)) ∈ lw_all := lw_g (lw_at lw_m4 23 rfl) rfl
theorem q845 : (Jvm.Cond.code ({ cls := "CoresAreWills", name := "isSafe", desc := "(LCoresAreWills$Core;)Z" } : Jvm.MethodName) prog_1_method_30_code (4 : Nat) (Option.some Jvm.ClassFile.FieldType.boolean)) ∈ lw_all := lw_g (lw_at lw_m4 24 rfl) rfl
theorem q846 : (Jvm.Cond.methodLink "CoresAreWills" (416 : Nat) ({ cls := "CoresAreWills", name := "canTold", desc := "(I)I" } : Jvm.MethodName)) ∈ lw_all := lw_g (lw_at lw_m4 25 rfl) rfl
theorem q847 : (Jvm.Cond.privateMethod ({ cls := "CoresAreWills", name := "canTold", desc := "(I)I" } : Jvm.MethodName)) ∈ lw_tbl := lw_at lw_m4 26 rfl
theorem q848 : (Jvm.Cond.instanceMethod ({ cls := "CoresAreWills", name := "canTold", desc := "(I)I" } : Jvm.MethodName)) ∈ lw_all := lw_g (lw_at lw_m4 27 rfl) rfl
theorem q849 : (Jvm.Cond.code ({ cls := "CoresAreWills", name := "canTold", desc := "(I)I" } : Jvm.MethodName) prog_1_method_76_code (2 : Nat) (Option.some Jvm.ClassFile.FieldType.int)) ∈ lw_all := lw_g (lw_at lw_m4 28 rfl) rfl
theorem q850 : (Jvm.Cond.constantLong "CoresAreWills" (395 : Nat) (-1 : Int64)) ∈ lw_all := lw_g (lw_at lw_m4 29 rfl) rfl
theorem q851 : (Jvm.Cond.methodLink "CoresAreWills" (419 : Nat) ({ cls := "CoresAreWills", name := "waysTold", desc := "(I)I" } : Jvm.MethodName)) ∈ lw_all := lw_g (lw_at lw_m4 30 rfl) rfl
theorem q852 : (Jvm.Cond.privateMethod ({ cls := "CoresAreWills", name := "waysTold", desc := "(I)I" } : Jvm.MethodName)) ∈ lw_tbl := lw_at lw_m4 31 rfl
theorem q853 : (Jvm.Cond.instanceMethod ({ cls := "CoresAreWills", name := "waysTold", desc := "(I)I" } : Jvm.MethodName)) ∈ lw_all := lw_g (lw_at lw_m4 32 rfl) rfl
theorem q854 : (Jvm.Cond.code ({ cls := "CoresAreWills", name := "waysTold", desc := "(I)I" } : Jvm.MethodName) prog_1_method_35_code (4 : Nat) (Option.some Jvm.ClassFile.FieldType.int)) ∈ lw_all := lw_g (lw_at lw_m4 33 rfl) rfl
theorem q855 : (Jvm.Cond.methodLink "CoresAreWills" (227 : Nat) ({ cls := "CoresAreWills", name := "clearThen", desc := "()V" } : Jvm.MethodName)) ∈ lw_all := lw_g (lw_at lw_m4 34 rfl) rfl
theorem q856 : (Jvm.Cond.privateMethod ({ cls := "CoresAreWills", name := "clearThen", desc := "()V" } : Jvm.MethodName)) ∈ lw_tbl := lw_at lw_m4 35 rfl
theorem q857 : (Jvm.Cond.instanceMethod ({ cls := "CoresAreWills", name := "clearThen", desc := "()V" } : Jvm.MethodName)) ∈ lw_all := lw_g (lw_at lw_m4 36 rfl) rfl
theorem q858 : (Jvm.Cond.code ({ cls := "CoresAreWills", name := "clearThen", desc := "()V" } : Jvm.MethodName) prog_1_method_32_code (2 : Nat) (Option.none : Option Jvm.ClassFile.FieldType)) ∈ lw_all := lw_g (lw_at lw_m4 37 rfl) rfl
theorem q859 : (Jvm.Cond.methodLink "CoresAreWills" (230 : Nat) ({ cls := "java/lang/System", name := "arraycopy", desc := "(Ljava/lang/Object;ILjava/lang/Object;II)V" } : Jvm.MethodName)) ∈ lw_all := lw_g (lw_at lw_m4 38 rfl) rfl
theorem q860 : (Jvm.Cond.methodLink "CoresAreWills" (236 : Nat) ({ cls := "CoresAreWills", name := "coverFrom", desc := "(II)V" } : Jvm.MethodName)) ∈ lw_all := lw_g (lw_at lw_m4 39 rfl) rfl
theorem q861 : (Jvm.Cond.privateMethod ({ cls := "CoresAreWills", name := "coverFrom", desc := "(II)V" } : Jvm.MethodName)) ∈ lw_tbl := lw_at lw_m4 40 rfl
theorem q862 : (Jvm.Cond.instanceMethod ({ cls := "CoresAreWills", name := "coverFrom", desc := "(II)V" } : Jvm.MethodName)) ∈ lw_all := lw_g (lw_at lw_m4 41 rfl) rfl
theorem q863 : (Jvm.Cond.code ({ cls := "CoresAreWills", name := "coverFrom", desc := "(II)V" } : Jvm.MethodName) prog_1_method_34_code (6 : Nat) (Option.none : Option Jvm.ClassFile.FieldType)) ∈ lw_all := lw_g (lw_at lw_m4 42 rfl) rfl
theorem q864 : (Jvm.Cond.methodLink "CoresAreWills" (223 : Nat) ({ cls := "CoresAreWills", name := "goTo", desc := "(III)V" } : Jvm.MethodName)) ∈ lw_all := lw_g (lw_at lw_m4 43 rfl) rfl
theorem q865 : (Jvm.Cond.privateMethod ({ cls := "CoresAreWills", name := "goTo", desc := "(III)V" } : Jvm.MethodName)) ∈ lw_tbl := lw_at lw_m4 44 rfl
theorem q866 : (Jvm.Cond.instanceMethod ({ cls := "CoresAreWills", name := "goTo", desc := "(III)V" } : Jvm.MethodName)) ∈ lw_all := lw_g (lw_at lw_m4 45 rfl) rfl
theorem q867 : (Jvm.Cond.code ({ cls := "CoresAreWills", name := "goTo", desc := "(III)V" } : Jvm.MethodName) prog_1_method_33_code (5 : Nat) (Option.none : Option Jvm.ClassFile.FieldType)) ∈ lw_all := lw_g (lw_at lw_m4 46 rfl) rfl
theorem q868 : (Jvm.Cond.constantLong "CoresAreWills" (218 : Nat) (1000003 : Int64)) ∈ lw_all := lw_g (lw_at lw_m4 47 rfl) rfl
theorem q869 : (Jvm.Cond.methodLink "CoresAreWills" (220 : Nat) ({ cls := "java/lang/Math", name := "min", desc := "(II)I" } : Jvm.MethodName)) ∈ lw_all := lw_g (lw_at lw_m4 48 rfl) rfl
theorem q870 : (Jvm.Cond.methodLink "CoresAreWills" (313 : Nat) ({ cls := "CoresAreWills", name := "ofRest", desc := "(IIII)I" } : Jvm.MethodName)) ∈ lw_all := lw_g (lw_at lw_m4 49 rfl) rfl
theorem q871 : (Jvm.Cond.privateMethod ({ cls := "CoresAreWills", name := "ofRest", desc := "(IIII)I" } : Jvm.MethodName)) ∈ lw_tbl := lw_at lw_m4 50 rfl
theorem q872 : (Jvm.Cond.instanceMethod ({ cls := "CoresAreWills", name := "ofRest", desc := "(IIII)I" } : Jvm.MethodName)) ∈ lw_all := lw_g (lw_at lw_m4 51 rfl) rfl
theorem q873 : (Jvm.Cond.code ({ cls := "CoresAreWills", name := "ofRest", desc := "(IIII)I" } : Jvm.MethodName) prog_1_method_83_code (5 : Nat) (Option.some Jvm.ClassFile.FieldType.int)) ∈ lw_all := lw_g (lw_at lw_m4 52 rfl) rfl
theorem q874 : (Jvm.Cond.methodLink "CoresAreWills" (434 : Nat) ({ cls := "CoresAreWills", name := "alikeTold", desc := "(I)I" } : Jvm.MethodName)) ∈ lw_all := lw_g (lw_at lw_m4 53 rfl) rfl
theorem q875 : (Jvm.Cond.privateMethod ({ cls := "CoresAreWills", name := "alikeTold", desc := "(I)I" } : Jvm.MethodName)) ∈ lw_tbl := lw_at lw_m4 54 rfl
theorem q876 : (Jvm.Cond.instanceMethod ({ cls := "CoresAreWills", name := "alikeTold", desc := "(I)I" } : Jvm.MethodName)) ∈ lw_all := lw_g (lw_at lw_m4 55 rfl) rfl
theorem q877 : (Jvm.Cond.code ({ cls := "CoresAreWills", name := "alikeTold", desc := "(I)I" } : Jvm.MethodName) prog_1_method_36_code (8 : Nat) (Option.some Jvm.ClassFile.FieldType.int)) ∈ lw_all := lw_g (lw_at lw_m4 56 rfl) rfl
theorem q878 : (Jvm.Cond.methodLink "CoresAreWills" (240 : Nat) ({ cls := "CoresAreWills", name := "rolled", desc := "(I)I" } : Jvm.MethodName)) ∈ lw_all := lw_g (lw_at lw_m4 57 rfl) rfl
theorem q879 : (Jvm.Cond.methodLink "CoresAreWills" (437 : Nat) ({ cls := "CoresAreWills", name := "settlesTold", desc := "(I)I" } : Jvm.MethodName)) ∈ lw_all := lw_g (lw_at lw_m4 58 rfl) rfl
theorem q880 : (Jvm.Cond.privateMethod ({ cls := "CoresAreWills", name := "settlesTold", desc := "(I)I" } : Jvm.MethodName)) ∈ lw_tbl := lw_at lw_m4 59 rfl
theorem q881 : (Jvm.Cond.instanceMethod ({ cls := "CoresAreWills", name := "settlesTold", desc := "(I)I" } : Jvm.MethodName)) ∈ lw_all := lw_g (lw_at lw_m4 60 rfl) rfl
theorem q882 : (Jvm.Cond.code ({ cls := "CoresAreWills", name := "settlesTold", desc := "(I)I" } : Jvm.MethodName) prog_1_method_78_code (2 : Nat) (Option.some Jvm.ClassFile.FieldType.int)) ∈ lw_all := lw_g (lw_at lw_m4 61 rfl) rfl
theorem q883 : (Jvm.Cond.methodLink "CoresAreWills" (422 : Nat) ({ cls := "CoresAreWills", name := "settledBy", desc := "(I)I" } : Jvm.MethodName)) ∈ lw_all := lw_g (lw_at lw_m4 62 rfl) rfl
theorem q884 : (Jvm.Cond.privateMethod ({ cls := "CoresAreWills", name := "settledBy", desc := "(I)I" } : Jvm.MethodName)) ∈ lw_tbl := lw_at lw_m4 63 rfl
theorem q885 : (Jvm.Cond.instanceMethod ({ cls := "CoresAreWills", name := "settledBy", desc := "(I)I" } : Jvm.MethodName)) ∈ lw_all := lw_g (lw_at lw_m4 64 rfl) rfl
theorem q886 : (Jvm.Cond.code ({ cls := "CoresAreWills", name := "settledBy", desc := "(I)I" } : Jvm.MethodName) prog_1_method_37_code (7 : Nat) (Option.some Jvm.ClassFile.FieldType.int)) ∈ lw_all := lw_g (lw_at lw_m4 65 rfl) rfl
theorem q887 : (Jvm.Cond.methodLink "CoresAreWills" (440 : Nat) ({ cls := "CoresAreWills", name := "pipsTold", desc := "(I)I" } : Jvm.MethodName)) ∈ lw_all := lw_g (lw_at lw_m4 66 rfl) rfl
theorem q888 : (Jvm.Cond.privateMethod ({ cls := "CoresAreWills", name := "pipsTold", desc := "(I)I" } : Jvm.MethodName)) ∈ lw_tbl := lw_at lw_m4 67 rfl
theorem q889 : (Jvm.Cond.instanceMethod ({ cls := "CoresAreWills", name := "pipsTold", desc := "(I)I" } : Jvm.MethodName)) ∈ lw_all := lw_g (lw_at lw_m4 68 rfl) rfl
theorem q890 : (Jvm.Cond.code ({ cls := "CoresAreWills", name := "pipsTold", desc := "(I)I" } : Jvm.MethodName) prog_1_method_79_code (2 : Nat) (Option.some Jvm.ClassFile.FieldType.int)) ∈ lw_all := lw_g (lw_at lw_m4 69 rfl) rfl
theorem q891 : (Jvm.Cond.methodLink "CoresAreWills" (443 : Nat) ({ cls := "CoresAreWills", name := "worstGrudge", desc := "(I)I" } : Jvm.MethodName)) ∈ lw_all := lw_g (lw_at lw_m4 70 rfl) rfl
theorem q892 : (Jvm.Cond.privateMethod ({ cls := "CoresAreWills", name := "worstGrudge", desc := "(I)I" } : Jvm.MethodName)) ∈ lw_tbl := lw_at lw_m4 71 rfl
theorem q893 : (Jvm.Cond.instanceMethod ({ cls := "CoresAreWills", name := "worstGrudge", desc := "(I)I" } : Jvm.MethodName)) ∈ lw_all := lw_g (lw_at lw_m4 72 rfl) rfl
theorem q894 : (Jvm.Cond.code ({ cls := "CoresAreWills", name := "worstGrudge", desc := "(I)I" } : Jvm.MethodName) prog_1_method_39_code (7 : Nat) (Option.some Jvm.ClassFile.FieldType.int)) ∈ lw_all := lw_g (lw_at lw_m4 73 rfl) rfl
theorem q895 : (Jvm.Cond.constant "CoresAreWills" (243 : Nat) (1000000000 : Int32)) ∈ lw_all := lw_g (lw_at lw_m4 74 rfl) rfl
theorem q896 : (Jvm.Cond.methodLink "CoresAreWills" (244 : Nat) ({ cls := "CoresAreWills", name := "shareBy", desc := "(II)I" } : Jvm.MethodName)) ∈ lw_all := lw_g (lw_at lw_m4 75 rfl) rfl
theorem q897 : (Jvm.Cond.privateMethod ({ cls := "CoresAreWills", name := "shareBy", desc := "(II)I" } : Jvm.MethodName)) ∈ lw_tbl := lw_at lw_m4 76 rfl
theorem q898 : (Jvm.Cond.instanceMethod ({ cls := "CoresAreWills", name := "shareBy", desc := "(II)I" } : Jvm.MethodName)) ∈ lw_all := lw_g (lw_at lw_m4 77 rfl) rfl
theorem q899 : (Jvm.Cond.code ({ cls := "CoresAreWills", name := "shareBy", desc := "(II)I" } : Jvm.MethodName) prog_1_method_38_code (4 : Nat) (Option.some Jvm.ClassFile.FieldType.int)) ∈ lw_all := lw_g (lw_at lw_m4 78 rfl) rfl
theorem q900 : (Jvm.Cond.methodLink "CoresAreWills" (446 : Nat) ({ cls := "CoresAreWills", name := "gainTold", desc := "(II)I" } : Jvm.MethodName)) ∈ lw_all := lw_g (lw_at lw_m4 79 rfl) rfl
theorem q901 : (Jvm.Cond.privateMethod ({ cls := "CoresAreWills", name := "gainTold", desc := "(II)I" } : Jvm.MethodName)) ∈ lw_tbl := lw_at lw_m4 80 rfl
theorem q902 : (Jvm.Cond.instanceMethod ({ cls := "CoresAreWills", name := "gainTold", desc := "(II)I" } : Jvm.MethodName)) ∈ lw_all := lw_g (lw_at lw_m4 81 rfl) rfl
theorem q903 : (Jvm.Cond.code ({ cls := "CoresAreWills", name := "gainTold", desc := "(II)I" } : Jvm.MethodName) prog_1_method_80_code (3 : Nat) (Option.some Jvm.ClassFile.FieldType.int)) ∈ lw_all := lw_g (lw_at lw_m4 82 rfl) rfl
theorem q904 : (Jvm.Cond.methodLink "CoresAreWills" (425 : Nat) ({ cls := "CoresAreWills", name := "mustBeTwo", desc := "(II)V" } : Jvm.MethodName)) ∈ lw_all := lw_g (lw_at lw_m4 83 rfl) rfl
theorem q905 : (Jvm.Cond.privateMethod ({ cls := "CoresAreWills", name := "mustBeTwo", desc := "(II)V" } : Jvm.MethodName)) ∈ lw_tbl := lw_at lw_m4 84 rfl
theorem q906 : (Jvm.Cond.instanceMethod ({ cls := "CoresAreWills", name := "mustBeTwo", desc := "(II)V" } : Jvm.MethodName)) ∈ lw_all := lw_g (lw_at lw_m4 85 rfl) rfl
theorem q907 : (Jvm.Cond.code ({ cls := "CoresAreWills", name := "mustBeTwo", desc := "(II)V" } : Jvm.MethodName) prog_1_method_62_code (3 : Nat) (Option.none : Option Jvm.ClassFile.FieldType)) ∈ lw_all := lw_g (lw_at lw_m4 86 rfl) rfl
theorem q908 : (Jvm.Cond.methodLink "CoresAreWills" (428 : Nat) ({ cls := "CoresAreWills", name := "gainOf", desc := "(II)I" } : Jvm.MethodName)) ∈ lw_all := lw_g (lw_at lw_m4 87 rfl) rfl
theorem q909 : (Jvm.Cond.privateMethod ({ cls := "CoresAreWills", name := "gainOf", desc := "(II)I" } : Jvm.MethodName)) ∈ lw_tbl := lw_at lw_m4 88 rfl
theorem q910 : (Jvm.Cond.instanceMethod ({ cls := "CoresAreWills", name := "gainOf", desc := "(II)I" } : Jvm.MethodName)) ∈ lw_all := lw_g (lw_at lw_m4 89 rfl) rfl
theorem q911 : (Jvm.Cond.code ({ cls := "CoresAreWills", name := "gainOf", desc := "(II)I" } : Jvm.MethodName) prog_1_method_40_code (4 : Nat) (Option.some Jvm.ClassFile.FieldType.int)) ∈ lw_all := lw_g (lw_at lw_m4 90 rfl) rfl
theorem q912 : (Jvm.Cond.methodLink "CoresAreWills" (449 : Nat) ({ cls := "CoresAreWills", name := "joinTold", desc := "(I)I" } : Jvm.MethodName)) ∈ lw_all := lw_g (lw_at lw_m4 91 rfl) rfl
theorem q913 : (Jvm.Cond.privateMethod ({ cls := "CoresAreWills", name := "joinTold", desc := "(I)I" } : Jvm.MethodName)) ∈ lw_tbl := lw_at lw_m4 92 rfl
theorem q914 : (Jvm.Cond.instanceMethod ({ cls := "CoresAreWills", name := "joinTold", desc := "(I)I" } : Jvm.MethodName)) ∈ lw_all := lw_g (lw_at lw_m4 93 rfl) rfl
theorem q915 : (Jvm.Cond.code ({ cls := "CoresAreWills", name := "joinTold", desc := "(I)I" } : Jvm.MethodName) prog_1_method_81_code (2 : Nat) (Option.some Jvm.ClassFile.FieldType.int)) ∈ lw_all := lw_g (lw_at lw_m4 94 rfl) rfl
theorem q916 : (Jvm.Cond.methodLink "CoresAreWills" (452 : Nat) ({ cls := "CoresAreWills", name := "bridgeTold", desc := "(I)I" } : Jvm.MethodName)) ∈ lw_all := lw_g (lw_at lw_m4 95 rfl) rfl
theorem q917 : (Jvm.Cond.privateMethod ({ cls := "CoresAreWills", name := "bridgeTold", desc := "(I)I" } : Jvm.MethodName)) ∈ lw_tbl := lw_at lw_m4 96 rfl
theorem q918 : (Jvm.Cond.instanceMethod ({ cls := "CoresAreWills", name := "bridgeTold", desc := "(I)I" } : Jvm.MethodName)) ∈ lw_all := lw_g (lw_at lw_m4 97 rfl) rfl
theorem q919 : (Jvm.Cond.code ({ cls := "CoresAreWills", name := "bridgeTold", desc := "(I)I" } : Jvm.MethodName) prog_1_method_44_code (3 : Nat) (Option.some Jvm.ClassFile.FieldType.int)) ∈ lw_all := lw_g (lw_at lw_m4 98 rfl) rfl
theorem q920 : (Jvm.Cond.methodLink "CoresAreWills" (255 : Nat) ({ cls := "CoresAreWills", name := "middleCell", desc := "()I" } : Jvm.MethodName)) ∈ lw_all := lw_g (lw_at lw_m4 99 rfl) rfl
theorem q921 : (Jvm.Cond.privateMethod ({ cls := "CoresAreWills", name := "middleCell", desc := "()I" } : Jvm.MethodName)) ∈ lw_tbl := lw_at lw_m4 100 rfl
theorem q922 : (Jvm.Cond.instanceMethod ({ cls := "CoresAreWills", name := "middleCell", desc := "()I" } : Jvm.MethodName)) ∈ lw_all := lw_g (lw_at lw_m4 101 rfl) rfl
theorem q923 : (Jvm.Cond.code ({ cls := "CoresAreWills", name := "middleCell", desc := "()I" } : Jvm.MethodName) prog_1_method_43_code (4 : Nat) (Option.some Jvm.ClassFile.FieldType.int)) ∈ lw_all := lw_g (lw_at lw_m4 102 rfl) rfl
theorem q924 : (Jvm.Cond.methodLink "CoresAreWills" (250 : Nat) ({ cls := "CoresAreWills", name := "stepsFrom", desc := "(I)I" } : Jvm.MethodName)) ∈ lw_all := lw_g (lw_at lw_m4 103 rfl) rfl
theorem q925 : (Jvm.Cond.privateMethod ({ cls := "CoresAreWills", name := "stepsFrom", desc := "(I)I" } : Jvm.MethodName)) ∈ lw_tbl := lw_at lw_m4 104 rfl
theorem q926 : (Jvm.Cond.instanceMethod ({ cls := "CoresAreWills", name := "stepsFrom", desc := "(I)I" } : Jvm.MethodName)) ∈ lw_all := lw_g (lw_at lw_m4 105 rfl) rfl
theorem q927 : (Jvm.Cond.code ({ cls := "CoresAreWills", name := "stepsFrom", desc := "(I)I" } : Jvm.MethodName) prog_1_method_42_code (5 : Nat) (Option.some Jvm.ClassFile.FieldType.int)) ∈ lw_all := lw_g (lw_at lw_m4 106 rfl) rfl
theorem q928 : (Jvm.Cond.methodLink "CoresAreWills" (247 : Nat) ({ cls := "java/lang/Math", name := "abs", desc := "(I)I" } : Jvm.MethodName)) ∈ lw_all := lw_g (lw_at lw_m4 107 rfl) rfl
theorem q931 : (Jvm.Cond.methodLink "CoresAreWills" (259 : Nat) ({ cls := "CoresAreWills", name := "bridgeBits", desc := "()I" } : Jvm.MethodName)) ∈ lw_all := lw_g (lw_at lw_m4 110 rfl) rfl
theorem q932 : (Jvm.Cond.privateMethod ({ cls := "CoresAreWills", name := "bridgeBits", desc := "()I" } : Jvm.MethodName)) ∈ lw_tbl := lw_at lw_m4 111 rfl
theorem q933 : (Jvm.Cond.instanceMethod ({ cls := "CoresAreWills", name := "bridgeBits", desc := "()I" } : Jvm.MethodName)) ∈ lw_all := lw_g (lw_at lw_m4 112 rfl) rfl
theorem q934 : (Jvm.Cond.code ({ cls := "CoresAreWills", name := "bridgeBits", desc := "()I" } : Jvm.MethodName) prog_1_method_41_code (5 : Nat) (Option.some Jvm.ClassFile.FieldType.int)) ∈ lw_all := lw_g (lw_at lw_m4 113 rfl) rfl
theorem q935 : (Jvm.Cond.methodLink "CoresAreWills" (455 : Nat) ({ cls := "CoresAreWills", name := "twoTold", desc := "(II)I" } : Jvm.MethodName)) ∈ lw_all := lw_g (lw_at lw_m4 114 rfl) rfl
theorem q936 : (Jvm.Cond.privateMethod ({ cls := "CoresAreWills", name := "twoTold", desc := "(II)I" } : Jvm.MethodName)) ∈ lw_tbl := lw_at lw_m4 115 rfl
theorem q937 : (Jvm.Cond.instanceMethod ({ cls := "CoresAreWills", name := "twoTold", desc := "(II)I" } : Jvm.MethodName)) ∈ lw_all := lw_g (lw_at lw_m4 116 rfl) rfl
theorem q938 : (Jvm.Cond.code ({ cls := "CoresAreWills", name := "twoTold", desc := "(II)I" } : Jvm.MethodName) prog_1_method_82_code (3 : Nat) (Option.some Jvm.ClassFile.FieldType.int)) ∈ lw_all := lw_g (lw_at lw_m4 117 rfl) rfl
theorem q939 : (Jvm.Cond.methodLink "CoresAreWills" (431 : Nat) ({ cls := "CoresAreWills", name := "restingBites", desc := "(II)I" } : Jvm.MethodName)) ∈ lw_all := lw_g (lw_at lw_m4 118 rfl) rfl
theorem q940 : (Jvm.Cond.privateMethod ({ cls := "CoresAreWills", name := "restingBites", desc := "(II)I" } : Jvm.MethodName)) ∈ lw_tbl := lw_at lw_m4 119 rfl
theorem q941 : (Jvm.Cond.instanceMethod ({ cls := "CoresAreWills", name := "restingBites", desc := "(II)I" } : Jvm.MethodName)) ∈ lw_all := lw_g (lw_at lw_m4 120 rfl) rfl
theorem q942 : (Jvm.Cond.code ({ cls := "CoresAreWills", name := "restingBites", desc := "(II)I" } : Jvm.MethodName) prog_1_method_47_code (5 : Nat) (Option.some Jvm.ClassFile.FieldType.int)) ∈ lw_all := lw_g (lw_at lw_m4 121 rfl) rfl
theorem q943 : (Jvm.Cond.methodLink "CoresAreWills" (269 : Nat) ({ cls := "CoresAreWills", name := "biteAs", desc := "(LCoresAreWills$Core;II)V" } : Jvm.MethodName)) ∈ lw_all := lw_g (lw_at lw_m4 122 rfl) rfl
theorem q944 : (Jvm.Cond.privateMethod ({ cls := "CoresAreWills", name := "biteAs", desc := "(LCoresAreWills$Core;II)V" } : Jvm.MethodName)) ∈ lw_tbl := lw_at lw_m4 123 rfl
theorem q945 : (Jvm.Cond.instanceMethod ({ cls := "CoresAreWills", name := "biteAs", desc := "(LCoresAreWills$Core;II)V" } : Jvm.MethodName)) ∈ lw_all := lw_g (lw_at lw_m4 124 rfl) rfl
theorem q946 : (Jvm.Cond.code ({ cls := "CoresAreWills", name := "biteAs", desc := "(LCoresAreWills$Core;II)V" } : Jvm.MethodName) prog_1_method_46_code (5 : Nat) (Option.none : Option Jvm.ClassFile.FieldType)) ∈ lw_all := lw_g (lw_at lw_m4 125 rfl) rfl
theorem q947 : (Jvm.Cond.methodLink "CoresAreWills" (262 : Nat) ({ cls := "CoresAreWills", name := "firstThatCan", desc := "(LCoresAreWills$Core;)I" } : Jvm.MethodName)) ∈ lw_all := lw_g (lw_at lw_m4 126 rfl) rfl
theorem q948 : (Jvm.Cond.static ({ cls := "CoresAreWills", name := "firstThatCan", desc := "(LCoresAreWills$Core;)I" } : Jvm.MethodName)) ∈ lw_all := lw_g (lw_at lw_m4 127 rfl) rfl
theorem q949 : (Jvm.Cond.code ({ cls := "CoresAreWills", name := "firstThatCan", desc := "(LCoresAreWills$Core;)I" } : Jvm.MethodName) prog_1_method_45_code (2 : Nat) (Option.some Jvm.ClassFile.FieldType.int)) ∈ lw_all := lw_g (lw_at lw_m4 128 rfl) rfl
theorem q950 : (Jvm.Cond.methodLink "CoresAreWills" (458 : Nat) ({ cls := "CoresAreWills", name := "ofLast", desc := "(IIII)I" } : Jvm.MethodName)) ∈ lw_all := lw_g (lw_at lw_m4 129 rfl) rfl
theorem q951 : (Jvm.Cond.privateMethod ({ cls := "CoresAreWills", name := "ofLast", desc := "(IIII)I" } : Jvm.MethodName)) ∈ lw_tbl := lw_at lw_m4 130 rfl
theorem q952 : (Jvm.Cond.instanceMethod ({ cls := "CoresAreWills", name := "ofLast", desc := "(IIII)I" } : Jvm.MethodName)) ∈ lw_all := lw_g (lw_at lw_m4 131 rfl) rfl
theorem q953 : (Jvm.Cond.code ({ cls := "CoresAreWills", name := "ofLast", desc := "(IIII)I" } : Jvm.MethodName) prog_1_method_86_code (6 : Nat) (Option.some Jvm.ClassFile.FieldType.int)) ∈ lw_all := lw_g (lw_at lw_m4 132 rfl) rfl
theorem q954 : (Jvm.Cond.methodLink "CoresAreWills" (469 : Nat) ({ cls := "CoresAreWills", name := "whatTold", desc := "(II)I" } : Jvm.MethodName)) ∈ lw_all := lw_g (lw_at lw_m4 133 rfl) rfl
theorem q955 : (Jvm.Cond.privateMethod ({ cls := "CoresAreWills", name := "whatTold", desc := "(II)I" } : Jvm.MethodName)) ∈ lw_tbl := lw_at lw_m4 134 rfl
theorem q956 : (Jvm.Cond.instanceMethod ({ cls := "CoresAreWills", name := "whatTold", desc := "(II)I" } : Jvm.MethodName)) ∈ lw_all := lw_g (lw_at lw_m4 135 rfl) rfl
theorem q957 : (Jvm.Cond.code ({ cls := "CoresAreWills", name := "whatTold", desc := "(II)I" } : Jvm.MethodName) prog_1_method_84_code (3 : Nat) (Option.some Jvm.ClassFile.FieldType.int)) ∈ lw_all := lw_g (lw_at lw_m4 136 rfl) rfl
theorem q958 : (Jvm.Cond.methodLink "CoresAreWills" (461 : Nat) ({ cls := "CoresAreWills", name := "fitting", desc := "(II)I" } : Jvm.MethodName)) ∈ lw_all := lw_g (lw_at lw_m4 137 rfl) rfl
theorem q959 : (Jvm.Cond.privateMethod ({ cls := "CoresAreWills", name := "fitting", desc := "(II)I" } : Jvm.MethodName)) ∈ lw_tbl := lw_at lw_m4 138 rfl
theorem q960 : (Jvm.Cond.instanceMethod ({ cls := "CoresAreWills", name := "fitting", desc := "(II)I" } : Jvm.MethodName)) ∈ lw_all := lw_g (lw_at lw_m4 139 rfl) rfl
theorem q961 : (Jvm.Cond.code ({ cls := "CoresAreWills", name := "fitting", desc := "(II)I" } : Jvm.MethodName) prog_1_method_51_code (6 : Nat) (Option.some Jvm.ClassFile.FieldType.int)) ∈ lw_all := lw_g (lw_at lw_m4 140 rfl) rfl
theorem q962 : (Jvm.Cond.methodLink "CoresAreWills" (290 : Nat) ({ cls := "CoresAreWills", name := "isRow", desc := "(LCoresAreWills$Core;I)Z" } : Jvm.MethodName)) ∈ lw_all := lw_g (lw_at lw_m4 141 rfl) rfl
theorem q963 : (Jvm.Cond.privateMethod ({ cls := "CoresAreWills", name := "isRow", desc := "(LCoresAreWills$Core;I)Z" } : Jvm.MethodName)) ∈ lw_tbl := lw_at lw_m4 142 rfl
theorem q964 : (Jvm.Cond.instanceMethod ({ cls := "CoresAreWills", name := "isRow", desc := "(LCoresAreWills$Core;I)Z" } : Jvm.MethodName)) ∈ lw_all := lw_g (lw_at lw_m4 143 rfl) rfl
theorem q965 : (Jvm.Cond.code ({ cls := "CoresAreWills", name := "isRow", desc := "(LCoresAreWills$Core;I)Z" } : Jvm.MethodName) prog_1_method_50_code (5 : Nat) (Option.some Jvm.ClassFile.FieldType.boolean)) ∈ lw_all := lw_g (lw_at lw_m4 144 rfl) rfl
theorem q966 : (Jvm.Cond.constantLong "CoresAreWills" (472 : Nat) (99 : Int64)) ∈ lw_all := lw_g (lw_at lw_m4 145 rfl) rfl
theorem q967 : (Jvm.Cond.methodLink "CoresAreWills" (474 : Nat) ({ cls := "CoresAreWills", name := "judgeRow", desc := "()I" } : Jvm.MethodName)) ∈ lw_all := lw_g (lw_at lw_m4 146 rfl) rfl
theorem q968 : (Jvm.Cond.privateMethod ({ cls := "CoresAreWills", name := "judgeRow", desc := "()I" } : Jvm.MethodName)) ∈ lw_tbl := lw_at lw_m4 147 rfl
theorem q969 : (Jvm.Cond.instanceMethod ({ cls := "CoresAreWills", name := "judgeRow", desc := "()I" } : Jvm.MethodName)) ∈ lw_all := lw_g (lw_at lw_m4 148 rfl) rfl
theorem q970 : (Jvm.Cond.code ({ cls := "CoresAreWills", name := "judgeRow", desc := "()I" } : Jvm.MethodName) prog_1_method_52_code (3 : Nat) (Option.some Jvm.ClassFile.FieldType.int)) ∈ lw_all := lw_g (lw_at lw_m4 149 rfl) rfl
theorem q971 : (Jvm.Cond.methodLink "CoresAreWills" (477 : Nat) ({ cls := "CoresAreWills", name := "lotsTold", desc := "(III)I" } : Jvm.MethodName)) ∈ lw_all := lw_g (lw_at lw_m4 150 rfl) rfl
theorem q972 : (Jvm.Cond.privateMethod ({ cls := "CoresAreWills", name := "lotsTold", desc := "(III)I" } : Jvm.MethodName)) ∈ lw_tbl := lw_at lw_m4 151 rfl
theorem q973 : (Jvm.Cond.instanceMethod ({ cls := "CoresAreWills", name := "lotsTold", desc := "(III)I" } : Jvm.MethodName)) ∈ lw_all := lw_g (lw_at lw_m4 152 rfl) rfl
theorem q974 : (Jvm.Cond.code ({ cls := "CoresAreWills", name := "lotsTold", desc := "(III)I" } : Jvm.MethodName) prog_1_method_85_code (4 : Nat) (Option.some Jvm.ClassFile.FieldType.int)) ∈ lw_all := lw_g (lw_at lw_m4 153 rfl) rfl
theorem q975 : (Jvm.Cond.constantLong "CoresAreWills" (464 : Nat) (20 : Int64)) ∈ lw_all := lw_g (lw_at lw_m4 154 rfl) rfl
theorem q976 : (Jvm.Cond.methodLink "CoresAreWills" (466 : Nat) ({ cls := "CoresAreWills", name := "byLots", desc := "(III)I" } : Jvm.MethodName)) ∈ lw_all := lw_g (lw_at lw_m4 155 rfl) rfl
theorem q977 : (Jvm.Cond.privateMethod ({ cls := "CoresAreWills", name := "byLots", desc := "(III)I" } : Jvm.MethodName)) ∈ lw_tbl := lw_at lw_m4 156 rfl
theorem q978 : (Jvm.Cond.instanceMethod ({ cls := "CoresAreWills", name := "byLots", desc := "(III)I" } : Jvm.MethodName)) ∈ lw_all := lw_g (lw_at lw_m4 157 rfl) rfl
theorem q979 : (Jvm.Cond.code ({ cls := "CoresAreWills", name := "byLots", desc := "(III)I" } : Jvm.MethodName) prog_1_method_54_code (10 : Nat) (Option.some Jvm.ClassFile.FieldType.int)) ∈ lw_all := lw_g (lw_at lw_m4 158 rfl) rfl
theorem q980 : (Jvm.Cond.methodLink "CoresAreWills" (300 : Nat) ({ cls := "CoresAreWills", name := "drawBelow", desc := "(I)I" } : Jvm.MethodName)) ∈ lw_all := lw_g (lw_at lw_m4 159 rfl) rfl
theorem q981 : (Jvm.Cond.privateMethod ({ cls := "CoresAreWills", name := "drawBelow", desc := "(I)I" } : Jvm.MethodName)) ∈ lw_tbl := lw_at lw_m4 160 rfl
theorem q982 : (Jvm.Cond.instanceMethod ({ cls := "CoresAreWills", name := "drawBelow", desc := "(I)I" } : Jvm.MethodName)) ∈ lw_all := lw_g (lw_at lw_m4 161 rfl) rfl
theorem q983 : (Jvm.Cond.code ({ cls := "CoresAreWills", name := "drawBelow", desc := "(I)I" } : Jvm.MethodName) prog_1_method_53_code (2 : Nat) (Option.some Jvm.ClassFile.FieldType.int)) ∈ lw_all := lw_g (lw_at lw_m4 162 rfl) rfl
theorem q984 : (Jvm.Cond.constant "CoresAreWills" (297 : Nat) (1664525 : Int32)) ∈ lw_all := lw_g (lw_at lw_m4 163 rfl) rfl
theorem q985 : (Jvm.Cond.constant "CoresAreWills" (298 : Nat) (1013904223 : Int32)) ∈ lw_all := lw_g (lw_at lw_m4 164 rfl) rfl
theorem q986 : (Jvm.Cond.constant "CoresAreWills" (299 : Nat) (2147483647 : Int32)) ∈ lw_all := lw_g (lw_at lw_m4 165 rfl) rfl
theorem q987 : (Jvm.Cond.methodLink "CoresAreWills" (321 : Nat) ({ cls := "CoresAreWills$Refusal", name := "number", desc := "()I" } : Jvm.MethodName)) ∈ lw_all := lw_g (lw_at lw_m4 166 rfl) rfl
theorem q996 : (Jvm.Cond.methodLink "CoresAreWills" (324 : Nat) ({ cls := "CoresAreWills", name := "refuse", desc := "(I)I" } : Jvm.MethodName)) ∈ lw_all := lw_g (lw_at lw_m4 175 rfl) rfl
theorem q997 : (Jvm.Cond.privateMethod ({ cls := "CoresAreWills", name := "refuse", desc := "(I)I" } : Jvm.MethodName)) ∈ lw_tbl := lw_at lw_m4 176 rfl
theorem q998 : (Jvm.Cond.instanceMethod ({ cls := "CoresAreWills", name := "refuse", desc := "(I)I" } : Jvm.MethodName)) ∈ lw_all := lw_g (lw_at lw_m4 177 rfl) rfl
theorem q999 : (Jvm.Cond.code ({ cls := "CoresAreWills", name := "refuse", desc := "(I)I" } : Jvm.MethodName) prog_1_method_55_code (2 : Nat) (Option.some Jvm.ClassFile.FieldType.int)) ∈ lw_all := lw_g (lw_at lw_m4 178 rfl) rfl
theorem q1001 : (Jvm.Cond.instanceMethod ({ cls := "CoresAreWills", name := "core", desc := "()I" } : Jvm.MethodName)) ∈ lw_all := lw_g (lw_at lw_m4 180 rfl) rfl
theorem q1002 : (Jvm.Cond.selects "CoresAreWills" ({ cls := "CoresAreWills", name := "core", desc := "()I" } : Jvm.MethodName) ({ cls := "CoresAreWills", name := "core", desc := "()I" } : Jvm.MethodName)) ∈ lw_all := lw_g (lw_at lw_m4 181 rfl) rfl
theorem q1003 : (Jvm.Cond.code ({ cls := "CoresAreWills", name := "core", desc := "()I" } : Jvm.MethodName) prog_1_method_90_code (1 : Nat) (Option.some Jvm.ClassFile.FieldType.int)) ∈ lw_all := lw_g (lw_at lw_m4 182 rfl) rfl
theorem q1005 : (Jvm.Cond.instanceMethod ({ cls := "CoresAreWills", name := "cell", desc := "(II)I" } : Jvm.MethodName)) ∈ lw_all := lw_g (lw_at lw_m4 184 rfl) rfl
theorem q1006 : (Jvm.Cond.selects "CoresAreWills" ({ cls := "CoresAreWills", name := "cell", desc := "(II)I" } : Jvm.MethodName) ({ cls := "CoresAreWills", name := "cell", desc := "(II)I" } : Jvm.MethodName)) ∈ lw_all := lw_g (lw_at lw_m4 185 rfl) rfl
theorem q1007 : (Jvm.Cond.code ({ cls := "CoresAreWills", name := "cell", desc := "(II)I" } : Jvm.MethodName) prog_1_method_91_code (3 : Nat) (Option.some Jvm.ClassFile.FieldType.int)) ∈ lw_all := lw_g (lw_at lw_m4 186 rfl) rfl
theorem q1009 : (Jvm.Cond.instanceMethod ({ cls := "CoresAreWills", name := "heir", desc := "(II)I" } : Jvm.MethodName)) ∈ lw_all := lw_g (lw_at lw_m4 188 rfl) rfl
theorem q1010 : (Jvm.Cond.selects "CoresAreWills" ({ cls := "CoresAreWills", name := "heir", desc := "(II)I" } : Jvm.MethodName) ({ cls := "CoresAreWills", name := "heir", desc := "(II)I" } : Jvm.MethodName)) ∈ lw_all := lw_g (lw_at lw_m4 189 rfl) rfl
theorem q1011 : (Jvm.Cond.code ({ cls := "CoresAreWills", name := "heir", desc := "(II)I" } : Jvm.MethodName) prog_1_method_92_code (3 : Nat) (Option.some Jvm.ClassFile.FieldType.int)) ∈ lw_all := lw_g (lw_at lw_m4 190 rfl) rfl
theorem q1013 : (Jvm.Cond.instanceMethod ({ cls := "CoresAreWills", name := "bites", desc := "(II)I" } : Jvm.MethodName)) ∈ lw_all := lw_g (lw_at lw_m4 192 rfl) rfl
theorem q1014 : (Jvm.Cond.selects "CoresAreWills" ({ cls := "CoresAreWills", name := "bites", desc := "(II)I" } : Jvm.MethodName) ({ cls := "CoresAreWills", name := "bites", desc := "(II)I" } : Jvm.MethodName)) ∈ lw_all := lw_g (lw_at lw_m4 193 rfl) rfl
theorem q1015 : (Jvm.Cond.code ({ cls := "CoresAreWills", name := "bites", desc := "(II)I" } : Jvm.MethodName) prog_1_method_93_code (3 : Nat) (Option.some Jvm.ClassFile.FieldType.int)) ∈ lw_all := lw_g (lw_at lw_m4 194 rfl) rfl
theorem q1017 : (Jvm.Cond.instanceMethod ({ cls := "CoresAreWills", name := "heals", desc := "(I)I" } : Jvm.MethodName)) ∈ lw_all := lw_g (lw_at lw_m4 196 rfl) rfl
theorem q1018 : (Jvm.Cond.selects "CoresAreWills" ({ cls := "CoresAreWills", name := "heals", desc := "(I)I" } : Jvm.MethodName) ({ cls := "CoresAreWills", name := "heals", desc := "(I)I" } : Jvm.MethodName)) ∈ lw_all := lw_g (lw_at lw_m4 197 rfl) rfl
theorem q1019 : (Jvm.Cond.code ({ cls := "CoresAreWills", name := "heals", desc := "(I)I" } : Jvm.MethodName) prog_1_method_94_code (2 : Nat) (Option.some Jvm.ClassFile.FieldType.int)) ∈ lw_all := lw_g (lw_at lw_m4 198 rfl) rfl
theorem q1021 : (Jvm.Cond.instanceMethod ({ cls := "CoresAreWills", name := "rolls", desc := "(I)I" } : Jvm.MethodName)) ∈ lw_all := lw_g (lw_at lw_m4 200 rfl) rfl
theorem q1022 : (Jvm.Cond.selects "CoresAreWills" ({ cls := "CoresAreWills", name := "rolls", desc := "(I)I" } : Jvm.MethodName) ({ cls := "CoresAreWills", name := "rolls", desc := "(I)I" } : Jvm.MethodName)) ∈ lw_all := lw_g (lw_at lw_m4 201 rfl) rfl
theorem q1023 : (Jvm.Cond.code ({ cls := "CoresAreWills", name := "rolls", desc := "(I)I" } : Jvm.MethodName) prog_1_method_95_code (2 : Nat) (Option.some Jvm.ClassFile.FieldType.int)) ∈ lw_all := lw_g (lw_at lw_m4 202 rfl) rfl
theorem q1025 : (Jvm.Cond.instanceMethod ({ cls := "CoresAreWills", name := "turn", desc := "(III)I" } : Jvm.MethodName)) ∈ lw_all := lw_g (lw_at lw_m4 204 rfl) rfl
theorem q1026 : (Jvm.Cond.selects "CoresAreWills" ({ cls := "CoresAreWills", name := "turn", desc := "(III)I" } : Jvm.MethodName) ({ cls := "CoresAreWills", name := "turn", desc := "(III)I" } : Jvm.MethodName)) ∈ lw_all := lw_g (lw_at lw_m4 205 rfl) rfl
theorem q1027 : (Jvm.Cond.code ({ cls := "CoresAreWills", name := "turn", desc := "(III)I" } : Jvm.MethodName) prog_1_method_96_code (4 : Nat) (Option.some Jvm.ClassFile.FieldType.int)) ∈ lw_all := lw_g (lw_at lw_m4 206 rfl) rfl
theorem q1029 : (Jvm.Cond.instanceMethod ({ cls := "CoresAreWills", name := "anew", desc := "()I" } : Jvm.MethodName)) ∈ lw_all := lw_g (lw_at lw_m4 208 rfl) rfl
theorem q1030 : (Jvm.Cond.selects "CoresAreWills" ({ cls := "CoresAreWills", name := "anew", desc := "()I" } : Jvm.MethodName) ({ cls := "CoresAreWills", name := "anew", desc := "()I" } : Jvm.MethodName)) ∈ lw_all := lw_g (lw_at lw_m4 209 rfl) rfl
theorem q1031 : (Jvm.Cond.code ({ cls := "CoresAreWills", name := "anew", desc := "()I" } : Jvm.MethodName) prog_1_method_97_code (1 : Nat) (Option.some Jvm.ClassFile.FieldType.int)) ∈ lw_all := lw_g (lw_at lw_m4 210 rfl) rfl
theorem q1033 : (Jvm.Cond.instanceMethod ({ cls := "CoresAreWills", name := "shares", desc := "(I)I" } : Jvm.MethodName)) ∈ lw_all := lw_g (lw_at lw_m4 212 rfl) rfl
theorem q1034 : (Jvm.Cond.selects "CoresAreWills" ({ cls := "CoresAreWills", name := "shares", desc := "(I)I" } : Jvm.MethodName) ({ cls := "CoresAreWills", name := "shares", desc := "(I)I" } : Jvm.MethodName)) ∈ lw_all := lw_g (lw_at lw_m4 213 rfl) rfl
theorem q1035 : (Jvm.Cond.code ({ cls := "CoresAreWills", name := "shares", desc := "(I)I" } : Jvm.MethodName) prog_1_method_98_code (2 : Nat) (Option.some Jvm.ClassFile.FieldType.int)) ∈ lw_all := lw_g (lw_at lw_m4 214 rfl) rfl
theorem q1037 : (Jvm.Cond.instanceMethod ({ cls := "CoresAreWills", name := "pieces", desc := "(I)I" } : Jvm.MethodName)) ∈ lw_all := lw_g (lw_at lw_m4 216 rfl) rfl
theorem q1038 : (Jvm.Cond.selects "CoresAreWills" ({ cls := "CoresAreWills", name := "pieces", desc := "(I)I" } : Jvm.MethodName) ({ cls := "CoresAreWills", name := "pieces", desc := "(I)I" } : Jvm.MethodName)) ∈ lw_all := lw_g (lw_at lw_m4 217 rfl) rfl
theorem q1039 : (Jvm.Cond.code ({ cls := "CoresAreWills", name := "pieces", desc := "(I)I" } : Jvm.MethodName) prog_1_method_99_code (2 : Nat) (Option.some Jvm.ClassFile.FieldType.int)) ∈ lw_all := lw_g (lw_at lw_m4 218 rfl) rfl
theorem q1041 : (Jvm.Cond.instanceMethod ({ cls := "CoresAreWills", name := "edge", desc := "(I)I" } : Jvm.MethodName)) ∈ lw_all := lw_g (lw_at lw_m4 220 rfl) rfl
theorem q1042 : (Jvm.Cond.selects "CoresAreWills" ({ cls := "CoresAreWills", name := "edge", desc := "(I)I" } : Jvm.MethodName) ({ cls := "CoresAreWills", name := "edge", desc := "(I)I" } : Jvm.MethodName)) ∈ lw_all := lw_g (lw_at lw_m4 221 rfl) rfl
theorem q1043 : (Jvm.Cond.code ({ cls := "CoresAreWills", name := "edge", desc := "(I)I" } : Jvm.MethodName) prog_1_method_100_code (2 : Nat) (Option.some Jvm.ClassFile.FieldType.int)) ∈ lw_all := lw_g (lw_at lw_m4 222 rfl) rfl
theorem q1045 : (Jvm.Cond.instanceMethod ({ cls := "CoresAreWills", name := "best", desc := "(II)I" } : Jvm.MethodName)) ∈ lw_all := lw_g (lw_at lw_m4 224 rfl) rfl
theorem q1046 : (Jvm.Cond.selects "CoresAreWills" ({ cls := "CoresAreWills", name := "best", desc := "(II)I" } : Jvm.MethodName) ({ cls := "CoresAreWills", name := "best", desc := "(II)I" } : Jvm.MethodName)) ∈ lw_all := lw_g (lw_at lw_m4 225 rfl) rfl
theorem q1047 : (Jvm.Cond.code ({ cls := "CoresAreWills", name := "best", desc := "(II)I" } : Jvm.MethodName) prog_1_method_101_code (3 : Nat) (Option.some Jvm.ClassFile.FieldType.int)) ∈ lw_all := lw_g (lw_at lw_m4 226 rfl) rfl
theorem q1049 : (Jvm.Cond.instanceMethod ({ cls := "CoresAreWills", name := "worst", desc := "(II)I" } : Jvm.MethodName)) ∈ lw_all := lw_g (lw_at lw_m4 228 rfl) rfl
theorem q1050 : (Jvm.Cond.selects "CoresAreWills" ({ cls := "CoresAreWills", name := "worst", desc := "(II)I" } : Jvm.MethodName) ({ cls := "CoresAreWills", name := "worst", desc := "(II)I" } : Jvm.MethodName)) ∈ lw_all := lw_g (lw_at lw_m4 229 rfl) rfl
theorem q1051 : (Jvm.Cond.code ({ cls := "CoresAreWills", name := "worst", desc := "(II)I" } : Jvm.MethodName) prog_1_method_102_code (3 : Nat) (Option.some Jvm.ClassFile.FieldType.int)) ∈ lw_all := lw_g (lw_at lw_m4 230 rfl) rfl
theorem q1053 : (Jvm.Cond.instanceMethod ({ cls := "CoresAreWills", name := "fewest", desc := "(III)I" } : Jvm.MethodName)) ∈ lw_all := lw_g (lw_at lw_m4 232 rfl) rfl
theorem q1054 : (Jvm.Cond.selects "CoresAreWills" ({ cls := "CoresAreWills", name := "fewest", desc := "(III)I" } : Jvm.MethodName) ({ cls := "CoresAreWills", name := "fewest", desc := "(III)I" } : Jvm.MethodName)) ∈ lw_all := lw_g (lw_at lw_m4 233 rfl) rfl
theorem q1055 : (Jvm.Cond.code ({ cls := "CoresAreWills", name := "fewest", desc := "(III)I" } : Jvm.MethodName) prog_1_method_103_code (4 : Nat) (Option.some Jvm.ClassFile.FieldType.int)) ∈ lw_all := lw_g (lw_at lw_m4 234 rfl) rfl
theorem q1057 : (Jvm.Cond.instanceMethod ({ cls := "CoresAreWills", name := "safe", desc := "()I" } : Jvm.MethodName)) ∈ lw_all := lw_g (lw_at lw_m4 236 rfl) rfl
theorem q1058 : (Jvm.Cond.selects "CoresAreWills" ({ cls := "CoresAreWills", name := "safe", desc := "()I" } : Jvm.MethodName) ({ cls := "CoresAreWills", name := "safe", desc := "()I" } : Jvm.MethodName)) ∈ lw_all := lw_g (lw_at lw_m4 237 rfl) rfl
theorem q1059 : (Jvm.Cond.code ({ cls := "CoresAreWills", name := "safe", desc := "()I" } : Jvm.MethodName) prog_1_method_104_code (1 : Nat) (Option.some Jvm.ClassFile.FieldType.int)) ∈ lw_all := lw_g (lw_at lw_m4 238 rfl) rfl
theorem q1061 : (Jvm.Cond.instanceMethod ({ cls := "CoresAreWills", name := "can", desc := "(I)I" } : Jvm.MethodName)) ∈ lw_all := lw_g (lw_at lw_m5 0 rfl) rfl
theorem q1062 : (Jvm.Cond.selects "CoresAreWills" ({ cls := "CoresAreWills", name := "can", desc := "(I)I" } : Jvm.MethodName) ({ cls := "CoresAreWills", name := "can", desc := "(I)I" } : Jvm.MethodName)) ∈ lw_all := lw_g (lw_at lw_m5 1 rfl) rfl
theorem q1063 : (Jvm.Cond.code ({ cls := "CoresAreWills", name := "can", desc := "(I)I" } : Jvm.MethodName) prog_1_method_105_code (2 : Nat) (Option.some Jvm.ClassFile.FieldType.int)) ∈ lw_all := lw_g (lw_at lw_m5 2 rfl) rfl
theorem q1065 : (Jvm.Cond.instanceMethod ({ cls := "CoresAreWills", name := "ways", desc := "(I)I" } : Jvm.MethodName)) ∈ lw_all := lw_g (lw_at lw_m5 4 rfl) rfl
theorem q1066 : (Jvm.Cond.selects "CoresAreWills" ({ cls := "CoresAreWills", name := "ways", desc := "(I)I" } : Jvm.MethodName) ({ cls := "CoresAreWills", name := "ways", desc := "(I)I" } : Jvm.MethodName)) ∈ lw_all := lw_g (lw_at lw_m5 5 rfl) rfl
theorem q1067 : (Jvm.Cond.code ({ cls := "CoresAreWills", name := "ways", desc := "(I)I" } : Jvm.MethodName) prog_1_method_106_code (2 : Nat) (Option.some Jvm.ClassFile.FieldType.int)) ∈ lw_all := lw_g (lw_at lw_m5 6 rfl) rfl
theorem q1069 : (Jvm.Cond.instanceMethod ({ cls := "CoresAreWills", name := "alike", desc := "(I)I" } : Jvm.MethodName)) ∈ lw_all := lw_g (lw_at lw_m5 8 rfl) rfl
theorem q1070 : (Jvm.Cond.selects "CoresAreWills" ({ cls := "CoresAreWills", name := "alike", desc := "(I)I" } : Jvm.MethodName) ({ cls := "CoresAreWills", name := "alike", desc := "(I)I" } : Jvm.MethodName)) ∈ lw_all := lw_g (lw_at lw_m5 9 rfl) rfl
theorem q1071 : (Jvm.Cond.code ({ cls := "CoresAreWills", name := "alike", desc := "(I)I" } : Jvm.MethodName) prog_1_method_107_code (2 : Nat) (Option.some Jvm.ClassFile.FieldType.int)) ∈ lw_all := lw_g (lw_at lw_m5 10 rfl) rfl
theorem q1073 : (Jvm.Cond.instanceMethod ({ cls := "CoresAreWills", name := "settles", desc := "(I)I" } : Jvm.MethodName)) ∈ lw_all := lw_g (lw_at lw_m5 12 rfl) rfl
theorem q1074 : (Jvm.Cond.selects "CoresAreWills" ({ cls := "CoresAreWills", name := "settles", desc := "(I)I" } : Jvm.MethodName) ({ cls := "CoresAreWills", name := "settles", desc := "(I)I" } : Jvm.MethodName)) ∈ lw_all := lw_g (lw_at lw_m5 13 rfl) rfl
theorem q1075 : (Jvm.Cond.code ({ cls := "CoresAreWills", name := "settles", desc := "(I)I" } : Jvm.MethodName) prog_1_method_108_code (2 : Nat) (Option.some Jvm.ClassFile.FieldType.int)) ∈ lw_all := lw_g (lw_at lw_m5 14 rfl) rfl
theorem q1077 : (Jvm.Cond.instanceMethod ({ cls := "CoresAreWills", name := "pips", desc := "(I)I" } : Jvm.MethodName)) ∈ lw_all := lw_g (lw_at lw_m5 16 rfl) rfl
theorem q1078 : (Jvm.Cond.selects "CoresAreWills" ({ cls := "CoresAreWills", name := "pips", desc := "(I)I" } : Jvm.MethodName) ({ cls := "CoresAreWills", name := "pips", desc := "(I)I" } : Jvm.MethodName)) ∈ lw_all := lw_g (lw_at lw_m5 17 rfl) rfl
theorem q1079 : (Jvm.Cond.code ({ cls := "CoresAreWills", name := "pips", desc := "(I)I" } : Jvm.MethodName) prog_1_method_109_code (2 : Nat) (Option.some Jvm.ClassFile.FieldType.int)) ∈ lw_all := lw_g (lw_at lw_m5 18 rfl) rfl
theorem q1081 : (Jvm.Cond.instanceMethod ({ cls := "CoresAreWills", name := "grudge", desc := "(I)I" } : Jvm.MethodName)) ∈ lw_all := lw_g (lw_at lw_m5 20 rfl) rfl
theorem q1082 : (Jvm.Cond.selects "CoresAreWills" ({ cls := "CoresAreWills", name := "grudge", desc := "(I)I" } : Jvm.MethodName) ({ cls := "CoresAreWills", name := "grudge", desc := "(I)I" } : Jvm.MethodName)) ∈ lw_all := lw_g (lw_at lw_m5 21 rfl) rfl
theorem q1083 : (Jvm.Cond.code ({ cls := "CoresAreWills", name := "grudge", desc := "(I)I" } : Jvm.MethodName) prog_1_method_110_code (2 : Nat) (Option.some Jvm.ClassFile.FieldType.int)) ∈ lw_all := lw_g (lw_at lw_m5 22 rfl) rfl
theorem q1085 : (Jvm.Cond.instanceMethod ({ cls := "CoresAreWills", name := "gain", desc := "(II)I" } : Jvm.MethodName)) ∈ lw_all := lw_g (lw_at lw_m5 24 rfl) rfl
theorem q1086 : (Jvm.Cond.selects "CoresAreWills" ({ cls := "CoresAreWills", name := "gain", desc := "(II)I" } : Jvm.MethodName) ({ cls := "CoresAreWills", name := "gain", desc := "(II)I" } : Jvm.MethodName)) ∈ lw_all := lw_g (lw_at lw_m5 25 rfl) rfl
theorem q1087 : (Jvm.Cond.code ({ cls := "CoresAreWills", name := "gain", desc := "(II)I" } : Jvm.MethodName) prog_1_method_111_code (3 : Nat) (Option.some Jvm.ClassFile.FieldType.int)) ∈ lw_all := lw_g (lw_at lw_m5 26 rfl) rfl
theorem q1088 : (Jvm.Cond.methodLink "CoresAreWills" (495 : Nat) ({ cls := "CoresAreWills", name := "actFar", desc := "(IIII)I" } : Jvm.MethodName)) ∈ lw_all := lw_g (lw_at lw_m5 27 rfl) rfl
theorem q1089 : (Jvm.Cond.privateMethod ({ cls := "CoresAreWills", name := "actFar", desc := "(IIII)I" } : Jvm.MethodName)) ∈ lw_tbl := lw_at lw_m5 28 rfl
theorem q1090 : (Jvm.Cond.instanceMethod ({ cls := "CoresAreWills", name := "actFar", desc := "(IIII)I" } : Jvm.MethodName)) ∈ lw_all := lw_g (lw_at lw_m5 29 rfl) rfl
theorem q1091 : (Jvm.Cond.codeWith ({ cls := "CoresAreWills", name := "actFar", desc := "(IIII)I" } : Jvm.MethodName) prog_1_method_58_code (6 : Nat) (Option.some Jvm.ClassFile.FieldType.int) [((0 : Nat), (9 : Nat), (10 : Nat), (319 : Nat))]) ∈ lw_all := lw_g (lw_at lw_m5 30 rfl) rfl
theorem q1093 : (Jvm.Cond.instanceMethod ({ cls := "CoresAreWills", name := "join", desc := "(I)I" } : Jvm.MethodName)) ∈ lw_all := lw_g (lw_at lw_m5 32 rfl) rfl
theorem q1094 : (Jvm.Cond.selects "CoresAreWills" ({ cls := "CoresAreWills", name := "join", desc := "(I)I" } : Jvm.MethodName) ({ cls := "CoresAreWills", name := "join", desc := "(I)I" } : Jvm.MethodName)) ∈ lw_all := lw_g (lw_at lw_m5 33 rfl) rfl
theorem q1095 : (Jvm.Cond.code ({ cls := "CoresAreWills", name := "join", desc := "(I)I" } : Jvm.MethodName) prog_1_method_112_code (2 : Nat) (Option.some Jvm.ClassFile.FieldType.int)) ∈ lw_all := lw_g (lw_at lw_m5 34 rfl) rfl
theorem q1097 : (Jvm.Cond.instanceMethod ({ cls := "CoresAreWills", name := "bridge", desc := "(I)I" } : Jvm.MethodName)) ∈ lw_all := lw_g (lw_at lw_m5 36 rfl) rfl
theorem q1098 : (Jvm.Cond.selects "CoresAreWills" ({ cls := "CoresAreWills", name := "bridge", desc := "(I)I" } : Jvm.MethodName) ({ cls := "CoresAreWills", name := "bridge", desc := "(I)I" } : Jvm.MethodName)) ∈ lw_all := lw_g (lw_at lw_m5 37 rfl) rfl
theorem q1099 : (Jvm.Cond.code ({ cls := "CoresAreWills", name := "bridge", desc := "(I)I" } : Jvm.MethodName) prog_1_method_113_code (2 : Nat) (Option.some Jvm.ClassFile.FieldType.int)) ∈ lw_all := lw_g (lw_at lw_m5 38 rfl) rfl
theorem q1101 : (Jvm.Cond.instanceMethod ({ cls := "CoresAreWills", name := "two", desc := "(II)I" } : Jvm.MethodName)) ∈ lw_all := lw_g (lw_at lw_m5 40 rfl) rfl
theorem q1102 : (Jvm.Cond.selects "CoresAreWills" ({ cls := "CoresAreWills", name := "two", desc := "(II)I" } : Jvm.MethodName) ({ cls := "CoresAreWills", name := "two", desc := "(II)I" } : Jvm.MethodName)) ∈ lw_all := lw_g (lw_at lw_m5 41 rfl) rfl
theorem q1103 : (Jvm.Cond.code ({ cls := "CoresAreWills", name := "two", desc := "(II)I" } : Jvm.MethodName) prog_1_method_114_code (3 : Nat) (Option.some Jvm.ClassFile.FieldType.int)) ∈ lw_all := lw_g (lw_at lw_m5 42 rfl) rfl
theorem q1105 : (Jvm.Cond.instanceMethod ({ cls := "CoresAreWills", name := "chance", desc := "(IIII)J" } : Jvm.MethodName)) ∈ lw_all := lw_g (lw_at lw_m5 44 rfl) rfl
theorem q1106 : (Jvm.Cond.selects "CoresAreWills" ({ cls := "CoresAreWills", name := "chance", desc := "(IIII)J" } : Jvm.MethodName) ({ cls := "CoresAreWills", name := "chance", desc := "(IIII)J" } : Jvm.MethodName)) ∈ lw_all := lw_g (lw_at lw_m5 45 rfl) rfl
theorem q1107 : (Jvm.Cond.code ({ cls := "CoresAreWills", name := "chance", desc := "(IIII)J" } : Jvm.MethodName) prog_1_method_115_code (5 : Nat) (Option.some Jvm.ClassFile.FieldType.long)) ∈ lw_all := lw_g (lw_at lw_m5 46 rfl) rfl
theorem q1108 : (Jvm.Cond.methodLink "CoresAreWills" (498 : Nat) ({ cls := "CoresAreWills", name := "chanceTold", desc := "(IIII)J" } : Jvm.MethodName)) ∈ lw_all := lw_g (lw_at lw_m5 47 rfl) rfl
theorem q1109 : (Jvm.Cond.privateMethod ({ cls := "CoresAreWills", name := "chanceTold", desc := "(IIII)J" } : Jvm.MethodName)) ∈ lw_tbl := lw_at lw_m5 48 rfl
theorem q1110 : (Jvm.Cond.instanceMethod ({ cls := "CoresAreWills", name := "chanceTold", desc := "(IIII)J" } : Jvm.MethodName)) ∈ lw_all := lw_g (lw_at lw_m5 49 rfl) rfl
theorem q1111 : (Jvm.Cond.codeWith ({ cls := "CoresAreWills", name := "chanceTold", desc := "(IIII)J" } : Jvm.MethodName) prog_1_method_87_code (6 : Nat) (Option.some Jvm.ClassFile.FieldType.long) [((0 : Nat), (58 : Nat), (59 : Nat), (319 : Nat))]) ∈ lw_all := lw_g (lw_at lw_m5 50 rfl) rfl
theorem q1112 : (Jvm.Cond.methodLink "CoresAreWills" (484 : Nat) ({ cls := "CoresAreWills", name := "chancePart", desc := "(IIII)J" } : Jvm.MethodName)) ∈ lw_all := lw_g (lw_at lw_m5 51 rfl) rfl
theorem q1113 : (Jvm.Cond.privateMethod ({ cls := "CoresAreWills", name := "chancePart", desc := "(IIII)J" } : Jvm.MethodName)) ∈ lw_tbl := lw_at lw_m5 52 rfl
theorem q1114 : (Jvm.Cond.instanceMethod ({ cls := "CoresAreWills", name := "chancePart", desc := "(IIII)J" } : Jvm.MethodName)) ∈ lw_all := lw_g (lw_at lw_m5 53 rfl) rfl
theorem q1115 : (Jvm.Cond.code ({ cls := "CoresAreWills", name := "chancePart", desc := "(IIII)J" } : Jvm.MethodName) prog_1_method_49_code (9 : Nat) (Option.some Jvm.ClassFile.FieldType.long)) ∈ lw_all := lw_g (lw_at lw_m5 54 rfl) rfl
theorem q1116 : (Jvm.Cond.methodLink "CoresAreWills" (273 : Nat) ({ cls := "CoresAreWills", name := "manyWays", desc := "(LCoresAreWills$Core;IIII)J" } : Jvm.MethodName)) ∈ lw_all := lw_g (lw_at lw_m5 55 rfl) rfl
theorem q1117 : (Jvm.Cond.privateMethod ({ cls := "CoresAreWills", name := "manyWays", desc := "(LCoresAreWills$Core;IIII)J" } : Jvm.MethodName)) ∈ lw_tbl := lw_at lw_m5 56 rfl
theorem q1118 : (Jvm.Cond.instanceMethod ({ cls := "CoresAreWills", name := "manyWays", desc := "(LCoresAreWills$Core;IIII)J" } : Jvm.MethodName)) ∈ lw_all := lw_g (lw_at lw_m5 57 rfl) rfl
theorem q1119 : (Jvm.Cond.code ({ cls := "CoresAreWills", name := "manyWays", desc := "(LCoresAreWills$Core;IIII)J" } : Jvm.MethodName) prog_1_method_48_code (9 : Nat) (Option.some Jvm.ClassFile.FieldType.long)) ∈ lw_all := lw_g (lw_at lw_m5 58 rfl) rfl
theorem q1120 : (Jvm.Cond.methodLink "CoresAreWills" (277 : Nat) ({ cls := "CoresAreWills", name := "partOf", desc := "(JJI)J" } : Jvm.MethodName)) ∈ lw_all := lw_g (lw_at lw_m5 59 rfl) rfl
theorem q1121 : (Jvm.Cond.static ({ cls := "CoresAreWills", name := "partOf", desc := "(JJI)J" } : Jvm.MethodName)) ∈ lw_all := lw_g (lw_at lw_m5 60 rfl) rfl
theorem q1122 : (Jvm.Cond.code ({ cls := "CoresAreWills", name := "partOf", desc := "(JJI)J" } : Jvm.MethodName) prog_1_method_8_code (7 : Nat) (Option.some Jvm.ClassFile.FieldType.long)) ∈ lw_all := lw_g (lw_at lw_m5 61 rfl) rfl
theorem q1123 : (Jvm.Cond.methodLink "CoresAreWills" (17 : Nat) ({ cls := "CoresAreWills", name := "divisor", desc := "(JJ)J" } : Jvm.MethodName)) ∈ lw_all := lw_g (lw_at lw_m5 62 rfl) rfl
theorem q1124 : (Jvm.Cond.static ({ cls := "CoresAreWills", name := "divisor", desc := "(JJ)J" } : Jvm.MethodName)) ∈ lw_all := lw_g (lw_at lw_m5 63 rfl) rfl
theorem q1125 : (Jvm.Cond.code ({ cls := "CoresAreWills", name := "divisor", desc := "(JJ)J" } : Jvm.MethodName) prog_1_method_7_code (10 : Nat) (Option.some Jvm.ClassFile.FieldType.long)) ∈ lw_all := lw_g (lw_at lw_m5 64 rfl) rfl
theorem q1126 : (Jvm.Cond.methodLink "CoresAreWills" (488 : Nat) ({ cls := "CoresAreWills", name := "far", desc := "(LCoresAreWills$Refusal;)J" } : Jvm.MethodName)) ∈ lw_all := lw_g (lw_at lw_m5 65 rfl) rfl
theorem q1127 : (Jvm.Cond.privateMethod ({ cls := "CoresAreWills", name := "far", desc := "(LCoresAreWills$Refusal;)J" } : Jvm.MethodName)) ∈ lw_tbl := lw_at lw_m5 66 rfl
theorem q1128 : (Jvm.Cond.instanceMethod ({ cls := "CoresAreWills", name := "far", desc := "(LCoresAreWills$Refusal;)J" } : Jvm.MethodName)) ∈ lw_all := lw_g (lw_at lw_m5 67 rfl) rfl
theorem q1129 : (Jvm.Cond.code ({ cls := "CoresAreWills", name := "far", desc := "(LCoresAreWills$Refusal;)J" } : Jvm.MethodName) prog_1_method_59_code (2 : Nat) (Option.some Jvm.ClassFile.FieldType.long)) ∈ lw_all := lw_g (lw_at lw_m5 68 rfl) rfl
theorem q1130 : (Jvm.Cond.constantLong "CoresAreWills" (327 : Nat) (4000000000000000000 : Int64)) ∈ lw_all := lw_g (lw_at lw_m5 69 rfl) rfl
theorem q1132 : (Jvm.Cond.instanceMethod ({ cls := "CoresAreWills", name := "mean", desc := "(I)J" } : Jvm.MethodName)) ∈ lw_all := lw_g (lw_at lw_m5 71 rfl) rfl
theorem q1133 : (Jvm.Cond.selects "CoresAreWills" ({ cls := "CoresAreWills", name := "mean", desc := "(I)J" } : Jvm.MethodName) ({ cls := "CoresAreWills", name := "mean", desc := "(I)J" } : Jvm.MethodName)) ∈ lw_all := lw_g (lw_at lw_m5 72 rfl) rfl
theorem q1134 : (Jvm.Cond.code ({ cls := "CoresAreWills", name := "mean", desc := "(I)J" } : Jvm.MethodName) prog_1_method_116_code (2 : Nat) (Option.some Jvm.ClassFile.FieldType.long)) ∈ lw_all := lw_g (lw_at lw_m5 73 rfl) rfl
theorem q1135 : (Jvm.Cond.methodLink "CoresAreWills" (501 : Nat) ({ cls := "CoresAreWills", name := "meanTold", desc := "(I)J" } : Jvm.MethodName)) ∈ lw_all := lw_g (lw_at lw_m5 74 rfl) rfl
theorem q1136 : (Jvm.Cond.privateMethod ({ cls := "CoresAreWills", name := "meanTold", desc := "(I)J" } : Jvm.MethodName)) ∈ lw_tbl := lw_at lw_m5 75 rfl
theorem q1137 : (Jvm.Cond.instanceMethod ({ cls := "CoresAreWills", name := "meanTold", desc := "(I)J" } : Jvm.MethodName)) ∈ lw_all := lw_g (lw_at lw_m5 76 rfl) rfl
theorem q1138 : (Jvm.Cond.codeWith ({ cls := "CoresAreWills", name := "meanTold", desc := "(I)J" } : Jvm.MethodName) prog_1_method_88_code (3 : Nat) (Option.some Jvm.ClassFile.FieldType.long) [((0 : Nat), (28 : Nat), (29 : Nat), (319 : Nat))]) ∈ lw_all := lw_g (lw_at lw_m5 77 rfl) rfl
theorem q1140 : (Jvm.Cond.instanceMethod ({ cls := "CoresAreWills", name := "whatIs", desc := "(II)I" } : Jvm.MethodName)) ∈ lw_all := lw_g (lw_at lw_m5 79 rfl) rfl
theorem q1141 : (Jvm.Cond.selects "CoresAreWills" ({ cls := "CoresAreWills", name := "whatIs", desc := "(II)I" } : Jvm.MethodName) ({ cls := "CoresAreWills", name := "whatIs", desc := "(II)I" } : Jvm.MethodName)) ∈ lw_all := lw_g (lw_at lw_m5 80 rfl) rfl
theorem q1142 : (Jvm.Cond.code ({ cls := "CoresAreWills", name := "whatIs", desc := "(II)I" } : Jvm.MethodName) prog_1_method_117_code (3 : Nat) (Option.some Jvm.ClassFile.FieldType.int)) ∈ lw_all := lw_g (lw_at lw_m5 81 rfl) rfl
theorem q1144 : (Jvm.Cond.instanceMethod ({ cls := "CoresAreWills", name := "row", desc := "(I)I" } : Jvm.MethodName)) ∈ lw_all := lw_g (lw_at lw_m5 83 rfl) rfl
theorem q1145 : (Jvm.Cond.selects "CoresAreWills" ({ cls := "CoresAreWills", name := "row", desc := "(I)I" } : Jvm.MethodName) ({ cls := "CoresAreWills", name := "row", desc := "(I)I" } : Jvm.MethodName)) ∈ lw_all := lw_g (lw_at lw_m5 84 rfl) rfl
theorem q1146 : (Jvm.Cond.code ({ cls := "CoresAreWills", name := "row", desc := "(I)I" } : Jvm.MethodName) prog_1_method_118_code (2 : Nat) (Option.some Jvm.ClassFile.FieldType.int)) ∈ lw_all := lw_g (lw_at lw_m5 85 rfl) rfl
theorem q1148 : (Jvm.Cond.instanceMethod ({ cls := "CoresAreWills", name := "judge", desc := "()I" } : Jvm.MethodName)) ∈ lw_all := lw_g (lw_at lw_m5 87 rfl) rfl
theorem q1149 : (Jvm.Cond.selects "CoresAreWills" ({ cls := "CoresAreWills", name := "judge", desc := "()I" } : Jvm.MethodName) ({ cls := "CoresAreWills", name := "judge", desc := "()I" } : Jvm.MethodName)) ∈ lw_all := lw_g (lw_at lw_m5 88 rfl) rfl
theorem q1150 : (Jvm.Cond.code ({ cls := "CoresAreWills", name := "judge", desc := "()I" } : Jvm.MethodName) prog_1_method_119_code (1 : Nat) (Option.some Jvm.ClassFile.FieldType.int)) ∈ lw_all := lw_g (lw_at lw_m5 89 rfl) rfl
theorem q1152 : (Jvm.Cond.instanceMethod ({ cls := "CoresAreWills", name := "clear", desc := "()I" } : Jvm.MethodName)) ∈ lw_all := lw_g (lw_at lw_m5 91 rfl) rfl
theorem q1153 : (Jvm.Cond.selects "CoresAreWills" ({ cls := "CoresAreWills", name := "clear", desc := "()I" } : Jvm.MethodName) ({ cls := "CoresAreWills", name := "clear", desc := "()I" } : Jvm.MethodName)) ∈ lw_all := lw_g (lw_at lw_m5 92 rfl) rfl
theorem q1154 : (Jvm.Cond.code ({ cls := "CoresAreWills", name := "clear", desc := "()I" } : Jvm.MethodName) prog_1_method_120_code (1 : Nat) (Option.some Jvm.ClassFile.FieldType.int)) ∈ lw_all := lw_g (lw_at lw_m5 93 rfl) rfl
theorem q1156 : (Jvm.Cond.instanceMethod ({ cls := "CoresAreWills", name := "lots", desc := "(III)I" } : Jvm.MethodName)) ∈ lw_all := lw_g (lw_at lw_m5 95 rfl) rfl
theorem q1157 : (Jvm.Cond.selects "CoresAreWills" ({ cls := "CoresAreWills", name := "lots", desc := "(III)I" } : Jvm.MethodName) ({ cls := "CoresAreWills", name := "lots", desc := "(III)I" } : Jvm.MethodName)) ∈ lw_all := lw_g (lw_at lw_m5 96 rfl) rfl
theorem q1158 : (Jvm.Cond.code ({ cls := "CoresAreWills", name := "lots", desc := "(III)I" } : Jvm.MethodName) prog_1_method_121_code (4 : Nat) (Option.some Jvm.ClassFile.FieldType.int)) ∈ lw_all := lw_g (lw_at lw_m5 97 rfl) rfl
theorem q1160 : (Jvm.Cond.instanceMethod ({ cls := "CoresAreWills", name := "image", desc := "()I" } : Jvm.MethodName)) ∈ lw_all := lw_g (lw_at lw_m5 99 rfl) rfl
theorem q1161 : (Jvm.Cond.selects "CoresAreWills" ({ cls := "CoresAreWills", name := "image", desc := "()I" } : Jvm.MethodName) ({ cls := "CoresAreWills", name := "image", desc := "()I" } : Jvm.MethodName)) ∈ lw_all := lw_g (lw_at lw_m5 100 rfl) rfl
theorem q1162 : (Jvm.Cond.code ({ cls := "CoresAreWills", name := "image", desc := "()I" } : Jvm.MethodName) prog_1_method_122_code (1 : Nat) (Option.some Jvm.ClassFile.FieldType.int)) ∈ lw_all := lw_g (lw_at lw_m5 101 rfl) rfl
theorem q1164 : (Jvm.Cond.instanceMethod ({ cls := "CoresAreWills", name := "on", desc := "()I" } : Jvm.MethodName)) ∈ lw_all := lw_g (lw_at lw_m5 103 rfl) rfl
theorem q1165 : (Jvm.Cond.selects "CoresAreWills" ({ cls := "CoresAreWills", name := "on", desc := "()I" } : Jvm.MethodName) ({ cls := "CoresAreWills", name := "on", desc := "()I" } : Jvm.MethodName)) ∈ lw_all := lw_g (lw_at lw_m5 104 rfl) rfl
theorem q1166 : (Jvm.Cond.code ({ cls := "CoresAreWills", name := "on", desc := "()I" } : Jvm.MethodName) prog_1_method_123_code (1 : Nat) (Option.some Jvm.ClassFile.FieldType.int)) ∈ lw_all := lw_g (lw_at lw_m5 105 rfl) rfl
theorem q1168 : (Jvm.Cond.instanceMethod ({ cls := "CoresAreWills", name := "count", desc := "(I)I" } : Jvm.MethodName)) ∈ lw_all := lw_g (lw_at lw_m5 107 rfl) rfl
theorem q1169 : (Jvm.Cond.selects "CoresAreWills" ({ cls := "CoresAreWills", name := "count", desc := "(I)I" } : Jvm.MethodName) ({ cls := "CoresAreWills", name := "count", desc := "(I)I" } : Jvm.MethodName)) ∈ lw_all := lw_g (lw_at lw_m5 108 rfl) rfl
theorem q1170 : (Jvm.Cond.code ({ cls := "CoresAreWills", name := "count", desc := "(I)I" } : Jvm.MethodName) prog_1_method_124_code (2 : Nat) (Option.some Jvm.ClassFile.FieldType.int)) ∈ lw_all := lw_g (lw_at lw_m5 109 rfl) rfl
theorem q1171 : (Jvm.Cond.constantLong "CoresAreWills" (505 : Nat) (11 : Int64)) ∈ lw_all := lw_g (lw_at lw_m5 110 rfl) rfl
theorem q1172 : (Jvm.Cond.constantLong "CoresAreWills" (507 : Nat) (16 : Int64)) ∈ lw_all := lw_g (lw_at lw_m5 111 rfl) rfl
theorem in_X0 : ∀ w ∈ wsX00, w ∈ lw_all := lw_in wsX00 [252, 254, 256, 258, 260, 262, 264, 266, 268, 270, 272, 274, 276, 278, 280, 282, 284] (by decide +kernel) (by decide +kernel)
