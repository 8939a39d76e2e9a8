/-! CoresAreWillsModel -/
set_option maxRecDepth 100000
def RX9 : String := "CoresAreWillsModel"
def TX9 : u_T := fun k => match k with
  | 0 => ("CoresAreWillsModel", "left", "I", false)
  | 1 => ("CoresAreWillsModel", "bites", "I", false)
  | 2 => ("CoresAreWillsModel", "many", "I", false)
  | 3 => ("CoresAreWillsModel", "imageLeft", "I", false)
  | 4 => ("CoresAreWillsModel", "imageBites", "I", false)
  | 5 => ("CoresAreWillsModel", "imageMany", "I", false)
  | 6 => ("CoresAreWillsModel", "wasLeft", "I", false)
  | 7 => ("CoresAreWillsModel", "wasBites", "I", false)
  | 8 => ("CoresAreWillsModel", "wasMany", "I", false)
  | 9 => ("CoresAreWillsModel", "kind", "[I", true)
  | 10 => ("CoresAreWillsModel", "figure", "[I", true)
  | 11 => ("CoresAreWillsModel", "imageKind", "[I", true)
  | 12 => ("CoresAreWillsModel", "imageFigure", "[I", true)
  | 13 => ("CoresAreWillsModel", "wasKind", "[I", true)
  | 14 => ("CoresAreWillsModel", "wasFigure", "[I", true)
  | 15 => ("CoresAreWillsModel", "hasImage", "Z", false)
  | 16 => ("CoresAreWillsModel", "letters", "[I", true)
  | 17 => ("CoresAreWillsModel", "row", "[I", true)
  | 18 => ("CoresAreWillsModel", "refused", "[I", true)
  | 19 => ("CoresAreWillsModel", "letterMany", "I", false)
  | 20 => ("CoresAreWillsModel", "rowMany", "I", false)
  | 21 => ("CoresAreWillsModel", "place", "I", false)
  | 22 => ("CoresAreWillsModel", "numbers", "[I", true)
  | 23 => ("CoresAreWillsModel", "counted", "[I", true)
  | 24 => ("CoresAreWillsModel", "few", "[I", true)
  | _ => ("CoresAreWillsModel", "seed", "I", false)
def tyX9 : Nat → FieldType := fun k => match k with
  | 0 => .int
  | 1 => .int
  | 2 => .int
  | 3 => .int
  | 4 => .int
  | 5 => .int
  | 6 => .int
  | 7 => .int
  | 8 => .int
  | 9 => .array .int
  | 10 => .array .int
  | 11 => .array .int
  | 12 => .array .int
  | 13 => .array .int
  | 14 => .array .int
  | 15 => .boolean
  | 16 => .array .int
  | 17 => .array .int
  | 18 => .array .int
  | 19 => .int
  | 20 => .int
  | 21 => .int
  | 22 => .array .int
  | 23 => .array .int
  | 24 => .array .int
  | _ => .int
abbrev wsX90 : List Cond := u_ws RX9 TX9 26
set_option maxRecDepth 100000 in
theorem nmX9 : ∀ a, a < 26 → ∀ b, b < 26 → a ≠ b → (TX9 a).2.1 ≠ (TX9 b).2.1 := by decide +kernel
set_option maxRecDepth 100000 in
theorem tyX9_ok : ∀ k, k < 26 → parseFieldDescriptor (TX9 k).2.2.1 = some (tyX9 k) := by decide +kernel
abbrev cX9_init : ByteArray := prog_21_method_1_code
def yX9_init : MethodName := ⟨RX9, "<init>", "()V"⟩
def dkwX9_init_4 : List UInt8 := [17, 13, 0, 188, 10, 181, 0, 48, 177]
abbrev dktX9_init_4 : List UInt8 := dkwX9_init_4 ++ []
def dkwX9_init_3 : List UInt8 := [188, 10, 181, 0, 39, 42, 5, 188, 10, 181, 0, 42, 42, 17, 13, 0, 188, 10, 181, 0, 45, 42]
abbrev dktX9_init_3 : List UInt8 := dkwX9_init_3 ++ dktX9_init_4
def dkwX9_init_2 : List UInt8 := [188, 10, 181, 0, 30, 42, 16, 96, 188, 10, 181, 0, 33, 42, 16, 16, 188, 10, 181, 0, 36, 42, 16, 7]
abbrev dktX9_init_2 : List UInt8 := dkwX9_init_2 ++ dktX9_init_3
def dkwX9_init_1 : List UInt8 := [42, 8, 188, 10, 181, 0, 21, 42, 8, 188, 10, 181, 0, 24, 42, 8, 188, 10, 181, 0, 27, 42, 8]
abbrev dktX9_init_1 : List UInt8 := dkwX9_init_1 ++ dktX9_init_2
def dkwX9_init_0 : List UInt8 := [42, 183, 0, 1, 42, 18, 9, 181, 0, 10, 42, 8, 188, 10, 181, 0, 14, 42, 8, 188, 10, 181, 0, 18]
abbrev dktX9_init_0 : List UInt8 := dkwX9_init_0 ++ dktX9_init_1
theorem dksX9_init_0 : cX9_init.data.toList.drop 0 = dktX9_init_0 := by decide +kernel
theorem dksX9_init_1 : cX9_init.data.toList.drop 24 = dktX9_init_1 := dk_seg dksX9_init_0 24 rfl rfl
theorem dksX9_init_2 : cX9_init.data.toList.drop 47 = dktX9_init_2 := dk_seg dksX9_init_1 23 rfl rfl
theorem dksX9_init_3 : cX9_init.data.toList.drop 71 = dktX9_init_3 := dk_seg dksX9_init_2 24 rfl rfl
theorem dksX9_init_4 : cX9_init.data.toList.drop 93 = dktX9_init_4 := dk_seg dksX9_init_3 22 rfl rfl
theorem dX9_init_0 : decode cX9_init 0 = .ok (.aload_n 0, 1) := dk_42 (dk_at dksX9_init_0 0 rfl rfl)
theorem dX9_init_1 : decode cX9_init 1 = .ok (.invokespecial 1, 3) := dk_183 0 1 (dk_at dksX9_init_0 1 rfl rfl)
theorem dX9_init_4 : decode cX9_init 4 = .ok (.aload_n 0, 1) := dk_42 (dk_at dksX9_init_0 4 rfl rfl)
theorem dX9_init_5 : decode cX9_init 5 = .ok (.ldc 9, 2) := dk_18 9 (dk_at dksX9_init_0 5 rfl rfl)
theorem dX9_init_7 : decode cX9_init 7 = .ok (.putfield 10, 3) := dk_181 0 10 (dk_at dksX9_init_0 7 rfl rfl)
theorem dX9_init_10 : decode cX9_init 10 = .ok (.aload_n 0, 1) := dk_42 (dk_at dksX9_init_0 10 rfl rfl)
theorem dX9_init_11 : decode cX9_init 11 = .ok (.iconst 5, 1) := dk_8 (dk_at dksX9_init_0 11 rfl rfl)
theorem dX9_init_12 : decode cX9_init 12 = .ok (.newarray .int, 2) := dk_188_10 (dk_at dksX9_init_0 12 rfl rfl)
theorem dX9_init_14 : decode cX9_init 14 = .ok (.putfield 14, 3) := dk_181 0 14 (dk_at dksX9_init_0 14 rfl rfl)
theorem dX9_init_17 : decode cX9_init 17 = .ok (.aload_n 0, 1) := dk_42 (dk_at dksX9_init_0 17 rfl rfl)
theorem dX9_init_18 : decode cX9_init 18 = .ok (.iconst 5, 1) := dk_8 (dk_at dksX9_init_0 18 rfl rfl)
theorem dX9_init_19 : decode cX9_init 19 = .ok (.newarray .int, 2) := dk_188_10 (dk_at dksX9_init_0 19 rfl rfl)
theorem dX9_init_21 : decode cX9_init 21 = .ok (.putfield 18, 3) := dk_181 0 18 (dk_at dksX9_init_0 21 rfl rfl)
theorem dX9_init_24 : decode cX9_init 24 = .ok (.aload_n 0, 1) := dk_42 (dk_at dksX9_init_1 0 rfl rfl)
theorem dX9_init_25 : decode cX9_init 25 = .ok (.iconst 5, 1) := dk_8 (dk_at dksX9_init_1 1 rfl rfl)
theorem dX9_init_26 : decode cX9_init 26 = .ok (.newarray .int, 2) := dk_188_10 (dk_at dksX9_init_1 2 rfl rfl)
theorem dX9_init_28 : decode cX9_init 28 = .ok (.putfield 21, 3) := dk_181 0 21 (dk_at dksX9_init_1 4 rfl rfl)
theorem dX9_init_31 : decode cX9_init 31 = .ok (.aload_n 0, 1) := dk_42 (dk_at dksX9_init_1 7 rfl rfl)
theorem dX9_init_32 : decode cX9_init 32 = .ok (.iconst 5, 1) := dk_8 (dk_at dksX9_init_1 8 rfl rfl)
theorem dX9_init_33 : decode cX9_init 33 = .ok (.newarray .int, 2) := dk_188_10 (dk_at dksX9_init_1 9 rfl rfl)
theorem dX9_init_35 : decode cX9_init 35 = .ok (.putfield 24, 3) := dk_181 0 24 (dk_at dksX9_init_1 11 rfl rfl)
theorem dX9_init_38 : decode cX9_init 38 = .ok (.aload_n 0, 1) := dk_42 (dk_at dksX9_init_1 14 rfl rfl)
theorem dX9_init_39 : decode cX9_init 39 = .ok (.iconst 5, 1) := dk_8 (dk_at dksX9_init_1 15 rfl rfl)
theorem dX9_init_40 : decode cX9_init 40 = .ok (.newarray .int, 2) := dk_188_10 (dk_at dksX9_init_1 16 rfl rfl)
theorem dX9_init_42 : decode cX9_init 42 = .ok (.putfield 27, 3) := dk_181 0 27 (dk_at dksX9_init_1 18 rfl rfl)
theorem dX9_init_45 : decode cX9_init 45 = .ok (.aload_n 0, 1) := dk_42 (dk_at dksX9_init_1 21 rfl rfl)
theorem dX9_init_46 : decode cX9_init 46 = .ok (.iconst 5, 1) := dk_8 (dk_at dksX9_init_1 22 rfl rfl)
theorem dX9_init_47 : decode cX9_init 47 = .ok (.newarray .int, 2) := dk_188_10 (dk_at dksX9_init_2 0 rfl rfl)
theorem dX9_init_49 : decode cX9_init 49 = .ok (.putfield 30, 3) := dk_181 0 30 (dk_at dksX9_init_2 2 rfl rfl)
theorem dX9_init_52 : decode cX9_init 52 = .ok (.aload_n 0, 1) := dk_42 (dk_at dksX9_init_2 5 rfl rfl)
theorem dX9_init_53 : decode cX9_init 53 = .ok (.bipush 96, 2) := dk_16 96 (dk_at dksX9_init_2 6 rfl rfl)
theorem dX9_init_55 : decode cX9_init 55 = .ok (.newarray .int, 2) := dk_188_10 (dk_at dksX9_init_2 8 rfl rfl)
theorem dX9_init_57 : decode cX9_init 57 = .ok (.putfield 33, 3) := dk_181 0 33 (dk_at dksX9_init_2 10 rfl rfl)
theorem dX9_init_60 : decode cX9_init 60 = .ok (.aload_n 0, 1) := dk_42 (dk_at dksX9_init_2 13 rfl rfl)
theorem dX9_init_61 : decode cX9_init 61 = .ok (.bipush 16, 2) := dk_16 16 (dk_at dksX9_init_2 14 rfl rfl)
theorem dX9_init_63 : decode cX9_init 63 = .ok (.newarray .int, 2) := dk_188_10 (dk_at dksX9_init_2 16 rfl rfl)
theorem dX9_init_65 : decode cX9_init 65 = .ok (.putfield 36, 3) := dk_181 0 36 (dk_at dksX9_init_2 18 rfl rfl)
theorem dX9_init_68 : decode cX9_init 68 = .ok (.aload_n 0, 1) := dk_42 (dk_at dksX9_init_2 21 rfl rfl)
theorem dX9_init_69 : decode cX9_init 69 = .ok (.bipush 7, 2) := dk_16 7 (dk_at dksX9_init_2 22 rfl rfl)
theorem dX9_init_71 : decode cX9_init 71 = .ok (.newarray .int, 2) := dk_188_10 (dk_at dksX9_init_3 0 rfl rfl)
theorem dX9_init_73 : decode cX9_init 73 = .ok (.putfield 39, 3) := dk_181 0 39 (dk_at dksX9_init_3 2 rfl rfl)
theorem dX9_init_76 : decode cX9_init 76 = .ok (.aload_n 0, 1) := dk_42 (dk_at dksX9_init_3 5 rfl rfl)
theorem dX9_init_77 : decode cX9_init 77 = .ok (.iconst 2, 1) := dk_5 (dk_at dksX9_init_3 6 rfl rfl)
theorem dX9_init_78 : decode cX9_init 78 = .ok (.newarray .int, 2) := dk_188_10 (dk_at dksX9_init_3 7 rfl rfl)
theorem dX9_init_80 : decode cX9_init 80 = .ok (.putfield 42, 3) := dk_181 0 42 (dk_at dksX9_init_3 9 rfl rfl)
theorem dX9_init_83 : decode cX9_init 83 = .ok (.aload_n 0, 1) := dk_42 (dk_at dksX9_init_3 12 rfl rfl)
theorem dX9_init_84 : decode cX9_init 84 = .ok (.sipush 3328, 3) := dk_17 13 0 (dk_at dksX9_init_3 13 rfl rfl)
theorem dX9_init_87 : decode cX9_init 87 = .ok (.newarray .int, 2) := dk_188_10 (dk_at dksX9_init_3 16 rfl rfl)
theorem dX9_init_89 : decode cX9_init 89 = .ok (.putfield 45, 3) := dk_181 0 45 (dk_at dksX9_init_3 18 rfl rfl)
theorem dX9_init_92 : decode cX9_init 92 = .ok (.aload_n 0, 1) := dk_42 (dk_at dksX9_init_3 21 rfl rfl)
theorem dX9_init_93 : decode cX9_init 93 = .ok (.sipush 3328, 3) := dk_17 13 0 (dk_at dksX9_init_4 0 rfl rfl)
theorem dX9_init_96 : decode cX9_init 96 = .ok (.newarray .int, 2) := dk_188_10 (dk_at dksX9_init_4 3 rfl rfl)
theorem dX9_init_98 : decode cX9_init 98 = .ok (.putfield 48, 3) := dk_181 0 48 (dk_at dksX9_init_4 5 rfl rfl)
theorem dX9_init_101 : decode cX9_init 101 = .ok (.return_, 1) := dk_177 (dk_at dksX9_init_4 8 rfl rfl)
abbrev cX9_letter : ByteArray := prog_21_method_24_code
def yX9_letter : MethodName := ⟨RX9, "letter", "(I)I"⟩
def dkwX9_letter_2 : List UInt8 := [180, 0, 104, 4, 96, 181, 0, 104, 42, 180, 0, 104, 172]
abbrev dktX9_letter_2 : List UInt8 := dkwX9_letter_2 ++ []
def dkwX9_letter_1 : List UInt8 := [160, 0, 10, 42, 16, 250, 182, 0, 52, 172, 42, 180, 0, 33, 42, 180, 0, 104, 27, 79, 42, 89]
abbrev dktX9_letter_1 : List UInt8 := dkwX9_letter_1 ++ dktX9_letter_2
def dkwX9_letter_0 : List UInt8 := [27, 156, 0, 10, 42, 16, 252, 182, 0, 52, 172, 27, 17, 0, 255, 163, 0, 12, 42, 180, 0, 104, 16, 96]
abbrev dktX9_letter_0 : List UInt8 := dkwX9_letter_0 ++ dktX9_letter_1
theorem dksX9_letter_0 : cX9_letter.data.toList.drop 0 = dktX9_letter_0 := by decide +kernel
theorem dksX9_letter_1 : cX9_letter.data.toList.drop 24 = dktX9_letter_1 := dk_seg dksX9_letter_0 24 rfl rfl
theorem dksX9_letter_2 : cX9_letter.data.toList.drop 46 = dktX9_letter_2 := dk_seg dksX9_letter_1 22 rfl rfl
theorem dX9_letter_0 : decode cX9_letter 0 = .ok (.iload_n 1, 1) := dk_27 (dk_at dksX9_letter_0 0 rfl rfl)
theorem dX9_letter_1 : decode cX9_letter 1 = .ok (.ifCond .ge 10, 3) := dk_156 0 10 (dk_at dksX9_letter_0 1 rfl rfl)
theorem dX9_letter_4 : decode cX9_letter 4 = .ok (.aload_n 0, 1) := dk_42 (dk_at dksX9_letter_0 4 rfl rfl)
theorem dX9_letter_5 : decode cX9_letter 5 = .ok (.bipush (-4), 2) := dk_16 252 (dk_at dksX9_letter_0 5 rfl rfl)
theorem dX9_letter_7 : decode cX9_letter 7 = .ok (.invokevirtual 52, 3) := dk_182 0 52 (dk_at dksX9_letter_0 7 rfl rfl)
theorem dX9_letter_10 : decode cX9_letter 10 = .ok (.ireturn, 1) := dk_172 (dk_at dksX9_letter_0 10 rfl rfl)
theorem dX9_letter_11 : decode cX9_letter 11 = .ok (.iload_n 1, 1) := dk_27 (dk_at dksX9_letter_0 11 rfl rfl)
theorem dX9_letter_12 : decode cX9_letter 12 = .ok (.sipush 255, 3) := dk_17 0 255 (dk_at dksX9_letter_0 12 rfl rfl)
theorem dX9_letter_15 : decode cX9_letter 15 = .ok (.if_icmp .gt 12, 3) := dk_163 0 12 (dk_at dksX9_letter_0 15 rfl rfl)
theorem dX9_letter_18 : decode cX9_letter 18 = .ok (.aload_n 0, 1) := dk_42 (dk_at dksX9_letter_0 18 rfl rfl)
theorem dX9_letter_19 : decode cX9_letter 19 = .ok (.getfield 104, 3) := dk_180 0 104 (dk_at dksX9_letter_0 19 rfl rfl)
theorem dX9_letter_22 : decode cX9_letter 22 = .ok (.bipush 96, 2) := dk_16 96 (dk_at dksX9_letter_0 22 rfl rfl)
theorem dX9_letter_24 : decode cX9_letter 24 = .ok (.if_icmp .ne 10, 3) := dk_160 0 10 (dk_at dksX9_letter_1 0 rfl rfl)
theorem dX9_letter_27 : decode cX9_letter 27 = .ok (.aload_n 0, 1) := dk_42 (dk_at dksX9_letter_1 3 rfl rfl)
theorem dX9_letter_28 : decode cX9_letter 28 = .ok (.bipush (-6), 2) := dk_16 250 (dk_at dksX9_letter_1 4 rfl rfl)
theorem dX9_letter_30 : decode cX9_letter 30 = .ok (.invokevirtual 52, 3) := dk_182 0 52 (dk_at dksX9_letter_1 6 rfl rfl)
theorem dX9_letter_33 : decode cX9_letter 33 = .ok (.ireturn, 1) := dk_172 (dk_at dksX9_letter_1 9 rfl rfl)
theorem dX9_letter_34 : decode cX9_letter 34 = .ok (.aload_n 0, 1) := dk_42 (dk_at dksX9_letter_1 10 rfl rfl)
theorem dX9_letter_35 : decode cX9_letter 35 = .ok (.getfield 33, 3) := dk_180 0 33 (dk_at dksX9_letter_1 11 rfl rfl)
theorem dX9_letter_38 : decode cX9_letter 38 = .ok (.aload_n 0, 1) := dk_42 (dk_at dksX9_letter_1 14 rfl rfl)
theorem dX9_letter_39 : decode cX9_letter 39 = .ok (.getfield 104, 3) := dk_180 0 104 (dk_at dksX9_letter_1 15 rfl rfl)
theorem dX9_letter_42 : decode cX9_letter 42 = .ok (.iload_n 1, 1) := dk_27 (dk_at dksX9_letter_1 18 rfl rfl)
theorem dX9_letter_43 : decode cX9_letter 43 = .ok (.iastore, 1) := dk_79 (dk_at dksX9_letter_1 19 rfl rfl)
theorem dX9_letter_44 : decode cX9_letter 44 = .ok (.aload_n 0, 1) := dk_42 (dk_at dksX9_letter_1 20 rfl rfl)
theorem dX9_letter_45 : decode cX9_letter 45 = .ok (.dup, 1) := dk_89 (dk_at dksX9_letter_1 21 rfl rfl)
theorem dX9_letter_46 : decode cX9_letter 46 = .ok (.getfield 104, 3) := dk_180 0 104 (dk_at dksX9_letter_2 0 rfl rfl)
theorem dX9_letter_49 : decode cX9_letter 49 = .ok (.iconst 1, 1) := dk_4 (dk_at dksX9_letter_2 3 rfl rfl)
theorem dX9_letter_50 : decode cX9_letter 50 = .ok (.iadd, 1) := dk_96 (dk_at dksX9_letter_2 4 rfl rfl)
theorem dX9_letter_51 : decode cX9_letter 51 = .ok (.putfield 104, 3) := dk_181 0 104 (dk_at dksX9_letter_2 5 rfl rfl)
theorem dX9_letter_54 : decode cX9_letter 54 = .ok (.aload_n 0, 1) := dk_42 (dk_at dksX9_letter_2 8 rfl rfl)
theorem dX9_letter_55 : decode cX9_letter 55 = .ok (.getfield 104, 3) := dk_180 0 104 (dk_at dksX9_letter_2 9 rfl rfl)
theorem dX9_letter_58 : decode cX9_letter 58 = .ok (.ireturn, 1) := dk_172 (dk_at dksX9_letter_2 12 rfl rfl)
abbrev cX9_no : ByteArray := prog_21_method_4_code
def yX9_no : MethodName := ⟨RX9, "no", "(I)I"⟩
def dkwX9_no_0 : List UInt8 := [42, 180, 0, 39, 27, 116, 92, 46, 4, 96, 79, 27, 172]
abbrev dktX9_no_0 : List UInt8 := dkwX9_no_0 ++ []
theorem dksX9_no_0 : cX9_no.data.toList.drop 0 = dktX9_no_0 := by decide +kernel
theorem dX9_no_0 : decode cX9_no 0 = .ok (.aload_n 0, 1) := dk_42 (dk_at dksX9_no_0 0 rfl rfl)
theorem dX9_no_1 : decode cX9_no 1 = .ok (.getfield 39, 3) := dk_180 0 39 (dk_at dksX9_no_0 1 rfl rfl)
theorem dX9_no_4 : decode cX9_no 4 = .ok (.iload_n 1, 1) := dk_27 (dk_at dksX9_no_0 4 rfl rfl)
theorem dX9_no_5 : decode cX9_no 5 = .ok (.ineg, 1) := dk_116 (dk_at dksX9_no_0 5 rfl rfl)
theorem dX9_no_6 : decode cX9_no 6 = .ok (.dup2, 1) := dk_92 (dk_at dksX9_no_0 6 rfl rfl)
theorem dX9_no_7 : decode cX9_no 7 = .ok (.iaload, 1) := dk_46 (dk_at dksX9_no_0 7 rfl rfl)
theorem dX9_no_8 : decode cX9_no 8 = .ok (.iconst 1, 1) := dk_4 (dk_at dksX9_no_0 8 rfl rfl)
theorem dX9_no_9 : decode cX9_no 9 = .ok (.iadd, 1) := dk_96 (dk_at dksX9_no_0 9 rfl rfl)
theorem dX9_no_10 : decode cX9_no 10 = .ok (.iastore, 1) := dk_79 (dk_at dksX9_no_0 10 rfl rfl)
theorem dX9_no_11 : decode cX9_no 11 = .ok (.iload_n 1, 1) := dk_27 (dk_at dksX9_no_0 11 rfl rfl)
theorem dX9_no_12 : decode cX9_no 12 = .ok (.ireturn, 1) := dk_172 (dk_at dksX9_no_0 12 rfl rfl)
abbrev cX9_core : ByteArray := prog_21_method_35_code
def yX9_core : MethodName := ⟨RX9, "core", "()I"⟩
def dkwX9_core_5 : List UInt8 := [181, 0, 104, 28, 16, 247, 160, 0, 7, 27, 167, 0, 4, 28, 172]
abbrev dktX9_core_5 : List UInt8 := dkwX9_core_5 ++ []
def dkwX9_core_4 : List UInt8 := [182, 0, 162, 153, 0, 6, 167, 255, 213, 17, 248, 48, 29, 100, 61, 42, 182, 0, 165, 167, 255, 200, 42, 3]
abbrev dktX9_core_4 : List UInt8 := dkwX9_core_4 ++ dktX9_core_5
def dkwX9_core_3 : List UInt8 := [162, 0, 45, 42, 180, 0, 107, 62, 42, 182, 0, 110, 54, 4, 42, 182, 0, 156, 54, 5, 42, 21, 4]
abbrev dktX9_core_3 : List UInt8 := dkwX9_core_3 ++ dktX9_core_4
def dkwX9_core_2 : List UInt8 := [182, 0, 159, 42, 3, 181, 0, 107, 28, 16, 247, 160, 0, 56, 42, 180, 0, 107, 42, 180, 0, 104]
abbrev dktX9_core_2 : List UInt8 := dkwX9_core_2 ++ dktX9_core_3
def dkwX9_core_1 : List UInt8 := [100, 61, 132, 1, 1, 28, 16, 247, 160, 0, 14, 42, 180, 0, 107, 42, 180, 0, 104, 161, 255, 223, 42]
abbrev dktX9_core_1 : List UInt8 := dkwX9_core_1 ++ dktX9_core_2
def dkwX9_core_0 : List UInt8 := [42, 3, 181, 0, 107, 3, 60, 16, 247, 61, 42, 182, 0, 156, 154, 0, 12, 17, 252, 24, 42, 180, 0, 107]
abbrev dktX9_core_0 : List UInt8 := dkwX9_core_0 ++ dktX9_core_1
theorem dksX9_core_0 : cX9_core.data.toList.drop 0 = dktX9_core_0 := by decide +kernel
theorem dksX9_core_1 : cX9_core.data.toList.drop 24 = dktX9_core_1 := dk_seg dksX9_core_0 24 rfl rfl
theorem dksX9_core_2 : cX9_core.data.toList.drop 47 = dktX9_core_2 := dk_seg dksX9_core_1 23 rfl rfl
theorem dksX9_core_3 : cX9_core.data.toList.drop 69 = dktX9_core_3 := dk_seg dksX9_core_2 22 rfl rfl
theorem dksX9_core_4 : cX9_core.data.toList.drop 92 = dktX9_core_4 := dk_seg dksX9_core_3 23 rfl rfl
theorem dksX9_core_5 : cX9_core.data.toList.drop 116 = dktX9_core_5 := dk_seg dksX9_core_4 24 rfl rfl
theorem dX9_core_0 : decode cX9_core 0 = .ok (.aload_n 0, 1) := dk_42 (dk_at dksX9_core_0 0 rfl rfl)
theorem dX9_core_1 : decode cX9_core 1 = .ok (.iconst 0, 1) := dk_3 (dk_at dksX9_core_0 1 rfl rfl)
theorem dX9_core_2 : decode cX9_core 2 = .ok (.putfield 107, 3) := dk_181 0 107 (dk_at dksX9_core_0 2 rfl rfl)
theorem dX9_core_5 : decode cX9_core 5 = .ok (.iconst 0, 1) := dk_3 (dk_at dksX9_core_0 5 rfl rfl)
theorem dX9_core_6 : decode cX9_core 6 = .ok (.istore_n 1, 1) := dk_60 (dk_at dksX9_core_0 6 rfl rfl)
theorem dX9_core_7 : decode cX9_core 7 = .ok (.bipush (-9), 2) := dk_16 247 (dk_at dksX9_core_0 7 rfl rfl)
theorem dX9_core_9 : decode cX9_core 9 = .ok (.istore_n 2, 1) := dk_61 (dk_at dksX9_core_0 9 rfl rfl)
theorem dX9_core_10 : decode cX9_core 10 = .ok (.aload_n 0, 1) := dk_42 (dk_at dksX9_core_0 10 rfl rfl)
theorem dX9_core_11 : decode cX9_core 11 = .ok (.invokevirtual 156, 3) := dk_182 0 156 (dk_at dksX9_core_0 11 rfl rfl)
theorem dX9_core_14 : decode cX9_core 14 = .ok (.ifCond .ne 12, 3) := dk_154 0 12 (dk_at dksX9_core_0 14 rfl rfl)
theorem dX9_core_17 : decode cX9_core 17 = .ok (.sipush (-1000), 3) := dk_17 252 24 (dk_at dksX9_core_0 17 rfl rfl)
theorem dX9_core_20 : decode cX9_core 20 = .ok (.aload_n 0, 1) := dk_42 (dk_at dksX9_core_0 20 rfl rfl)
theorem dX9_core_21 : decode cX9_core 21 = .ok (.getfield 107, 3) := dk_180 0 107 (dk_at dksX9_core_0 21 rfl rfl)
theorem dX9_core_24 : decode cX9_core 24 = .ok (.isub, 1) := dk_100 (dk_at dksX9_core_1 0 rfl rfl)
theorem dX9_core_25 : decode cX9_core 25 = .ok (.istore_n 2, 1) := dk_61 (dk_at dksX9_core_1 1 rfl rfl)
theorem dX9_core_26 : decode cX9_core 26 = .ok (.iinc 1 1, 3) := dk_132 1 1 (dk_at dksX9_core_1 2 rfl rfl)
theorem dX9_core_29 : decode cX9_core 29 = .ok (.iload_n 2, 1) := dk_28 (dk_at dksX9_core_1 5 rfl rfl)
theorem dX9_core_30 : decode cX9_core 30 = .ok (.bipush (-9), 2) := dk_16 247 (dk_at dksX9_core_1 6 rfl rfl)
theorem dX9_core_32 : decode cX9_core 32 = .ok (.if_icmp .ne 14, 3) := dk_160 0 14 (dk_at dksX9_core_1 8 rfl rfl)
theorem dX9_core_35 : decode cX9_core 35 = .ok (.aload_n 0, 1) := dk_42 (dk_at dksX9_core_1 11 rfl rfl)
theorem dX9_core_36 : decode cX9_core 36 = .ok (.getfield 107, 3) := dk_180 0 107 (dk_at dksX9_core_1 12 rfl rfl)
theorem dX9_core_39 : decode cX9_core 39 = .ok (.aload_n 0, 1) := dk_42 (dk_at dksX9_core_1 15 rfl rfl)
theorem dX9_core_40 : decode cX9_core 40 = .ok (.getfield 104, 3) := dk_180 0 104 (dk_at dksX9_core_1 16 rfl rfl)
theorem dX9_core_43 : decode cX9_core 43 = .ok (.if_icmp .lt (-33), 3) := dk_161 255 223 (dk_at dksX9_core_1 19 rfl rfl)
theorem dX9_core_46 : decode cX9_core 46 = .ok (.aload_n 0, 1) := dk_42 (dk_at dksX9_core_1 22 rfl rfl)
theorem dX9_core_47 : decode cX9_core 47 = .ok (.invokevirtual 159, 3) := dk_182 0 159 (dk_at dksX9_core_2 0 rfl rfl)
theorem dX9_core_50 : decode cX9_core 50 = .ok (.aload_n 0, 1) := dk_42 (dk_at dksX9_core_2 3 rfl rfl)
theorem dX9_core_51 : decode cX9_core 51 = .ok (.iconst 0, 1) := dk_3 (dk_at dksX9_core_2 4 rfl rfl)
theorem dX9_core_52 : decode cX9_core 52 = .ok (.putfield 107, 3) := dk_181 0 107 (dk_at dksX9_core_2 5 rfl rfl)
theorem dX9_core_55 : decode cX9_core 55 = .ok (.iload_n 2, 1) := dk_28 (dk_at dksX9_core_2 8 rfl rfl)
theorem dX9_core_56 : decode cX9_core 56 = .ok (.bipush (-9), 2) := dk_16 247 (dk_at dksX9_core_2 9 rfl rfl)
theorem dX9_core_58 : decode cX9_core 58 = .ok (.if_icmp .ne 56, 3) := dk_160 0 56 (dk_at dksX9_core_2 11 rfl rfl)
theorem dX9_core_61 : decode cX9_core 61 = .ok (.aload_n 0, 1) := dk_42 (dk_at dksX9_core_2 14 rfl rfl)
theorem dX9_core_62 : decode cX9_core 62 = .ok (.getfield 107, 3) := dk_180 0 107 (dk_at dksX9_core_2 15 rfl rfl)
theorem dX9_core_65 : decode cX9_core 65 = .ok (.aload_n 0, 1) := dk_42 (dk_at dksX9_core_2 18 rfl rfl)
theorem dX9_core_66 : decode cX9_core 66 = .ok (.getfield 104, 3) := dk_180 0 104 (dk_at dksX9_core_2 19 rfl rfl)
theorem dX9_core_69 : decode cX9_core 69 = .ok (.if_icmp .ge 45, 3) := dk_162 0 45 (dk_at dksX9_core_3 0 rfl rfl)
theorem dX9_core_72 : decode cX9_core 72 = .ok (.aload_n 0, 1) := dk_42 (dk_at dksX9_core_3 3 rfl rfl)
theorem dX9_core_73 : decode cX9_core 73 = .ok (.getfield 107, 3) := dk_180 0 107 (dk_at dksX9_core_3 4 rfl rfl)
theorem dX9_core_76 : decode cX9_core 76 = .ok (.istore_n 3, 1) := dk_62 (dk_at dksX9_core_3 7 rfl rfl)
theorem dX9_core_77 : decode cX9_core 77 = .ok (.aload_n 0, 1) := dk_42 (dk_at dksX9_core_3 8 rfl rfl)
theorem dX9_core_78 : decode cX9_core 78 = .ok (.invokevirtual 110, 3) := dk_182 0 110 (dk_at dksX9_core_3 9 rfl rfl)
theorem dX9_core_81 : decode cX9_core 81 = .ok (.istore 4, 2) := dk_54 4 (dk_at dksX9_core_3 12 rfl rfl)
theorem dX9_core_83 : decode cX9_core 83 = .ok (.aload_n 0, 1) := dk_42 (dk_at dksX9_core_3 14 rfl rfl)
theorem dX9_core_84 : decode cX9_core 84 = .ok (.invokevirtual 156, 3) := dk_182 0 156 (dk_at dksX9_core_3 15 rfl rfl)
theorem dX9_core_87 : decode cX9_core 87 = .ok (.istore 5, 2) := dk_54 5 (dk_at dksX9_core_3 18 rfl rfl)
theorem dX9_core_89 : decode cX9_core 89 = .ok (.aload_n 0, 1) := dk_42 (dk_at dksX9_core_3 20 rfl rfl)
theorem dX9_core_90 : decode cX9_core 90 = .ok (.iload 4, 2) := dk_21 4 (dk_at dksX9_core_3 21 rfl rfl)
theorem dX9_core_92 : decode cX9_core 92 = .ok (.invokevirtual 162, 3) := dk_182 0 162 (dk_at dksX9_core_4 0 rfl rfl)
theorem dX9_core_95 : decode cX9_core 95 = .ok (.ifCond .eq 6, 3) := dk_153 0 6 (dk_at dksX9_core_4 3 rfl rfl)
theorem dX9_core_98 : decode cX9_core 98 = .ok (.goto (-43), 3) := dk_167 255 213 (dk_at dksX9_core_4 6 rfl rfl)
theorem dX9_core_101 : decode cX9_core 101 = .ok (.sipush (-2000), 3) := dk_17 248 48 (dk_at dksX9_core_4 9 rfl rfl)
theorem dX9_core_104 : decode cX9_core 104 = .ok (.iload_n 3, 1) := dk_29 (dk_at dksX9_core_4 12 rfl rfl)
theorem dX9_core_105 : decode cX9_core 105 = .ok (.isub, 1) := dk_100 (dk_at dksX9_core_4 13 rfl rfl)
theorem dX9_core_106 : decode cX9_core 106 = .ok (.istore_n 2, 1) := dk_61 (dk_at dksX9_core_4 14 rfl rfl)
theorem dX9_core_107 : decode cX9_core 107 = .ok (.aload_n 0, 1) := dk_42 (dk_at dksX9_core_4 15 rfl rfl)
theorem dX9_core_108 : decode cX9_core 108 = .ok (.invokevirtual 165, 3) := dk_182 0 165 (dk_at dksX9_core_4 16 rfl rfl)
theorem dX9_core_111 : decode cX9_core 111 = .ok (.goto (-56), 3) := dk_167 255 200 (dk_at dksX9_core_4 19 rfl rfl)
theorem dX9_core_114 : decode cX9_core 114 = .ok (.aload_n 0, 1) := dk_42 (dk_at dksX9_core_4 22 rfl rfl)
theorem dX9_core_115 : decode cX9_core 115 = .ok (.iconst 0, 1) := dk_3 (dk_at dksX9_core_4 23 rfl rfl)
theorem dX9_core_116 : decode cX9_core 116 = .ok (.putfield 104, 3) := dk_181 0 104 (dk_at dksX9_core_5 0 rfl rfl)
theorem dX9_core_119 : decode cX9_core 119 = .ok (.iload_n 2, 1) := dk_28 (dk_at dksX9_core_5 3 rfl rfl)
theorem dX9_core_120 : decode cX9_core 120 = .ok (.bipush (-9), 2) := dk_16 247 (dk_at dksX9_core_5 4 rfl rfl)
theorem dX9_core_122 : decode cX9_core 122 = .ok (.if_icmp .ne 7, 3) := dk_160 0 7 (dk_at dksX9_core_5 6 rfl rfl)
theorem dX9_core_125 : decode cX9_core 125 = .ok (.iload_n 1, 1) := dk_27 (dk_at dksX9_core_5 9 rfl rfl)
theorem dX9_core_126 : decode cX9_core 126 = .ok (.goto 4, 3) := dk_167 0 4 (dk_at dksX9_core_5 10 rfl rfl)
theorem dX9_core_129 : decode cX9_core 129 = .ok (.iload_n 2, 1) := dk_28 (dk_at dksX9_core_5 13 rfl rfl)
theorem dX9_core_130 : decode cX9_core 130 = .ok (.ireturn, 1) := dk_172 (dk_at dksX9_core_5 14 rfl rfl)
abbrev cX9_readsStatement : ByteArray := prog_21_method_29_code
def yX9_readsStatement : MethodName := ⟨RX9, "readsStatement", "()Z"⟩
def dkwX9_readsStatement_7 : List UInt8 := [4, 172]
abbrev dktX9_readsStatement_7 : List UInt8 := dkwX9_readsStatement_7 ++ []
def dkwX9_readsStatement_6 : List UInt8 := [153, 0, 12, 42, 182, 0, 110, 16, 59, 159, 0, 5, 3, 172, 42, 89, 180, 0, 107, 4, 96, 181, 0, 107]
abbrev dktX9_readsStatement_6 : List UInt8 := dkwX9_readsStatement_6 ++ dktX9_readsStatement_7
def dkwX9_readsStatement_5 : List UInt8 := [61, 167, 0, 20, 4, 61, 167, 0, 15, 42, 89, 180, 0, 107, 4, 100, 181, 0, 107, 3, 172, 28]
abbrev dktX9_readsStatement_5 : List UInt8 := dkwX9_readsStatement_5 ++ dktX9_readsStatement_6
def dkwX9_readsStatement_4 : List UInt8 := [167, 0, 4, 3, 61, 167, 0, 40, 42, 3, 5, 182, 0, 121, 61, 167, 0, 30, 42, 3, 4, 182, 0, 121]
abbrev dktX9_readsStatement_4 : List UInt8 := dkwX9_readsStatement_4 ++ dktX9_readsStatement_5
def dkwX9_readsStatement_3 : List UInt8 := [167, 0, 67, 42, 3, 4, 182, 0, 121, 153, 0, 16, 42, 4, 5, 182, 0, 121, 153, 0, 7, 4]
abbrev dktX9_readsStatement_3 : List UInt8 := dkwX9_readsStatement_3 ++ dktX9_readsStatement_4
def dkwX9_readsStatement_2 : List UInt8 := [42, 182, 0, 117, 153, 0, 16, 42, 4, 4, 182, 0, 121, 153, 0, 7, 4, 167, 0, 4, 3, 61]
abbrev dktX9_readsStatement_2 : List UInt8 := dkwX9_readsStatement_2 ++ dktX9_readsStatement_3
def dkwX9_readsStatement_1 : List UInt8 := [171, 0, 0, 0, 0, 0, 0, 129, 0, 0, 0, 5, 0, 0, 0, 98, 0, 0, 0, 77, 0, 0, 0, 104, 0, 0, 0, 52, 0, 0, 0, 108, 0, 0, 0, 104, 0, 0, 0, 110, 0, 0, 0, 124, 0, 0, 0, 114, 0, 0, 0, 114]
abbrev dktX9_readsStatement_1 : List UInt8 := dkwX9_readsStatement_1 ++ dktX9_readsStatement_2
def dkwX9_readsStatement_0 : List UInt8 := [42, 182, 0, 110, 60, 42, 89, 180, 0, 107, 4, 96, 181, 0, 107, 27]
abbrev dktX9_readsStatement_0 : List UInt8 := dkwX9_readsStatement_0 ++ dktX9_readsStatement_1
theorem dksX9_readsStatement_0 : cX9_readsStatement.data.toList.drop 0 = dktX9_readsStatement_0 := by decide +kernel
theorem dksX9_readsStatement_1 : cX9_readsStatement.data.toList.drop 16 = dktX9_readsStatement_1 := dk_seg dksX9_readsStatement_0 16 rfl rfl
theorem dksX9_readsStatement_2 : cX9_readsStatement.data.toList.drop 68 = dktX9_readsStatement_2 := dk_seg dksX9_readsStatement_1 52 rfl rfl
theorem dksX9_readsStatement_3 : cX9_readsStatement.data.toList.drop 90 = dktX9_readsStatement_3 := dk_seg dksX9_readsStatement_2 22 rfl rfl
theorem dksX9_readsStatement_4 : cX9_readsStatement.data.toList.drop 112 = dktX9_readsStatement_4 := dk_seg dksX9_readsStatement_3 22 rfl rfl
theorem dksX9_readsStatement_5 : cX9_readsStatement.data.toList.drop 136 = dktX9_readsStatement_5 := dk_seg dksX9_readsStatement_4 24 rfl rfl
theorem dksX9_readsStatement_6 : cX9_readsStatement.data.toList.drop 158 = dktX9_readsStatement_6 := dk_seg dksX9_readsStatement_5 22 rfl rfl
theorem dksX9_readsStatement_7 : cX9_readsStatement.data.toList.drop 182 = dktX9_readsStatement_7 := dk_seg dksX9_readsStatement_6 24 rfl rfl
theorem dX9_readsStatement_0 : decode cX9_readsStatement 0 = .ok (.aload_n 0, 1) := dk_42 (dk_at dksX9_readsStatement_0 0 rfl rfl)
theorem dX9_readsStatement_1 : decode cX9_readsStatement 1 = .ok (.invokevirtual 110, 3) := dk_182 0 110 (dk_at dksX9_readsStatement_0 1 rfl rfl)
theorem dX9_readsStatement_4 : decode cX9_readsStatement 4 = .ok (.istore_n 1, 1) := dk_60 (dk_at dksX9_readsStatement_0 4 rfl rfl)
theorem dX9_readsStatement_5 : decode cX9_readsStatement 5 = .ok (.aload_n 0, 1) := dk_42 (dk_at dksX9_readsStatement_0 5 rfl rfl)
theorem dX9_readsStatement_6 : decode cX9_readsStatement 6 = .ok (.dup, 1) := dk_89 (dk_at dksX9_readsStatement_0 6 rfl rfl)
theorem dX9_readsStatement_7 : decode cX9_readsStatement 7 = .ok (.getfield 107, 3) := dk_180 0 107 (dk_at dksX9_readsStatement_0 7 rfl rfl)
theorem dX9_readsStatement_10 : decode cX9_readsStatement 10 = .ok (.iconst 1, 1) := dk_4 (dk_at dksX9_readsStatement_0 10 rfl rfl)
theorem dX9_readsStatement_11 : decode cX9_readsStatement 11 = .ok (.iadd, 1) := dk_96 (dk_at dksX9_readsStatement_0 11 rfl rfl)
theorem dX9_readsStatement_12 : decode cX9_readsStatement 12 = .ok (.putfield 107, 3) := dk_181 0 107 (dk_at dksX9_readsStatement_0 12 rfl rfl)
theorem dX9_readsStatement_15 : decode cX9_readsStatement 15 = .ok (.iload_n 1, 1) := dk_27 (dk_at dksX9_readsStatement_0 15 rfl rfl)
theorem dX9_readsStatement_16 : decode cX9_readsStatement 16 = .ok (.lookupswitch 129 #[(98, 77), (104, 52), (108, 104), (110, 124), (114, 114)], 52) := by decide +kernel
theorem dX9_readsStatement_68 : decode cX9_readsStatement 68 = .ok (.aload_n 0, 1) := dk_42 (dk_at dksX9_readsStatement_2 0 rfl rfl)
theorem dX9_readsStatement_69 : decode cX9_readsStatement 69 = .ok (.invokevirtual 117, 3) := dk_182 0 117 (dk_at dksX9_readsStatement_2 1 rfl rfl)
theorem dX9_readsStatement_72 : decode cX9_readsStatement 72 = .ok (.ifCond .eq 16, 3) := dk_153 0 16 (dk_at dksX9_readsStatement_2 4 rfl rfl)
theorem dX9_readsStatement_75 : decode cX9_readsStatement 75 = .ok (.aload_n 0, 1) := dk_42 (dk_at dksX9_readsStatement_2 7 rfl rfl)
theorem dX9_readsStatement_76 : decode cX9_readsStatement 76 = .ok (.iconst 1, 1) := dk_4 (dk_at dksX9_readsStatement_2 8 rfl rfl)
theorem dX9_readsStatement_77 : decode cX9_readsStatement 77 = .ok (.iconst 1, 1) := dk_4 (dk_at dksX9_readsStatement_2 9 rfl rfl)
theorem dX9_readsStatement_78 : decode cX9_readsStatement 78 = .ok (.invokevirtual 121, 3) := dk_182 0 121 (dk_at dksX9_readsStatement_2 10 rfl rfl)
theorem dX9_readsStatement_81 : decode cX9_readsStatement 81 = .ok (.ifCond .eq 7, 3) := dk_153 0 7 (dk_at dksX9_readsStatement_2 13 rfl rfl)
theorem dX9_readsStatement_84 : decode cX9_readsStatement 84 = .ok (.iconst 1, 1) := dk_4 (dk_at dksX9_readsStatement_2 16 rfl rfl)
theorem dX9_readsStatement_85 : decode cX9_readsStatement 85 = .ok (.goto 4, 3) := dk_167 0 4 (dk_at dksX9_readsStatement_2 17 rfl rfl)
theorem dX9_readsStatement_88 : decode cX9_readsStatement 88 = .ok (.iconst 0, 1) := dk_3 (dk_at dksX9_readsStatement_2 20 rfl rfl)
theorem dX9_readsStatement_89 : decode cX9_readsStatement 89 = .ok (.istore_n 2, 1) := dk_61 (dk_at dksX9_readsStatement_2 21 rfl rfl)
theorem dX9_readsStatement_90 : decode cX9_readsStatement 90 = .ok (.goto 67, 3) := dk_167 0 67 (dk_at dksX9_readsStatement_3 0 rfl rfl)
theorem dX9_readsStatement_93 : decode cX9_readsStatement 93 = .ok (.aload_n 0, 1) := dk_42 (dk_at dksX9_readsStatement_3 3 rfl rfl)
theorem dX9_readsStatement_94 : decode cX9_readsStatement 94 = .ok (.iconst 0, 1) := dk_3 (dk_at dksX9_readsStatement_3 4 rfl rfl)
theorem dX9_readsStatement_95 : decode cX9_readsStatement 95 = .ok (.iconst 1, 1) := dk_4 (dk_at dksX9_readsStatement_3 5 rfl rfl)
theorem dX9_readsStatement_96 : decode cX9_readsStatement 96 = .ok (.invokevirtual 121, 3) := dk_182 0 121 (dk_at dksX9_readsStatement_3 6 rfl rfl)
theorem dX9_readsStatement_99 : decode cX9_readsStatement 99 = .ok (.ifCond .eq 16, 3) := dk_153 0 16 (dk_at dksX9_readsStatement_3 9 rfl rfl)
theorem dX9_readsStatement_102 : decode cX9_readsStatement 102 = .ok (.aload_n 0, 1) := dk_42 (dk_at dksX9_readsStatement_3 12 rfl rfl)
theorem dX9_readsStatement_103 : decode cX9_readsStatement 103 = .ok (.iconst 1, 1) := dk_4 (dk_at dksX9_readsStatement_3 13 rfl rfl)
theorem dX9_readsStatement_104 : decode cX9_readsStatement 104 = .ok (.iconst 2, 1) := dk_5 (dk_at dksX9_readsStatement_3 14 rfl rfl)
theorem dX9_readsStatement_105 : decode cX9_readsStatement 105 = .ok (.invokevirtual 121, 3) := dk_182 0 121 (dk_at dksX9_readsStatement_3 15 rfl rfl)
theorem dX9_readsStatement_108 : decode cX9_readsStatement 108 = .ok (.ifCond .eq 7, 3) := dk_153 0 7 (dk_at dksX9_readsStatement_3 18 rfl rfl)
theorem dX9_readsStatement_111 : decode cX9_readsStatement 111 = .ok (.iconst 1, 1) := dk_4 (dk_at dksX9_readsStatement_3 21 rfl rfl)
theorem dX9_readsStatement_112 : decode cX9_readsStatement 112 = .ok (.goto 4, 3) := dk_167 0 4 (dk_at dksX9_readsStatement_4 0 rfl rfl)
theorem dX9_readsStatement_115 : decode cX9_readsStatement 115 = .ok (.iconst 0, 1) := dk_3 (dk_at dksX9_readsStatement_4 3 rfl rfl)
theorem dX9_readsStatement_116 : decode cX9_readsStatement 116 = .ok (.istore_n 2, 1) := dk_61 (dk_at dksX9_readsStatement_4 4 rfl rfl)
theorem dX9_readsStatement_117 : decode cX9_readsStatement 117 = .ok (.goto 40, 3) := dk_167 0 40 (dk_at dksX9_readsStatement_4 5 rfl rfl)
theorem dX9_readsStatement_120 : decode cX9_readsStatement 120 = .ok (.aload_n 0, 1) := dk_42 (dk_at dksX9_readsStatement_4 8 rfl rfl)
theorem dX9_readsStatement_121 : decode cX9_readsStatement 121 = .ok (.iconst 0, 1) := dk_3 (dk_at dksX9_readsStatement_4 9 rfl rfl)
theorem dX9_readsStatement_122 : decode cX9_readsStatement 122 = .ok (.iconst 2, 1) := dk_5 (dk_at dksX9_readsStatement_4 10 rfl rfl)
theorem dX9_readsStatement_123 : decode cX9_readsStatement 123 = .ok (.invokevirtual 121, 3) := dk_182 0 121 (dk_at dksX9_readsStatement_4 11 rfl rfl)
theorem dX9_readsStatement_126 : decode cX9_readsStatement 126 = .ok (.istore_n 2, 1) := dk_61 (dk_at dksX9_readsStatement_4 14 rfl rfl)
theorem dX9_readsStatement_127 : decode cX9_readsStatement 127 = .ok (.goto 30, 3) := dk_167 0 30 (dk_at dksX9_readsStatement_4 15 rfl rfl)
theorem dX9_readsStatement_130 : decode cX9_readsStatement 130 = .ok (.aload_n 0, 1) := dk_42 (dk_at dksX9_readsStatement_4 18 rfl rfl)
theorem dX9_readsStatement_131 : decode cX9_readsStatement 131 = .ok (.iconst 0, 1) := dk_3 (dk_at dksX9_readsStatement_4 19 rfl rfl)
theorem dX9_readsStatement_132 : decode cX9_readsStatement 132 = .ok (.iconst 1, 1) := dk_4 (dk_at dksX9_readsStatement_4 20 rfl rfl)
theorem dX9_readsStatement_133 : decode cX9_readsStatement 133 = .ok (.invokevirtual 121, 3) := dk_182 0 121 (dk_at dksX9_readsStatement_4 21 rfl rfl)
theorem dX9_readsStatement_136 : decode cX9_readsStatement 136 = .ok (.istore_n 2, 1) := dk_61 (dk_at dksX9_readsStatement_5 0 rfl rfl)
theorem dX9_readsStatement_137 : decode cX9_readsStatement 137 = .ok (.goto 20, 3) := dk_167 0 20 (dk_at dksX9_readsStatement_5 1 rfl rfl)
theorem dX9_readsStatement_140 : decode cX9_readsStatement 140 = .ok (.iconst 1, 1) := dk_4 (dk_at dksX9_readsStatement_5 4 rfl rfl)
theorem dX9_readsStatement_141 : decode cX9_readsStatement 141 = .ok (.istore_n 2, 1) := dk_61 (dk_at dksX9_readsStatement_5 5 rfl rfl)
theorem dX9_readsStatement_142 : decode cX9_readsStatement 142 = .ok (.goto 15, 3) := dk_167 0 15 (dk_at dksX9_readsStatement_5 6 rfl rfl)
theorem dX9_readsStatement_145 : decode cX9_readsStatement 145 = .ok (.aload_n 0, 1) := dk_42 (dk_at dksX9_readsStatement_5 9 rfl rfl)
theorem dX9_readsStatement_146 : decode cX9_readsStatement 146 = .ok (.dup, 1) := dk_89 (dk_at dksX9_readsStatement_5 10 rfl rfl)
theorem dX9_readsStatement_147 : decode cX9_readsStatement 147 = .ok (.getfield 107, 3) := dk_180 0 107 (dk_at dksX9_readsStatement_5 11 rfl rfl)
theorem dX9_readsStatement_150 : decode cX9_readsStatement 150 = .ok (.iconst 1, 1) := dk_4 (dk_at dksX9_readsStatement_5 14 rfl rfl)
theorem dX9_readsStatement_151 : decode cX9_readsStatement 151 = .ok (.isub, 1) := dk_100 (dk_at dksX9_readsStatement_5 15 rfl rfl)
theorem dX9_readsStatement_152 : decode cX9_readsStatement 152 = .ok (.putfield 107, 3) := dk_181 0 107 (dk_at dksX9_readsStatement_5 16 rfl rfl)
theorem dX9_readsStatement_155 : decode cX9_readsStatement 155 = .ok (.iconst 0, 1) := dk_3 (dk_at dksX9_readsStatement_5 19 rfl rfl)
theorem dX9_readsStatement_156 : decode cX9_readsStatement 156 = .ok (.ireturn, 1) := dk_172 (dk_at dksX9_readsStatement_5 20 rfl rfl)
theorem dX9_readsStatement_157 : decode cX9_readsStatement 157 = .ok (.iload_n 2, 1) := dk_28 (dk_at dksX9_readsStatement_5 21 rfl rfl)
theorem dX9_readsStatement_158 : decode cX9_readsStatement 158 = .ok (.ifCond .eq 12, 3) := dk_153 0 12 (dk_at dksX9_readsStatement_6 0 rfl rfl)
theorem dX9_readsStatement_161 : decode cX9_readsStatement 161 = .ok (.aload_n 0, 1) := dk_42 (dk_at dksX9_readsStatement_6 3 rfl rfl)
theorem dX9_readsStatement_162 : decode cX9_readsStatement 162 = .ok (.invokevirtual 110, 3) := dk_182 0 110 (dk_at dksX9_readsStatement_6 4 rfl rfl)
theorem dX9_readsStatement_165 : decode cX9_readsStatement 165 = .ok (.bipush 59, 2) := dk_16 59 (dk_at dksX9_readsStatement_6 7 rfl rfl)
theorem dX9_readsStatement_167 : decode cX9_readsStatement 167 = .ok (.if_icmp .eq 5, 3) := dk_159 0 5 (dk_at dksX9_readsStatement_6 9 rfl rfl)
theorem dX9_readsStatement_170 : decode cX9_readsStatement 170 = .ok (.iconst 0, 1) := dk_3 (dk_at dksX9_readsStatement_6 12 rfl rfl)
theorem dX9_readsStatement_171 : decode cX9_readsStatement 171 = .ok (.ireturn, 1) := dk_172 (dk_at dksX9_readsStatement_6 13 rfl rfl)
theorem dX9_readsStatement_172 : decode cX9_readsStatement 172 = .ok (.aload_n 0, 1) := dk_42 (dk_at dksX9_readsStatement_6 14 rfl rfl)
theorem dX9_readsStatement_173 : decode cX9_readsStatement 173 = .ok (.dup, 1) := dk_89 (dk_at dksX9_readsStatement_6 15 rfl rfl)
theorem dX9_readsStatement_174 : decode cX9_readsStatement 174 = .ok (.getfield 107, 3) := dk_180 0 107 (dk_at dksX9_readsStatement_6 16 rfl rfl)
theorem dX9_readsStatement_177 : decode cX9_readsStatement 177 = .ok (.iconst 1, 1) := dk_4 (dk_at dksX9_readsStatement_6 19 rfl rfl)
theorem dX9_readsStatement_178 : decode cX9_readsStatement 178 = .ok (.iadd, 1) := dk_96 (dk_at dksX9_readsStatement_6 20 rfl rfl)
theorem dX9_readsStatement_179 : decode cX9_readsStatement 179 = .ok (.putfield 107, 3) := dk_181 0 107 (dk_at dksX9_readsStatement_6 21 rfl rfl)
theorem dX9_readsStatement_182 : decode cX9_readsStatement 182 = .ok (.iconst 1, 1) := dk_4 (dk_at dksX9_readsStatement_7 0 rfl rfl)
theorem dX9_readsStatement_183 : decode cX9_readsStatement 183 = .ok (.ireturn, 1) := dk_172 (dk_at dksX9_readsStatement_7 1 rfl rfl)
abbrev cX9_here : ByteArray := prog_21_method_25_code
def yX9_here : MethodName := ⟨RX9, "here", "()I"⟩
def dkwX9_here_1 : List UInt8 := [172]
abbrev dktX9_here_1 : List UInt8 := dkwX9_here_1 ++ []
def dkwX9_here_0 : List UInt8 := [42, 180, 0, 107, 42, 180, 0, 104, 162, 0, 15, 42, 180, 0, 33, 42, 180, 0, 107, 46, 167, 0, 4, 2]
abbrev dktX9_here_0 : List UInt8 := dkwX9_here_0 ++ dktX9_here_1
theorem dksX9_here_0 : cX9_here.data.toList.drop 0 = dktX9_here_0 := by decide +kernel
theorem dksX9_here_1 : cX9_here.data.toList.drop 24 = dktX9_here_1 := dk_seg dksX9_here_0 24 rfl rfl
theorem dX9_here_0 : decode cX9_here 0 = .ok (.aload_n 0, 1) := dk_42 (dk_at dksX9_here_0 0 rfl rfl)
theorem dX9_here_1 : decode cX9_here 1 = .ok (.getfield 107, 3) := dk_180 0 107 (dk_at dksX9_here_0 1 rfl rfl)
theorem dX9_here_4 : decode cX9_here 4 = .ok (.aload_n 0, 1) := dk_42 (dk_at dksX9_here_0 4 rfl rfl)
theorem dX9_here_5 : decode cX9_here 5 = .ok (.getfield 104, 3) := dk_180 0 104 (dk_at dksX9_here_0 5 rfl rfl)
theorem dX9_here_8 : decode cX9_here 8 = .ok (.if_icmp .ge 15, 3) := dk_162 0 15 (dk_at dksX9_here_0 8 rfl rfl)
theorem dX9_here_11 : decode cX9_here 11 = .ok (.aload_n 0, 1) := dk_42 (dk_at dksX9_here_0 11 rfl rfl)
theorem dX9_here_12 : decode cX9_here 12 = .ok (.getfield 33, 3) := dk_180 0 33 (dk_at dksX9_here_0 12 rfl rfl)
theorem dX9_here_15 : decode cX9_here 15 = .ok (.aload_n 0, 1) := dk_42 (dk_at dksX9_here_0 15 rfl rfl)
theorem dX9_here_16 : decode cX9_here 16 = .ok (.getfield 107, 3) := dk_180 0 107 (dk_at dksX9_here_0 16 rfl rfl)
theorem dX9_here_19 : decode cX9_here 19 = .ok (.iaload, 1) := dk_46 (dk_at dksX9_here_0 19 rfl rfl)
theorem dX9_here_20 : decode cX9_here 20 = .ok (.goto 4, 3) := dk_167 0 4 (dk_at dksX9_here_0 20 rfl rfl)
theorem dX9_here_23 : decode cX9_here 23 = .ok (.iconst (-1), 1) := dk_2 (dk_at dksX9_here_0 23 rfl rfl)
theorem dX9_here_24 : decode cX9_here 24 = .ok (.ireturn, 1) := dk_172 (dk_at dksX9_here_1 0 rfl rfl)
abbrev cX9_readsKind : ByteArray := prog_21_method_28_code
def yX9_readsKind : MethodName := ⟨RX9, "readsKind", "()Z"⟩
def dkwX9_readsKind_2 : List UInt8 := [167, 0, 4, 3, 172]
abbrev dktX9_readsKind_2 : List UInt8 := dkwX9_readsKind_2 ++ []
def dkwX9_readsKind_1 : List UInt8 := [156, 0, 7, 3, 167, 0, 4, 4, 96, 181, 0, 107, 42, 180, 0, 42, 3, 46, 155, 0, 7, 4]
abbrev dktX9_readsKind_1 : List UInt8 := dkwX9_readsKind_1 ++ dktX9_readsKind_2
def dkwX9_readsKind_0 : List UInt8 := [42, 180, 0, 42, 3, 42, 182, 0, 110, 184, 0, 114, 79, 42, 89, 180, 0, 107, 42, 180, 0, 42, 3, 46]
abbrev dktX9_readsKind_0 : List UInt8 := dkwX9_readsKind_0 ++ dktX9_readsKind_1
theorem dksX9_readsKind_0 : cX9_readsKind.data.toList.drop 0 = dktX9_readsKind_0 := by decide +kernel
theorem dksX9_readsKind_1 : cX9_readsKind.data.toList.drop 24 = dktX9_readsKind_1 := dk_seg dksX9_readsKind_0 24 rfl rfl
theorem dksX9_readsKind_2 : cX9_readsKind.data.toList.drop 46 = dktX9_readsKind_2 := dk_seg dksX9_readsKind_1 22 rfl rfl
theorem dX9_readsKind_0 : decode cX9_readsKind 0 = .ok (.aload_n 0, 1) := dk_42 (dk_at dksX9_readsKind_0 0 rfl rfl)
theorem dX9_readsKind_1 : decode cX9_readsKind 1 = .ok (.getfield 42, 3) := dk_180 0 42 (dk_at dksX9_readsKind_0 1 rfl rfl)
theorem dX9_readsKind_4 : decode cX9_readsKind 4 = .ok (.iconst 0, 1) := dk_3 (dk_at dksX9_readsKind_0 4 rfl rfl)
theorem dX9_readsKind_5 : decode cX9_readsKind 5 = .ok (.aload_n 0, 1) := dk_42 (dk_at dksX9_readsKind_0 5 rfl rfl)
theorem dX9_readsKind_6 : decode cX9_readsKind 6 = .ok (.invokevirtual 110, 3) := dk_182 0 110 (dk_at dksX9_readsKind_0 6 rfl rfl)
theorem dX9_readsKind_9 : decode cX9_readsKind 9 = .ok (.invokestatic 114, 3) := dk_184 0 114 (dk_at dksX9_readsKind_0 9 rfl rfl)
theorem dX9_readsKind_12 : decode cX9_readsKind 12 = .ok (.iastore, 1) := dk_79 (dk_at dksX9_readsKind_0 12 rfl rfl)
theorem dX9_readsKind_13 : decode cX9_readsKind 13 = .ok (.aload_n 0, 1) := dk_42 (dk_at dksX9_readsKind_0 13 rfl rfl)
theorem dX9_readsKind_14 : decode cX9_readsKind 14 = .ok (.dup, 1) := dk_89 (dk_at dksX9_readsKind_0 14 rfl rfl)
theorem dX9_readsKind_15 : decode cX9_readsKind 15 = .ok (.getfield 107, 3) := dk_180 0 107 (dk_at dksX9_readsKind_0 15 rfl rfl)
theorem dX9_readsKind_18 : decode cX9_readsKind 18 = .ok (.aload_n 0, 1) := dk_42 (dk_at dksX9_readsKind_0 18 rfl rfl)
theorem dX9_readsKind_19 : decode cX9_readsKind 19 = .ok (.getfield 42, 3) := dk_180 0 42 (dk_at dksX9_readsKind_0 19 rfl rfl)
theorem dX9_readsKind_22 : decode cX9_readsKind 22 = .ok (.iconst 0, 1) := dk_3 (dk_at dksX9_readsKind_0 22 rfl rfl)
theorem dX9_readsKind_23 : decode cX9_readsKind 23 = .ok (.iaload, 1) := dk_46 (dk_at dksX9_readsKind_0 23 rfl rfl)
theorem dX9_readsKind_24 : decode cX9_readsKind 24 = .ok (.ifCond .ge 7, 3) := dk_156 0 7 (dk_at dksX9_readsKind_1 0 rfl rfl)
theorem dX9_readsKind_27 : decode cX9_readsKind 27 = .ok (.iconst 0, 1) := dk_3 (dk_at dksX9_readsKind_1 3 rfl rfl)
theorem dX9_readsKind_28 : decode cX9_readsKind 28 = .ok (.goto 4, 3) := dk_167 0 4 (dk_at dksX9_readsKind_1 4 rfl rfl)
theorem dX9_readsKind_31 : decode cX9_readsKind 31 = .ok (.iconst 1, 1) := dk_4 (dk_at dksX9_readsKind_1 7 rfl rfl)
theorem dX9_readsKind_32 : decode cX9_readsKind 32 = .ok (.iadd, 1) := dk_96 (dk_at dksX9_readsKind_1 8 rfl rfl)
theorem dX9_readsKind_33 : decode cX9_readsKind 33 = .ok (.putfield 107, 3) := dk_181 0 107 (dk_at dksX9_readsKind_1 9 rfl rfl)
theorem dX9_readsKind_36 : decode cX9_readsKind 36 = .ok (.aload_n 0, 1) := dk_42 (dk_at dksX9_readsKind_1 12 rfl rfl)
theorem dX9_readsKind_37 : decode cX9_readsKind 37 = .ok (.getfield 42, 3) := dk_180 0 42 (dk_at dksX9_readsKind_1 13 rfl rfl)
theorem dX9_readsKind_40 : decode cX9_readsKind 40 = .ok (.iconst 0, 1) := dk_3 (dk_at dksX9_readsKind_1 16 rfl rfl)
theorem dX9_readsKind_41 : decode cX9_readsKind 41 = .ok (.iaload, 1) := dk_46 (dk_at dksX9_readsKind_1 17 rfl rfl)
theorem dX9_readsKind_42 : decode cX9_readsKind 42 = .ok (.ifCond .lt 7, 3) := dk_155 0 7 (dk_at dksX9_readsKind_1 18 rfl rfl)
theorem dX9_readsKind_45 : decode cX9_readsKind 45 = .ok (.iconst 1, 1) := dk_4 (dk_at dksX9_readsKind_1 21 rfl rfl)
theorem dX9_readsKind_46 : decode cX9_readsKind 46 = .ok (.goto 4, 3) := dk_167 0 4 (dk_at dksX9_readsKind_2 0 rfl rfl)
theorem dX9_readsKind_49 : decode cX9_readsKind 49 = .ok (.iconst 0, 1) := dk_3 (dk_at dksX9_readsKind_2 3 rfl rfl)
theorem dX9_readsKind_50 : decode cX9_readsKind 50 = .ok (.ireturn, 1) := dk_172 (dk_at dksX9_readsKind_2 4 rfl rfl)
abbrev cX9_kindBy : ByteArray := prog_21_method_27_code
def yX9_kindBy : MethodName := ⟨RX9, "kindBy", "(I)I"⟩
def dkwX9_kindBy_2 : List UInt8 := [3, 172, 4, 172, 5, 172, 6, 172, 7, 172, 8, 172, 16, 247, 172]
abbrev dktX9_kindBy_2 : List UInt8 := dkwX9_kindBy_2 ++ []
def dkwX9_kindBy_1 : List UInt8 := [170, 0, 0, 0, 0, 0, 103, 0, 0, 0, 101, 0, 0, 0, 119, 0, 0, 0, 93, 0, 0, 0, 103, 0, 0, 0, 103, 0, 0, 0, 103, 0, 0, 0, 103, 0, 0, 0, 103, 0, 0, 0, 101, 0, 0, 0, 97, 0, 0, 0, 103, 0, 0, 0, 91, 0, 0, 0, 103, 0, 0, 0, 99, 0, 0, 0, 103, 0, 0, 0, 103, 0, 0, 0, 103, 0, 0, 0, 103, 0, 0, 0, 103, 0, 0, 0, 103, 0, 0, 0, 95]
abbrev dktX9_kindBy_1 : List UInt8 := dkwX9_kindBy_1 ++ dktX9_kindBy_2
def dkwX9_kindBy_0 : List UInt8 := [26]
abbrev dktX9_kindBy_0 : List UInt8 := dkwX9_kindBy_0 ++ dktX9_kindBy_1
theorem dksX9_kindBy_0 : cX9_kindBy.data.toList.drop 0 = dktX9_kindBy_0 := by decide +kernel
theorem dksX9_kindBy_1 : cX9_kindBy.data.toList.drop 1 = dktX9_kindBy_1 := dk_seg dksX9_kindBy_0 1 rfl rfl
theorem dksX9_kindBy_2 : cX9_kindBy.data.toList.drop 92 = dktX9_kindBy_2 := dk_seg dksX9_kindBy_1 91 rfl rfl
theorem dX9_kindBy_0 : decode cX9_kindBy 0 = .ok (.iload_n 0, 1) := dk_26 (dk_at dksX9_kindBy_0 0 rfl rfl)
theorem dX9_kindBy_1 : decode cX9_kindBy 1 = .ok (.tableswitch 103 101 119 #[93, 103, 103, 103, 103, 103, 101, 97, 103, 91, 103, 99, 103, 103, 103, 103, 103, 103, 95], 91) := by decide +kernel
theorem dX9_kindBy_92 : decode cX9_kindBy 92 = .ok (.iconst 0, 1) := dk_3 (dk_at dksX9_kindBy_2 0 rfl rfl)
theorem dX9_kindBy_93 : decode cX9_kindBy 93 = .ok (.ireturn, 1) := dk_172 (dk_at dksX9_kindBy_2 1 rfl rfl)
theorem dX9_kindBy_94 : decode cX9_kindBy 94 = .ok (.iconst 1, 1) := dk_4 (dk_at dksX9_kindBy_2 2 rfl rfl)
theorem dX9_kindBy_95 : decode cX9_kindBy 95 = .ok (.ireturn, 1) := dk_172 (dk_at dksX9_kindBy_2 3 rfl rfl)
theorem dX9_kindBy_96 : decode cX9_kindBy 96 = .ok (.iconst 2, 1) := dk_5 (dk_at dksX9_kindBy_2 4 rfl rfl)
theorem dX9_kindBy_97 : decode cX9_kindBy 97 = .ok (.ireturn, 1) := dk_172 (dk_at dksX9_kindBy_2 5 rfl rfl)
theorem dX9_kindBy_98 : decode cX9_kindBy 98 = .ok (.iconst 3, 1) := dk_6 (dk_at dksX9_kindBy_2 6 rfl rfl)
theorem dX9_kindBy_99 : decode cX9_kindBy 99 = .ok (.ireturn, 1) := dk_172 (dk_at dksX9_kindBy_2 7 rfl rfl)
theorem dX9_kindBy_100 : decode cX9_kindBy 100 = .ok (.iconst 4, 1) := dk_7 (dk_at dksX9_kindBy_2 8 rfl rfl)
theorem dX9_kindBy_101 : decode cX9_kindBy 101 = .ok (.ireturn, 1) := dk_172 (dk_at dksX9_kindBy_2 9 rfl rfl)
theorem dX9_kindBy_102 : decode cX9_kindBy 102 = .ok (.iconst 5, 1) := dk_8 (dk_at dksX9_kindBy_2 10 rfl rfl)
theorem dX9_kindBy_103 : decode cX9_kindBy 103 = .ok (.ireturn, 1) := dk_172 (dk_at dksX9_kindBy_2 11 rfl rfl)
theorem dX9_kindBy_104 : decode cX9_kindBy 104 = .ok (.bipush (-9), 2) := dk_16 247 (dk_at dksX9_kindBy_2 12 rfl rfl)
theorem dX9_kindBy_106 : decode cX9_kindBy 106 = .ok (.ireturn, 1) := dk_172 (dk_at dksX9_kindBy_2 14 rfl rfl)
abbrev cX9_readsNumber : ByteArray := prog_21_method_26_code
def yX9_readsNumber : MethodName := ⟨RX9, "readsNumber", "(II)Z"⟩
def dkwX9_readsNumber_3 : List UInt8 := [4, 172]
abbrev dktX9_readsNumber_3 : List UInt8 := dkwX9_readsNumber_3 ++ []
def dkwX9_readsNumber_2 : List UInt8 := [182, 0, 110, 96, 16, 48, 100, 79, 42, 89, 180, 0, 107, 4, 96, 181, 0, 107, 132, 3, 1, 167, 255, 199]
abbrev dktX9_readsNumber_2 : List UInt8 := dkwX9_readsNumber_2 ++ dktX9_readsNumber_3
def dkwX9_readsNumber_1 : List UInt8 := [184, 0, 58, 154, 0, 5, 3, 172, 42, 180, 0, 42, 27, 16, 10, 42, 180, 0, 42, 27, 46, 104, 42]
abbrev dktX9_readsNumber_1 : List UInt8 := dkwX9_readsNumber_1 ++ dktX9_readsNumber_2
def dkwX9_readsNumber_0 : List UInt8 := [42, 180, 0, 42, 27, 3, 79, 3, 62, 29, 28, 162, 0, 58, 42, 182, 0, 110, 16, 48, 16, 57]
abbrev dktX9_readsNumber_0 : List UInt8 := dkwX9_readsNumber_0 ++ dktX9_readsNumber_1
theorem dksX9_readsNumber_0 : cX9_readsNumber.data.toList.drop 0 = dktX9_readsNumber_0 := by decide +kernel
theorem dksX9_readsNumber_1 : cX9_readsNumber.data.toList.drop 22 = dktX9_readsNumber_1 := dk_seg dksX9_readsNumber_0 22 rfl rfl
theorem dksX9_readsNumber_2 : cX9_readsNumber.data.toList.drop 45 = dktX9_readsNumber_2 := dk_seg dksX9_readsNumber_1 23 rfl rfl
theorem dksX9_readsNumber_3 : cX9_readsNumber.data.toList.drop 69 = dktX9_readsNumber_3 := dk_seg dksX9_readsNumber_2 24 rfl rfl
theorem dX9_readsNumber_0 : decode cX9_readsNumber 0 = .ok (.aload_n 0, 1) := dk_42 (dk_at dksX9_readsNumber_0 0 rfl rfl)
theorem dX9_readsNumber_1 : decode cX9_readsNumber 1 = .ok (.getfield 42, 3) := dk_180 0 42 (dk_at dksX9_readsNumber_0 1 rfl rfl)
theorem dX9_readsNumber_4 : decode cX9_readsNumber 4 = .ok (.iload_n 1, 1) := dk_27 (dk_at dksX9_readsNumber_0 4 rfl rfl)
theorem dX9_readsNumber_5 : decode cX9_readsNumber 5 = .ok (.iconst 0, 1) := dk_3 (dk_at dksX9_readsNumber_0 5 rfl rfl)
theorem dX9_readsNumber_6 : decode cX9_readsNumber 6 = .ok (.iastore, 1) := dk_79 (dk_at dksX9_readsNumber_0 6 rfl rfl)
theorem dX9_readsNumber_7 : decode cX9_readsNumber 7 = .ok (.iconst 0, 1) := dk_3 (dk_at dksX9_readsNumber_0 7 rfl rfl)
theorem dX9_readsNumber_8 : decode cX9_readsNumber 8 = .ok (.istore_n 3, 1) := dk_62 (dk_at dksX9_readsNumber_0 8 rfl rfl)
theorem dX9_readsNumber_9 : decode cX9_readsNumber 9 = .ok (.iload_n 3, 1) := dk_29 (dk_at dksX9_readsNumber_0 9 rfl rfl)
theorem dX9_readsNumber_10 : decode cX9_readsNumber 10 = .ok (.iload_n 2, 1) := dk_28 (dk_at dksX9_readsNumber_0 10 rfl rfl)
theorem dX9_readsNumber_11 : decode cX9_readsNumber 11 = .ok (.if_icmp .ge 58, 3) := dk_162 0 58 (dk_at dksX9_readsNumber_0 11 rfl rfl)
theorem dX9_readsNumber_14 : decode cX9_readsNumber 14 = .ok (.aload_n 0, 1) := dk_42 (dk_at dksX9_readsNumber_0 14 rfl rfl)
theorem dX9_readsNumber_15 : decode cX9_readsNumber 15 = .ok (.invokevirtual 110, 3) := dk_182 0 110 (dk_at dksX9_readsNumber_0 15 rfl rfl)
theorem dX9_readsNumber_18 : decode cX9_readsNumber 18 = .ok (.bipush 48, 2) := dk_16 48 (dk_at dksX9_readsNumber_0 18 rfl rfl)
theorem dX9_readsNumber_20 : decode cX9_readsNumber 20 = .ok (.bipush 57, 2) := dk_16 57 (dk_at dksX9_readsNumber_0 20 rfl rfl)
theorem dX9_readsNumber_22 : decode cX9_readsNumber 22 = .ok (.invokestatic 58, 3) := dk_184 0 58 (dk_at dksX9_readsNumber_1 0 rfl rfl)
theorem dX9_readsNumber_25 : decode cX9_readsNumber 25 = .ok (.ifCond .ne 5, 3) := dk_154 0 5 (dk_at dksX9_readsNumber_1 3 rfl rfl)
theorem dX9_readsNumber_28 : decode cX9_readsNumber 28 = .ok (.iconst 0, 1) := dk_3 (dk_at dksX9_readsNumber_1 6 rfl rfl)
theorem dX9_readsNumber_29 : decode cX9_readsNumber 29 = .ok (.ireturn, 1) := dk_172 (dk_at dksX9_readsNumber_1 7 rfl rfl)
theorem dX9_readsNumber_30 : decode cX9_readsNumber 30 = .ok (.aload_n 0, 1) := dk_42 (dk_at dksX9_readsNumber_1 8 rfl rfl)
theorem dX9_readsNumber_31 : decode cX9_readsNumber 31 = .ok (.getfield 42, 3) := dk_180 0 42 (dk_at dksX9_readsNumber_1 9 rfl rfl)
theorem dX9_readsNumber_34 : decode cX9_readsNumber 34 = .ok (.iload_n 1, 1) := dk_27 (dk_at dksX9_readsNumber_1 12 rfl rfl)
theorem dX9_readsNumber_35 : decode cX9_readsNumber 35 = .ok (.bipush 10, 2) := dk_16 10 (dk_at dksX9_readsNumber_1 13 rfl rfl)
theorem dX9_readsNumber_37 : decode cX9_readsNumber 37 = .ok (.aload_n 0, 1) := dk_42 (dk_at dksX9_readsNumber_1 15 rfl rfl)
theorem dX9_readsNumber_38 : decode cX9_readsNumber 38 = .ok (.getfield 42, 3) := dk_180 0 42 (dk_at dksX9_readsNumber_1 16 rfl rfl)
theorem dX9_readsNumber_41 : decode cX9_readsNumber 41 = .ok (.iload_n 1, 1) := dk_27 (dk_at dksX9_readsNumber_1 19 rfl rfl)
theorem dX9_readsNumber_42 : decode cX9_readsNumber 42 = .ok (.iaload, 1) := dk_46 (dk_at dksX9_readsNumber_1 20 rfl rfl)
theorem dX9_readsNumber_43 : decode cX9_readsNumber 43 = .ok (.imul, 1) := dk_104 (dk_at dksX9_readsNumber_1 21 rfl rfl)
theorem dX9_readsNumber_44 : decode cX9_readsNumber 44 = .ok (.aload_n 0, 1) := dk_42 (dk_at dksX9_readsNumber_1 22 rfl rfl)
theorem dX9_readsNumber_45 : decode cX9_readsNumber 45 = .ok (.invokevirtual 110, 3) := dk_182 0 110 (dk_at dksX9_readsNumber_2 0 rfl rfl)
theorem dX9_readsNumber_48 : decode cX9_readsNumber 48 = .ok (.iadd, 1) := dk_96 (dk_at dksX9_readsNumber_2 3 rfl rfl)
theorem dX9_readsNumber_49 : decode cX9_readsNumber 49 = .ok (.bipush 48, 2) := dk_16 48 (dk_at dksX9_readsNumber_2 4 rfl rfl)
theorem dX9_readsNumber_51 : decode cX9_readsNumber 51 = .ok (.isub, 1) := dk_100 (dk_at dksX9_readsNumber_2 6 rfl rfl)
theorem dX9_readsNumber_52 : decode cX9_readsNumber 52 = .ok (.iastore, 1) := dk_79 (dk_at dksX9_readsNumber_2 7 rfl rfl)
theorem dX9_readsNumber_53 : decode cX9_readsNumber 53 = .ok (.aload_n 0, 1) := dk_42 (dk_at dksX9_readsNumber_2 8 rfl rfl)
theorem dX9_readsNumber_54 : decode cX9_readsNumber 54 = .ok (.dup, 1) := dk_89 (dk_at dksX9_readsNumber_2 9 rfl rfl)
theorem dX9_readsNumber_55 : decode cX9_readsNumber 55 = .ok (.getfield 107, 3) := dk_180 0 107 (dk_at dksX9_readsNumber_2 10 rfl rfl)
theorem dX9_readsNumber_58 : decode cX9_readsNumber 58 = .ok (.iconst 1, 1) := dk_4 (dk_at dksX9_readsNumber_2 13 rfl rfl)
theorem dX9_readsNumber_59 : decode cX9_readsNumber 59 = .ok (.iadd, 1) := dk_96 (dk_at dksX9_readsNumber_2 14 rfl rfl)
theorem dX9_readsNumber_60 : decode cX9_readsNumber 60 = .ok (.putfield 107, 3) := dk_181 0 107 (dk_at dksX9_readsNumber_2 15 rfl rfl)
theorem dX9_readsNumber_63 : decode cX9_readsNumber 63 = .ok (.iinc 3 1, 3) := dk_132 3 1 (dk_at dksX9_readsNumber_2 18 rfl rfl)
theorem dX9_readsNumber_66 : decode cX9_readsNumber 66 = .ok (.goto (-57), 3) := dk_167 255 199 (dk_at dksX9_readsNumber_2 21 rfl rfl)
theorem dX9_readsNumber_69 : decode cX9_readsNumber 69 = .ok (.iconst 1, 1) := dk_4 (dk_at dksX9_readsNumber_3 0 rfl rfl)
theorem dX9_readsNumber_70 : decode cX9_readsNumber 70 = .ok (.ireturn, 1) := dk_172 (dk_at dksX9_readsNumber_3 1 rfl rfl)
abbrev cX9_isIn : ByteArray := prog_21_method_2_code
def yX9_isIn : MethodName := ⟨RX9, "isIn", "(III)Z"⟩
def dkwX9_isIn_0 : List UInt8 := [26, 27, 161, 0, 12, 26, 28, 163, 0, 7, 4, 167, 0, 4, 3, 172]
abbrev dktX9_isIn_0 : List UInt8 := dkwX9_isIn_0 ++ []
theorem dksX9_isIn_0 : cX9_isIn.data.toList.drop 0 = dktX9_isIn_0 := by decide +kernel
theorem dX9_isIn_0 : decode cX9_isIn 0 = .ok (.iload_n 0, 1) := dk_26 (dk_at dksX9_isIn_0 0 rfl rfl)
theorem dX9_isIn_1 : decode cX9_isIn 1 = .ok (.iload_n 1, 1) := dk_27 (dk_at dksX9_isIn_0 1 rfl rfl)
theorem dX9_isIn_2 : decode cX9_isIn 2 = .ok (.if_icmp .lt 12, 3) := dk_161 0 12 (dk_at dksX9_isIn_0 2 rfl rfl)
theorem dX9_isIn_5 : decode cX9_isIn 5 = .ok (.iload_n 0, 1) := dk_26 (dk_at dksX9_isIn_0 5 rfl rfl)
theorem dX9_isIn_6 : decode cX9_isIn 6 = .ok (.iload_n 2, 1) := dk_28 (dk_at dksX9_isIn_0 6 rfl rfl)
theorem dX9_isIn_7 : decode cX9_isIn 7 = .ok (.if_icmp .gt 7, 3) := dk_163 0 7 (dk_at dksX9_isIn_0 7 rfl rfl)
theorem dX9_isIn_10 : decode cX9_isIn 10 = .ok (.iconst 1, 1) := dk_4 (dk_at dksX9_isIn_0 10 rfl rfl)
theorem dX9_isIn_11 : decode cX9_isIn 11 = .ok (.goto 4, 3) := dk_167 0 4 (dk_at dksX9_isIn_0 11 rfl rfl)
theorem dX9_isIn_14 : decode cX9_isIn 14 = .ok (.iconst 0, 1) := dk_3 (dk_at dksX9_isIn_0 14 rfl rfl)
theorem dX9_isIn_15 : decode cX9_isIn 15 = .ok (.ireturn, 1) := dk_172 (dk_at dksX9_isIn_0 15 rfl rfl)
abbrev cX9_lays : ByteArray := prog_21_method_33_code
def yX9_lays : MethodName := ⟨RX9, "lays", "()V"⟩
def dkwX9_lays_2 : List UInt8 := [42, 180, 0, 18, 27, 46, 79, 132, 1, 1, 167, 255, 224, 177]
abbrev dktX9_lays_2 : List UInt8 := dkwX9_lays_2 ++ []
def dkwX9_lays_1 : List UInt8 := [3, 60, 27, 8, 162, 0, 33, 42, 180, 0, 27, 27, 42, 180, 0, 14, 27, 46, 79, 42, 180, 0, 30, 27]
abbrev dktX9_lays_1 : List UInt8 := dkwX9_lays_1 ++ dktX9_lays_2
def dkwX9_lays_0 : List UInt8 := [42, 42, 180, 0, 10, 181, 0, 147, 42, 42, 180, 0, 124, 181, 0, 150, 42, 42, 180, 0, 62, 181, 0, 153]
abbrev dktX9_lays_0 : List UInt8 := dkwX9_lays_0 ++ dktX9_lays_1
theorem dksX9_lays_0 : cX9_lays.data.toList.drop 0 = dktX9_lays_0 := by decide +kernel
theorem dksX9_lays_1 : cX9_lays.data.toList.drop 24 = dktX9_lays_1 := dk_seg dksX9_lays_0 24 rfl rfl
theorem dksX9_lays_2 : cX9_lays.data.toList.drop 48 = dktX9_lays_2 := dk_seg dksX9_lays_1 24 rfl rfl
theorem dX9_lays_0 : decode cX9_lays 0 = .ok (.aload_n 0, 1) := dk_42 (dk_at dksX9_lays_0 0 rfl rfl)
theorem dX9_lays_1 : decode cX9_lays 1 = .ok (.aload_n 0, 1) := dk_42 (dk_at dksX9_lays_0 1 rfl rfl)
theorem dX9_lays_2 : decode cX9_lays 2 = .ok (.getfield 10, 3) := dk_180 0 10 (dk_at dksX9_lays_0 2 rfl rfl)
theorem dX9_lays_5 : decode cX9_lays 5 = .ok (.putfield 147, 3) := dk_181 0 147 (dk_at dksX9_lays_0 5 rfl rfl)
theorem dX9_lays_8 : decode cX9_lays 8 = .ok (.aload_n 0, 1) := dk_42 (dk_at dksX9_lays_0 8 rfl rfl)
theorem dX9_lays_9 : decode cX9_lays 9 = .ok (.aload_n 0, 1) := dk_42 (dk_at dksX9_lays_0 9 rfl rfl)
theorem dX9_lays_10 : decode cX9_lays 10 = .ok (.getfield 124, 3) := dk_180 0 124 (dk_at dksX9_lays_0 10 rfl rfl)
theorem dX9_lays_13 : decode cX9_lays 13 = .ok (.putfield 150, 3) := dk_181 0 150 (dk_at dksX9_lays_0 13 rfl rfl)
theorem dX9_lays_16 : decode cX9_lays 16 = .ok (.aload_n 0, 1) := dk_42 (dk_at dksX9_lays_0 16 rfl rfl)
theorem dX9_lays_17 : decode cX9_lays 17 = .ok (.aload_n 0, 1) := dk_42 (dk_at dksX9_lays_0 17 rfl rfl)
theorem dX9_lays_18 : decode cX9_lays 18 = .ok (.getfield 62, 3) := dk_180 0 62 (dk_at dksX9_lays_0 18 rfl rfl)
theorem dX9_lays_21 : decode cX9_lays 21 = .ok (.putfield 153, 3) := dk_181 0 153 (dk_at dksX9_lays_0 21 rfl rfl)
theorem dX9_lays_24 : decode cX9_lays 24 = .ok (.iconst 0, 1) := dk_3 (dk_at dksX9_lays_1 0 rfl rfl)
theorem dX9_lays_25 : decode cX9_lays 25 = .ok (.istore_n 1, 1) := dk_60 (dk_at dksX9_lays_1 1 rfl rfl)
theorem dX9_lays_26 : decode cX9_lays 26 = .ok (.iload_n 1, 1) := dk_27 (dk_at dksX9_lays_1 2 rfl rfl)
theorem dX9_lays_27 : decode cX9_lays 27 = .ok (.iconst 5, 1) := dk_8 (dk_at dksX9_lays_1 3 rfl rfl)
theorem dX9_lays_28 : decode cX9_lays 28 = .ok (.if_icmp .ge 33, 3) := dk_162 0 33 (dk_at dksX9_lays_1 4 rfl rfl)
theorem dX9_lays_31 : decode cX9_lays 31 = .ok (.aload_n 0, 1) := dk_42 (dk_at dksX9_lays_1 7 rfl rfl)
theorem dX9_lays_32 : decode cX9_lays 32 = .ok (.getfield 27, 3) := dk_180 0 27 (dk_at dksX9_lays_1 8 rfl rfl)
theorem dX9_lays_35 : decode cX9_lays 35 = .ok (.iload_n 1, 1) := dk_27 (dk_at dksX9_lays_1 11 rfl rfl)
theorem dX9_lays_36 : decode cX9_lays 36 = .ok (.aload_n 0, 1) := dk_42 (dk_at dksX9_lays_1 12 rfl rfl)
theorem dX9_lays_37 : decode cX9_lays 37 = .ok (.getfield 14, 3) := dk_180 0 14 (dk_at dksX9_lays_1 13 rfl rfl)
theorem dX9_lays_40 : decode cX9_lays 40 = .ok (.iload_n 1, 1) := dk_27 (dk_at dksX9_lays_1 16 rfl rfl)
theorem dX9_lays_41 : decode cX9_lays 41 = .ok (.iaload, 1) := dk_46 (dk_at dksX9_lays_1 17 rfl rfl)
theorem dX9_lays_42 : decode cX9_lays 42 = .ok (.iastore, 1) := dk_79 (dk_at dksX9_lays_1 18 rfl rfl)
theorem dX9_lays_43 : decode cX9_lays 43 = .ok (.aload_n 0, 1) := dk_42 (dk_at dksX9_lays_1 19 rfl rfl)
theorem dX9_lays_44 : decode cX9_lays 44 = .ok (.getfield 30, 3) := dk_180 0 30 (dk_at dksX9_lays_1 20 rfl rfl)
theorem dX9_lays_47 : decode cX9_lays 47 = .ok (.iload_n 1, 1) := dk_27 (dk_at dksX9_lays_1 23 rfl rfl)
theorem dX9_lays_48 : decode cX9_lays 48 = .ok (.aload_n 0, 1) := dk_42 (dk_at dksX9_lays_2 0 rfl rfl)
theorem dX9_lays_49 : decode cX9_lays 49 = .ok (.getfield 18, 3) := dk_180 0 18 (dk_at dksX9_lays_2 1 rfl rfl)
theorem dX9_lays_52 : decode cX9_lays 52 = .ok (.iload_n 1, 1) := dk_27 (dk_at dksX9_lays_2 4 rfl rfl)
theorem dX9_lays_53 : decode cX9_lays 53 = .ok (.iaload, 1) := dk_46 (dk_at dksX9_lays_2 5 rfl rfl)
theorem dX9_lays_54 : decode cX9_lays 54 = .ok (.iastore, 1) := dk_79 (dk_at dksX9_lays_2 6 rfl rfl)
theorem dX9_lays_55 : decode cX9_lays 55 = .ok (.iinc 1 1, 3) := dk_132 1 1 (dk_at dksX9_lays_2 7 rfl rfl)
theorem dX9_lays_58 : decode cX9_lays 58 = .ok (.goto (-32), 3) := dk_167 255 224 (dk_at dksX9_lays_2 10 rfl rfl)
theorem dX9_lays_61 : decode cX9_lays 61 = .ok (.return_, 1) := dk_177 (dk_at dksX9_lays_2 13 rfl rfl)
abbrev cX9_isDone : ByteArray := prog_21_method_32_code
def yX9_isDone : MethodName := ⟨RX9, "isDone", "(I)Z"⟩
def dkwX9_isDone_7 : List UInt8 := [184, 0, 141, 181, 0, 10, 4, 172, 42, 182, 0, 144, 4, 172]
abbrev dktX9_isDone_7 : List UInt8 := dkwX9_isDone_7 ++ []
def dkwX9_isDone_6 : List UInt8 := [120, 128, 181, 0, 10, 4, 172, 28, 4, 6, 184, 0, 58, 154, 0, 5, 3, 172, 42, 42, 180, 0, 10, 28]
abbrev dktX9_isDone_6 : List UInt8 := dkwX9_isDone_6 ++ dktX9_isDone_7
def dkwX9_isDone_5 : List UInt8 := [184, 0, 65, 182, 0, 137, 4, 172, 28, 184, 0, 130, 154, 0, 5, 3, 172, 42, 89, 180, 0, 10, 4, 28]
abbrev dktX9_isDone_5 : List UInt8 := dkwX9_isDone_5 ++ dktX9_isDone_6
def dkwX9_isDone_4 : List UInt8 := [184, 0, 130, 153, 0, 15, 42, 180, 0, 10, 28, 29, 184, 0, 134, 154, 0, 5, 3, 172, 42, 28, 29]
abbrev dktX9_isDone_4 : List UInt8 := dkwX9_isDone_4 ++ dktX9_isDone_5
def dkwX9_isDone_3 : List UInt8 := [42, 180, 0, 62, 29, 79, 42, 89, 180, 0, 62, 4, 96, 181, 0, 62, 4, 172, 28, 7, 162, 0, 22, 29]
abbrev dktX9_isDone_3 : List UInt8 := dkwX9_isDone_3 ++ dktX9_isDone_4
def dkwX9_isDone_2 : List UInt8 := [42, 180, 0, 62, 8, 160, 0, 5, 3, 172, 42, 180, 0, 14, 42, 180, 0, 62, 28, 79, 42, 180, 0, 18]
abbrev dktX9_isDone_2 : List UInt8 := dkwX9_isDone_2 ++ dktX9_isDone_3
def dkwX9_isDone_1 : List UInt8 := [171, 0, 0, 0, 168, 0, 0, 0, 4, 0, 0, 0, 98, 0, 0, 0, 83, 0, 0, 0, 104, 0, 0, 0, 41, 0, 0, 0, 108, 0, 0, 0, 120, 0, 0, 0, 114, 0, 0, 0, 143]
abbrev dktX9_isDone_1 : List UInt8 := dkwX9_isDone_1 ++ dktX9_isDone_2
def dkwX9_isDone_0 : List UInt8 := [42, 180, 0, 42, 3, 46, 61, 42, 180, 0, 42, 4, 46, 62, 27]
abbrev dktX9_isDone_0 : List UInt8 := dkwX9_isDone_0 ++ dktX9_isDone_1
theorem dksX9_isDone_0 : cX9_isDone.data.toList.drop 0 = dktX9_isDone_0 := by decide +kernel
theorem dksX9_isDone_1 : cX9_isDone.data.toList.drop 15 = dktX9_isDone_1 := dk_seg dksX9_isDone_0 15 rfl rfl
theorem dksX9_isDone_2 : cX9_isDone.data.toList.drop 56 = dktX9_isDone_2 := dk_seg dksX9_isDone_1 41 rfl rfl
theorem dksX9_isDone_3 : cX9_isDone.data.toList.drop 80 = dktX9_isDone_3 := dk_seg dksX9_isDone_2 24 rfl rfl
theorem dksX9_isDone_4 : cX9_isDone.data.toList.drop 104 = dktX9_isDone_4 := dk_seg dksX9_isDone_3 24 rfl rfl
theorem dksX9_isDone_5 : cX9_isDone.data.toList.drop 127 = dktX9_isDone_5 := dk_seg dksX9_isDone_4 23 rfl rfl
theorem dksX9_isDone_6 : cX9_isDone.data.toList.drop 151 = dktX9_isDone_6 := dk_seg dksX9_isDone_5 24 rfl rfl
theorem dksX9_isDone_7 : cX9_isDone.data.toList.drop 175 = dktX9_isDone_7 := dk_seg dksX9_isDone_6 24 rfl rfl
theorem dX9_isDone_0 : decode cX9_isDone 0 = .ok (.aload_n 0, 1) := dk_42 (dk_at dksX9_isDone_0 0 rfl rfl)
theorem dX9_isDone_1 : decode cX9_isDone 1 = .ok (.getfield 42, 3) := dk_180 0 42 (dk_at dksX9_isDone_0 1 rfl rfl)
theorem dX9_isDone_4 : decode cX9_isDone 4 = .ok (.iconst 0, 1) := dk_3 (dk_at dksX9_isDone_0 4 rfl rfl)
theorem dX9_isDone_5 : decode cX9_isDone 5 = .ok (.iaload, 1) := dk_46 (dk_at dksX9_isDone_0 5 rfl rfl)
theorem dX9_isDone_6 : decode cX9_isDone 6 = .ok (.istore_n 2, 1) := dk_61 (dk_at dksX9_isDone_0 6 rfl rfl)
theorem dX9_isDone_7 : decode cX9_isDone 7 = .ok (.aload_n 0, 1) := dk_42 (dk_at dksX9_isDone_0 7 rfl rfl)
theorem dX9_isDone_8 : decode cX9_isDone 8 = .ok (.getfield 42, 3) := dk_180 0 42 (dk_at dksX9_isDone_0 8 rfl rfl)
theorem dX9_isDone_11 : decode cX9_isDone 11 = .ok (.iconst 1, 1) := dk_4 (dk_at dksX9_isDone_0 11 rfl rfl)
theorem dX9_isDone_12 : decode cX9_isDone 12 = .ok (.iaload, 1) := dk_46 (dk_at dksX9_isDone_0 12 rfl rfl)
theorem dX9_isDone_13 : decode cX9_isDone 13 = .ok (.istore_n 3, 1) := dk_62 (dk_at dksX9_isDone_0 13 rfl rfl)
theorem dX9_isDone_14 : decode cX9_isDone 14 = .ok (.iload_n 1, 1) := dk_27 (dk_at dksX9_isDone_0 14 rfl rfl)
theorem dX9_isDone_15 : decode cX9_isDone 15 = .ok (.lookupswitch 168 #[(98, 83), (104, 41), (108, 120), (114, 143)], 41) := by decide +kernel
theorem dX9_isDone_56 : decode cX9_isDone 56 = .ok (.aload_n 0, 1) := dk_42 (dk_at dksX9_isDone_2 0 rfl rfl)
theorem dX9_isDone_57 : decode cX9_isDone 57 = .ok (.getfield 62, 3) := dk_180 0 62 (dk_at dksX9_isDone_2 1 rfl rfl)
theorem dX9_isDone_60 : decode cX9_isDone 60 = .ok (.iconst 5, 1) := dk_8 (dk_at dksX9_isDone_2 4 rfl rfl)
theorem dX9_isDone_61 : decode cX9_isDone 61 = .ok (.if_icmp .ne 5, 3) := dk_160 0 5 (dk_at dksX9_isDone_2 5 rfl rfl)
theorem dX9_isDone_64 : decode cX9_isDone 64 = .ok (.iconst 0, 1) := dk_3 (dk_at dksX9_isDone_2 8 rfl rfl)
theorem dX9_isDone_65 : decode cX9_isDone 65 = .ok (.ireturn, 1) := dk_172 (dk_at dksX9_isDone_2 9 rfl rfl)
theorem dX9_isDone_66 : decode cX9_isDone 66 = .ok (.aload_n 0, 1) := dk_42 (dk_at dksX9_isDone_2 10 rfl rfl)
theorem dX9_isDone_67 : decode cX9_isDone 67 = .ok (.getfield 14, 3) := dk_180 0 14 (dk_at dksX9_isDone_2 11 rfl rfl)
theorem dX9_isDone_70 : decode cX9_isDone 70 = .ok (.aload_n 0, 1) := dk_42 (dk_at dksX9_isDone_2 14 rfl rfl)
theorem dX9_isDone_71 : decode cX9_isDone 71 = .ok (.getfield 62, 3) := dk_180 0 62 (dk_at dksX9_isDone_2 15 rfl rfl)
theorem dX9_isDone_74 : decode cX9_isDone 74 = .ok (.iload_n 2, 1) := dk_28 (dk_at dksX9_isDone_2 18 rfl rfl)
theorem dX9_isDone_75 : decode cX9_isDone 75 = .ok (.iastore, 1) := dk_79 (dk_at dksX9_isDone_2 19 rfl rfl)
theorem dX9_isDone_76 : decode cX9_isDone 76 = .ok (.aload_n 0, 1) := dk_42 (dk_at dksX9_isDone_2 20 rfl rfl)
theorem dX9_isDone_77 : decode cX9_isDone 77 = .ok (.getfield 18, 3) := dk_180 0 18 (dk_at dksX9_isDone_2 21 rfl rfl)
theorem dX9_isDone_80 : decode cX9_isDone 80 = .ok (.aload_n 0, 1) := dk_42 (dk_at dksX9_isDone_3 0 rfl rfl)
theorem dX9_isDone_81 : decode cX9_isDone 81 = .ok (.getfield 62, 3) := dk_180 0 62 (dk_at dksX9_isDone_3 1 rfl rfl)
theorem dX9_isDone_84 : decode cX9_isDone 84 = .ok (.iload_n 3, 1) := dk_29 (dk_at dksX9_isDone_3 4 rfl rfl)
theorem dX9_isDone_85 : decode cX9_isDone 85 = .ok (.iastore, 1) := dk_79 (dk_at dksX9_isDone_3 5 rfl rfl)
theorem dX9_isDone_86 : decode cX9_isDone 86 = .ok (.aload_n 0, 1) := dk_42 (dk_at dksX9_isDone_3 6 rfl rfl)
theorem dX9_isDone_87 : decode cX9_isDone 87 = .ok (.dup, 1) := dk_89 (dk_at dksX9_isDone_3 7 rfl rfl)
theorem dX9_isDone_88 : decode cX9_isDone 88 = .ok (.getfield 62, 3) := dk_180 0 62 (dk_at dksX9_isDone_3 8 rfl rfl)
theorem dX9_isDone_91 : decode cX9_isDone 91 = .ok (.iconst 1, 1) := dk_4 (dk_at dksX9_isDone_3 11 rfl rfl)
theorem dX9_isDone_92 : decode cX9_isDone 92 = .ok (.iadd, 1) := dk_96 (dk_at dksX9_isDone_3 12 rfl rfl)
theorem dX9_isDone_93 : decode cX9_isDone 93 = .ok (.putfield 62, 3) := dk_181 0 62 (dk_at dksX9_isDone_3 13 rfl rfl)
theorem dX9_isDone_96 : decode cX9_isDone 96 = .ok (.iconst 1, 1) := dk_4 (dk_at dksX9_isDone_3 16 rfl rfl)
theorem dX9_isDone_97 : decode cX9_isDone 97 = .ok (.ireturn, 1) := dk_172 (dk_at dksX9_isDone_3 17 rfl rfl)
theorem dX9_isDone_98 : decode cX9_isDone 98 = .ok (.iload_n 2, 1) := dk_28 (dk_at dksX9_isDone_3 18 rfl rfl)
theorem dX9_isDone_99 : decode cX9_isDone 99 = .ok (.iconst 4, 1) := dk_7 (dk_at dksX9_isDone_3 19 rfl rfl)
theorem dX9_isDone_100 : decode cX9_isDone 100 = .ok (.if_icmp .ge 22, 3) := dk_162 0 22 (dk_at dksX9_isDone_3 20 rfl rfl)
theorem dX9_isDone_103 : decode cX9_isDone 103 = .ok (.iload_n 3, 1) := dk_29 (dk_at dksX9_isDone_3 23 rfl rfl)
theorem dX9_isDone_104 : decode cX9_isDone 104 = .ok (.invokestatic 130, 3) := dk_184 0 130 (dk_at dksX9_isDone_4 0 rfl rfl)
theorem dX9_isDone_107 : decode cX9_isDone 107 = .ok (.ifCond .eq 15, 3) := dk_153 0 15 (dk_at dksX9_isDone_4 3 rfl rfl)
theorem dX9_isDone_110 : decode cX9_isDone 110 = .ok (.aload_n 0, 1) := dk_42 (dk_at dksX9_isDone_4 6 rfl rfl)
theorem dX9_isDone_111 : decode cX9_isDone 111 = .ok (.getfield 10, 3) := dk_180 0 10 (dk_at dksX9_isDone_4 7 rfl rfl)
theorem dX9_isDone_114 : decode cX9_isDone 114 = .ok (.iload_n 2, 1) := dk_28 (dk_at dksX9_isDone_4 10 rfl rfl)
theorem dX9_isDone_115 : decode cX9_isDone 115 = .ok (.iload_n 3, 1) := dk_29 (dk_at dksX9_isDone_4 11 rfl rfl)
theorem dX9_isDone_116 : decode cX9_isDone 116 = .ok (.invokestatic 134, 3) := dk_184 0 134 (dk_at dksX9_isDone_4 12 rfl rfl)
theorem dX9_isDone_119 : decode cX9_isDone 119 = .ok (.ifCond .ne 5, 3) := dk_154 0 5 (dk_at dksX9_isDone_4 15 rfl rfl)
theorem dX9_isDone_122 : decode cX9_isDone 122 = .ok (.iconst 0, 1) := dk_3 (dk_at dksX9_isDone_4 18 rfl rfl)
theorem dX9_isDone_123 : decode cX9_isDone 123 = .ok (.ireturn, 1) := dk_172 (dk_at dksX9_isDone_4 19 rfl rfl)
theorem dX9_isDone_124 : decode cX9_isDone 124 = .ok (.aload_n 0, 1) := dk_42 (dk_at dksX9_isDone_4 20 rfl rfl)
theorem dX9_isDone_125 : decode cX9_isDone 125 = .ok (.iload_n 2, 1) := dk_28 (dk_at dksX9_isDone_4 21 rfl rfl)
theorem dX9_isDone_126 : decode cX9_isDone 126 = .ok (.iload_n 3, 1) := dk_29 (dk_at dksX9_isDone_4 22 rfl rfl)
theorem dX9_isDone_127 : decode cX9_isDone 127 = .ok (.invokestatic 65, 3) := dk_184 0 65 (dk_at dksX9_isDone_5 0 rfl rfl)
theorem dX9_isDone_130 : decode cX9_isDone 130 = .ok (.invokevirtual 137, 3) := dk_182 0 137 (dk_at dksX9_isDone_5 3 rfl rfl)
theorem dX9_isDone_133 : decode cX9_isDone 133 = .ok (.iconst 1, 1) := dk_4 (dk_at dksX9_isDone_5 6 rfl rfl)
theorem dX9_isDone_134 : decode cX9_isDone 134 = .ok (.ireturn, 1) := dk_172 (dk_at dksX9_isDone_5 7 rfl rfl)
theorem dX9_isDone_135 : decode cX9_isDone 135 = .ok (.iload_n 2, 1) := dk_28 (dk_at dksX9_isDone_5 8 rfl rfl)
theorem dX9_isDone_136 : decode cX9_isDone 136 = .ok (.invokestatic 130, 3) := dk_184 0 130 (dk_at dksX9_isDone_5 9 rfl rfl)
theorem dX9_isDone_139 : decode cX9_isDone 139 = .ok (.ifCond .ne 5, 3) := dk_154 0 5 (dk_at dksX9_isDone_5 12 rfl rfl)
theorem dX9_isDone_142 : decode cX9_isDone 142 = .ok (.iconst 0, 1) := dk_3 (dk_at dksX9_isDone_5 15 rfl rfl)
theorem dX9_isDone_143 : decode cX9_isDone 143 = .ok (.ireturn, 1) := dk_172 (dk_at dksX9_isDone_5 16 rfl rfl)
theorem dX9_isDone_144 : decode cX9_isDone 144 = .ok (.aload_n 0, 1) := dk_42 (dk_at dksX9_isDone_5 17 rfl rfl)
theorem dX9_isDone_145 : decode cX9_isDone 145 = .ok (.dup, 1) := dk_89 (dk_at dksX9_isDone_5 18 rfl rfl)
theorem dX9_isDone_146 : decode cX9_isDone 146 = .ok (.getfield 10, 3) := dk_180 0 10 (dk_at dksX9_isDone_5 19 rfl rfl)
theorem dX9_isDone_149 : decode cX9_isDone 149 = .ok (.iconst 1, 1) := dk_4 (dk_at dksX9_isDone_5 22 rfl rfl)
theorem dX9_isDone_150 : decode cX9_isDone 150 = .ok (.iload_n 2, 1) := dk_28 (dk_at dksX9_isDone_5 23 rfl rfl)
theorem dX9_isDone_151 : decode cX9_isDone 151 = .ok (.ishl, 1) := dk_120 (dk_at dksX9_isDone_6 0 rfl rfl)
theorem dX9_isDone_152 : decode cX9_isDone 152 = .ok (.ior, 1) := dk_128 (dk_at dksX9_isDone_6 1 rfl rfl)
theorem dX9_isDone_153 : decode cX9_isDone 153 = .ok (.putfield 10, 3) := dk_181 0 10 (dk_at dksX9_isDone_6 2 rfl rfl)
theorem dX9_isDone_156 : decode cX9_isDone 156 = .ok (.iconst 1, 1) := dk_4 (dk_at dksX9_isDone_6 5 rfl rfl)
theorem dX9_isDone_157 : decode cX9_isDone 157 = .ok (.ireturn, 1) := dk_172 (dk_at dksX9_isDone_6 6 rfl rfl)
theorem dX9_isDone_158 : decode cX9_isDone 158 = .ok (.iload_n 2, 1) := dk_28 (dk_at dksX9_isDone_6 7 rfl rfl)
theorem dX9_isDone_159 : decode cX9_isDone 159 = .ok (.iconst 1, 1) := dk_4 (dk_at dksX9_isDone_6 8 rfl rfl)
theorem dX9_isDone_160 : decode cX9_isDone 160 = .ok (.iconst 3, 1) := dk_6 (dk_at dksX9_isDone_6 9 rfl rfl)
theorem dX9_isDone_161 : decode cX9_isDone 161 = .ok (.invokestatic 58, 3) := dk_184 0 58 (dk_at dksX9_isDone_6 10 rfl rfl)
theorem dX9_isDone_164 : decode cX9_isDone 164 = .ok (.ifCond .ne 5, 3) := dk_154 0 5 (dk_at dksX9_isDone_6 13 rfl rfl)
theorem dX9_isDone_167 : decode cX9_isDone 167 = .ok (.iconst 0, 1) := dk_3 (dk_at dksX9_isDone_6 16 rfl rfl)
theorem dX9_isDone_168 : decode cX9_isDone 168 = .ok (.ireturn, 1) := dk_172 (dk_at dksX9_isDone_6 17 rfl rfl)
theorem dX9_isDone_169 : decode cX9_isDone 169 = .ok (.aload_n 0, 1) := dk_42 (dk_at dksX9_isDone_6 18 rfl rfl)
theorem dX9_isDone_170 : decode cX9_isDone 170 = .ok (.aload_n 0, 1) := dk_42 (dk_at dksX9_isDone_6 19 rfl rfl)
theorem dX9_isDone_171 : decode cX9_isDone 171 = .ok (.getfield 10, 3) := dk_180 0 10 (dk_at dksX9_isDone_6 20 rfl rfl)
theorem dX9_isDone_174 : decode cX9_isDone 174 = .ok (.iload_n 2, 1) := dk_28 (dk_at dksX9_isDone_6 23 rfl rfl)
theorem dX9_isDone_175 : decode cX9_isDone 175 = .ok (.invokestatic 141, 3) := dk_184 0 141 (dk_at dksX9_isDone_7 0 rfl rfl)
theorem dX9_isDone_178 : decode cX9_isDone 178 = .ok (.putfield 10, 3) := dk_181 0 10 (dk_at dksX9_isDone_7 3 rfl rfl)
theorem dX9_isDone_181 : decode cX9_isDone 181 = .ok (.iconst 1, 1) := dk_4 (dk_at dksX9_isDone_7 6 rfl rfl)
theorem dX9_isDone_182 : decode cX9_isDone 182 = .ok (.ireturn, 1) := dk_172 (dk_at dksX9_isDone_7 7 rfl rfl)
theorem dX9_isDone_183 : decode cX9_isDone 183 = .ok (.aload_n 0, 1) := dk_42 (dk_at dksX9_isDone_7 8 rfl rfl)
theorem dX9_isDone_184 : decode cX9_isDone 184 = .ok (.invokevirtual 144, 3) := dk_182 0 144 (dk_at dksX9_isDone_7 9 rfl rfl)
theorem dX9_isDone_187 : decode cX9_isDone 187 = .ok (.iconst 1, 1) := dk_4 (dk_at dksX9_isDone_7 12 rfl rfl)
theorem dX9_isDone_188 : decode cX9_isDone 188 = .ok (.ireturn, 1) := dk_172 (dk_at dksX9_isDone_7 13 rfl rfl)
abbrev cX9_isCell : ByteArray := prog_21_method_7_code
def yX9_isCell : MethodName := ⟨RX9, "isCell", "(I)Z"⟩
def dkwX9_isCell_0 : List UInt8 := [26, 3, 16, 24, 184, 0, 58, 172]
abbrev dktX9_isCell_0 : List UInt8 := dkwX9_isCell_0 ++ []
theorem dksX9_isCell_0 : cX9_isCell.data.toList.drop 0 = dktX9_isCell_0 := by decide +kernel
theorem dX9_isCell_0 : decode cX9_isCell 0 = .ok (.iload_n 0, 1) := dk_26 (dk_at dksX9_isCell_0 0 rfl rfl)
theorem dX9_isCell_1 : decode cX9_isCell 1 = .ok (.iconst 0, 1) := dk_3 (dk_at dksX9_isCell_0 1 rfl rfl)
theorem dX9_isCell_2 : decode cX9_isCell 2 = .ok (.bipush 24, 2) := dk_16 24 (dk_at dksX9_isCell_0 2 rfl rfl)
theorem dX9_isCell_4 : decode cX9_isCell 4 = .ok (.invokestatic 58, 3) := dk_184 0 58 (dk_at dksX9_isCell_0 4 rfl rfl)
theorem dX9_isCell_7 : decode cX9_isCell 7 = .ok (.ireturn, 1) := dk_172 (dk_at dksX9_isCell_0 7 rfl rfl)
abbrev cX9_canBite : ByteArray := prog_21_method_12_code
def yX9_canBite : MethodName := ⟨RX9, "canBite", "(III)Z"⟩
def dkwX9_canBite_1 : List UInt8 := [3, 172]
abbrev dktX9_canBite_1 : List UInt8 := dkwX9_canBite_1 ++ []
def dkwX9_canBite_0 : List UInt8 := [27, 28, 184, 0, 65, 153, 0, 19, 27, 28, 184, 0, 65, 26, 2, 130, 126, 154, 0, 7, 4, 167, 0, 4]
abbrev dktX9_canBite_0 : List UInt8 := dkwX9_canBite_0 ++ dktX9_canBite_1
theorem dksX9_canBite_0 : cX9_canBite.data.toList.drop 0 = dktX9_canBite_0 := by decide +kernel
theorem dksX9_canBite_1 : cX9_canBite.data.toList.drop 24 = dktX9_canBite_1 := dk_seg dksX9_canBite_0 24 rfl rfl
theorem dX9_canBite_0 : decode cX9_canBite 0 = .ok (.iload_n 1, 1) := dk_27 (dk_at dksX9_canBite_0 0 rfl rfl)
theorem dX9_canBite_1 : decode cX9_canBite 1 = .ok (.iload_n 2, 1) := dk_28 (dk_at dksX9_canBite_0 1 rfl rfl)
theorem dX9_canBite_2 : decode cX9_canBite 2 = .ok (.invokestatic 65, 3) := dk_184 0 65 (dk_at dksX9_canBite_0 2 rfl rfl)
theorem dX9_canBite_5 : decode cX9_canBite 5 = .ok (.ifCond .eq 19, 3) := dk_153 0 19 (dk_at dksX9_canBite_0 5 rfl rfl)
theorem dX9_canBite_8 : decode cX9_canBite 8 = .ok (.iload_n 1, 1) := dk_27 (dk_at dksX9_canBite_0 8 rfl rfl)
theorem dX9_canBite_9 : decode cX9_canBite 9 = .ok (.iload_n 2, 1) := dk_28 (dk_at dksX9_canBite_0 9 rfl rfl)
theorem dX9_canBite_10 : decode cX9_canBite 10 = .ok (.invokestatic 65, 3) := dk_184 0 65 (dk_at dksX9_canBite_0 10 rfl rfl)
theorem dX9_canBite_13 : decode cX9_canBite 13 = .ok (.iload_n 0, 1) := dk_26 (dk_at dksX9_canBite_0 13 rfl rfl)
theorem dX9_canBite_14 : decode cX9_canBite 14 = .ok (.iconst (-1), 1) := dk_2 (dk_at dksX9_canBite_0 14 rfl rfl)
theorem dX9_canBite_15 : decode cX9_canBite 15 = .ok (.ixor, 1) := dk_130 (dk_at dksX9_canBite_0 15 rfl rfl)
theorem dX9_canBite_16 : decode cX9_canBite 16 = .ok (.iand, 1) := dk_126 (dk_at dksX9_canBite_0 16 rfl rfl)
theorem dX9_canBite_17 : decode cX9_canBite 17 = .ok (.ifCond .ne 7, 3) := dk_154 0 7 (dk_at dksX9_canBite_0 17 rfl rfl)
theorem dX9_canBite_20 : decode cX9_canBite 20 = .ok (.iconst 1, 1) := dk_4 (dk_at dksX9_canBite_0 20 rfl rfl)
theorem dX9_canBite_21 : decode cX9_canBite 21 = .ok (.goto 4, 3) := dk_167 0 4 (dk_at dksX9_canBite_0 21 rfl rfl)
theorem dX9_canBite_24 : decode cX9_canBite 24 = .ok (.iconst 0, 1) := dk_3 (dk_at dksX9_canBite_1 0 rfl rfl)
theorem dX9_canBite_25 : decode cX9_canBite 25 = .ok (.ireturn, 1) := dk_172 (dk_at dksX9_canBite_1 1 rfl rfl)
abbrev cX9_bite : ByteArray := prog_21_method_11_code
def yX9_bite : MethodName := ⟨RX9, "bite", "(II)I"⟩
def dkwX9_bite_3 : List UInt8 := [21, 4, 8, 120, 128, 167, 0, 5, 21, 4, 172]
abbrev dktX9_bite_3 : List UInt8 := dkwX9_bite_3 ++ []
def dkwX9_bite_2 : List UInt8 := [54, 4, 28, 5, 160, 0, 13, 21, 4, 4, 27, 4, 96, 120, 128, 54, 4, 29, 5, 160, 0, 13, 21, 4]
abbrev dktX9_bite_2 : List UInt8 := dkwX9_bite_2 ++ dktX9_bite_3
def dkwX9_bite_1 : List UInt8 := [27, 8, 112, 28, 96, 8, 163, 0, 12, 27, 8, 108, 29, 96, 8, 164, 0, 5, 3, 172, 4, 27, 120]
abbrev dktX9_bite_1 : List UInt8 := dkwX9_bite_1 ++ dktX9_bite_2
def dkwX9_bite_0 : List UInt8 := [26, 5, 112, 4, 160, 0, 7, 5, 167, 0, 4, 4, 61, 26, 5, 161, 0, 7, 5, 167, 0, 4, 4, 62]
abbrev dktX9_bite_0 : List UInt8 := dkwX9_bite_0 ++ dktX9_bite_1
theorem dksX9_bite_0 : cX9_bite.data.toList.drop 0 = dktX9_bite_0 := by decide +kernel
theorem dksX9_bite_1 : cX9_bite.data.toList.drop 24 = dktX9_bite_1 := dk_seg dksX9_bite_0 24 rfl rfl
theorem dksX9_bite_2 : cX9_bite.data.toList.drop 47 = dktX9_bite_2 := dk_seg dksX9_bite_1 23 rfl rfl
theorem dksX9_bite_3 : cX9_bite.data.toList.drop 71 = dktX9_bite_3 := dk_seg dksX9_bite_2 24 rfl rfl
theorem dX9_bite_0 : decode cX9_bite 0 = .ok (.iload_n 0, 1) := dk_26 (dk_at dksX9_bite_0 0 rfl rfl)
theorem dX9_bite_1 : decode cX9_bite 1 = .ok (.iconst 2, 1) := dk_5 (dk_at dksX9_bite_0 1 rfl rfl)
theorem dX9_bite_2 : decode cX9_bite 2 = .ok (.irem, 1) := dk_112 (dk_at dksX9_bite_0 2 rfl rfl)
theorem dX9_bite_3 : decode cX9_bite 3 = .ok (.iconst 1, 1) := dk_4 (dk_at dksX9_bite_0 3 rfl rfl)
theorem dX9_bite_4 : decode cX9_bite 4 = .ok (.if_icmp .ne 7, 3) := dk_160 0 7 (dk_at dksX9_bite_0 4 rfl rfl)
theorem dX9_bite_7 : decode cX9_bite 7 = .ok (.iconst 2, 1) := dk_5 (dk_at dksX9_bite_0 7 rfl rfl)
theorem dX9_bite_8 : decode cX9_bite 8 = .ok (.goto 4, 3) := dk_167 0 4 (dk_at dksX9_bite_0 8 rfl rfl)
theorem dX9_bite_11 : decode cX9_bite 11 = .ok (.iconst 1, 1) := dk_4 (dk_at dksX9_bite_0 11 rfl rfl)
theorem dX9_bite_12 : decode cX9_bite 12 = .ok (.istore_n 2, 1) := dk_61 (dk_at dksX9_bite_0 12 rfl rfl)
theorem dX9_bite_13 : decode cX9_bite 13 = .ok (.iload_n 0, 1) := dk_26 (dk_at dksX9_bite_0 13 rfl rfl)
theorem dX9_bite_14 : decode cX9_bite 14 = .ok (.iconst 2, 1) := dk_5 (dk_at dksX9_bite_0 14 rfl rfl)
theorem dX9_bite_15 : decode cX9_bite 15 = .ok (.if_icmp .lt 7, 3) := dk_161 0 7 (dk_at dksX9_bite_0 15 rfl rfl)
theorem dX9_bite_18 : decode cX9_bite 18 = .ok (.iconst 2, 1) := dk_5 (dk_at dksX9_bite_0 18 rfl rfl)
theorem dX9_bite_19 : decode cX9_bite 19 = .ok (.goto 4, 3) := dk_167 0 4 (dk_at dksX9_bite_0 19 rfl rfl)
theorem dX9_bite_22 : decode cX9_bite 22 = .ok (.iconst 1, 1) := dk_4 (dk_at dksX9_bite_0 22 rfl rfl)
theorem dX9_bite_23 : decode cX9_bite 23 = .ok (.istore_n 3, 1) := dk_62 (dk_at dksX9_bite_0 23 rfl rfl)
theorem dX9_bite_24 : decode cX9_bite 24 = .ok (.iload_n 1, 1) := dk_27 (dk_at dksX9_bite_1 0 rfl rfl)
theorem dX9_bite_25 : decode cX9_bite 25 = .ok (.iconst 5, 1) := dk_8 (dk_at dksX9_bite_1 1 rfl rfl)
theorem dX9_bite_26 : decode cX9_bite 26 = .ok (.irem, 1) := dk_112 (dk_at dksX9_bite_1 2 rfl rfl)
theorem dX9_bite_27 : decode cX9_bite 27 = .ok (.iload_n 2, 1) := dk_28 (dk_at dksX9_bite_1 3 rfl rfl)
theorem dX9_bite_28 : decode cX9_bite 28 = .ok (.iadd, 1) := dk_96 (dk_at dksX9_bite_1 4 rfl rfl)
theorem dX9_bite_29 : decode cX9_bite 29 = .ok (.iconst 5, 1) := dk_8 (dk_at dksX9_bite_1 5 rfl rfl)
theorem dX9_bite_30 : decode cX9_bite 30 = .ok (.if_icmp .gt 12, 3) := dk_163 0 12 (dk_at dksX9_bite_1 6 rfl rfl)
theorem dX9_bite_33 : decode cX9_bite 33 = .ok (.iload_n 1, 1) := dk_27 (dk_at dksX9_bite_1 9 rfl rfl)
theorem dX9_bite_34 : decode cX9_bite 34 = .ok (.iconst 5, 1) := dk_8 (dk_at dksX9_bite_1 10 rfl rfl)
theorem dX9_bite_35 : decode cX9_bite 35 = .ok (.idiv, 1) := dk_108 (dk_at dksX9_bite_1 11 rfl rfl)
theorem dX9_bite_36 : decode cX9_bite 36 = .ok (.iload_n 3, 1) := dk_29 (dk_at dksX9_bite_1 12 rfl rfl)
theorem dX9_bite_37 : decode cX9_bite 37 = .ok (.iadd, 1) := dk_96 (dk_at dksX9_bite_1 13 rfl rfl)
theorem dX9_bite_38 : decode cX9_bite 38 = .ok (.iconst 5, 1) := dk_8 (dk_at dksX9_bite_1 14 rfl rfl)
theorem dX9_bite_39 : decode cX9_bite 39 = .ok (.if_icmp .le 5, 3) := dk_164 0 5 (dk_at dksX9_bite_1 15 rfl rfl)
theorem dX9_bite_42 : decode cX9_bite 42 = .ok (.iconst 0, 1) := dk_3 (dk_at dksX9_bite_1 18 rfl rfl)
theorem dX9_bite_43 : decode cX9_bite 43 = .ok (.ireturn, 1) := dk_172 (dk_at dksX9_bite_1 19 rfl rfl)
theorem dX9_bite_44 : decode cX9_bite 44 = .ok (.iconst 1, 1) := dk_4 (dk_at dksX9_bite_1 20 rfl rfl)
theorem dX9_bite_45 : decode cX9_bite 45 = .ok (.iload_n 1, 1) := dk_27 (dk_at dksX9_bite_1 21 rfl rfl)
theorem dX9_bite_46 : decode cX9_bite 46 = .ok (.ishl, 1) := dk_120 (dk_at dksX9_bite_1 22 rfl rfl)
theorem dX9_bite_47 : decode cX9_bite 47 = .ok (.istore 4, 2) := dk_54 4 (dk_at dksX9_bite_2 0 rfl rfl)
theorem dX9_bite_49 : decode cX9_bite 49 = .ok (.iload_n 2, 1) := dk_28 (dk_at dksX9_bite_2 2 rfl rfl)
theorem dX9_bite_50 : decode cX9_bite 50 = .ok (.iconst 2, 1) := dk_5 (dk_at dksX9_bite_2 3 rfl rfl)
theorem dX9_bite_51 : decode cX9_bite 51 = .ok (.if_icmp .ne 13, 3) := dk_160 0 13 (dk_at dksX9_bite_2 4 rfl rfl)
theorem dX9_bite_54 : decode cX9_bite 54 = .ok (.iload 4, 2) := dk_21 4 (dk_at dksX9_bite_2 7 rfl rfl)
theorem dX9_bite_56 : decode cX9_bite 56 = .ok (.iconst 1, 1) := dk_4 (dk_at dksX9_bite_2 9 rfl rfl)
theorem dX9_bite_57 : decode cX9_bite 57 = .ok (.iload_n 1, 1) := dk_27 (dk_at dksX9_bite_2 10 rfl rfl)
theorem dX9_bite_58 : decode cX9_bite 58 = .ok (.iconst 1, 1) := dk_4 (dk_at dksX9_bite_2 11 rfl rfl)
theorem dX9_bite_59 : decode cX9_bite 59 = .ok (.iadd, 1) := dk_96 (dk_at dksX9_bite_2 12 rfl rfl)
theorem dX9_bite_60 : decode cX9_bite 60 = .ok (.ishl, 1) := dk_120 (dk_at dksX9_bite_2 13 rfl rfl)
theorem dX9_bite_61 : decode cX9_bite 61 = .ok (.ior, 1) := dk_128 (dk_at dksX9_bite_2 14 rfl rfl)
theorem dX9_bite_62 : decode cX9_bite 62 = .ok (.istore 4, 2) := dk_54 4 (dk_at dksX9_bite_2 15 rfl rfl)
theorem dX9_bite_64 : decode cX9_bite 64 = .ok (.iload_n 3, 1) := dk_29 (dk_at dksX9_bite_2 17 rfl rfl)
theorem dX9_bite_65 : decode cX9_bite 65 = .ok (.iconst 2, 1) := dk_5 (dk_at dksX9_bite_2 18 rfl rfl)
theorem dX9_bite_66 : decode cX9_bite 66 = .ok (.if_icmp .ne 13, 3) := dk_160 0 13 (dk_at dksX9_bite_2 19 rfl rfl)
theorem dX9_bite_69 : decode cX9_bite 69 = .ok (.iload 4, 2) := dk_21 4 (dk_at dksX9_bite_2 22 rfl rfl)
theorem dX9_bite_71 : decode cX9_bite 71 = .ok (.iload 4, 2) := dk_21 4 (dk_at dksX9_bite_3 0 rfl rfl)
theorem dX9_bite_73 : decode cX9_bite 73 = .ok (.iconst 5, 1) := dk_8 (dk_at dksX9_bite_3 2 rfl rfl)
theorem dX9_bite_74 : decode cX9_bite 74 = .ok (.ishl, 1) := dk_120 (dk_at dksX9_bite_3 3 rfl rfl)
theorem dX9_bite_75 : decode cX9_bite 75 = .ok (.ior, 1) := dk_128 (dk_at dksX9_bite_3 4 rfl rfl)
theorem dX9_bite_76 : decode cX9_bite 76 = .ok (.goto 5, 3) := dk_167 0 5 (dk_at dksX9_bite_3 5 rfl rfl)
theorem dX9_bite_79 : decode cX9_bite 79 = .ok (.iload 4, 2) := dk_21 4 (dk_at dksX9_bite_3 8 rfl rfl)
theorem dX9_bite_81 : decode cX9_bite 81 = .ok (.ireturn, 1) := dk_172 (dk_at dksX9_bite_3 10 rfl rfl)
abbrev cX9_bitesOff : ByteArray := prog_21_method_30_code
def yX9_bitesOff : MethodName := ⟨RX9, "bitesOff", "(I)V"⟩
def dkwX9_bitesOff_1 : List UInt8 := [184, 0, 127, 181, 0, 124, 177]
abbrev dktX9_bitesOff_1 : List UInt8 := dkwX9_bitesOff_1 ++ []
def dkwX9_bitesOff_0 : List UInt8 := [42, 89, 180, 0, 10, 27, 2, 130, 126, 181, 0, 10, 42, 17, 3, 231, 42, 180, 0, 124, 4, 96]
abbrev dktX9_bitesOff_0 : List UInt8 := dkwX9_bitesOff_0 ++ dktX9_bitesOff_1
theorem dksX9_bitesOff_0 : cX9_bitesOff.data.toList.drop 0 = dktX9_bitesOff_0 := by decide +kernel
theorem dksX9_bitesOff_1 : cX9_bitesOff.data.toList.drop 22 = dktX9_bitesOff_1 := dk_seg dksX9_bitesOff_0 22 rfl rfl
theorem dX9_bitesOff_0 : decode cX9_bitesOff 0 = .ok (.aload_n 0, 1) := dk_42 (dk_at dksX9_bitesOff_0 0 rfl rfl)
theorem dX9_bitesOff_1 : decode cX9_bitesOff 1 = .ok (.dup, 1) := dk_89 (dk_at dksX9_bitesOff_0 1 rfl rfl)
theorem dX9_bitesOff_2 : decode cX9_bitesOff 2 = .ok (.getfield 10, 3) := dk_180 0 10 (dk_at dksX9_bitesOff_0 2 rfl rfl)
theorem dX9_bitesOff_5 : decode cX9_bitesOff 5 = .ok (.iload_n 1, 1) := dk_27 (dk_at dksX9_bitesOff_0 5 rfl rfl)
theorem dX9_bitesOff_6 : decode cX9_bitesOff 6 = .ok (.iconst (-1), 1) := dk_2 (dk_at dksX9_bitesOff_0 6 rfl rfl)
theorem dX9_bitesOff_7 : decode cX9_bitesOff 7 = .ok (.ixor, 1) := dk_130 (dk_at dksX9_bitesOff_0 7 rfl rfl)
theorem dX9_bitesOff_8 : decode cX9_bitesOff 8 = .ok (.iand, 1) := dk_126 (dk_at dksX9_bitesOff_0 8 rfl rfl)
theorem dX9_bitesOff_9 : decode cX9_bitesOff 9 = .ok (.putfield 10, 3) := dk_181 0 10 (dk_at dksX9_bitesOff_0 9 rfl rfl)
theorem dX9_bitesOff_12 : decode cX9_bitesOff 12 = .ok (.aload_n 0, 1) := dk_42 (dk_at dksX9_bitesOff_0 12 rfl rfl)
theorem dX9_bitesOff_13 : decode cX9_bitesOff 13 = .ok (.sipush 999, 3) := dk_17 3 231 (dk_at dksX9_bitesOff_0 13 rfl rfl)
theorem dX9_bitesOff_16 : decode cX9_bitesOff 16 = .ok (.aload_n 0, 1) := dk_42 (dk_at dksX9_bitesOff_0 16 rfl rfl)
theorem dX9_bitesOff_17 : decode cX9_bitesOff 17 = .ok (.getfield 124, 3) := dk_180 0 124 (dk_at dksX9_bitesOff_0 17 rfl rfl)
theorem dX9_bitesOff_20 : decode cX9_bitesOff 20 = .ok (.iconst 1, 1) := dk_4 (dk_at dksX9_bitesOff_0 20 rfl rfl)
theorem dX9_bitesOff_21 : decode cX9_bitesOff 21 = .ok (.iadd, 1) := dk_96 (dk_at dksX9_bitesOff_0 21 rfl rfl)
theorem dX9_bitesOff_22 : decode cX9_bitesOff 22 = .ok (.invokestatic 127, 3) := dk_184 0 127 (dk_at dksX9_bitesOff_1 0 rfl rfl)
theorem dX9_bitesOff_25 : decode cX9_bitesOff 25 = .ok (.putfield 124, 3) := dk_181 0 124 (dk_at dksX9_bitesOff_1 3 rfl rfl)
theorem dX9_bitesOff_28 : decode cX9_bitesOff 28 = .ok (.return_, 1) := dk_177 (dk_at dksX9_bitesOff_1 6 rfl rfl)
abbrev cX9_least : ByteArray := prog_21_method_3_code
def yX9_least : MethodName := ⟨RX9, "least", "(II)I"⟩
def dkwX9_least_0 : List UInt8 := [26, 27, 162, 0, 7, 26, 167, 0, 4, 27, 172]
abbrev dktX9_least_0 : List UInt8 := dkwX9_least_0 ++ []
theorem dksX9_least_0 : cX9_least.data.toList.drop 0 = dktX9_least_0 := by decide +kernel
theorem dX9_least_0 : decode cX9_least 0 = .ok (.iload_n 0, 1) := dk_26 (dk_at dksX9_least_0 0 rfl rfl)
theorem dX9_least_1 : decode cX9_least 1 = .ok (.iload_n 1, 1) := dk_27 (dk_at dksX9_least_0 1 rfl rfl)
theorem dX9_least_2 : decode cX9_least 2 = .ok (.if_icmp .ge 7, 3) := dk_162 0 7 (dk_at dksX9_least_0 2 rfl rfl)
theorem dX9_least_5 : decode cX9_least 5 = .ok (.iload_n 0, 1) := dk_26 (dk_at dksX9_least_0 5 rfl rfl)
theorem dX9_least_6 : decode cX9_least 6 = .ok (.goto 4, 3) := dk_167 0 4 (dk_at dksX9_least_0 6 rfl rfl)
theorem dX9_least_9 : decode cX9_least 9 = .ok (.iload_n 1, 1) := dk_27 (dk_at dksX9_least_0 9 rfl rfl)
theorem dX9_least_10 : decode cX9_least 10 = .ok (.ireturn, 1) := dk_172 (dk_at dksX9_least_0 10 rfl rfl)
abbrev cX9_turnedBy : ByteArray := prog_21_method_23_code
def yX9_turnedBy : MethodName := ⟨RX9, "turnedBy", "(II)I"⟩
def dkwX9_turnedBy_0 : List UInt8 := [26, 61, 3, 62, 29, 27, 162, 0, 14, 28, 184, 0, 101, 61, 132, 3, 1, 167, 255, 243, 28, 172]
abbrev dktX9_turnedBy_0 : List UInt8 := dkwX9_turnedBy_0 ++ []
theorem dksX9_turnedBy_0 : cX9_turnedBy.data.toList.drop 0 = dktX9_turnedBy_0 := by decide +kernel
theorem dX9_turnedBy_0 : decode cX9_turnedBy 0 = .ok (.iload_n 0, 1) := dk_26 (dk_at dksX9_turnedBy_0 0 rfl rfl)
theorem dX9_turnedBy_1 : decode cX9_turnedBy 1 = .ok (.istore_n 2, 1) := dk_61 (dk_at dksX9_turnedBy_0 1 rfl rfl)
theorem dX9_turnedBy_2 : decode cX9_turnedBy 2 = .ok (.iconst 0, 1) := dk_3 (dk_at dksX9_turnedBy_0 2 rfl rfl)
theorem dX9_turnedBy_3 : decode cX9_turnedBy 3 = .ok (.istore_n 3, 1) := dk_62 (dk_at dksX9_turnedBy_0 3 rfl rfl)
theorem dX9_turnedBy_4 : decode cX9_turnedBy 4 = .ok (.iload_n 3, 1) := dk_29 (dk_at dksX9_turnedBy_0 4 rfl rfl)
theorem dX9_turnedBy_5 : decode cX9_turnedBy 5 = .ok (.iload_n 1, 1) := dk_27 (dk_at dksX9_turnedBy_0 5 rfl rfl)
theorem dX9_turnedBy_6 : decode cX9_turnedBy 6 = .ok (.if_icmp .ge 14, 3) := dk_162 0 14 (dk_at dksX9_turnedBy_0 6 rfl rfl)
theorem dX9_turnedBy_9 : decode cX9_turnedBy 9 = .ok (.iload_n 2, 1) := dk_28 (dk_at dksX9_turnedBy_0 9 rfl rfl)
theorem dX9_turnedBy_10 : decode cX9_turnedBy 10 = .ok (.invokestatic 101, 3) := dk_184 0 101 (dk_at dksX9_turnedBy_0 10 rfl rfl)
theorem dX9_turnedBy_13 : decode cX9_turnedBy 13 = .ok (.istore_n 2, 1) := dk_61 (dk_at dksX9_turnedBy_0 13 rfl rfl)
theorem dX9_turnedBy_14 : decode cX9_turnedBy 14 = .ok (.iinc 3 1, 3) := dk_132 3 1 (dk_at dksX9_turnedBy_0 14 rfl rfl)
theorem dX9_turnedBy_17 : decode cX9_turnedBy 17 = .ok (.goto (-13), 3) := dk_167 255 243 (dk_at dksX9_turnedBy_0 17 rfl rfl)
theorem dX9_turnedBy_20 : decode cX9_turnedBy 20 = .ok (.iload_n 2, 1) := dk_28 (dk_at dksX9_turnedBy_0 20 rfl rfl)
theorem dX9_turnedBy_21 : decode cX9_turnedBy 21 = .ok (.ireturn, 1) := dk_172 (dk_at dksX9_turnedBy_0 21 rfl rfl)
abbrev cX9_turned : ByteArray := prog_21_method_22_code
def yX9_turned : MethodName := ⟨RX9, "turned", "(I)I"⟩
def dkwX9_turned_1 : List UInt8 := [100, 28, 8, 108, 100, 120, 128, 60, 132, 2, 1, 167, 255, 225, 27, 172]
abbrev dktX9_turned_1 : List UInt8 := dkwX9_turned_1 ++ []
def dkwX9_turned_0 : List UInt8 := [3, 60, 3, 61, 28, 16, 25, 162, 0, 31, 27, 26, 28, 122, 4, 126, 8, 28, 8, 112, 104, 8, 96, 4]
abbrev dktX9_turned_0 : List UInt8 := dkwX9_turned_0 ++ dktX9_turned_1
theorem dksX9_turned_0 : cX9_turned.data.toList.drop 0 = dktX9_turned_0 := by decide +kernel
theorem dksX9_turned_1 : cX9_turned.data.toList.drop 24 = dktX9_turned_1 := dk_seg dksX9_turned_0 24 rfl rfl
theorem dX9_turned_0 : decode cX9_turned 0 = .ok (.iconst 0, 1) := dk_3 (dk_at dksX9_turned_0 0 rfl rfl)
theorem dX9_turned_1 : decode cX9_turned 1 = .ok (.istore_n 1, 1) := dk_60 (dk_at dksX9_turned_0 1 rfl rfl)
theorem dX9_turned_2 : decode cX9_turned 2 = .ok (.iconst 0, 1) := dk_3 (dk_at dksX9_turned_0 2 rfl rfl)
theorem dX9_turned_3 : decode cX9_turned 3 = .ok (.istore_n 2, 1) := dk_61 (dk_at dksX9_turned_0 3 rfl rfl)
theorem dX9_turned_4 : decode cX9_turned 4 = .ok (.iload_n 2, 1) := dk_28 (dk_at dksX9_turned_0 4 rfl rfl)
theorem dX9_turned_5 : decode cX9_turned 5 = .ok (.bipush 25, 2) := dk_16 25 (dk_at dksX9_turned_0 5 rfl rfl)
theorem dX9_turned_7 : decode cX9_turned 7 = .ok (.if_icmp .ge 31, 3) := dk_162 0 31 (dk_at dksX9_turned_0 7 rfl rfl)
theorem dX9_turned_10 : decode cX9_turned 10 = .ok (.iload_n 1, 1) := dk_27 (dk_at dksX9_turned_0 10 rfl rfl)
theorem dX9_turned_11 : decode cX9_turned 11 = .ok (.iload_n 0, 1) := dk_26 (dk_at dksX9_turned_0 11 rfl rfl)
theorem dX9_turned_12 : decode cX9_turned 12 = .ok (.iload_n 2, 1) := dk_28 (dk_at dksX9_turned_0 12 rfl rfl)
theorem dX9_turned_13 : decode cX9_turned 13 = .ok (.ishr, 1) := dk_122 (dk_at dksX9_turned_0 13 rfl rfl)
theorem dX9_turned_14 : decode cX9_turned 14 = .ok (.iconst 1, 1) := dk_4 (dk_at dksX9_turned_0 14 rfl rfl)
theorem dX9_turned_15 : decode cX9_turned 15 = .ok (.iand, 1) := dk_126 (dk_at dksX9_turned_0 15 rfl rfl)
theorem dX9_turned_16 : decode cX9_turned 16 = .ok (.iconst 5, 1) := dk_8 (dk_at dksX9_turned_0 16 rfl rfl)
theorem dX9_turned_17 : decode cX9_turned 17 = .ok (.iload_n 2, 1) := dk_28 (dk_at dksX9_turned_0 17 rfl rfl)
theorem dX9_turned_18 : decode cX9_turned 18 = .ok (.iconst 5, 1) := dk_8 (dk_at dksX9_turned_0 18 rfl rfl)
theorem dX9_turned_19 : decode cX9_turned 19 = .ok (.irem, 1) := dk_112 (dk_at dksX9_turned_0 19 rfl rfl)
theorem dX9_turned_20 : decode cX9_turned 20 = .ok (.imul, 1) := dk_104 (dk_at dksX9_turned_0 20 rfl rfl)
theorem dX9_turned_21 : decode cX9_turned 21 = .ok (.iconst 5, 1) := dk_8 (dk_at dksX9_turned_0 21 rfl rfl)
theorem dX9_turned_22 : decode cX9_turned 22 = .ok (.iadd, 1) := dk_96 (dk_at dksX9_turned_0 22 rfl rfl)
theorem dX9_turned_23 : decode cX9_turned 23 = .ok (.iconst 1, 1) := dk_4 (dk_at dksX9_turned_0 23 rfl rfl)
theorem dX9_turned_24 : decode cX9_turned 24 = .ok (.isub, 1) := dk_100 (dk_at dksX9_turned_1 0 rfl rfl)
theorem dX9_turned_25 : decode cX9_turned 25 = .ok (.iload_n 2, 1) := dk_28 (dk_at dksX9_turned_1 1 rfl rfl)
theorem dX9_turned_26 : decode cX9_turned 26 = .ok (.iconst 5, 1) := dk_8 (dk_at dksX9_turned_1 2 rfl rfl)
theorem dX9_turned_27 : decode cX9_turned 27 = .ok (.idiv, 1) := dk_108 (dk_at dksX9_turned_1 3 rfl rfl)
theorem dX9_turned_28 : decode cX9_turned 28 = .ok (.isub, 1) := dk_100 (dk_at dksX9_turned_1 4 rfl rfl)
theorem dX9_turned_29 : decode cX9_turned 29 = .ok (.ishl, 1) := dk_120 (dk_at dksX9_turned_1 5 rfl rfl)
theorem dX9_turned_30 : decode cX9_turned 30 = .ok (.ior, 1) := dk_128 (dk_at dksX9_turned_1 6 rfl rfl)
theorem dX9_turned_31 : decode cX9_turned 31 = .ok (.istore_n 1, 1) := dk_60 (dk_at dksX9_turned_1 7 rfl rfl)
theorem dX9_turned_32 : decode cX9_turned 32 = .ok (.iinc 2 1, 3) := dk_132 2 1 (dk_at dksX9_turned_1 8 rfl rfl)
theorem dX9_turned_35 : decode cX9_turned 35 = .ok (.goto (-31), 3) := dk_167 255 225 (dk_at dksX9_turned_1 11 rfl rfl)
theorem dX9_turned_38 : decode cX9_turned 38 = .ok (.iload_n 1, 1) := dk_27 (dk_at dksX9_turned_1 14 rfl rfl)
theorem dX9_turned_39 : decode cX9_turned 39 = .ok (.ireturn, 1) := dk_172 (dk_at dksX9_turned_1 15 rfl rfl)
abbrev cX9_allAgain : ByteArray := prog_21_method_31_code
def yX9_allAgain : MethodName := ⟨RX9, "allAgain", "()V"⟩
def dkwX9_allAgain_0 : List UInt8 := [42, 18, 9, 181, 0, 10, 42, 3, 181, 0, 124, 177]
abbrev dktX9_allAgain_0 : List UInt8 := dkwX9_allAgain_0 ++ []
theorem dksX9_allAgain_0 : cX9_allAgain.data.toList.drop 0 = dktX9_allAgain_0 := by decide +kernel
theorem dX9_allAgain_0 : decode cX9_allAgain 0 = .ok (.aload_n 0, 1) := dk_42 (dk_at dksX9_allAgain_0 0 rfl rfl)
theorem dX9_allAgain_1 : decode cX9_allAgain 1 = .ok (.ldc 9, 2) := dk_18 9 (dk_at dksX9_allAgain_0 1 rfl rfl)
theorem dX9_allAgain_3 : decode cX9_allAgain 3 = .ok (.putfield 10, 3) := dk_181 0 10 (dk_at dksX9_allAgain_0 3 rfl rfl)
theorem dX9_allAgain_6 : decode cX9_allAgain 6 = .ok (.aload_n 0, 1) := dk_42 (dk_at dksX9_allAgain_0 6 rfl rfl)
theorem dX9_allAgain_7 : decode cX9_allAgain 7 = .ok (.iconst 0, 1) := dk_3 (dk_at dksX9_allAgain_0 7 rfl rfl)
theorem dX9_allAgain_8 : decode cX9_allAgain 8 = .ok (.putfield 124, 3) := dk_181 0 124 (dk_at dksX9_allAgain_0 8 rfl rfl)
theorem dX9_allAgain_11 : decode cX9_allAgain 11 = .ok (.return_, 1) := dk_177 (dk_at dksX9_allAgain_0 11 rfl rfl)
abbrev cX9_laysBack : ByteArray := prog_21_method_34_code
def yX9_laysBack : MethodName := ⟨RX9, "laysBack", "()V"⟩
def dkwX9_laysBack_2 : List UInt8 := [42, 180, 0, 30, 27, 46, 79, 132, 1, 1, 167, 255, 224, 177]
abbrev dktX9_laysBack_2 : List UInt8 := dkwX9_laysBack_2 ++ []
def dkwX9_laysBack_1 : List UInt8 := [3, 60, 27, 8, 162, 0, 33, 42, 180, 0, 14, 27, 42, 180, 0, 27, 27, 46, 79, 42, 180, 0, 18, 27]
abbrev dktX9_laysBack_1 : List UInt8 := dkwX9_laysBack_1 ++ dktX9_laysBack_2
def dkwX9_laysBack_0 : List UInt8 := [42, 42, 180, 0, 147, 181, 0, 10, 42, 42, 180, 0, 150, 181, 0, 124, 42, 42, 180, 0, 153, 181, 0, 62]
abbrev dktX9_laysBack_0 : List UInt8 := dkwX9_laysBack_0 ++ dktX9_laysBack_1
theorem dksX9_laysBack_0 : cX9_laysBack.data.toList.drop 0 = dktX9_laysBack_0 := by decide +kernel
theorem dksX9_laysBack_1 : cX9_laysBack.data.toList.drop 24 = dktX9_laysBack_1 := dk_seg dksX9_laysBack_0 24 rfl rfl
theorem dksX9_laysBack_2 : cX9_laysBack.data.toList.drop 48 = dktX9_laysBack_2 := dk_seg dksX9_laysBack_1 24 rfl rfl
theorem dX9_laysBack_0 : decode cX9_laysBack 0 = .ok (.aload_n 0, 1) := dk_42 (dk_at dksX9_laysBack_0 0 rfl rfl)
theorem dX9_laysBack_1 : decode cX9_laysBack 1 = .ok (.aload_n 0, 1) := dk_42 (dk_at dksX9_laysBack_0 1 rfl rfl)
theorem dX9_laysBack_2 : decode cX9_laysBack 2 = .ok (.getfield 147, 3) := dk_180 0 147 (dk_at dksX9_laysBack_0 2 rfl rfl)
theorem dX9_laysBack_5 : decode cX9_laysBack 5 = .ok (.putfield 10, 3) := dk_181 0 10 (dk_at dksX9_laysBack_0 5 rfl rfl)
theorem dX9_laysBack_8 : decode cX9_laysBack 8 = .ok (.aload_n 0, 1) := dk_42 (dk_at dksX9_laysBack_0 8 rfl rfl)
theorem dX9_laysBack_9 : decode cX9_laysBack 9 = .ok (.aload_n 0, 1) := dk_42 (dk_at dksX9_laysBack_0 9 rfl rfl)
theorem dX9_laysBack_10 : decode cX9_laysBack 10 = .ok (.getfield 150, 3) := dk_180 0 150 (dk_at dksX9_laysBack_0 10 rfl rfl)
theorem dX9_laysBack_13 : decode cX9_laysBack 13 = .ok (.putfield 124, 3) := dk_181 0 124 (dk_at dksX9_laysBack_0 13 rfl rfl)
theorem dX9_laysBack_16 : decode cX9_laysBack 16 = .ok (.aload_n 0, 1) := dk_42 (dk_at dksX9_laysBack_0 16 rfl rfl)
theorem dX9_laysBack_17 : decode cX9_laysBack 17 = .ok (.aload_n 0, 1) := dk_42 (dk_at dksX9_laysBack_0 17 rfl rfl)
theorem dX9_laysBack_18 : decode cX9_laysBack 18 = .ok (.getfield 153, 3) := dk_180 0 153 (dk_at dksX9_laysBack_0 18 rfl rfl)
theorem dX9_laysBack_21 : decode cX9_laysBack 21 = .ok (.putfield 62, 3) := dk_181 0 62 (dk_at dksX9_laysBack_0 21 rfl rfl)
theorem dX9_laysBack_24 : decode cX9_laysBack 24 = .ok (.iconst 0, 1) := dk_3 (dk_at dksX9_laysBack_1 0 rfl rfl)
theorem dX9_laysBack_25 : decode cX9_laysBack 25 = .ok (.istore_n 1, 1) := dk_60 (dk_at dksX9_laysBack_1 1 rfl rfl)
theorem dX9_laysBack_26 : decode cX9_laysBack 26 = .ok (.iload_n 1, 1) := dk_27 (dk_at dksX9_laysBack_1 2 rfl rfl)
theorem dX9_laysBack_27 : decode cX9_laysBack 27 = .ok (.iconst 5, 1) := dk_8 (dk_at dksX9_laysBack_1 3 rfl rfl)
theorem dX9_laysBack_28 : decode cX9_laysBack 28 = .ok (.if_icmp .ge 33, 3) := dk_162 0 33 (dk_at dksX9_laysBack_1 4 rfl rfl)
theorem dX9_laysBack_31 : decode cX9_laysBack 31 = .ok (.aload_n 0, 1) := dk_42 (dk_at dksX9_laysBack_1 7 rfl rfl)
theorem dX9_laysBack_32 : decode cX9_laysBack 32 = .ok (.getfield 14, 3) := dk_180 0 14 (dk_at dksX9_laysBack_1 8 rfl rfl)
theorem dX9_laysBack_35 : decode cX9_laysBack 35 = .ok (.iload_n 1, 1) := dk_27 (dk_at dksX9_laysBack_1 11 rfl rfl)
theorem dX9_laysBack_36 : decode cX9_laysBack 36 = .ok (.aload_n 0, 1) := dk_42 (dk_at dksX9_laysBack_1 12 rfl rfl)
theorem dX9_laysBack_37 : decode cX9_laysBack 37 = .ok (.getfield 27, 3) := dk_180 0 27 (dk_at dksX9_laysBack_1 13 rfl rfl)
theorem dX9_laysBack_40 : decode cX9_laysBack 40 = .ok (.iload_n 1, 1) := dk_27 (dk_at dksX9_laysBack_1 16 rfl rfl)
theorem dX9_laysBack_41 : decode cX9_laysBack 41 = .ok (.iaload, 1) := dk_46 (dk_at dksX9_laysBack_1 17 rfl rfl)
theorem dX9_laysBack_42 : decode cX9_laysBack 42 = .ok (.iastore, 1) := dk_79 (dk_at dksX9_laysBack_1 18 rfl rfl)
theorem dX9_laysBack_43 : decode cX9_laysBack 43 = .ok (.aload_n 0, 1) := dk_42 (dk_at dksX9_laysBack_1 19 rfl rfl)
theorem dX9_laysBack_44 : decode cX9_laysBack 44 = .ok (.getfield 18, 3) := dk_180 0 18 (dk_at dksX9_laysBack_1 20 rfl rfl)
theorem dX9_laysBack_47 : decode cX9_laysBack 47 = .ok (.iload_n 1, 1) := dk_27 (dk_at dksX9_laysBack_1 23 rfl rfl)
theorem dX9_laysBack_48 : decode cX9_laysBack 48 = .ok (.aload_n 0, 1) := dk_42 (dk_at dksX9_laysBack_2 0 rfl rfl)
theorem dX9_laysBack_49 : decode cX9_laysBack 49 = .ok (.getfield 30, 3) := dk_180 0 30 (dk_at dksX9_laysBack_2 1 rfl rfl)
theorem dX9_laysBack_52 : decode cX9_laysBack 52 = .ok (.iload_n 1, 1) := dk_27 (dk_at dksX9_laysBack_2 4 rfl rfl)
theorem dX9_laysBack_53 : decode cX9_laysBack 53 = .ok (.iaload, 1) := dk_46 (dk_at dksX9_laysBack_2 5 rfl rfl)
theorem dX9_laysBack_54 : decode cX9_laysBack 54 = .ok (.iastore, 1) := dk_79 (dk_at dksX9_laysBack_2 6 rfl rfl)
theorem dX9_laysBack_55 : decode cX9_laysBack 55 = .ok (.iinc 1 1, 3) := dk_132 1 1 (dk_at dksX9_laysBack_2 7 rfl rfl)
theorem dX9_laysBack_58 : decode cX9_laysBack 58 = .ok (.goto (-32), 3) := dk_167 255 224 (dk_at dksX9_laysBack_2 10 rfl rfl)
theorem dX9_laysBack_61 : decode cX9_laysBack 61 = .ok (.return_, 1) := dk_177 (dk_at dksX9_laysBack_2 13 rfl rfl)
abbrev cX9_cell : ByteArray := prog_21_method_36_code
def yX9_cell : MethodName := ⟨RX9, "cell", "(II)I"⟩
def dkwX9_cell_3 : List UInt8 := [42, 180, 0, 10, 27, 184, 0, 79, 184, 0, 82, 172, 42, 16, 254, 182, 0, 52, 172]
abbrev dktX9_cell_3 : List UInt8 := dkwX9_cell_3 ++ []
def dkwX9_cell_2 : List UInt8 := [42, 180, 0, 10, 27, 122, 4, 126, 172, 4, 27, 120, 184, 0, 69, 42, 180, 0, 10, 126, 184, 0, 82, 172]
abbrev dktX9_cell_2 : List UInt8 := dkwX9_cell_2 ++ dktX9_cell_3
def dkwX9_cell_1 : List UInt8 := [170, 0, 0, 0, 0, 62, 0, 0, 0, 0, 0, 0, 0, 2, 0, 0, 0, 26, 0, 0, 0, 35, 0, 0, 0, 50]
abbrev dktX9_cell_1 : List UInt8 := dkwX9_cell_1 ++ dktX9_cell_2
def dkwX9_cell_0 : List UInt8 := [27, 184, 0, 130, 154, 0, 9, 42, 2, 182, 0, 52, 172, 28]
abbrev dktX9_cell_0 : List UInt8 := dkwX9_cell_0 ++ dktX9_cell_1
theorem dksX9_cell_0 : cX9_cell.data.toList.drop 0 = dktX9_cell_0 := by decide +kernel
theorem dksX9_cell_1 : cX9_cell.data.toList.drop 14 = dktX9_cell_1 := dk_seg dksX9_cell_0 14 rfl rfl
theorem dksX9_cell_2 : cX9_cell.data.toList.drop 40 = dktX9_cell_2 := dk_seg dksX9_cell_1 26 rfl rfl
theorem dksX9_cell_3 : cX9_cell.data.toList.drop 64 = dktX9_cell_3 := dk_seg dksX9_cell_2 24 rfl rfl
theorem dX9_cell_0 : decode cX9_cell 0 = .ok (.iload_n 1, 1) := dk_27 (dk_at dksX9_cell_0 0 rfl rfl)
theorem dX9_cell_1 : decode cX9_cell 1 = .ok (.invokestatic 130, 3) := dk_184 0 130 (dk_at dksX9_cell_0 1 rfl rfl)
theorem dX9_cell_4 : decode cX9_cell 4 = .ok (.ifCond .ne 9, 3) := dk_154 0 9 (dk_at dksX9_cell_0 4 rfl rfl)
theorem dX9_cell_7 : decode cX9_cell 7 = .ok (.aload_n 0, 1) := dk_42 (dk_at dksX9_cell_0 7 rfl rfl)
theorem dX9_cell_8 : decode cX9_cell 8 = .ok (.iconst (-1), 1) := dk_2 (dk_at dksX9_cell_0 8 rfl rfl)
theorem dX9_cell_9 : decode cX9_cell 9 = .ok (.invokevirtual 52, 3) := dk_182 0 52 (dk_at dksX9_cell_0 9 rfl rfl)
theorem dX9_cell_12 : decode cX9_cell 12 = .ok (.ireturn, 1) := dk_172 (dk_at dksX9_cell_0 12 rfl rfl)
theorem dX9_cell_13 : decode cX9_cell 13 = .ok (.iload_n 2, 1) := dk_28 (dk_at dksX9_cell_0 13 rfl rfl)
theorem dX9_cell_14 : decode cX9_cell 14 = .ok (.tableswitch 62 0 2 #[26, 35, 50], 26) := by decide +kernel
theorem dX9_cell_40 : decode cX9_cell 40 = .ok (.aload_n 0, 1) := dk_42 (dk_at dksX9_cell_2 0 rfl rfl)
theorem dX9_cell_41 : decode cX9_cell 41 = .ok (.getfield 10, 3) := dk_180 0 10 (dk_at dksX9_cell_2 1 rfl rfl)
theorem dX9_cell_44 : decode cX9_cell 44 = .ok (.iload_n 1, 1) := dk_27 (dk_at dksX9_cell_2 4 rfl rfl)
theorem dX9_cell_45 : decode cX9_cell 45 = .ok (.ishr, 1) := dk_122 (dk_at dksX9_cell_2 5 rfl rfl)
theorem dX9_cell_46 : decode cX9_cell 46 = .ok (.iconst 1, 1) := dk_4 (dk_at dksX9_cell_2 6 rfl rfl)
theorem dX9_cell_47 : decode cX9_cell 47 = .ok (.iand, 1) := dk_126 (dk_at dksX9_cell_2 7 rfl rfl)
theorem dX9_cell_48 : decode cX9_cell 48 = .ok (.ireturn, 1) := dk_172 (dk_at dksX9_cell_2 8 rfl rfl)
theorem dX9_cell_49 : decode cX9_cell 49 = .ok (.iconst 1, 1) := dk_4 (dk_at dksX9_cell_2 9 rfl rfl)
theorem dX9_cell_50 : decode cX9_cell 50 = .ok (.iload_n 1, 1) := dk_27 (dk_at dksX9_cell_2 10 rfl rfl)
theorem dX9_cell_51 : decode cX9_cell 51 = .ok (.ishl, 1) := dk_120 (dk_at dksX9_cell_2 11 rfl rfl)
theorem dX9_cell_52 : decode cX9_cell 52 = .ok (.invokestatic 69, 3) := dk_184 0 69 (dk_at dksX9_cell_2 12 rfl rfl)
theorem dX9_cell_55 : decode cX9_cell 55 = .ok (.aload_n 0, 1) := dk_42 (dk_at dksX9_cell_2 15 rfl rfl)
theorem dX9_cell_56 : decode cX9_cell 56 = .ok (.getfield 10, 3) := dk_180 0 10 (dk_at dksX9_cell_2 16 rfl rfl)
theorem dX9_cell_59 : decode cX9_cell 59 = .ok (.iand, 1) := dk_126 (dk_at dksX9_cell_2 19 rfl rfl)
theorem dX9_cell_60 : decode cX9_cell 60 = .ok (.invokestatic 82, 3) := dk_184 0 82 (dk_at dksX9_cell_2 20 rfl rfl)
theorem dX9_cell_63 : decode cX9_cell 63 = .ok (.ireturn, 1) := dk_172 (dk_at dksX9_cell_2 23 rfl rfl)
theorem dX9_cell_64 : decode cX9_cell 64 = .ok (.aload_n 0, 1) := dk_42 (dk_at dksX9_cell_3 0 rfl rfl)
theorem dX9_cell_65 : decode cX9_cell 65 = .ok (.getfield 10, 3) := dk_180 0 10 (dk_at dksX9_cell_3 1 rfl rfl)
theorem dX9_cell_68 : decode cX9_cell 68 = .ok (.iload_n 1, 1) := dk_27 (dk_at dksX9_cell_3 4 rfl rfl)
theorem dX9_cell_69 : decode cX9_cell 69 = .ok (.invokestatic 79, 3) := dk_184 0 79 (dk_at dksX9_cell_3 5 rfl rfl)
theorem dX9_cell_72 : decode cX9_cell 72 = .ok (.invokestatic 82, 3) := dk_184 0 82 (dk_at dksX9_cell_3 8 rfl rfl)
theorem dX9_cell_75 : decode cX9_cell 75 = .ok (.ireturn, 1) := dk_172 (dk_at dksX9_cell_3 11 rfl rfl)
theorem dX9_cell_76 : decode cX9_cell 76 = .ok (.aload_n 0, 1) := dk_42 (dk_at dksX9_cell_3 12 rfl rfl)
theorem dX9_cell_77 : decode cX9_cell 77 = .ok (.bipush (-2), 2) := dk_16 254 (dk_at dksX9_cell_3 13 rfl rfl)
theorem dX9_cell_79 : decode cX9_cell 79 = .ok (.invokevirtual 52, 3) := dk_182 0 52 (dk_at dksX9_cell_3 15 rfl rfl)
theorem dX9_cell_82 : decode cX9_cell 82 = .ok (.ireturn, 1) := dk_172 (dk_at dksX9_cell_3 18 rfl rfl)
abbrev cX9_besideOf : ByteArray := prog_21_method_13_code
def yX9_besideOf : MethodName := ⟨RX9, "besideOf", "(I)I"⟩
def dkwX9_besideOf_2 : List UInt8 := [122, 128, 18, 9, 126, 172]
abbrev dktX9_besideOf_2 : List UInt8 := dkwX9_besideOf_2 ++ []
def dkwX9_besideOf_1 : List UInt8 := [7, 120, 61, 26, 8, 120, 26, 8, 122, 128, 26, 28, 2, 130, 126, 4, 120, 128, 26, 27, 2, 130, 126, 4]
abbrev dktX9_besideOf_1 : List UInt8 := dkwX9_besideOf_1 ++ dktX9_besideOf_2
def dkwX9_besideOf_0 : List UInt8 := [3, 60, 3, 61, 28, 8, 162, 0, 17, 27, 4, 8, 28, 104, 120, 128, 60, 132, 2, 1, 167, 255, 240, 27]
abbrev dktX9_besideOf_0 : List UInt8 := dkwX9_besideOf_0 ++ dktX9_besideOf_1
theorem dksX9_besideOf_0 : cX9_besideOf.data.toList.drop 0 = dktX9_besideOf_0 := by decide +kernel
theorem dksX9_besideOf_1 : cX9_besideOf.data.toList.drop 24 = dktX9_besideOf_1 := dk_seg dksX9_besideOf_0 24 rfl rfl
theorem dksX9_besideOf_2 : cX9_besideOf.data.toList.drop 48 = dktX9_besideOf_2 := dk_seg dksX9_besideOf_1 24 rfl rfl
theorem dX9_besideOf_0 : decode cX9_besideOf 0 = .ok (.iconst 0, 1) := dk_3 (dk_at dksX9_besideOf_0 0 rfl rfl)
theorem dX9_besideOf_1 : decode cX9_besideOf 1 = .ok (.istore_n 1, 1) := dk_60 (dk_at dksX9_besideOf_0 1 rfl rfl)
theorem dX9_besideOf_2 : decode cX9_besideOf 2 = .ok (.iconst 0, 1) := dk_3 (dk_at dksX9_besideOf_0 2 rfl rfl)
theorem dX9_besideOf_3 : decode cX9_besideOf 3 = .ok (.istore_n 2, 1) := dk_61 (dk_at dksX9_besideOf_0 3 rfl rfl)
theorem dX9_besideOf_4 : decode cX9_besideOf 4 = .ok (.iload_n 2, 1) := dk_28 (dk_at dksX9_besideOf_0 4 rfl rfl)
theorem dX9_besideOf_5 : decode cX9_besideOf 5 = .ok (.iconst 5, 1) := dk_8 (dk_at dksX9_besideOf_0 5 rfl rfl)
theorem dX9_besideOf_6 : decode cX9_besideOf 6 = .ok (.if_icmp .ge 17, 3) := dk_162 0 17 (dk_at dksX9_besideOf_0 6 rfl rfl)
theorem dX9_besideOf_9 : decode cX9_besideOf 9 = .ok (.iload_n 1, 1) := dk_27 (dk_at dksX9_besideOf_0 9 rfl rfl)
theorem dX9_besideOf_10 : decode cX9_besideOf 10 = .ok (.iconst 1, 1) := dk_4 (dk_at dksX9_besideOf_0 10 rfl rfl)
theorem dX9_besideOf_11 : decode cX9_besideOf 11 = .ok (.iconst 5, 1) := dk_8 (dk_at dksX9_besideOf_0 11 rfl rfl)
theorem dX9_besideOf_12 : decode cX9_besideOf 12 = .ok (.iload_n 2, 1) := dk_28 (dk_at dksX9_besideOf_0 12 rfl rfl)
theorem dX9_besideOf_13 : decode cX9_besideOf 13 = .ok (.imul, 1) := dk_104 (dk_at dksX9_besideOf_0 13 rfl rfl)
theorem dX9_besideOf_14 : decode cX9_besideOf 14 = .ok (.ishl, 1) := dk_120 (dk_at dksX9_besideOf_0 14 rfl rfl)
theorem dX9_besideOf_15 : decode cX9_besideOf 15 = .ok (.ior, 1) := dk_128 (dk_at dksX9_besideOf_0 15 rfl rfl)
theorem dX9_besideOf_16 : decode cX9_besideOf 16 = .ok (.istore_n 1, 1) := dk_60 (dk_at dksX9_besideOf_0 16 rfl rfl)
theorem dX9_besideOf_17 : decode cX9_besideOf 17 = .ok (.iinc 2 1, 3) := dk_132 2 1 (dk_at dksX9_besideOf_0 17 rfl rfl)
theorem dX9_besideOf_20 : decode cX9_besideOf 20 = .ok (.goto (-16), 3) := dk_167 255 240 (dk_at dksX9_besideOf_0 20 rfl rfl)
theorem dX9_besideOf_23 : decode cX9_besideOf 23 = .ok (.iload_n 1, 1) := dk_27 (dk_at dksX9_besideOf_0 23 rfl rfl)
theorem dX9_besideOf_24 : decode cX9_besideOf 24 = .ok (.iconst 4, 1) := dk_7 (dk_at dksX9_besideOf_1 0 rfl rfl)
theorem dX9_besideOf_25 : decode cX9_besideOf 25 = .ok (.ishl, 1) := dk_120 (dk_at dksX9_besideOf_1 1 rfl rfl)
theorem dX9_besideOf_26 : decode cX9_besideOf 26 = .ok (.istore_n 2, 1) := dk_61 (dk_at dksX9_besideOf_1 2 rfl rfl)
theorem dX9_besideOf_27 : decode cX9_besideOf 27 = .ok (.iload_n 0, 1) := dk_26 (dk_at dksX9_besideOf_1 3 rfl rfl)
theorem dX9_besideOf_28 : decode cX9_besideOf 28 = .ok (.iconst 5, 1) := dk_8 (dk_at dksX9_besideOf_1 4 rfl rfl)
theorem dX9_besideOf_29 : decode cX9_besideOf 29 = .ok (.ishl, 1) := dk_120 (dk_at dksX9_besideOf_1 5 rfl rfl)
theorem dX9_besideOf_30 : decode cX9_besideOf 30 = .ok (.iload_n 0, 1) := dk_26 (dk_at dksX9_besideOf_1 6 rfl rfl)
theorem dX9_besideOf_31 : decode cX9_besideOf 31 = .ok (.iconst 5, 1) := dk_8 (dk_at dksX9_besideOf_1 7 rfl rfl)
theorem dX9_besideOf_32 : decode cX9_besideOf 32 = .ok (.ishr, 1) := dk_122 (dk_at dksX9_besideOf_1 8 rfl rfl)
theorem dX9_besideOf_33 : decode cX9_besideOf 33 = .ok (.ior, 1) := dk_128 (dk_at dksX9_besideOf_1 9 rfl rfl)
theorem dX9_besideOf_34 : decode cX9_besideOf 34 = .ok (.iload_n 0, 1) := dk_26 (dk_at dksX9_besideOf_1 10 rfl rfl)
theorem dX9_besideOf_35 : decode cX9_besideOf 35 = .ok (.iload_n 2, 1) := dk_28 (dk_at dksX9_besideOf_1 11 rfl rfl)
theorem dX9_besideOf_36 : decode cX9_besideOf 36 = .ok (.iconst (-1), 1) := dk_2 (dk_at dksX9_besideOf_1 12 rfl rfl)
theorem dX9_besideOf_37 : decode cX9_besideOf 37 = .ok (.ixor, 1) := dk_130 (dk_at dksX9_besideOf_1 13 rfl rfl)
theorem dX9_besideOf_38 : decode cX9_besideOf 38 = .ok (.iand, 1) := dk_126 (dk_at dksX9_besideOf_1 14 rfl rfl)
theorem dX9_besideOf_39 : decode cX9_besideOf 39 = .ok (.iconst 1, 1) := dk_4 (dk_at dksX9_besideOf_1 15 rfl rfl)
theorem dX9_besideOf_40 : decode cX9_besideOf 40 = .ok (.ishl, 1) := dk_120 (dk_at dksX9_besideOf_1 16 rfl rfl)
theorem dX9_besideOf_41 : decode cX9_besideOf 41 = .ok (.ior, 1) := dk_128 (dk_at dksX9_besideOf_1 17 rfl rfl)
theorem dX9_besideOf_42 : decode cX9_besideOf 42 = .ok (.iload_n 0, 1) := dk_26 (dk_at dksX9_besideOf_1 18 rfl rfl)
theorem dX9_besideOf_43 : decode cX9_besideOf 43 = .ok (.iload_n 1, 1) := dk_27 (dk_at dksX9_besideOf_1 19 rfl rfl)
theorem dX9_besideOf_44 : decode cX9_besideOf 44 = .ok (.iconst (-1), 1) := dk_2 (dk_at dksX9_besideOf_1 20 rfl rfl)
theorem dX9_besideOf_45 : decode cX9_besideOf 45 = .ok (.ixor, 1) := dk_130 (dk_at dksX9_besideOf_1 21 rfl rfl)
theorem dX9_besideOf_46 : decode cX9_besideOf 46 = .ok (.iand, 1) := dk_126 (dk_at dksX9_besideOf_1 22 rfl rfl)
theorem dX9_besideOf_47 : decode cX9_besideOf 47 = .ok (.iconst 1, 1) := dk_4 (dk_at dksX9_besideOf_1 23 rfl rfl)
theorem dX9_besideOf_48 : decode cX9_besideOf 48 = .ok (.ishr, 1) := dk_122 (dk_at dksX9_besideOf_2 0 rfl rfl)
theorem dX9_besideOf_49 : decode cX9_besideOf 49 = .ok (.ior, 1) := dk_128 (dk_at dksX9_besideOf_2 1 rfl rfl)
theorem dX9_besideOf_50 : decode cX9_besideOf 50 = .ok (.ldc 9, 2) := dk_18 9 (dk_at dksX9_besideOf_2 2 rfl rfl)
theorem dX9_besideOf_52 : decode cX9_besideOf 52 = .ok (.iand, 1) := dk_126 (dk_at dksX9_besideOf_2 4 rfl rfl)
theorem dX9_besideOf_53 : decode cX9_besideOf 53 = .ok (.ireturn, 1) := dk_172 (dk_at dksX9_besideOf_2 5 rfl rfl)
abbrev cX9_bits : ByteArray := prog_21_method_10_code
def yX9_bits : MethodName := ⟨RX9, "bits", "(I)I"⟩
def dkwX9_bits_1 : List UInt8 := [27, 172]
abbrev dktX9_bits_1 : List UInt8 := dkwX9_bits_1 ++ []
def dkwX9_bits_0 : List UInt8 := [3, 60, 3, 61, 28, 16, 25, 162, 0, 17, 27, 26, 28, 122, 4, 126, 96, 60, 132, 2, 1, 167, 255, 239]
abbrev dktX9_bits_0 : List UInt8 := dkwX9_bits_0 ++ dktX9_bits_1
theorem dksX9_bits_0 : cX9_bits.data.toList.drop 0 = dktX9_bits_0 := by decide +kernel
theorem dksX9_bits_1 : cX9_bits.data.toList.drop 24 = dktX9_bits_1 := dk_seg dksX9_bits_0 24 rfl rfl
theorem dX9_bits_0 : decode cX9_bits 0 = .ok (.iconst 0, 1) := dk_3 (dk_at dksX9_bits_0 0 rfl rfl)
theorem dX9_bits_1 : decode cX9_bits 1 = .ok (.istore_n 1, 1) := dk_60 (dk_at dksX9_bits_0 1 rfl rfl)
theorem dX9_bits_2 : decode cX9_bits 2 = .ok (.iconst 0, 1) := dk_3 (dk_at dksX9_bits_0 2 rfl rfl)
theorem dX9_bits_3 : decode cX9_bits 3 = .ok (.istore_n 2, 1) := dk_61 (dk_at dksX9_bits_0 3 rfl rfl)
theorem dX9_bits_4 : decode cX9_bits 4 = .ok (.iload_n 2, 1) := dk_28 (dk_at dksX9_bits_0 4 rfl rfl)
theorem dX9_bits_5 : decode cX9_bits 5 = .ok (.bipush 25, 2) := dk_16 25 (dk_at dksX9_bits_0 5 rfl rfl)
theorem dX9_bits_7 : decode cX9_bits 7 = .ok (.if_icmp .ge 17, 3) := dk_162 0 17 (dk_at dksX9_bits_0 7 rfl rfl)
theorem dX9_bits_10 : decode cX9_bits 10 = .ok (.iload_n 1, 1) := dk_27 (dk_at dksX9_bits_0 10 rfl rfl)
theorem dX9_bits_11 : decode cX9_bits 11 = .ok (.iload_n 0, 1) := dk_26 (dk_at dksX9_bits_0 11 rfl rfl)
theorem dX9_bits_12 : decode cX9_bits 12 = .ok (.iload_n 2, 1) := dk_28 (dk_at dksX9_bits_0 12 rfl rfl)
theorem dX9_bits_13 : decode cX9_bits 13 = .ok (.ishr, 1) := dk_122 (dk_at dksX9_bits_0 13 rfl rfl)
theorem dX9_bits_14 : decode cX9_bits 14 = .ok (.iconst 1, 1) := dk_4 (dk_at dksX9_bits_0 14 rfl rfl)
theorem dX9_bits_15 : decode cX9_bits 15 = .ok (.iand, 1) := dk_126 (dk_at dksX9_bits_0 15 rfl rfl)
theorem dX9_bits_16 : decode cX9_bits 16 = .ok (.iadd, 1) := dk_96 (dk_at dksX9_bits_0 16 rfl rfl)
theorem dX9_bits_17 : decode cX9_bits 17 = .ok (.istore_n 1, 1) := dk_60 (dk_at dksX9_bits_0 17 rfl rfl)
theorem dX9_bits_18 : decode cX9_bits 18 = .ok (.iinc 2 1, 3) := dk_132 2 1 (dk_at dksX9_bits_0 18 rfl rfl)
theorem dX9_bits_21 : decode cX9_bits 21 = .ok (.goto (-17), 3) := dk_167 255 239 (dk_at dksX9_bits_0 21 rfl rfl)
theorem dX9_bits_24 : decode cX9_bits 24 = .ok (.iload_n 1, 1) := dk_27 (dk_at dksX9_bits_1 0 rfl rfl)
theorem dX9_bits_25 : decode cX9_bits 25 = .ok (.ireturn, 1) := dk_172 (dk_at dksX9_bits_1 1 rfl rfl)
abbrev cX9_heapOf : ByteArray := prog_21_method_14_code
def yX9_heapOf : MethodName := ⟨RX9, "heapOf", "(II)I"⟩
def dkwX9_heapOf_1 : List UInt8 := [29, 128, 61, 167, 255, 237, 28, 172]
abbrev dktX9_heapOf_1 : List UInt8 := dkwX9_heapOf_1 ++ []
def dkwX9_heapOf_0 : List UInt8 := [4, 27, 120, 26, 126, 61, 28, 62, 29, 153, 0, 21, 28, 184, 0, 69, 26, 126, 28, 2, 130, 126, 62, 28]
abbrev dktX9_heapOf_0 : List UInt8 := dkwX9_heapOf_0 ++ dktX9_heapOf_1
theorem dksX9_heapOf_0 : cX9_heapOf.data.toList.drop 0 = dktX9_heapOf_0 := by decide +kernel
theorem dksX9_heapOf_1 : cX9_heapOf.data.toList.drop 24 = dktX9_heapOf_1 := dk_seg dksX9_heapOf_0 24 rfl rfl
theorem dX9_heapOf_0 : decode cX9_heapOf 0 = .ok (.iconst 1, 1) := dk_4 (dk_at dksX9_heapOf_0 0 rfl rfl)
theorem dX9_heapOf_1 : decode cX9_heapOf 1 = .ok (.iload_n 1, 1) := dk_27 (dk_at dksX9_heapOf_0 1 rfl rfl)
theorem dX9_heapOf_2 : decode cX9_heapOf 2 = .ok (.ishl, 1) := dk_120 (dk_at dksX9_heapOf_0 2 rfl rfl)
theorem dX9_heapOf_3 : decode cX9_heapOf 3 = .ok (.iload_n 0, 1) := dk_26 (dk_at dksX9_heapOf_0 3 rfl rfl)
theorem dX9_heapOf_4 : decode cX9_heapOf 4 = .ok (.iand, 1) := dk_126 (dk_at dksX9_heapOf_0 4 rfl rfl)
theorem dX9_heapOf_5 : decode cX9_heapOf 5 = .ok (.istore_n 2, 1) := dk_61 (dk_at dksX9_heapOf_0 5 rfl rfl)
theorem dX9_heapOf_6 : decode cX9_heapOf 6 = .ok (.iload_n 2, 1) := dk_28 (dk_at dksX9_heapOf_0 6 rfl rfl)
theorem dX9_heapOf_7 : decode cX9_heapOf 7 = .ok (.istore_n 3, 1) := dk_62 (dk_at dksX9_heapOf_0 7 rfl rfl)
theorem dX9_heapOf_8 : decode cX9_heapOf 8 = .ok (.iload_n 3, 1) := dk_29 (dk_at dksX9_heapOf_0 8 rfl rfl)
theorem dX9_heapOf_9 : decode cX9_heapOf 9 = .ok (.ifCond .eq 21, 3) := dk_153 0 21 (dk_at dksX9_heapOf_0 9 rfl rfl)
theorem dX9_heapOf_12 : decode cX9_heapOf 12 = .ok (.iload_n 2, 1) := dk_28 (dk_at dksX9_heapOf_0 12 rfl rfl)
theorem dX9_heapOf_13 : decode cX9_heapOf 13 = .ok (.invokestatic 69, 3) := dk_184 0 69 (dk_at dksX9_heapOf_0 13 rfl rfl)
theorem dX9_heapOf_16 : decode cX9_heapOf 16 = .ok (.iload_n 0, 1) := dk_26 (dk_at dksX9_heapOf_0 16 rfl rfl)
theorem dX9_heapOf_17 : decode cX9_heapOf 17 = .ok (.iand, 1) := dk_126 (dk_at dksX9_heapOf_0 17 rfl rfl)
theorem dX9_heapOf_18 : decode cX9_heapOf 18 = .ok (.iload_n 2, 1) := dk_28 (dk_at dksX9_heapOf_0 18 rfl rfl)
theorem dX9_heapOf_19 : decode cX9_heapOf 19 = .ok (.iconst (-1), 1) := dk_2 (dk_at dksX9_heapOf_0 19 rfl rfl)
theorem dX9_heapOf_20 : decode cX9_heapOf 20 = .ok (.ixor, 1) := dk_130 (dk_at dksX9_heapOf_0 20 rfl rfl)
theorem dX9_heapOf_21 : decode cX9_heapOf 21 = .ok (.iand, 1) := dk_126 (dk_at dksX9_heapOf_0 21 rfl rfl)
theorem dX9_heapOf_22 : decode cX9_heapOf 22 = .ok (.istore_n 3, 1) := dk_62 (dk_at dksX9_heapOf_0 22 rfl rfl)
theorem dX9_heapOf_23 : decode cX9_heapOf 23 = .ok (.iload_n 2, 1) := dk_28 (dk_at dksX9_heapOf_0 23 rfl rfl)
theorem dX9_heapOf_24 : decode cX9_heapOf 24 = .ok (.iload_n 3, 1) := dk_29 (dk_at dksX9_heapOf_1 0 rfl rfl)
theorem dX9_heapOf_25 : decode cX9_heapOf 25 = .ok (.ior, 1) := dk_128 (dk_at dksX9_heapOf_1 1 rfl rfl)
theorem dX9_heapOf_26 : decode cX9_heapOf 26 = .ok (.istore_n 2, 1) := dk_61 (dk_at dksX9_heapOf_1 2 rfl rfl)
theorem dX9_heapOf_27 : decode cX9_heapOf 27 = .ok (.goto (-19), 3) := dk_167 255 237 (dk_at dksX9_heapOf_1 3 rfl rfl)
theorem dX9_heapOf_30 : decode cX9_heapOf 30 = .ok (.iload_n 2, 1) := dk_28 (dk_at dksX9_heapOf_1 6 rfl rfl)
theorem dX9_heapOf_31 : decode cX9_heapOf 31 = .ok (.ireturn, 1) := dk_172 (dk_at dksX9_heapOf_1 7 rfl rfl)
abbrev cX9_heir : ByteArray := prog_21_method_37_code
def yX9_heir : MethodName := ⟨RX9, "heir", "(II)I"⟩
def dkwX9_heir_2 : List UInt8 := [180, 0, 10, 27, 182, 0, 98, 167, 0, 9, 42, 16, 254, 182, 0, 52, 172]
abbrev dktX9_heir_2 : List UInt8 := dkwX9_heir_2 ++ []
def dkwX9_heir_1 : List UInt8 := [167, 0, 40, 28, 4, 160, 0, 12, 42, 180, 0, 18, 27, 46, 167, 0, 26, 28, 5, 160, 0, 15, 42, 42]
abbrev dktX9_heir_1 : List UInt8 := dkwX9_heir_1 ++ dktX9_heir_2
def dkwX9_heir_0 : List UInt8 := [42, 27, 182, 0, 168, 154, 0, 9, 42, 2, 182, 0, 52, 172, 28, 154, 0, 12, 42, 180, 0, 14, 27, 46]
abbrev dktX9_heir_0 : List UInt8 := dkwX9_heir_0 ++ dktX9_heir_1
theorem dksX9_heir_0 : cX9_heir.data.toList.drop 0 = dktX9_heir_0 := by decide +kernel
theorem dksX9_heir_1 : cX9_heir.data.toList.drop 24 = dktX9_heir_1 := dk_seg dksX9_heir_0 24 rfl rfl
theorem dksX9_heir_2 : cX9_heir.data.toList.drop 48 = dktX9_heir_2 := dk_seg dksX9_heir_1 24 rfl rfl
theorem dX9_heir_0 : decode cX9_heir 0 = .ok (.aload_n 0, 1) := dk_42 (dk_at dksX9_heir_0 0 rfl rfl)
theorem dX9_heir_1 : decode cX9_heir 1 = .ok (.iload_n 1, 1) := dk_27 (dk_at dksX9_heir_0 1 rfl rfl)
theorem dX9_heir_2 : decode cX9_heir 2 = .ok (.invokevirtual 168, 3) := dk_182 0 168 (dk_at dksX9_heir_0 2 rfl rfl)
theorem dX9_heir_5 : decode cX9_heir 5 = .ok (.ifCond .ne 9, 3) := dk_154 0 9 (dk_at dksX9_heir_0 5 rfl rfl)
theorem dX9_heir_8 : decode cX9_heir 8 = .ok (.aload_n 0, 1) := dk_42 (dk_at dksX9_heir_0 8 rfl rfl)
theorem dX9_heir_9 : decode cX9_heir 9 = .ok (.iconst (-1), 1) := dk_2 (dk_at dksX9_heir_0 9 rfl rfl)
theorem dX9_heir_10 : decode cX9_heir 10 = .ok (.invokevirtual 52, 3) := dk_182 0 52 (dk_at dksX9_heir_0 10 rfl rfl)
theorem dX9_heir_13 : decode cX9_heir 13 = .ok (.ireturn, 1) := dk_172 (dk_at dksX9_heir_0 13 rfl rfl)
theorem dX9_heir_14 : decode cX9_heir 14 = .ok (.iload_n 2, 1) := dk_28 (dk_at dksX9_heir_0 14 rfl rfl)
theorem dX9_heir_15 : decode cX9_heir 15 = .ok (.ifCond .ne 12, 3) := dk_154 0 12 (dk_at dksX9_heir_0 15 rfl rfl)
theorem dX9_heir_18 : decode cX9_heir 18 = .ok (.aload_n 0, 1) := dk_42 (dk_at dksX9_heir_0 18 rfl rfl)
theorem dX9_heir_19 : decode cX9_heir 19 = .ok (.getfield 14, 3) := dk_180 0 14 (dk_at dksX9_heir_0 19 rfl rfl)
theorem dX9_heir_22 : decode cX9_heir 22 = .ok (.iload_n 1, 1) := dk_27 (dk_at dksX9_heir_0 22 rfl rfl)
theorem dX9_heir_23 : decode cX9_heir 23 = .ok (.iaload, 1) := dk_46 (dk_at dksX9_heir_0 23 rfl rfl)
theorem dX9_heir_24 : decode cX9_heir 24 = .ok (.goto 40, 3) := dk_167 0 40 (dk_at dksX9_heir_1 0 rfl rfl)
theorem dX9_heir_27 : decode cX9_heir 27 = .ok (.iload_n 2, 1) := dk_28 (dk_at dksX9_heir_1 3 rfl rfl)
theorem dX9_heir_28 : decode cX9_heir 28 = .ok (.iconst 1, 1) := dk_4 (dk_at dksX9_heir_1 4 rfl rfl)
theorem dX9_heir_29 : decode cX9_heir 29 = .ok (.if_icmp .ne 12, 3) := dk_160 0 12 (dk_at dksX9_heir_1 5 rfl rfl)
theorem dX9_heir_32 : decode cX9_heir 32 = .ok (.aload_n 0, 1) := dk_42 (dk_at dksX9_heir_1 8 rfl rfl)
theorem dX9_heir_33 : decode cX9_heir 33 = .ok (.getfield 18, 3) := dk_180 0 18 (dk_at dksX9_heir_1 9 rfl rfl)
theorem dX9_heir_36 : decode cX9_heir 36 = .ok (.iload_n 1, 1) := dk_27 (dk_at dksX9_heir_1 12 rfl rfl)
theorem dX9_heir_37 : decode cX9_heir 37 = .ok (.iaload, 1) := dk_46 (dk_at dksX9_heir_1 13 rfl rfl)
theorem dX9_heir_38 : decode cX9_heir 38 = .ok (.goto 26, 3) := dk_167 0 26 (dk_at dksX9_heir_1 14 rfl rfl)
theorem dX9_heir_41 : decode cX9_heir 41 = .ok (.iload_n 2, 1) := dk_28 (dk_at dksX9_heir_1 17 rfl rfl)
theorem dX9_heir_42 : decode cX9_heir 42 = .ok (.iconst 2, 1) := dk_5 (dk_at dksX9_heir_1 18 rfl rfl)
theorem dX9_heir_43 : decode cX9_heir 43 = .ok (.if_icmp .ne 15, 3) := dk_160 0 15 (dk_at dksX9_heir_1 19 rfl rfl)
theorem dX9_heir_46 : decode cX9_heir 46 = .ok (.aload_n 0, 1) := dk_42 (dk_at dksX9_heir_1 22 rfl rfl)
theorem dX9_heir_47 : decode cX9_heir 47 = .ok (.aload_n 0, 1) := dk_42 (dk_at dksX9_heir_1 23 rfl rfl)
theorem dX9_heir_48 : decode cX9_heir 48 = .ok (.getfield 10, 3) := dk_180 0 10 (dk_at dksX9_heir_2 0 rfl rfl)
theorem dX9_heir_51 : decode cX9_heir 51 = .ok (.iload_n 1, 1) := dk_27 (dk_at dksX9_heir_2 3 rfl rfl)
theorem dX9_heir_52 : decode cX9_heir 52 = .ok (.invokevirtual 98, 3) := dk_182 0 98 (dk_at dksX9_heir_2 4 rfl rfl)
theorem dX9_heir_55 : decode cX9_heir 55 = .ok (.goto 9, 3) := dk_167 0 9 (dk_at dksX9_heir_2 7 rfl rfl)
theorem dX9_heir_58 : decode cX9_heir 58 = .ok (.aload_n 0, 1) := dk_42 (dk_at dksX9_heir_2 10 rfl rfl)
theorem dX9_heir_59 : decode cX9_heir 59 = .ok (.bipush (-2), 2) := dk_16 254 (dk_at dksX9_heir_2 11 rfl rfl)
theorem dX9_heir_61 : decode cX9_heir 61 = .ok (.invokevirtual 52, 3) := dk_182 0 52 (dk_at dksX9_heir_2 13 rfl rfl)
theorem dX9_heir_64 : decode cX9_heir 64 = .ok (.ireturn, 1) := dk_172 (dk_at dksX9_heir_2 16 rfl rfl)
abbrev cX9_isHeir : ByteArray := prog_21_method_8_code
def yX9_isHeir : MethodName := ⟨RX9, "isHeir", "(I)Z"⟩
def dkwX9_isHeir_0 : List UInt8 := [27, 3, 42, 180, 0, 62, 4, 100, 184, 0, 58, 172]
abbrev dktX9_isHeir_0 : List UInt8 := dkwX9_isHeir_0 ++ []
theorem dksX9_isHeir_0 : cX9_isHeir.data.toList.drop 0 = dktX9_isHeir_0 := by decide +kernel
theorem dX9_isHeir_0 : decode cX9_isHeir 0 = .ok (.iload_n 1, 1) := dk_27 (dk_at dksX9_isHeir_0 0 rfl rfl)
theorem dX9_isHeir_1 : decode cX9_isHeir 1 = .ok (.iconst 0, 1) := dk_3 (dk_at dksX9_isHeir_0 1 rfl rfl)
theorem dX9_isHeir_2 : decode cX9_isHeir 2 = .ok (.aload_n 0, 1) := dk_42 (dk_at dksX9_isHeir_0 2 rfl rfl)
theorem dX9_isHeir_3 : decode cX9_isHeir 3 = .ok (.getfield 62, 3) := dk_180 0 62 (dk_at dksX9_isHeir_0 3 rfl rfl)
theorem dX9_isHeir_6 : decode cX9_isHeir 6 = .ok (.iconst 1, 1) := dk_4 (dk_at dksX9_isHeir_0 6 rfl rfl)
theorem dX9_isHeir_7 : decode cX9_isHeir 7 = .ok (.isub, 1) := dk_100 (dk_at dksX9_isHeir_0 7 rfl rfl)
theorem dX9_isHeir_8 : decode cX9_isHeir 8 = .ok (.invokestatic 58, 3) := dk_184 0 58 (dk_at dksX9_isHeir_0 8 rfl rfl)
theorem dX9_isHeir_11 : decode cX9_isHeir 11 = .ok (.ireturn, 1) := dk_172 (dk_at dksX9_isHeir_0 11 rfl rfl)
abbrev cX9_shareOf : ByteArray := prog_21_method_20_code
def yX9_shareOf : MethodName := ⟨RX9, "shareOf", "(II)I"⟩
def dkwX9_shareOf_0 : List UInt8 := [27, 42, 180, 0, 14, 28, 46, 42, 180, 0, 18, 28, 46, 184, 0, 94, 172]
abbrev dktX9_shareOf_0 : List UInt8 := dkwX9_shareOf_0 ++ []
theorem dksX9_shareOf_0 : cX9_shareOf.data.toList.drop 0 = dktX9_shareOf_0 := by decide +kernel
theorem dX9_shareOf_0 : decode cX9_shareOf 0 = .ok (.iload_n 1, 1) := dk_27 (dk_at dksX9_shareOf_0 0 rfl rfl)
theorem dX9_shareOf_1 : decode cX9_shareOf 1 = .ok (.aload_n 0, 1) := dk_42 (dk_at dksX9_shareOf_0 1 rfl rfl)
theorem dX9_shareOf_2 : decode cX9_shareOf 2 = .ok (.getfield 14, 3) := dk_180 0 14 (dk_at dksX9_shareOf_0 2 rfl rfl)
theorem dX9_shareOf_5 : decode cX9_shareOf 5 = .ok (.iload_n 2, 1) := dk_28 (dk_at dksX9_shareOf_0 5 rfl rfl)
theorem dX9_shareOf_6 : decode cX9_shareOf 6 = .ok (.iaload, 1) := dk_46 (dk_at dksX9_shareOf_0 6 rfl rfl)
theorem dX9_shareOf_7 : decode cX9_shareOf 7 = .ok (.aload_n 0, 1) := dk_42 (dk_at dksX9_shareOf_0 7 rfl rfl)
theorem dX9_shareOf_8 : decode cX9_shareOf 8 = .ok (.getfield 18, 3) := dk_180 0 18 (dk_at dksX9_shareOf_0 8 rfl rfl)
theorem dX9_shareOf_11 : decode cX9_shareOf 11 = .ok (.iload_n 2, 1) := dk_28 (dk_at dksX9_shareOf_0 11 rfl rfl)
theorem dX9_shareOf_12 : decode cX9_shareOf 12 = .ok (.iaload, 1) := dk_46 (dk_at dksX9_shareOf_0 12 rfl rfl)
theorem dX9_shareOf_13 : decode cX9_shareOf 13 = .ok (.invokestatic 94, 3) := dk_184 0 94 (dk_at dksX9_shareOf_0 13 rfl rfl)
theorem dX9_shareOf_16 : decode cX9_shareOf 16 = .ok (.ireturn, 1) := dk_172 (dk_at dksX9_shareOf_0 16 rfl rfl)
abbrev cX9_shareBy : ByteArray := prog_21_method_19_code
def yX9_shareBy : MethodName := ⟨RX9, "shareBy", "(III)I"⟩
def dkwX9_shareBy_6 : List UInt8 := [172, 21, 6, 26, 184, 0, 91, 96, 4, 100, 172, 21, 4, 172]
abbrev dktX9_shareBy_6 : List UInt8 := dkwX9_shareBy_6 ++ []
def dkwX9_shareBy_5 : List UInt8 := [21, 5, 172, 21, 6, 172, 21, 5, 6, 108, 172, 3, 16, 25, 26, 184, 0, 82, 100, 28, 100, 184, 0, 88]
abbrev dktX9_shareBy_5 : List UInt8 := dkwX9_shareBy_5 ++ dktX9_shareBy_6
def dkwX9_shareBy_4 : List UInt8 := [170, 0, 0, 0, 0, 0, 70, 0, 0, 0, 1, 0, 0, 0, 5, 0, 0, 0, 35, 0, 0, 0, 38, 0, 0, 0, 41, 0, 0, 0, 46, 0, 0, 0, 60]
abbrev dktX9_shareBy_4 : List UInt8 := dkwX9_shareBy_4 ++ dktX9_shareBy_5
def dkwX9_shareBy_3 : List UInt8 := [21, 4, 5, 108, 5, 29, 17, 56, 0, 126, 184, 0, 82, 104, 96, 54, 6, 27]
abbrev dktX9_shareBy_3 : List UInt8 := dkwX9_shareBy_3 ++ dktX9_shareBy_4
def dkwX9_shareBy_2 : List UInt8 := [54, 4, 132, 5, 1, 167, 255, 230, 21, 4, 29, 7, 126, 153, 0, 7, 8, 167, 0, 4, 3, 96, 54, 5]
abbrev dktX9_shareBy_2 : List UInt8 := dkwX9_shareBy_2 ++ dktX9_shareBy_3
def dkwX9_shareBy_1 : List UInt8 := [54, 5, 21, 5, 8, 162, 0, 26, 21, 4, 29, 8, 21, 5, 104, 28, 8, 112, 96, 122, 4, 126, 96]
abbrev dktX9_shareBy_1 : List UInt8 := dkwX9_shareBy_1 ++ dktX9_shareBy_2
def dkwX9_shareBy_0 : List UInt8 := [26, 184, 0, 85, 62, 29, 154, 0, 14, 27, 6, 160, 0, 7, 28, 167, 0, 4, 3, 172, 3, 54, 4, 3]
abbrev dktX9_shareBy_0 : List UInt8 := dkwX9_shareBy_0 ++ dktX9_shareBy_1
theorem dksX9_shareBy_0 : cX9_shareBy.data.toList.drop 0 = dktX9_shareBy_0 := by decide +kernel
theorem dksX9_shareBy_1 : cX9_shareBy.data.toList.drop 24 = dktX9_shareBy_1 := dk_seg dksX9_shareBy_0 24 rfl rfl
theorem dksX9_shareBy_2 : cX9_shareBy.data.toList.drop 47 = dktX9_shareBy_2 := dk_seg dksX9_shareBy_1 23 rfl rfl
theorem dksX9_shareBy_3 : cX9_shareBy.data.toList.drop 71 = dktX9_shareBy_3 := dk_seg dksX9_shareBy_2 24 rfl rfl
theorem dksX9_shareBy_4 : cX9_shareBy.data.toList.drop 89 = dktX9_shareBy_4 := dk_seg dksX9_shareBy_3 18 rfl rfl
theorem dksX9_shareBy_5 : cX9_shareBy.data.toList.drop 124 = dktX9_shareBy_5 := dk_seg dksX9_shareBy_4 35 rfl rfl
theorem dksX9_shareBy_6 : cX9_shareBy.data.toList.drop 148 = dktX9_shareBy_6 := dk_seg dksX9_shareBy_5 24 rfl rfl
theorem dX9_shareBy_0 : decode cX9_shareBy 0 = .ok (.iload_n 0, 1) := dk_26 (dk_at dksX9_shareBy_0 0 rfl rfl)
theorem dX9_shareBy_1 : decode cX9_shareBy 1 = .ok (.invokestatic 85, 3) := dk_184 0 85 (dk_at dksX9_shareBy_0 1 rfl rfl)
theorem dX9_shareBy_4 : decode cX9_shareBy 4 = .ok (.istore_n 3, 1) := dk_62 (dk_at dksX9_shareBy_0 4 rfl rfl)
theorem dX9_shareBy_5 : decode cX9_shareBy 5 = .ok (.iload_n 3, 1) := dk_29 (dk_at dksX9_shareBy_0 5 rfl rfl)
theorem dX9_shareBy_6 : decode cX9_shareBy 6 = .ok (.ifCond .ne 14, 3) := dk_154 0 14 (dk_at dksX9_shareBy_0 6 rfl rfl)
theorem dX9_shareBy_9 : decode cX9_shareBy 9 = .ok (.iload_n 1, 1) := dk_27 (dk_at dksX9_shareBy_0 9 rfl rfl)
theorem dX9_shareBy_10 : decode cX9_shareBy 10 = .ok (.iconst 3, 1) := dk_6 (dk_at dksX9_shareBy_0 10 rfl rfl)
theorem dX9_shareBy_11 : decode cX9_shareBy 11 = .ok (.if_icmp .ne 7, 3) := dk_160 0 7 (dk_at dksX9_shareBy_0 11 rfl rfl)
theorem dX9_shareBy_14 : decode cX9_shareBy 14 = .ok (.iload_n 2, 1) := dk_28 (dk_at dksX9_shareBy_0 14 rfl rfl)
theorem dX9_shareBy_15 : decode cX9_shareBy 15 = .ok (.goto 4, 3) := dk_167 0 4 (dk_at dksX9_shareBy_0 15 rfl rfl)
theorem dX9_shareBy_18 : decode cX9_shareBy 18 = .ok (.iconst 0, 1) := dk_3 (dk_at dksX9_shareBy_0 18 rfl rfl)
theorem dX9_shareBy_19 : decode cX9_shareBy 19 = .ok (.ireturn, 1) := dk_172 (dk_at dksX9_shareBy_0 19 rfl rfl)
theorem dX9_shareBy_20 : decode cX9_shareBy 20 = .ok (.iconst 0, 1) := dk_3 (dk_at dksX9_shareBy_0 20 rfl rfl)
theorem dX9_shareBy_21 : decode cX9_shareBy 21 = .ok (.istore 4, 2) := dk_54 4 (dk_at dksX9_shareBy_0 21 rfl rfl)
theorem dX9_shareBy_23 : decode cX9_shareBy 23 = .ok (.iconst 0, 1) := dk_3 (dk_at dksX9_shareBy_0 23 rfl rfl)
theorem dX9_shareBy_24 : decode cX9_shareBy 24 = .ok (.istore 5, 2) := dk_54 5 (dk_at dksX9_shareBy_1 0 rfl rfl)
theorem dX9_shareBy_26 : decode cX9_shareBy 26 = .ok (.iload 5, 2) := dk_21 5 (dk_at dksX9_shareBy_1 2 rfl rfl)
theorem dX9_shareBy_28 : decode cX9_shareBy 28 = .ok (.iconst 5, 1) := dk_8 (dk_at dksX9_shareBy_1 4 rfl rfl)
theorem dX9_shareBy_29 : decode cX9_shareBy 29 = .ok (.if_icmp .ge 26, 3) := dk_162 0 26 (dk_at dksX9_shareBy_1 5 rfl rfl)
theorem dX9_shareBy_32 : decode cX9_shareBy 32 = .ok (.iload 4, 2) := dk_21 4 (dk_at dksX9_shareBy_1 8 rfl rfl)
theorem dX9_shareBy_34 : decode cX9_shareBy 34 = .ok (.iload_n 3, 1) := dk_29 (dk_at dksX9_shareBy_1 10 rfl rfl)
theorem dX9_shareBy_35 : decode cX9_shareBy 35 = .ok (.iconst 5, 1) := dk_8 (dk_at dksX9_shareBy_1 11 rfl rfl)
theorem dX9_shareBy_36 : decode cX9_shareBy 36 = .ok (.iload 5, 2) := dk_21 5 (dk_at dksX9_shareBy_1 12 rfl rfl)
theorem dX9_shareBy_38 : decode cX9_shareBy 38 = .ok (.imul, 1) := dk_104 (dk_at dksX9_shareBy_1 14 rfl rfl)
theorem dX9_shareBy_39 : decode cX9_shareBy 39 = .ok (.iload_n 2, 1) := dk_28 (dk_at dksX9_shareBy_1 15 rfl rfl)
theorem dX9_shareBy_40 : decode cX9_shareBy 40 = .ok (.iconst 5, 1) := dk_8 (dk_at dksX9_shareBy_1 16 rfl rfl)
theorem dX9_shareBy_41 : decode cX9_shareBy 41 = .ok (.irem, 1) := dk_112 (dk_at dksX9_shareBy_1 17 rfl rfl)
theorem dX9_shareBy_42 : decode cX9_shareBy 42 = .ok (.iadd, 1) := dk_96 (dk_at dksX9_shareBy_1 18 rfl rfl)
theorem dX9_shareBy_43 : decode cX9_shareBy 43 = .ok (.ishr, 1) := dk_122 (dk_at dksX9_shareBy_1 19 rfl rfl)
theorem dX9_shareBy_44 : decode cX9_shareBy 44 = .ok (.iconst 1, 1) := dk_4 (dk_at dksX9_shareBy_1 20 rfl rfl)
theorem dX9_shareBy_45 : decode cX9_shareBy 45 = .ok (.iand, 1) := dk_126 (dk_at dksX9_shareBy_1 21 rfl rfl)
theorem dX9_shareBy_46 : decode cX9_shareBy 46 = .ok (.iadd, 1) := dk_96 (dk_at dksX9_shareBy_1 22 rfl rfl)
theorem dX9_shareBy_47 : decode cX9_shareBy 47 = .ok (.istore 4, 2) := dk_54 4 (dk_at dksX9_shareBy_2 0 rfl rfl)
theorem dX9_shareBy_49 : decode cX9_shareBy 49 = .ok (.iinc 5 1, 3) := dk_132 5 1 (dk_at dksX9_shareBy_2 2 rfl rfl)
theorem dX9_shareBy_52 : decode cX9_shareBy 52 = .ok (.goto (-26), 3) := dk_167 255 230 (dk_at dksX9_shareBy_2 5 rfl rfl)
theorem dX9_shareBy_55 : decode cX9_shareBy 55 = .ok (.iload 4, 2) := dk_21 4 (dk_at dksX9_shareBy_2 8 rfl rfl)
theorem dX9_shareBy_57 : decode cX9_shareBy 57 = .ok (.iload_n 3, 1) := dk_29 (dk_at dksX9_shareBy_2 10 rfl rfl)
theorem dX9_shareBy_58 : decode cX9_shareBy 58 = .ok (.iconst 4, 1) := dk_7 (dk_at dksX9_shareBy_2 11 rfl rfl)
theorem dX9_shareBy_59 : decode cX9_shareBy 59 = .ok (.iand, 1) := dk_126 (dk_at dksX9_shareBy_2 12 rfl rfl)
theorem dX9_shareBy_60 : decode cX9_shareBy 60 = .ok (.ifCond .eq 7, 3) := dk_153 0 7 (dk_at dksX9_shareBy_2 13 rfl rfl)
theorem dX9_shareBy_63 : decode cX9_shareBy 63 = .ok (.iconst 5, 1) := dk_8 (dk_at dksX9_shareBy_2 16 rfl rfl)
theorem dX9_shareBy_64 : decode cX9_shareBy 64 = .ok (.goto 4, 3) := dk_167 0 4 (dk_at dksX9_shareBy_2 17 rfl rfl)
theorem dX9_shareBy_67 : decode cX9_shareBy 67 = .ok (.iconst 0, 1) := dk_3 (dk_at dksX9_shareBy_2 20 rfl rfl)
theorem dX9_shareBy_68 : decode cX9_shareBy 68 = .ok (.iadd, 1) := dk_96 (dk_at dksX9_shareBy_2 21 rfl rfl)
theorem dX9_shareBy_69 : decode cX9_shareBy 69 = .ok (.istore 5, 2) := dk_54 5 (dk_at dksX9_shareBy_2 22 rfl rfl)
theorem dX9_shareBy_71 : decode cX9_shareBy 71 = .ok (.iload 4, 2) := dk_21 4 (dk_at dksX9_shareBy_3 0 rfl rfl)
theorem dX9_shareBy_73 : decode cX9_shareBy 73 = .ok (.iconst 2, 1) := dk_5 (dk_at dksX9_shareBy_3 2 rfl rfl)
theorem dX9_shareBy_74 : decode cX9_shareBy 74 = .ok (.idiv, 1) := dk_108 (dk_at dksX9_shareBy_3 3 rfl rfl)
theorem dX9_shareBy_75 : decode cX9_shareBy 75 = .ok (.iconst 2, 1) := dk_5 (dk_at dksX9_shareBy_3 4 rfl rfl)
theorem dX9_shareBy_76 : decode cX9_shareBy 76 = .ok (.iload_n 3, 1) := dk_29 (dk_at dksX9_shareBy_3 5 rfl rfl)
theorem dX9_shareBy_77 : decode cX9_shareBy 77 = .ok (.sipush 14336, 3) := dk_17 56 0 (dk_at dksX9_shareBy_3 6 rfl rfl)
theorem dX9_shareBy_80 : decode cX9_shareBy 80 = .ok (.iand, 1) := dk_126 (dk_at dksX9_shareBy_3 9 rfl rfl)
theorem dX9_shareBy_81 : decode cX9_shareBy 81 = .ok (.invokestatic 82, 3) := dk_184 0 82 (dk_at dksX9_shareBy_3 10 rfl rfl)
theorem dX9_shareBy_84 : decode cX9_shareBy 84 = .ok (.imul, 1) := dk_104 (dk_at dksX9_shareBy_3 13 rfl rfl)
theorem dX9_shareBy_85 : decode cX9_shareBy 85 = .ok (.iadd, 1) := dk_96 (dk_at dksX9_shareBy_3 14 rfl rfl)
theorem dX9_shareBy_86 : decode cX9_shareBy 86 = .ok (.istore 6, 2) := dk_54 6 (dk_at dksX9_shareBy_3 15 rfl rfl)
theorem dX9_shareBy_88 : decode cX9_shareBy 88 = .ok (.iload_n 1, 1) := dk_27 (dk_at dksX9_shareBy_3 17 rfl rfl)
theorem dX9_shareBy_89 : decode cX9_shareBy 89 = .ok (.tableswitch 70 1 5 #[35, 38, 41, 46, 60], 35) := by decide +kernel
theorem dX9_shareBy_124 : decode cX9_shareBy 124 = .ok (.iload 5, 2) := dk_21 5 (dk_at dksX9_shareBy_5 0 rfl rfl)
theorem dX9_shareBy_126 : decode cX9_shareBy 126 = .ok (.ireturn, 1) := dk_172 (dk_at dksX9_shareBy_5 2 rfl rfl)
theorem dX9_shareBy_127 : decode cX9_shareBy 127 = .ok (.iload 6, 2) := dk_21 6 (dk_at dksX9_shareBy_5 3 rfl rfl)
theorem dX9_shareBy_129 : decode cX9_shareBy 129 = .ok (.ireturn, 1) := dk_172 (dk_at dksX9_shareBy_5 5 rfl rfl)
theorem dX9_shareBy_130 : decode cX9_shareBy 130 = .ok (.iload 5, 2) := dk_21 5 (dk_at dksX9_shareBy_5 6 rfl rfl)
theorem dX9_shareBy_132 : decode cX9_shareBy 132 = .ok (.iconst 3, 1) := dk_6 (dk_at dksX9_shareBy_5 8 rfl rfl)
theorem dX9_shareBy_133 : decode cX9_shareBy 133 = .ok (.idiv, 1) := dk_108 (dk_at dksX9_shareBy_5 9 rfl rfl)
theorem dX9_shareBy_134 : decode cX9_shareBy 134 = .ok (.ireturn, 1) := dk_172 (dk_at dksX9_shareBy_5 10 rfl rfl)
theorem dX9_shareBy_135 : decode cX9_shareBy 135 = .ok (.iconst 0, 1) := dk_3 (dk_at dksX9_shareBy_5 11 rfl rfl)
theorem dX9_shareBy_136 : decode cX9_shareBy 136 = .ok (.bipush 25, 2) := dk_16 25 (dk_at dksX9_shareBy_5 12 rfl rfl)
theorem dX9_shareBy_138 : decode cX9_shareBy 138 = .ok (.iload_n 0, 1) := dk_26 (dk_at dksX9_shareBy_5 14 rfl rfl)
theorem dX9_shareBy_139 : decode cX9_shareBy 139 = .ok (.invokestatic 82, 3) := dk_184 0 82 (dk_at dksX9_shareBy_5 15 rfl rfl)
theorem dX9_shareBy_142 : decode cX9_shareBy 142 = .ok (.isub, 1) := dk_100 (dk_at dksX9_shareBy_5 18 rfl rfl)
theorem dX9_shareBy_143 : decode cX9_shareBy 143 = .ok (.iload_n 2, 1) := dk_28 (dk_at dksX9_shareBy_5 19 rfl rfl)
theorem dX9_shareBy_144 : decode cX9_shareBy 144 = .ok (.isub, 1) := dk_100 (dk_at dksX9_shareBy_5 20 rfl rfl)
theorem dX9_shareBy_145 : decode cX9_shareBy 145 = .ok (.invokestatic 88, 3) := dk_184 0 88 (dk_at dksX9_shareBy_5 21 rfl rfl)
theorem dX9_shareBy_148 : decode cX9_shareBy 148 = .ok (.ireturn, 1) := dk_172 (dk_at dksX9_shareBy_6 0 rfl rfl)
theorem dX9_shareBy_149 : decode cX9_shareBy 149 = .ok (.iload 6, 2) := dk_21 6 (dk_at dksX9_shareBy_6 1 rfl rfl)
theorem dX9_shareBy_151 : decode cX9_shareBy 151 = .ok (.iload_n 0, 1) := dk_26 (dk_at dksX9_shareBy_6 3 rfl rfl)
theorem dX9_shareBy_152 : decode cX9_shareBy 152 = .ok (.invokestatic 91, 3) := dk_184 0 91 (dk_at dksX9_shareBy_6 4 rfl rfl)
theorem dX9_shareBy_155 : decode cX9_shareBy 155 = .ok (.iadd, 1) := dk_96 (dk_at dksX9_shareBy_6 7 rfl rfl)
theorem dX9_shareBy_156 : decode cX9_shareBy 156 = .ok (.iconst 1, 1) := dk_4 (dk_at dksX9_shareBy_6 8 rfl rfl)
theorem dX9_shareBy_157 : decode cX9_shareBy 157 = .ok (.isub, 1) := dk_100 (dk_at dksX9_shareBy_6 9 rfl rfl)
theorem dX9_shareBy_158 : decode cX9_shareBy 158 = .ok (.ireturn, 1) := dk_172 (dk_at dksX9_shareBy_6 10 rfl rfl)
theorem dX9_shareBy_159 : decode cX9_shareBy 159 = .ok (.iload 4, 2) := dk_21 4 (dk_at dksX9_shareBy_6 11 rfl rfl)
theorem dX9_shareBy_161 : decode cX9_shareBy 161 = .ok (.ireturn, 1) := dk_172 (dk_at dksX9_shareBy_6 13 rfl rfl)
abbrev cX9_deed : ByteArray := prog_21_method_17_code
def yX9_deed : MethodName := ⟨RX9, "deed", "(I)I"⟩
def dkwX9_deed_3 : List UInt8 := [28, 153, 0, 7, 27, 167, 0, 4, 3, 172]
abbrev dktX9_deed_3 : List UInt8 := dkwX9_deed_3 ++ []
def dkwX9_deed_2 : List UInt8 := [167, 0, 8, 21, 4, 60, 4, 61, 29, 26, 29, 184, 0, 76, 184, 0, 79, 2, 130, 126, 62, 167, 255, 195]
abbrev dktX9_deed_2 : List UInt8 := dkwX9_deed_2 ++ dktX9_deed_3
def dkwX9_deed_1 : List UInt8 := [184, 0, 82, 27, 184, 0, 82, 160, 0, 5, 3, 61, 21, 4, 184, 0, 82, 27, 184, 0, 82, 163, 0, 6]
abbrev dktX9_deed_1 : List UInt8 := dkwX9_deed_1 ++ dktX9_deed_2
def dkwX9_deed_0 : List UInt8 := [3, 60, 3, 61, 26, 62, 29, 153, 0, 63, 26, 29, 184, 0, 76, 184, 0, 79, 54, 4, 21, 4]
abbrev dktX9_deed_0 : List UInt8 := dkwX9_deed_0 ++ dktX9_deed_1
theorem dksX9_deed_0 : cX9_deed.data.toList.drop 0 = dktX9_deed_0 := by decide +kernel
theorem dksX9_deed_1 : cX9_deed.data.toList.drop 22 = dktX9_deed_1 := dk_seg dksX9_deed_0 22 rfl rfl
theorem dksX9_deed_2 : cX9_deed.data.toList.drop 46 = dktX9_deed_2 := dk_seg dksX9_deed_1 24 rfl rfl
theorem dksX9_deed_3 : cX9_deed.data.toList.drop 70 = dktX9_deed_3 := dk_seg dksX9_deed_2 24 rfl rfl
theorem dX9_deed_0 : decode cX9_deed 0 = .ok (.iconst 0, 1) := dk_3 (dk_at dksX9_deed_0 0 rfl rfl)
theorem dX9_deed_1 : decode cX9_deed 1 = .ok (.istore_n 1, 1) := dk_60 (dk_at dksX9_deed_0 1 rfl rfl)
theorem dX9_deed_2 : decode cX9_deed 2 = .ok (.iconst 0, 1) := dk_3 (dk_at dksX9_deed_0 2 rfl rfl)
theorem dX9_deed_3 : decode cX9_deed 3 = .ok (.istore_n 2, 1) := dk_61 (dk_at dksX9_deed_0 3 rfl rfl)
theorem dX9_deed_4 : decode cX9_deed 4 = .ok (.iload_n 0, 1) := dk_26 (dk_at dksX9_deed_0 4 rfl rfl)
theorem dX9_deed_5 : decode cX9_deed 5 = .ok (.istore_n 3, 1) := dk_62 (dk_at dksX9_deed_0 5 rfl rfl)
theorem dX9_deed_6 : decode cX9_deed 6 = .ok (.iload_n 3, 1) := dk_29 (dk_at dksX9_deed_0 6 rfl rfl)
theorem dX9_deed_7 : decode cX9_deed 7 = .ok (.ifCond .eq 63, 3) := dk_153 0 63 (dk_at dksX9_deed_0 7 rfl rfl)
theorem dX9_deed_10 : decode cX9_deed 10 = .ok (.iload_n 0, 1) := dk_26 (dk_at dksX9_deed_0 10 rfl rfl)
theorem dX9_deed_11 : decode cX9_deed 11 = .ok (.iload_n 3, 1) := dk_29 (dk_at dksX9_deed_0 11 rfl rfl)
theorem dX9_deed_12 : decode cX9_deed 12 = .ok (.invokestatic 76, 3) := dk_184 0 76 (dk_at dksX9_deed_0 12 rfl rfl)
theorem dX9_deed_15 : decode cX9_deed 15 = .ok (.invokestatic 79, 3) := dk_184 0 79 (dk_at dksX9_deed_0 15 rfl rfl)
theorem dX9_deed_18 : decode cX9_deed 18 = .ok (.istore 4, 2) := dk_54 4 (dk_at dksX9_deed_0 18 rfl rfl)
theorem dX9_deed_20 : decode cX9_deed 20 = .ok (.iload 4, 2) := dk_21 4 (dk_at dksX9_deed_0 20 rfl rfl)
theorem dX9_deed_22 : decode cX9_deed 22 = .ok (.invokestatic 82, 3) := dk_184 0 82 (dk_at dksX9_deed_1 0 rfl rfl)
theorem dX9_deed_25 : decode cX9_deed 25 = .ok (.iload_n 1, 1) := dk_27 (dk_at dksX9_deed_1 3 rfl rfl)
theorem dX9_deed_26 : decode cX9_deed 26 = .ok (.invokestatic 82, 3) := dk_184 0 82 (dk_at dksX9_deed_1 4 rfl rfl)
theorem dX9_deed_29 : decode cX9_deed 29 = .ok (.if_icmp .ne 5, 3) := dk_160 0 5 (dk_at dksX9_deed_1 7 rfl rfl)
theorem dX9_deed_32 : decode cX9_deed 32 = .ok (.iconst 0, 1) := dk_3 (dk_at dksX9_deed_1 10 rfl rfl)
theorem dX9_deed_33 : decode cX9_deed 33 = .ok (.istore_n 2, 1) := dk_61 (dk_at dksX9_deed_1 11 rfl rfl)
theorem dX9_deed_34 : decode cX9_deed 34 = .ok (.iload 4, 2) := dk_21 4 (dk_at dksX9_deed_1 12 rfl rfl)
theorem dX9_deed_36 : decode cX9_deed 36 = .ok (.invokestatic 82, 3) := dk_184 0 82 (dk_at dksX9_deed_1 14 rfl rfl)
theorem dX9_deed_39 : decode cX9_deed 39 = .ok (.iload_n 1, 1) := dk_27 (dk_at dksX9_deed_1 17 rfl rfl)
theorem dX9_deed_40 : decode cX9_deed 40 = .ok (.invokestatic 82, 3) := dk_184 0 82 (dk_at dksX9_deed_1 18 rfl rfl)
theorem dX9_deed_43 : decode cX9_deed 43 = .ok (.if_icmp .gt 6, 3) := dk_163 0 6 (dk_at dksX9_deed_1 21 rfl rfl)
theorem dX9_deed_46 : decode cX9_deed 46 = .ok (.goto 8, 3) := dk_167 0 8 (dk_at dksX9_deed_2 0 rfl rfl)
theorem dX9_deed_49 : decode cX9_deed 49 = .ok (.iload 4, 2) := dk_21 4 (dk_at dksX9_deed_2 3 rfl rfl)
theorem dX9_deed_51 : decode cX9_deed 51 = .ok (.istore_n 1, 1) := dk_60 (dk_at dksX9_deed_2 5 rfl rfl)
theorem dX9_deed_52 : decode cX9_deed 52 = .ok (.iconst 1, 1) := dk_4 (dk_at dksX9_deed_2 6 rfl rfl)
theorem dX9_deed_53 : decode cX9_deed 53 = .ok (.istore_n 2, 1) := dk_61 (dk_at dksX9_deed_2 7 rfl rfl)
theorem dX9_deed_54 : decode cX9_deed 54 = .ok (.iload_n 3, 1) := dk_29 (dk_at dksX9_deed_2 8 rfl rfl)
theorem dX9_deed_55 : decode cX9_deed 55 = .ok (.iload_n 0, 1) := dk_26 (dk_at dksX9_deed_2 9 rfl rfl)
theorem dX9_deed_56 : decode cX9_deed 56 = .ok (.iload_n 3, 1) := dk_29 (dk_at dksX9_deed_2 10 rfl rfl)
theorem dX9_deed_57 : decode cX9_deed 57 = .ok (.invokestatic 76, 3) := dk_184 0 76 (dk_at dksX9_deed_2 11 rfl rfl)
theorem dX9_deed_60 : decode cX9_deed 60 = .ok (.invokestatic 79, 3) := dk_184 0 79 (dk_at dksX9_deed_2 14 rfl rfl)
theorem dX9_deed_63 : decode cX9_deed 63 = .ok (.iconst (-1), 1) := dk_2 (dk_at dksX9_deed_2 17 rfl rfl)
theorem dX9_deed_64 : decode cX9_deed 64 = .ok (.ixor, 1) := dk_130 (dk_at dksX9_deed_2 18 rfl rfl)
theorem dX9_deed_65 : decode cX9_deed 65 = .ok (.iand, 1) := dk_126 (dk_at dksX9_deed_2 19 rfl rfl)
theorem dX9_deed_66 : decode cX9_deed 66 = .ok (.istore_n 3, 1) := dk_62 (dk_at dksX9_deed_2 20 rfl rfl)
theorem dX9_deed_67 : decode cX9_deed 67 = .ok (.goto (-61), 3) := dk_167 255 195 (dk_at dksX9_deed_2 21 rfl rfl)
theorem dX9_deed_70 : decode cX9_deed 70 = .ok (.iload_n 2, 1) := dk_28 (dk_at dksX9_deed_3 0 rfl rfl)
theorem dX9_deed_71 : decode cX9_deed 71 = .ok (.ifCond .eq 7, 3) := dk_153 0 7 (dk_at dksX9_deed_3 1 rfl rfl)
theorem dX9_deed_74 : decode cX9_deed 74 = .ok (.iload_n 1, 1) := dk_27 (dk_at dksX9_deed_3 4 rfl rfl)
theorem dX9_deed_75 : decode cX9_deed 75 = .ok (.goto 4, 3) := dk_167 0 4 (dk_at dksX9_deed_3 5 rfl rfl)
theorem dX9_deed_78 : decode cX9_deed 78 = .ok (.iconst 0, 1) := dk_3 (dk_at dksX9_deed_3 8 rfl rfl)
theorem dX9_deed_79 : decode cX9_deed 79 = .ok (.ireturn, 1) := dk_172 (dk_at dksX9_deed_3 9 rfl rfl)
abbrev cX9_leastOf : ByteArray := prog_21_method_15_code
def yX9_leastOf : MethodName := ⟨RX9, "leastOf", "(I)I"⟩
def dkwX9_leastOf_0 : List UInt8 := [3, 60, 26, 27, 184, 0, 72, 154, 0, 9, 132, 1, 1, 167, 255, 245, 27, 172]
abbrev dktX9_leastOf_0 : List UInt8 := dkwX9_leastOf_0 ++ []
theorem dksX9_leastOf_0 : cX9_leastOf.data.toList.drop 0 = dktX9_leastOf_0 := by decide +kernel
theorem dX9_leastOf_0 : decode cX9_leastOf 0 = .ok (.iconst 0, 1) := dk_3 (dk_at dksX9_leastOf_0 0 rfl rfl)
theorem dX9_leastOf_1 : decode cX9_leastOf 1 = .ok (.istore_n 1, 1) := dk_60 (dk_at dksX9_leastOf_0 1 rfl rfl)
theorem dX9_leastOf_2 : decode cX9_leastOf 2 = .ok (.iload_n 0, 1) := dk_26 (dk_at dksX9_leastOf_0 2 rfl rfl)
theorem dX9_leastOf_3 : decode cX9_leastOf 3 = .ok (.iload_n 1, 1) := dk_27 (dk_at dksX9_leastOf_0 3 rfl rfl)
theorem dX9_leastOf_4 : decode cX9_leastOf 4 = .ok (.invokestatic 72, 3) := dk_184 0 72 (dk_at dksX9_leastOf_0 4 rfl rfl)
theorem dX9_leastOf_7 : decode cX9_leastOf 7 = .ok (.ifCond .ne 9, 3) := dk_154 0 9 (dk_at dksX9_leastOf_0 7 rfl rfl)
theorem dX9_leastOf_10 : decode cX9_leastOf 10 = .ok (.iinc 1 1, 3) := dk_132 1 1 (dk_at dksX9_leastOf_0 10 rfl rfl)
theorem dX9_leastOf_13 : decode cX9_leastOf 13 = .ok (.goto (-11), 3) := dk_167 255 245 (dk_at dksX9_leastOf_0 13 rfl rfl)
theorem dX9_leastOf_16 : decode cX9_leastOf 16 = .ok (.iload_n 1, 1) := dk_27 (dk_at dksX9_leastOf_0 16 rfl rfl)
theorem dX9_leastOf_17 : decode cX9_leastOf 17 = .ok (.ireturn, 1) := dk_172 (dk_at dksX9_leastOf_0 17 rfl rfl)
abbrev cX9_has : ByteArray := prog_21_method_9_code
def yX9_has : MethodName := ⟨RX9, "has", "(II)Z"⟩
def dkwX9_has_0 : List UInt8 := [26, 27, 122, 4, 126, 4, 160, 0, 7, 4, 167, 0, 4, 3, 172]
abbrev dktX9_has_0 : List UInt8 := dkwX9_has_0 ++ []
theorem dksX9_has_0 : cX9_has.data.toList.drop 0 = dktX9_has_0 := by decide +kernel
theorem dX9_has_0 : decode cX9_has 0 = .ok (.iload_n 0, 1) := dk_26 (dk_at dksX9_has_0 0 rfl rfl)
theorem dX9_has_1 : decode cX9_has 1 = .ok (.iload_n 1, 1) := dk_27 (dk_at dksX9_has_0 1 rfl rfl)
theorem dX9_has_2 : decode cX9_has 2 = .ok (.ishr, 1) := dk_122 (dk_at dksX9_has_0 2 rfl rfl)
theorem dX9_has_3 : decode cX9_has 3 = .ok (.iconst 1, 1) := dk_4 (dk_at dksX9_has_0 3 rfl rfl)
theorem dX9_has_4 : decode cX9_has 4 = .ok (.iand, 1) := dk_126 (dk_at dksX9_has_0 4 rfl rfl)
theorem dX9_has_5 : decode cX9_has 5 = .ok (.iconst 1, 1) := dk_4 (dk_at dksX9_has_0 5 rfl rfl)
theorem dX9_has_6 : decode cX9_has 6 = .ok (.if_icmp .ne 7, 3) := dk_160 0 7 (dk_at dksX9_has_0 6 rfl rfl)
theorem dX9_has_9 : decode cX9_has 9 = .ok (.iconst 1, 1) := dk_4 (dk_at dksX9_has_0 9 rfl rfl)
theorem dX9_has_10 : decode cX9_has 10 = .ok (.goto 4, 3) := dk_167 0 4 (dk_at dksX9_has_0 10 rfl rfl)
theorem dX9_has_13 : decode cX9_has 13 = .ok (.iconst 0, 1) := dk_3 (dk_at dksX9_has_0 13 rfl rfl)
theorem dX9_has_14 : decode cX9_has 14 = .ok (.ireturn, 1) := dk_172 (dk_at dksX9_has_0 14 rfl rfl)
abbrev cX9_most : ByteArray := prog_21_method_18_code
def yX9_most : MethodName := ⟨RX9, "most", "(II)I"⟩
def dkwX9_most_0 : List UInt8 := [26, 27, 164, 0, 7, 26, 167, 0, 4, 27, 172]
abbrev dktX9_most_0 : List UInt8 := dkwX9_most_0 ++ []
theorem dksX9_most_0 : cX9_most.data.toList.drop 0 = dktX9_most_0 := by decide +kernel
theorem dX9_most_0 : decode cX9_most 0 = .ok (.iload_n 0, 1) := dk_26 (dk_at dksX9_most_0 0 rfl rfl)
theorem dX9_most_1 : decode cX9_most 1 = .ok (.iload_n 1, 1) := dk_27 (dk_at dksX9_most_0 1 rfl rfl)
theorem dX9_most_2 : decode cX9_most 2 = .ok (.if_icmp .le 7, 3) := dk_164 0 7 (dk_at dksX9_most_0 2 rfl rfl)
theorem dX9_most_5 : decode cX9_most 5 = .ok (.iload_n 0, 1) := dk_26 (dk_at dksX9_most_0 5 rfl rfl)
theorem dX9_most_6 : decode cX9_most 6 = .ok (.goto 4, 3) := dk_167 0 4 (dk_at dksX9_most_0 6 rfl rfl)
theorem dX9_most_9 : decode cX9_most 9 = .ok (.iload_n 1, 1) := dk_27 (dk_at dksX9_most_0 9 rfl rfl)
theorem dX9_most_10 : decode cX9_most 10 = .ok (.ireturn, 1) := dk_172 (dk_at dksX9_most_0 10 rfl rfl)
abbrev cX9_heaps : ByteArray := prog_21_method_16_code
def yX9_heaps : MethodName := ⟨RX9, "heaps", "(I)I"⟩
def dkwX9_heaps_1 : List UInt8 := [167, 255, 236, 27, 172]
abbrev dktX9_heaps_1 : List UInt8 := dkwX9_heaps_1 ++ []
def dkwX9_heaps_0 : List UInt8 := [3, 60, 26, 61, 28, 153, 0, 22, 132, 1, 1, 28, 26, 28, 184, 0, 76, 184, 0, 79, 2, 130, 126, 61]
abbrev dktX9_heaps_0 : List UInt8 := dkwX9_heaps_0 ++ dktX9_heaps_1
theorem dksX9_heaps_0 : cX9_heaps.data.toList.drop 0 = dktX9_heaps_0 := by decide +kernel
theorem dksX9_heaps_1 : cX9_heaps.data.toList.drop 24 = dktX9_heaps_1 := dk_seg dksX9_heaps_0 24 rfl rfl
theorem dX9_heaps_0 : decode cX9_heaps 0 = .ok (.iconst 0, 1) := dk_3 (dk_at dksX9_heaps_0 0 rfl rfl)
theorem dX9_heaps_1 : decode cX9_heaps 1 = .ok (.istore_n 1, 1) := dk_60 (dk_at dksX9_heaps_0 1 rfl rfl)
theorem dX9_heaps_2 : decode cX9_heaps 2 = .ok (.iload_n 0, 1) := dk_26 (dk_at dksX9_heaps_0 2 rfl rfl)
theorem dX9_heaps_3 : decode cX9_heaps 3 = .ok (.istore_n 2, 1) := dk_61 (dk_at dksX9_heaps_0 3 rfl rfl)
theorem dX9_heaps_4 : decode cX9_heaps 4 = .ok (.iload_n 2, 1) := dk_28 (dk_at dksX9_heaps_0 4 rfl rfl)
theorem dX9_heaps_5 : decode cX9_heaps 5 = .ok (.ifCond .eq 22, 3) := dk_153 0 22 (dk_at dksX9_heaps_0 5 rfl rfl)
theorem dX9_heaps_8 : decode cX9_heaps 8 = .ok (.iinc 1 1, 3) := dk_132 1 1 (dk_at dksX9_heaps_0 8 rfl rfl)
theorem dX9_heaps_11 : decode cX9_heaps 11 = .ok (.iload_n 2, 1) := dk_28 (dk_at dksX9_heaps_0 11 rfl rfl)
theorem dX9_heaps_12 : decode cX9_heaps 12 = .ok (.iload_n 0, 1) := dk_26 (dk_at dksX9_heaps_0 12 rfl rfl)
theorem dX9_heaps_13 : decode cX9_heaps 13 = .ok (.iload_n 2, 1) := dk_28 (dk_at dksX9_heaps_0 13 rfl rfl)
theorem dX9_heaps_14 : decode cX9_heaps 14 = .ok (.invokestatic 76, 3) := dk_184 0 76 (dk_at dksX9_heaps_0 14 rfl rfl)
theorem dX9_heaps_17 : decode cX9_heaps 17 = .ok (.invokestatic 79, 3) := dk_184 0 79 (dk_at dksX9_heaps_0 17 rfl rfl)
theorem dX9_heaps_20 : decode cX9_heaps 20 = .ok (.iconst (-1), 1) := dk_2 (dk_at dksX9_heaps_0 20 rfl rfl)
theorem dX9_heaps_21 : decode cX9_heaps 21 = .ok (.ixor, 1) := dk_130 (dk_at dksX9_heaps_0 21 rfl rfl)
theorem dX9_heaps_22 : decode cX9_heaps 22 = .ok (.iand, 1) := dk_126 (dk_at dksX9_heaps_0 22 rfl rfl)
theorem dX9_heaps_23 : decode cX9_heaps 23 = .ok (.istore_n 2, 1) := dk_61 (dk_at dksX9_heaps_0 23 rfl rfl)
theorem dX9_heaps_24 : decode cX9_heaps 24 = .ok (.goto (-20), 3) := dk_167 255 236 (dk_at dksX9_heaps_1 0 rfl rfl)
theorem dX9_heaps_27 : decode cX9_heaps 27 = .ok (.iload_n 1, 1) := dk_27 (dk_at dksX9_heaps_1 3 rfl rfl)
theorem dX9_heaps_28 : decode cX9_heaps 28 = .ok (.ireturn, 1) := dk_172 (dk_at dksX9_heaps_1 4 rfl rfl)
abbrev cX9_bites : ByteArray := prog_21_method_38_code
def yX9_bites : MethodName := ⟨RX9, "bites", "(II)I"⟩
def dkwX9_bites_2 : List UInt8 := [42, 27, 28, 184, 0, 65, 182, 0, 137, 42, 180, 0, 10, 184, 0, 82, 172]
abbrev dktX9_bites_2 : List UInt8 := dkwX9_bites_2 ++ []
def dkwX9_bites_1 : List UInt8 := [2, 182, 0, 52, 172, 42, 180, 0, 10, 27, 28, 184, 0, 134, 154, 0, 10, 42, 16, 253, 182, 0, 52, 172]
abbrev dktX9_bites_1 : List UInt8 := dkwX9_bites_1 ++ dktX9_bites_2
def dkwX9_bites_0 : List UInt8 := [27, 3, 6, 184, 0, 58, 154, 0, 10, 42, 16, 254, 182, 0, 52, 172, 28, 184, 0, 130, 154, 0, 9, 42]
abbrev dktX9_bites_0 : List UInt8 := dkwX9_bites_0 ++ dktX9_bites_1
theorem dksX9_bites_0 : cX9_bites.data.toList.drop 0 = dktX9_bites_0 := by decide +kernel
theorem dksX9_bites_1 : cX9_bites.data.toList.drop 24 = dktX9_bites_1 := dk_seg dksX9_bites_0 24 rfl rfl
theorem dksX9_bites_2 : cX9_bites.data.toList.drop 48 = dktX9_bites_2 := dk_seg dksX9_bites_1 24 rfl rfl
theorem dX9_bites_0 : decode cX9_bites 0 = .ok (.iload_n 1, 1) := dk_27 (dk_at dksX9_bites_0 0 rfl rfl)
theorem dX9_bites_1 : decode cX9_bites 1 = .ok (.iconst 0, 1) := dk_3 (dk_at dksX9_bites_0 1 rfl rfl)
theorem dX9_bites_2 : decode cX9_bites 2 = .ok (.iconst 3, 1) := dk_6 (dk_at dksX9_bites_0 2 rfl rfl)
theorem dX9_bites_3 : decode cX9_bites 3 = .ok (.invokestatic 58, 3) := dk_184 0 58 (dk_at dksX9_bites_0 3 rfl rfl)
theorem dX9_bites_6 : decode cX9_bites 6 = .ok (.ifCond .ne 10, 3) := dk_154 0 10 (dk_at dksX9_bites_0 6 rfl rfl)
theorem dX9_bites_9 : decode cX9_bites 9 = .ok (.aload_n 0, 1) := dk_42 (dk_at dksX9_bites_0 9 rfl rfl)
theorem dX9_bites_10 : decode cX9_bites 10 = .ok (.bipush (-2), 2) := dk_16 254 (dk_at dksX9_bites_0 10 rfl rfl)
theorem dX9_bites_12 : decode cX9_bites 12 = .ok (.invokevirtual 52, 3) := dk_182 0 52 (dk_at dksX9_bites_0 12 rfl rfl)
theorem dX9_bites_15 : decode cX9_bites 15 = .ok (.ireturn, 1) := dk_172 (dk_at dksX9_bites_0 15 rfl rfl)
theorem dX9_bites_16 : decode cX9_bites 16 = .ok (.iload_n 2, 1) := dk_28 (dk_at dksX9_bites_0 16 rfl rfl)
theorem dX9_bites_17 : decode cX9_bites 17 = .ok (.invokestatic 130, 3) := dk_184 0 130 (dk_at dksX9_bites_0 17 rfl rfl)
theorem dX9_bites_20 : decode cX9_bites 20 = .ok (.ifCond .ne 9, 3) := dk_154 0 9 (dk_at dksX9_bites_0 20 rfl rfl)
theorem dX9_bites_23 : decode cX9_bites 23 = .ok (.aload_n 0, 1) := dk_42 (dk_at dksX9_bites_0 23 rfl rfl)
theorem dX9_bites_24 : decode cX9_bites 24 = .ok (.iconst (-1), 1) := dk_2 (dk_at dksX9_bites_1 0 rfl rfl)
theorem dX9_bites_25 : decode cX9_bites 25 = .ok (.invokevirtual 52, 3) := dk_182 0 52 (dk_at dksX9_bites_1 1 rfl rfl)
theorem dX9_bites_28 : decode cX9_bites 28 = .ok (.ireturn, 1) := dk_172 (dk_at dksX9_bites_1 4 rfl rfl)
theorem dX9_bites_29 : decode cX9_bites 29 = .ok (.aload_n 0, 1) := dk_42 (dk_at dksX9_bites_1 5 rfl rfl)
theorem dX9_bites_30 : decode cX9_bites 30 = .ok (.getfield 10, 3) := dk_180 0 10 (dk_at dksX9_bites_1 6 rfl rfl)
theorem dX9_bites_33 : decode cX9_bites 33 = .ok (.iload_n 1, 1) := dk_27 (dk_at dksX9_bites_1 9 rfl rfl)
theorem dX9_bites_34 : decode cX9_bites 34 = .ok (.iload_n 2, 1) := dk_28 (dk_at dksX9_bites_1 10 rfl rfl)
theorem dX9_bites_35 : decode cX9_bites 35 = .ok (.invokestatic 134, 3) := dk_184 0 134 (dk_at dksX9_bites_1 11 rfl rfl)
theorem dX9_bites_38 : decode cX9_bites 38 = .ok (.ifCond .ne 10, 3) := dk_154 0 10 (dk_at dksX9_bites_1 14 rfl rfl)
theorem dX9_bites_41 : decode cX9_bites 41 = .ok (.aload_n 0, 1) := dk_42 (dk_at dksX9_bites_1 17 rfl rfl)
theorem dX9_bites_42 : decode cX9_bites 42 = .ok (.bipush (-3), 2) := dk_16 253 (dk_at dksX9_bites_1 18 rfl rfl)
theorem dX9_bites_44 : decode cX9_bites 44 = .ok (.invokevirtual 52, 3) := dk_182 0 52 (dk_at dksX9_bites_1 20 rfl rfl)
theorem dX9_bites_47 : decode cX9_bites 47 = .ok (.ireturn, 1) := dk_172 (dk_at dksX9_bites_1 23 rfl rfl)
theorem dX9_bites_48 : decode cX9_bites 48 = .ok (.aload_n 0, 1) := dk_42 (dk_at dksX9_bites_2 0 rfl rfl)
theorem dX9_bites_49 : decode cX9_bites 49 = .ok (.iload_n 1, 1) := dk_27 (dk_at dksX9_bites_2 1 rfl rfl)
theorem dX9_bites_50 : decode cX9_bites 50 = .ok (.iload_n 2, 1) := dk_28 (dk_at dksX9_bites_2 2 rfl rfl)
theorem dX9_bites_51 : decode cX9_bites 51 = .ok (.invokestatic 65, 3) := dk_184 0 65 (dk_at dksX9_bites_2 3 rfl rfl)
theorem dX9_bites_54 : decode cX9_bites 54 = .ok (.invokevirtual 137, 3) := dk_182 0 137 (dk_at dksX9_bites_2 6 rfl rfl)
theorem dX9_bites_57 : decode cX9_bites 57 = .ok (.aload_n 0, 1) := dk_42 (dk_at dksX9_bites_2 9 rfl rfl)
theorem dX9_bites_58 : decode cX9_bites 58 = .ok (.getfield 10, 3) := dk_180 0 10 (dk_at dksX9_bites_2 10 rfl rfl)
theorem dX9_bites_61 : decode cX9_bites 61 = .ok (.invokestatic 82, 3) := dk_184 0 82 (dk_at dksX9_bites_2 13 rfl rfl)
theorem dX9_bites_64 : decode cX9_bites 64 = .ok (.ireturn, 1) := dk_172 (dk_at dksX9_bites_2 16 rfl rfl)
abbrev cX9_heals : ByteArray := prog_21_method_39_code
def yX9_heals : MethodName := ⟨RX9, "heals", "(I)I"⟩
def dkwX9_heals_2 : List UInt8 := [184, 0, 82, 172]
abbrev dktX9_heals_2 : List UInt8 := dkwX9_heals_2 ++ []
def dkwX9_heals_1 : List UInt8 := [42, 16, 253, 182, 0, 52, 172, 42, 89, 180, 0, 10, 4, 27, 120, 128, 181, 0, 10, 42, 180, 0, 10]
abbrev dktX9_heals_1 : List UInt8 := dkwX9_heals_1 ++ dktX9_heals_2
def dkwX9_heals_0 : List UInt8 := [27, 184, 0, 130, 154, 0, 9, 42, 2, 182, 0, 52, 172, 42, 180, 0, 10, 27, 184, 0, 72, 153, 0, 10]
abbrev dktX9_heals_0 : List UInt8 := dkwX9_heals_0 ++ dktX9_heals_1
theorem dksX9_heals_0 : cX9_heals.data.toList.drop 0 = dktX9_heals_0 := by decide +kernel
theorem dksX9_heals_1 : cX9_heals.data.toList.drop 24 = dktX9_heals_1 := dk_seg dksX9_heals_0 24 rfl rfl
theorem dksX9_heals_2 : cX9_heals.data.toList.drop 47 = dktX9_heals_2 := dk_seg dksX9_heals_1 23 rfl rfl
theorem dX9_heals_0 : decode cX9_heals 0 = .ok (.iload_n 1, 1) := dk_27 (dk_at dksX9_heals_0 0 rfl rfl)
theorem dX9_heals_1 : decode cX9_heals 1 = .ok (.invokestatic 130, 3) := dk_184 0 130 (dk_at dksX9_heals_0 1 rfl rfl)
theorem dX9_heals_4 : decode cX9_heals 4 = .ok (.ifCond .ne 9, 3) := dk_154 0 9 (dk_at dksX9_heals_0 4 rfl rfl)
theorem dX9_heals_7 : decode cX9_heals 7 = .ok (.aload_n 0, 1) := dk_42 (dk_at dksX9_heals_0 7 rfl rfl)
theorem dX9_heals_8 : decode cX9_heals 8 = .ok (.iconst (-1), 1) := dk_2 (dk_at dksX9_heals_0 8 rfl rfl)
theorem dX9_heals_9 : decode cX9_heals 9 = .ok (.invokevirtual 52, 3) := dk_182 0 52 (dk_at dksX9_heals_0 9 rfl rfl)
theorem dX9_heals_12 : decode cX9_heals 12 = .ok (.ireturn, 1) := dk_172 (dk_at dksX9_heals_0 12 rfl rfl)
theorem dX9_heals_13 : decode cX9_heals 13 = .ok (.aload_n 0, 1) := dk_42 (dk_at dksX9_heals_0 13 rfl rfl)
theorem dX9_heals_14 : decode cX9_heals 14 = .ok (.getfield 10, 3) := dk_180 0 10 (dk_at dksX9_heals_0 14 rfl rfl)
theorem dX9_heals_17 : decode cX9_heals 17 = .ok (.iload_n 1, 1) := dk_27 (dk_at dksX9_heals_0 17 rfl rfl)
theorem dX9_heals_18 : decode cX9_heals 18 = .ok (.invokestatic 72, 3) := dk_184 0 72 (dk_at dksX9_heals_0 18 rfl rfl)
theorem dX9_heals_21 : decode cX9_heals 21 = .ok (.ifCond .eq 10, 3) := dk_153 0 10 (dk_at dksX9_heals_0 21 rfl rfl)
theorem dX9_heals_24 : decode cX9_heals 24 = .ok (.aload_n 0, 1) := dk_42 (dk_at dksX9_heals_1 0 rfl rfl)
theorem dX9_heals_25 : decode cX9_heals 25 = .ok (.bipush (-3), 2) := dk_16 253 (dk_at dksX9_heals_1 1 rfl rfl)
theorem dX9_heals_27 : decode cX9_heals 27 = .ok (.invokevirtual 52, 3) := dk_182 0 52 (dk_at dksX9_heals_1 3 rfl rfl)
theorem dX9_heals_30 : decode cX9_heals 30 = .ok (.ireturn, 1) := dk_172 (dk_at dksX9_heals_1 6 rfl rfl)
theorem dX9_heals_31 : decode cX9_heals 31 = .ok (.aload_n 0, 1) := dk_42 (dk_at dksX9_heals_1 7 rfl rfl)
theorem dX9_heals_32 : decode cX9_heals 32 = .ok (.dup, 1) := dk_89 (dk_at dksX9_heals_1 8 rfl rfl)
theorem dX9_heals_33 : decode cX9_heals 33 = .ok (.getfield 10, 3) := dk_180 0 10 (dk_at dksX9_heals_1 9 rfl rfl)
theorem dX9_heals_36 : decode cX9_heals 36 = .ok (.iconst 1, 1) := dk_4 (dk_at dksX9_heals_1 12 rfl rfl)
theorem dX9_heals_37 : decode cX9_heals 37 = .ok (.iload_n 1, 1) := dk_27 (dk_at dksX9_heals_1 13 rfl rfl)
theorem dX9_heals_38 : decode cX9_heals 38 = .ok (.ishl, 1) := dk_120 (dk_at dksX9_heals_1 14 rfl rfl)
theorem dX9_heals_39 : decode cX9_heals 39 = .ok (.ior, 1) := dk_128 (dk_at dksX9_heals_1 15 rfl rfl)
theorem dX9_heals_40 : decode cX9_heals 40 = .ok (.putfield 10, 3) := dk_181 0 10 (dk_at dksX9_heals_1 16 rfl rfl)
theorem dX9_heals_43 : decode cX9_heals 43 = .ok (.aload_n 0, 1) := dk_42 (dk_at dksX9_heals_1 19 rfl rfl)
theorem dX9_heals_44 : decode cX9_heals 44 = .ok (.getfield 10, 3) := dk_180 0 10 (dk_at dksX9_heals_1 20 rfl rfl)
theorem dX9_heals_47 : decode cX9_heals 47 = .ok (.invokestatic 82, 3) := dk_184 0 82 (dk_at dksX9_heals_2 0 rfl rfl)
theorem dX9_heals_50 : decode cX9_heals 50 = .ok (.ireturn, 1) := dk_172 (dk_at dksX9_heals_2 3 rfl rfl)
abbrev cX9_rolls : ByteArray := prog_21_method_40_code
def yX9_rolls : MethodName := ⟨RX9, "rolls", "(I)I"⟩
def dkwX9_rolls_1 : List UInt8 := [42, 42, 180, 0, 10, 27, 184, 0, 141, 181, 0, 10, 42, 180, 0, 10, 184, 0, 82, 172]
abbrev dktX9_rolls_1 : List UInt8 := dkwX9_rolls_1 ++ []
def dkwX9_rolls_0 : List UInt8 := [27, 4, 162, 0, 10, 42, 16, 252, 182, 0, 52, 172, 27, 6, 164, 0, 10, 42, 16, 250, 182, 0, 52, 172]
abbrev dktX9_rolls_0 : List UInt8 := dkwX9_rolls_0 ++ dktX9_rolls_1
theorem dksX9_rolls_0 : cX9_rolls.data.toList.drop 0 = dktX9_rolls_0 := by decide +kernel
theorem dksX9_rolls_1 : cX9_rolls.data.toList.drop 24 = dktX9_rolls_1 := dk_seg dksX9_rolls_0 24 rfl rfl
theorem dX9_rolls_0 : decode cX9_rolls 0 = .ok (.iload_n 1, 1) := dk_27 (dk_at dksX9_rolls_0 0 rfl rfl)
theorem dX9_rolls_1 : decode cX9_rolls 1 = .ok (.iconst 1, 1) := dk_4 (dk_at dksX9_rolls_0 1 rfl rfl)
theorem dX9_rolls_2 : decode cX9_rolls 2 = .ok (.if_icmp .ge 10, 3) := dk_162 0 10 (dk_at dksX9_rolls_0 2 rfl rfl)
theorem dX9_rolls_5 : decode cX9_rolls 5 = .ok (.aload_n 0, 1) := dk_42 (dk_at dksX9_rolls_0 5 rfl rfl)
theorem dX9_rolls_6 : decode cX9_rolls 6 = .ok (.bipush (-4), 2) := dk_16 252 (dk_at dksX9_rolls_0 6 rfl rfl)
theorem dX9_rolls_8 : decode cX9_rolls 8 = .ok (.invokevirtual 52, 3) := dk_182 0 52 (dk_at dksX9_rolls_0 8 rfl rfl)
theorem dX9_rolls_11 : decode cX9_rolls 11 = .ok (.ireturn, 1) := dk_172 (dk_at dksX9_rolls_0 11 rfl rfl)
theorem dX9_rolls_12 : decode cX9_rolls 12 = .ok (.iload_n 1, 1) := dk_27 (dk_at dksX9_rolls_0 12 rfl rfl)
theorem dX9_rolls_13 : decode cX9_rolls 13 = .ok (.iconst 3, 1) := dk_6 (dk_at dksX9_rolls_0 13 rfl rfl)
theorem dX9_rolls_14 : decode cX9_rolls 14 = .ok (.if_icmp .le 10, 3) := dk_164 0 10 (dk_at dksX9_rolls_0 14 rfl rfl)
theorem dX9_rolls_17 : decode cX9_rolls 17 = .ok (.aload_n 0, 1) := dk_42 (dk_at dksX9_rolls_0 17 rfl rfl)
theorem dX9_rolls_18 : decode cX9_rolls 18 = .ok (.bipush (-6), 2) := dk_16 250 (dk_at dksX9_rolls_0 18 rfl rfl)
theorem dX9_rolls_20 : decode cX9_rolls 20 = .ok (.invokevirtual 52, 3) := dk_182 0 52 (dk_at dksX9_rolls_0 20 rfl rfl)
theorem dX9_rolls_23 : decode cX9_rolls 23 = .ok (.ireturn, 1) := dk_172 (dk_at dksX9_rolls_0 23 rfl rfl)
theorem dX9_rolls_24 : decode cX9_rolls 24 = .ok (.aload_n 0, 1) := dk_42 (dk_at dksX9_rolls_1 0 rfl rfl)
theorem dX9_rolls_25 : decode cX9_rolls 25 = .ok (.aload_n 0, 1) := dk_42 (dk_at dksX9_rolls_1 1 rfl rfl)
theorem dX9_rolls_26 : decode cX9_rolls 26 = .ok (.getfield 10, 3) := dk_180 0 10 (dk_at dksX9_rolls_1 2 rfl rfl)
theorem dX9_rolls_29 : decode cX9_rolls 29 = .ok (.iload_n 1, 1) := dk_27 (dk_at dksX9_rolls_1 5 rfl rfl)
theorem dX9_rolls_30 : decode cX9_rolls 30 = .ok (.invokestatic 141, 3) := dk_184 0 141 (dk_at dksX9_rolls_1 6 rfl rfl)
theorem dX9_rolls_33 : decode cX9_rolls 33 = .ok (.putfield 10, 3) := dk_181 0 10 (dk_at dksX9_rolls_1 9 rfl rfl)
theorem dX9_rolls_36 : decode cX9_rolls 36 = .ok (.aload_n 0, 1) := dk_42 (dk_at dksX9_rolls_1 12 rfl rfl)
theorem dX9_rolls_37 : decode cX9_rolls 37 = .ok (.getfield 10, 3) := dk_180 0 10 (dk_at dksX9_rolls_1 13 rfl rfl)
theorem dX9_rolls_40 : decode cX9_rolls 40 = .ok (.invokestatic 82, 3) := dk_184 0 82 (dk_at dksX9_rolls_1 16 rfl rfl)
theorem dX9_rolls_43 : decode cX9_rolls 43 = .ok (.ireturn, 1) := dk_172 (dk_at dksX9_rolls_1 19 rfl rfl)
abbrev cX9_turn : ByteArray := prog_21_method_42_code
def yX9_turn : MethodName := ⟨RX9, "turn", "(III)I"⟩
def dkwX9_turn_3 : List UInt8 := [79, 42, 180, 0, 18, 27, 29, 79, 21, 5, 172]
abbrev dktX9_turn_3 : List UInt8 := dkwX9_turn_3 ++ []
def dkwX9_turn_2 : List UInt8 := [16, 10, 42, 180, 0, 14, 27, 46, 104, 42, 180, 0, 18, 27, 46, 96, 54, 5, 42, 180, 0, 14, 27, 28]
abbrev dktX9_turn_2 : List UInt8 := dkwX9_turn_2 ++ dktX9_turn_3
def dkwX9_turn_1 : List UInt8 := [167, 0, 9, 29, 16, 9, 184, 0, 171, 54, 4, 21, 4, 153, 0, 10, 42, 21, 4, 182, 0, 52, 172]
abbrev dktX9_turn_1 : List UInt8 := dkwX9_turn_1 ++ dktX9_turn_2
def dkwX9_turn_0 : List UInt8 := [42, 27, 182, 0, 168, 154, 0, 7, 2, 167, 0, 23, 28, 3, 8, 184, 0, 58, 154, 0, 8, 16, 254]
abbrev dktX9_turn_0 : List UInt8 := dkwX9_turn_0 ++ dktX9_turn_1
theorem dksX9_turn_0 : cX9_turn.data.toList.drop 0 = dktX9_turn_0 := by decide +kernel
theorem dksX9_turn_1 : cX9_turn.data.toList.drop 23 = dktX9_turn_1 := dk_seg dksX9_turn_0 23 rfl rfl
theorem dksX9_turn_2 : cX9_turn.data.toList.drop 46 = dktX9_turn_2 := dk_seg dksX9_turn_1 23 rfl rfl
theorem dksX9_turn_3 : cX9_turn.data.toList.drop 70 = dktX9_turn_3 := dk_seg dksX9_turn_2 24 rfl rfl
theorem dX9_turn_0 : decode cX9_turn 0 = .ok (.aload_n 0, 1) := dk_42 (dk_at dksX9_turn_0 0 rfl rfl)
theorem dX9_turn_1 : decode cX9_turn 1 = .ok (.iload_n 1, 1) := dk_27 (dk_at dksX9_turn_0 1 rfl rfl)
theorem dX9_turn_2 : decode cX9_turn 2 = .ok (.invokevirtual 168, 3) := dk_182 0 168 (dk_at dksX9_turn_0 2 rfl rfl)
theorem dX9_turn_5 : decode cX9_turn 5 = .ok (.ifCond .ne 7, 3) := dk_154 0 7 (dk_at dksX9_turn_0 5 rfl rfl)
theorem dX9_turn_8 : decode cX9_turn 8 = .ok (.iconst (-1), 1) := dk_2 (dk_at dksX9_turn_0 8 rfl rfl)
theorem dX9_turn_9 : decode cX9_turn 9 = .ok (.goto 23, 3) := dk_167 0 23 (dk_at dksX9_turn_0 9 rfl rfl)
theorem dX9_turn_12 : decode cX9_turn 12 = .ok (.iload_n 2, 1) := dk_28 (dk_at dksX9_turn_0 12 rfl rfl)
theorem dX9_turn_13 : decode cX9_turn 13 = .ok (.iconst 0, 1) := dk_3 (dk_at dksX9_turn_0 13 rfl rfl)
theorem dX9_turn_14 : decode cX9_turn 14 = .ok (.iconst 5, 1) := dk_8 (dk_at dksX9_turn_0 14 rfl rfl)
theorem dX9_turn_15 : decode cX9_turn 15 = .ok (.invokestatic 58, 3) := dk_184 0 58 (dk_at dksX9_turn_0 15 rfl rfl)
theorem dX9_turn_18 : decode cX9_turn 18 = .ok (.ifCond .ne 8, 3) := dk_154 0 8 (dk_at dksX9_turn_0 18 rfl rfl)
theorem dX9_turn_21 : decode cX9_turn 21 = .ok (.bipush (-2), 2) := dk_16 254 (dk_at dksX9_turn_0 21 rfl rfl)
theorem dX9_turn_23 : decode cX9_turn 23 = .ok (.goto 9, 3) := dk_167 0 9 (dk_at dksX9_turn_1 0 rfl rfl)
theorem dX9_turn_26 : decode cX9_turn 26 = .ok (.iload_n 3, 1) := dk_29 (dk_at dksX9_turn_1 3 rfl rfl)
theorem dX9_turn_27 : decode cX9_turn 27 = .ok (.bipush 9, 2) := dk_16 9 (dk_at dksX9_turn_1 4 rfl rfl)
theorem dX9_turn_29 : decode cX9_turn 29 = .ok (.invokestatic 171, 3) := dk_184 0 171 (dk_at dksX9_turn_1 6 rfl rfl)
theorem dX9_turn_32 : decode cX9_turn 32 = .ok (.istore 4, 2) := dk_54 4 (dk_at dksX9_turn_1 9 rfl rfl)
theorem dX9_turn_34 : decode cX9_turn 34 = .ok (.iload 4, 2) := dk_21 4 (dk_at dksX9_turn_1 11 rfl rfl)
theorem dX9_turn_36 : decode cX9_turn 36 = .ok (.ifCond .eq 10, 3) := dk_153 0 10 (dk_at dksX9_turn_1 13 rfl rfl)
theorem dX9_turn_39 : decode cX9_turn 39 = .ok (.aload_n 0, 1) := dk_42 (dk_at dksX9_turn_1 16 rfl rfl)
theorem dX9_turn_40 : decode cX9_turn 40 = .ok (.iload 4, 2) := dk_21 4 (dk_at dksX9_turn_1 17 rfl rfl)
theorem dX9_turn_42 : decode cX9_turn 42 = .ok (.invokevirtual 52, 3) := dk_182 0 52 (dk_at dksX9_turn_1 19 rfl rfl)
theorem dX9_turn_45 : decode cX9_turn 45 = .ok (.ireturn, 1) := dk_172 (dk_at dksX9_turn_1 22 rfl rfl)
theorem dX9_turn_46 : decode cX9_turn 46 = .ok (.bipush 10, 2) := dk_16 10 (dk_at dksX9_turn_2 0 rfl rfl)
theorem dX9_turn_48 : decode cX9_turn 48 = .ok (.aload_n 0, 1) := dk_42 (dk_at dksX9_turn_2 2 rfl rfl)
theorem dX9_turn_49 : decode cX9_turn 49 = .ok (.getfield 14, 3) := dk_180 0 14 (dk_at dksX9_turn_2 3 rfl rfl)
theorem dX9_turn_52 : decode cX9_turn 52 = .ok (.iload_n 1, 1) := dk_27 (dk_at dksX9_turn_2 6 rfl rfl)
theorem dX9_turn_53 : decode cX9_turn 53 = .ok (.iaload, 1) := dk_46 (dk_at dksX9_turn_2 7 rfl rfl)
theorem dX9_turn_54 : decode cX9_turn 54 = .ok (.imul, 1) := dk_104 (dk_at dksX9_turn_2 8 rfl rfl)
theorem dX9_turn_55 : decode cX9_turn 55 = .ok (.aload_n 0, 1) := dk_42 (dk_at dksX9_turn_2 9 rfl rfl)
theorem dX9_turn_56 : decode cX9_turn 56 = .ok (.getfield 18, 3) := dk_180 0 18 (dk_at dksX9_turn_2 10 rfl rfl)
theorem dX9_turn_59 : decode cX9_turn 59 = .ok (.iload_n 1, 1) := dk_27 (dk_at dksX9_turn_2 13 rfl rfl)
theorem dX9_turn_60 : decode cX9_turn 60 = .ok (.iaload, 1) := dk_46 (dk_at dksX9_turn_2 14 rfl rfl)
theorem dX9_turn_61 : decode cX9_turn 61 = .ok (.iadd, 1) := dk_96 (dk_at dksX9_turn_2 15 rfl rfl)
theorem dX9_turn_62 : decode cX9_turn 62 = .ok (.istore 5, 2) := dk_54 5 (dk_at dksX9_turn_2 16 rfl rfl)
theorem dX9_turn_64 : decode cX9_turn 64 = .ok (.aload_n 0, 1) := dk_42 (dk_at dksX9_turn_2 18 rfl rfl)
theorem dX9_turn_65 : decode cX9_turn 65 = .ok (.getfield 14, 3) := dk_180 0 14 (dk_at dksX9_turn_2 19 rfl rfl)
theorem dX9_turn_68 : decode cX9_turn 68 = .ok (.iload_n 1, 1) := dk_27 (dk_at dksX9_turn_2 22 rfl rfl)
theorem dX9_turn_69 : decode cX9_turn 69 = .ok (.iload_n 2, 1) := dk_28 (dk_at dksX9_turn_2 23 rfl rfl)
theorem dX9_turn_70 : decode cX9_turn 70 = .ok (.iastore, 1) := dk_79 (dk_at dksX9_turn_3 0 rfl rfl)
theorem dX9_turn_71 : decode cX9_turn 71 = .ok (.aload_n 0, 1) := dk_42 (dk_at dksX9_turn_3 1 rfl rfl)
theorem dX9_turn_72 : decode cX9_turn 72 = .ok (.getfield 18, 3) := dk_180 0 18 (dk_at dksX9_turn_3 2 rfl rfl)
theorem dX9_turn_75 : decode cX9_turn 75 = .ok (.iload_n 1, 1) := dk_27 (dk_at dksX9_turn_3 5 rfl rfl)
theorem dX9_turn_76 : decode cX9_turn 76 = .ok (.iload_n 3, 1) := dk_29 (dk_at dksX9_turn_3 6 rfl rfl)
theorem dX9_turn_77 : decode cX9_turn 77 = .ok (.iastore, 1) := dk_79 (dk_at dksX9_turn_3 7 rfl rfl)
theorem dX9_turn_78 : decode cX9_turn 78 = .ok (.iload 5, 2) := dk_21 5 (dk_at dksX9_turn_3 8 rfl rfl)
theorem dX9_turn_80 : decode cX9_turn 80 = .ok (.ireturn, 1) := dk_172 (dk_at dksX9_turn_3 10 rfl rfl)
abbrev cX9_wrongBy : ByteArray := prog_21_method_41_code
def yX9_wrongBy : MethodName := ⟨RX9, "wrongBy", "(II)I"⟩
def dkwX9_wrongBy_0 : List UInt8 := [26, 156, 0, 8, 16, 252, 167, 0, 14, 26, 27, 164, 0, 8, 16, 250, 167, 0, 4, 3, 172]
abbrev dktX9_wrongBy_0 : List UInt8 := dkwX9_wrongBy_0 ++ []
theorem dksX9_wrongBy_0 : cX9_wrongBy.data.toList.drop 0 = dktX9_wrongBy_0 := by decide +kernel
theorem dX9_wrongBy_0 : decode cX9_wrongBy 0 = .ok (.iload_n 0, 1) := dk_26 (dk_at dksX9_wrongBy_0 0 rfl rfl)
theorem dX9_wrongBy_1 : decode cX9_wrongBy 1 = .ok (.ifCond .ge 8, 3) := dk_156 0 8 (dk_at dksX9_wrongBy_0 1 rfl rfl)
theorem dX9_wrongBy_4 : decode cX9_wrongBy 4 = .ok (.bipush (-4), 2) := dk_16 252 (dk_at dksX9_wrongBy_0 4 rfl rfl)
theorem dX9_wrongBy_6 : decode cX9_wrongBy 6 = .ok (.goto 14, 3) := dk_167 0 14 (dk_at dksX9_wrongBy_0 6 rfl rfl)
theorem dX9_wrongBy_9 : decode cX9_wrongBy 9 = .ok (.iload_n 0, 1) := dk_26 (dk_at dksX9_wrongBy_0 9 rfl rfl)
theorem dX9_wrongBy_10 : decode cX9_wrongBy 10 = .ok (.iload_n 1, 1) := dk_27 (dk_at dksX9_wrongBy_0 10 rfl rfl)
theorem dX9_wrongBy_11 : decode cX9_wrongBy 11 = .ok (.if_icmp .le 8, 3) := dk_164 0 8 (dk_at dksX9_wrongBy_0 11 rfl rfl)
theorem dX9_wrongBy_14 : decode cX9_wrongBy 14 = .ok (.bipush (-6), 2) := dk_16 250 (dk_at dksX9_wrongBy_0 14 rfl rfl)
theorem dX9_wrongBy_16 : decode cX9_wrongBy 16 = .ok (.goto 4, 3) := dk_167 0 4 (dk_at dksX9_wrongBy_0 16 rfl rfl)
theorem dX9_wrongBy_19 : decode cX9_wrongBy 19 = .ok (.iconst 0, 1) := dk_3 (dk_at dksX9_wrongBy_0 19 rfl rfl)
theorem dX9_wrongBy_20 : decode cX9_wrongBy 20 = .ok (.ireturn, 1) := dk_172 (dk_at dksX9_wrongBy_0 20 rfl rfl)
abbrev cX9_anew : ByteArray := prog_21_method_43_code
def yX9_anew : MethodName := ⟨RX9, "anew", "()I"⟩
def dkwX9_anew_0 : List UInt8 := [42, 180, 0, 124, 60, 42, 182, 0, 144, 27, 172]
abbrev dktX9_anew_0 : List UInt8 := dkwX9_anew_0 ++ []
theorem dksX9_anew_0 : cX9_anew.data.toList.drop 0 = dktX9_anew_0 := by decide +kernel
theorem dX9_anew_0 : decode cX9_anew 0 = .ok (.aload_n 0, 1) := dk_42 (dk_at dksX9_anew_0 0 rfl rfl)
theorem dX9_anew_1 : decode cX9_anew 1 = .ok (.getfield 124, 3) := dk_180 0 124 (dk_at dksX9_anew_0 1 rfl rfl)
theorem dX9_anew_4 : decode cX9_anew 4 = .ok (.istore_n 1, 1) := dk_60 (dk_at dksX9_anew_0 4 rfl rfl)
theorem dX9_anew_5 : decode cX9_anew 5 = .ok (.aload_n 0, 1) := dk_42 (dk_at dksX9_anew_0 5 rfl rfl)
theorem dX9_anew_6 : decode cX9_anew 6 = .ok (.invokevirtual 144, 3) := dk_182 0 144 (dk_at dksX9_anew_0 6 rfl rfl)
theorem dX9_anew_9 : decode cX9_anew 9 = .ok (.iload_n 1, 1) := dk_27 (dk_at dksX9_anew_0 9 rfl rfl)
theorem dX9_anew_10 : decode cX9_anew 10 = .ok (.ireturn, 1) := dk_172 (dk_at dksX9_anew_0 10 rfl rfl)
abbrev cX9_shares : ByteArray := prog_21_method_44_code
def yX9_shares : MethodName := ⟨RX9, "shares", "(I)I"⟩
def dkwX9_shares_3 : List UInt8 := [132, 3, 1, 167, 255, 218, 28, 172]
abbrev dktX9_shares_3 : List UInt8 := dkwX9_shares_3 ++ []
def dkwX9_shares_2 : List UInt8 := [42, 42, 180, 0, 10, 29, 182, 0, 98, 42, 42, 180, 0, 10, 28, 182, 0, 98, 164, 0, 5, 29, 61]
abbrev dktX9_shares_2 : List UInt8 := dkwX9_shares_2 ++ dktX9_shares_3
def dkwX9_shares_1 : List UInt8 := [180, 0, 10, 182, 0, 174, 172, 16, 247, 61, 3, 62, 29, 42, 180, 0, 62, 162, 0, 36, 28, 155, 0, 24]
abbrev dktX9_shares_1 : List UInt8 := dkwX9_shares_1 ++ dktX9_shares_2
def dkwX9_shares_0 : List UInt8 := [27, 3, 4, 184, 0, 58, 154, 0, 10, 42, 16, 254, 182, 0, 52, 172, 27, 154, 0, 12, 42, 42]
abbrev dktX9_shares_0 : List UInt8 := dkwX9_shares_0 ++ dktX9_shares_1
theorem dksX9_shares_0 : cX9_shares.data.toList.drop 0 = dktX9_shares_0 := by decide +kernel
theorem dksX9_shares_1 : cX9_shares.data.toList.drop 22 = dktX9_shares_1 := dk_seg dksX9_shares_0 22 rfl rfl
theorem dksX9_shares_2 : cX9_shares.data.toList.drop 46 = dktX9_shares_2 := dk_seg dksX9_shares_1 24 rfl rfl
theorem dksX9_shares_3 : cX9_shares.data.toList.drop 69 = dktX9_shares_3 := dk_seg dksX9_shares_2 23 rfl rfl
theorem dX9_shares_0 : decode cX9_shares 0 = .ok (.iload_n 1, 1) := dk_27 (dk_at dksX9_shares_0 0 rfl rfl)
theorem dX9_shares_1 : decode cX9_shares 1 = .ok (.iconst 0, 1) := dk_3 (dk_at dksX9_shares_0 1 rfl rfl)
theorem dX9_shares_2 : decode cX9_shares 2 = .ok (.iconst 1, 1) := dk_4 (dk_at dksX9_shares_0 2 rfl rfl)
theorem dX9_shares_3 : decode cX9_shares 3 = .ok (.invokestatic 58, 3) := dk_184 0 58 (dk_at dksX9_shares_0 3 rfl rfl)
theorem dX9_shares_6 : decode cX9_shares 6 = .ok (.ifCond .ne 10, 3) := dk_154 0 10 (dk_at dksX9_shares_0 6 rfl rfl)
theorem dX9_shares_9 : decode cX9_shares 9 = .ok (.aload_n 0, 1) := dk_42 (dk_at dksX9_shares_0 9 rfl rfl)
theorem dX9_shares_10 : decode cX9_shares 10 = .ok (.bipush (-2), 2) := dk_16 254 (dk_at dksX9_shares_0 10 rfl rfl)
theorem dX9_shares_12 : decode cX9_shares 12 = .ok (.invokevirtual 52, 3) := dk_182 0 52 (dk_at dksX9_shares_0 12 rfl rfl)
theorem dX9_shares_15 : decode cX9_shares 15 = .ok (.ireturn, 1) := dk_172 (dk_at dksX9_shares_0 15 rfl rfl)
theorem dX9_shares_16 : decode cX9_shares 16 = .ok (.iload_n 1, 1) := dk_27 (dk_at dksX9_shares_0 16 rfl rfl)
theorem dX9_shares_17 : decode cX9_shares 17 = .ok (.ifCond .ne 12, 3) := dk_154 0 12 (dk_at dksX9_shares_0 17 rfl rfl)
theorem dX9_shares_20 : decode cX9_shares 20 = .ok (.aload_n 0, 1) := dk_42 (dk_at dksX9_shares_0 20 rfl rfl)
theorem dX9_shares_21 : decode cX9_shares 21 = .ok (.aload_n 0, 1) := dk_42 (dk_at dksX9_shares_0 21 rfl rfl)
theorem dX9_shares_22 : decode cX9_shares 22 = .ok (.getfield 10, 3) := dk_180 0 10 (dk_at dksX9_shares_1 0 rfl rfl)
theorem dX9_shares_25 : decode cX9_shares 25 = .ok (.invokevirtual 174, 3) := dk_182 0 174 (dk_at dksX9_shares_1 3 rfl rfl)
theorem dX9_shares_28 : decode cX9_shares 28 = .ok (.ireturn, 1) := dk_172 (dk_at dksX9_shares_1 6 rfl rfl)
theorem dX9_shares_29 : decode cX9_shares 29 = .ok (.bipush (-9), 2) := dk_16 247 (dk_at dksX9_shares_1 7 rfl rfl)
theorem dX9_shares_31 : decode cX9_shares 31 = .ok (.istore_n 2, 1) := dk_61 (dk_at dksX9_shares_1 9 rfl rfl)
theorem dX9_shares_32 : decode cX9_shares 32 = .ok (.iconst 0, 1) := dk_3 (dk_at dksX9_shares_1 10 rfl rfl)
theorem dX9_shares_33 : decode cX9_shares 33 = .ok (.istore_n 3, 1) := dk_62 (dk_at dksX9_shares_1 11 rfl rfl)
theorem dX9_shares_34 : decode cX9_shares 34 = .ok (.iload_n 3, 1) := dk_29 (dk_at dksX9_shares_1 12 rfl rfl)
theorem dX9_shares_35 : decode cX9_shares 35 = .ok (.aload_n 0, 1) := dk_42 (dk_at dksX9_shares_1 13 rfl rfl)
theorem dX9_shares_36 : decode cX9_shares 36 = .ok (.getfield 62, 3) := dk_180 0 62 (dk_at dksX9_shares_1 14 rfl rfl)
theorem dX9_shares_39 : decode cX9_shares 39 = .ok (.if_icmp .ge 36, 3) := dk_162 0 36 (dk_at dksX9_shares_1 17 rfl rfl)
theorem dX9_shares_42 : decode cX9_shares 42 = .ok (.iload_n 2, 1) := dk_28 (dk_at dksX9_shares_1 20 rfl rfl)
theorem dX9_shares_43 : decode cX9_shares 43 = .ok (.ifCond .lt 24, 3) := dk_155 0 24 (dk_at dksX9_shares_1 21 rfl rfl)
theorem dX9_shares_46 : decode cX9_shares 46 = .ok (.aload_n 0, 1) := dk_42 (dk_at dksX9_shares_2 0 rfl rfl)
theorem dX9_shares_47 : decode cX9_shares 47 = .ok (.aload_n 0, 1) := dk_42 (dk_at dksX9_shares_2 1 rfl rfl)
theorem dX9_shares_48 : decode cX9_shares 48 = .ok (.getfield 10, 3) := dk_180 0 10 (dk_at dksX9_shares_2 2 rfl rfl)
theorem dX9_shares_51 : decode cX9_shares 51 = .ok (.iload_n 3, 1) := dk_29 (dk_at dksX9_shares_2 5 rfl rfl)
theorem dX9_shares_52 : decode cX9_shares 52 = .ok (.invokevirtual 98, 3) := dk_182 0 98 (dk_at dksX9_shares_2 6 rfl rfl)
theorem dX9_shares_55 : decode cX9_shares 55 = .ok (.aload_n 0, 1) := dk_42 (dk_at dksX9_shares_2 9 rfl rfl)
theorem dX9_shares_56 : decode cX9_shares 56 = .ok (.aload_n 0, 1) := dk_42 (dk_at dksX9_shares_2 10 rfl rfl)
theorem dX9_shares_57 : decode cX9_shares 57 = .ok (.getfield 10, 3) := dk_180 0 10 (dk_at dksX9_shares_2 11 rfl rfl)
theorem dX9_shares_60 : decode cX9_shares 60 = .ok (.iload_n 2, 1) := dk_28 (dk_at dksX9_shares_2 14 rfl rfl)
theorem dX9_shares_61 : decode cX9_shares 61 = .ok (.invokevirtual 98, 3) := dk_182 0 98 (dk_at dksX9_shares_2 15 rfl rfl)
theorem dX9_shares_64 : decode cX9_shares 64 = .ok (.if_icmp .le 5, 3) := dk_164 0 5 (dk_at dksX9_shares_2 18 rfl rfl)
theorem dX9_shares_67 : decode cX9_shares 67 = .ok (.iload_n 3, 1) := dk_29 (dk_at dksX9_shares_2 21 rfl rfl)
theorem dX9_shares_68 : decode cX9_shares 68 = .ok (.istore_n 2, 1) := dk_61 (dk_at dksX9_shares_2 22 rfl rfl)
theorem dX9_shares_69 : decode cX9_shares 69 = .ok (.iinc 3 1, 3) := dk_132 3 1 (dk_at dksX9_shares_3 0 rfl rfl)
theorem dX9_shares_72 : decode cX9_shares 72 = .ok (.goto (-38), 3) := dk_167 255 218 (dk_at dksX9_shares_3 3 rfl rfl)
theorem dX9_shares_75 : decode cX9_shares 75 = .ok (.iload_n 2, 1) := dk_28 (dk_at dksX9_shares_3 6 rfl rfl)
theorem dX9_shares_76 : decode cX9_shares 76 = .ok (.ireturn, 1) := dk_172 (dk_at dksX9_shares_3 7 rfl rfl)
abbrev cX9_sharesOf : ByteArray := prog_21_method_21_code
def yX9_sharesOf : MethodName := ⟨RX9, "sharesOf", "(I)I"⟩
def dkwX9_sharesOf_1 : List UInt8 := [167, 255, 236, 28, 172]
abbrev dktX9_sharesOf_1 : List UInt8 := dkwX9_sharesOf_1 ++ []
def dkwX9_sharesOf_0 : List UInt8 := [3, 61, 3, 62, 29, 42, 180, 0, 62, 162, 0, 18, 28, 42, 27, 29, 182, 0, 98, 96, 61, 132, 3, 1]
abbrev dktX9_sharesOf_0 : List UInt8 := dkwX9_sharesOf_0 ++ dktX9_sharesOf_1
theorem dksX9_sharesOf_0 : cX9_sharesOf.data.toList.drop 0 = dktX9_sharesOf_0 := by decide +kernel
theorem dksX9_sharesOf_1 : cX9_sharesOf.data.toList.drop 24 = dktX9_sharesOf_1 := dk_seg dksX9_sharesOf_0 24 rfl rfl
theorem dX9_sharesOf_0 : decode cX9_sharesOf 0 = .ok (.iconst 0, 1) := dk_3 (dk_at dksX9_sharesOf_0 0 rfl rfl)
theorem dX9_sharesOf_1 : decode cX9_sharesOf 1 = .ok (.istore_n 2, 1) := dk_61 (dk_at dksX9_sharesOf_0 1 rfl rfl)
theorem dX9_sharesOf_2 : decode cX9_sharesOf 2 = .ok (.iconst 0, 1) := dk_3 (dk_at dksX9_sharesOf_0 2 rfl rfl)
theorem dX9_sharesOf_3 : decode cX9_sharesOf 3 = .ok (.istore_n 3, 1) := dk_62 (dk_at dksX9_sharesOf_0 3 rfl rfl)
theorem dX9_sharesOf_4 : decode cX9_sharesOf 4 = .ok (.iload_n 3, 1) := dk_29 (dk_at dksX9_sharesOf_0 4 rfl rfl)
theorem dX9_sharesOf_5 : decode cX9_sharesOf 5 = .ok (.aload_n 0, 1) := dk_42 (dk_at dksX9_sharesOf_0 5 rfl rfl)
theorem dX9_sharesOf_6 : decode cX9_sharesOf 6 = .ok (.getfield 62, 3) := dk_180 0 62 (dk_at dksX9_sharesOf_0 6 rfl rfl)
theorem dX9_sharesOf_9 : decode cX9_sharesOf 9 = .ok (.if_icmp .ge 18, 3) := dk_162 0 18 (dk_at dksX9_sharesOf_0 9 rfl rfl)
theorem dX9_sharesOf_12 : decode cX9_sharesOf 12 = .ok (.iload_n 2, 1) := dk_28 (dk_at dksX9_sharesOf_0 12 rfl rfl)
theorem dX9_sharesOf_13 : decode cX9_sharesOf 13 = .ok (.aload_n 0, 1) := dk_42 (dk_at dksX9_sharesOf_0 13 rfl rfl)
theorem dX9_sharesOf_14 : decode cX9_sharesOf 14 = .ok (.iload_n 1, 1) := dk_27 (dk_at dksX9_sharesOf_0 14 rfl rfl)
theorem dX9_sharesOf_15 : decode cX9_sharesOf 15 = .ok (.iload_n 3, 1) := dk_29 (dk_at dksX9_sharesOf_0 15 rfl rfl)
theorem dX9_sharesOf_16 : decode cX9_sharesOf 16 = .ok (.invokevirtual 98, 3) := dk_182 0 98 (dk_at dksX9_sharesOf_0 16 rfl rfl)
theorem dX9_sharesOf_19 : decode cX9_sharesOf 19 = .ok (.iadd, 1) := dk_96 (dk_at dksX9_sharesOf_0 19 rfl rfl)
theorem dX9_sharesOf_20 : decode cX9_sharesOf 20 = .ok (.istore_n 2, 1) := dk_61 (dk_at dksX9_sharesOf_0 20 rfl rfl)
theorem dX9_sharesOf_21 : decode cX9_sharesOf 21 = .ok (.iinc 3 1, 3) := dk_132 3 1 (dk_at dksX9_sharesOf_0 21 rfl rfl)
theorem dX9_sharesOf_24 : decode cX9_sharesOf 24 = .ok (.goto (-20), 3) := dk_167 255 236 (dk_at dksX9_sharesOf_1 0 rfl rfl)
theorem dX9_sharesOf_27 : decode cX9_sharesOf 27 = .ok (.iload_n 2, 1) := dk_28 (dk_at dksX9_sharesOf_1 3 rfl rfl)
theorem dX9_sharesOf_28 : decode cX9_sharesOf 28 = .ok (.ireturn, 1) := dk_172 (dk_at dksX9_sharesOf_1 4 rfl rfl)
abbrev cX9_pieces : ByteArray := prog_21_method_46_code
def yX9_pieces : MethodName := ⟨RX9, "pieces", "(I)I"⟩
def dkwX9_pieces_4 : List UInt8 := [16, 254, 182, 0, 52, 172]
abbrev dktX9_pieces_4 : List UInt8 := dkwX9_pieces_4 ++ []
def dkwX9_pieces_3 : List UInt8 := [167, 0, 7, 28, 184, 0, 76, 172, 28, 154, 0, 8, 16, 247, 167, 0, 7, 28, 184, 0, 82, 172, 42]
abbrev dktX9_pieces_3 : List UInt8 := dkwX9_pieces_3 ++ dktX9_pieces_4
def dkwX9_pieces_2 : List UInt8 := [42, 180, 0, 10, 184, 0, 91, 172, 42, 180, 0, 10, 184, 0, 177, 172, 28, 154, 0, 8, 16, 247]
abbrev dktX9_pieces_2 : List UInt8 := dkwX9_pieces_2 ++ dktX9_pieces_3
def dkwX9_pieces_1 : List UInt8 := [170, 0, 0, 0, 0, 0, 75, 0, 0, 0, 0, 0, 0, 0, 3, 0, 0, 0, 31, 0, 0, 0, 39, 0, 0, 0, 47, 0, 0, 0, 61]
abbrev dktX9_pieces_1 : List UInt8 := dkwX9_pieces_1 ++ dktX9_pieces_2
def dkwX9_pieces_0 : List UInt8 := [42, 180, 0, 10, 184, 0, 85, 61, 27]
abbrev dktX9_pieces_0 : List UInt8 := dkwX9_pieces_0 ++ dktX9_pieces_1
theorem dksX9_pieces_0 : cX9_pieces.data.toList.drop 0 = dktX9_pieces_0 := by decide +kernel
theorem dksX9_pieces_1 : cX9_pieces.data.toList.drop 9 = dktX9_pieces_1 := dk_seg dksX9_pieces_0 9 rfl rfl
theorem dksX9_pieces_2 : cX9_pieces.data.toList.drop 40 = dktX9_pieces_2 := dk_seg dksX9_pieces_1 31 rfl rfl
theorem dksX9_pieces_3 : cX9_pieces.data.toList.drop 62 = dktX9_pieces_3 := dk_seg dksX9_pieces_2 22 rfl rfl
theorem dksX9_pieces_4 : cX9_pieces.data.toList.drop 85 = dktX9_pieces_4 := dk_seg dksX9_pieces_3 23 rfl rfl
theorem dX9_pieces_0 : decode cX9_pieces 0 = .ok (.aload_n 0, 1) := dk_42 (dk_at dksX9_pieces_0 0 rfl rfl)
theorem dX9_pieces_1 : decode cX9_pieces 1 = .ok (.getfield 10, 3) := dk_180 0 10 (dk_at dksX9_pieces_0 1 rfl rfl)
theorem dX9_pieces_4 : decode cX9_pieces 4 = .ok (.invokestatic 85, 3) := dk_184 0 85 (dk_at dksX9_pieces_0 4 rfl rfl)
theorem dX9_pieces_7 : decode cX9_pieces 7 = .ok (.istore_n 2, 1) := dk_61 (dk_at dksX9_pieces_0 7 rfl rfl)
theorem dX9_pieces_8 : decode cX9_pieces 8 = .ok (.iload_n 1, 1) := dk_27 (dk_at dksX9_pieces_0 8 rfl rfl)
theorem dX9_pieces_9 : decode cX9_pieces 9 = .ok (.tableswitch 75 0 3 #[31, 39, 47, 61], 31) := by decide +kernel
theorem dX9_pieces_40 : decode cX9_pieces 40 = .ok (.aload_n 0, 1) := dk_42 (dk_at dksX9_pieces_2 0 rfl rfl)
theorem dX9_pieces_41 : decode cX9_pieces 41 = .ok (.getfield 10, 3) := dk_180 0 10 (dk_at dksX9_pieces_2 1 rfl rfl)
theorem dX9_pieces_44 : decode cX9_pieces 44 = .ok (.invokestatic 91, 3) := dk_184 0 91 (dk_at dksX9_pieces_2 4 rfl rfl)
theorem dX9_pieces_47 : decode cX9_pieces 47 = .ok (.ireturn, 1) := dk_172 (dk_at dksX9_pieces_2 7 rfl rfl)
theorem dX9_pieces_48 : decode cX9_pieces 48 = .ok (.aload_n 0, 1) := dk_42 (dk_at dksX9_pieces_2 8 rfl rfl)
theorem dX9_pieces_49 : decode cX9_pieces 49 = .ok (.getfield 10, 3) := dk_180 0 10 (dk_at dksX9_pieces_2 9 rfl rfl)
theorem dX9_pieces_52 : decode cX9_pieces 52 = .ok (.invokestatic 177, 3) := dk_184 0 177 (dk_at dksX9_pieces_2 12 rfl rfl)
theorem dX9_pieces_55 : decode cX9_pieces 55 = .ok (.ireturn, 1) := dk_172 (dk_at dksX9_pieces_2 15 rfl rfl)
theorem dX9_pieces_56 : decode cX9_pieces 56 = .ok (.iload_n 2, 1) := dk_28 (dk_at dksX9_pieces_2 16 rfl rfl)
theorem dX9_pieces_57 : decode cX9_pieces 57 = .ok (.ifCond .ne 8, 3) := dk_154 0 8 (dk_at dksX9_pieces_2 17 rfl rfl)
theorem dX9_pieces_60 : decode cX9_pieces 60 = .ok (.bipush (-9), 2) := dk_16 247 (dk_at dksX9_pieces_2 20 rfl rfl)
theorem dX9_pieces_62 : decode cX9_pieces 62 = .ok (.goto 7, 3) := dk_167 0 7 (dk_at dksX9_pieces_3 0 rfl rfl)
theorem dX9_pieces_65 : decode cX9_pieces 65 = .ok (.iload_n 2, 1) := dk_28 (dk_at dksX9_pieces_3 3 rfl rfl)
theorem dX9_pieces_66 : decode cX9_pieces 66 = .ok (.invokestatic 76, 3) := dk_184 0 76 (dk_at dksX9_pieces_3 4 rfl rfl)
theorem dX9_pieces_69 : decode cX9_pieces 69 = .ok (.ireturn, 1) := dk_172 (dk_at dksX9_pieces_3 7 rfl rfl)
theorem dX9_pieces_70 : decode cX9_pieces 70 = .ok (.iload_n 2, 1) := dk_28 (dk_at dksX9_pieces_3 8 rfl rfl)
theorem dX9_pieces_71 : decode cX9_pieces 71 = .ok (.ifCond .ne 8, 3) := dk_154 0 8 (dk_at dksX9_pieces_3 9 rfl rfl)
theorem dX9_pieces_74 : decode cX9_pieces 74 = .ok (.bipush (-9), 2) := dk_16 247 (dk_at dksX9_pieces_3 12 rfl rfl)
theorem dX9_pieces_76 : decode cX9_pieces 76 = .ok (.goto 7, 3) := dk_167 0 7 (dk_at dksX9_pieces_3 14 rfl rfl)
theorem dX9_pieces_79 : decode cX9_pieces 79 = .ok (.iload_n 2, 1) := dk_28 (dk_at dksX9_pieces_3 17 rfl rfl)
theorem dX9_pieces_80 : decode cX9_pieces 80 = .ok (.invokestatic 82, 3) := dk_184 0 82 (dk_at dksX9_pieces_3 18 rfl rfl)
theorem dX9_pieces_83 : decode cX9_pieces 83 = .ok (.ireturn, 1) := dk_172 (dk_at dksX9_pieces_3 21 rfl rfl)
theorem dX9_pieces_84 : decode cX9_pieces 84 = .ok (.aload_n 0, 1) := dk_42 (dk_at dksX9_pieces_3 22 rfl rfl)
theorem dX9_pieces_85 : decode cX9_pieces 85 = .ok (.bipush (-2), 2) := dk_16 254 (dk_at dksX9_pieces_4 0 rfl rfl)
theorem dX9_pieces_87 : decode cX9_pieces 87 = .ok (.invokevirtual 52, 3) := dk_182 0 52 (dk_at dksX9_pieces_4 2 rfl rfl)
theorem dX9_pieces_90 : decode cX9_pieces 90 = .ok (.ireturn, 1) := dk_172 (dk_at dksX9_pieces_4 5 rfl rfl)
abbrev cX9_leastHeap : ByteArray := prog_21_method_45_code
def yX9_leastHeap : MethodName := ⟨RX9, "leastHeap", "(I)I"⟩
def dkwX9_leastHeap_1 : List UInt8 := [153, 0, 8, 29, 27, 162, 0, 7, 29, 167, 0, 4, 27, 60, 132, 2, 1, 167, 255, 219, 27, 172]
abbrev dktX9_leastHeap_1 : List UInt8 := dkwX9_leastHeap_1 ++ []
def dkwX9_leastHeap_0 : List UInt8 := [3, 60, 3, 61, 28, 16, 25, 162, 0, 37, 26, 28, 184, 0, 79, 184, 0, 82, 62, 29, 158, 0, 16, 27]
abbrev dktX9_leastHeap_0 : List UInt8 := dkwX9_leastHeap_0 ++ dktX9_leastHeap_1
theorem dksX9_leastHeap_0 : cX9_leastHeap.data.toList.drop 0 = dktX9_leastHeap_0 := by decide +kernel
theorem dksX9_leastHeap_1 : cX9_leastHeap.data.toList.drop 24 = dktX9_leastHeap_1 := dk_seg dksX9_leastHeap_0 24 rfl rfl
theorem dX9_leastHeap_0 : decode cX9_leastHeap 0 = .ok (.iconst 0, 1) := dk_3 (dk_at dksX9_leastHeap_0 0 rfl rfl)
theorem dX9_leastHeap_1 : decode cX9_leastHeap 1 = .ok (.istore_n 1, 1) := dk_60 (dk_at dksX9_leastHeap_0 1 rfl rfl)
theorem dX9_leastHeap_2 : decode cX9_leastHeap 2 = .ok (.iconst 0, 1) := dk_3 (dk_at dksX9_leastHeap_0 2 rfl rfl)
theorem dX9_leastHeap_3 : decode cX9_leastHeap 3 = .ok (.istore_n 2, 1) := dk_61 (dk_at dksX9_leastHeap_0 3 rfl rfl)
theorem dX9_leastHeap_4 : decode cX9_leastHeap 4 = .ok (.iload_n 2, 1) := dk_28 (dk_at dksX9_leastHeap_0 4 rfl rfl)
theorem dX9_leastHeap_5 : decode cX9_leastHeap 5 = .ok (.bipush 25, 2) := dk_16 25 (dk_at dksX9_leastHeap_0 5 rfl rfl)
theorem dX9_leastHeap_7 : decode cX9_leastHeap 7 = .ok (.if_icmp .ge 37, 3) := dk_162 0 37 (dk_at dksX9_leastHeap_0 7 rfl rfl)
theorem dX9_leastHeap_10 : decode cX9_leastHeap 10 = .ok (.iload_n 0, 1) := dk_26 (dk_at dksX9_leastHeap_0 10 rfl rfl)
theorem dX9_leastHeap_11 : decode cX9_leastHeap 11 = .ok (.iload_n 2, 1) := dk_28 (dk_at dksX9_leastHeap_0 11 rfl rfl)
theorem dX9_leastHeap_12 : decode cX9_leastHeap 12 = .ok (.invokestatic 79, 3) := dk_184 0 79 (dk_at dksX9_leastHeap_0 12 rfl rfl)
theorem dX9_leastHeap_15 : decode cX9_leastHeap 15 = .ok (.invokestatic 82, 3) := dk_184 0 82 (dk_at dksX9_leastHeap_0 15 rfl rfl)
theorem dX9_leastHeap_18 : decode cX9_leastHeap 18 = .ok (.istore_n 3, 1) := dk_62 (dk_at dksX9_leastHeap_0 18 rfl rfl)
theorem dX9_leastHeap_19 : decode cX9_leastHeap 19 = .ok (.iload_n 3, 1) := dk_29 (dk_at dksX9_leastHeap_0 19 rfl rfl)
theorem dX9_leastHeap_20 : decode cX9_leastHeap 20 = .ok (.ifCond .le 16, 3) := dk_158 0 16 (dk_at dksX9_leastHeap_0 20 rfl rfl)
theorem dX9_leastHeap_23 : decode cX9_leastHeap 23 = .ok (.iload_n 1, 1) := dk_27 (dk_at dksX9_leastHeap_0 23 rfl rfl)
theorem dX9_leastHeap_24 : decode cX9_leastHeap 24 = .ok (.ifCond .eq 8, 3) := dk_153 0 8 (dk_at dksX9_leastHeap_1 0 rfl rfl)
theorem dX9_leastHeap_27 : decode cX9_leastHeap 27 = .ok (.iload_n 3, 1) := dk_29 (dk_at dksX9_leastHeap_1 3 rfl rfl)
theorem dX9_leastHeap_28 : decode cX9_leastHeap 28 = .ok (.iload_n 1, 1) := dk_27 (dk_at dksX9_leastHeap_1 4 rfl rfl)
theorem dX9_leastHeap_29 : decode cX9_leastHeap 29 = .ok (.if_icmp .ge 7, 3) := dk_162 0 7 (dk_at dksX9_leastHeap_1 5 rfl rfl)
theorem dX9_leastHeap_32 : decode cX9_leastHeap 32 = .ok (.iload_n 3, 1) := dk_29 (dk_at dksX9_leastHeap_1 8 rfl rfl)
theorem dX9_leastHeap_33 : decode cX9_leastHeap 33 = .ok (.goto 4, 3) := dk_167 0 4 (dk_at dksX9_leastHeap_1 9 rfl rfl)
theorem dX9_leastHeap_36 : decode cX9_leastHeap 36 = .ok (.iload_n 1, 1) := dk_27 (dk_at dksX9_leastHeap_1 12 rfl rfl)
theorem dX9_leastHeap_37 : decode cX9_leastHeap 37 = .ok (.istore_n 1, 1) := dk_60 (dk_at dksX9_leastHeap_1 13 rfl rfl)
theorem dX9_leastHeap_38 : decode cX9_leastHeap 38 = .ok (.iinc 2 1, 3) := dk_132 2 1 (dk_at dksX9_leastHeap_1 14 rfl rfl)
theorem dX9_leastHeap_41 : decode cX9_leastHeap 41 = .ok (.goto (-37), 3) := dk_167 255 219 (dk_at dksX9_leastHeap_1 17 rfl rfl)
theorem dX9_leastHeap_44 : decode cX9_leastHeap 44 = .ok (.iload_n 1, 1) := dk_27 (dk_at dksX9_leastHeap_1 20 rfl rfl)
theorem dX9_leastHeap_45 : decode cX9_leastHeap 45 = .ok (.ireturn, 1) := dk_172 (dk_at dksX9_leastHeap_1 21 rfl rfl)
abbrev cX9_edge : ByteArray := prog_21_method_48_code
def yX9_edge : MethodName := ⟨RX9, "edge", "(I)I"⟩
def dkwX9_edge_5 : List UInt8 := [21, 4, 29, 21, 4, 184, 0, 76, 184, 0, 79, 2, 130, 126, 54, 4, 167, 255, 211, 28, 172]
abbrev dktX9_edge_5 : List UInt8 := dkwX9_edge_5 ++ []
def dkwX9_edge_4 : List UInt8 := [29, 21, 4, 184, 0, 76, 184, 0, 79, 184, 0, 180, 126, 154, 0, 7, 4, 167, 0, 4, 3, 96, 61]
abbrev dktX9_edge_4 : List UInt8 := dkwX9_edge_4 ++ dktX9_edge_5
def dkwX9_edge_3 : List UInt8 := [100, 167, 0, 4, 3, 96, 61, 132, 4, 1, 167, 255, 210, 28, 172, 29, 54, 4, 21, 4, 153, 0, 46, 28]
abbrev dktX9_edge_3 : List UInt8 := dkwX9_edge_3 ++ dktX9_edge_4
def dkwX9_edge_2 : List UInt8 := [21, 4, 184, 0, 72, 153, 0, 23, 7, 4, 21, 4, 120, 184, 0, 69, 42, 180, 0, 10, 126, 184, 0, 82]
abbrev dktX9_edge_2 : List UInt8 := dkwX9_edge_2 ++ dktX9_edge_3
def dkwX9_edge_1 : List UInt8 := [2, 130, 126, 62, 27, 154, 0, 57, 3, 54, 4, 21, 4, 16, 25, 162, 0, 45, 28, 42, 180, 0, 10]
abbrev dktX9_edge_1 : List UInt8 := dkwX9_edge_1 ++ dktX9_edge_2
def dkwX9_edge_0 : List UInt8 := [27, 3, 4, 184, 0, 58, 154, 0, 10, 42, 16, 254, 182, 0, 52, 172, 3, 61, 18, 9, 42, 180, 0, 10]
abbrev dktX9_edge_0 : List UInt8 := dkwX9_edge_0 ++ dktX9_edge_1
theorem dksX9_edge_0 : cX9_edge.data.toList.drop 0 = dktX9_edge_0 := by decide +kernel
theorem dksX9_edge_1 : cX9_edge.data.toList.drop 24 = dktX9_edge_1 := dk_seg dksX9_edge_0 24 rfl rfl
theorem dksX9_edge_2 : cX9_edge.data.toList.drop 47 = dktX9_edge_2 := dk_seg dksX9_edge_1 23 rfl rfl
theorem dksX9_edge_3 : cX9_edge.data.toList.drop 71 = dktX9_edge_3 := dk_seg dksX9_edge_2 24 rfl rfl
theorem dksX9_edge_4 : cX9_edge.data.toList.drop 95 = dktX9_edge_4 := dk_seg dksX9_edge_3 24 rfl rfl
theorem dksX9_edge_5 : cX9_edge.data.toList.drop 118 = dktX9_edge_5 := dk_seg dksX9_edge_4 23 rfl rfl
theorem dX9_edge_0 : decode cX9_edge 0 = .ok (.iload_n 1, 1) := dk_27 (dk_at dksX9_edge_0 0 rfl rfl)
theorem dX9_edge_1 : decode cX9_edge 1 = .ok (.iconst 0, 1) := dk_3 (dk_at dksX9_edge_0 1 rfl rfl)
theorem dX9_edge_2 : decode cX9_edge 2 = .ok (.iconst 1, 1) := dk_4 (dk_at dksX9_edge_0 2 rfl rfl)
theorem dX9_edge_3 : decode cX9_edge 3 = .ok (.invokestatic 58, 3) := dk_184 0 58 (dk_at dksX9_edge_0 3 rfl rfl)
theorem dX9_edge_6 : decode cX9_edge 6 = .ok (.ifCond .ne 10, 3) := dk_154 0 10 (dk_at dksX9_edge_0 6 rfl rfl)
theorem dX9_edge_9 : decode cX9_edge 9 = .ok (.aload_n 0, 1) := dk_42 (dk_at dksX9_edge_0 9 rfl rfl)
theorem dX9_edge_10 : decode cX9_edge 10 = .ok (.bipush (-2), 2) := dk_16 254 (dk_at dksX9_edge_0 10 rfl rfl)
theorem dX9_edge_12 : decode cX9_edge 12 = .ok (.invokevirtual 52, 3) := dk_182 0 52 (dk_at dksX9_edge_0 12 rfl rfl)
theorem dX9_edge_15 : decode cX9_edge 15 = .ok (.ireturn, 1) := dk_172 (dk_at dksX9_edge_0 15 rfl rfl)
theorem dX9_edge_16 : decode cX9_edge 16 = .ok (.iconst 0, 1) := dk_3 (dk_at dksX9_edge_0 16 rfl rfl)
theorem dX9_edge_17 : decode cX9_edge 17 = .ok (.istore_n 2, 1) := dk_61 (dk_at dksX9_edge_0 17 rfl rfl)
theorem dX9_edge_18 : decode cX9_edge 18 = .ok (.ldc 9, 2) := dk_18 9 (dk_at dksX9_edge_0 18 rfl rfl)
theorem dX9_edge_20 : decode cX9_edge 20 = .ok (.aload_n 0, 1) := dk_42 (dk_at dksX9_edge_0 20 rfl rfl)
theorem dX9_edge_21 : decode cX9_edge 21 = .ok (.getfield 10, 3) := dk_180 0 10 (dk_at dksX9_edge_0 21 rfl rfl)
theorem dX9_edge_24 : decode cX9_edge 24 = .ok (.iconst (-1), 1) := dk_2 (dk_at dksX9_edge_1 0 rfl rfl)
theorem dX9_edge_25 : decode cX9_edge 25 = .ok (.ixor, 1) := dk_130 (dk_at dksX9_edge_1 1 rfl rfl)
theorem dX9_edge_26 : decode cX9_edge 26 = .ok (.iand, 1) := dk_126 (dk_at dksX9_edge_1 2 rfl rfl)
theorem dX9_edge_27 : decode cX9_edge 27 = .ok (.istore_n 3, 1) := dk_62 (dk_at dksX9_edge_1 3 rfl rfl)
theorem dX9_edge_28 : decode cX9_edge 28 = .ok (.iload_n 1, 1) := dk_27 (dk_at dksX9_edge_1 4 rfl rfl)
theorem dX9_edge_29 : decode cX9_edge 29 = .ok (.ifCond .ne 57, 3) := dk_154 0 57 (dk_at dksX9_edge_1 5 rfl rfl)
theorem dX9_edge_32 : decode cX9_edge 32 = .ok (.iconst 0, 1) := dk_3 (dk_at dksX9_edge_1 8 rfl rfl)
theorem dX9_edge_33 : decode cX9_edge 33 = .ok (.istore 4, 2) := dk_54 4 (dk_at dksX9_edge_1 9 rfl rfl)
theorem dX9_edge_35 : decode cX9_edge 35 = .ok (.iload 4, 2) := dk_21 4 (dk_at dksX9_edge_1 11 rfl rfl)
theorem dX9_edge_37 : decode cX9_edge 37 = .ok (.bipush 25, 2) := dk_16 25 (dk_at dksX9_edge_1 13 rfl rfl)
theorem dX9_edge_39 : decode cX9_edge 39 = .ok (.if_icmp .ge 45, 3) := dk_162 0 45 (dk_at dksX9_edge_1 15 rfl rfl)
theorem dX9_edge_42 : decode cX9_edge 42 = .ok (.iload_n 2, 1) := dk_28 (dk_at dksX9_edge_1 18 rfl rfl)
theorem dX9_edge_43 : decode cX9_edge 43 = .ok (.aload_n 0, 1) := dk_42 (dk_at dksX9_edge_1 19 rfl rfl)
theorem dX9_edge_44 : decode cX9_edge 44 = .ok (.getfield 10, 3) := dk_180 0 10 (dk_at dksX9_edge_1 20 rfl rfl)
theorem dX9_edge_47 : decode cX9_edge 47 = .ok (.iload 4, 2) := dk_21 4 (dk_at dksX9_edge_2 0 rfl rfl)
theorem dX9_edge_49 : decode cX9_edge 49 = .ok (.invokestatic 72, 3) := dk_184 0 72 (dk_at dksX9_edge_2 2 rfl rfl)
theorem dX9_edge_52 : decode cX9_edge 52 = .ok (.ifCond .eq 23, 3) := dk_153 0 23 (dk_at dksX9_edge_2 5 rfl rfl)
theorem dX9_edge_55 : decode cX9_edge 55 = .ok (.iconst 4, 1) := dk_7 (dk_at dksX9_edge_2 8 rfl rfl)
theorem dX9_edge_56 : decode cX9_edge 56 = .ok (.iconst 1, 1) := dk_4 (dk_at dksX9_edge_2 9 rfl rfl)
theorem dX9_edge_57 : decode cX9_edge 57 = .ok (.iload 4, 2) := dk_21 4 (dk_at dksX9_edge_2 10 rfl rfl)
theorem dX9_edge_59 : decode cX9_edge 59 = .ok (.ishl, 1) := dk_120 (dk_at dksX9_edge_2 12 rfl rfl)
theorem dX9_edge_60 : decode cX9_edge 60 = .ok (.invokestatic 69, 3) := dk_184 0 69 (dk_at dksX9_edge_2 13 rfl rfl)
theorem dX9_edge_63 : decode cX9_edge 63 = .ok (.aload_n 0, 1) := dk_42 (dk_at dksX9_edge_2 16 rfl rfl)
theorem dX9_edge_64 : decode cX9_edge 64 = .ok (.getfield 10, 3) := dk_180 0 10 (dk_at dksX9_edge_2 17 rfl rfl)
theorem dX9_edge_67 : decode cX9_edge 67 = .ok (.iand, 1) := dk_126 (dk_at dksX9_edge_2 20 rfl rfl)
theorem dX9_edge_68 : decode cX9_edge 68 = .ok (.invokestatic 82, 3) := dk_184 0 82 (dk_at dksX9_edge_2 21 rfl rfl)
theorem dX9_edge_71 : decode cX9_edge 71 = .ok (.isub, 1) := dk_100 (dk_at dksX9_edge_3 0 rfl rfl)
theorem dX9_edge_72 : decode cX9_edge 72 = .ok (.goto 4, 3) := dk_167 0 4 (dk_at dksX9_edge_3 1 rfl rfl)
theorem dX9_edge_75 : decode cX9_edge 75 = .ok (.iconst 0, 1) := dk_3 (dk_at dksX9_edge_3 4 rfl rfl)
theorem dX9_edge_76 : decode cX9_edge 76 = .ok (.iadd, 1) := dk_96 (dk_at dksX9_edge_3 5 rfl rfl)
theorem dX9_edge_77 : decode cX9_edge 77 = .ok (.istore_n 2, 1) := dk_61 (dk_at dksX9_edge_3 6 rfl rfl)
theorem dX9_edge_78 : decode cX9_edge 78 = .ok (.iinc 4 1, 3) := dk_132 4 1 (dk_at dksX9_edge_3 7 rfl rfl)
theorem dX9_edge_81 : decode cX9_edge 81 = .ok (.goto (-46), 3) := dk_167 255 210 (dk_at dksX9_edge_3 10 rfl rfl)
theorem dX9_edge_84 : decode cX9_edge 84 = .ok (.iload_n 2, 1) := dk_28 (dk_at dksX9_edge_3 13 rfl rfl)
theorem dX9_edge_85 : decode cX9_edge 85 = .ok (.ireturn, 1) := dk_172 (dk_at dksX9_edge_3 14 rfl rfl)
theorem dX9_edge_86 : decode cX9_edge 86 = .ok (.iload_n 3, 1) := dk_29 (dk_at dksX9_edge_3 15 rfl rfl)
theorem dX9_edge_87 : decode cX9_edge 87 = .ok (.istore 4, 2) := dk_54 4 (dk_at dksX9_edge_3 16 rfl rfl)
theorem dX9_edge_89 : decode cX9_edge 89 = .ok (.iload 4, 2) := dk_21 4 (dk_at dksX9_edge_3 18 rfl rfl)
theorem dX9_edge_91 : decode cX9_edge 91 = .ok (.ifCond .eq 46, 3) := dk_153 0 46 (dk_at dksX9_edge_3 20 rfl rfl)
theorem dX9_edge_94 : decode cX9_edge 94 = .ok (.iload_n 2, 1) := dk_28 (dk_at dksX9_edge_3 23 rfl rfl)
theorem dX9_edge_95 : decode cX9_edge 95 = .ok (.iload_n 3, 1) := dk_29 (dk_at dksX9_edge_4 0 rfl rfl)
theorem dX9_edge_96 : decode cX9_edge 96 = .ok (.iload 4, 2) := dk_21 4 (dk_at dksX9_edge_4 1 rfl rfl)
theorem dX9_edge_98 : decode cX9_edge 98 = .ok (.invokestatic 76, 3) := dk_184 0 76 (dk_at dksX9_edge_4 3 rfl rfl)
theorem dX9_edge_101 : decode cX9_edge 101 = .ok (.invokestatic 79, 3) := dk_184 0 79 (dk_at dksX9_edge_4 6 rfl rfl)
theorem dX9_edge_104 : decode cX9_edge 104 = .ok (.invokestatic 180, 3) := dk_184 0 180 (dk_at dksX9_edge_4 9 rfl rfl)
theorem dX9_edge_107 : decode cX9_edge 107 = .ok (.iand, 1) := dk_126 (dk_at dksX9_edge_4 12 rfl rfl)
theorem dX9_edge_108 : decode cX9_edge 108 = .ok (.ifCond .ne 7, 3) := dk_154 0 7 (dk_at dksX9_edge_4 13 rfl rfl)
theorem dX9_edge_111 : decode cX9_edge 111 = .ok (.iconst 1, 1) := dk_4 (dk_at dksX9_edge_4 16 rfl rfl)
theorem dX9_edge_112 : decode cX9_edge 112 = .ok (.goto 4, 3) := dk_167 0 4 (dk_at dksX9_edge_4 17 rfl rfl)
theorem dX9_edge_115 : decode cX9_edge 115 = .ok (.iconst 0, 1) := dk_3 (dk_at dksX9_edge_4 20 rfl rfl)
theorem dX9_edge_116 : decode cX9_edge 116 = .ok (.iadd, 1) := dk_96 (dk_at dksX9_edge_4 21 rfl rfl)
theorem dX9_edge_117 : decode cX9_edge 117 = .ok (.istore_n 2, 1) := dk_61 (dk_at dksX9_edge_4 22 rfl rfl)
theorem dX9_edge_118 : decode cX9_edge 118 = .ok (.iload 4, 2) := dk_21 4 (dk_at dksX9_edge_5 0 rfl rfl)
theorem dX9_edge_120 : decode cX9_edge 120 = .ok (.iload_n 3, 1) := dk_29 (dk_at dksX9_edge_5 2 rfl rfl)
theorem dX9_edge_121 : decode cX9_edge 121 = .ok (.iload 4, 2) := dk_21 4 (dk_at dksX9_edge_5 3 rfl rfl)
theorem dX9_edge_123 : decode cX9_edge 123 = .ok (.invokestatic 76, 3) := dk_184 0 76 (dk_at dksX9_edge_5 5 rfl rfl)
theorem dX9_edge_126 : decode cX9_edge 126 = .ok (.invokestatic 79, 3) := dk_184 0 79 (dk_at dksX9_edge_5 8 rfl rfl)
theorem dX9_edge_129 : decode cX9_edge 129 = .ok (.iconst (-1), 1) := dk_2 (dk_at dksX9_edge_5 11 rfl rfl)
theorem dX9_edge_130 : decode cX9_edge 130 = .ok (.ixor, 1) := dk_130 (dk_at dksX9_edge_5 12 rfl rfl)
theorem dX9_edge_131 : decode cX9_edge 131 = .ok (.iand, 1) := dk_126 (dk_at dksX9_edge_5 13 rfl rfl)
theorem dX9_edge_132 : decode cX9_edge 132 = .ok (.istore 4, 2) := dk_54 4 (dk_at dksX9_edge_5 14 rfl rfl)
theorem dX9_edge_134 : decode cX9_edge 134 = .ok (.goto (-45), 3) := dk_167 255 211 (dk_at dksX9_edge_5 16 rfl rfl)
theorem dX9_edge_137 : decode cX9_edge 137 = .ok (.iload_n 2, 1) := dk_28 (dk_at dksX9_edge_5 19 rfl rfl)
theorem dX9_edge_138 : decode cX9_edge 138 = .ok (.ireturn, 1) := dk_172 (dk_at dksX9_edge_5 20 rfl rfl)
abbrev cX9_border : ByteArray := prog_21_method_47_code
def yX9_border : MethodName := ⟨RX9, "border", "()I"⟩
def dkwX9_border_2 : List UInt8 := [167, 255, 213, 26, 172]
abbrev dktX9_border_2 : List UInt8 := dkwX9_border_2 ++ []
def dkwX9_border_1 : List UInt8 := [112, 153, 0, 10, 27, 8, 112, 7, 160, 0, 9, 4, 27, 120, 167, 0, 4, 3, 128, 59, 132, 1, 1]
abbrev dktX9_border_1 : List UInt8 := dkwX9_border_1 ++ dktX9_border_2
def dkwX9_border_0 : List UInt8 := [3, 59, 3, 60, 27, 16, 25, 162, 0, 43, 26, 27, 8, 161, 0, 22, 27, 16, 20, 162, 0, 16, 27, 8]
abbrev dktX9_border_0 : List UInt8 := dkwX9_border_0 ++ dktX9_border_1
theorem dksX9_border_0 : cX9_border.data.toList.drop 0 = dktX9_border_0 := by decide +kernel
theorem dksX9_border_1 : cX9_border.data.toList.drop 24 = dktX9_border_1 := dk_seg dksX9_border_0 24 rfl rfl
theorem dksX9_border_2 : cX9_border.data.toList.drop 47 = dktX9_border_2 := dk_seg dksX9_border_1 23 rfl rfl
theorem dX9_border_0 : decode cX9_border 0 = .ok (.iconst 0, 1) := dk_3 (dk_at dksX9_border_0 0 rfl rfl)
theorem dX9_border_1 : decode cX9_border 1 = .ok (.istore_n 0, 1) := dk_59 (dk_at dksX9_border_0 1 rfl rfl)
theorem dX9_border_2 : decode cX9_border 2 = .ok (.iconst 0, 1) := dk_3 (dk_at dksX9_border_0 2 rfl rfl)
theorem dX9_border_3 : decode cX9_border 3 = .ok (.istore_n 1, 1) := dk_60 (dk_at dksX9_border_0 3 rfl rfl)
theorem dX9_border_4 : decode cX9_border 4 = .ok (.iload_n 1, 1) := dk_27 (dk_at dksX9_border_0 4 rfl rfl)
theorem dX9_border_5 : decode cX9_border 5 = .ok (.bipush 25, 2) := dk_16 25 (dk_at dksX9_border_0 5 rfl rfl)
theorem dX9_border_7 : decode cX9_border 7 = .ok (.if_icmp .ge 43, 3) := dk_162 0 43 (dk_at dksX9_border_0 7 rfl rfl)
theorem dX9_border_10 : decode cX9_border 10 = .ok (.iload_n 0, 1) := dk_26 (dk_at dksX9_border_0 10 rfl rfl)
theorem dX9_border_11 : decode cX9_border 11 = .ok (.iload_n 1, 1) := dk_27 (dk_at dksX9_border_0 11 rfl rfl)
theorem dX9_border_12 : decode cX9_border 12 = .ok (.iconst 5, 1) := dk_8 (dk_at dksX9_border_0 12 rfl rfl)
theorem dX9_border_13 : decode cX9_border 13 = .ok (.if_icmp .lt 22, 3) := dk_161 0 22 (dk_at dksX9_border_0 13 rfl rfl)
theorem dX9_border_16 : decode cX9_border 16 = .ok (.iload_n 1, 1) := dk_27 (dk_at dksX9_border_0 16 rfl rfl)
theorem dX9_border_17 : decode cX9_border 17 = .ok (.bipush 20, 2) := dk_16 20 (dk_at dksX9_border_0 17 rfl rfl)
theorem dX9_border_19 : decode cX9_border 19 = .ok (.if_icmp .ge 16, 3) := dk_162 0 16 (dk_at dksX9_border_0 19 rfl rfl)
theorem dX9_border_22 : decode cX9_border 22 = .ok (.iload_n 1, 1) := dk_27 (dk_at dksX9_border_0 22 rfl rfl)
theorem dX9_border_23 : decode cX9_border 23 = .ok (.iconst 5, 1) := dk_8 (dk_at dksX9_border_0 23 rfl rfl)
theorem dX9_border_24 : decode cX9_border 24 = .ok (.irem, 1) := dk_112 (dk_at dksX9_border_1 0 rfl rfl)
theorem dX9_border_25 : decode cX9_border 25 = .ok (.ifCond .eq 10, 3) := dk_153 0 10 (dk_at dksX9_border_1 1 rfl rfl)
theorem dX9_border_28 : decode cX9_border 28 = .ok (.iload_n 1, 1) := dk_27 (dk_at dksX9_border_1 4 rfl rfl)
theorem dX9_border_29 : decode cX9_border 29 = .ok (.iconst 5, 1) := dk_8 (dk_at dksX9_border_1 5 rfl rfl)
theorem dX9_border_30 : decode cX9_border 30 = .ok (.irem, 1) := dk_112 (dk_at dksX9_border_1 6 rfl rfl)
theorem dX9_border_31 : decode cX9_border 31 = .ok (.iconst 4, 1) := dk_7 (dk_at dksX9_border_1 7 rfl rfl)
theorem dX9_border_32 : decode cX9_border 32 = .ok (.if_icmp .ne 9, 3) := dk_160 0 9 (dk_at dksX9_border_1 8 rfl rfl)
theorem dX9_border_35 : decode cX9_border 35 = .ok (.iconst 1, 1) := dk_4 (dk_at dksX9_border_1 11 rfl rfl)
theorem dX9_border_36 : decode cX9_border 36 = .ok (.iload_n 1, 1) := dk_27 (dk_at dksX9_border_1 12 rfl rfl)
theorem dX9_border_37 : decode cX9_border 37 = .ok (.ishl, 1) := dk_120 (dk_at dksX9_border_1 13 rfl rfl)
theorem dX9_border_38 : decode cX9_border 38 = .ok (.goto 4, 3) := dk_167 0 4 (dk_at dksX9_border_1 14 rfl rfl)
theorem dX9_border_41 : decode cX9_border 41 = .ok (.iconst 0, 1) := dk_3 (dk_at dksX9_border_1 17 rfl rfl)
theorem dX9_border_42 : decode cX9_border 42 = .ok (.ior, 1) := dk_128 (dk_at dksX9_border_1 18 rfl rfl)
theorem dX9_border_43 : decode cX9_border 43 = .ok (.istore_n 0, 1) := dk_59 (dk_at dksX9_border_1 19 rfl rfl)
theorem dX9_border_44 : decode cX9_border 44 = .ok (.iinc 1 1, 3) := dk_132 1 1 (dk_at dksX9_border_1 20 rfl rfl)
theorem dX9_border_47 : decode cX9_border 47 = .ok (.goto (-43), 3) := dk_167 255 213 (dk_at dksX9_border_2 0 rfl rfl)
theorem dX9_border_50 : decode cX9_border 50 = .ok (.iload_n 0, 1) := dk_26 (dk_at dksX9_border_2 3 rfl rfl)
theorem dX9_border_51 : decode cX9_border 51 = .ok (.ireturn, 1) := dk_172 (dk_at dksX9_border_2 4 rfl rfl)
abbrev cX9_best : ByteArray := prog_21_method_52_code
def yX9_best : MethodName := ⟨RX9, "best", "(II)I"⟩
def dkwX9_best_0 : List UInt8 := [42, 27, 28, 4, 182, 0, 189, 172]
abbrev dktX9_best_0 : List UInt8 := dkwX9_best_0 ++ []
theorem dksX9_best_0 : cX9_best.data.toList.drop 0 = dktX9_best_0 := by decide +kernel
theorem dX9_best_0 : decode cX9_best 0 = .ok (.aload_n 0, 1) := dk_42 (dk_at dksX9_best_0 0 rfl rfl)
theorem dX9_best_1 : decode cX9_best 1 = .ok (.iload_n 1, 1) := dk_27 (dk_at dksX9_best_0 1 rfl rfl)
theorem dX9_best_2 : decode cX9_best 2 = .ok (.iload_n 2, 1) := dk_28 (dk_at dksX9_best_0 2 rfl rfl)
theorem dX9_best_3 : decode cX9_best 3 = .ok (.iconst 1, 1) := dk_4 (dk_at dksX9_best_0 3 rfl rfl)
theorem dX9_best_4 : decode cX9_best 4 = .ok (.invokevirtual 189, 3) := dk_182 0 189 (dk_at dksX9_best_0 4 rfl rfl)
theorem dX9_best_7 : decode cX9_best 7 = .ok (.ireturn, 1) := dk_172 (dk_at dksX9_best_0 7 rfl rfl)
abbrev cX9_biteTold : ByteArray := prog_21_method_51_code
def yX9_biteTold : MethodName := ⟨RX9, "biteTold", "(III)I"⟩
def dkwX9_biteTold_2 : List UInt8 := [154, 0, 8, 21, 4, 167, 0, 17, 42, 42, 180, 0, 10, 21, 4, 184, 0, 186, 27, 182, 0, 98, 172]
abbrev dktX9_biteTold_2 : List UInt8 := dkwX9_biteTold_2 ++ []
def dkwX9_biteTold_1 : List UInt8 := [16, 254, 182, 0, 52, 172, 42, 42, 180, 0, 10, 27, 29, 182, 0, 183, 54, 4, 21, 4, 155, 0, 7, 28]
abbrev dktX9_biteTold_1 : List UInt8 := dkwX9_biteTold_1 ++ dktX9_biteTold_2
def dkwX9_biteTold_0 : List UInt8 := [42, 27, 182, 0, 168, 154, 0, 9, 42, 2, 182, 0, 52, 172, 28, 3, 4, 184, 0, 58, 154, 0, 10, 42]
abbrev dktX9_biteTold_0 : List UInt8 := dkwX9_biteTold_0 ++ dktX9_biteTold_1
theorem dksX9_biteTold_0 : cX9_biteTold.data.toList.drop 0 = dktX9_biteTold_0 := by decide +kernel
theorem dksX9_biteTold_1 : cX9_biteTold.data.toList.drop 24 = dktX9_biteTold_1 := dk_seg dksX9_biteTold_0 24 rfl rfl
theorem dksX9_biteTold_2 : cX9_biteTold.data.toList.drop 48 = dktX9_biteTold_2 := dk_seg dksX9_biteTold_1 24 rfl rfl
theorem dX9_biteTold_0 : decode cX9_biteTold 0 = .ok (.aload_n 0, 1) := dk_42 (dk_at dksX9_biteTold_0 0 rfl rfl)
theorem dX9_biteTold_1 : decode cX9_biteTold 1 = .ok (.iload_n 1, 1) := dk_27 (dk_at dksX9_biteTold_0 1 rfl rfl)
theorem dX9_biteTold_2 : decode cX9_biteTold 2 = .ok (.invokevirtual 168, 3) := dk_182 0 168 (dk_at dksX9_biteTold_0 2 rfl rfl)
theorem dX9_biteTold_5 : decode cX9_biteTold 5 = .ok (.ifCond .ne 9, 3) := dk_154 0 9 (dk_at dksX9_biteTold_0 5 rfl rfl)
theorem dX9_biteTold_8 : decode cX9_biteTold 8 = .ok (.aload_n 0, 1) := dk_42 (dk_at dksX9_biteTold_0 8 rfl rfl)
theorem dX9_biteTold_9 : decode cX9_biteTold 9 = .ok (.iconst (-1), 1) := dk_2 (dk_at dksX9_biteTold_0 9 rfl rfl)
theorem dX9_biteTold_10 : decode cX9_biteTold 10 = .ok (.invokevirtual 52, 3) := dk_182 0 52 (dk_at dksX9_biteTold_0 10 rfl rfl)
theorem dX9_biteTold_13 : decode cX9_biteTold 13 = .ok (.ireturn, 1) := dk_172 (dk_at dksX9_biteTold_0 13 rfl rfl)
theorem dX9_biteTold_14 : decode cX9_biteTold 14 = .ok (.iload_n 2, 1) := dk_28 (dk_at dksX9_biteTold_0 14 rfl rfl)
theorem dX9_biteTold_15 : decode cX9_biteTold 15 = .ok (.iconst 0, 1) := dk_3 (dk_at dksX9_biteTold_0 15 rfl rfl)
theorem dX9_biteTold_16 : decode cX9_biteTold 16 = .ok (.iconst 1, 1) := dk_4 (dk_at dksX9_biteTold_0 16 rfl rfl)
theorem dX9_biteTold_17 : decode cX9_biteTold 17 = .ok (.invokestatic 58, 3) := dk_184 0 58 (dk_at dksX9_biteTold_0 17 rfl rfl)
theorem dX9_biteTold_20 : decode cX9_biteTold 20 = .ok (.ifCond .ne 10, 3) := dk_154 0 10 (dk_at dksX9_biteTold_0 20 rfl rfl)
theorem dX9_biteTold_23 : decode cX9_biteTold 23 = .ok (.aload_n 0, 1) := dk_42 (dk_at dksX9_biteTold_0 23 rfl rfl)
theorem dX9_biteTold_24 : decode cX9_biteTold 24 = .ok (.bipush (-2), 2) := dk_16 254 (dk_at dksX9_biteTold_1 0 rfl rfl)
theorem dX9_biteTold_26 : decode cX9_biteTold 26 = .ok (.invokevirtual 52, 3) := dk_182 0 52 (dk_at dksX9_biteTold_1 2 rfl rfl)
theorem dX9_biteTold_29 : decode cX9_biteTold 29 = .ok (.ireturn, 1) := dk_172 (dk_at dksX9_biteTold_1 5 rfl rfl)
theorem dX9_biteTold_30 : decode cX9_biteTold 30 = .ok (.aload_n 0, 1) := dk_42 (dk_at dksX9_biteTold_1 6 rfl rfl)
theorem dX9_biteTold_31 : decode cX9_biteTold 31 = .ok (.aload_n 0, 1) := dk_42 (dk_at dksX9_biteTold_1 7 rfl rfl)
theorem dX9_biteTold_32 : decode cX9_biteTold 32 = .ok (.getfield 10, 3) := dk_180 0 10 (dk_at dksX9_biteTold_1 8 rfl rfl)
theorem dX9_biteTold_35 : decode cX9_biteTold 35 = .ok (.iload_n 1, 1) := dk_27 (dk_at dksX9_biteTold_1 11 rfl rfl)
theorem dX9_biteTold_36 : decode cX9_biteTold 36 = .ok (.iload_n 3, 1) := dk_29 (dk_at dksX9_biteTold_1 12 rfl rfl)
theorem dX9_biteTold_37 : decode cX9_biteTold 37 = .ok (.invokevirtual 183, 3) := dk_182 0 183 (dk_at dksX9_biteTold_1 13 rfl rfl)
theorem dX9_biteTold_40 : decode cX9_biteTold 40 = .ok (.istore 4, 2) := dk_54 4 (dk_at dksX9_biteTold_1 16 rfl rfl)
theorem dX9_biteTold_42 : decode cX9_biteTold 42 = .ok (.iload 4, 2) := dk_21 4 (dk_at dksX9_biteTold_1 18 rfl rfl)
theorem dX9_biteTold_44 : decode cX9_biteTold 44 = .ok (.ifCond .lt 7, 3) := dk_155 0 7 (dk_at dksX9_biteTold_1 20 rfl rfl)
theorem dX9_biteTold_47 : decode cX9_biteTold 47 = .ok (.iload_n 2, 1) := dk_28 (dk_at dksX9_biteTold_1 23 rfl rfl)
theorem dX9_biteTold_48 : decode cX9_biteTold 48 = .ok (.ifCond .ne 8, 3) := dk_154 0 8 (dk_at dksX9_biteTold_2 0 rfl rfl)
theorem dX9_biteTold_51 : decode cX9_biteTold 51 = .ok (.iload 4, 2) := dk_21 4 (dk_at dksX9_biteTold_2 3 rfl rfl)
theorem dX9_biteTold_53 : decode cX9_biteTold 53 = .ok (.goto 17, 3) := dk_167 0 17 (dk_at dksX9_biteTold_2 5 rfl rfl)
theorem dX9_biteTold_56 : decode cX9_biteTold 56 = .ok (.aload_n 0, 1) := dk_42 (dk_at dksX9_biteTold_2 8 rfl rfl)
theorem dX9_biteTold_57 : decode cX9_biteTold 57 = .ok (.aload_n 0, 1) := dk_42 (dk_at dksX9_biteTold_2 9 rfl rfl)
theorem dX9_biteTold_58 : decode cX9_biteTold 58 = .ok (.getfield 10, 3) := dk_180 0 10 (dk_at dksX9_biteTold_2 10 rfl rfl)
theorem dX9_biteTold_61 : decode cX9_biteTold 61 = .ok (.iload 4, 2) := dk_21 4 (dk_at dksX9_biteTold_2 13 rfl rfl)
theorem dX9_biteTold_63 : decode cX9_biteTold 63 = .ok (.invokestatic 186, 3) := dk_184 0 186 (dk_at dksX9_biteTold_2 15 rfl rfl)
theorem dX9_biteTold_66 : decode cX9_biteTold 66 = .ok (.iload_n 1, 1) := dk_27 (dk_at dksX9_biteTold_2 18 rfl rfl)
theorem dX9_biteTold_67 : decode cX9_biteTold 67 = .ok (.invokevirtual 98, 3) := dk_182 0 98 (dk_at dksX9_biteTold_2 19 rfl rfl)
theorem dX9_biteTold_70 : decode cX9_biteTold 70 = .ok (.ireturn, 1) := dk_172 (dk_at dksX9_biteTold_2 22 rfl rfl)
abbrev cX9_biteFor : ByteArray := prog_21_method_49_code
def yX9_biteFor : MethodName := ⟨RX9, "biteFor", "(III)I"⟩
def dkwX9_biteFor_4 : List UInt8 := [167, 255, 188, 132, 6, 1, 167, 255, 173, 21, 4, 172]
abbrev dktX9_biteFor_4 : List UInt8 := dkwX9_biteFor_4 ++ []
def dkwX9_biteFor_3 : List UInt8 := [163, 0, 6, 167, 0, 17, 16, 100, 21, 6, 104, 21, 7, 96, 54, 4, 21, 8, 54, 5, 132, 7, 1]
abbrev dktX9_biteFor_3 : List UInt8 := dkwX9_biteFor_3 ++ dktX9_biteFor_4
def dkwX9_biteFor_2 : List UInt8 := [42, 27, 21, 6, 21, 7, 184, 0, 65, 2, 130, 126, 28, 182, 0, 98, 104, 54, 8, 21, 8, 21, 5]
abbrev dktX9_biteFor_2 : List UInt8 := dkwX9_biteFor_2 ++ dktX9_biteFor_3
def dkwX9_biteFor_1 : List UInt8 := [54, 7, 21, 7, 16, 25, 162, 0, 67, 27, 21, 6, 21, 7, 184, 0, 134, 154, 0, 6, 167, 0, 47, 29]
abbrev dktX9_biteFor_1 : List UInt8 := dkwX9_biteFor_1 ++ dktX9_biteFor_2
def dkwX9_biteFor_0 : List UInt8 := [16, 247, 54, 4, 29, 42, 27, 28, 182, 0, 98, 104, 54, 5, 3, 54, 6, 21, 6, 7, 162, 0, 83, 3]
abbrev dktX9_biteFor_0 : List UInt8 := dkwX9_biteFor_0 ++ dktX9_biteFor_1
theorem dksX9_biteFor_0 : cX9_biteFor.data.toList.drop 0 = dktX9_biteFor_0 := by decide +kernel
theorem dksX9_biteFor_1 : cX9_biteFor.data.toList.drop 24 = dktX9_biteFor_1 := dk_seg dksX9_biteFor_0 24 rfl rfl
theorem dksX9_biteFor_2 : cX9_biteFor.data.toList.drop 48 = dktX9_biteFor_2 := dk_seg dksX9_biteFor_1 24 rfl rfl
theorem dksX9_biteFor_3 : cX9_biteFor.data.toList.drop 71 = dktX9_biteFor_3 := dk_seg dksX9_biteFor_2 23 rfl rfl
theorem dksX9_biteFor_4 : cX9_biteFor.data.toList.drop 94 = dktX9_biteFor_4 := dk_seg dksX9_biteFor_3 23 rfl rfl
theorem dX9_biteFor_0 : decode cX9_biteFor 0 = .ok (.bipush (-9), 2) := dk_16 247 (dk_at dksX9_biteFor_0 0 rfl rfl)
theorem dX9_biteFor_2 : decode cX9_biteFor 2 = .ok (.istore 4, 2) := dk_54 4 (dk_at dksX9_biteFor_0 2 rfl rfl)
theorem dX9_biteFor_4 : decode cX9_biteFor 4 = .ok (.iload_n 3, 1) := dk_29 (dk_at dksX9_biteFor_0 4 rfl rfl)
theorem dX9_biteFor_5 : decode cX9_biteFor 5 = .ok (.aload_n 0, 1) := dk_42 (dk_at dksX9_biteFor_0 5 rfl rfl)
theorem dX9_biteFor_6 : decode cX9_biteFor 6 = .ok (.iload_n 1, 1) := dk_27 (dk_at dksX9_biteFor_0 6 rfl rfl)
theorem dX9_biteFor_7 : decode cX9_biteFor 7 = .ok (.iload_n 2, 1) := dk_28 (dk_at dksX9_biteFor_0 7 rfl rfl)
theorem dX9_biteFor_8 : decode cX9_biteFor 8 = .ok (.invokevirtual 98, 3) := dk_182 0 98 (dk_at dksX9_biteFor_0 8 rfl rfl)
theorem dX9_biteFor_11 : decode cX9_biteFor 11 = .ok (.imul, 1) := dk_104 (dk_at dksX9_biteFor_0 11 rfl rfl)
theorem dX9_biteFor_12 : decode cX9_biteFor 12 = .ok (.istore 5, 2) := dk_54 5 (dk_at dksX9_biteFor_0 12 rfl rfl)
theorem dX9_biteFor_14 : decode cX9_biteFor 14 = .ok (.iconst 0, 1) := dk_3 (dk_at dksX9_biteFor_0 14 rfl rfl)
theorem dX9_biteFor_15 : decode cX9_biteFor 15 = .ok (.istore 6, 2) := dk_54 6 (dk_at dksX9_biteFor_0 15 rfl rfl)
theorem dX9_biteFor_17 : decode cX9_biteFor 17 = .ok (.iload 6, 2) := dk_21 6 (dk_at dksX9_biteFor_0 17 rfl rfl)
theorem dX9_biteFor_19 : decode cX9_biteFor 19 = .ok (.iconst 4, 1) := dk_7 (dk_at dksX9_biteFor_0 19 rfl rfl)
theorem dX9_biteFor_20 : decode cX9_biteFor 20 = .ok (.if_icmp .ge 83, 3) := dk_162 0 83 (dk_at dksX9_biteFor_0 20 rfl rfl)
theorem dX9_biteFor_23 : decode cX9_biteFor 23 = .ok (.iconst 0, 1) := dk_3 (dk_at dksX9_biteFor_0 23 rfl rfl)
theorem dX9_biteFor_24 : decode cX9_biteFor 24 = .ok (.istore 7, 2) := dk_54 7 (dk_at dksX9_biteFor_1 0 rfl rfl)
theorem dX9_biteFor_26 : decode cX9_biteFor 26 = .ok (.iload 7, 2) := dk_21 7 (dk_at dksX9_biteFor_1 2 rfl rfl)
theorem dX9_biteFor_28 : decode cX9_biteFor 28 = .ok (.bipush 25, 2) := dk_16 25 (dk_at dksX9_biteFor_1 4 rfl rfl)
theorem dX9_biteFor_30 : decode cX9_biteFor 30 = .ok (.if_icmp .ge 67, 3) := dk_162 0 67 (dk_at dksX9_biteFor_1 6 rfl rfl)
theorem dX9_biteFor_33 : decode cX9_biteFor 33 = .ok (.iload_n 1, 1) := dk_27 (dk_at dksX9_biteFor_1 9 rfl rfl)
theorem dX9_biteFor_34 : decode cX9_biteFor 34 = .ok (.iload 6, 2) := dk_21 6 (dk_at dksX9_biteFor_1 10 rfl rfl)
theorem dX9_biteFor_36 : decode cX9_biteFor 36 = .ok (.iload 7, 2) := dk_21 7 (dk_at dksX9_biteFor_1 12 rfl rfl)
theorem dX9_biteFor_38 : decode cX9_biteFor 38 = .ok (.invokestatic 134, 3) := dk_184 0 134 (dk_at dksX9_biteFor_1 14 rfl rfl)
theorem dX9_biteFor_41 : decode cX9_biteFor 41 = .ok (.ifCond .ne 6, 3) := dk_154 0 6 (dk_at dksX9_biteFor_1 17 rfl rfl)
theorem dX9_biteFor_44 : decode cX9_biteFor 44 = .ok (.goto 47, 3) := dk_167 0 47 (dk_at dksX9_biteFor_1 20 rfl rfl)
theorem dX9_biteFor_47 : decode cX9_biteFor 47 = .ok (.iload_n 3, 1) := dk_29 (dk_at dksX9_biteFor_1 23 rfl rfl)
theorem dX9_biteFor_48 : decode cX9_biteFor 48 = .ok (.aload_n 0, 1) := dk_42 (dk_at dksX9_biteFor_2 0 rfl rfl)
theorem dX9_biteFor_49 : decode cX9_biteFor 49 = .ok (.iload_n 1, 1) := dk_27 (dk_at dksX9_biteFor_2 1 rfl rfl)
theorem dX9_biteFor_50 : decode cX9_biteFor 50 = .ok (.iload 6, 2) := dk_21 6 (dk_at dksX9_biteFor_2 2 rfl rfl)
theorem dX9_biteFor_52 : decode cX9_biteFor 52 = .ok (.iload 7, 2) := dk_21 7 (dk_at dksX9_biteFor_2 4 rfl rfl)
theorem dX9_biteFor_54 : decode cX9_biteFor 54 = .ok (.invokestatic 65, 3) := dk_184 0 65 (dk_at dksX9_biteFor_2 6 rfl rfl)
theorem dX9_biteFor_57 : decode cX9_biteFor 57 = .ok (.iconst (-1), 1) := dk_2 (dk_at dksX9_biteFor_2 9 rfl rfl)
theorem dX9_biteFor_58 : decode cX9_biteFor 58 = .ok (.ixor, 1) := dk_130 (dk_at dksX9_biteFor_2 10 rfl rfl)
theorem dX9_biteFor_59 : decode cX9_biteFor 59 = .ok (.iand, 1) := dk_126 (dk_at dksX9_biteFor_2 11 rfl rfl)
theorem dX9_biteFor_60 : decode cX9_biteFor 60 = .ok (.iload_n 2, 1) := dk_28 (dk_at dksX9_biteFor_2 12 rfl rfl)
theorem dX9_biteFor_61 : decode cX9_biteFor 61 = .ok (.invokevirtual 98, 3) := dk_182 0 98 (dk_at dksX9_biteFor_2 13 rfl rfl)
theorem dX9_biteFor_64 : decode cX9_biteFor 64 = .ok (.imul, 1) := dk_104 (dk_at dksX9_biteFor_2 16 rfl rfl)
theorem dX9_biteFor_65 : decode cX9_biteFor 65 = .ok (.istore 8, 2) := dk_54 8 (dk_at dksX9_biteFor_2 17 rfl rfl)
theorem dX9_biteFor_67 : decode cX9_biteFor 67 = .ok (.iload 8, 2) := dk_21 8 (dk_at dksX9_biteFor_2 19 rfl rfl)
theorem dX9_biteFor_69 : decode cX9_biteFor 69 = .ok (.iload 5, 2) := dk_21 5 (dk_at dksX9_biteFor_2 21 rfl rfl)
theorem dX9_biteFor_71 : decode cX9_biteFor 71 = .ok (.if_icmp .gt 6, 3) := dk_163 0 6 (dk_at dksX9_biteFor_3 0 rfl rfl)
theorem dX9_biteFor_74 : decode cX9_biteFor 74 = .ok (.goto 17, 3) := dk_167 0 17 (dk_at dksX9_biteFor_3 3 rfl rfl)
theorem dX9_biteFor_77 : decode cX9_biteFor 77 = .ok (.bipush 100, 2) := dk_16 100 (dk_at dksX9_biteFor_3 6 rfl rfl)
theorem dX9_biteFor_79 : decode cX9_biteFor 79 = .ok (.iload 6, 2) := dk_21 6 (dk_at dksX9_biteFor_3 8 rfl rfl)
theorem dX9_biteFor_81 : decode cX9_biteFor 81 = .ok (.imul, 1) := dk_104 (dk_at dksX9_biteFor_3 10 rfl rfl)
theorem dX9_biteFor_82 : decode cX9_biteFor 82 = .ok (.iload 7, 2) := dk_21 7 (dk_at dksX9_biteFor_3 11 rfl rfl)
theorem dX9_biteFor_84 : decode cX9_biteFor 84 = .ok (.iadd, 1) := dk_96 (dk_at dksX9_biteFor_3 13 rfl rfl)
theorem dX9_biteFor_85 : decode cX9_biteFor 85 = .ok (.istore 4, 2) := dk_54 4 (dk_at dksX9_biteFor_3 14 rfl rfl)
theorem dX9_biteFor_87 : decode cX9_biteFor 87 = .ok (.iload 8, 2) := dk_21 8 (dk_at dksX9_biteFor_3 16 rfl rfl)
theorem dX9_biteFor_89 : decode cX9_biteFor 89 = .ok (.istore 5, 2) := dk_54 5 (dk_at dksX9_biteFor_3 18 rfl rfl)
theorem dX9_biteFor_91 : decode cX9_biteFor 91 = .ok (.iinc 7 1, 3) := dk_132 7 1 (dk_at dksX9_biteFor_3 20 rfl rfl)
theorem dX9_biteFor_94 : decode cX9_biteFor 94 = .ok (.goto (-68), 3) := dk_167 255 188 (dk_at dksX9_biteFor_4 0 rfl rfl)
theorem dX9_biteFor_97 : decode cX9_biteFor 97 = .ok (.iinc 6 1, 3) := dk_132 6 1 (dk_at dksX9_biteFor_4 3 rfl rfl)
theorem dX9_biteFor_100 : decode cX9_biteFor 100 = .ok (.goto (-83), 3) := dk_167 255 173 (dk_at dksX9_biteFor_4 6 rfl rfl)
theorem dX9_biteFor_103 : decode cX9_biteFor 103 = .ok (.iload 4, 2) := dk_21 4 (dk_at dksX9_biteFor_4 9 rfl rfl)
theorem dX9_biteFor_105 : decode cX9_biteFor 105 = .ok (.ireturn, 1) := dk_172 (dk_at dksX9_biteFor_4 11 rfl rfl)
abbrev cX9_after : ByteArray := prog_21_method_50_code
def yX9_after : MethodName := ⟨RX9, "after", "(II)I"⟩
def dkwX9_after_0 : List UInt8 := [27, 156, 0, 7, 26, 167, 0, 18, 26, 27, 16, 100, 108, 27, 16, 100, 112, 184, 0, 65, 2, 130, 126, 172]
abbrev dktX9_after_0 : List UInt8 := dkwX9_after_0 ++ []
theorem dksX9_after_0 : cX9_after.data.toList.drop 0 = dktX9_after_0 := by decide +kernel
theorem dX9_after_0 : decode cX9_after 0 = .ok (.iload_n 1, 1) := dk_27 (dk_at dksX9_after_0 0 rfl rfl)
theorem dX9_after_1 : decode cX9_after 1 = .ok (.ifCond .ge 7, 3) := dk_156 0 7 (dk_at dksX9_after_0 1 rfl rfl)
theorem dX9_after_4 : decode cX9_after 4 = .ok (.iload_n 0, 1) := dk_26 (dk_at dksX9_after_0 4 rfl rfl)
theorem dX9_after_5 : decode cX9_after 5 = .ok (.goto 18, 3) := dk_167 0 18 (dk_at dksX9_after_0 5 rfl rfl)
theorem dX9_after_8 : decode cX9_after 8 = .ok (.iload_n 0, 1) := dk_26 (dk_at dksX9_after_0 8 rfl rfl)
theorem dX9_after_9 : decode cX9_after 9 = .ok (.iload_n 1, 1) := dk_27 (dk_at dksX9_after_0 9 rfl rfl)
theorem dX9_after_10 : decode cX9_after 10 = .ok (.bipush 100, 2) := dk_16 100 (dk_at dksX9_after_0 10 rfl rfl)
theorem dX9_after_12 : decode cX9_after 12 = .ok (.idiv, 1) := dk_108 (dk_at dksX9_after_0 12 rfl rfl)
theorem dX9_after_13 : decode cX9_after 13 = .ok (.iload_n 1, 1) := dk_27 (dk_at dksX9_after_0 13 rfl rfl)
theorem dX9_after_14 : decode cX9_after 14 = .ok (.bipush 100, 2) := dk_16 100 (dk_at dksX9_after_0 14 rfl rfl)
theorem dX9_after_16 : decode cX9_after 16 = .ok (.irem, 1) := dk_112 (dk_at dksX9_after_0 16 rfl rfl)
theorem dX9_after_17 : decode cX9_after 17 = .ok (.invokestatic 65, 3) := dk_184 0 65 (dk_at dksX9_after_0 17 rfl rfl)
theorem dX9_after_20 : decode cX9_after 20 = .ok (.iconst (-1), 1) := dk_2 (dk_at dksX9_after_0 20 rfl rfl)
theorem dX9_after_21 : decode cX9_after 21 = .ok (.ixor, 1) := dk_130 (dk_at dksX9_after_0 21 rfl rfl)
theorem dX9_after_22 : decode cX9_after 22 = .ok (.iand, 1) := dk_126 (dk_at dksX9_after_0 22 rfl rfl)
theorem dX9_after_23 : decode cX9_after 23 = .ok (.ireturn, 1) := dk_172 (dk_at dksX9_after_0 23 rfl rfl)
abbrev cX9_worst : ByteArray := prog_21_method_53_code
def yX9_worst : MethodName := ⟨RX9, "worst", "(II)I"⟩
def dkwX9_worst_0 : List UInt8 := [42, 27, 28, 2, 182, 0, 189, 172]
abbrev dktX9_worst_0 : List UInt8 := dkwX9_worst_0 ++ []
theorem dksX9_worst_0 : cX9_worst.data.toList.drop 0 = dktX9_worst_0 := by decide +kernel
theorem dX9_worst_0 : decode cX9_worst 0 = .ok (.aload_n 0, 1) := dk_42 (dk_at dksX9_worst_0 0 rfl rfl)
theorem dX9_worst_1 : decode cX9_worst 1 = .ok (.iload_n 1, 1) := dk_27 (dk_at dksX9_worst_0 1 rfl rfl)
theorem dX9_worst_2 : decode cX9_worst 2 = .ok (.iload_n 2, 1) := dk_28 (dk_at dksX9_worst_0 2 rfl rfl)
theorem dX9_worst_3 : decode cX9_worst 3 = .ok (.iconst (-1), 1) := dk_2 (dk_at dksX9_worst_0 3 rfl rfl)
theorem dX9_worst_4 : decode cX9_worst 4 = .ok (.invokevirtual 189, 3) := dk_182 0 189 (dk_at dksX9_worst_0 4 rfl rfl)
theorem dX9_worst_7 : decode cX9_worst 7 = .ok (.ireturn, 1) := dk_172 (dk_at dksX9_worst_0 7 rfl rfl)
abbrev cX9_fewest : ByteArray := prog_21_method_56_code
def yX9_fewest : MethodName := ⟨RX9, "fewest", "(III)I"⟩
def dkwX9_fewest_4 : List UInt8 := [167, 0, 11, 42, 27, 28, 21, 5, 182, 0, 196, 172, 132, 5, 1, 167, 255, 204, 16, 247, 172]
abbrev dktX9_fewest_4 : List UInt8 := dkwX9_fewest_4 ++ []
def dkwX9_fewest_3 : List UInt8 := [182, 0, 192, 153, 0, 31, 29, 154, 0, 8, 21, 5, 167, 0, 21, 21, 5, 154, 0, 8, 16, 247]
abbrev dktX9_fewest_3 : List UInt8 := dkwX9_fewest_3 ++ dktX9_fewest_4
def dkwX9_fewest_2 : List UInt8 := [182, 0, 52, 172, 3, 54, 5, 21, 5, 6, 162, 0, 52, 42, 42, 180, 0, 10, 27, 28, 21, 5]
abbrev dktX9_fewest_2 : List UInt8 := dkwX9_fewest_2 ++ dktX9_fewest_3
def dkwX9_fewest_1 : List UInt8 := [154, 0, 16, 29, 3, 4, 184, 0, 58, 154, 0, 7, 16, 254, 54, 4, 21, 4, 153, 0, 10, 42, 21, 4]
abbrev dktX9_fewest_1 : List UInt8 := dkwX9_fewest_1 ++ dktX9_fewest_2
def dkwX9_fewest_0 : List UInt8 := [42, 27, 182, 0, 168, 153, 0, 12, 28, 16, 40, 184, 0, 171, 167, 0, 4, 2, 54, 4, 21, 4]
abbrev dktX9_fewest_0 : List UInt8 := dkwX9_fewest_0 ++ dktX9_fewest_1
theorem dksX9_fewest_0 : cX9_fewest.data.toList.drop 0 = dktX9_fewest_0 := by decide +kernel
theorem dksX9_fewest_1 : cX9_fewest.data.toList.drop 22 = dktX9_fewest_1 := dk_seg dksX9_fewest_0 22 rfl rfl
theorem dksX9_fewest_2 : cX9_fewest.data.toList.drop 46 = dktX9_fewest_2 := dk_seg dksX9_fewest_1 24 rfl rfl
theorem dksX9_fewest_3 : cX9_fewest.data.toList.drop 68 = dktX9_fewest_3 := dk_seg dksX9_fewest_2 22 rfl rfl
theorem dksX9_fewest_4 : cX9_fewest.data.toList.drop 90 = dktX9_fewest_4 := dk_seg dksX9_fewest_3 22 rfl rfl
theorem dX9_fewest_0 : decode cX9_fewest 0 = .ok (.aload_n 0, 1) := dk_42 (dk_at dksX9_fewest_0 0 rfl rfl)
theorem dX9_fewest_1 : decode cX9_fewest 1 = .ok (.iload_n 1, 1) := dk_27 (dk_at dksX9_fewest_0 1 rfl rfl)
theorem dX9_fewest_2 : decode cX9_fewest 2 = .ok (.invokevirtual 168, 3) := dk_182 0 168 (dk_at dksX9_fewest_0 2 rfl rfl)
theorem dX9_fewest_5 : decode cX9_fewest 5 = .ok (.ifCond .eq 12, 3) := dk_153 0 12 (dk_at dksX9_fewest_0 5 rfl rfl)
theorem dX9_fewest_8 : decode cX9_fewest 8 = .ok (.iload_n 2, 1) := dk_28 (dk_at dksX9_fewest_0 8 rfl rfl)
theorem dX9_fewest_9 : decode cX9_fewest 9 = .ok (.bipush 40, 2) := dk_16 40 (dk_at dksX9_fewest_0 9 rfl rfl)
theorem dX9_fewest_11 : decode cX9_fewest 11 = .ok (.invokestatic 171, 3) := dk_184 0 171 (dk_at dksX9_fewest_0 11 rfl rfl)
theorem dX9_fewest_14 : decode cX9_fewest 14 = .ok (.goto 4, 3) := dk_167 0 4 (dk_at dksX9_fewest_0 14 rfl rfl)
theorem dX9_fewest_17 : decode cX9_fewest 17 = .ok (.iconst (-1), 1) := dk_2 (dk_at dksX9_fewest_0 17 rfl rfl)
theorem dX9_fewest_18 : decode cX9_fewest 18 = .ok (.istore 4, 2) := dk_54 4 (dk_at dksX9_fewest_0 18 rfl rfl)
theorem dX9_fewest_20 : decode cX9_fewest 20 = .ok (.iload 4, 2) := dk_21 4 (dk_at dksX9_fewest_0 20 rfl rfl)
theorem dX9_fewest_22 : decode cX9_fewest 22 = .ok (.ifCond .ne 16, 3) := dk_154 0 16 (dk_at dksX9_fewest_1 0 rfl rfl)
theorem dX9_fewest_25 : decode cX9_fewest 25 = .ok (.iload_n 3, 1) := dk_29 (dk_at dksX9_fewest_1 3 rfl rfl)
theorem dX9_fewest_26 : decode cX9_fewest 26 = .ok (.iconst 0, 1) := dk_3 (dk_at dksX9_fewest_1 4 rfl rfl)
theorem dX9_fewest_27 : decode cX9_fewest 27 = .ok (.iconst 1, 1) := dk_4 (dk_at dksX9_fewest_1 5 rfl rfl)
theorem dX9_fewest_28 : decode cX9_fewest 28 = .ok (.invokestatic 58, 3) := dk_184 0 58 (dk_at dksX9_fewest_1 6 rfl rfl)
theorem dX9_fewest_31 : decode cX9_fewest 31 = .ok (.ifCond .ne 7, 3) := dk_154 0 7 (dk_at dksX9_fewest_1 9 rfl rfl)
theorem dX9_fewest_34 : decode cX9_fewest 34 = .ok (.bipush (-2), 2) := dk_16 254 (dk_at dksX9_fewest_1 12 rfl rfl)
theorem dX9_fewest_36 : decode cX9_fewest 36 = .ok (.istore 4, 2) := dk_54 4 (dk_at dksX9_fewest_1 14 rfl rfl)
theorem dX9_fewest_38 : decode cX9_fewest 38 = .ok (.iload 4, 2) := dk_21 4 (dk_at dksX9_fewest_1 16 rfl rfl)
theorem dX9_fewest_40 : decode cX9_fewest 40 = .ok (.ifCond .eq 10, 3) := dk_153 0 10 (dk_at dksX9_fewest_1 18 rfl rfl)
theorem dX9_fewest_43 : decode cX9_fewest 43 = .ok (.aload_n 0, 1) := dk_42 (dk_at dksX9_fewest_1 21 rfl rfl)
theorem dX9_fewest_44 : decode cX9_fewest 44 = .ok (.iload 4, 2) := dk_21 4 (dk_at dksX9_fewest_1 22 rfl rfl)
theorem dX9_fewest_46 : decode cX9_fewest 46 = .ok (.invokevirtual 52, 3) := dk_182 0 52 (dk_at dksX9_fewest_2 0 rfl rfl)
theorem dX9_fewest_49 : decode cX9_fewest 49 = .ok (.ireturn, 1) := dk_172 (dk_at dksX9_fewest_2 3 rfl rfl)
theorem dX9_fewest_50 : decode cX9_fewest 50 = .ok (.iconst 0, 1) := dk_3 (dk_at dksX9_fewest_2 4 rfl rfl)
theorem dX9_fewest_51 : decode cX9_fewest 51 = .ok (.istore 5, 2) := dk_54 5 (dk_at dksX9_fewest_2 5 rfl rfl)
theorem dX9_fewest_53 : decode cX9_fewest 53 = .ok (.iload 5, 2) := dk_21 5 (dk_at dksX9_fewest_2 7 rfl rfl)
theorem dX9_fewest_55 : decode cX9_fewest 55 = .ok (.iconst 3, 1) := dk_6 (dk_at dksX9_fewest_2 9 rfl rfl)
theorem dX9_fewest_56 : decode cX9_fewest 56 = .ok (.if_icmp .ge 52, 3) := dk_162 0 52 (dk_at dksX9_fewest_2 10 rfl rfl)
theorem dX9_fewest_59 : decode cX9_fewest 59 = .ok (.aload_n 0, 1) := dk_42 (dk_at dksX9_fewest_2 13 rfl rfl)
theorem dX9_fewest_60 : decode cX9_fewest 60 = .ok (.aload_n 0, 1) := dk_42 (dk_at dksX9_fewest_2 14 rfl rfl)
theorem dX9_fewest_61 : decode cX9_fewest 61 = .ok (.getfield 10, 3) := dk_180 0 10 (dk_at dksX9_fewest_2 15 rfl rfl)
theorem dX9_fewest_64 : decode cX9_fewest 64 = .ok (.iload_n 1, 1) := dk_27 (dk_at dksX9_fewest_2 18 rfl rfl)
theorem dX9_fewest_65 : decode cX9_fewest 65 = .ok (.iload_n 2, 1) := dk_28 (dk_at dksX9_fewest_2 19 rfl rfl)
theorem dX9_fewest_66 : decode cX9_fewest 66 = .ok (.iload 5, 2) := dk_21 5 (dk_at dksX9_fewest_2 20 rfl rfl)
theorem dX9_fewest_68 : decode cX9_fewest 68 = .ok (.invokevirtual 192, 3) := dk_182 0 192 (dk_at dksX9_fewest_3 0 rfl rfl)
theorem dX9_fewest_71 : decode cX9_fewest 71 = .ok (.ifCond .eq 31, 3) := dk_153 0 31 (dk_at dksX9_fewest_3 3 rfl rfl)
theorem dX9_fewest_74 : decode cX9_fewest 74 = .ok (.iload_n 3, 1) := dk_29 (dk_at dksX9_fewest_3 6 rfl rfl)
theorem dX9_fewest_75 : decode cX9_fewest 75 = .ok (.ifCond .ne 8, 3) := dk_154 0 8 (dk_at dksX9_fewest_3 7 rfl rfl)
theorem dX9_fewest_78 : decode cX9_fewest 78 = .ok (.iload 5, 2) := dk_21 5 (dk_at dksX9_fewest_3 10 rfl rfl)
theorem dX9_fewest_80 : decode cX9_fewest 80 = .ok (.goto 21, 3) := dk_167 0 21 (dk_at dksX9_fewest_3 12 rfl rfl)
theorem dX9_fewest_83 : decode cX9_fewest 83 = .ok (.iload 5, 2) := dk_21 5 (dk_at dksX9_fewest_3 15 rfl rfl)
theorem dX9_fewest_85 : decode cX9_fewest 85 = .ok (.ifCond .ne 8, 3) := dk_154 0 8 (dk_at dksX9_fewest_3 17 rfl rfl)
theorem dX9_fewest_88 : decode cX9_fewest 88 = .ok (.bipush (-9), 2) := dk_16 247 (dk_at dksX9_fewest_3 20 rfl rfl)
theorem dX9_fewest_90 : decode cX9_fewest 90 = .ok (.goto 11, 3) := dk_167 0 11 (dk_at dksX9_fewest_4 0 rfl rfl)
theorem dX9_fewest_93 : decode cX9_fewest 93 = .ok (.aload_n 0, 1) := dk_42 (dk_at dksX9_fewest_4 3 rfl rfl)
theorem dX9_fewest_94 : decode cX9_fewest 94 = .ok (.iload_n 1, 1) := dk_27 (dk_at dksX9_fewest_4 4 rfl rfl)
theorem dX9_fewest_95 : decode cX9_fewest 95 = .ok (.iload_n 2, 1) := dk_28 (dk_at dksX9_fewest_4 5 rfl rfl)
theorem dX9_fewest_96 : decode cX9_fewest 96 = .ok (.iload 5, 2) := dk_21 5 (dk_at dksX9_fewest_4 6 rfl rfl)
theorem dX9_fewest_98 : decode cX9_fewest 98 = .ok (.invokevirtual 196, 3) := dk_182 0 196 (dk_at dksX9_fewest_4 8 rfl rfl)
theorem dX9_fewest_101 : decode cX9_fewest 101 = .ok (.ireturn, 1) := dk_172 (dk_at dksX9_fewest_4 11 rfl rfl)
theorem dX9_fewest_102 : decode cX9_fewest 102 = .ok (.iinc 5 1, 3) := dk_132 5 1 (dk_at dksX9_fewest_4 12 rfl rfl)
theorem dX9_fewest_105 : decode cX9_fewest 105 = .ok (.goto (-52), 3) := dk_167 255 204 (dk_at dksX9_fewest_4 15 rfl rfl)
theorem dX9_fewest_108 : decode cX9_fewest 108 = .ok (.bipush (-9), 2) := dk_16 247 (dk_at dksX9_fewest_4 18 rfl rfl)
theorem dX9_fewest_110 : decode cX9_fewest 110 = .ok (.ireturn, 1) := dk_172 (dk_at dksX9_fewest_4 20 rfl rfl)
abbrev cX9_isSoBy : ByteArray := prog_21_method_54_code
def yX9_isSoBy : MethodName := ⟨RX9, "isSoBy", "(IIII)Z"⟩
def dkwX9_isSoBy_3 : List UInt8 := [153, 0, 5, 4, 172, 132, 6, 1, 167, 255, 209, 132, 5, 1, 167, 255, 194, 3, 172]
abbrev dktX9_isSoBy_3 : List UInt8 := dkwX9_isSoBy_3 ++ []
def dkwX9_isSoBy_2 : List UInt8 := [153, 0, 29, 42, 27, 21, 5, 21, 6, 184, 0, 65, 2, 130, 126, 28, 29, 21, 4, 4, 100, 182, 0, 192]
abbrev dktX9_isSoBy_2 : List UInt8 := dkwX9_isSoBy_2 ++ dktX9_isSoBy_3
def dkwX9_isSoBy_1 : List UInt8 := [21, 5, 7, 162, 0, 62, 3, 54, 6, 21, 6, 16, 25, 162, 0, 46, 27, 21, 5, 21, 6, 184, 0, 134]
abbrev dktX9_isSoBy_1 : List UInt8 := dkwX9_isSoBy_1 ++ dktX9_isSoBy_2
def dkwX9_isSoBy_0 : List UInt8 := [21, 4, 154, 0, 19, 42, 27, 28, 182, 0, 98, 29, 161, 0, 7, 4, 167, 0, 4, 3, 172, 3, 54, 5]
abbrev dktX9_isSoBy_0 : List UInt8 := dkwX9_isSoBy_0 ++ dktX9_isSoBy_1
theorem dksX9_isSoBy_0 : cX9_isSoBy.data.toList.drop 0 = dktX9_isSoBy_0 := by decide +kernel
theorem dksX9_isSoBy_1 : cX9_isSoBy.data.toList.drop 24 = dktX9_isSoBy_1 := dk_seg dksX9_isSoBy_0 24 rfl rfl
theorem dksX9_isSoBy_2 : cX9_isSoBy.data.toList.drop 48 = dktX9_isSoBy_2 := dk_seg dksX9_isSoBy_1 24 rfl rfl
theorem dksX9_isSoBy_3 : cX9_isSoBy.data.toList.drop 72 = dktX9_isSoBy_3 := dk_seg dksX9_isSoBy_2 24 rfl rfl
theorem dX9_isSoBy_0 : decode cX9_isSoBy 0 = .ok (.iload 4, 2) := dk_21 4 (dk_at dksX9_isSoBy_0 0 rfl rfl)
theorem dX9_isSoBy_2 : decode cX9_isSoBy 2 = .ok (.ifCond .ne 19, 3) := dk_154 0 19 (dk_at dksX9_isSoBy_0 2 rfl rfl)
theorem dX9_isSoBy_5 : decode cX9_isSoBy 5 = .ok (.aload_n 0, 1) := dk_42 (dk_at dksX9_isSoBy_0 5 rfl rfl)
theorem dX9_isSoBy_6 : decode cX9_isSoBy 6 = .ok (.iload_n 1, 1) := dk_27 (dk_at dksX9_isSoBy_0 6 rfl rfl)
theorem dX9_isSoBy_7 : decode cX9_isSoBy 7 = .ok (.iload_n 2, 1) := dk_28 (dk_at dksX9_isSoBy_0 7 rfl rfl)
theorem dX9_isSoBy_8 : decode cX9_isSoBy 8 = .ok (.invokevirtual 98, 3) := dk_182 0 98 (dk_at dksX9_isSoBy_0 8 rfl rfl)
theorem dX9_isSoBy_11 : decode cX9_isSoBy 11 = .ok (.iload_n 3, 1) := dk_29 (dk_at dksX9_isSoBy_0 11 rfl rfl)
theorem dX9_isSoBy_12 : decode cX9_isSoBy 12 = .ok (.if_icmp .lt 7, 3) := dk_161 0 7 (dk_at dksX9_isSoBy_0 12 rfl rfl)
theorem dX9_isSoBy_15 : decode cX9_isSoBy 15 = .ok (.iconst 1, 1) := dk_4 (dk_at dksX9_isSoBy_0 15 rfl rfl)
theorem dX9_isSoBy_16 : decode cX9_isSoBy 16 = .ok (.goto 4, 3) := dk_167 0 4 (dk_at dksX9_isSoBy_0 16 rfl rfl)
theorem dX9_isSoBy_19 : decode cX9_isSoBy 19 = .ok (.iconst 0, 1) := dk_3 (dk_at dksX9_isSoBy_0 19 rfl rfl)
theorem dX9_isSoBy_20 : decode cX9_isSoBy 20 = .ok (.ireturn, 1) := dk_172 (dk_at dksX9_isSoBy_0 20 rfl rfl)
theorem dX9_isSoBy_21 : decode cX9_isSoBy 21 = .ok (.iconst 0, 1) := dk_3 (dk_at dksX9_isSoBy_0 21 rfl rfl)
theorem dX9_isSoBy_22 : decode cX9_isSoBy 22 = .ok (.istore 5, 2) := dk_54 5 (dk_at dksX9_isSoBy_0 22 rfl rfl)
theorem dX9_isSoBy_24 : decode cX9_isSoBy 24 = .ok (.iload 5, 2) := dk_21 5 (dk_at dksX9_isSoBy_1 0 rfl rfl)
theorem dX9_isSoBy_26 : decode cX9_isSoBy 26 = .ok (.iconst 4, 1) := dk_7 (dk_at dksX9_isSoBy_1 2 rfl rfl)
theorem dX9_isSoBy_27 : decode cX9_isSoBy 27 = .ok (.if_icmp .ge 62, 3) := dk_162 0 62 (dk_at dksX9_isSoBy_1 3 rfl rfl)
theorem dX9_isSoBy_30 : decode cX9_isSoBy 30 = .ok (.iconst 0, 1) := dk_3 (dk_at dksX9_isSoBy_1 6 rfl rfl)
theorem dX9_isSoBy_31 : decode cX9_isSoBy 31 = .ok (.istore 6, 2) := dk_54 6 (dk_at dksX9_isSoBy_1 7 rfl rfl)
theorem dX9_isSoBy_33 : decode cX9_isSoBy 33 = .ok (.iload 6, 2) := dk_21 6 (dk_at dksX9_isSoBy_1 9 rfl rfl)
theorem dX9_isSoBy_35 : decode cX9_isSoBy 35 = .ok (.bipush 25, 2) := dk_16 25 (dk_at dksX9_isSoBy_1 11 rfl rfl)
theorem dX9_isSoBy_37 : decode cX9_isSoBy 37 = .ok (.if_icmp .ge 46, 3) := dk_162 0 46 (dk_at dksX9_isSoBy_1 13 rfl rfl)
theorem dX9_isSoBy_40 : decode cX9_isSoBy 40 = .ok (.iload_n 1, 1) := dk_27 (dk_at dksX9_isSoBy_1 16 rfl rfl)
theorem dX9_isSoBy_41 : decode cX9_isSoBy 41 = .ok (.iload 5, 2) := dk_21 5 (dk_at dksX9_isSoBy_1 17 rfl rfl)
theorem dX9_isSoBy_43 : decode cX9_isSoBy 43 = .ok (.iload 6, 2) := dk_21 6 (dk_at dksX9_isSoBy_1 19 rfl rfl)
theorem dX9_isSoBy_45 : decode cX9_isSoBy 45 = .ok (.invokestatic 134, 3) := dk_184 0 134 (dk_at dksX9_isSoBy_1 21 rfl rfl)
theorem dX9_isSoBy_48 : decode cX9_isSoBy 48 = .ok (.ifCond .eq 29, 3) := dk_153 0 29 (dk_at dksX9_isSoBy_2 0 rfl rfl)
theorem dX9_isSoBy_51 : decode cX9_isSoBy 51 = .ok (.aload_n 0, 1) := dk_42 (dk_at dksX9_isSoBy_2 3 rfl rfl)
theorem dX9_isSoBy_52 : decode cX9_isSoBy 52 = .ok (.iload_n 1, 1) := dk_27 (dk_at dksX9_isSoBy_2 4 rfl rfl)
theorem dX9_isSoBy_53 : decode cX9_isSoBy 53 = .ok (.iload 5, 2) := dk_21 5 (dk_at dksX9_isSoBy_2 5 rfl rfl)
theorem dX9_isSoBy_55 : decode cX9_isSoBy 55 = .ok (.iload 6, 2) := dk_21 6 (dk_at dksX9_isSoBy_2 7 rfl rfl)
theorem dX9_isSoBy_57 : decode cX9_isSoBy 57 = .ok (.invokestatic 65, 3) := dk_184 0 65 (dk_at dksX9_isSoBy_2 9 rfl rfl)
theorem dX9_isSoBy_60 : decode cX9_isSoBy 60 = .ok (.iconst (-1), 1) := dk_2 (dk_at dksX9_isSoBy_2 12 rfl rfl)
theorem dX9_isSoBy_61 : decode cX9_isSoBy 61 = .ok (.ixor, 1) := dk_130 (dk_at dksX9_isSoBy_2 13 rfl rfl)
theorem dX9_isSoBy_62 : decode cX9_isSoBy 62 = .ok (.iand, 1) := dk_126 (dk_at dksX9_isSoBy_2 14 rfl rfl)
theorem dX9_isSoBy_63 : decode cX9_isSoBy 63 = .ok (.iload_n 2, 1) := dk_28 (dk_at dksX9_isSoBy_2 15 rfl rfl)
theorem dX9_isSoBy_64 : decode cX9_isSoBy 64 = .ok (.iload_n 3, 1) := dk_29 (dk_at dksX9_isSoBy_2 16 rfl rfl)
theorem dX9_isSoBy_65 : decode cX9_isSoBy 65 = .ok (.iload 4, 2) := dk_21 4 (dk_at dksX9_isSoBy_2 17 rfl rfl)
theorem dX9_isSoBy_67 : decode cX9_isSoBy 67 = .ok (.iconst 1, 1) := dk_4 (dk_at dksX9_isSoBy_2 19 rfl rfl)
theorem dX9_isSoBy_68 : decode cX9_isSoBy 68 = .ok (.isub, 1) := dk_100 (dk_at dksX9_isSoBy_2 20 rfl rfl)
theorem dX9_isSoBy_69 : decode cX9_isSoBy 69 = .ok (.invokevirtual 192, 3) := dk_182 0 192 (dk_at dksX9_isSoBy_2 21 rfl rfl)
theorem dX9_isSoBy_72 : decode cX9_isSoBy 72 = .ok (.ifCond .eq 5, 3) := dk_153 0 5 (dk_at dksX9_isSoBy_3 0 rfl rfl)
theorem dX9_isSoBy_75 : decode cX9_isSoBy 75 = .ok (.iconst 1, 1) := dk_4 (dk_at dksX9_isSoBy_3 3 rfl rfl)
theorem dX9_isSoBy_76 : decode cX9_isSoBy 76 = .ok (.ireturn, 1) := dk_172 (dk_at dksX9_isSoBy_3 4 rfl rfl)
theorem dX9_isSoBy_77 : decode cX9_isSoBy 77 = .ok (.iinc 6 1, 3) := dk_132 6 1 (dk_at dksX9_isSoBy_3 5 rfl rfl)
theorem dX9_isSoBy_80 : decode cX9_isSoBy 80 = .ok (.goto (-47), 3) := dk_167 255 209 (dk_at dksX9_isSoBy_3 8 rfl rfl)
theorem dX9_isSoBy_83 : decode cX9_isSoBy 83 = .ok (.iinc 5 1, 3) := dk_132 5 1 (dk_at dksX9_isSoBy_3 11 rfl rfl)
theorem dX9_isSoBy_86 : decode cX9_isSoBy 86 = .ok (.goto (-62), 3) := dk_167 255 194 (dk_at dksX9_isSoBy_3 14 rfl rfl)
theorem dX9_isSoBy_89 : decode cX9_isSoBy 89 = .ok (.iconst 0, 1) := dk_3 (dk_at dksX9_isSoBy_3 17 rfl rfl)
theorem dX9_isSoBy_90 : decode cX9_isSoBy 90 = .ok (.ireturn, 1) := dk_172 (dk_at dksX9_isSoBy_3 18 rfl rfl)
abbrev cX9_firstSo : ByteArray := prog_21_method_55_code
def yX9_firstSo : MethodName := ⟨RX9, "firstSo", "(III)I"⟩
def dkwX9_firstSo_3 : List UInt8 := [167, 255, 197, 132, 4, 1, 167, 255, 182, 16, 247, 172]
abbrev dktX9_firstSo_3 : List UInt8 := dkwX9_firstSo_3 ++ []
def dkwX9_firstSo_2 : List UInt8 := [126, 27, 28, 29, 4, 100, 182, 0, 192, 153, 0, 12, 16, 100, 21, 4, 104, 21, 5, 96, 172, 132, 5, 1]
abbrev dktX9_firstSo_2 : List UInt8 := dkwX9_firstSo_2 ++ dktX9_firstSo_3
def dkwX9_firstSo_1 : List UInt8 := [21, 4, 21, 5, 184, 0, 134, 153, 0, 38, 42, 42, 180, 0, 10, 21, 4, 21, 5, 184, 0, 65, 2, 130]
abbrev dktX9_firstSo_1 : List UInt8 := dkwX9_firstSo_1 ++ dktX9_firstSo_2
def dkwX9_firstSo_0 : List UInt8 := [3, 54, 4, 21, 4, 7, 162, 0, 74, 3, 54, 5, 21, 5, 16, 25, 162, 0, 58, 42, 180, 0, 10]
abbrev dktX9_firstSo_0 : List UInt8 := dkwX9_firstSo_0 ++ dktX9_firstSo_1
theorem dksX9_firstSo_0 : cX9_firstSo.data.toList.drop 0 = dktX9_firstSo_0 := by decide +kernel
theorem dksX9_firstSo_1 : cX9_firstSo.data.toList.drop 23 = dktX9_firstSo_1 := dk_seg dksX9_firstSo_0 23 rfl rfl
theorem dksX9_firstSo_2 : cX9_firstSo.data.toList.drop 47 = dktX9_firstSo_2 := dk_seg dksX9_firstSo_1 24 rfl rfl
theorem dksX9_firstSo_3 : cX9_firstSo.data.toList.drop 71 = dktX9_firstSo_3 := dk_seg dksX9_firstSo_2 24 rfl rfl
theorem dX9_firstSo_0 : decode cX9_firstSo 0 = .ok (.iconst 0, 1) := dk_3 (dk_at dksX9_firstSo_0 0 rfl rfl)
theorem dX9_firstSo_1 : decode cX9_firstSo 1 = .ok (.istore 4, 2) := dk_54 4 (dk_at dksX9_firstSo_0 1 rfl rfl)
theorem dX9_firstSo_3 : decode cX9_firstSo 3 = .ok (.iload 4, 2) := dk_21 4 (dk_at dksX9_firstSo_0 3 rfl rfl)
theorem dX9_firstSo_5 : decode cX9_firstSo 5 = .ok (.iconst 4, 1) := dk_7 (dk_at dksX9_firstSo_0 5 rfl rfl)
theorem dX9_firstSo_6 : decode cX9_firstSo 6 = .ok (.if_icmp .ge 74, 3) := dk_162 0 74 (dk_at dksX9_firstSo_0 6 rfl rfl)
theorem dX9_firstSo_9 : decode cX9_firstSo 9 = .ok (.iconst 0, 1) := dk_3 (dk_at dksX9_firstSo_0 9 rfl rfl)
theorem dX9_firstSo_10 : decode cX9_firstSo 10 = .ok (.istore 5, 2) := dk_54 5 (dk_at dksX9_firstSo_0 10 rfl rfl)
theorem dX9_firstSo_12 : decode cX9_firstSo 12 = .ok (.iload 5, 2) := dk_21 5 (dk_at dksX9_firstSo_0 12 rfl rfl)
theorem dX9_firstSo_14 : decode cX9_firstSo 14 = .ok (.bipush 25, 2) := dk_16 25 (dk_at dksX9_firstSo_0 14 rfl rfl)
theorem dX9_firstSo_16 : decode cX9_firstSo 16 = .ok (.if_icmp .ge 58, 3) := dk_162 0 58 (dk_at dksX9_firstSo_0 16 rfl rfl)
theorem dX9_firstSo_19 : decode cX9_firstSo 19 = .ok (.aload_n 0, 1) := dk_42 (dk_at dksX9_firstSo_0 19 rfl rfl)
theorem dX9_firstSo_20 : decode cX9_firstSo 20 = .ok (.getfield 10, 3) := dk_180 0 10 (dk_at dksX9_firstSo_0 20 rfl rfl)
theorem dX9_firstSo_23 : decode cX9_firstSo 23 = .ok (.iload 4, 2) := dk_21 4 (dk_at dksX9_firstSo_1 0 rfl rfl)
theorem dX9_firstSo_25 : decode cX9_firstSo 25 = .ok (.iload 5, 2) := dk_21 5 (dk_at dksX9_firstSo_1 2 rfl rfl)
theorem dX9_firstSo_27 : decode cX9_firstSo 27 = .ok (.invokestatic 134, 3) := dk_184 0 134 (dk_at dksX9_firstSo_1 4 rfl rfl)
theorem dX9_firstSo_30 : decode cX9_firstSo 30 = .ok (.ifCond .eq 38, 3) := dk_153 0 38 (dk_at dksX9_firstSo_1 7 rfl rfl)
theorem dX9_firstSo_33 : decode cX9_firstSo 33 = .ok (.aload_n 0, 1) := dk_42 (dk_at dksX9_firstSo_1 10 rfl rfl)
theorem dX9_firstSo_34 : decode cX9_firstSo 34 = .ok (.aload_n 0, 1) := dk_42 (dk_at dksX9_firstSo_1 11 rfl rfl)
theorem dX9_firstSo_35 : decode cX9_firstSo 35 = .ok (.getfield 10, 3) := dk_180 0 10 (dk_at dksX9_firstSo_1 12 rfl rfl)
theorem dX9_firstSo_38 : decode cX9_firstSo 38 = .ok (.iload 4, 2) := dk_21 4 (dk_at dksX9_firstSo_1 15 rfl rfl)
theorem dX9_firstSo_40 : decode cX9_firstSo 40 = .ok (.iload 5, 2) := dk_21 5 (dk_at dksX9_firstSo_1 17 rfl rfl)
theorem dX9_firstSo_42 : decode cX9_firstSo 42 = .ok (.invokestatic 65, 3) := dk_184 0 65 (dk_at dksX9_firstSo_1 19 rfl rfl)
theorem dX9_firstSo_45 : decode cX9_firstSo 45 = .ok (.iconst (-1), 1) := dk_2 (dk_at dksX9_firstSo_1 22 rfl rfl)
theorem dX9_firstSo_46 : decode cX9_firstSo 46 = .ok (.ixor, 1) := dk_130 (dk_at dksX9_firstSo_1 23 rfl rfl)
theorem dX9_firstSo_47 : decode cX9_firstSo 47 = .ok (.iand, 1) := dk_126 (dk_at dksX9_firstSo_2 0 rfl rfl)
theorem dX9_firstSo_48 : decode cX9_firstSo 48 = .ok (.iload_n 1, 1) := dk_27 (dk_at dksX9_firstSo_2 1 rfl rfl)
theorem dX9_firstSo_49 : decode cX9_firstSo 49 = .ok (.iload_n 2, 1) := dk_28 (dk_at dksX9_firstSo_2 2 rfl rfl)
theorem dX9_firstSo_50 : decode cX9_firstSo 50 = .ok (.iload_n 3, 1) := dk_29 (dk_at dksX9_firstSo_2 3 rfl rfl)
theorem dX9_firstSo_51 : decode cX9_firstSo 51 = .ok (.iconst 1, 1) := dk_4 (dk_at dksX9_firstSo_2 4 rfl rfl)
theorem dX9_firstSo_52 : decode cX9_firstSo 52 = .ok (.isub, 1) := dk_100 (dk_at dksX9_firstSo_2 5 rfl rfl)
theorem dX9_firstSo_53 : decode cX9_firstSo 53 = .ok (.invokevirtual 192, 3) := dk_182 0 192 (dk_at dksX9_firstSo_2 6 rfl rfl)
theorem dX9_firstSo_56 : decode cX9_firstSo 56 = .ok (.ifCond .eq 12, 3) := dk_153 0 12 (dk_at dksX9_firstSo_2 9 rfl rfl)
theorem dX9_firstSo_59 : decode cX9_firstSo 59 = .ok (.bipush 100, 2) := dk_16 100 (dk_at dksX9_firstSo_2 12 rfl rfl)
theorem dX9_firstSo_61 : decode cX9_firstSo 61 = .ok (.iload 4, 2) := dk_21 4 (dk_at dksX9_firstSo_2 14 rfl rfl)
theorem dX9_firstSo_63 : decode cX9_firstSo 63 = .ok (.imul, 1) := dk_104 (dk_at dksX9_firstSo_2 16 rfl rfl)
theorem dX9_firstSo_64 : decode cX9_firstSo 64 = .ok (.iload 5, 2) := dk_21 5 (dk_at dksX9_firstSo_2 17 rfl rfl)
theorem dX9_firstSo_66 : decode cX9_firstSo 66 = .ok (.iadd, 1) := dk_96 (dk_at dksX9_firstSo_2 19 rfl rfl)
theorem dX9_firstSo_67 : decode cX9_firstSo 67 = .ok (.ireturn, 1) := dk_172 (dk_at dksX9_firstSo_2 20 rfl rfl)
theorem dX9_firstSo_68 : decode cX9_firstSo 68 = .ok (.iinc 5 1, 3) := dk_132 5 1 (dk_at dksX9_firstSo_2 21 rfl rfl)
theorem dX9_firstSo_71 : decode cX9_firstSo 71 = .ok (.goto (-59), 3) := dk_167 255 197 (dk_at dksX9_firstSo_3 0 rfl rfl)
theorem dX9_firstSo_74 : decode cX9_firstSo 74 = .ok (.iinc 4 1, 3) := dk_132 4 1 (dk_at dksX9_firstSo_3 3 rfl rfl)
theorem dX9_firstSo_77 : decode cX9_firstSo 77 = .ok (.goto (-74), 3) := dk_167 255 182 (dk_at dksX9_firstSo_3 6 rfl rfl)
theorem dX9_firstSo_80 : decode cX9_firstSo 80 = .ok (.bipush (-9), 2) := dk_16 247 (dk_at dksX9_firstSo_3 9 rfl rfl)
theorem dX9_firstSo_82 : decode cX9_firstSo 82 = .ok (.ireturn, 1) := dk_172 (dk_at dksX9_firstSo_3 11 rfl rfl)
abbrev cX9_safe : ByteArray := prog_21_method_57_code
def yX9_safe : MethodName := ⟨RX9, "safe", "()I"⟩
def dkwX9_safe_4 : List UInt8 := [153, 0, 7, 4, 167, 0, 4, 3, 96, 60, 132, 3, 1, 167, 255, 162, 132, 2, 1, 167, 255, 149, 27, 172]
abbrev dktX9_safe_4 : List UInt8 := dkwX9_safe_4 ++ []
def dkwX9_safe_3 : List UInt8 := [182, 0, 98, 160, 0, 7, 4, 167, 0, 4, 3, 54, 4, 132, 5, 1, 167, 255, 201, 27, 21, 4]
abbrev dktX9_safe_3 : List UInt8 := dkwX9_safe_3 ++ dktX9_safe_4
def dkwX9_safe_2 : List UInt8 := [180, 0, 10, 28, 29, 184, 0, 65, 2, 130, 126, 21, 5, 182, 0, 98, 42, 42, 180, 0, 10, 21, 5]
abbrev dktX9_safe_2 : List UInt8 := dkwX9_safe_2 ++ dktX9_safe_3
def dkwX9_safe_1 : List UInt8 := [184, 0, 134, 54, 4, 3, 54, 5, 21, 5, 42, 180, 0, 62, 162, 0, 52, 21, 4, 153, 0, 47, 42, 42]
abbrev dktX9_safe_1 : List UInt8 := dkwX9_safe_1 ++ dktX9_safe_2
def dkwX9_safe_0 : List UInt8 := [3, 60, 3, 61, 28, 7, 162, 0, 108, 3, 62, 29, 16, 25, 162, 0, 94, 42, 180, 0, 10, 28, 29]
abbrev dktX9_safe_0 : List UInt8 := dkwX9_safe_0 ++ dktX9_safe_1
theorem dksX9_safe_0 : cX9_safe.data.toList.drop 0 = dktX9_safe_0 := by decide +kernel
theorem dksX9_safe_1 : cX9_safe.data.toList.drop 23 = dktX9_safe_1 := dk_seg dksX9_safe_0 23 rfl rfl
theorem dksX9_safe_2 : cX9_safe.data.toList.drop 47 = dktX9_safe_2 := dk_seg dksX9_safe_1 24 rfl rfl
theorem dksX9_safe_3 : cX9_safe.data.toList.drop 70 = dktX9_safe_3 := dk_seg dksX9_safe_2 23 rfl rfl
theorem dksX9_safe_4 : cX9_safe.data.toList.drop 92 = dktX9_safe_4 := dk_seg dksX9_safe_3 22 rfl rfl
theorem dX9_safe_0 : decode cX9_safe 0 = .ok (.iconst 0, 1) := dk_3 (dk_at dksX9_safe_0 0 rfl rfl)
theorem dX9_safe_1 : decode cX9_safe 1 = .ok (.istore_n 1, 1) := dk_60 (dk_at dksX9_safe_0 1 rfl rfl)
theorem dX9_safe_2 : decode cX9_safe 2 = .ok (.iconst 0, 1) := dk_3 (dk_at dksX9_safe_0 2 rfl rfl)
theorem dX9_safe_3 : decode cX9_safe 3 = .ok (.istore_n 2, 1) := dk_61 (dk_at dksX9_safe_0 3 rfl rfl)
theorem dX9_safe_4 : decode cX9_safe 4 = .ok (.iload_n 2, 1) := dk_28 (dk_at dksX9_safe_0 4 rfl rfl)
theorem dX9_safe_5 : decode cX9_safe 5 = .ok (.iconst 4, 1) := dk_7 (dk_at dksX9_safe_0 5 rfl rfl)
theorem dX9_safe_6 : decode cX9_safe 6 = .ok (.if_icmp .ge 108, 3) := dk_162 0 108 (dk_at dksX9_safe_0 6 rfl rfl)
theorem dX9_safe_9 : decode cX9_safe 9 = .ok (.iconst 0, 1) := dk_3 (dk_at dksX9_safe_0 9 rfl rfl)
theorem dX9_safe_10 : decode cX9_safe 10 = .ok (.istore_n 3, 1) := dk_62 (dk_at dksX9_safe_0 10 rfl rfl)
theorem dX9_safe_11 : decode cX9_safe 11 = .ok (.iload_n 3, 1) := dk_29 (dk_at dksX9_safe_0 11 rfl rfl)
theorem dX9_safe_12 : decode cX9_safe 12 = .ok (.bipush 25, 2) := dk_16 25 (dk_at dksX9_safe_0 12 rfl rfl)
theorem dX9_safe_14 : decode cX9_safe 14 = .ok (.if_icmp .ge 94, 3) := dk_162 0 94 (dk_at dksX9_safe_0 14 rfl rfl)
theorem dX9_safe_17 : decode cX9_safe 17 = .ok (.aload_n 0, 1) := dk_42 (dk_at dksX9_safe_0 17 rfl rfl)
theorem dX9_safe_18 : decode cX9_safe 18 = .ok (.getfield 10, 3) := dk_180 0 10 (dk_at dksX9_safe_0 18 rfl rfl)
theorem dX9_safe_21 : decode cX9_safe 21 = .ok (.iload_n 2, 1) := dk_28 (dk_at dksX9_safe_0 21 rfl rfl)
theorem dX9_safe_22 : decode cX9_safe 22 = .ok (.iload_n 3, 1) := dk_29 (dk_at dksX9_safe_0 22 rfl rfl)
theorem dX9_safe_23 : decode cX9_safe 23 = .ok (.invokestatic 134, 3) := dk_184 0 134 (dk_at dksX9_safe_1 0 rfl rfl)
theorem dX9_safe_26 : decode cX9_safe 26 = .ok (.istore 4, 2) := dk_54 4 (dk_at dksX9_safe_1 3 rfl rfl)
theorem dX9_safe_28 : decode cX9_safe 28 = .ok (.iconst 0, 1) := dk_3 (dk_at dksX9_safe_1 5 rfl rfl)
theorem dX9_safe_29 : decode cX9_safe 29 = .ok (.istore 5, 2) := dk_54 5 (dk_at dksX9_safe_1 6 rfl rfl)
theorem dX9_safe_31 : decode cX9_safe 31 = .ok (.iload 5, 2) := dk_21 5 (dk_at dksX9_safe_1 8 rfl rfl)
theorem dX9_safe_33 : decode cX9_safe 33 = .ok (.aload_n 0, 1) := dk_42 (dk_at dksX9_safe_1 10 rfl rfl)
theorem dX9_safe_34 : decode cX9_safe 34 = .ok (.getfield 62, 3) := dk_180 0 62 (dk_at dksX9_safe_1 11 rfl rfl)
theorem dX9_safe_37 : decode cX9_safe 37 = .ok (.if_icmp .ge 52, 3) := dk_162 0 52 (dk_at dksX9_safe_1 14 rfl rfl)
theorem dX9_safe_40 : decode cX9_safe 40 = .ok (.iload 4, 2) := dk_21 4 (dk_at dksX9_safe_1 17 rfl rfl)
theorem dX9_safe_42 : decode cX9_safe 42 = .ok (.ifCond .eq 47, 3) := dk_153 0 47 (dk_at dksX9_safe_1 19 rfl rfl)
theorem dX9_safe_45 : decode cX9_safe 45 = .ok (.aload_n 0, 1) := dk_42 (dk_at dksX9_safe_1 22 rfl rfl)
theorem dX9_safe_46 : decode cX9_safe 46 = .ok (.aload_n 0, 1) := dk_42 (dk_at dksX9_safe_1 23 rfl rfl)
theorem dX9_safe_47 : decode cX9_safe 47 = .ok (.getfield 10, 3) := dk_180 0 10 (dk_at dksX9_safe_2 0 rfl rfl)
theorem dX9_safe_50 : decode cX9_safe 50 = .ok (.iload_n 2, 1) := dk_28 (dk_at dksX9_safe_2 3 rfl rfl)
theorem dX9_safe_51 : decode cX9_safe 51 = .ok (.iload_n 3, 1) := dk_29 (dk_at dksX9_safe_2 4 rfl rfl)
theorem dX9_safe_52 : decode cX9_safe 52 = .ok (.invokestatic 65, 3) := dk_184 0 65 (dk_at dksX9_safe_2 5 rfl rfl)
theorem dX9_safe_55 : decode cX9_safe 55 = .ok (.iconst (-1), 1) := dk_2 (dk_at dksX9_safe_2 8 rfl rfl)
theorem dX9_safe_56 : decode cX9_safe 56 = .ok (.ixor, 1) := dk_130 (dk_at dksX9_safe_2 9 rfl rfl)
theorem dX9_safe_57 : decode cX9_safe 57 = .ok (.iand, 1) := dk_126 (dk_at dksX9_safe_2 10 rfl rfl)
theorem dX9_safe_58 : decode cX9_safe 58 = .ok (.iload 5, 2) := dk_21 5 (dk_at dksX9_safe_2 11 rfl rfl)
theorem dX9_safe_60 : decode cX9_safe 60 = .ok (.invokevirtual 98, 3) := dk_182 0 98 (dk_at dksX9_safe_2 13 rfl rfl)
theorem dX9_safe_63 : decode cX9_safe 63 = .ok (.aload_n 0, 1) := dk_42 (dk_at dksX9_safe_2 16 rfl rfl)
theorem dX9_safe_64 : decode cX9_safe 64 = .ok (.aload_n 0, 1) := dk_42 (dk_at dksX9_safe_2 17 rfl rfl)
theorem dX9_safe_65 : decode cX9_safe 65 = .ok (.getfield 10, 3) := dk_180 0 10 (dk_at dksX9_safe_2 18 rfl rfl)
theorem dX9_safe_68 : decode cX9_safe 68 = .ok (.iload 5, 2) := dk_21 5 (dk_at dksX9_safe_2 21 rfl rfl)
theorem dX9_safe_70 : decode cX9_safe 70 = .ok (.invokevirtual 98, 3) := dk_182 0 98 (dk_at dksX9_safe_3 0 rfl rfl)
theorem dX9_safe_73 : decode cX9_safe 73 = .ok (.if_icmp .ne 7, 3) := dk_160 0 7 (dk_at dksX9_safe_3 3 rfl rfl)
theorem dX9_safe_76 : decode cX9_safe 76 = .ok (.iconst 1, 1) := dk_4 (dk_at dksX9_safe_3 6 rfl rfl)
theorem dX9_safe_77 : decode cX9_safe 77 = .ok (.goto 4, 3) := dk_167 0 4 (dk_at dksX9_safe_3 7 rfl rfl)
theorem dX9_safe_80 : decode cX9_safe 80 = .ok (.iconst 0, 1) := dk_3 (dk_at dksX9_safe_3 10 rfl rfl)
theorem dX9_safe_81 : decode cX9_safe 81 = .ok (.istore 4, 2) := dk_54 4 (dk_at dksX9_safe_3 11 rfl rfl)
theorem dX9_safe_83 : decode cX9_safe 83 = .ok (.iinc 5 1, 3) := dk_132 5 1 (dk_at dksX9_safe_3 13 rfl rfl)
theorem dX9_safe_86 : decode cX9_safe 86 = .ok (.goto (-55), 3) := dk_167 255 201 (dk_at dksX9_safe_3 16 rfl rfl)
theorem dX9_safe_89 : decode cX9_safe 89 = .ok (.iload_n 1, 1) := dk_27 (dk_at dksX9_safe_3 19 rfl rfl)
theorem dX9_safe_90 : decode cX9_safe 90 = .ok (.iload 4, 2) := dk_21 4 (dk_at dksX9_safe_3 20 rfl rfl)
theorem dX9_safe_92 : decode cX9_safe 92 = .ok (.ifCond .eq 7, 3) := dk_153 0 7 (dk_at dksX9_safe_4 0 rfl rfl)
theorem dX9_safe_95 : decode cX9_safe 95 = .ok (.iconst 1, 1) := dk_4 (dk_at dksX9_safe_4 3 rfl rfl)
theorem dX9_safe_96 : decode cX9_safe 96 = .ok (.goto 4, 3) := dk_167 0 4 (dk_at dksX9_safe_4 4 rfl rfl)
theorem dX9_safe_99 : decode cX9_safe 99 = .ok (.iconst 0, 1) := dk_3 (dk_at dksX9_safe_4 7 rfl rfl)
theorem dX9_safe_100 : decode cX9_safe 100 = .ok (.iadd, 1) := dk_96 (dk_at dksX9_safe_4 8 rfl rfl)
theorem dX9_safe_101 : decode cX9_safe 101 = .ok (.istore_n 1, 1) := dk_60 (dk_at dksX9_safe_4 9 rfl rfl)
theorem dX9_safe_102 : decode cX9_safe 102 = .ok (.iinc 3 1, 3) := dk_132 3 1 (dk_at dksX9_safe_4 10 rfl rfl)
theorem dX9_safe_105 : decode cX9_safe 105 = .ok (.goto (-94), 3) := dk_167 255 162 (dk_at dksX9_safe_4 13 rfl rfl)
theorem dX9_safe_108 : decode cX9_safe 108 = .ok (.iinc 2 1, 3) := dk_132 2 1 (dk_at dksX9_safe_4 16 rfl rfl)
theorem dX9_safe_111 : decode cX9_safe 111 = .ok (.goto (-107), 3) := dk_167 255 149 (dk_at dksX9_safe_4 19 rfl rfl)
theorem dX9_safe_114 : decode cX9_safe 114 = .ok (.iload_n 1, 1) := dk_27 (dk_at dksX9_safe_4 22 rfl rfl)
theorem dX9_safe_115 : decode cX9_safe 115 = .ok (.ireturn, 1) := dk_172 (dk_at dksX9_safe_4 23 rfl rfl)
abbrev cX9_can : ByteArray := prog_21_method_58_code
def yX9_can : MethodName := ⟨RX9, "can", "(I)I"⟩
def dkwX9_can_3 : List UInt8 := [167, 255, 216, 132, 3, 1, 167, 255, 202, 28, 172]
abbrev dktX9_can_3 : List UInt8 := dkwX9_can_3 ++ []
def dkwX9_can_2 : List UInt8 := [180, 0, 10, 29, 21, 4, 184, 0, 134, 153, 0, 7, 4, 167, 0, 4, 3, 96, 61, 132, 4, 1]
abbrev dktX9_can_2 : List UInt8 := dkwX9_can_2 ++ dktX9_can_3
def dkwX9_can_1 : List UInt8 := [162, 0, 55, 3, 54, 4, 21, 4, 16, 25, 162, 0, 39, 28, 27, 155, 0, 8, 29, 27, 160, 0, 20, 42]
abbrev dktX9_can_1 : List UInt8 := dkwX9_can_1 ++ dktX9_can_2
def dkwX9_can_0 : List UInt8 := [27, 2, 6, 184, 0, 58, 154, 0, 10, 42, 16, 254, 182, 0, 52, 172, 3, 61, 3, 62, 29, 7]
abbrev dktX9_can_0 : List UInt8 := dkwX9_can_0 ++ dktX9_can_1
theorem dksX9_can_0 : cX9_can.data.toList.drop 0 = dktX9_can_0 := by decide +kernel
theorem dksX9_can_1 : cX9_can.data.toList.drop 22 = dktX9_can_1 := dk_seg dksX9_can_0 22 rfl rfl
theorem dksX9_can_2 : cX9_can.data.toList.drop 46 = dktX9_can_2 := dk_seg dksX9_can_1 24 rfl rfl
theorem dksX9_can_3 : cX9_can.data.toList.drop 68 = dktX9_can_3 := dk_seg dksX9_can_2 22 rfl rfl
theorem dX9_can_0 : decode cX9_can 0 = .ok (.iload_n 1, 1) := dk_27 (dk_at dksX9_can_0 0 rfl rfl)
theorem dX9_can_1 : decode cX9_can 1 = .ok (.iconst (-1), 1) := dk_2 (dk_at dksX9_can_0 1 rfl rfl)
theorem dX9_can_2 : decode cX9_can 2 = .ok (.iconst 3, 1) := dk_6 (dk_at dksX9_can_0 2 rfl rfl)
theorem dX9_can_3 : decode cX9_can 3 = .ok (.invokestatic 58, 3) := dk_184 0 58 (dk_at dksX9_can_0 3 rfl rfl)
theorem dX9_can_6 : decode cX9_can 6 = .ok (.ifCond .ne 10, 3) := dk_154 0 10 (dk_at dksX9_can_0 6 rfl rfl)
theorem dX9_can_9 : decode cX9_can 9 = .ok (.aload_n 0, 1) := dk_42 (dk_at dksX9_can_0 9 rfl rfl)
theorem dX9_can_10 : decode cX9_can 10 = .ok (.bipush (-2), 2) := dk_16 254 (dk_at dksX9_can_0 10 rfl rfl)
theorem dX9_can_12 : decode cX9_can 12 = .ok (.invokevirtual 52, 3) := dk_182 0 52 (dk_at dksX9_can_0 12 rfl rfl)
theorem dX9_can_15 : decode cX9_can 15 = .ok (.ireturn, 1) := dk_172 (dk_at dksX9_can_0 15 rfl rfl)
theorem dX9_can_16 : decode cX9_can 16 = .ok (.iconst 0, 1) := dk_3 (dk_at dksX9_can_0 16 rfl rfl)
theorem dX9_can_17 : decode cX9_can 17 = .ok (.istore_n 2, 1) := dk_61 (dk_at dksX9_can_0 17 rfl rfl)
theorem dX9_can_18 : decode cX9_can 18 = .ok (.iconst 0, 1) := dk_3 (dk_at dksX9_can_0 18 rfl rfl)
theorem dX9_can_19 : decode cX9_can 19 = .ok (.istore_n 3, 1) := dk_62 (dk_at dksX9_can_0 19 rfl rfl)
theorem dX9_can_20 : decode cX9_can 20 = .ok (.iload_n 3, 1) := dk_29 (dk_at dksX9_can_0 20 rfl rfl)
theorem dX9_can_21 : decode cX9_can 21 = .ok (.iconst 4, 1) := dk_7 (dk_at dksX9_can_0 21 rfl rfl)
theorem dX9_can_22 : decode cX9_can 22 = .ok (.if_icmp .ge 55, 3) := dk_162 0 55 (dk_at dksX9_can_1 0 rfl rfl)
theorem dX9_can_25 : decode cX9_can 25 = .ok (.iconst 0, 1) := dk_3 (dk_at dksX9_can_1 3 rfl rfl)
theorem dX9_can_26 : decode cX9_can 26 = .ok (.istore 4, 2) := dk_54 4 (dk_at dksX9_can_1 4 rfl rfl)
theorem dX9_can_28 : decode cX9_can 28 = .ok (.iload 4, 2) := dk_21 4 (dk_at dksX9_can_1 6 rfl rfl)
theorem dX9_can_30 : decode cX9_can 30 = .ok (.bipush 25, 2) := dk_16 25 (dk_at dksX9_can_1 8 rfl rfl)
theorem dX9_can_32 : decode cX9_can 32 = .ok (.if_icmp .ge 39, 3) := dk_162 0 39 (dk_at dksX9_can_1 10 rfl rfl)
theorem dX9_can_35 : decode cX9_can 35 = .ok (.iload_n 2, 1) := dk_28 (dk_at dksX9_can_1 13 rfl rfl)
theorem dX9_can_36 : decode cX9_can 36 = .ok (.iload_n 1, 1) := dk_27 (dk_at dksX9_can_1 14 rfl rfl)
theorem dX9_can_37 : decode cX9_can 37 = .ok (.ifCond .lt 8, 3) := dk_155 0 8 (dk_at dksX9_can_1 15 rfl rfl)
theorem dX9_can_40 : decode cX9_can 40 = .ok (.iload_n 3, 1) := dk_29 (dk_at dksX9_can_1 18 rfl rfl)
theorem dX9_can_41 : decode cX9_can 41 = .ok (.iload_n 1, 1) := dk_27 (dk_at dksX9_can_1 19 rfl rfl)
theorem dX9_can_42 : decode cX9_can 42 = .ok (.if_icmp .ne 20, 3) := dk_160 0 20 (dk_at dksX9_can_1 20 rfl rfl)
theorem dX9_can_45 : decode cX9_can 45 = .ok (.aload_n 0, 1) := dk_42 (dk_at dksX9_can_1 23 rfl rfl)
theorem dX9_can_46 : decode cX9_can 46 = .ok (.getfield 10, 3) := dk_180 0 10 (dk_at dksX9_can_2 0 rfl rfl)
theorem dX9_can_49 : decode cX9_can 49 = .ok (.iload_n 3, 1) := dk_29 (dk_at dksX9_can_2 3 rfl rfl)
theorem dX9_can_50 : decode cX9_can 50 = .ok (.iload 4, 2) := dk_21 4 (dk_at dksX9_can_2 4 rfl rfl)
theorem dX9_can_52 : decode cX9_can 52 = .ok (.invokestatic 134, 3) := dk_184 0 134 (dk_at dksX9_can_2 6 rfl rfl)
theorem dX9_can_55 : decode cX9_can 55 = .ok (.ifCond .eq 7, 3) := dk_153 0 7 (dk_at dksX9_can_2 9 rfl rfl)
theorem dX9_can_58 : decode cX9_can 58 = .ok (.iconst 1, 1) := dk_4 (dk_at dksX9_can_2 12 rfl rfl)
theorem dX9_can_59 : decode cX9_can 59 = .ok (.goto 4, 3) := dk_167 0 4 (dk_at dksX9_can_2 13 rfl rfl)
theorem dX9_can_62 : decode cX9_can 62 = .ok (.iconst 0, 1) := dk_3 (dk_at dksX9_can_2 16 rfl rfl)
theorem dX9_can_63 : decode cX9_can 63 = .ok (.iadd, 1) := dk_96 (dk_at dksX9_can_2 17 rfl rfl)
theorem dX9_can_64 : decode cX9_can 64 = .ok (.istore_n 2, 1) := dk_61 (dk_at dksX9_can_2 18 rfl rfl)
theorem dX9_can_65 : decode cX9_can 65 = .ok (.iinc 4 1, 3) := dk_132 4 1 (dk_at dksX9_can_2 19 rfl rfl)
theorem dX9_can_68 : decode cX9_can 68 = .ok (.goto (-40), 3) := dk_167 255 216 (dk_at dksX9_can_3 0 rfl rfl)
theorem dX9_can_71 : decode cX9_can 71 = .ok (.iinc 3 1, 3) := dk_132 3 1 (dk_at dksX9_can_3 3 rfl rfl)
theorem dX9_can_74 : decode cX9_can 74 = .ok (.goto (-54), 3) := dk_167 255 202 (dk_at dksX9_can_3 6 rfl rfl)
theorem dX9_can_77 : decode cX9_can 77 = .ok (.iload_n 2, 1) := dk_28 (dk_at dksX9_can_3 9 rfl rfl)
theorem dX9_can_78 : decode cX9_can 78 = .ok (.ireturn, 1) := dk_172 (dk_at dksX9_can_3 10 rfl rfl)
abbrev cX9_ways : ByteArray := prog_21_method_60_code
def yX9_ways : MethodName := ⟨RX9, "ways", "(I)I"⟩
def dkwX9_ways_12 : List UInt8 := [167, 0, 11, 42, 180, 0, 48, 17, 12, 128, 46, 172]
abbrev dktX9_ways_12 : List UInt8 := dkwX9_ways_12 ++ []
def dkwX9_ways_11 : List UInt8 := [132, 4, 1, 167, 255, 79, 132, 3, 1, 167, 255, 64, 27, 154, 0, 14, 42, 180, 0, 45, 17, 12, 128, 46]
abbrev dktX9_ways_11 : List UInt8 := dkwX9_ways_11 ++ dktX9_ways_12
def dkwX9_ways_10 : List UInt8 := [180, 0, 45, 21, 5, 46, 42, 180, 0, 48, 21, 5, 46, 4, 96, 182, 0, 200, 132, 6, 1, 167, 255, 163]
abbrev dktX9_ways_10 : List UInt8 := dkwX9_ways_10 ++ dktX9_ways_11
def dkwX9_ways_9 : List UInt8 := [153, 0, 41, 21, 7, 21, 4, 126, 154, 0, 33, 42, 29, 4, 96, 21, 4, 21, 7, 128, 4, 122, 42]
abbrev dktX9_ways_9 : List UInt8 := dkwX9_ways_9 ++ dktX9_ways_10
def dkwX9_ways_8 : List UInt8 := [184, 0, 134, 153, 0, 14, 21, 6, 29, 184, 0, 65, 29, 122, 167, 0, 4, 3, 54, 7, 21, 7]
abbrev dktX9_ways_8 : List UInt8 := dkwX9_ways_8 ++ dktX9_ways_9
def dkwX9_ways_7 : List UInt8 := [162, 0, 93, 28, 29, 184, 0, 72, 153, 0, 85, 21, 4, 3, 184, 0, 72, 154, 0, 76, 28, 21, 6, 29]
abbrev dktX9_ways_7 : List UInt8 := dkwX9_ways_7 ++ dktX9_ways_8
def dkwX9_ways_6 : List UInt8 := [180, 0, 45, 21, 5, 46, 42, 180, 0, 48, 21, 5, 46, 182, 0, 200, 3, 54, 6, 21, 6, 7]
abbrev dktX9_ways_6 : List UInt8 := dkwX9_ways_6 ++ dktX9_ways_7
def dkwX9_ways_5 : List UInt8 := [184, 0, 72, 154, 0, 11, 28, 29, 184, 0, 72, 154, 0, 28, 42, 29, 4, 96, 21, 4, 4, 122, 42]
abbrev dktX9_ways_5 : List UInt8 := dkwX9_ways_5 ++ dktX9_ways_6
def dkwX9_ways_4 : List UInt8 := [21, 4, 96, 54, 5, 42, 180, 0, 48, 21, 5, 46, 18, 51, 160, 0, 6, 167, 0, 144, 21, 4, 3]
abbrev dktX9_ways_4 : List UInt8 := dkwX9_ways_4 ++ dktX9_ways_5
def dkwX9_ways_3 : List UInt8 := [62, 29, 16, 25, 162, 0, 192, 3, 54, 4, 21, 4, 17, 0, 128, 162, 0, 175, 17, 0, 128, 29, 104]
abbrev dktX9_ways_3 : List UInt8 := dkwX9_ways_3 ++ dktX9_ways_4
def dkwX9_ways_2 : List UInt8 := [18, 51, 79, 132, 3, 1, 167, 255, 231, 42, 180, 0, 45, 3, 4, 79, 42, 180, 0, 48, 3, 3, 79, 3]
abbrev dktX9_ways_2 : List UInt8 := dkwX9_ways_2 ++ dktX9_ways_3
def dkwX9_ways_1 : List UInt8 := [126, 61, 3, 62, 29, 17, 13, 0, 162, 0, 24, 42, 180, 0, 45, 29, 3, 79, 42, 180, 0, 48, 29]
abbrev dktX9_ways_1 : List UInt8 := dkwX9_ways_1 ++ dktX9_ways_2
def dkwX9_ways_0 : List UInt8 := [27, 3, 4, 184, 0, 58, 154, 0, 10, 42, 16, 254, 182, 0, 52, 172, 18, 9, 42, 180, 0, 10, 2, 130]
abbrev dktX9_ways_0 : List UInt8 := dkwX9_ways_0 ++ dktX9_ways_1
theorem dksX9_ways_0 : cX9_ways.data.toList.drop 0 = dktX9_ways_0 := by decide +kernel
theorem dksX9_ways_1 : cX9_ways.data.toList.drop 24 = dktX9_ways_1 := dk_seg dksX9_ways_0 24 rfl rfl
theorem dksX9_ways_2 : cX9_ways.data.toList.drop 47 = dktX9_ways_2 := dk_seg dksX9_ways_1 23 rfl rfl
theorem dksX9_ways_3 : cX9_ways.data.toList.drop 71 = dktX9_ways_3 := dk_seg dksX9_ways_2 24 rfl rfl
theorem dksX9_ways_4 : cX9_ways.data.toList.drop 94 = dktX9_ways_4 := dk_seg dksX9_ways_3 23 rfl rfl
theorem dksX9_ways_5 : cX9_ways.data.toList.drop 117 = dktX9_ways_5 := dk_seg dksX9_ways_4 23 rfl rfl
theorem dksX9_ways_6 : cX9_ways.data.toList.drop 140 = dktX9_ways_6 := dk_seg dksX9_ways_5 23 rfl rfl
theorem dksX9_ways_7 : cX9_ways.data.toList.drop 162 = dktX9_ways_7 := dk_seg dksX9_ways_6 22 rfl rfl
theorem dksX9_ways_8 : cX9_ways.data.toList.drop 186 = dktX9_ways_8 := dk_seg dksX9_ways_7 24 rfl rfl
theorem dksX9_ways_9 : cX9_ways.data.toList.drop 208 = dktX9_ways_9 := dk_seg dksX9_ways_8 22 rfl rfl
theorem dksX9_ways_10 : cX9_ways.data.toList.drop 231 = dktX9_ways_10 := dk_seg dksX9_ways_9 23 rfl rfl
theorem dksX9_ways_11 : cX9_ways.data.toList.drop 255 = dktX9_ways_11 := dk_seg dksX9_ways_10 24 rfl rfl
theorem dksX9_ways_12 : cX9_ways.data.toList.drop 279 = dktX9_ways_12 := dk_seg dksX9_ways_11 24 rfl rfl
theorem dX9_ways_0 : decode cX9_ways 0 = .ok (.iload_n 1, 1) := dk_27 (dk_at dksX9_ways_0 0 rfl rfl)
theorem dX9_ways_1 : decode cX9_ways 1 = .ok (.iconst 0, 1) := dk_3 (dk_at dksX9_ways_0 1 rfl rfl)
theorem dX9_ways_2 : decode cX9_ways 2 = .ok (.iconst 1, 1) := dk_4 (dk_at dksX9_ways_0 2 rfl rfl)
theorem dX9_ways_3 : decode cX9_ways 3 = .ok (.invokestatic 58, 3) := dk_184 0 58 (dk_at dksX9_ways_0 3 rfl rfl)
theorem dX9_ways_6 : decode cX9_ways 6 = .ok (.ifCond .ne 10, 3) := dk_154 0 10 (dk_at dksX9_ways_0 6 rfl rfl)
theorem dX9_ways_9 : decode cX9_ways 9 = .ok (.aload_n 0, 1) := dk_42 (dk_at dksX9_ways_0 9 rfl rfl)
theorem dX9_ways_10 : decode cX9_ways 10 = .ok (.bipush (-2), 2) := dk_16 254 (dk_at dksX9_ways_0 10 rfl rfl)
theorem dX9_ways_12 : decode cX9_ways 12 = .ok (.invokevirtual 52, 3) := dk_182 0 52 (dk_at dksX9_ways_0 12 rfl rfl)
theorem dX9_ways_15 : decode cX9_ways 15 = .ok (.ireturn, 1) := dk_172 (dk_at dksX9_ways_0 15 rfl rfl)
theorem dX9_ways_16 : decode cX9_ways 16 = .ok (.ldc 9, 2) := dk_18 9 (dk_at dksX9_ways_0 16 rfl rfl)
theorem dX9_ways_18 : decode cX9_ways 18 = .ok (.aload_n 0, 1) := dk_42 (dk_at dksX9_ways_0 18 rfl rfl)
theorem dX9_ways_19 : decode cX9_ways 19 = .ok (.getfield 10, 3) := dk_180 0 10 (dk_at dksX9_ways_0 19 rfl rfl)
theorem dX9_ways_22 : decode cX9_ways 22 = .ok (.iconst (-1), 1) := dk_2 (dk_at dksX9_ways_0 22 rfl rfl)
theorem dX9_ways_23 : decode cX9_ways 23 = .ok (.ixor, 1) := dk_130 (dk_at dksX9_ways_0 23 rfl rfl)
theorem dX9_ways_24 : decode cX9_ways 24 = .ok (.iand, 1) := dk_126 (dk_at dksX9_ways_1 0 rfl rfl)
theorem dX9_ways_25 : decode cX9_ways 25 = .ok (.istore_n 2, 1) := dk_61 (dk_at dksX9_ways_1 1 rfl rfl)
theorem dX9_ways_26 : decode cX9_ways 26 = .ok (.iconst 0, 1) := dk_3 (dk_at dksX9_ways_1 2 rfl rfl)
theorem dX9_ways_27 : decode cX9_ways 27 = .ok (.istore_n 3, 1) := dk_62 (dk_at dksX9_ways_1 3 rfl rfl)
theorem dX9_ways_28 : decode cX9_ways 28 = .ok (.iload_n 3, 1) := dk_29 (dk_at dksX9_ways_1 4 rfl rfl)
theorem dX9_ways_29 : decode cX9_ways 29 = .ok (.sipush 3328, 3) := dk_17 13 0 (dk_at dksX9_ways_1 5 rfl rfl)
theorem dX9_ways_32 : decode cX9_ways 32 = .ok (.if_icmp .ge 24, 3) := dk_162 0 24 (dk_at dksX9_ways_1 8 rfl rfl)
theorem dX9_ways_35 : decode cX9_ways 35 = .ok (.aload_n 0, 1) := dk_42 (dk_at dksX9_ways_1 11 rfl rfl)
theorem dX9_ways_36 : decode cX9_ways 36 = .ok (.getfield 45, 3) := dk_180 0 45 (dk_at dksX9_ways_1 12 rfl rfl)
theorem dX9_ways_39 : decode cX9_ways 39 = .ok (.iload_n 3, 1) := dk_29 (dk_at dksX9_ways_1 15 rfl rfl)
theorem dX9_ways_40 : decode cX9_ways 40 = .ok (.iconst 0, 1) := dk_3 (dk_at dksX9_ways_1 16 rfl rfl)
theorem dX9_ways_41 : decode cX9_ways 41 = .ok (.iastore, 1) := dk_79 (dk_at dksX9_ways_1 17 rfl rfl)
theorem dX9_ways_42 : decode cX9_ways 42 = .ok (.aload_n 0, 1) := dk_42 (dk_at dksX9_ways_1 18 rfl rfl)
theorem dX9_ways_43 : decode cX9_ways 43 = .ok (.getfield 48, 3) := dk_180 0 48 (dk_at dksX9_ways_1 19 rfl rfl)
theorem dX9_ways_46 : decode cX9_ways 46 = .ok (.iload_n 3, 1) := dk_29 (dk_at dksX9_ways_1 22 rfl rfl)
theorem dX9_ways_47 : decode cX9_ways 47 = .ok (.ldc 51, 2) := dk_18 51 (dk_at dksX9_ways_2 0 rfl rfl)
theorem dX9_ways_49 : decode cX9_ways 49 = .ok (.iastore, 1) := dk_79 (dk_at dksX9_ways_2 2 rfl rfl)
theorem dX9_ways_50 : decode cX9_ways 50 = .ok (.iinc 3 1, 3) := dk_132 3 1 (dk_at dksX9_ways_2 3 rfl rfl)
theorem dX9_ways_53 : decode cX9_ways 53 = .ok (.goto (-25), 3) := dk_167 255 231 (dk_at dksX9_ways_2 6 rfl rfl)
theorem dX9_ways_56 : decode cX9_ways 56 = .ok (.aload_n 0, 1) := dk_42 (dk_at dksX9_ways_2 9 rfl rfl)
theorem dX9_ways_57 : decode cX9_ways 57 = .ok (.getfield 45, 3) := dk_180 0 45 (dk_at dksX9_ways_2 10 rfl rfl)
theorem dX9_ways_60 : decode cX9_ways 60 = .ok (.iconst 0, 1) := dk_3 (dk_at dksX9_ways_2 13 rfl rfl)
theorem dX9_ways_61 : decode cX9_ways 61 = .ok (.iconst 1, 1) := dk_4 (dk_at dksX9_ways_2 14 rfl rfl)
theorem dX9_ways_62 : decode cX9_ways 62 = .ok (.iastore, 1) := dk_79 (dk_at dksX9_ways_2 15 rfl rfl)
theorem dX9_ways_63 : decode cX9_ways 63 = .ok (.aload_n 0, 1) := dk_42 (dk_at dksX9_ways_2 16 rfl rfl)
theorem dX9_ways_64 : decode cX9_ways 64 = .ok (.getfield 48, 3) := dk_180 0 48 (dk_at dksX9_ways_2 17 rfl rfl)
theorem dX9_ways_67 : decode cX9_ways 67 = .ok (.iconst 0, 1) := dk_3 (dk_at dksX9_ways_2 20 rfl rfl)
theorem dX9_ways_68 : decode cX9_ways 68 = .ok (.iconst 0, 1) := dk_3 (dk_at dksX9_ways_2 21 rfl rfl)
theorem dX9_ways_69 : decode cX9_ways 69 = .ok (.iastore, 1) := dk_79 (dk_at dksX9_ways_2 22 rfl rfl)
theorem dX9_ways_70 : decode cX9_ways 70 = .ok (.iconst 0, 1) := dk_3 (dk_at dksX9_ways_2 23 rfl rfl)
theorem dX9_ways_71 : decode cX9_ways 71 = .ok (.istore_n 3, 1) := dk_62 (dk_at dksX9_ways_3 0 rfl rfl)
theorem dX9_ways_72 : decode cX9_ways 72 = .ok (.iload_n 3, 1) := dk_29 (dk_at dksX9_ways_3 1 rfl rfl)
theorem dX9_ways_73 : decode cX9_ways 73 = .ok (.bipush 25, 2) := dk_16 25 (dk_at dksX9_ways_3 2 rfl rfl)
theorem dX9_ways_75 : decode cX9_ways 75 = .ok (.if_icmp .ge 192, 3) := dk_162 0 192 (dk_at dksX9_ways_3 4 rfl rfl)
theorem dX9_ways_78 : decode cX9_ways 78 = .ok (.iconst 0, 1) := dk_3 (dk_at dksX9_ways_3 7 rfl rfl)
theorem dX9_ways_79 : decode cX9_ways 79 = .ok (.istore 4, 2) := dk_54 4 (dk_at dksX9_ways_3 8 rfl rfl)
theorem dX9_ways_81 : decode cX9_ways 81 = .ok (.iload 4, 2) := dk_21 4 (dk_at dksX9_ways_3 10 rfl rfl)
theorem dX9_ways_83 : decode cX9_ways 83 = .ok (.sipush 128, 3) := dk_17 0 128 (dk_at dksX9_ways_3 12 rfl rfl)
theorem dX9_ways_86 : decode cX9_ways 86 = .ok (.if_icmp .ge 175, 3) := dk_162 0 175 (dk_at dksX9_ways_3 15 rfl rfl)
theorem dX9_ways_89 : decode cX9_ways 89 = .ok (.sipush 128, 3) := dk_17 0 128 (dk_at dksX9_ways_3 18 rfl rfl)
theorem dX9_ways_92 : decode cX9_ways 92 = .ok (.iload_n 3, 1) := dk_29 (dk_at dksX9_ways_3 21 rfl rfl)
theorem dX9_ways_93 : decode cX9_ways 93 = .ok (.imul, 1) := dk_104 (dk_at dksX9_ways_3 22 rfl rfl)
theorem dX9_ways_94 : decode cX9_ways 94 = .ok (.iload 4, 2) := dk_21 4 (dk_at dksX9_ways_4 0 rfl rfl)
theorem dX9_ways_96 : decode cX9_ways 96 = .ok (.iadd, 1) := dk_96 (dk_at dksX9_ways_4 2 rfl rfl)
theorem dX9_ways_97 : decode cX9_ways 97 = .ok (.istore 5, 2) := dk_54 5 (dk_at dksX9_ways_4 3 rfl rfl)
theorem dX9_ways_99 : decode cX9_ways 99 = .ok (.aload_n 0, 1) := dk_42 (dk_at dksX9_ways_4 5 rfl rfl)
theorem dX9_ways_100 : decode cX9_ways 100 = .ok (.getfield 48, 3) := dk_180 0 48 (dk_at dksX9_ways_4 6 rfl rfl)
theorem dX9_ways_103 : decode cX9_ways 103 = .ok (.iload 5, 2) := dk_21 5 (dk_at dksX9_ways_4 9 rfl rfl)
theorem dX9_ways_105 : decode cX9_ways 105 = .ok (.iaload, 1) := dk_46 (dk_at dksX9_ways_4 11 rfl rfl)
theorem dX9_ways_106 : decode cX9_ways 106 = .ok (.ldc 51, 2) := dk_18 51 (dk_at dksX9_ways_4 12 rfl rfl)
theorem dX9_ways_108 : decode cX9_ways 108 = .ok (.if_icmp .ne 6, 3) := dk_160 0 6 (dk_at dksX9_ways_4 14 rfl rfl)
theorem dX9_ways_111 : decode cX9_ways 111 = .ok (.goto 144, 3) := dk_167 0 144 (dk_at dksX9_ways_4 17 rfl rfl)
theorem dX9_ways_114 : decode cX9_ways 114 = .ok (.iload 4, 2) := dk_21 4 (dk_at dksX9_ways_4 20 rfl rfl)
theorem dX9_ways_116 : decode cX9_ways 116 = .ok (.iconst 0, 1) := dk_3 (dk_at dksX9_ways_4 22 rfl rfl)
theorem dX9_ways_117 : decode cX9_ways 117 = .ok (.invokestatic 72, 3) := dk_184 0 72 (dk_at dksX9_ways_5 0 rfl rfl)
theorem dX9_ways_120 : decode cX9_ways 120 = .ok (.ifCond .ne 11, 3) := dk_154 0 11 (dk_at dksX9_ways_5 3 rfl rfl)
theorem dX9_ways_123 : decode cX9_ways 123 = .ok (.iload_n 2, 1) := dk_28 (dk_at dksX9_ways_5 6 rfl rfl)
theorem dX9_ways_124 : decode cX9_ways 124 = .ok (.iload_n 3, 1) := dk_29 (dk_at dksX9_ways_5 7 rfl rfl)
theorem dX9_ways_125 : decode cX9_ways 125 = .ok (.invokestatic 72, 3) := dk_184 0 72 (dk_at dksX9_ways_5 8 rfl rfl)
theorem dX9_ways_128 : decode cX9_ways 128 = .ok (.ifCond .ne 28, 3) := dk_154 0 28 (dk_at dksX9_ways_5 11 rfl rfl)
theorem dX9_ways_131 : decode cX9_ways 131 = .ok (.aload_n 0, 1) := dk_42 (dk_at dksX9_ways_5 14 rfl rfl)
theorem dX9_ways_132 : decode cX9_ways 132 = .ok (.iload_n 3, 1) := dk_29 (dk_at dksX9_ways_5 15 rfl rfl)
theorem dX9_ways_133 : decode cX9_ways 133 = .ok (.iconst 1, 1) := dk_4 (dk_at dksX9_ways_5 16 rfl rfl)
theorem dX9_ways_134 : decode cX9_ways 134 = .ok (.iadd, 1) := dk_96 (dk_at dksX9_ways_5 17 rfl rfl)
theorem dX9_ways_135 : decode cX9_ways 135 = .ok (.iload 4, 2) := dk_21 4 (dk_at dksX9_ways_5 18 rfl rfl)
theorem dX9_ways_137 : decode cX9_ways 137 = .ok (.iconst 1, 1) := dk_4 (dk_at dksX9_ways_5 20 rfl rfl)
theorem dX9_ways_138 : decode cX9_ways 138 = .ok (.ishr, 1) := dk_122 (dk_at dksX9_ways_5 21 rfl rfl)
theorem dX9_ways_139 : decode cX9_ways 139 = .ok (.aload_n 0, 1) := dk_42 (dk_at dksX9_ways_5 22 rfl rfl)
theorem dX9_ways_140 : decode cX9_ways 140 = .ok (.getfield 45, 3) := dk_180 0 45 (dk_at dksX9_ways_6 0 rfl rfl)
theorem dX9_ways_143 : decode cX9_ways 143 = .ok (.iload 5, 2) := dk_21 5 (dk_at dksX9_ways_6 3 rfl rfl)
theorem dX9_ways_145 : decode cX9_ways 145 = .ok (.iaload, 1) := dk_46 (dk_at dksX9_ways_6 5 rfl rfl)
theorem dX9_ways_146 : decode cX9_ways 146 = .ok (.aload_n 0, 1) := dk_42 (dk_at dksX9_ways_6 6 rfl rfl)
theorem dX9_ways_147 : decode cX9_ways 147 = .ok (.getfield 48, 3) := dk_180 0 48 (dk_at dksX9_ways_6 7 rfl rfl)
theorem dX9_ways_150 : decode cX9_ways 150 = .ok (.iload 5, 2) := dk_21 5 (dk_at dksX9_ways_6 10 rfl rfl)
theorem dX9_ways_152 : decode cX9_ways 152 = .ok (.iaload, 1) := dk_46 (dk_at dksX9_ways_6 12 rfl rfl)
theorem dX9_ways_153 : decode cX9_ways 153 = .ok (.invokevirtual 200, 3) := dk_182 0 200 (dk_at dksX9_ways_6 13 rfl rfl)
theorem dX9_ways_156 : decode cX9_ways 156 = .ok (.iconst 0, 1) := dk_3 (dk_at dksX9_ways_6 16 rfl rfl)
theorem dX9_ways_157 : decode cX9_ways 157 = .ok (.istore 6, 2) := dk_54 6 (dk_at dksX9_ways_6 17 rfl rfl)
theorem dX9_ways_159 : decode cX9_ways 159 = .ok (.iload 6, 2) := dk_21 6 (dk_at dksX9_ways_6 19 rfl rfl)
theorem dX9_ways_161 : decode cX9_ways 161 = .ok (.iconst 4, 1) := dk_7 (dk_at dksX9_ways_6 21 rfl rfl)
theorem dX9_ways_162 : decode cX9_ways 162 = .ok (.if_icmp .ge 93, 3) := dk_162 0 93 (dk_at dksX9_ways_7 0 rfl rfl)
theorem dX9_ways_165 : decode cX9_ways 165 = .ok (.iload_n 2, 1) := dk_28 (dk_at dksX9_ways_7 3 rfl rfl)
theorem dX9_ways_166 : decode cX9_ways 166 = .ok (.iload_n 3, 1) := dk_29 (dk_at dksX9_ways_7 4 rfl rfl)
theorem dX9_ways_167 : decode cX9_ways 167 = .ok (.invokestatic 72, 3) := dk_184 0 72 (dk_at dksX9_ways_7 5 rfl rfl)
theorem dX9_ways_170 : decode cX9_ways 170 = .ok (.ifCond .eq 85, 3) := dk_153 0 85 (dk_at dksX9_ways_7 8 rfl rfl)
theorem dX9_ways_173 : decode cX9_ways 173 = .ok (.iload 4, 2) := dk_21 4 (dk_at dksX9_ways_7 11 rfl rfl)
theorem dX9_ways_175 : decode cX9_ways 175 = .ok (.iconst 0, 1) := dk_3 (dk_at dksX9_ways_7 13 rfl rfl)
theorem dX9_ways_176 : decode cX9_ways 176 = .ok (.invokestatic 72, 3) := dk_184 0 72 (dk_at dksX9_ways_7 14 rfl rfl)
theorem dX9_ways_179 : decode cX9_ways 179 = .ok (.ifCond .ne 76, 3) := dk_154 0 76 (dk_at dksX9_ways_7 17 rfl rfl)
theorem dX9_ways_182 : decode cX9_ways 182 = .ok (.iload_n 2, 1) := dk_28 (dk_at dksX9_ways_7 20 rfl rfl)
theorem dX9_ways_183 : decode cX9_ways 183 = .ok (.iload 6, 2) := dk_21 6 (dk_at dksX9_ways_7 21 rfl rfl)
theorem dX9_ways_185 : decode cX9_ways 185 = .ok (.iload_n 3, 1) := dk_29 (dk_at dksX9_ways_7 23 rfl rfl)
theorem dX9_ways_186 : decode cX9_ways 186 = .ok (.invokestatic 134, 3) := dk_184 0 134 (dk_at dksX9_ways_8 0 rfl rfl)
theorem dX9_ways_189 : decode cX9_ways 189 = .ok (.ifCond .eq 14, 3) := dk_153 0 14 (dk_at dksX9_ways_8 3 rfl rfl)
theorem dX9_ways_192 : decode cX9_ways 192 = .ok (.iload 6, 2) := dk_21 6 (dk_at dksX9_ways_8 6 rfl rfl)
theorem dX9_ways_194 : decode cX9_ways 194 = .ok (.iload_n 3, 1) := dk_29 (dk_at dksX9_ways_8 8 rfl rfl)
theorem dX9_ways_195 : decode cX9_ways 195 = .ok (.invokestatic 65, 3) := dk_184 0 65 (dk_at dksX9_ways_8 9 rfl rfl)
theorem dX9_ways_198 : decode cX9_ways 198 = .ok (.iload_n 3, 1) := dk_29 (dk_at dksX9_ways_8 12 rfl rfl)
theorem dX9_ways_199 : decode cX9_ways 199 = .ok (.ishr, 1) := dk_122 (dk_at dksX9_ways_8 13 rfl rfl)
theorem dX9_ways_200 : decode cX9_ways 200 = .ok (.goto 4, 3) := dk_167 0 4 (dk_at dksX9_ways_8 14 rfl rfl)
theorem dX9_ways_203 : decode cX9_ways 203 = .ok (.iconst 0, 1) := dk_3 (dk_at dksX9_ways_8 17 rfl rfl)
theorem dX9_ways_204 : decode cX9_ways 204 = .ok (.istore 7, 2) := dk_54 7 (dk_at dksX9_ways_8 18 rfl rfl)
theorem dX9_ways_206 : decode cX9_ways 206 = .ok (.iload 7, 2) := dk_21 7 (dk_at dksX9_ways_8 20 rfl rfl)
theorem dX9_ways_208 : decode cX9_ways 208 = .ok (.ifCond .eq 41, 3) := dk_153 0 41 (dk_at dksX9_ways_9 0 rfl rfl)
theorem dX9_ways_211 : decode cX9_ways 211 = .ok (.iload 7, 2) := dk_21 7 (dk_at dksX9_ways_9 3 rfl rfl)
theorem dX9_ways_213 : decode cX9_ways 213 = .ok (.iload 4, 2) := dk_21 4 (dk_at dksX9_ways_9 5 rfl rfl)
theorem dX9_ways_215 : decode cX9_ways 215 = .ok (.iand, 1) := dk_126 (dk_at dksX9_ways_9 7 rfl rfl)
theorem dX9_ways_216 : decode cX9_ways 216 = .ok (.ifCond .ne 33, 3) := dk_154 0 33 (dk_at dksX9_ways_9 8 rfl rfl)
theorem dX9_ways_219 : decode cX9_ways 219 = .ok (.aload_n 0, 1) := dk_42 (dk_at dksX9_ways_9 11 rfl rfl)
theorem dX9_ways_220 : decode cX9_ways 220 = .ok (.iload_n 3, 1) := dk_29 (dk_at dksX9_ways_9 12 rfl rfl)
theorem dX9_ways_221 : decode cX9_ways 221 = .ok (.iconst 1, 1) := dk_4 (dk_at dksX9_ways_9 13 rfl rfl)
theorem dX9_ways_222 : decode cX9_ways 222 = .ok (.iadd, 1) := dk_96 (dk_at dksX9_ways_9 14 rfl rfl)
theorem dX9_ways_223 : decode cX9_ways 223 = .ok (.iload 4, 2) := dk_21 4 (dk_at dksX9_ways_9 15 rfl rfl)
theorem dX9_ways_225 : decode cX9_ways 225 = .ok (.iload 7, 2) := dk_21 7 (dk_at dksX9_ways_9 17 rfl rfl)
theorem dX9_ways_227 : decode cX9_ways 227 = .ok (.ior, 1) := dk_128 (dk_at dksX9_ways_9 19 rfl rfl)
theorem dX9_ways_228 : decode cX9_ways 228 = .ok (.iconst 1, 1) := dk_4 (dk_at dksX9_ways_9 20 rfl rfl)
theorem dX9_ways_229 : decode cX9_ways 229 = .ok (.ishr, 1) := dk_122 (dk_at dksX9_ways_9 21 rfl rfl)
theorem dX9_ways_230 : decode cX9_ways 230 = .ok (.aload_n 0, 1) := dk_42 (dk_at dksX9_ways_9 22 rfl rfl)
theorem dX9_ways_231 : decode cX9_ways 231 = .ok (.getfield 45, 3) := dk_180 0 45 (dk_at dksX9_ways_10 0 rfl rfl)
theorem dX9_ways_234 : decode cX9_ways 234 = .ok (.iload 5, 2) := dk_21 5 (dk_at dksX9_ways_10 3 rfl rfl)
theorem dX9_ways_236 : decode cX9_ways 236 = .ok (.iaload, 1) := dk_46 (dk_at dksX9_ways_10 5 rfl rfl)
theorem dX9_ways_237 : decode cX9_ways 237 = .ok (.aload_n 0, 1) := dk_42 (dk_at dksX9_ways_10 6 rfl rfl)
theorem dX9_ways_238 : decode cX9_ways 238 = .ok (.getfield 48, 3) := dk_180 0 48 (dk_at dksX9_ways_10 7 rfl rfl)
theorem dX9_ways_241 : decode cX9_ways 241 = .ok (.iload 5, 2) := dk_21 5 (dk_at dksX9_ways_10 10 rfl rfl)
theorem dX9_ways_243 : decode cX9_ways 243 = .ok (.iaload, 1) := dk_46 (dk_at dksX9_ways_10 12 rfl rfl)
theorem dX9_ways_244 : decode cX9_ways 244 = .ok (.iconst 1, 1) := dk_4 (dk_at dksX9_ways_10 13 rfl rfl)
theorem dX9_ways_245 : decode cX9_ways 245 = .ok (.iadd, 1) := dk_96 (dk_at dksX9_ways_10 14 rfl rfl)
theorem dX9_ways_246 : decode cX9_ways 246 = .ok (.invokevirtual 200, 3) := dk_182 0 200 (dk_at dksX9_ways_10 15 rfl rfl)
theorem dX9_ways_249 : decode cX9_ways 249 = .ok (.iinc 6 1, 3) := dk_132 6 1 (dk_at dksX9_ways_10 18 rfl rfl)
theorem dX9_ways_252 : decode cX9_ways 252 = .ok (.goto (-93), 3) := dk_167 255 163 (dk_at dksX9_ways_10 21 rfl rfl)
theorem dX9_ways_255 : decode cX9_ways 255 = .ok (.iinc 4 1, 3) := dk_132 4 1 (dk_at dksX9_ways_11 0 rfl rfl)
theorem dX9_ways_258 : decode cX9_ways 258 = .ok (.goto (-177), 3) := dk_167 255 79 (dk_at dksX9_ways_11 3 rfl rfl)
theorem dX9_ways_261 : decode cX9_ways 261 = .ok (.iinc 3 1, 3) := dk_132 3 1 (dk_at dksX9_ways_11 6 rfl rfl)
theorem dX9_ways_264 : decode cX9_ways 264 = .ok (.goto (-192), 3) := dk_167 255 64 (dk_at dksX9_ways_11 9 rfl rfl)
theorem dX9_ways_267 : decode cX9_ways 267 = .ok (.iload_n 1, 1) := dk_27 (dk_at dksX9_ways_11 12 rfl rfl)
theorem dX9_ways_268 : decode cX9_ways 268 = .ok (.ifCond .ne 14, 3) := dk_154 0 14 (dk_at dksX9_ways_11 13 rfl rfl)
theorem dX9_ways_271 : decode cX9_ways 271 = .ok (.aload_n 0, 1) := dk_42 (dk_at dksX9_ways_11 16 rfl rfl)
theorem dX9_ways_272 : decode cX9_ways 272 = .ok (.getfield 45, 3) := dk_180 0 45 (dk_at dksX9_ways_11 17 rfl rfl)
theorem dX9_ways_275 : decode cX9_ways 275 = .ok (.sipush 3200, 3) := dk_17 12 128 (dk_at dksX9_ways_11 20 rfl rfl)
theorem dX9_ways_278 : decode cX9_ways 278 = .ok (.iaload, 1) := dk_46 (dk_at dksX9_ways_11 23 rfl rfl)
theorem dX9_ways_279 : decode cX9_ways 279 = .ok (.goto 11, 3) := dk_167 0 11 (dk_at dksX9_ways_12 0 rfl rfl)
theorem dX9_ways_282 : decode cX9_ways 282 = .ok (.aload_n 0, 1) := dk_42 (dk_at dksX9_ways_12 3 rfl rfl)
theorem dX9_ways_283 : decode cX9_ways 283 = .ok (.getfield 48, 3) := dk_180 0 48 (dk_at dksX9_ways_12 4 rfl rfl)
theorem dX9_ways_286 : decode cX9_ways 286 = .ok (.sipush 3200, 3) := dk_17 12 128 (dk_at dksX9_ways_12 7 rfl rfl)
theorem dX9_ways_289 : decode cX9_ways 289 = .ok (.iaload, 1) := dk_46 (dk_at dksX9_ways_12 10 rfl rfl)
theorem dX9_ways_290 : decode cX9_ways 290 = .ok (.ireturn, 1) := dk_172 (dk_at dksX9_ways_12 11 rfl rfl)
abbrev cX9_comesTo : ByteArray := prog_21_method_59_code
def yX9_comesTo : MethodName := ⟨RX9, "comesTo", "(IIII)V"⟩
def dkwX9_comesTo_1 : List UInt8 := [18, 199, 112, 79, 42, 180, 0, 48, 21, 5, 42, 180, 0, 48, 21, 5, 46, 21, 4, 184, 0, 127, 79, 177]
abbrev dktX9_comesTo_1 : List UInt8 := dkwX9_comesTo_1 ++ []
def dkwX9_comesTo_0 : List UInt8 := [17, 0, 128, 27, 104, 28, 96, 54, 5, 42, 180, 0, 45, 21, 5, 42, 180, 0, 45, 21, 5, 46, 29, 96]
abbrev dktX9_comesTo_0 : List UInt8 := dkwX9_comesTo_0 ++ dktX9_comesTo_1
theorem dksX9_comesTo_0 : cX9_comesTo.data.toList.drop 0 = dktX9_comesTo_0 := by decide +kernel
theorem dksX9_comesTo_1 : cX9_comesTo.data.toList.drop 24 = dktX9_comesTo_1 := dk_seg dksX9_comesTo_0 24 rfl rfl
theorem dX9_comesTo_0 : decode cX9_comesTo 0 = .ok (.sipush 128, 3) := dk_17 0 128 (dk_at dksX9_comesTo_0 0 rfl rfl)
theorem dX9_comesTo_3 : decode cX9_comesTo 3 = .ok (.iload_n 1, 1) := dk_27 (dk_at dksX9_comesTo_0 3 rfl rfl)
theorem dX9_comesTo_4 : decode cX9_comesTo 4 = .ok (.imul, 1) := dk_104 (dk_at dksX9_comesTo_0 4 rfl rfl)
theorem dX9_comesTo_5 : decode cX9_comesTo 5 = .ok (.iload_n 2, 1) := dk_28 (dk_at dksX9_comesTo_0 5 rfl rfl)
theorem dX9_comesTo_6 : decode cX9_comesTo 6 = .ok (.iadd, 1) := dk_96 (dk_at dksX9_comesTo_0 6 rfl rfl)
theorem dX9_comesTo_7 : decode cX9_comesTo 7 = .ok (.istore 5, 2) := dk_54 5 (dk_at dksX9_comesTo_0 7 rfl rfl)
theorem dX9_comesTo_9 : decode cX9_comesTo 9 = .ok (.aload_n 0, 1) := dk_42 (dk_at dksX9_comesTo_0 9 rfl rfl)
theorem dX9_comesTo_10 : decode cX9_comesTo 10 = .ok (.getfield 45, 3) := dk_180 0 45 (dk_at dksX9_comesTo_0 10 rfl rfl)
theorem dX9_comesTo_13 : decode cX9_comesTo 13 = .ok (.iload 5, 2) := dk_21 5 (dk_at dksX9_comesTo_0 13 rfl rfl)
theorem dX9_comesTo_15 : decode cX9_comesTo 15 = .ok (.aload_n 0, 1) := dk_42 (dk_at dksX9_comesTo_0 15 rfl rfl)
theorem dX9_comesTo_16 : decode cX9_comesTo 16 = .ok (.getfield 45, 3) := dk_180 0 45 (dk_at dksX9_comesTo_0 16 rfl rfl)
theorem dX9_comesTo_19 : decode cX9_comesTo 19 = .ok (.iload 5, 2) := dk_21 5 (dk_at dksX9_comesTo_0 19 rfl rfl)
theorem dX9_comesTo_21 : decode cX9_comesTo 21 = .ok (.iaload, 1) := dk_46 (dk_at dksX9_comesTo_0 21 rfl rfl)
theorem dX9_comesTo_22 : decode cX9_comesTo 22 = .ok (.iload_n 3, 1) := dk_29 (dk_at dksX9_comesTo_0 22 rfl rfl)
theorem dX9_comesTo_23 : decode cX9_comesTo 23 = .ok (.iadd, 1) := dk_96 (dk_at dksX9_comesTo_0 23 rfl rfl)
theorem dX9_comesTo_24 : decode cX9_comesTo 24 = .ok (.ldc 199, 2) := dk_18 199 (dk_at dksX9_comesTo_1 0 rfl rfl)
theorem dX9_comesTo_26 : decode cX9_comesTo 26 = .ok (.irem, 1) := dk_112 (dk_at dksX9_comesTo_1 2 rfl rfl)
theorem dX9_comesTo_27 : decode cX9_comesTo 27 = .ok (.iastore, 1) := dk_79 (dk_at dksX9_comesTo_1 3 rfl rfl)
theorem dX9_comesTo_28 : decode cX9_comesTo 28 = .ok (.aload_n 0, 1) := dk_42 (dk_at dksX9_comesTo_1 4 rfl rfl)
theorem dX9_comesTo_29 : decode cX9_comesTo 29 = .ok (.getfield 48, 3) := dk_180 0 48 (dk_at dksX9_comesTo_1 5 rfl rfl)
theorem dX9_comesTo_32 : decode cX9_comesTo 32 = .ok (.iload 5, 2) := dk_21 5 (dk_at dksX9_comesTo_1 8 rfl rfl)
theorem dX9_comesTo_34 : decode cX9_comesTo 34 = .ok (.aload_n 0, 1) := dk_42 (dk_at dksX9_comesTo_1 10 rfl rfl)
theorem dX9_comesTo_35 : decode cX9_comesTo 35 = .ok (.getfield 48, 3) := dk_180 0 48 (dk_at dksX9_comesTo_1 11 rfl rfl)
theorem dX9_comesTo_38 : decode cX9_comesTo 38 = .ok (.iload 5, 2) := dk_21 5 (dk_at dksX9_comesTo_1 14 rfl rfl)
theorem dX9_comesTo_40 : decode cX9_comesTo 40 = .ok (.iaload, 1) := dk_46 (dk_at dksX9_comesTo_1 16 rfl rfl)
theorem dX9_comesTo_41 : decode cX9_comesTo 41 = .ok (.iload 4, 2) := dk_21 4 (dk_at dksX9_comesTo_1 17 rfl rfl)
theorem dX9_comesTo_43 : decode cX9_comesTo 43 = .ok (.invokestatic 127, 3) := dk_184 0 127 (dk_at dksX9_comesTo_1 19 rfl rfl)
theorem dX9_comesTo_46 : decode cX9_comesTo 46 = .ok (.iastore, 1) := dk_79 (dk_at dksX9_comesTo_1 22 rfl rfl)
theorem dX9_comesTo_47 : decode cX9_comesTo 47 = .ok (.return_, 1) := dk_177 (dk_at dksX9_comesTo_1 23 rfl rfl)
abbrev cX9_alike : ByteArray := prog_21_method_61_code
def yX9_alike : MethodName := ⟨RX9, "alike", "(I)I"⟩
def dkwX9_alike_3 : List UInt8 := [167, 0, 23, 42, 180, 0, 10, 5, 184, 0, 141, 42, 180, 0, 10, 160, 0, 7, 5, 167, 0, 4, 7, 172]
abbrev dktX9_alike_3 : List UInt8 := dkwX9_alike_3 ++ []
def dkwX9_alike_2 : List UInt8 := [4, 160, 0, 5, 28, 172, 42, 180, 0, 10, 4, 184, 0, 141, 42, 180, 0, 10, 160, 0, 7, 4]
abbrev dktX9_alike_2 : List UInt8 := dkwX9_alike_2 ++ dktX9_alike_3
def dkwX9_alike_1 : List UInt8 := [7, 162, 0, 22, 28, 42, 180, 0, 10, 29, 184, 0, 141, 184, 0, 127, 61, 132, 3, 1, 167, 255, 235, 27]
abbrev dktX9_alike_1 : List UInt8 := dkwX9_alike_1 ++ dktX9_alike_2
def dkwX9_alike_0 : List UInt8 := [27, 3, 4, 184, 0, 58, 154, 0, 10, 42, 16, 254, 182, 0, 52, 172, 42, 180, 0, 10, 61, 4, 62, 29]
abbrev dktX9_alike_0 : List UInt8 := dkwX9_alike_0 ++ dktX9_alike_1
theorem dksX9_alike_0 : cX9_alike.data.toList.drop 0 = dktX9_alike_0 := by decide +kernel
theorem dksX9_alike_1 : cX9_alike.data.toList.drop 24 = dktX9_alike_1 := dk_seg dksX9_alike_0 24 rfl rfl
theorem dksX9_alike_2 : cX9_alike.data.toList.drop 48 = dktX9_alike_2 := dk_seg dksX9_alike_1 24 rfl rfl
theorem dksX9_alike_3 : cX9_alike.data.toList.drop 70 = dktX9_alike_3 := dk_seg dksX9_alike_2 22 rfl rfl
theorem dX9_alike_0 : decode cX9_alike 0 = .ok (.iload_n 1, 1) := dk_27 (dk_at dksX9_alike_0 0 rfl rfl)
theorem dX9_alike_1 : decode cX9_alike 1 = .ok (.iconst 0, 1) := dk_3 (dk_at dksX9_alike_0 1 rfl rfl)
theorem dX9_alike_2 : decode cX9_alike 2 = .ok (.iconst 1, 1) := dk_4 (dk_at dksX9_alike_0 2 rfl rfl)
theorem dX9_alike_3 : decode cX9_alike 3 = .ok (.invokestatic 58, 3) := dk_184 0 58 (dk_at dksX9_alike_0 3 rfl rfl)
theorem dX9_alike_6 : decode cX9_alike 6 = .ok (.ifCond .ne 10, 3) := dk_154 0 10 (dk_at dksX9_alike_0 6 rfl rfl)
theorem dX9_alike_9 : decode cX9_alike 9 = .ok (.aload_n 0, 1) := dk_42 (dk_at dksX9_alike_0 9 rfl rfl)
theorem dX9_alike_10 : decode cX9_alike 10 = .ok (.bipush (-2), 2) := dk_16 254 (dk_at dksX9_alike_0 10 rfl rfl)
theorem dX9_alike_12 : decode cX9_alike 12 = .ok (.invokevirtual 52, 3) := dk_182 0 52 (dk_at dksX9_alike_0 12 rfl rfl)
theorem dX9_alike_15 : decode cX9_alike 15 = .ok (.ireturn, 1) := dk_172 (dk_at dksX9_alike_0 15 rfl rfl)
theorem dX9_alike_16 : decode cX9_alike 16 = .ok (.aload_n 0, 1) := dk_42 (dk_at dksX9_alike_0 16 rfl rfl)
theorem dX9_alike_17 : decode cX9_alike 17 = .ok (.getfield 10, 3) := dk_180 0 10 (dk_at dksX9_alike_0 17 rfl rfl)
theorem dX9_alike_20 : decode cX9_alike 20 = .ok (.istore_n 2, 1) := dk_61 (dk_at dksX9_alike_0 20 rfl rfl)
theorem dX9_alike_21 : decode cX9_alike 21 = .ok (.iconst 1, 1) := dk_4 (dk_at dksX9_alike_0 21 rfl rfl)
theorem dX9_alike_22 : decode cX9_alike 22 = .ok (.istore_n 3, 1) := dk_62 (dk_at dksX9_alike_0 22 rfl rfl)
theorem dX9_alike_23 : decode cX9_alike 23 = .ok (.iload_n 3, 1) := dk_29 (dk_at dksX9_alike_0 23 rfl rfl)
theorem dX9_alike_24 : decode cX9_alike 24 = .ok (.iconst 4, 1) := dk_7 (dk_at dksX9_alike_1 0 rfl rfl)
theorem dX9_alike_25 : decode cX9_alike 25 = .ok (.if_icmp .ge 22, 3) := dk_162 0 22 (dk_at dksX9_alike_1 1 rfl rfl)
theorem dX9_alike_28 : decode cX9_alike 28 = .ok (.iload_n 2, 1) := dk_28 (dk_at dksX9_alike_1 4 rfl rfl)
theorem dX9_alike_29 : decode cX9_alike 29 = .ok (.aload_n 0, 1) := dk_42 (dk_at dksX9_alike_1 5 rfl rfl)
theorem dX9_alike_30 : decode cX9_alike 30 = .ok (.getfield 10, 3) := dk_180 0 10 (dk_at dksX9_alike_1 6 rfl rfl)
theorem dX9_alike_33 : decode cX9_alike 33 = .ok (.iload_n 3, 1) := dk_29 (dk_at dksX9_alike_1 9 rfl rfl)
theorem dX9_alike_34 : decode cX9_alike 34 = .ok (.invokestatic 141, 3) := dk_184 0 141 (dk_at dksX9_alike_1 10 rfl rfl)
theorem dX9_alike_37 : decode cX9_alike 37 = .ok (.invokestatic 127, 3) := dk_184 0 127 (dk_at dksX9_alike_1 13 rfl rfl)
theorem dX9_alike_40 : decode cX9_alike 40 = .ok (.istore_n 2, 1) := dk_61 (dk_at dksX9_alike_1 16 rfl rfl)
theorem dX9_alike_41 : decode cX9_alike 41 = .ok (.iinc 3 1, 3) := dk_132 3 1 (dk_at dksX9_alike_1 17 rfl rfl)
theorem dX9_alike_44 : decode cX9_alike 44 = .ok (.goto (-21), 3) := dk_167 255 235 (dk_at dksX9_alike_1 20 rfl rfl)
theorem dX9_alike_47 : decode cX9_alike 47 = .ok (.iload_n 1, 1) := dk_27 (dk_at dksX9_alike_1 23 rfl rfl)
theorem dX9_alike_48 : decode cX9_alike 48 = .ok (.iconst 1, 1) := dk_4 (dk_at dksX9_alike_2 0 rfl rfl)
theorem dX9_alike_49 : decode cX9_alike 49 = .ok (.if_icmp .ne 5, 3) := dk_160 0 5 (dk_at dksX9_alike_2 1 rfl rfl)
theorem dX9_alike_52 : decode cX9_alike 52 = .ok (.iload_n 2, 1) := dk_28 (dk_at dksX9_alike_2 4 rfl rfl)
theorem dX9_alike_53 : decode cX9_alike 53 = .ok (.ireturn, 1) := dk_172 (dk_at dksX9_alike_2 5 rfl rfl)
theorem dX9_alike_54 : decode cX9_alike 54 = .ok (.aload_n 0, 1) := dk_42 (dk_at dksX9_alike_2 6 rfl rfl)
theorem dX9_alike_55 : decode cX9_alike 55 = .ok (.getfield 10, 3) := dk_180 0 10 (dk_at dksX9_alike_2 7 rfl rfl)
theorem dX9_alike_58 : decode cX9_alike 58 = .ok (.iconst 1, 1) := dk_4 (dk_at dksX9_alike_2 10 rfl rfl)
theorem dX9_alike_59 : decode cX9_alike 59 = .ok (.invokestatic 141, 3) := dk_184 0 141 (dk_at dksX9_alike_2 11 rfl rfl)
theorem dX9_alike_62 : decode cX9_alike 62 = .ok (.aload_n 0, 1) := dk_42 (dk_at dksX9_alike_2 14 rfl rfl)
theorem dX9_alike_63 : decode cX9_alike 63 = .ok (.getfield 10, 3) := dk_180 0 10 (dk_at dksX9_alike_2 15 rfl rfl)
theorem dX9_alike_66 : decode cX9_alike 66 = .ok (.if_icmp .ne 7, 3) := dk_160 0 7 (dk_at dksX9_alike_2 18 rfl rfl)
theorem dX9_alike_69 : decode cX9_alike 69 = .ok (.iconst 1, 1) := dk_4 (dk_at dksX9_alike_2 21 rfl rfl)
theorem dX9_alike_70 : decode cX9_alike 70 = .ok (.goto 23, 3) := dk_167 0 23 (dk_at dksX9_alike_3 0 rfl rfl)
theorem dX9_alike_73 : decode cX9_alike 73 = .ok (.aload_n 0, 1) := dk_42 (dk_at dksX9_alike_3 3 rfl rfl)
theorem dX9_alike_74 : decode cX9_alike 74 = .ok (.getfield 10, 3) := dk_180 0 10 (dk_at dksX9_alike_3 4 rfl rfl)
theorem dX9_alike_77 : decode cX9_alike 77 = .ok (.iconst 2, 1) := dk_5 (dk_at dksX9_alike_3 7 rfl rfl)
theorem dX9_alike_78 : decode cX9_alike 78 = .ok (.invokestatic 141, 3) := dk_184 0 141 (dk_at dksX9_alike_3 8 rfl rfl)
theorem dX9_alike_81 : decode cX9_alike 81 = .ok (.aload_n 0, 1) := dk_42 (dk_at dksX9_alike_3 11 rfl rfl)
theorem dX9_alike_82 : decode cX9_alike 82 = .ok (.getfield 10, 3) := dk_180 0 10 (dk_at dksX9_alike_3 12 rfl rfl)
theorem dX9_alike_85 : decode cX9_alike 85 = .ok (.if_icmp .ne 7, 3) := dk_160 0 7 (dk_at dksX9_alike_3 15 rfl rfl)
theorem dX9_alike_88 : decode cX9_alike 88 = .ok (.iconst 2, 1) := dk_5 (dk_at dksX9_alike_3 18 rfl rfl)
theorem dX9_alike_89 : decode cX9_alike 89 = .ok (.goto 4, 3) := dk_167 0 4 (dk_at dksX9_alike_3 19 rfl rfl)
theorem dX9_alike_92 : decode cX9_alike 92 = .ok (.iconst 4, 1) := dk_7 (dk_at dksX9_alike_3 22 rfl rfl)
theorem dX9_alike_93 : decode cX9_alike 93 = .ok (.ireturn, 1) := dk_172 (dk_at dksX9_alike_3 23 rfl rfl)
abbrev cX9_settles : ByteArray := prog_21_method_62_code
def yX9_settles : MethodName := ⟨RX9, "settles", "(I)I"⟩
def dkwX9_settles_7 : List UInt8 := [167, 255, 193, 132, 2, 1, 167, 255, 177, 16, 247, 172]
abbrev dktX9_settles_7 : List UInt8 := dkwX9_settles_7 ++ []
def dkwX9_settles_6 : List UInt8 := [2, 130, 126, 184, 0, 85, 153, 0, 13, 27, 154, 0, 7, 5, 167, 0, 4, 28, 172, 132, 3, 1]
abbrev dktX9_settles_6 : List UInt8 := dkwX9_settles_6 ++ dktX9_settles_7
def dkwX9_settles_5 : List UInt8 := [42, 180, 0, 10, 29, 184, 0, 72, 153, 0, 35, 42, 180, 0, 10, 4, 28, 120, 2, 130, 126, 4, 29, 120]
abbrev dktX9_settles_5 : List UInt8 := dkwX9_settles_5 ++ dktX9_settles_6
def dkwX9_settles_4 : List UInt8 := [162, 0, 79, 28, 4, 96, 62, 29, 16, 25, 162, 0, 63, 42, 180, 0, 10, 28, 184, 0, 72, 153, 0, 46]
abbrev dktX9_settles_4 : List UInt8 := dkwX9_settles_4 ++ dktX9_settles_5
def dkwX9_settles_3 : List UInt8 := [153, 0, 13, 27, 154, 0, 7, 4, 167, 0, 4, 28, 172, 132, 2, 1, 167, 255, 210, 3, 61, 28, 16, 25]
abbrev dktX9_settles_3 : List UInt8 := dkwX9_settles_3 ++ dktX9_settles_4
def dkwX9_settles_2 : List UInt8 := [180, 0, 10, 28, 184, 0, 72, 153, 0, 29, 42, 180, 0, 10, 4, 28, 120, 2, 130, 126, 184, 0, 85]
abbrev dktX9_settles_2 : List UInt8 := dkwX9_settles_2 ++ dktX9_settles_3
def dkwX9_settles_1 : List UInt8 := [153, 0, 14, 27, 154, 0, 7, 3, 167, 0, 5, 16, 247, 172, 3, 61, 28, 16, 25, 162, 0, 46, 42]
abbrev dktX9_settles_1 : List UInt8 := dkwX9_settles_1 ++ dktX9_settles_2
def dkwX9_settles_0 : List UInt8 := [27, 3, 4, 184, 0, 58, 154, 0, 10, 42, 16, 254, 182, 0, 52, 172, 42, 180, 0, 10, 184, 0, 85]
abbrev dktX9_settles_0 : List UInt8 := dkwX9_settles_0 ++ dktX9_settles_1
theorem dksX9_settles_0 : cX9_settles.data.toList.drop 0 = dktX9_settles_0 := by decide +kernel
theorem dksX9_settles_1 : cX9_settles.data.toList.drop 23 = dktX9_settles_1 := dk_seg dksX9_settles_0 23 rfl rfl
theorem dksX9_settles_2 : cX9_settles.data.toList.drop 46 = dktX9_settles_2 := dk_seg dksX9_settles_1 23 rfl rfl
theorem dksX9_settles_3 : cX9_settles.data.toList.drop 69 = dktX9_settles_3 := dk_seg dksX9_settles_2 23 rfl rfl
theorem dksX9_settles_4 : cX9_settles.data.toList.drop 93 = dktX9_settles_4 := dk_seg dksX9_settles_3 24 rfl rfl
theorem dksX9_settles_5 : cX9_settles.data.toList.drop 117 = dktX9_settles_5 := dk_seg dksX9_settles_4 24 rfl rfl
theorem dksX9_settles_6 : cX9_settles.data.toList.drop 141 = dktX9_settles_6 := dk_seg dksX9_settles_5 24 rfl rfl
theorem dksX9_settles_7 : cX9_settles.data.toList.drop 163 = dktX9_settles_7 := dk_seg dksX9_settles_6 22 rfl rfl
theorem dX9_settles_0 : decode cX9_settles 0 = .ok (.iload_n 1, 1) := dk_27 (dk_at dksX9_settles_0 0 rfl rfl)
theorem dX9_settles_1 : decode cX9_settles 1 = .ok (.iconst 0, 1) := dk_3 (dk_at dksX9_settles_0 1 rfl rfl)
theorem dX9_settles_2 : decode cX9_settles 2 = .ok (.iconst 1, 1) := dk_4 (dk_at dksX9_settles_0 2 rfl rfl)
theorem dX9_settles_3 : decode cX9_settles 3 = .ok (.invokestatic 58, 3) := dk_184 0 58 (dk_at dksX9_settles_0 3 rfl rfl)
theorem dX9_settles_6 : decode cX9_settles 6 = .ok (.ifCond .ne 10, 3) := dk_154 0 10 (dk_at dksX9_settles_0 6 rfl rfl)
theorem dX9_settles_9 : decode cX9_settles 9 = .ok (.aload_n 0, 1) := dk_42 (dk_at dksX9_settles_0 9 rfl rfl)
theorem dX9_settles_10 : decode cX9_settles 10 = .ok (.bipush (-2), 2) := dk_16 254 (dk_at dksX9_settles_0 10 rfl rfl)
theorem dX9_settles_12 : decode cX9_settles 12 = .ok (.invokevirtual 52, 3) := dk_182 0 52 (dk_at dksX9_settles_0 12 rfl rfl)
theorem dX9_settles_15 : decode cX9_settles 15 = .ok (.ireturn, 1) := dk_172 (dk_at dksX9_settles_0 15 rfl rfl)
theorem dX9_settles_16 : decode cX9_settles 16 = .ok (.aload_n 0, 1) := dk_42 (dk_at dksX9_settles_0 16 rfl rfl)
theorem dX9_settles_17 : decode cX9_settles 17 = .ok (.getfield 10, 3) := dk_180 0 10 (dk_at dksX9_settles_0 17 rfl rfl)
theorem dX9_settles_20 : decode cX9_settles 20 = .ok (.invokestatic 85, 3) := dk_184 0 85 (dk_at dksX9_settles_0 20 rfl rfl)
theorem dX9_settles_23 : decode cX9_settles 23 = .ok (.ifCond .eq 14, 3) := dk_153 0 14 (dk_at dksX9_settles_1 0 rfl rfl)
theorem dX9_settles_26 : decode cX9_settles 26 = .ok (.iload_n 1, 1) := dk_27 (dk_at dksX9_settles_1 3 rfl rfl)
theorem dX9_settles_27 : decode cX9_settles 27 = .ok (.ifCond .ne 7, 3) := dk_154 0 7 (dk_at dksX9_settles_1 4 rfl rfl)
theorem dX9_settles_30 : decode cX9_settles 30 = .ok (.iconst 0, 1) := dk_3 (dk_at dksX9_settles_1 7 rfl rfl)
theorem dX9_settles_31 : decode cX9_settles 31 = .ok (.goto 5, 3) := dk_167 0 5 (dk_at dksX9_settles_1 8 rfl rfl)
theorem dX9_settles_34 : decode cX9_settles 34 = .ok (.bipush (-9), 2) := dk_16 247 (dk_at dksX9_settles_1 11 rfl rfl)
theorem dX9_settles_36 : decode cX9_settles 36 = .ok (.ireturn, 1) := dk_172 (dk_at dksX9_settles_1 13 rfl rfl)
theorem dX9_settles_37 : decode cX9_settles 37 = .ok (.iconst 0, 1) := dk_3 (dk_at dksX9_settles_1 14 rfl rfl)
theorem dX9_settles_38 : decode cX9_settles 38 = .ok (.istore_n 2, 1) := dk_61 (dk_at dksX9_settles_1 15 rfl rfl)
theorem dX9_settles_39 : decode cX9_settles 39 = .ok (.iload_n 2, 1) := dk_28 (dk_at dksX9_settles_1 16 rfl rfl)
theorem dX9_settles_40 : decode cX9_settles 40 = .ok (.bipush 25, 2) := dk_16 25 (dk_at dksX9_settles_1 17 rfl rfl)
theorem dX9_settles_42 : decode cX9_settles 42 = .ok (.if_icmp .ge 46, 3) := dk_162 0 46 (dk_at dksX9_settles_1 19 rfl rfl)
theorem dX9_settles_45 : decode cX9_settles 45 = .ok (.aload_n 0, 1) := dk_42 (dk_at dksX9_settles_1 22 rfl rfl)
theorem dX9_settles_46 : decode cX9_settles 46 = .ok (.getfield 10, 3) := dk_180 0 10 (dk_at dksX9_settles_2 0 rfl rfl)
theorem dX9_settles_49 : decode cX9_settles 49 = .ok (.iload_n 2, 1) := dk_28 (dk_at dksX9_settles_2 3 rfl rfl)
theorem dX9_settles_50 : decode cX9_settles 50 = .ok (.invokestatic 72, 3) := dk_184 0 72 (dk_at dksX9_settles_2 4 rfl rfl)
theorem dX9_settles_53 : decode cX9_settles 53 = .ok (.ifCond .eq 29, 3) := dk_153 0 29 (dk_at dksX9_settles_2 7 rfl rfl)
theorem dX9_settles_56 : decode cX9_settles 56 = .ok (.aload_n 0, 1) := dk_42 (dk_at dksX9_settles_2 10 rfl rfl)
theorem dX9_settles_57 : decode cX9_settles 57 = .ok (.getfield 10, 3) := dk_180 0 10 (dk_at dksX9_settles_2 11 rfl rfl)
theorem dX9_settles_60 : decode cX9_settles 60 = .ok (.iconst 1, 1) := dk_4 (dk_at dksX9_settles_2 14 rfl rfl)
theorem dX9_settles_61 : decode cX9_settles 61 = .ok (.iload_n 2, 1) := dk_28 (dk_at dksX9_settles_2 15 rfl rfl)
theorem dX9_settles_62 : decode cX9_settles 62 = .ok (.ishl, 1) := dk_120 (dk_at dksX9_settles_2 16 rfl rfl)
theorem dX9_settles_63 : decode cX9_settles 63 = .ok (.iconst (-1), 1) := dk_2 (dk_at dksX9_settles_2 17 rfl rfl)
theorem dX9_settles_64 : decode cX9_settles 64 = .ok (.ixor, 1) := dk_130 (dk_at dksX9_settles_2 18 rfl rfl)
theorem dX9_settles_65 : decode cX9_settles 65 = .ok (.iand, 1) := dk_126 (dk_at dksX9_settles_2 19 rfl rfl)
theorem dX9_settles_66 : decode cX9_settles 66 = .ok (.invokestatic 85, 3) := dk_184 0 85 (dk_at dksX9_settles_2 20 rfl rfl)
theorem dX9_settles_69 : decode cX9_settles 69 = .ok (.ifCond .eq 13, 3) := dk_153 0 13 (dk_at dksX9_settles_3 0 rfl rfl)
theorem dX9_settles_72 : decode cX9_settles 72 = .ok (.iload_n 1, 1) := dk_27 (dk_at dksX9_settles_3 3 rfl rfl)
theorem dX9_settles_73 : decode cX9_settles 73 = .ok (.ifCond .ne 7, 3) := dk_154 0 7 (dk_at dksX9_settles_3 4 rfl rfl)
theorem dX9_settles_76 : decode cX9_settles 76 = .ok (.iconst 1, 1) := dk_4 (dk_at dksX9_settles_3 7 rfl rfl)
theorem dX9_settles_77 : decode cX9_settles 77 = .ok (.goto 4, 3) := dk_167 0 4 (dk_at dksX9_settles_3 8 rfl rfl)
theorem dX9_settles_80 : decode cX9_settles 80 = .ok (.iload_n 2, 1) := dk_28 (dk_at dksX9_settles_3 11 rfl rfl)
theorem dX9_settles_81 : decode cX9_settles 81 = .ok (.ireturn, 1) := dk_172 (dk_at dksX9_settles_3 12 rfl rfl)
theorem dX9_settles_82 : decode cX9_settles 82 = .ok (.iinc 2 1, 3) := dk_132 2 1 (dk_at dksX9_settles_3 13 rfl rfl)
theorem dX9_settles_85 : decode cX9_settles 85 = .ok (.goto (-46), 3) := dk_167 255 210 (dk_at dksX9_settles_3 16 rfl rfl)
theorem dX9_settles_88 : decode cX9_settles 88 = .ok (.iconst 0, 1) := dk_3 (dk_at dksX9_settles_3 19 rfl rfl)
theorem dX9_settles_89 : decode cX9_settles 89 = .ok (.istore_n 2, 1) := dk_61 (dk_at dksX9_settles_3 20 rfl rfl)
theorem dX9_settles_90 : decode cX9_settles 90 = .ok (.iload_n 2, 1) := dk_28 (dk_at dksX9_settles_3 21 rfl rfl)
theorem dX9_settles_91 : decode cX9_settles 91 = .ok (.bipush 25, 2) := dk_16 25 (dk_at dksX9_settles_3 22 rfl rfl)
theorem dX9_settles_93 : decode cX9_settles 93 = .ok (.if_icmp .ge 79, 3) := dk_162 0 79 (dk_at dksX9_settles_4 0 rfl rfl)
theorem dX9_settles_96 : decode cX9_settles 96 = .ok (.iload_n 2, 1) := dk_28 (dk_at dksX9_settles_4 3 rfl rfl)
theorem dX9_settles_97 : decode cX9_settles 97 = .ok (.iconst 1, 1) := dk_4 (dk_at dksX9_settles_4 4 rfl rfl)
theorem dX9_settles_98 : decode cX9_settles 98 = .ok (.iadd, 1) := dk_96 (dk_at dksX9_settles_4 5 rfl rfl)
theorem dX9_settles_99 : decode cX9_settles 99 = .ok (.istore_n 3, 1) := dk_62 (dk_at dksX9_settles_4 6 rfl rfl)
theorem dX9_settles_100 : decode cX9_settles 100 = .ok (.iload_n 3, 1) := dk_29 (dk_at dksX9_settles_4 7 rfl rfl)
theorem dX9_settles_101 : decode cX9_settles 101 = .ok (.bipush 25, 2) := dk_16 25 (dk_at dksX9_settles_4 8 rfl rfl)
theorem dX9_settles_103 : decode cX9_settles 103 = .ok (.if_icmp .ge 63, 3) := dk_162 0 63 (dk_at dksX9_settles_4 10 rfl rfl)
theorem dX9_settles_106 : decode cX9_settles 106 = .ok (.aload_n 0, 1) := dk_42 (dk_at dksX9_settles_4 13 rfl rfl)
theorem dX9_settles_107 : decode cX9_settles 107 = .ok (.getfield 10, 3) := dk_180 0 10 (dk_at dksX9_settles_4 14 rfl rfl)
theorem dX9_settles_110 : decode cX9_settles 110 = .ok (.iload_n 2, 1) := dk_28 (dk_at dksX9_settles_4 17 rfl rfl)
theorem dX9_settles_111 : decode cX9_settles 111 = .ok (.invokestatic 72, 3) := dk_184 0 72 (dk_at dksX9_settles_4 18 rfl rfl)
theorem dX9_settles_114 : decode cX9_settles 114 = .ok (.ifCond .eq 46, 3) := dk_153 0 46 (dk_at dksX9_settles_4 21 rfl rfl)
theorem dX9_settles_117 : decode cX9_settles 117 = .ok (.aload_n 0, 1) := dk_42 (dk_at dksX9_settles_5 0 rfl rfl)
theorem dX9_settles_118 : decode cX9_settles 118 = .ok (.getfield 10, 3) := dk_180 0 10 (dk_at dksX9_settles_5 1 rfl rfl)
theorem dX9_settles_121 : decode cX9_settles 121 = .ok (.iload_n 3, 1) := dk_29 (dk_at dksX9_settles_5 4 rfl rfl)
theorem dX9_settles_122 : decode cX9_settles 122 = .ok (.invokestatic 72, 3) := dk_184 0 72 (dk_at dksX9_settles_5 5 rfl rfl)
theorem dX9_settles_125 : decode cX9_settles 125 = .ok (.ifCond .eq 35, 3) := dk_153 0 35 (dk_at dksX9_settles_5 8 rfl rfl)
theorem dX9_settles_128 : decode cX9_settles 128 = .ok (.aload_n 0, 1) := dk_42 (dk_at dksX9_settles_5 11 rfl rfl)
theorem dX9_settles_129 : decode cX9_settles 129 = .ok (.getfield 10, 3) := dk_180 0 10 (dk_at dksX9_settles_5 12 rfl rfl)
theorem dX9_settles_132 : decode cX9_settles 132 = .ok (.iconst 1, 1) := dk_4 (dk_at dksX9_settles_5 15 rfl rfl)
theorem dX9_settles_133 : decode cX9_settles 133 = .ok (.iload_n 2, 1) := dk_28 (dk_at dksX9_settles_5 16 rfl rfl)
theorem dX9_settles_134 : decode cX9_settles 134 = .ok (.ishl, 1) := dk_120 (dk_at dksX9_settles_5 17 rfl rfl)
theorem dX9_settles_135 : decode cX9_settles 135 = .ok (.iconst (-1), 1) := dk_2 (dk_at dksX9_settles_5 18 rfl rfl)
theorem dX9_settles_136 : decode cX9_settles 136 = .ok (.ixor, 1) := dk_130 (dk_at dksX9_settles_5 19 rfl rfl)
theorem dX9_settles_137 : decode cX9_settles 137 = .ok (.iand, 1) := dk_126 (dk_at dksX9_settles_5 20 rfl rfl)
theorem dX9_settles_138 : decode cX9_settles 138 = .ok (.iconst 1, 1) := dk_4 (dk_at dksX9_settles_5 21 rfl rfl)
theorem dX9_settles_139 : decode cX9_settles 139 = .ok (.iload_n 3, 1) := dk_29 (dk_at dksX9_settles_5 22 rfl rfl)
theorem dX9_settles_140 : decode cX9_settles 140 = .ok (.ishl, 1) := dk_120 (dk_at dksX9_settles_5 23 rfl rfl)
theorem dX9_settles_141 : decode cX9_settles 141 = .ok (.iconst (-1), 1) := dk_2 (dk_at dksX9_settles_6 0 rfl rfl)
theorem dX9_settles_142 : decode cX9_settles 142 = .ok (.ixor, 1) := dk_130 (dk_at dksX9_settles_6 1 rfl rfl)
theorem dX9_settles_143 : decode cX9_settles 143 = .ok (.iand, 1) := dk_126 (dk_at dksX9_settles_6 2 rfl rfl)
theorem dX9_settles_144 : decode cX9_settles 144 = .ok (.invokestatic 85, 3) := dk_184 0 85 (dk_at dksX9_settles_6 3 rfl rfl)
theorem dX9_settles_147 : decode cX9_settles 147 = .ok (.ifCond .eq 13, 3) := dk_153 0 13 (dk_at dksX9_settles_6 6 rfl rfl)
theorem dX9_settles_150 : decode cX9_settles 150 = .ok (.iload_n 1, 1) := dk_27 (dk_at dksX9_settles_6 9 rfl rfl)
theorem dX9_settles_151 : decode cX9_settles 151 = .ok (.ifCond .ne 7, 3) := dk_154 0 7 (dk_at dksX9_settles_6 10 rfl rfl)
theorem dX9_settles_154 : decode cX9_settles 154 = .ok (.iconst 2, 1) := dk_5 (dk_at dksX9_settles_6 13 rfl rfl)
theorem dX9_settles_155 : decode cX9_settles 155 = .ok (.goto 4, 3) := dk_167 0 4 (dk_at dksX9_settles_6 14 rfl rfl)
theorem dX9_settles_158 : decode cX9_settles 158 = .ok (.iload_n 2, 1) := dk_28 (dk_at dksX9_settles_6 17 rfl rfl)
theorem dX9_settles_159 : decode cX9_settles 159 = .ok (.ireturn, 1) := dk_172 (dk_at dksX9_settles_6 18 rfl rfl)
theorem dX9_settles_160 : decode cX9_settles 160 = .ok (.iinc 3 1, 3) := dk_132 3 1 (dk_at dksX9_settles_6 19 rfl rfl)
theorem dX9_settles_163 : decode cX9_settles 163 = .ok (.goto (-63), 3) := dk_167 255 193 (dk_at dksX9_settles_7 0 rfl rfl)
theorem dX9_settles_166 : decode cX9_settles 166 = .ok (.iinc 2 1, 3) := dk_132 2 1 (dk_at dksX9_settles_7 3 rfl rfl)
theorem dX9_settles_169 : decode cX9_settles 169 = .ok (.goto (-79), 3) := dk_167 255 177 (dk_at dksX9_settles_7 6 rfl rfl)
theorem dX9_settles_172 : decode cX9_settles 172 = .ok (.bipush (-9), 2) := dk_16 247 (dk_at dksX9_settles_7 9 rfl rfl)
theorem dX9_settles_174 : decode cX9_settles 174 = .ok (.ireturn, 1) := dk_172 (dk_at dksX9_settles_7 11 rfl rfl)
abbrev cX9_pips : ByteArray := prog_21_method_63_code
def yX9_pips : MethodName := ⟨RX9, "pips", "(I)I"⟩
def dkwX9_pips_1 : List UInt8 := [180, 0, 10, 5, 122, 4, 126, 167, 0, 9, 42, 16, 254, 182, 0, 52, 172]
abbrev dktX9_pips_1 : List UInt8 := dkwX9_pips_1 ++ []
def dkwX9_pips_0 : List UInt8 := [27, 154, 0, 17, 42, 180, 0, 10, 17, 56, 0, 126, 184, 0, 82, 167, 0, 25, 27, 4, 160, 0, 14, 42]
abbrev dktX9_pips_0 : List UInt8 := dkwX9_pips_0 ++ dktX9_pips_1
theorem dksX9_pips_0 : cX9_pips.data.toList.drop 0 = dktX9_pips_0 := by decide +kernel
theorem dksX9_pips_1 : cX9_pips.data.toList.drop 24 = dktX9_pips_1 := dk_seg dksX9_pips_0 24 rfl rfl
theorem dX9_pips_0 : decode cX9_pips 0 = .ok (.iload_n 1, 1) := dk_27 (dk_at dksX9_pips_0 0 rfl rfl)
theorem dX9_pips_1 : decode cX9_pips 1 = .ok (.ifCond .ne 17, 3) := dk_154 0 17 (dk_at dksX9_pips_0 1 rfl rfl)
theorem dX9_pips_4 : decode cX9_pips 4 = .ok (.aload_n 0, 1) := dk_42 (dk_at dksX9_pips_0 4 rfl rfl)
theorem dX9_pips_5 : decode cX9_pips 5 = .ok (.getfield 10, 3) := dk_180 0 10 (dk_at dksX9_pips_0 5 rfl rfl)
theorem dX9_pips_8 : decode cX9_pips 8 = .ok (.sipush 14336, 3) := dk_17 56 0 (dk_at dksX9_pips_0 8 rfl rfl)
theorem dX9_pips_11 : decode cX9_pips 11 = .ok (.iand, 1) := dk_126 (dk_at dksX9_pips_0 11 rfl rfl)
theorem dX9_pips_12 : decode cX9_pips 12 = .ok (.invokestatic 82, 3) := dk_184 0 82 (dk_at dksX9_pips_0 12 rfl rfl)
theorem dX9_pips_15 : decode cX9_pips 15 = .ok (.goto 25, 3) := dk_167 0 25 (dk_at dksX9_pips_0 15 rfl rfl)
theorem dX9_pips_18 : decode cX9_pips 18 = .ok (.iload_n 1, 1) := dk_27 (dk_at dksX9_pips_0 18 rfl rfl)
theorem dX9_pips_19 : decode cX9_pips 19 = .ok (.iconst 1, 1) := dk_4 (dk_at dksX9_pips_0 19 rfl rfl)
theorem dX9_pips_20 : decode cX9_pips 20 = .ok (.if_icmp .ne 14, 3) := dk_160 0 14 (dk_at dksX9_pips_0 20 rfl rfl)
theorem dX9_pips_23 : decode cX9_pips 23 = .ok (.aload_n 0, 1) := dk_42 (dk_at dksX9_pips_0 23 rfl rfl)
theorem dX9_pips_24 : decode cX9_pips 24 = .ok (.getfield 10, 3) := dk_180 0 10 (dk_at dksX9_pips_1 0 rfl rfl)
theorem dX9_pips_27 : decode cX9_pips 27 = .ok (.iconst 2, 1) := dk_5 (dk_at dksX9_pips_1 3 rfl rfl)
theorem dX9_pips_28 : decode cX9_pips 28 = .ok (.ishr, 1) := dk_122 (dk_at dksX9_pips_1 4 rfl rfl)
theorem dX9_pips_29 : decode cX9_pips 29 = .ok (.iconst 1, 1) := dk_4 (dk_at dksX9_pips_1 5 rfl rfl)
theorem dX9_pips_30 : decode cX9_pips 30 = .ok (.iand, 1) := dk_126 (dk_at dksX9_pips_1 6 rfl rfl)
theorem dX9_pips_31 : decode cX9_pips 31 = .ok (.goto 9, 3) := dk_167 0 9 (dk_at dksX9_pips_1 7 rfl rfl)
theorem dX9_pips_34 : decode cX9_pips 34 = .ok (.aload_n 0, 1) := dk_42 (dk_at dksX9_pips_1 10 rfl rfl)
theorem dX9_pips_35 : decode cX9_pips 35 = .ok (.bipush (-2), 2) := dk_16 254 (dk_at dksX9_pips_1 11 rfl rfl)
theorem dX9_pips_37 : decode cX9_pips 37 = .ok (.invokevirtual 52, 3) := dk_182 0 52 (dk_at dksX9_pips_1 13 rfl rfl)
theorem dX9_pips_40 : decode cX9_pips 40 = .ok (.ireturn, 1) := dk_172 (dk_at dksX9_pips_1 16 rfl rfl)
abbrev cX9_grudge : ByteArray := prog_21_method_64_code
def yX9_grudge : MethodName := ⟨RX9, "grudge", "(I)I"⟩
def dkwX9_grudge_4 : List UInt8 := [184, 0, 186, 27, 182, 0, 98, 62, 132, 4, 1, 167, 255, 176, 28, 172]
abbrev dktX9_grudge_4 : List UInt8 := dkwX9_grudge_4 ++ []
def dkwX9_grudge_3 : List UInt8 := [184, 0, 186, 27, 182, 0, 98, 29, 161, 0, 6, 167, 0, 21, 21, 4, 61, 42, 42, 180, 0, 10, 21, 5]
abbrev dktX9_grudge_3 : List UInt8 := dkwX9_grudge_3 ++ dktX9_grudge_4
def dkwX9_grudge_2 : List UInt8 := [180, 0, 10, 21, 4, 4, 182, 0, 183, 54, 5, 21, 5, 155, 0, 42, 42, 42, 180, 0, 10, 21, 5]
abbrev dktX9_grudge_2 : List UInt8 := dkwX9_grudge_2 ++ dktX9_grudge_3
def dkwX9_grudge_1 : List UInt8 := [21, 4, 42, 180, 0, 62, 162, 0, 77, 21, 4, 27, 160, 0, 8, 16, 247, 167, 0, 14, 42, 42]
abbrev dktX9_grudge_1 : List UInt8 := dkwX9_grudge_1 ++ dktX9_grudge_2
def dkwX9_grudge_0 : List UInt8 := [42, 27, 182, 0, 168, 154, 0, 9, 42, 2, 182, 0, 52, 172, 16, 247, 61, 18, 51, 62, 3, 54, 4]
abbrev dktX9_grudge_0 : List UInt8 := dkwX9_grudge_0 ++ dktX9_grudge_1
theorem dksX9_grudge_0 : cX9_grudge.data.toList.drop 0 = dktX9_grudge_0 := by decide +kernel
theorem dksX9_grudge_1 : cX9_grudge.data.toList.drop 23 = dktX9_grudge_1 := dk_seg dksX9_grudge_0 23 rfl rfl
theorem dksX9_grudge_2 : cX9_grudge.data.toList.drop 45 = dktX9_grudge_2 := dk_seg dksX9_grudge_1 22 rfl rfl
theorem dksX9_grudge_3 : cX9_grudge.data.toList.drop 68 = dktX9_grudge_3 := dk_seg dksX9_grudge_2 23 rfl rfl
theorem dksX9_grudge_4 : cX9_grudge.data.toList.drop 92 = dktX9_grudge_4 := dk_seg dksX9_grudge_3 24 rfl rfl
theorem dX9_grudge_0 : decode cX9_grudge 0 = .ok (.aload_n 0, 1) := dk_42 (dk_at dksX9_grudge_0 0 rfl rfl)
theorem dX9_grudge_1 : decode cX9_grudge 1 = .ok (.iload_n 1, 1) := dk_27 (dk_at dksX9_grudge_0 1 rfl rfl)
theorem dX9_grudge_2 : decode cX9_grudge 2 = .ok (.invokevirtual 168, 3) := dk_182 0 168 (dk_at dksX9_grudge_0 2 rfl rfl)
theorem dX9_grudge_5 : decode cX9_grudge 5 = .ok (.ifCond .ne 9, 3) := dk_154 0 9 (dk_at dksX9_grudge_0 5 rfl rfl)
theorem dX9_grudge_8 : decode cX9_grudge 8 = .ok (.aload_n 0, 1) := dk_42 (dk_at dksX9_grudge_0 8 rfl rfl)
theorem dX9_grudge_9 : decode cX9_grudge 9 = .ok (.iconst (-1), 1) := dk_2 (dk_at dksX9_grudge_0 9 rfl rfl)
theorem dX9_grudge_10 : decode cX9_grudge 10 = .ok (.invokevirtual 52, 3) := dk_182 0 52 (dk_at dksX9_grudge_0 10 rfl rfl)
theorem dX9_grudge_13 : decode cX9_grudge 13 = .ok (.ireturn, 1) := dk_172 (dk_at dksX9_grudge_0 13 rfl rfl)
theorem dX9_grudge_14 : decode cX9_grudge 14 = .ok (.bipush (-9), 2) := dk_16 247 (dk_at dksX9_grudge_0 14 rfl rfl)
theorem dX9_grudge_16 : decode cX9_grudge 16 = .ok (.istore_n 2, 1) := dk_61 (dk_at dksX9_grudge_0 16 rfl rfl)
theorem dX9_grudge_17 : decode cX9_grudge 17 = .ok (.ldc 51, 2) := dk_18 51 (dk_at dksX9_grudge_0 17 rfl rfl)
theorem dX9_grudge_19 : decode cX9_grudge 19 = .ok (.istore_n 3, 1) := dk_62 (dk_at dksX9_grudge_0 19 rfl rfl)
theorem dX9_grudge_20 : decode cX9_grudge 20 = .ok (.iconst 0, 1) := dk_3 (dk_at dksX9_grudge_0 20 rfl rfl)
theorem dX9_grudge_21 : decode cX9_grudge 21 = .ok (.istore 4, 2) := dk_54 4 (dk_at dksX9_grudge_0 21 rfl rfl)
theorem dX9_grudge_23 : decode cX9_grudge 23 = .ok (.iload 4, 2) := dk_21 4 (dk_at dksX9_grudge_1 0 rfl rfl)
theorem dX9_grudge_25 : decode cX9_grudge 25 = .ok (.aload_n 0, 1) := dk_42 (dk_at dksX9_grudge_1 2 rfl rfl)
theorem dX9_grudge_26 : decode cX9_grudge 26 = .ok (.getfield 62, 3) := dk_180 0 62 (dk_at dksX9_grudge_1 3 rfl rfl)
theorem dX9_grudge_29 : decode cX9_grudge 29 = .ok (.if_icmp .ge 77, 3) := dk_162 0 77 (dk_at dksX9_grudge_1 6 rfl rfl)
theorem dX9_grudge_32 : decode cX9_grudge 32 = .ok (.iload 4, 2) := dk_21 4 (dk_at dksX9_grudge_1 9 rfl rfl)
theorem dX9_grudge_34 : decode cX9_grudge 34 = .ok (.iload_n 1, 1) := dk_27 (dk_at dksX9_grudge_1 11 rfl rfl)
theorem dX9_grudge_35 : decode cX9_grudge 35 = .ok (.if_icmp .ne 8, 3) := dk_160 0 8 (dk_at dksX9_grudge_1 12 rfl rfl)
theorem dX9_grudge_38 : decode cX9_grudge 38 = .ok (.bipush (-9), 2) := dk_16 247 (dk_at dksX9_grudge_1 15 rfl rfl)
theorem dX9_grudge_40 : decode cX9_grudge 40 = .ok (.goto 14, 3) := dk_167 0 14 (dk_at dksX9_grudge_1 17 rfl rfl)
theorem dX9_grudge_43 : decode cX9_grudge 43 = .ok (.aload_n 0, 1) := dk_42 (dk_at dksX9_grudge_1 20 rfl rfl)
theorem dX9_grudge_44 : decode cX9_grudge 44 = .ok (.aload_n 0, 1) := dk_42 (dk_at dksX9_grudge_1 21 rfl rfl)
theorem dX9_grudge_45 : decode cX9_grudge 45 = .ok (.getfield 10, 3) := dk_180 0 10 (dk_at dksX9_grudge_2 0 rfl rfl)
theorem dX9_grudge_48 : decode cX9_grudge 48 = .ok (.iload 4, 2) := dk_21 4 (dk_at dksX9_grudge_2 3 rfl rfl)
theorem dX9_grudge_50 : decode cX9_grudge 50 = .ok (.iconst 1, 1) := dk_4 (dk_at dksX9_grudge_2 5 rfl rfl)
theorem dX9_grudge_51 : decode cX9_grudge 51 = .ok (.invokevirtual 183, 3) := dk_182 0 183 (dk_at dksX9_grudge_2 6 rfl rfl)
theorem dX9_grudge_54 : decode cX9_grudge 54 = .ok (.istore 5, 2) := dk_54 5 (dk_at dksX9_grudge_2 9 rfl rfl)
theorem dX9_grudge_56 : decode cX9_grudge 56 = .ok (.iload 5, 2) := dk_21 5 (dk_at dksX9_grudge_2 11 rfl rfl)
theorem dX9_grudge_58 : decode cX9_grudge 58 = .ok (.ifCond .lt 42, 3) := dk_155 0 42 (dk_at dksX9_grudge_2 13 rfl rfl)
theorem dX9_grudge_61 : decode cX9_grudge 61 = .ok (.aload_n 0, 1) := dk_42 (dk_at dksX9_grudge_2 16 rfl rfl)
theorem dX9_grudge_62 : decode cX9_grudge 62 = .ok (.aload_n 0, 1) := dk_42 (dk_at dksX9_grudge_2 17 rfl rfl)
theorem dX9_grudge_63 : decode cX9_grudge 63 = .ok (.getfield 10, 3) := dk_180 0 10 (dk_at dksX9_grudge_2 18 rfl rfl)
theorem dX9_grudge_66 : decode cX9_grudge 66 = .ok (.iload 5, 2) := dk_21 5 (dk_at dksX9_grudge_2 21 rfl rfl)
theorem dX9_grudge_68 : decode cX9_grudge 68 = .ok (.invokestatic 186, 3) := dk_184 0 186 (dk_at dksX9_grudge_3 0 rfl rfl)
theorem dX9_grudge_71 : decode cX9_grudge 71 = .ok (.iload_n 1, 1) := dk_27 (dk_at dksX9_grudge_3 3 rfl rfl)
theorem dX9_grudge_72 : decode cX9_grudge 72 = .ok (.invokevirtual 98, 3) := dk_182 0 98 (dk_at dksX9_grudge_3 4 rfl rfl)
theorem dX9_grudge_75 : decode cX9_grudge 75 = .ok (.iload_n 3, 1) := dk_29 (dk_at dksX9_grudge_3 7 rfl rfl)
theorem dX9_grudge_76 : decode cX9_grudge 76 = .ok (.if_icmp .lt 6, 3) := dk_161 0 6 (dk_at dksX9_grudge_3 8 rfl rfl)
theorem dX9_grudge_79 : decode cX9_grudge 79 = .ok (.goto 21, 3) := dk_167 0 21 (dk_at dksX9_grudge_3 11 rfl rfl)
theorem dX9_grudge_82 : decode cX9_grudge 82 = .ok (.iload 4, 2) := dk_21 4 (dk_at dksX9_grudge_3 14 rfl rfl)
theorem dX9_grudge_84 : decode cX9_grudge 84 = .ok (.istore_n 2, 1) := dk_61 (dk_at dksX9_grudge_3 16 rfl rfl)
theorem dX9_grudge_85 : decode cX9_grudge 85 = .ok (.aload_n 0, 1) := dk_42 (dk_at dksX9_grudge_3 17 rfl rfl)
theorem dX9_grudge_86 : decode cX9_grudge 86 = .ok (.aload_n 0, 1) := dk_42 (dk_at dksX9_grudge_3 18 rfl rfl)
theorem dX9_grudge_87 : decode cX9_grudge 87 = .ok (.getfield 10, 3) := dk_180 0 10 (dk_at dksX9_grudge_3 19 rfl rfl)
theorem dX9_grudge_90 : decode cX9_grudge 90 = .ok (.iload 5, 2) := dk_21 5 (dk_at dksX9_grudge_3 22 rfl rfl)
theorem dX9_grudge_92 : decode cX9_grudge 92 = .ok (.invokestatic 186, 3) := dk_184 0 186 (dk_at dksX9_grudge_4 0 rfl rfl)
theorem dX9_grudge_95 : decode cX9_grudge 95 = .ok (.iload_n 1, 1) := dk_27 (dk_at dksX9_grudge_4 3 rfl rfl)
theorem dX9_grudge_96 : decode cX9_grudge 96 = .ok (.invokevirtual 98, 3) := dk_182 0 98 (dk_at dksX9_grudge_4 4 rfl rfl)
theorem dX9_grudge_99 : decode cX9_grudge 99 = .ok (.istore_n 3, 1) := dk_62 (dk_at dksX9_grudge_4 7 rfl rfl)
theorem dX9_grudge_100 : decode cX9_grudge 100 = .ok (.iinc 4 1, 3) := dk_132 4 1 (dk_at dksX9_grudge_4 8 rfl rfl)
theorem dX9_grudge_103 : decode cX9_grudge 103 = .ok (.goto (-80), 3) := dk_167 255 176 (dk_at dksX9_grudge_4 11 rfl rfl)
theorem dX9_grudge_106 : decode cX9_grudge 106 = .ok (.iload_n 2, 1) := dk_28 (dk_at dksX9_grudge_4 14 rfl rfl)
theorem dX9_grudge_107 : decode cX9_grudge 107 = .ok (.ireturn, 1) := dk_172 (dk_at dksX9_grudge_4 15 rfl rfl)
abbrev cX9_gain : ByteArray := prog_21_method_66_code
def yX9_gain : MethodName := ⟨RX9, "gain", "(II)I"⟩
def dkwX9_gain_2 : List UInt8 := [182, 0, 207, 172]
abbrev dktX9_gain_2 : List UInt8 := dkwX9_gain_2 ++ []
def dkwX9_gain_1 : List UInt8 := [184, 0, 186, 28, 182, 0, 98, 42, 42, 180, 0, 10, 28, 182, 0, 98, 100, 167, 0, 8, 42, 2]
abbrev dktX9_gain_1 : List UInt8 := dkwX9_gain_1 ++ dktX9_gain_2
def dkwX9_gain_0 : List UInt8 := [42, 27, 28, 182, 0, 204, 153, 0, 38, 42, 42, 180, 0, 10, 42, 42, 180, 0, 10, 27, 4, 182, 0, 183]
abbrev dktX9_gain_0 : List UInt8 := dkwX9_gain_0 ++ dktX9_gain_1
theorem dksX9_gain_0 : cX9_gain.data.toList.drop 0 = dktX9_gain_0 := by decide +kernel
theorem dksX9_gain_1 : cX9_gain.data.toList.drop 24 = dktX9_gain_1 := dk_seg dksX9_gain_0 24 rfl rfl
theorem dksX9_gain_2 : cX9_gain.data.toList.drop 46 = dktX9_gain_2 := dk_seg dksX9_gain_1 22 rfl rfl
theorem dX9_gain_0 : decode cX9_gain 0 = .ok (.aload_n 0, 1) := dk_42 (dk_at dksX9_gain_0 0 rfl rfl)
theorem dX9_gain_1 : decode cX9_gain 1 = .ok (.iload_n 1, 1) := dk_27 (dk_at dksX9_gain_0 1 rfl rfl)
theorem dX9_gain_2 : decode cX9_gain 2 = .ok (.iload_n 2, 1) := dk_28 (dk_at dksX9_gain_0 2 rfl rfl)
theorem dX9_gain_3 : decode cX9_gain 3 = .ok (.invokevirtual 204, 3) := dk_182 0 204 (dk_at dksX9_gain_0 3 rfl rfl)
theorem dX9_gain_6 : decode cX9_gain 6 = .ok (.ifCond .eq 38, 3) := dk_153 0 38 (dk_at dksX9_gain_0 6 rfl rfl)
theorem dX9_gain_9 : decode cX9_gain 9 = .ok (.aload_n 0, 1) := dk_42 (dk_at dksX9_gain_0 9 rfl rfl)
theorem dX9_gain_10 : decode cX9_gain 10 = .ok (.aload_n 0, 1) := dk_42 (dk_at dksX9_gain_0 10 rfl rfl)
theorem dX9_gain_11 : decode cX9_gain 11 = .ok (.getfield 10, 3) := dk_180 0 10 (dk_at dksX9_gain_0 11 rfl rfl)
theorem dX9_gain_14 : decode cX9_gain 14 = .ok (.aload_n 0, 1) := dk_42 (dk_at dksX9_gain_0 14 rfl rfl)
theorem dX9_gain_15 : decode cX9_gain 15 = .ok (.aload_n 0, 1) := dk_42 (dk_at dksX9_gain_0 15 rfl rfl)
theorem dX9_gain_16 : decode cX9_gain 16 = .ok (.getfield 10, 3) := dk_180 0 10 (dk_at dksX9_gain_0 16 rfl rfl)
theorem dX9_gain_19 : decode cX9_gain 19 = .ok (.iload_n 1, 1) := dk_27 (dk_at dksX9_gain_0 19 rfl rfl)
theorem dX9_gain_20 : decode cX9_gain 20 = .ok (.iconst 1, 1) := dk_4 (dk_at dksX9_gain_0 20 rfl rfl)
theorem dX9_gain_21 : decode cX9_gain 21 = .ok (.invokevirtual 183, 3) := dk_182 0 183 (dk_at dksX9_gain_0 21 rfl rfl)
theorem dX9_gain_24 : decode cX9_gain 24 = .ok (.invokestatic 186, 3) := dk_184 0 186 (dk_at dksX9_gain_1 0 rfl rfl)
theorem dX9_gain_27 : decode cX9_gain 27 = .ok (.iload_n 2, 1) := dk_28 (dk_at dksX9_gain_1 3 rfl rfl)
theorem dX9_gain_28 : decode cX9_gain 28 = .ok (.invokevirtual 98, 3) := dk_182 0 98 (dk_at dksX9_gain_1 4 rfl rfl)
theorem dX9_gain_31 : decode cX9_gain 31 = .ok (.aload_n 0, 1) := dk_42 (dk_at dksX9_gain_1 7 rfl rfl)
theorem dX9_gain_32 : decode cX9_gain 32 = .ok (.aload_n 0, 1) := dk_42 (dk_at dksX9_gain_1 8 rfl rfl)
theorem dX9_gain_33 : decode cX9_gain 33 = .ok (.getfield 10, 3) := dk_180 0 10 (dk_at dksX9_gain_1 9 rfl rfl)
theorem dX9_gain_36 : decode cX9_gain 36 = .ok (.iload_n 2, 1) := dk_28 (dk_at dksX9_gain_1 12 rfl rfl)
theorem dX9_gain_37 : decode cX9_gain 37 = .ok (.invokevirtual 98, 3) := dk_182 0 98 (dk_at dksX9_gain_1 13 rfl rfl)
theorem dX9_gain_40 : decode cX9_gain 40 = .ok (.isub, 1) := dk_100 (dk_at dksX9_gain_1 16 rfl rfl)
theorem dX9_gain_41 : decode cX9_gain 41 = .ok (.goto 8, 3) := dk_167 0 8 (dk_at dksX9_gain_1 17 rfl rfl)
theorem dX9_gain_44 : decode cX9_gain 44 = .ok (.aload_n 0, 1) := dk_42 (dk_at dksX9_gain_1 20 rfl rfl)
theorem dX9_gain_45 : decode cX9_gain 45 = .ok (.iconst (-1), 1) := dk_2 (dk_at dksX9_gain_1 21 rfl rfl)
theorem dX9_gain_46 : decode cX9_gain 46 = .ok (.invokevirtual 207, 3) := dk_182 0 207 (dk_at dksX9_gain_2 0 rfl rfl)
theorem dX9_gain_49 : decode cX9_gain 49 = .ok (.ireturn, 1) := dk_172 (dk_at dksX9_gain_2 3 rfl rfl)
abbrev cX9_areTwo : ByteArray := prog_21_method_65_code
def yX9_areTwo : MethodName := ⟨RX9, "areTwo", "(II)Z"⟩
def dkwX9_areTwo_1 : List UInt8 := [167, 0, 4, 3, 172]
abbrev dktX9_areTwo_1 : List UInt8 := dkwX9_areTwo_1 ++ []
def dkwX9_areTwo_0 : List UInt8 := [42, 27, 182, 0, 168, 153, 0, 20, 42, 28, 182, 0, 168, 153, 0, 12, 27, 28, 159, 0, 7, 4]
abbrev dktX9_areTwo_0 : List UInt8 := dkwX9_areTwo_0 ++ dktX9_areTwo_1
theorem dksX9_areTwo_0 : cX9_areTwo.data.toList.drop 0 = dktX9_areTwo_0 := by decide +kernel
theorem dksX9_areTwo_1 : cX9_areTwo.data.toList.drop 22 = dktX9_areTwo_1 := dk_seg dksX9_areTwo_0 22 rfl rfl
theorem dX9_areTwo_0 : decode cX9_areTwo 0 = .ok (.aload_n 0, 1) := dk_42 (dk_at dksX9_areTwo_0 0 rfl rfl)
theorem dX9_areTwo_1 : decode cX9_areTwo 1 = .ok (.iload_n 1, 1) := dk_27 (dk_at dksX9_areTwo_0 1 rfl rfl)
theorem dX9_areTwo_2 : decode cX9_areTwo 2 = .ok (.invokevirtual 168, 3) := dk_182 0 168 (dk_at dksX9_areTwo_0 2 rfl rfl)
theorem dX9_areTwo_5 : decode cX9_areTwo 5 = .ok (.ifCond .eq 20, 3) := dk_153 0 20 (dk_at dksX9_areTwo_0 5 rfl rfl)
theorem dX9_areTwo_8 : decode cX9_areTwo 8 = .ok (.aload_n 0, 1) := dk_42 (dk_at dksX9_areTwo_0 8 rfl rfl)
theorem dX9_areTwo_9 : decode cX9_areTwo 9 = .ok (.iload_n 2, 1) := dk_28 (dk_at dksX9_areTwo_0 9 rfl rfl)
theorem dX9_areTwo_10 : decode cX9_areTwo 10 = .ok (.invokevirtual 168, 3) := dk_182 0 168 (dk_at dksX9_areTwo_0 10 rfl rfl)
theorem dX9_areTwo_13 : decode cX9_areTwo 13 = .ok (.ifCond .eq 12, 3) := dk_153 0 12 (dk_at dksX9_areTwo_0 13 rfl rfl)
theorem dX9_areTwo_16 : decode cX9_areTwo 16 = .ok (.iload_n 1, 1) := dk_27 (dk_at dksX9_areTwo_0 16 rfl rfl)
theorem dX9_areTwo_17 : decode cX9_areTwo 17 = .ok (.iload_n 2, 1) := dk_28 (dk_at dksX9_areTwo_0 17 rfl rfl)
theorem dX9_areTwo_18 : decode cX9_areTwo 18 = .ok (.if_icmp .eq 7, 3) := dk_159 0 7 (dk_at dksX9_areTwo_0 18 rfl rfl)
theorem dX9_areTwo_21 : decode cX9_areTwo 21 = .ok (.iconst 1, 1) := dk_4 (dk_at dksX9_areTwo_0 21 rfl rfl)
theorem dX9_areTwo_22 : decode cX9_areTwo 22 = .ok (.goto 4, 3) := dk_167 0 4 (dk_at dksX9_areTwo_1 0 rfl rfl)
theorem dX9_areTwo_25 : decode cX9_areTwo 25 = .ok (.iconst 0, 1) := dk_3 (dk_at dksX9_areTwo_1 3 rfl rfl)
theorem dX9_areTwo_26 : decode cX9_areTwo 26 = .ok (.ireturn, 1) := dk_172 (dk_at dksX9_areTwo_1 4 rfl rfl)
abbrev cX9_noFar : ByteArray := prog_21_method_5_code
def yX9_noFar : MethodName := ⟨RX9, "noFar", "(I)I"⟩
def dkwX9_noFar_0 : List UInt8 := [18, 51, 42, 27, 182, 0, 52, 100, 172]
abbrev dktX9_noFar_0 : List UInt8 := dkwX9_noFar_0 ++ []
theorem dksX9_noFar_0 : cX9_noFar.data.toList.drop 0 = dktX9_noFar_0 := by decide +kernel
theorem dX9_noFar_0 : decode cX9_noFar 0 = .ok (.ldc 51, 2) := dk_18 51 (dk_at dksX9_noFar_0 0 rfl rfl)
theorem dX9_noFar_2 : decode cX9_noFar 2 = .ok (.aload_n 0, 1) := dk_42 (dk_at dksX9_noFar_0 2 rfl rfl)
theorem dX9_noFar_3 : decode cX9_noFar 3 = .ok (.iload_n 1, 1) := dk_27 (dk_at dksX9_noFar_0 3 rfl rfl)
theorem dX9_noFar_4 : decode cX9_noFar 4 = .ok (.invokevirtual 52, 3) := dk_182 0 52 (dk_at dksX9_noFar_0 4 rfl rfl)
theorem dX9_noFar_7 : decode cX9_noFar 7 = .ok (.isub, 1) := dk_100 (dk_at dksX9_noFar_0 7 rfl rfl)
theorem dX9_noFar_8 : decode cX9_noFar 8 = .ok (.ireturn, 1) := dk_172 (dk_at dksX9_noFar_0 8 rfl rfl)
abbrev cX9_join : ByteArray := prog_21_method_67_code
def yX9_join : MethodName := ⟨RX9, "join", "(I)I"⟩
def dkwX9_join_1 : List UInt8 := [42, 16, 253, 182, 0, 52, 167, 0, 14, 42, 180, 0, 10, 4, 27, 120, 128, 184, 0, 91, 172]
abbrev dktX9_join_1 : List UInt8 := dkwX9_join_1 ++ []
def dkwX9_join_0 : List UInt8 := [27, 184, 0, 130, 154, 0, 9, 42, 2, 182, 0, 52, 172, 42, 180, 0, 10, 27, 184, 0, 72, 153, 0, 12]
abbrev dktX9_join_0 : List UInt8 := dkwX9_join_0 ++ dktX9_join_1
theorem dksX9_join_0 : cX9_join.data.toList.drop 0 = dktX9_join_0 := by decide +kernel
theorem dksX9_join_1 : cX9_join.data.toList.drop 24 = dktX9_join_1 := dk_seg dksX9_join_0 24 rfl rfl
theorem dX9_join_0 : decode cX9_join 0 = .ok (.iload_n 1, 1) := dk_27 (dk_at dksX9_join_0 0 rfl rfl)
theorem dX9_join_1 : decode cX9_join 1 = .ok (.invokestatic 130, 3) := dk_184 0 130 (dk_at dksX9_join_0 1 rfl rfl)
theorem dX9_join_4 : decode cX9_join 4 = .ok (.ifCond .ne 9, 3) := dk_154 0 9 (dk_at dksX9_join_0 4 rfl rfl)
theorem dX9_join_7 : decode cX9_join 7 = .ok (.aload_n 0, 1) := dk_42 (dk_at dksX9_join_0 7 rfl rfl)
theorem dX9_join_8 : decode cX9_join 8 = .ok (.iconst (-1), 1) := dk_2 (dk_at dksX9_join_0 8 rfl rfl)
theorem dX9_join_9 : decode cX9_join 9 = .ok (.invokevirtual 52, 3) := dk_182 0 52 (dk_at dksX9_join_0 9 rfl rfl)
theorem dX9_join_12 : decode cX9_join 12 = .ok (.ireturn, 1) := dk_172 (dk_at dksX9_join_0 12 rfl rfl)
theorem dX9_join_13 : decode cX9_join 13 = .ok (.aload_n 0, 1) := dk_42 (dk_at dksX9_join_0 13 rfl rfl)
theorem dX9_join_14 : decode cX9_join 14 = .ok (.getfield 10, 3) := dk_180 0 10 (dk_at dksX9_join_0 14 rfl rfl)
theorem dX9_join_17 : decode cX9_join 17 = .ok (.iload_n 1, 1) := dk_27 (dk_at dksX9_join_0 17 rfl rfl)
theorem dX9_join_18 : decode cX9_join 18 = .ok (.invokestatic 72, 3) := dk_184 0 72 (dk_at dksX9_join_0 18 rfl rfl)
theorem dX9_join_21 : decode cX9_join 21 = .ok (.ifCond .eq 12, 3) := dk_153 0 12 (dk_at dksX9_join_0 21 rfl rfl)
theorem dX9_join_24 : decode cX9_join 24 = .ok (.aload_n 0, 1) := dk_42 (dk_at dksX9_join_1 0 rfl rfl)
theorem dX9_join_25 : decode cX9_join 25 = .ok (.bipush (-3), 2) := dk_16 253 (dk_at dksX9_join_1 1 rfl rfl)
theorem dX9_join_27 : decode cX9_join 27 = .ok (.invokevirtual 52, 3) := dk_182 0 52 (dk_at dksX9_join_1 3 rfl rfl)
theorem dX9_join_30 : decode cX9_join 30 = .ok (.goto 14, 3) := dk_167 0 14 (dk_at dksX9_join_1 6 rfl rfl)
theorem dX9_join_33 : decode cX9_join 33 = .ok (.aload_n 0, 1) := dk_42 (dk_at dksX9_join_1 9 rfl rfl)
theorem dX9_join_34 : decode cX9_join 34 = .ok (.getfield 10, 3) := dk_180 0 10 (dk_at dksX9_join_1 10 rfl rfl)
theorem dX9_join_37 : decode cX9_join 37 = .ok (.iconst 1, 1) := dk_4 (dk_at dksX9_join_1 13 rfl rfl)
theorem dX9_join_38 : decode cX9_join 38 = .ok (.iload_n 1, 1) := dk_27 (dk_at dksX9_join_1 14 rfl rfl)
theorem dX9_join_39 : decode cX9_join 39 = .ok (.ishl, 1) := dk_120 (dk_at dksX9_join_1 15 rfl rfl)
theorem dX9_join_40 : decode cX9_join 40 = .ok (.ior, 1) := dk_128 (dk_at dksX9_join_1 16 rfl rfl)
theorem dX9_join_41 : decode cX9_join 41 = .ok (.invokestatic 91, 3) := dk_184 0 91 (dk_at dksX9_join_1 17 rfl rfl)
theorem dX9_join_44 : decode cX9_join 44 = .ok (.ireturn, 1) := dk_172 (dk_at dksX9_join_1 20 rfl rfl)
abbrev cX9_bridge : ByteArray := prog_21_method_69_code
def yX9_bridge : MethodName := ⟨RX9, "bridge", "(I)I"⟩
def dkwX9_bridge_6 : List UInt8 := [154, 0, 7, 28, 167, 0, 14, 27, 4, 160, 0, 7, 29, 167, 0, 5, 21, 4, 172]
abbrev dktX9_bridge_6 : List UInt8 := dkwX9_bridge_6 ++ []
def dkwX9_bridge_5 : List UInt8 := [21, 4, 182, 0, 210, 163, 0, 8, 21, 5, 167, 0, 5, 21, 4, 54, 4, 132, 5, 255, 167, 255, 148, 27]
abbrev dktX9_bridge_5 : List UInt8 := dkwX9_bridge_5 ++ dktX9_bridge_6
def dkwX9_bridge_4 : List UInt8 := [21, 6, 153, 0, 8, 21, 5, 167, 0, 4, 29, 62, 21, 4, 155, 0, 18, 42, 21, 5, 182, 0, 210, 42]
abbrev dktX9_bridge_4 : List UInt8 := dkwX9_bridge_4 ++ dktX9_bridge_5
def dkwX9_bridge_3 : List UInt8 := [164, 0, 7, 4, 167, 0, 4, 3, 54, 6, 28, 21, 6, 153, 0, 7, 4, 167, 0, 4, 3, 96, 61]
abbrev dktX9_bridge_3 : List UInt8 := dkwX9_bridge_3 ++ dktX9_bridge_4
def dkwX9_bridge_2 : List UInt8 := [167, 0, 88, 42, 180, 0, 10, 4, 21, 5, 120, 2, 130, 126, 184, 0, 91, 42, 180, 0, 10, 184, 0, 91]
abbrev dktX9_bridge_2 : List UInt8 := dkwX9_bridge_2 ++ dktX9_bridge_3
def dkwX9_bridge_1 : List UInt8 := [54, 4, 16, 24, 54, 5, 21, 5, 155, 0, 109, 42, 180, 0, 10, 21, 5, 184, 0, 72, 154, 0, 6]
abbrev dktX9_bridge_1 : List UInt8 := dkwX9_bridge_1 ++ dktX9_bridge_2
def dkwX9_bridge_0 : List UInt8 := [27, 3, 5, 184, 0, 58, 154, 0, 10, 42, 16, 254, 182, 0, 52, 172, 3, 61, 16, 247, 62, 16, 247]
abbrev dktX9_bridge_0 : List UInt8 := dkwX9_bridge_0 ++ dktX9_bridge_1
theorem dksX9_bridge_0 : cX9_bridge.data.toList.drop 0 = dktX9_bridge_0 := by decide +kernel
theorem dksX9_bridge_1 : cX9_bridge.data.toList.drop 23 = dktX9_bridge_1 := dk_seg dksX9_bridge_0 23 rfl rfl
theorem dksX9_bridge_2 : cX9_bridge.data.toList.drop 46 = dktX9_bridge_2 := dk_seg dksX9_bridge_1 23 rfl rfl
theorem dksX9_bridge_3 : cX9_bridge.data.toList.drop 70 = dktX9_bridge_3 := dk_seg dksX9_bridge_2 24 rfl rfl
theorem dksX9_bridge_4 : cX9_bridge.data.toList.drop 93 = dktX9_bridge_4 := dk_seg dksX9_bridge_3 23 rfl rfl
theorem dksX9_bridge_5 : cX9_bridge.data.toList.drop 117 = dktX9_bridge_5 := dk_seg dksX9_bridge_4 24 rfl rfl
theorem dksX9_bridge_6 : cX9_bridge.data.toList.drop 141 = dktX9_bridge_6 := dk_seg dksX9_bridge_5 24 rfl rfl
theorem dX9_bridge_0 : decode cX9_bridge 0 = .ok (.iload_n 1, 1) := dk_27 (dk_at dksX9_bridge_0 0 rfl rfl)
theorem dX9_bridge_1 : decode cX9_bridge 1 = .ok (.iconst 0, 1) := dk_3 (dk_at dksX9_bridge_0 1 rfl rfl)
theorem dX9_bridge_2 : decode cX9_bridge 2 = .ok (.iconst 2, 1) := dk_5 (dk_at dksX9_bridge_0 2 rfl rfl)
theorem dX9_bridge_3 : decode cX9_bridge 3 = .ok (.invokestatic 58, 3) := dk_184 0 58 (dk_at dksX9_bridge_0 3 rfl rfl)
theorem dX9_bridge_6 : decode cX9_bridge 6 = .ok (.ifCond .ne 10, 3) := dk_154 0 10 (dk_at dksX9_bridge_0 6 rfl rfl)
theorem dX9_bridge_9 : decode cX9_bridge 9 = .ok (.aload_n 0, 1) := dk_42 (dk_at dksX9_bridge_0 9 rfl rfl)
theorem dX9_bridge_10 : decode cX9_bridge 10 = .ok (.bipush (-2), 2) := dk_16 254 (dk_at dksX9_bridge_0 10 rfl rfl)
theorem dX9_bridge_12 : decode cX9_bridge 12 = .ok (.invokevirtual 52, 3) := dk_182 0 52 (dk_at dksX9_bridge_0 12 rfl rfl)
theorem dX9_bridge_15 : decode cX9_bridge 15 = .ok (.ireturn, 1) := dk_172 (dk_at dksX9_bridge_0 15 rfl rfl)
theorem dX9_bridge_16 : decode cX9_bridge 16 = .ok (.iconst 0, 1) := dk_3 (dk_at dksX9_bridge_0 16 rfl rfl)
theorem dX9_bridge_17 : decode cX9_bridge 17 = .ok (.istore_n 2, 1) := dk_61 (dk_at dksX9_bridge_0 17 rfl rfl)
theorem dX9_bridge_18 : decode cX9_bridge 18 = .ok (.bipush (-9), 2) := dk_16 247 (dk_at dksX9_bridge_0 18 rfl rfl)
theorem dX9_bridge_20 : decode cX9_bridge 20 = .ok (.istore_n 3, 1) := dk_62 (dk_at dksX9_bridge_0 20 rfl rfl)
theorem dX9_bridge_21 : decode cX9_bridge 21 = .ok (.bipush (-9), 2) := dk_16 247 (dk_at dksX9_bridge_0 21 rfl rfl)
theorem dX9_bridge_23 : decode cX9_bridge 23 = .ok (.istore 4, 2) := dk_54 4 (dk_at dksX9_bridge_1 0 rfl rfl)
theorem dX9_bridge_25 : decode cX9_bridge 25 = .ok (.bipush 24, 2) := dk_16 24 (dk_at dksX9_bridge_1 2 rfl rfl)
theorem dX9_bridge_27 : decode cX9_bridge 27 = .ok (.istore 5, 2) := dk_54 5 (dk_at dksX9_bridge_1 4 rfl rfl)
theorem dX9_bridge_29 : decode cX9_bridge 29 = .ok (.iload 5, 2) := dk_21 5 (dk_at dksX9_bridge_1 6 rfl rfl)
theorem dX9_bridge_31 : decode cX9_bridge 31 = .ok (.ifCond .lt 109, 3) := dk_155 0 109 (dk_at dksX9_bridge_1 8 rfl rfl)
theorem dX9_bridge_34 : decode cX9_bridge 34 = .ok (.aload_n 0, 1) := dk_42 (dk_at dksX9_bridge_1 11 rfl rfl)
theorem dX9_bridge_35 : decode cX9_bridge 35 = .ok (.getfield 10, 3) := dk_180 0 10 (dk_at dksX9_bridge_1 12 rfl rfl)
theorem dX9_bridge_38 : decode cX9_bridge 38 = .ok (.iload 5, 2) := dk_21 5 (dk_at dksX9_bridge_1 15 rfl rfl)
theorem dX9_bridge_40 : decode cX9_bridge 40 = .ok (.invokestatic 72, 3) := dk_184 0 72 (dk_at dksX9_bridge_1 17 rfl rfl)
theorem dX9_bridge_43 : decode cX9_bridge 43 = .ok (.ifCond .ne 6, 3) := dk_154 0 6 (dk_at dksX9_bridge_1 20 rfl rfl)
theorem dX9_bridge_46 : decode cX9_bridge 46 = .ok (.goto 88, 3) := dk_167 0 88 (dk_at dksX9_bridge_2 0 rfl rfl)
theorem dX9_bridge_49 : decode cX9_bridge 49 = .ok (.aload_n 0, 1) := dk_42 (dk_at dksX9_bridge_2 3 rfl rfl)
theorem dX9_bridge_50 : decode cX9_bridge 50 = .ok (.getfield 10, 3) := dk_180 0 10 (dk_at dksX9_bridge_2 4 rfl rfl)
theorem dX9_bridge_53 : decode cX9_bridge 53 = .ok (.iconst 1, 1) := dk_4 (dk_at dksX9_bridge_2 7 rfl rfl)
theorem dX9_bridge_54 : decode cX9_bridge 54 = .ok (.iload 5, 2) := dk_21 5 (dk_at dksX9_bridge_2 8 rfl rfl)
theorem dX9_bridge_56 : decode cX9_bridge 56 = .ok (.ishl, 1) := dk_120 (dk_at dksX9_bridge_2 10 rfl rfl)
theorem dX9_bridge_57 : decode cX9_bridge 57 = .ok (.iconst (-1), 1) := dk_2 (dk_at dksX9_bridge_2 11 rfl rfl)
theorem dX9_bridge_58 : decode cX9_bridge 58 = .ok (.ixor, 1) := dk_130 (dk_at dksX9_bridge_2 12 rfl rfl)
theorem dX9_bridge_59 : decode cX9_bridge 59 = .ok (.iand, 1) := dk_126 (dk_at dksX9_bridge_2 13 rfl rfl)
theorem dX9_bridge_60 : decode cX9_bridge 60 = .ok (.invokestatic 91, 3) := dk_184 0 91 (dk_at dksX9_bridge_2 14 rfl rfl)
theorem dX9_bridge_63 : decode cX9_bridge 63 = .ok (.aload_n 0, 1) := dk_42 (dk_at dksX9_bridge_2 17 rfl rfl)
theorem dX9_bridge_64 : decode cX9_bridge 64 = .ok (.getfield 10, 3) := dk_180 0 10 (dk_at dksX9_bridge_2 18 rfl rfl)
theorem dX9_bridge_67 : decode cX9_bridge 67 = .ok (.invokestatic 91, 3) := dk_184 0 91 (dk_at dksX9_bridge_2 21 rfl rfl)
theorem dX9_bridge_70 : decode cX9_bridge 70 = .ok (.if_icmp .le 7, 3) := dk_164 0 7 (dk_at dksX9_bridge_3 0 rfl rfl)
theorem dX9_bridge_73 : decode cX9_bridge 73 = .ok (.iconst 1, 1) := dk_4 (dk_at dksX9_bridge_3 3 rfl rfl)
theorem dX9_bridge_74 : decode cX9_bridge 74 = .ok (.goto 4, 3) := dk_167 0 4 (dk_at dksX9_bridge_3 4 rfl rfl)
theorem dX9_bridge_77 : decode cX9_bridge 77 = .ok (.iconst 0, 1) := dk_3 (dk_at dksX9_bridge_3 7 rfl rfl)
theorem dX9_bridge_78 : decode cX9_bridge 78 = .ok (.istore 6, 2) := dk_54 6 (dk_at dksX9_bridge_3 8 rfl rfl)
theorem dX9_bridge_80 : decode cX9_bridge 80 = .ok (.iload_n 2, 1) := dk_28 (dk_at dksX9_bridge_3 10 rfl rfl)
theorem dX9_bridge_81 : decode cX9_bridge 81 = .ok (.iload 6, 2) := dk_21 6 (dk_at dksX9_bridge_3 11 rfl rfl)
theorem dX9_bridge_83 : decode cX9_bridge 83 = .ok (.ifCond .eq 7, 3) := dk_153 0 7 (dk_at dksX9_bridge_3 13 rfl rfl)
theorem dX9_bridge_86 : decode cX9_bridge 86 = .ok (.iconst 1, 1) := dk_4 (dk_at dksX9_bridge_3 16 rfl rfl)
theorem dX9_bridge_87 : decode cX9_bridge 87 = .ok (.goto 4, 3) := dk_167 0 4 (dk_at dksX9_bridge_3 17 rfl rfl)
theorem dX9_bridge_90 : decode cX9_bridge 90 = .ok (.iconst 0, 1) := dk_3 (dk_at dksX9_bridge_3 20 rfl rfl)
theorem dX9_bridge_91 : decode cX9_bridge 91 = .ok (.iadd, 1) := dk_96 (dk_at dksX9_bridge_3 21 rfl rfl)
theorem dX9_bridge_92 : decode cX9_bridge 92 = .ok (.istore_n 2, 1) := dk_61 (dk_at dksX9_bridge_3 22 rfl rfl)
theorem dX9_bridge_93 : decode cX9_bridge 93 = .ok (.iload 6, 2) := dk_21 6 (dk_at dksX9_bridge_4 0 rfl rfl)
theorem dX9_bridge_95 : decode cX9_bridge 95 = .ok (.ifCond .eq 8, 3) := dk_153 0 8 (dk_at dksX9_bridge_4 2 rfl rfl)
theorem dX9_bridge_98 : decode cX9_bridge 98 = .ok (.iload 5, 2) := dk_21 5 (dk_at dksX9_bridge_4 5 rfl rfl)
theorem dX9_bridge_100 : decode cX9_bridge 100 = .ok (.goto 4, 3) := dk_167 0 4 (dk_at dksX9_bridge_4 7 rfl rfl)
theorem dX9_bridge_103 : decode cX9_bridge 103 = .ok (.iload_n 3, 1) := dk_29 (dk_at dksX9_bridge_4 10 rfl rfl)
theorem dX9_bridge_104 : decode cX9_bridge 104 = .ok (.istore_n 3, 1) := dk_62 (dk_at dksX9_bridge_4 11 rfl rfl)
theorem dX9_bridge_105 : decode cX9_bridge 105 = .ok (.iload 4, 2) := dk_21 4 (dk_at dksX9_bridge_4 12 rfl rfl)
theorem dX9_bridge_107 : decode cX9_bridge 107 = .ok (.ifCond .lt 18, 3) := dk_155 0 18 (dk_at dksX9_bridge_4 14 rfl rfl)
theorem dX9_bridge_110 : decode cX9_bridge 110 = .ok (.aload_n 0, 1) := dk_42 (dk_at dksX9_bridge_4 17 rfl rfl)
theorem dX9_bridge_111 : decode cX9_bridge 111 = .ok (.iload 5, 2) := dk_21 5 (dk_at dksX9_bridge_4 18 rfl rfl)
theorem dX9_bridge_113 : decode cX9_bridge 113 = .ok (.invokevirtual 210, 3) := dk_182 0 210 (dk_at dksX9_bridge_4 20 rfl rfl)
theorem dX9_bridge_116 : decode cX9_bridge 116 = .ok (.aload_n 0, 1) := dk_42 (dk_at dksX9_bridge_4 23 rfl rfl)
theorem dX9_bridge_117 : decode cX9_bridge 117 = .ok (.iload 4, 2) := dk_21 4 (dk_at dksX9_bridge_5 0 rfl rfl)
theorem dX9_bridge_119 : decode cX9_bridge 119 = .ok (.invokevirtual 210, 3) := dk_182 0 210 (dk_at dksX9_bridge_5 2 rfl rfl)
theorem dX9_bridge_122 : decode cX9_bridge 122 = .ok (.if_icmp .gt 8, 3) := dk_163 0 8 (dk_at dksX9_bridge_5 5 rfl rfl)
theorem dX9_bridge_125 : decode cX9_bridge 125 = .ok (.iload 5, 2) := dk_21 5 (dk_at dksX9_bridge_5 8 rfl rfl)
theorem dX9_bridge_127 : decode cX9_bridge 127 = .ok (.goto 5, 3) := dk_167 0 5 (dk_at dksX9_bridge_5 10 rfl rfl)
theorem dX9_bridge_130 : decode cX9_bridge 130 = .ok (.iload 4, 2) := dk_21 4 (dk_at dksX9_bridge_5 13 rfl rfl)
theorem dX9_bridge_132 : decode cX9_bridge 132 = .ok (.istore 4, 2) := dk_54 4 (dk_at dksX9_bridge_5 15 rfl rfl)
theorem dX9_bridge_134 : decode cX9_bridge 134 = .ok (.iinc 5 (-1), 3) := dk_132 5 255 (dk_at dksX9_bridge_5 17 rfl rfl)
theorem dX9_bridge_137 : decode cX9_bridge 137 = .ok (.goto (-108), 3) := dk_167 255 148 (dk_at dksX9_bridge_5 20 rfl rfl)
theorem dX9_bridge_140 : decode cX9_bridge 140 = .ok (.iload_n 1, 1) := dk_27 (dk_at dksX9_bridge_5 23 rfl rfl)
theorem dX9_bridge_141 : decode cX9_bridge 141 = .ok (.ifCond .ne 7, 3) := dk_154 0 7 (dk_at dksX9_bridge_6 0 rfl rfl)
theorem dX9_bridge_144 : decode cX9_bridge 144 = .ok (.iload_n 2, 1) := dk_28 (dk_at dksX9_bridge_6 3 rfl rfl)
theorem dX9_bridge_145 : decode cX9_bridge 145 = .ok (.goto 14, 3) := dk_167 0 14 (dk_at dksX9_bridge_6 4 rfl rfl)
theorem dX9_bridge_148 : decode cX9_bridge 148 = .ok (.iload_n 1, 1) := dk_27 (dk_at dksX9_bridge_6 7 rfl rfl)
theorem dX9_bridge_149 : decode cX9_bridge 149 = .ok (.iconst 1, 1) := dk_4 (dk_at dksX9_bridge_6 8 rfl rfl)
theorem dX9_bridge_150 : decode cX9_bridge 150 = .ok (.if_icmp .ne 7, 3) := dk_160 0 7 (dk_at dksX9_bridge_6 9 rfl rfl)
theorem dX9_bridge_153 : decode cX9_bridge 153 = .ok (.iload_n 3, 1) := dk_29 (dk_at dksX9_bridge_6 12 rfl rfl)
theorem dX9_bridge_154 : decode cX9_bridge 154 = .ok (.goto 5, 3) := dk_167 0 5 (dk_at dksX9_bridge_6 13 rfl rfl)
theorem dX9_bridge_157 : decode cX9_bridge 157 = .ok (.iload 4, 2) := dk_21 4 (dk_at dksX9_bridge_6 16 rfl rfl)
theorem dX9_bridge_159 : decode cX9_bridge 159 = .ok (.ireturn, 1) := dk_172 (dk_at dksX9_bridge_6 18 rfl rfl)
abbrev cX9_stepsFrom : ByteArray := prog_21_method_68_code
def yX9_stepsFrom : MethodName := ⟨RX9, "stepsFrom", "(I)I"⟩
def dkwX9_stepsFrom_2 : List UInt8 := [21, 5, 21, 5, 116, 184, 0, 88, 96, 167, 0, 4, 3, 96, 61, 132, 3, 1, 167, 255, 194, 28, 172]
abbrev dktX9_stepsFrom_2 : List UInt8 := dkwX9_stepsFrom_2 ++ []
def dkwX9_stepsFrom_1 : List UInt8 := [112, 100, 54, 5, 28, 42, 180, 0, 10, 29, 184, 0, 72, 153, 0, 23, 21, 4, 21, 4, 116, 184, 0, 88]
abbrev dktX9_stepsFrom_1 : List UInt8 := dkwX9_stepsFrom_1 ++ dktX9_stepsFrom_2
def dkwX9_stepsFrom_0 : List UInt8 := [3, 61, 3, 62, 29, 16, 25, 162, 0, 62, 29, 8, 108, 27, 8, 108, 100, 54, 4, 29, 8, 112, 27, 8]
abbrev dktX9_stepsFrom_0 : List UInt8 := dkwX9_stepsFrom_0 ++ dktX9_stepsFrom_1
theorem dksX9_stepsFrom_0 : cX9_stepsFrom.data.toList.drop 0 = dktX9_stepsFrom_0 := by decide +kernel
theorem dksX9_stepsFrom_1 : cX9_stepsFrom.data.toList.drop 24 = dktX9_stepsFrom_1 := dk_seg dksX9_stepsFrom_0 24 rfl rfl
theorem dksX9_stepsFrom_2 : cX9_stepsFrom.data.toList.drop 48 = dktX9_stepsFrom_2 := dk_seg dksX9_stepsFrom_1 24 rfl rfl
theorem dX9_stepsFrom_0 : decode cX9_stepsFrom 0 = .ok (.iconst 0, 1) := dk_3 (dk_at dksX9_stepsFrom_0 0 rfl rfl)
theorem dX9_stepsFrom_1 : decode cX9_stepsFrom 1 = .ok (.istore_n 2, 1) := dk_61 (dk_at dksX9_stepsFrom_0 1 rfl rfl)
theorem dX9_stepsFrom_2 : decode cX9_stepsFrom 2 = .ok (.iconst 0, 1) := dk_3 (dk_at dksX9_stepsFrom_0 2 rfl rfl)
theorem dX9_stepsFrom_3 : decode cX9_stepsFrom 3 = .ok (.istore_n 3, 1) := dk_62 (dk_at dksX9_stepsFrom_0 3 rfl rfl)
theorem dX9_stepsFrom_4 : decode cX9_stepsFrom 4 = .ok (.iload_n 3, 1) := dk_29 (dk_at dksX9_stepsFrom_0 4 rfl rfl)
theorem dX9_stepsFrom_5 : decode cX9_stepsFrom 5 = .ok (.bipush 25, 2) := dk_16 25 (dk_at dksX9_stepsFrom_0 5 rfl rfl)
theorem dX9_stepsFrom_7 : decode cX9_stepsFrom 7 = .ok (.if_icmp .ge 62, 3) := dk_162 0 62 (dk_at dksX9_stepsFrom_0 7 rfl rfl)
theorem dX9_stepsFrom_10 : decode cX9_stepsFrom 10 = .ok (.iload_n 3, 1) := dk_29 (dk_at dksX9_stepsFrom_0 10 rfl rfl)
theorem dX9_stepsFrom_11 : decode cX9_stepsFrom 11 = .ok (.iconst 5, 1) := dk_8 (dk_at dksX9_stepsFrom_0 11 rfl rfl)
theorem dX9_stepsFrom_12 : decode cX9_stepsFrom 12 = .ok (.idiv, 1) := dk_108 (dk_at dksX9_stepsFrom_0 12 rfl rfl)
theorem dX9_stepsFrom_13 : decode cX9_stepsFrom 13 = .ok (.iload_n 1, 1) := dk_27 (dk_at dksX9_stepsFrom_0 13 rfl rfl)
theorem dX9_stepsFrom_14 : decode cX9_stepsFrom 14 = .ok (.iconst 5, 1) := dk_8 (dk_at dksX9_stepsFrom_0 14 rfl rfl)
theorem dX9_stepsFrom_15 : decode cX9_stepsFrom 15 = .ok (.idiv, 1) := dk_108 (dk_at dksX9_stepsFrom_0 15 rfl rfl)
theorem dX9_stepsFrom_16 : decode cX9_stepsFrom 16 = .ok (.isub, 1) := dk_100 (dk_at dksX9_stepsFrom_0 16 rfl rfl)
theorem dX9_stepsFrom_17 : decode cX9_stepsFrom 17 = .ok (.istore 4, 2) := dk_54 4 (dk_at dksX9_stepsFrom_0 17 rfl rfl)
theorem dX9_stepsFrom_19 : decode cX9_stepsFrom 19 = .ok (.iload_n 3, 1) := dk_29 (dk_at dksX9_stepsFrom_0 19 rfl rfl)
theorem dX9_stepsFrom_20 : decode cX9_stepsFrom 20 = .ok (.iconst 5, 1) := dk_8 (dk_at dksX9_stepsFrom_0 20 rfl rfl)
theorem dX9_stepsFrom_21 : decode cX9_stepsFrom 21 = .ok (.irem, 1) := dk_112 (dk_at dksX9_stepsFrom_0 21 rfl rfl)
theorem dX9_stepsFrom_22 : decode cX9_stepsFrom 22 = .ok (.iload_n 1, 1) := dk_27 (dk_at dksX9_stepsFrom_0 22 rfl rfl)
theorem dX9_stepsFrom_23 : decode cX9_stepsFrom 23 = .ok (.iconst 5, 1) := dk_8 (dk_at dksX9_stepsFrom_0 23 rfl rfl)
theorem dX9_stepsFrom_24 : decode cX9_stepsFrom 24 = .ok (.irem, 1) := dk_112 (dk_at dksX9_stepsFrom_1 0 rfl rfl)
theorem dX9_stepsFrom_25 : decode cX9_stepsFrom 25 = .ok (.isub, 1) := dk_100 (dk_at dksX9_stepsFrom_1 1 rfl rfl)
theorem dX9_stepsFrom_26 : decode cX9_stepsFrom 26 = .ok (.istore 5, 2) := dk_54 5 (dk_at dksX9_stepsFrom_1 2 rfl rfl)
theorem dX9_stepsFrom_28 : decode cX9_stepsFrom 28 = .ok (.iload_n 2, 1) := dk_28 (dk_at dksX9_stepsFrom_1 4 rfl rfl)
theorem dX9_stepsFrom_29 : decode cX9_stepsFrom 29 = .ok (.aload_n 0, 1) := dk_42 (dk_at dksX9_stepsFrom_1 5 rfl rfl)
theorem dX9_stepsFrom_30 : decode cX9_stepsFrom 30 = .ok (.getfield 10, 3) := dk_180 0 10 (dk_at dksX9_stepsFrom_1 6 rfl rfl)
theorem dX9_stepsFrom_33 : decode cX9_stepsFrom 33 = .ok (.iload_n 3, 1) := dk_29 (dk_at dksX9_stepsFrom_1 9 rfl rfl)
theorem dX9_stepsFrom_34 : decode cX9_stepsFrom 34 = .ok (.invokestatic 72, 3) := dk_184 0 72 (dk_at dksX9_stepsFrom_1 10 rfl rfl)
theorem dX9_stepsFrom_37 : decode cX9_stepsFrom 37 = .ok (.ifCond .eq 23, 3) := dk_153 0 23 (dk_at dksX9_stepsFrom_1 13 rfl rfl)
theorem dX9_stepsFrom_40 : decode cX9_stepsFrom 40 = .ok (.iload 4, 2) := dk_21 4 (dk_at dksX9_stepsFrom_1 16 rfl rfl)
theorem dX9_stepsFrom_42 : decode cX9_stepsFrom 42 = .ok (.iload 4, 2) := dk_21 4 (dk_at dksX9_stepsFrom_1 18 rfl rfl)
theorem dX9_stepsFrom_44 : decode cX9_stepsFrom 44 = .ok (.ineg, 1) := dk_116 (dk_at dksX9_stepsFrom_1 20 rfl rfl)
theorem dX9_stepsFrom_45 : decode cX9_stepsFrom 45 = .ok (.invokestatic 88, 3) := dk_184 0 88 (dk_at dksX9_stepsFrom_1 21 rfl rfl)
theorem dX9_stepsFrom_48 : decode cX9_stepsFrom 48 = .ok (.iload 5, 2) := dk_21 5 (dk_at dksX9_stepsFrom_2 0 rfl rfl)
theorem dX9_stepsFrom_50 : decode cX9_stepsFrom 50 = .ok (.iload 5, 2) := dk_21 5 (dk_at dksX9_stepsFrom_2 2 rfl rfl)
theorem dX9_stepsFrom_52 : decode cX9_stepsFrom 52 = .ok (.ineg, 1) := dk_116 (dk_at dksX9_stepsFrom_2 4 rfl rfl)
theorem dX9_stepsFrom_53 : decode cX9_stepsFrom 53 = .ok (.invokestatic 88, 3) := dk_184 0 88 (dk_at dksX9_stepsFrom_2 5 rfl rfl)
theorem dX9_stepsFrom_56 : decode cX9_stepsFrom 56 = .ok (.iadd, 1) := dk_96 (dk_at dksX9_stepsFrom_2 8 rfl rfl)
theorem dX9_stepsFrom_57 : decode cX9_stepsFrom 57 = .ok (.goto 4, 3) := dk_167 0 4 (dk_at dksX9_stepsFrom_2 9 rfl rfl)
theorem dX9_stepsFrom_60 : decode cX9_stepsFrom 60 = .ok (.iconst 0, 1) := dk_3 (dk_at dksX9_stepsFrom_2 12 rfl rfl)
theorem dX9_stepsFrom_61 : decode cX9_stepsFrom 61 = .ok (.iadd, 1) := dk_96 (dk_at dksX9_stepsFrom_2 13 rfl rfl)
theorem dX9_stepsFrom_62 : decode cX9_stepsFrom 62 = .ok (.istore_n 2, 1) := dk_61 (dk_at dksX9_stepsFrom_2 14 rfl rfl)
theorem dX9_stepsFrom_63 : decode cX9_stepsFrom 63 = .ok (.iinc 3 1, 3) := dk_132 3 1 (dk_at dksX9_stepsFrom_2 15 rfl rfl)
theorem dX9_stepsFrom_66 : decode cX9_stepsFrom 66 = .ok (.goto (-62), 3) := dk_167 255 194 (dk_at dksX9_stepsFrom_2 18 rfl rfl)
theorem dX9_stepsFrom_69 : decode cX9_stepsFrom 69 = .ok (.iload_n 2, 1) := dk_28 (dk_at dksX9_stepsFrom_2 21 rfl rfl)
theorem dX9_stepsFrom_70 : decode cX9_stepsFrom 70 = .ok (.ireturn, 1) := dk_172 (dk_at dksX9_stepsFrom_2 22 rfl rfl)
abbrev cX9_two : ByteArray := prog_21_method_72_code
def yX9_two : MethodName := ⟨RX9, "two", "(II)I"⟩
def dkwX9_two_4 : List UInt8 := [132, 3, 1, 167, 255, 175, 16, 247, 172]
abbrev dktX9_two_4 : List UInt8 := dkwX9_two_4 ++ []
def dkwX9_two_3 : List UInt8 := [42, 28, 27, 21, 4, 28, 21, 5, 182, 0, 216, 163, 0, 12, 16, 10, 21, 4, 104, 21, 5, 96, 172]
abbrev dktX9_two_3 : List UInt8 := dkwX9_two_3 ++ dktX9_two_4
def dkwX9_two_2 : List UInt8 := [21, 4, 28, 21, 5, 182, 0, 216, 163, 0, 39, 42, 28, 27, 21, 4, 28, 4, 21, 5, 100, 182, 0, 216]
abbrev dktX9_two_2 : List UInt8 := dkwX9_two_2 ++ dktX9_two_3
def dkwX9_two_1 : List UInt8 := [108, 54, 4, 29, 5, 112, 54, 5, 42, 27, 27, 4, 21, 4, 100, 28, 21, 5, 182, 0, 216, 42, 27, 27]
abbrev dktX9_two_1 : List UInt8 := dkwX9_two_1 ++ dktX9_two_2
def dkwX9_two_0 : List UInt8 := [42, 27, 28, 182, 0, 204, 154, 0, 9, 42, 2, 182, 0, 52, 172, 3, 62, 29, 7, 162, 0, 82, 29, 5]
abbrev dktX9_two_0 : List UInt8 := dkwX9_two_0 ++ dktX9_two_1
theorem dksX9_two_0 : cX9_two.data.toList.drop 0 = dktX9_two_0 := by decide +kernel
theorem dksX9_two_1 : cX9_two.data.toList.drop 24 = dktX9_two_1 := dk_seg dksX9_two_0 24 rfl rfl
theorem dksX9_two_2 : cX9_two.data.toList.drop 48 = dktX9_two_2 := dk_seg dksX9_two_1 24 rfl rfl
theorem dksX9_two_3 : cX9_two.data.toList.drop 72 = dktX9_two_3 := dk_seg dksX9_two_2 24 rfl rfl
theorem dksX9_two_4 : cX9_two.data.toList.drop 95 = dktX9_two_4 := dk_seg dksX9_two_3 23 rfl rfl
theorem dX9_two_0 : decode cX9_two 0 = .ok (.aload_n 0, 1) := dk_42 (dk_at dksX9_two_0 0 rfl rfl)
theorem dX9_two_1 : decode cX9_two 1 = .ok (.iload_n 1, 1) := dk_27 (dk_at dksX9_two_0 1 rfl rfl)
theorem dX9_two_2 : decode cX9_two 2 = .ok (.iload_n 2, 1) := dk_28 (dk_at dksX9_two_0 2 rfl rfl)
theorem dX9_two_3 : decode cX9_two 3 = .ok (.invokevirtual 204, 3) := dk_182 0 204 (dk_at dksX9_two_0 3 rfl rfl)
theorem dX9_two_6 : decode cX9_two 6 = .ok (.ifCond .ne 9, 3) := dk_154 0 9 (dk_at dksX9_two_0 6 rfl rfl)
theorem dX9_two_9 : decode cX9_two 9 = .ok (.aload_n 0, 1) := dk_42 (dk_at dksX9_two_0 9 rfl rfl)
theorem dX9_two_10 : decode cX9_two 10 = .ok (.iconst (-1), 1) := dk_2 (dk_at dksX9_two_0 10 rfl rfl)
theorem dX9_two_11 : decode cX9_two 11 = .ok (.invokevirtual 52, 3) := dk_182 0 52 (dk_at dksX9_two_0 11 rfl rfl)
theorem dX9_two_14 : decode cX9_two 14 = .ok (.ireturn, 1) := dk_172 (dk_at dksX9_two_0 14 rfl rfl)
theorem dX9_two_15 : decode cX9_two 15 = .ok (.iconst 0, 1) := dk_3 (dk_at dksX9_two_0 15 rfl rfl)
theorem dX9_two_16 : decode cX9_two 16 = .ok (.istore_n 3, 1) := dk_62 (dk_at dksX9_two_0 16 rfl rfl)
theorem dX9_two_17 : decode cX9_two 17 = .ok (.iload_n 3, 1) := dk_29 (dk_at dksX9_two_0 17 rfl rfl)
theorem dX9_two_18 : decode cX9_two 18 = .ok (.iconst 4, 1) := dk_7 (dk_at dksX9_two_0 18 rfl rfl)
theorem dX9_two_19 : decode cX9_two 19 = .ok (.if_icmp .ge 82, 3) := dk_162 0 82 (dk_at dksX9_two_0 19 rfl rfl)
theorem dX9_two_22 : decode cX9_two 22 = .ok (.iload_n 3, 1) := dk_29 (dk_at dksX9_two_0 22 rfl rfl)
theorem dX9_two_23 : decode cX9_two 23 = .ok (.iconst 2, 1) := dk_5 (dk_at dksX9_two_0 23 rfl rfl)
theorem dX9_two_24 : decode cX9_two 24 = .ok (.idiv, 1) := dk_108 (dk_at dksX9_two_1 0 rfl rfl)
theorem dX9_two_25 : decode cX9_two 25 = .ok (.istore 4, 2) := dk_54 4 (dk_at dksX9_two_1 1 rfl rfl)
theorem dX9_two_27 : decode cX9_two 27 = .ok (.iload_n 3, 1) := dk_29 (dk_at dksX9_two_1 3 rfl rfl)
theorem dX9_two_28 : decode cX9_two 28 = .ok (.iconst 2, 1) := dk_5 (dk_at dksX9_two_1 4 rfl rfl)
theorem dX9_two_29 : decode cX9_two 29 = .ok (.irem, 1) := dk_112 (dk_at dksX9_two_1 5 rfl rfl)
theorem dX9_two_30 : decode cX9_two 30 = .ok (.istore 5, 2) := dk_54 5 (dk_at dksX9_two_1 6 rfl rfl)
theorem dX9_two_32 : decode cX9_two 32 = .ok (.aload_n 0, 1) := dk_42 (dk_at dksX9_two_1 8 rfl rfl)
theorem dX9_two_33 : decode cX9_two 33 = .ok (.iload_n 1, 1) := dk_27 (dk_at dksX9_two_1 9 rfl rfl)
theorem dX9_two_34 : decode cX9_two 34 = .ok (.iload_n 1, 1) := dk_27 (dk_at dksX9_two_1 10 rfl rfl)
theorem dX9_two_35 : decode cX9_two 35 = .ok (.iconst 1, 1) := dk_4 (dk_at dksX9_two_1 11 rfl rfl)
theorem dX9_two_36 : decode cX9_two 36 = .ok (.iload 4, 2) := dk_21 4 (dk_at dksX9_two_1 12 rfl rfl)
theorem dX9_two_38 : decode cX9_two 38 = .ok (.isub, 1) := dk_100 (dk_at dksX9_two_1 14 rfl rfl)
theorem dX9_two_39 : decode cX9_two 39 = .ok (.iload_n 2, 1) := dk_28 (dk_at dksX9_two_1 15 rfl rfl)
theorem dX9_two_40 : decode cX9_two 40 = .ok (.iload 5, 2) := dk_21 5 (dk_at dksX9_two_1 16 rfl rfl)
theorem dX9_two_42 : decode cX9_two 42 = .ok (.invokevirtual 216, 3) := dk_182 0 216 (dk_at dksX9_two_1 18 rfl rfl)
theorem dX9_two_45 : decode cX9_two 45 = .ok (.aload_n 0, 1) := dk_42 (dk_at dksX9_two_1 21 rfl rfl)
theorem dX9_two_46 : decode cX9_two 46 = .ok (.iload_n 1, 1) := dk_27 (dk_at dksX9_two_1 22 rfl rfl)
theorem dX9_two_47 : decode cX9_two 47 = .ok (.iload_n 1, 1) := dk_27 (dk_at dksX9_two_1 23 rfl rfl)
theorem dX9_two_48 : decode cX9_two 48 = .ok (.iload 4, 2) := dk_21 4 (dk_at dksX9_two_2 0 rfl rfl)
theorem dX9_two_50 : decode cX9_two 50 = .ok (.iload_n 2, 1) := dk_28 (dk_at dksX9_two_2 2 rfl rfl)
theorem dX9_two_51 : decode cX9_two 51 = .ok (.iload 5, 2) := dk_21 5 (dk_at dksX9_two_2 3 rfl rfl)
theorem dX9_two_53 : decode cX9_two 53 = .ok (.invokevirtual 216, 3) := dk_182 0 216 (dk_at dksX9_two_2 5 rfl rfl)
theorem dX9_two_56 : decode cX9_two 56 = .ok (.if_icmp .gt 39, 3) := dk_163 0 39 (dk_at dksX9_two_2 8 rfl rfl)
theorem dX9_two_59 : decode cX9_two 59 = .ok (.aload_n 0, 1) := dk_42 (dk_at dksX9_two_2 11 rfl rfl)
theorem dX9_two_60 : decode cX9_two 60 = .ok (.iload_n 2, 1) := dk_28 (dk_at dksX9_two_2 12 rfl rfl)
theorem dX9_two_61 : decode cX9_two 61 = .ok (.iload_n 1, 1) := dk_27 (dk_at dksX9_two_2 13 rfl rfl)
theorem dX9_two_62 : decode cX9_two 62 = .ok (.iload 4, 2) := dk_21 4 (dk_at dksX9_two_2 14 rfl rfl)
theorem dX9_two_64 : decode cX9_two 64 = .ok (.iload_n 2, 1) := dk_28 (dk_at dksX9_two_2 16 rfl rfl)
theorem dX9_two_65 : decode cX9_two 65 = .ok (.iconst 1, 1) := dk_4 (dk_at dksX9_two_2 17 rfl rfl)
theorem dX9_two_66 : decode cX9_two 66 = .ok (.iload 5, 2) := dk_21 5 (dk_at dksX9_two_2 18 rfl rfl)
theorem dX9_two_68 : decode cX9_two 68 = .ok (.isub, 1) := dk_100 (dk_at dksX9_two_2 20 rfl rfl)
theorem dX9_two_69 : decode cX9_two 69 = .ok (.invokevirtual 216, 3) := dk_182 0 216 (dk_at dksX9_two_2 21 rfl rfl)
theorem dX9_two_72 : decode cX9_two 72 = .ok (.aload_n 0, 1) := dk_42 (dk_at dksX9_two_3 0 rfl rfl)
theorem dX9_two_73 : decode cX9_two 73 = .ok (.iload_n 2, 1) := dk_28 (dk_at dksX9_two_3 1 rfl rfl)
theorem dX9_two_74 : decode cX9_two 74 = .ok (.iload_n 1, 1) := dk_27 (dk_at dksX9_two_3 2 rfl rfl)
theorem dX9_two_75 : decode cX9_two 75 = .ok (.iload 4, 2) := dk_21 4 (dk_at dksX9_two_3 3 rfl rfl)
theorem dX9_two_77 : decode cX9_two 77 = .ok (.iload_n 2, 1) := dk_28 (dk_at dksX9_two_3 5 rfl rfl)
theorem dX9_two_78 : decode cX9_two 78 = .ok (.iload 5, 2) := dk_21 5 (dk_at dksX9_two_3 6 rfl rfl)
theorem dX9_two_80 : decode cX9_two 80 = .ok (.invokevirtual 216, 3) := dk_182 0 216 (dk_at dksX9_two_3 8 rfl rfl)
theorem dX9_two_83 : decode cX9_two 83 = .ok (.if_icmp .gt 12, 3) := dk_163 0 12 (dk_at dksX9_two_3 11 rfl rfl)
theorem dX9_two_86 : decode cX9_two 86 = .ok (.bipush 10, 2) := dk_16 10 (dk_at dksX9_two_3 14 rfl rfl)
theorem dX9_two_88 : decode cX9_two 88 = .ok (.iload 4, 2) := dk_21 4 (dk_at dksX9_two_3 16 rfl rfl)
theorem dX9_two_90 : decode cX9_two 90 = .ok (.imul, 1) := dk_104 (dk_at dksX9_two_3 18 rfl rfl)
theorem dX9_two_91 : decode cX9_two 91 = .ok (.iload 5, 2) := dk_21 5 (dk_at dksX9_two_3 19 rfl rfl)
theorem dX9_two_93 : decode cX9_two 93 = .ok (.iadd, 1) := dk_96 (dk_at dksX9_two_3 21 rfl rfl)
theorem dX9_two_94 : decode cX9_two 94 = .ok (.ireturn, 1) := dk_172 (dk_at dksX9_two_3 22 rfl rfl)
theorem dX9_two_95 : decode cX9_two 95 = .ok (.iinc 3 1, 3) := dk_132 3 1 (dk_at dksX9_two_4 0 rfl rfl)
theorem dX9_two_98 : decode cX9_two 98 = .ok (.goto (-81), 3) := dk_167 255 175 (dk_at dksX9_two_4 3 rfl rfl)
theorem dX9_two_101 : decode cX9_two 101 = .ok (.bipush (-9), 2) := dk_16 247 (dk_at dksX9_two_4 6 rfl rfl)
theorem dX9_two_103 : decode cX9_two 103 = .ok (.ireturn, 1) := dk_172 (dk_at dksX9_two_4 8 rfl rfl)
abbrev cX9_shareBoth : ByteArray := prog_21_method_71_code
def yX9_shareBoth : MethodName := ⟨RX9, "shareBoth", "(IIIII)I"⟩
def dkwX9_shareBoth_2 : List UInt8 := [4, 182, 0, 183, 167, 0, 9, 42, 21, 6, 182, 0, 213, 184, 0, 186, 27, 182, 0, 98, 172]
abbrev dktX9_shareBoth_2 : List UInt8 := dkwX9_shareBoth_2 ++ []
def dkwX9_shareBoth_1 : List UInt8 := [180, 0, 10, 182, 0, 213, 184, 0, 186, 54, 6, 42, 21, 6, 21, 5, 154, 0, 15, 42, 21, 6, 21, 4]
abbrev dktX9_shareBoth_1 : List UInt8 := dkwX9_shareBoth_1 ++ dktX9_shareBoth_2
def dkwX9_shareBoth_0 : List UInt8 := [42, 180, 0, 10, 29, 154, 0, 16, 42, 42, 180, 0, 10, 28, 4, 182, 0, 183, 167, 0, 11, 42, 42]
abbrev dktX9_shareBoth_0 : List UInt8 := dkwX9_shareBoth_0 ++ dktX9_shareBoth_1
theorem dksX9_shareBoth_0 : cX9_shareBoth.data.toList.drop 0 = dktX9_shareBoth_0 := by decide +kernel
theorem dksX9_shareBoth_1 : cX9_shareBoth.data.toList.drop 23 = dktX9_shareBoth_1 := dk_seg dksX9_shareBoth_0 23 rfl rfl
theorem dksX9_shareBoth_2 : cX9_shareBoth.data.toList.drop 47 = dktX9_shareBoth_2 := dk_seg dksX9_shareBoth_1 24 rfl rfl
theorem dX9_shareBoth_0 : decode cX9_shareBoth 0 = .ok (.aload_n 0, 1) := dk_42 (dk_at dksX9_shareBoth_0 0 rfl rfl)
theorem dX9_shareBoth_1 : decode cX9_shareBoth 1 = .ok (.getfield 10, 3) := dk_180 0 10 (dk_at dksX9_shareBoth_0 1 rfl rfl)
theorem dX9_shareBoth_4 : decode cX9_shareBoth 4 = .ok (.iload_n 3, 1) := dk_29 (dk_at dksX9_shareBoth_0 4 rfl rfl)
theorem dX9_shareBoth_5 : decode cX9_shareBoth 5 = .ok (.ifCond .ne 16, 3) := dk_154 0 16 (dk_at dksX9_shareBoth_0 5 rfl rfl)
theorem dX9_shareBoth_8 : decode cX9_shareBoth 8 = .ok (.aload_n 0, 1) := dk_42 (dk_at dksX9_shareBoth_0 8 rfl rfl)
theorem dX9_shareBoth_9 : decode cX9_shareBoth 9 = .ok (.aload_n 0, 1) := dk_42 (dk_at dksX9_shareBoth_0 9 rfl rfl)
theorem dX9_shareBoth_10 : decode cX9_shareBoth 10 = .ok (.getfield 10, 3) := dk_180 0 10 (dk_at dksX9_shareBoth_0 10 rfl rfl)
theorem dX9_shareBoth_13 : decode cX9_shareBoth 13 = .ok (.iload_n 2, 1) := dk_28 (dk_at dksX9_shareBoth_0 13 rfl rfl)
theorem dX9_shareBoth_14 : decode cX9_shareBoth 14 = .ok (.iconst 1, 1) := dk_4 (dk_at dksX9_shareBoth_0 14 rfl rfl)
theorem dX9_shareBoth_15 : decode cX9_shareBoth 15 = .ok (.invokevirtual 183, 3) := dk_182 0 183 (dk_at dksX9_shareBoth_0 15 rfl rfl)
theorem dX9_shareBoth_18 : decode cX9_shareBoth 18 = .ok (.goto 11, 3) := dk_167 0 11 (dk_at dksX9_shareBoth_0 18 rfl rfl)
theorem dX9_shareBoth_21 : decode cX9_shareBoth 21 = .ok (.aload_n 0, 1) := dk_42 (dk_at dksX9_shareBoth_0 21 rfl rfl)
theorem dX9_shareBoth_22 : decode cX9_shareBoth 22 = .ok (.aload_n 0, 1) := dk_42 (dk_at dksX9_shareBoth_0 22 rfl rfl)
theorem dX9_shareBoth_23 : decode cX9_shareBoth 23 = .ok (.getfield 10, 3) := dk_180 0 10 (dk_at dksX9_shareBoth_1 0 rfl rfl)
theorem dX9_shareBoth_26 : decode cX9_shareBoth 26 = .ok (.invokevirtual 213, 3) := dk_182 0 213 (dk_at dksX9_shareBoth_1 3 rfl rfl)
theorem dX9_shareBoth_29 : decode cX9_shareBoth 29 = .ok (.invokestatic 186, 3) := dk_184 0 186 (dk_at dksX9_shareBoth_1 6 rfl rfl)
theorem dX9_shareBoth_32 : decode cX9_shareBoth 32 = .ok (.istore 6, 2) := dk_54 6 (dk_at dksX9_shareBoth_1 9 rfl rfl)
theorem dX9_shareBoth_34 : decode cX9_shareBoth 34 = .ok (.aload_n 0, 1) := dk_42 (dk_at dksX9_shareBoth_1 11 rfl rfl)
theorem dX9_shareBoth_35 : decode cX9_shareBoth 35 = .ok (.iload 6, 2) := dk_21 6 (dk_at dksX9_shareBoth_1 12 rfl rfl)
theorem dX9_shareBoth_37 : decode cX9_shareBoth 37 = .ok (.iload 5, 2) := dk_21 5 (dk_at dksX9_shareBoth_1 14 rfl rfl)
theorem dX9_shareBoth_39 : decode cX9_shareBoth 39 = .ok (.ifCond .ne 15, 3) := dk_154 0 15 (dk_at dksX9_shareBoth_1 16 rfl rfl)
theorem dX9_shareBoth_42 : decode cX9_shareBoth 42 = .ok (.aload_n 0, 1) := dk_42 (dk_at dksX9_shareBoth_1 19 rfl rfl)
theorem dX9_shareBoth_43 : decode cX9_shareBoth 43 = .ok (.iload 6, 2) := dk_21 6 (dk_at dksX9_shareBoth_1 20 rfl rfl)
theorem dX9_shareBoth_45 : decode cX9_shareBoth 45 = .ok (.iload 4, 2) := dk_21 4 (dk_at dksX9_shareBoth_1 22 rfl rfl)
theorem dX9_shareBoth_47 : decode cX9_shareBoth 47 = .ok (.iconst 1, 1) := dk_4 (dk_at dksX9_shareBoth_2 0 rfl rfl)
theorem dX9_shareBoth_48 : decode cX9_shareBoth 48 = .ok (.invokevirtual 183, 3) := dk_182 0 183 (dk_at dksX9_shareBoth_2 1 rfl rfl)
theorem dX9_shareBoth_51 : decode cX9_shareBoth 51 = .ok (.goto 9, 3) := dk_167 0 9 (dk_at dksX9_shareBoth_2 4 rfl rfl)
theorem dX9_shareBoth_54 : decode cX9_shareBoth 54 = .ok (.aload_n 0, 1) := dk_42 (dk_at dksX9_shareBoth_2 7 rfl rfl)
theorem dX9_shareBoth_55 : decode cX9_shareBoth 55 = .ok (.iload 6, 2) := dk_21 6 (dk_at dksX9_shareBoth_2 8 rfl rfl)
theorem dX9_shareBoth_57 : decode cX9_shareBoth 57 = .ok (.invokevirtual 213, 3) := dk_182 0 213 (dk_at dksX9_shareBoth_2 10 rfl rfl)
theorem dX9_shareBoth_60 : decode cX9_shareBoth 60 = .ok (.invokestatic 186, 3) := dk_184 0 186 (dk_at dksX9_shareBoth_2 13 rfl rfl)
theorem dX9_shareBoth_63 : decode cX9_shareBoth 63 = .ok (.iload_n 1, 1) := dk_27 (dk_at dksX9_shareBoth_2 16 rfl rfl)
theorem dX9_shareBoth_64 : decode cX9_shareBoth 64 = .ok (.invokevirtual 98, 3) := dk_182 0 98 (dk_at dksX9_shareBoth_2 17 rfl rfl)
theorem dX9_shareBoth_67 : decode cX9_shareBoth 67 = .ok (.ireturn, 1) := dk_172 (dk_at dksX9_shareBoth_2 20 rfl rfl)
abbrev cX9_firstBite : ByteArray := prog_21_method_70_code
def yX9_firstBite : MethodName := ⟨RX9, "firstBite", "(I)I"⟩
def dkwX9_firstBite_1 : List UInt8 := [16, 100, 28, 104, 29, 96, 172, 132, 3, 1, 167, 255, 231, 132, 2, 1, 167, 255, 218, 16, 247, 172]
abbrev dktX9_firstBite_1 : List UInt8 := dkwX9_firstBite_1 ++ []
def dkwX9_firstBite_0 : List UInt8 := [3, 61, 28, 7, 162, 0, 39, 3, 62, 29, 16, 25, 162, 0, 25, 27, 28, 29, 184, 0, 134, 153, 0, 10]
abbrev dktX9_firstBite_0 : List UInt8 := dkwX9_firstBite_0 ++ dktX9_firstBite_1
theorem dksX9_firstBite_0 : cX9_firstBite.data.toList.drop 0 = dktX9_firstBite_0 := by decide +kernel
theorem dksX9_firstBite_1 : cX9_firstBite.data.toList.drop 24 = dktX9_firstBite_1 := dk_seg dksX9_firstBite_0 24 rfl rfl
theorem dX9_firstBite_0 : decode cX9_firstBite 0 = .ok (.iconst 0, 1) := dk_3 (dk_at dksX9_firstBite_0 0 rfl rfl)
theorem dX9_firstBite_1 : decode cX9_firstBite 1 = .ok (.istore_n 2, 1) := dk_61 (dk_at dksX9_firstBite_0 1 rfl rfl)
theorem dX9_firstBite_2 : decode cX9_firstBite 2 = .ok (.iload_n 2, 1) := dk_28 (dk_at dksX9_firstBite_0 2 rfl rfl)
theorem dX9_firstBite_3 : decode cX9_firstBite 3 = .ok (.iconst 4, 1) := dk_7 (dk_at dksX9_firstBite_0 3 rfl rfl)
theorem dX9_firstBite_4 : decode cX9_firstBite 4 = .ok (.if_icmp .ge 39, 3) := dk_162 0 39 (dk_at dksX9_firstBite_0 4 rfl rfl)
theorem dX9_firstBite_7 : decode cX9_firstBite 7 = .ok (.iconst 0, 1) := dk_3 (dk_at dksX9_firstBite_0 7 rfl rfl)
theorem dX9_firstBite_8 : decode cX9_firstBite 8 = .ok (.istore_n 3, 1) := dk_62 (dk_at dksX9_firstBite_0 8 rfl rfl)
theorem dX9_firstBite_9 : decode cX9_firstBite 9 = .ok (.iload_n 3, 1) := dk_29 (dk_at dksX9_firstBite_0 9 rfl rfl)
theorem dX9_firstBite_10 : decode cX9_firstBite 10 = .ok (.bipush 25, 2) := dk_16 25 (dk_at dksX9_firstBite_0 10 rfl rfl)
theorem dX9_firstBite_12 : decode cX9_firstBite 12 = .ok (.if_icmp .ge 25, 3) := dk_162 0 25 (dk_at dksX9_firstBite_0 12 rfl rfl)
theorem dX9_firstBite_15 : decode cX9_firstBite 15 = .ok (.iload_n 1, 1) := dk_27 (dk_at dksX9_firstBite_0 15 rfl rfl)
theorem dX9_firstBite_16 : decode cX9_firstBite 16 = .ok (.iload_n 2, 1) := dk_28 (dk_at dksX9_firstBite_0 16 rfl rfl)
theorem dX9_firstBite_17 : decode cX9_firstBite 17 = .ok (.iload_n 3, 1) := dk_29 (dk_at dksX9_firstBite_0 17 rfl rfl)
theorem dX9_firstBite_18 : decode cX9_firstBite 18 = .ok (.invokestatic 134, 3) := dk_184 0 134 (dk_at dksX9_firstBite_0 18 rfl rfl)
theorem dX9_firstBite_21 : decode cX9_firstBite 21 = .ok (.ifCond .eq 10, 3) := dk_153 0 10 (dk_at dksX9_firstBite_0 21 rfl rfl)
theorem dX9_firstBite_24 : decode cX9_firstBite 24 = .ok (.bipush 100, 2) := dk_16 100 (dk_at dksX9_firstBite_1 0 rfl rfl)
theorem dX9_firstBite_26 : decode cX9_firstBite 26 = .ok (.iload_n 2, 1) := dk_28 (dk_at dksX9_firstBite_1 2 rfl rfl)
theorem dX9_firstBite_27 : decode cX9_firstBite 27 = .ok (.imul, 1) := dk_104 (dk_at dksX9_firstBite_1 3 rfl rfl)
theorem dX9_firstBite_28 : decode cX9_firstBite 28 = .ok (.iload_n 3, 1) := dk_29 (dk_at dksX9_firstBite_1 4 rfl rfl)
theorem dX9_firstBite_29 : decode cX9_firstBite 29 = .ok (.iadd, 1) := dk_96 (dk_at dksX9_firstBite_1 5 rfl rfl)
theorem dX9_firstBite_30 : decode cX9_firstBite 30 = .ok (.ireturn, 1) := dk_172 (dk_at dksX9_firstBite_1 6 rfl rfl)
theorem dX9_firstBite_31 : decode cX9_firstBite 31 = .ok (.iinc 3 1, 3) := dk_132 3 1 (dk_at dksX9_firstBite_1 7 rfl rfl)
theorem dX9_firstBite_34 : decode cX9_firstBite 34 = .ok (.goto (-25), 3) := dk_167 255 231 (dk_at dksX9_firstBite_1 10 rfl rfl)
theorem dX9_firstBite_37 : decode cX9_firstBite 37 = .ok (.iinc 2 1, 3) := dk_132 2 1 (dk_at dksX9_firstBite_1 13 rfl rfl)
theorem dX9_firstBite_40 : decode cX9_firstBite 40 = .ok (.goto (-38), 3) := dk_167 255 218 (dk_at dksX9_firstBite_1 16 rfl rfl)
theorem dX9_firstBite_43 : decode cX9_firstBite 43 = .ok (.bipush (-9), 2) := dk_16 247 (dk_at dksX9_firstBite_1 19 rfl rfl)
theorem dX9_firstBite_45 : decode cX9_firstBite 45 = .ok (.ireturn, 1) := dk_172 (dk_at dksX9_firstBite_1 21 rfl rfl)
abbrev cX9_chance : ByteArray := prog_21_method_76_code
def yX9_chance : MethodName := ⟨RX9, "chance", "(IIII)J"⟩
def dkwX9_chance_5 : List UInt8 := [182, 0, 224, 22, 5, 21, 4, 184, 0, 232, 173]
abbrev dktX9_chance_5 : List UInt8 := dkwX9_chance_5 ++ []
def dkwX9_chance_4 : List UInt8 := [184, 0, 82, 21, 7, 100, 133, 105, 55, 5, 132, 7, 1, 167, 255, 219, 42, 42, 180, 0, 10, 27, 29, 28]
abbrev dktX9_chance_4 : List UInt8 := dkwX9_chance_4 ++ dktX9_chance_5
def dkwX9_chance_3 : List UInt8 := [21, 7, 28, 162, 0, 37, 42, 180, 0, 10, 184, 0, 82, 21, 7, 164, 0, 25, 22, 5, 42, 180, 0, 10]
abbrev dktX9_chance_3 : List UInt8 := dkwX9_chance_3 ++ dktX9_chance_4
def dkwX9_chance_2 : List UInt8 := [21, 4, 3, 4, 184, 0, 58, 154, 0, 10, 42, 16, 254, 182, 0, 228, 173, 10, 55, 5, 3, 54, 7]
abbrev dktX9_chance_2 : List UInt8 := dkwX9_chance_2 ++ dktX9_chance_3
def dkwX9_chance_1 : List UInt8 := [16, 252, 182, 0, 228, 173, 28, 5, 163, 0, 9, 29, 16, 40, 164, 0, 10, 42, 16, 250, 182, 0, 228, 173]
abbrev dktX9_chance_1 : List UInt8 := dkwX9_chance_1 ++ dktX9_chance_2
def dkwX9_chance_0 : List UInt8 := [42, 27, 182, 0, 168, 154, 0, 9, 42, 2, 182, 0, 228, 173, 28, 155, 0, 7, 29, 156, 0, 10, 42]
abbrev dktX9_chance_0 : List UInt8 := dkwX9_chance_0 ++ dktX9_chance_1
theorem dksX9_chance_0 : cX9_chance.data.toList.drop 0 = dktX9_chance_0 := by decide +kernel
theorem dksX9_chance_1 : cX9_chance.data.toList.drop 23 = dktX9_chance_1 := dk_seg dksX9_chance_0 23 rfl rfl
theorem dksX9_chance_2 : cX9_chance.data.toList.drop 47 = dktX9_chance_2 := dk_seg dksX9_chance_1 24 rfl rfl
theorem dksX9_chance_3 : cX9_chance.data.toList.drop 70 = dktX9_chance_3 := dk_seg dksX9_chance_2 23 rfl rfl
theorem dksX9_chance_4 : cX9_chance.data.toList.drop 94 = dktX9_chance_4 := dk_seg dksX9_chance_3 24 rfl rfl
theorem dksX9_chance_5 : cX9_chance.data.toList.drop 118 = dktX9_chance_5 := dk_seg dksX9_chance_4 24 rfl rfl
theorem dX9_chance_0 : decode cX9_chance 0 = .ok (.aload_n 0, 1) := dk_42 (dk_at dksX9_chance_0 0 rfl rfl)
theorem dX9_chance_1 : decode cX9_chance 1 = .ok (.iload_n 1, 1) := dk_27 (dk_at dksX9_chance_0 1 rfl rfl)
theorem dX9_chance_2 : decode cX9_chance 2 = .ok (.invokevirtual 168, 3) := dk_182 0 168 (dk_at dksX9_chance_0 2 rfl rfl)
theorem dX9_chance_5 : decode cX9_chance 5 = .ok (.ifCond .ne 9, 3) := dk_154 0 9 (dk_at dksX9_chance_0 5 rfl rfl)
theorem dX9_chance_8 : decode cX9_chance 8 = .ok (.aload_n 0, 1) := dk_42 (dk_at dksX9_chance_0 8 rfl rfl)
theorem dX9_chance_9 : decode cX9_chance 9 = .ok (.iconst (-1), 1) := dk_2 (dk_at dksX9_chance_0 9 rfl rfl)
theorem dX9_chance_10 : decode cX9_chance 10 = .ok (.invokevirtual 228, 3) := dk_182 0 228 (dk_at dksX9_chance_0 10 rfl rfl)
theorem dX9_chance_13 : decode cX9_chance 13 = .ok (.lreturn, 1) := dk_173 (dk_at dksX9_chance_0 13 rfl rfl)
theorem dX9_chance_14 : decode cX9_chance 14 = .ok (.iload_n 2, 1) := dk_28 (dk_at dksX9_chance_0 14 rfl rfl)
theorem dX9_chance_15 : decode cX9_chance 15 = .ok (.ifCond .lt 7, 3) := dk_155 0 7 (dk_at dksX9_chance_0 15 rfl rfl)
theorem dX9_chance_18 : decode cX9_chance 18 = .ok (.iload_n 3, 1) := dk_29 (dk_at dksX9_chance_0 18 rfl rfl)
theorem dX9_chance_19 : decode cX9_chance 19 = .ok (.ifCond .ge 10, 3) := dk_156 0 10 (dk_at dksX9_chance_0 19 rfl rfl)
theorem dX9_chance_22 : decode cX9_chance 22 = .ok (.aload_n 0, 1) := dk_42 (dk_at dksX9_chance_0 22 rfl rfl)
theorem dX9_chance_23 : decode cX9_chance 23 = .ok (.bipush (-4), 2) := dk_16 252 (dk_at dksX9_chance_1 0 rfl rfl)
theorem dX9_chance_25 : decode cX9_chance 25 = .ok (.invokevirtual 228, 3) := dk_182 0 228 (dk_at dksX9_chance_1 2 rfl rfl)
theorem dX9_chance_28 : decode cX9_chance 28 = .ok (.lreturn, 1) := dk_173 (dk_at dksX9_chance_1 5 rfl rfl)
theorem dX9_chance_29 : decode cX9_chance 29 = .ok (.iload_n 2, 1) := dk_28 (dk_at dksX9_chance_1 6 rfl rfl)
theorem dX9_chance_30 : decode cX9_chance 30 = .ok (.iconst 2, 1) := dk_5 (dk_at dksX9_chance_1 7 rfl rfl)
theorem dX9_chance_31 : decode cX9_chance 31 = .ok (.if_icmp .gt 9, 3) := dk_163 0 9 (dk_at dksX9_chance_1 8 rfl rfl)
theorem dX9_chance_34 : decode cX9_chance 34 = .ok (.iload_n 3, 1) := dk_29 (dk_at dksX9_chance_1 11 rfl rfl)
theorem dX9_chance_35 : decode cX9_chance 35 = .ok (.bipush 40, 2) := dk_16 40 (dk_at dksX9_chance_1 12 rfl rfl)
theorem dX9_chance_37 : decode cX9_chance 37 = .ok (.if_icmp .le 10, 3) := dk_164 0 10 (dk_at dksX9_chance_1 14 rfl rfl)
theorem dX9_chance_40 : decode cX9_chance 40 = .ok (.aload_n 0, 1) := dk_42 (dk_at dksX9_chance_1 17 rfl rfl)
theorem dX9_chance_41 : decode cX9_chance 41 = .ok (.bipush (-6), 2) := dk_16 250 (dk_at dksX9_chance_1 18 rfl rfl)
theorem dX9_chance_43 : decode cX9_chance 43 = .ok (.invokevirtual 228, 3) := dk_182 0 228 (dk_at dksX9_chance_1 20 rfl rfl)
theorem dX9_chance_46 : decode cX9_chance 46 = .ok (.lreturn, 1) := dk_173 (dk_at dksX9_chance_1 23 rfl rfl)
theorem dX9_chance_47 : decode cX9_chance 47 = .ok (.iload 4, 2) := dk_21 4 (dk_at dksX9_chance_2 0 rfl rfl)
theorem dX9_chance_49 : decode cX9_chance 49 = .ok (.iconst 0, 1) := dk_3 (dk_at dksX9_chance_2 2 rfl rfl)
theorem dX9_chance_50 : decode cX9_chance 50 = .ok (.iconst 1, 1) := dk_4 (dk_at dksX9_chance_2 3 rfl rfl)
theorem dX9_chance_51 : decode cX9_chance 51 = .ok (.invokestatic 58, 3) := dk_184 0 58 (dk_at dksX9_chance_2 4 rfl rfl)
theorem dX9_chance_54 : decode cX9_chance 54 = .ok (.ifCond .ne 10, 3) := dk_154 0 10 (dk_at dksX9_chance_2 7 rfl rfl)
theorem dX9_chance_57 : decode cX9_chance 57 = .ok (.aload_n 0, 1) := dk_42 (dk_at dksX9_chance_2 10 rfl rfl)
theorem dX9_chance_58 : decode cX9_chance 58 = .ok (.bipush (-2), 2) := dk_16 254 (dk_at dksX9_chance_2 11 rfl rfl)
theorem dX9_chance_60 : decode cX9_chance 60 = .ok (.invokevirtual 228, 3) := dk_182 0 228 (dk_at dksX9_chance_2 13 rfl rfl)
theorem dX9_chance_63 : decode cX9_chance 63 = .ok (.lreturn, 1) := dk_173 (dk_at dksX9_chance_2 16 rfl rfl)
theorem dX9_chance_64 : decode cX9_chance 64 = .ok (.lconst 1, 1) := dk_10 (dk_at dksX9_chance_2 17 rfl rfl)
theorem dX9_chance_65 : decode cX9_chance 65 = .ok (.lstore 5, 2) := dk_55 5 (dk_at dksX9_chance_2 18 rfl rfl)
theorem dX9_chance_67 : decode cX9_chance 67 = .ok (.iconst 0, 1) := dk_3 (dk_at dksX9_chance_2 20 rfl rfl)
theorem dX9_chance_68 : decode cX9_chance 68 = .ok (.istore 7, 2) := dk_54 7 (dk_at dksX9_chance_2 21 rfl rfl)
theorem dX9_chance_70 : decode cX9_chance 70 = .ok (.iload 7, 2) := dk_21 7 (dk_at dksX9_chance_3 0 rfl rfl)
theorem dX9_chance_72 : decode cX9_chance 72 = .ok (.iload_n 2, 1) := dk_28 (dk_at dksX9_chance_3 2 rfl rfl)
theorem dX9_chance_73 : decode cX9_chance 73 = .ok (.if_icmp .ge 37, 3) := dk_162 0 37 (dk_at dksX9_chance_3 3 rfl rfl)
theorem dX9_chance_76 : decode cX9_chance 76 = .ok (.aload_n 0, 1) := dk_42 (dk_at dksX9_chance_3 6 rfl rfl)
theorem dX9_chance_77 : decode cX9_chance 77 = .ok (.getfield 10, 3) := dk_180 0 10 (dk_at dksX9_chance_3 7 rfl rfl)
theorem dX9_chance_80 : decode cX9_chance 80 = .ok (.invokestatic 82, 3) := dk_184 0 82 (dk_at dksX9_chance_3 10 rfl rfl)
theorem dX9_chance_83 : decode cX9_chance 83 = .ok (.iload 7, 2) := dk_21 7 (dk_at dksX9_chance_3 13 rfl rfl)
theorem dX9_chance_85 : decode cX9_chance 85 = .ok (.if_icmp .le 25, 3) := dk_164 0 25 (dk_at dksX9_chance_3 15 rfl rfl)
theorem dX9_chance_88 : decode cX9_chance 88 = .ok (.lload 5, 2) := dk_22 5 (dk_at dksX9_chance_3 18 rfl rfl)
theorem dX9_chance_90 : decode cX9_chance 90 = .ok (.aload_n 0, 1) := dk_42 (dk_at dksX9_chance_3 20 rfl rfl)
theorem dX9_chance_91 : decode cX9_chance 91 = .ok (.getfield 10, 3) := dk_180 0 10 (dk_at dksX9_chance_3 21 rfl rfl)
theorem dX9_chance_94 : decode cX9_chance 94 = .ok (.invokestatic 82, 3) := dk_184 0 82 (dk_at dksX9_chance_4 0 rfl rfl)
theorem dX9_chance_97 : decode cX9_chance 97 = .ok (.iload 7, 2) := dk_21 7 (dk_at dksX9_chance_4 3 rfl rfl)
theorem dX9_chance_99 : decode cX9_chance 99 = .ok (.isub, 1) := dk_100 (dk_at dksX9_chance_4 5 rfl rfl)
theorem dX9_chance_100 : decode cX9_chance 100 = .ok (.i2l, 1) := dk_133 (dk_at dksX9_chance_4 6 rfl rfl)
theorem dX9_chance_101 : decode cX9_chance 101 = .ok (.lmul, 1) := dk_105 (dk_at dksX9_chance_4 7 rfl rfl)
theorem dX9_chance_102 : decode cX9_chance 102 = .ok (.lstore 5, 2) := dk_55 5 (dk_at dksX9_chance_4 8 rfl rfl)
theorem dX9_chance_104 : decode cX9_chance 104 = .ok (.iinc 7 1, 3) := dk_132 7 1 (dk_at dksX9_chance_4 10 rfl rfl)
theorem dX9_chance_107 : decode cX9_chance 107 = .ok (.goto (-37), 3) := dk_167 255 219 (dk_at dksX9_chance_4 13 rfl rfl)
theorem dX9_chance_110 : decode cX9_chance 110 = .ok (.aload_n 0, 1) := dk_42 (dk_at dksX9_chance_4 16 rfl rfl)
theorem dX9_chance_111 : decode cX9_chance 111 = .ok (.aload_n 0, 1) := dk_42 (dk_at dksX9_chance_4 17 rfl rfl)
theorem dX9_chance_112 : decode cX9_chance 112 = .ok (.getfield 10, 3) := dk_180 0 10 (dk_at dksX9_chance_4 18 rfl rfl)
theorem dX9_chance_115 : decode cX9_chance 115 = .ok (.iload_n 1, 1) := dk_27 (dk_at dksX9_chance_4 21 rfl rfl)
theorem dX9_chance_116 : decode cX9_chance 116 = .ok (.iload_n 3, 1) := dk_29 (dk_at dksX9_chance_4 22 rfl rfl)
theorem dX9_chance_117 : decode cX9_chance 117 = .ok (.iload_n 2, 1) := dk_28 (dk_at dksX9_chance_4 23 rfl rfl)
theorem dX9_chance_118 : decode cX9_chance 118 = .ok (.invokevirtual 224, 3) := dk_182 0 224 (dk_at dksX9_chance_5 0 rfl rfl)
theorem dX9_chance_121 : decode cX9_chance 121 = .ok (.lload 5, 2) := dk_22 5 (dk_at dksX9_chance_5 3 rfl rfl)
theorem dX9_chance_123 : decode cX9_chance 123 = .ok (.iload 4, 2) := dk_21 4 (dk_at dksX9_chance_5 5 rfl rfl)
theorem dX9_chance_125 : decode cX9_chance 125 = .ok (.invokestatic 232, 3) := dk_184 0 232 (dk_at dksX9_chance_5 7 rfl rfl)
theorem dX9_chance_128 : decode cX9_chance 128 = .ok (.lreturn, 1) := dk_173 (dk_at dksX9_chance_5 10 rfl rfl)
abbrev cX9_noWide : ByteArray := prog_21_method_6_code
def yX9_noWide : MethodName := ⟨RX9, "noWide", "(I)J"⟩
def dkwX9_noWide_0 : List UInt8 := [20, 0, 56, 42, 27, 182, 0, 52, 133, 101, 173]
abbrev dktX9_noWide_0 : List UInt8 := dkwX9_noWide_0 ++ []
theorem dksX9_noWide_0 : cX9_noWide.data.toList.drop 0 = dktX9_noWide_0 := by decide +kernel
theorem dX9_noWide_0 : decode cX9_noWide 0 = .ok (.ldc2_w 56, 3) := dk_20 0 56 (dk_at dksX9_noWide_0 0 rfl rfl)
theorem dX9_noWide_3 : decode cX9_noWide 3 = .ok (.aload_n 0, 1) := dk_42 (dk_at dksX9_noWide_0 3 rfl rfl)
theorem dX9_noWide_4 : decode cX9_noWide 4 = .ok (.iload_n 1, 1) := dk_27 (dk_at dksX9_noWide_0 4 rfl rfl)
theorem dX9_noWide_5 : decode cX9_noWide 5 = .ok (.invokevirtual 52, 3) := dk_182 0 52 (dk_at dksX9_noWide_0 5 rfl rfl)
theorem dX9_noWide_8 : decode cX9_noWide 8 = .ok (.i2l, 1) := dk_133 (dk_at dksX9_noWide_0 8 rfl rfl)
theorem dX9_noWide_9 : decode cX9_noWide 9 = .ok (.lsub, 1) := dk_101 (dk_at dksX9_noWide_0 9 rfl rfl)
theorem dX9_noWide_10 : decode cX9_noWide 10 = .ok (.lreturn, 1) := dk_173 (dk_at dksX9_noWide_0 10 rfl rfl)
abbrev cX9_waysFor : ByteArray := prog_21_method_75_code
def yX9_waysFor : MethodName := ⟨RX9, "waysFor", "(IIII)J"⟩
def dkwX9_waysFor_3 : List UInt8 := [9, 97, 55, 5, 132, 7, 1, 167, 255, 210, 22, 5, 173]
abbrev dktX9_waysFor_3 : List UInt8 := dkwX9_waysFor_3 ++ []
def dkwX9_waysFor_2 : List UInt8 := [153, 0, 24, 42, 27, 4, 21, 7, 120, 2, 130, 126, 28, 29, 21, 4, 4, 100, 182, 0, 224, 167, 0, 4]
abbrev dktX9_waysFor_2 : List UInt8 := dkwX9_waysFor_2 ++ dktX9_waysFor_3
def dkwX9_waysFor_1 : List UInt8 := [173, 9, 55, 5, 3, 54, 7, 21, 7, 16, 25, 162, 0, 45, 22, 5, 27, 21, 7, 184, 0, 72]
abbrev dktX9_waysFor_1 : List UInt8 := dkwX9_waysFor_1 ++ dktX9_waysFor_2
def dkwX9_waysFor_0 : List UInt8 := [21, 4, 153, 0, 7, 27, 154, 0, 19, 42, 27, 28, 182, 0, 98, 29, 161, 0, 7, 10, 167, 0, 4, 9]
abbrev dktX9_waysFor_0 : List UInt8 := dkwX9_waysFor_0 ++ dktX9_waysFor_1
theorem dksX9_waysFor_0 : cX9_waysFor.data.toList.drop 0 = dktX9_waysFor_0 := by decide +kernel
theorem dksX9_waysFor_1 : cX9_waysFor.data.toList.drop 24 = dktX9_waysFor_1 := dk_seg dksX9_waysFor_0 24 rfl rfl
theorem dksX9_waysFor_2 : cX9_waysFor.data.toList.drop 46 = dktX9_waysFor_2 := dk_seg dksX9_waysFor_1 22 rfl rfl
theorem dksX9_waysFor_3 : cX9_waysFor.data.toList.drop 70 = dktX9_waysFor_3 := dk_seg dksX9_waysFor_2 24 rfl rfl
theorem dX9_waysFor_0 : decode cX9_waysFor 0 = .ok (.iload 4, 2) := dk_21 4 (dk_at dksX9_waysFor_0 0 rfl rfl)
theorem dX9_waysFor_2 : decode cX9_waysFor 2 = .ok (.ifCond .eq 7, 3) := dk_153 0 7 (dk_at dksX9_waysFor_0 2 rfl rfl)
theorem dX9_waysFor_5 : decode cX9_waysFor 5 = .ok (.iload_n 1, 1) := dk_27 (dk_at dksX9_waysFor_0 5 rfl rfl)
theorem dX9_waysFor_6 : decode cX9_waysFor 6 = .ok (.ifCond .ne 19, 3) := dk_154 0 19 (dk_at dksX9_waysFor_0 6 rfl rfl)
theorem dX9_waysFor_9 : decode cX9_waysFor 9 = .ok (.aload_n 0, 1) := dk_42 (dk_at dksX9_waysFor_0 9 rfl rfl)
theorem dX9_waysFor_10 : decode cX9_waysFor 10 = .ok (.iload_n 1, 1) := dk_27 (dk_at dksX9_waysFor_0 10 rfl rfl)
theorem dX9_waysFor_11 : decode cX9_waysFor 11 = .ok (.iload_n 2, 1) := dk_28 (dk_at dksX9_waysFor_0 11 rfl rfl)
theorem dX9_waysFor_12 : decode cX9_waysFor 12 = .ok (.invokevirtual 98, 3) := dk_182 0 98 (dk_at dksX9_waysFor_0 12 rfl rfl)
theorem dX9_waysFor_15 : decode cX9_waysFor 15 = .ok (.iload_n 3, 1) := dk_29 (dk_at dksX9_waysFor_0 15 rfl rfl)
theorem dX9_waysFor_16 : decode cX9_waysFor 16 = .ok (.if_icmp .lt 7, 3) := dk_161 0 7 (dk_at dksX9_waysFor_0 16 rfl rfl)
theorem dX9_waysFor_19 : decode cX9_waysFor 19 = .ok (.lconst 1, 1) := dk_10 (dk_at dksX9_waysFor_0 19 rfl rfl)
theorem dX9_waysFor_20 : decode cX9_waysFor 20 = .ok (.goto 4, 3) := dk_167 0 4 (dk_at dksX9_waysFor_0 20 rfl rfl)
theorem dX9_waysFor_23 : decode cX9_waysFor 23 = .ok (.lconst 0, 1) := dk_9 (dk_at dksX9_waysFor_0 23 rfl rfl)
theorem dX9_waysFor_24 : decode cX9_waysFor 24 = .ok (.lreturn, 1) := dk_173 (dk_at dksX9_waysFor_1 0 rfl rfl)
theorem dX9_waysFor_25 : decode cX9_waysFor 25 = .ok (.lconst 0, 1) := dk_9 (dk_at dksX9_waysFor_1 1 rfl rfl)
theorem dX9_waysFor_26 : decode cX9_waysFor 26 = .ok (.lstore 5, 2) := dk_55 5 (dk_at dksX9_waysFor_1 2 rfl rfl)
theorem dX9_waysFor_28 : decode cX9_waysFor 28 = .ok (.iconst 0, 1) := dk_3 (dk_at dksX9_waysFor_1 4 rfl rfl)
theorem dX9_waysFor_29 : decode cX9_waysFor 29 = .ok (.istore 7, 2) := dk_54 7 (dk_at dksX9_waysFor_1 5 rfl rfl)
theorem dX9_waysFor_31 : decode cX9_waysFor 31 = .ok (.iload 7, 2) := dk_21 7 (dk_at dksX9_waysFor_1 7 rfl rfl)
theorem dX9_waysFor_33 : decode cX9_waysFor 33 = .ok (.bipush 25, 2) := dk_16 25 (dk_at dksX9_waysFor_1 9 rfl rfl)
theorem dX9_waysFor_35 : decode cX9_waysFor 35 = .ok (.if_icmp .ge 45, 3) := dk_162 0 45 (dk_at dksX9_waysFor_1 11 rfl rfl)
theorem dX9_waysFor_38 : decode cX9_waysFor 38 = .ok (.lload 5, 2) := dk_22 5 (dk_at dksX9_waysFor_1 14 rfl rfl)
theorem dX9_waysFor_40 : decode cX9_waysFor 40 = .ok (.iload_n 1, 1) := dk_27 (dk_at dksX9_waysFor_1 16 rfl rfl)
theorem dX9_waysFor_41 : decode cX9_waysFor 41 = .ok (.iload 7, 2) := dk_21 7 (dk_at dksX9_waysFor_1 17 rfl rfl)
theorem dX9_waysFor_43 : decode cX9_waysFor 43 = .ok (.invokestatic 72, 3) := dk_184 0 72 (dk_at dksX9_waysFor_1 19 rfl rfl)
theorem dX9_waysFor_46 : decode cX9_waysFor 46 = .ok (.ifCond .eq 24, 3) := dk_153 0 24 (dk_at dksX9_waysFor_2 0 rfl rfl)
theorem dX9_waysFor_49 : decode cX9_waysFor 49 = .ok (.aload_n 0, 1) := dk_42 (dk_at dksX9_waysFor_2 3 rfl rfl)
theorem dX9_waysFor_50 : decode cX9_waysFor 50 = .ok (.iload_n 1, 1) := dk_27 (dk_at dksX9_waysFor_2 4 rfl rfl)
theorem dX9_waysFor_51 : decode cX9_waysFor 51 = .ok (.iconst 1, 1) := dk_4 (dk_at dksX9_waysFor_2 5 rfl rfl)
theorem dX9_waysFor_52 : decode cX9_waysFor 52 = .ok (.iload 7, 2) := dk_21 7 (dk_at dksX9_waysFor_2 6 rfl rfl)
theorem dX9_waysFor_54 : decode cX9_waysFor 54 = .ok (.ishl, 1) := dk_120 (dk_at dksX9_waysFor_2 8 rfl rfl)
theorem dX9_waysFor_55 : decode cX9_waysFor 55 = .ok (.iconst (-1), 1) := dk_2 (dk_at dksX9_waysFor_2 9 rfl rfl)
theorem dX9_waysFor_56 : decode cX9_waysFor 56 = .ok (.ixor, 1) := dk_130 (dk_at dksX9_waysFor_2 10 rfl rfl)
theorem dX9_waysFor_57 : decode cX9_waysFor 57 = .ok (.iand, 1) := dk_126 (dk_at dksX9_waysFor_2 11 rfl rfl)
theorem dX9_waysFor_58 : decode cX9_waysFor 58 = .ok (.iload_n 2, 1) := dk_28 (dk_at dksX9_waysFor_2 12 rfl rfl)
theorem dX9_waysFor_59 : decode cX9_waysFor 59 = .ok (.iload_n 3, 1) := dk_29 (dk_at dksX9_waysFor_2 13 rfl rfl)
theorem dX9_waysFor_60 : decode cX9_waysFor 60 = .ok (.iload 4, 2) := dk_21 4 (dk_at dksX9_waysFor_2 14 rfl rfl)
theorem dX9_waysFor_62 : decode cX9_waysFor 62 = .ok (.iconst 1, 1) := dk_4 (dk_at dksX9_waysFor_2 16 rfl rfl)
theorem dX9_waysFor_63 : decode cX9_waysFor 63 = .ok (.isub, 1) := dk_100 (dk_at dksX9_waysFor_2 17 rfl rfl)
theorem dX9_waysFor_64 : decode cX9_waysFor 64 = .ok (.invokevirtual 224, 3) := dk_182 0 224 (dk_at dksX9_waysFor_2 18 rfl rfl)
theorem dX9_waysFor_67 : decode cX9_waysFor 67 = .ok (.goto 4, 3) := dk_167 0 4 (dk_at dksX9_waysFor_2 21 rfl rfl)
theorem dX9_waysFor_70 : decode cX9_waysFor 70 = .ok (.lconst 0, 1) := dk_9 (dk_at dksX9_waysFor_3 0 rfl rfl)
theorem dX9_waysFor_71 : decode cX9_waysFor 71 = .ok (.ladd, 1) := dk_97 (dk_at dksX9_waysFor_3 1 rfl rfl)
theorem dX9_waysFor_72 : decode cX9_waysFor 72 = .ok (.lstore 5, 2) := dk_55 5 (dk_at dksX9_waysFor_3 2 rfl rfl)
theorem dX9_waysFor_74 : decode cX9_waysFor 74 = .ok (.iinc 7 1, 3) := dk_132 7 1 (dk_at dksX9_waysFor_3 4 rfl rfl)
theorem dX9_waysFor_77 : decode cX9_waysFor 77 = .ok (.goto (-46), 3) := dk_167 255 210 (dk_at dksX9_waysFor_3 7 rfl rfl)
theorem dX9_waysFor_80 : decode cX9_waysFor 80 = .ok (.lload 5, 2) := dk_22 5 (dk_at dksX9_waysFor_3 10 rfl rfl)
theorem dX9_waysFor_82 : decode cX9_waysFor 82 = .ok (.lreturn, 1) := dk_173 (dk_at dksX9_waysFor_3 12 rfl rfl)
abbrev cX9_partOf : ByteArray := prog_21_method_74_code
def yX9_partOf : MethodName := ⟨RX9, "partOf", "(JJI)J"⟩
def dkwX9_partOf_1 : List UInt8 := [184, 0, 220, 109, 173]
abbrev dktX9_partOf_1 : List UInt8 := dkwX9_partOf_1 ++ []
def dkwX9_partOf_0 : List UInt8 := [30, 9, 148, 154, 0, 7, 21, 4, 133, 173, 21, 4, 154, 0, 7, 30, 167, 0, 4, 32, 30, 32]
abbrev dktX9_partOf_0 : List UInt8 := dkwX9_partOf_0 ++ dktX9_partOf_1
theorem dksX9_partOf_0 : cX9_partOf.data.toList.drop 0 = dktX9_partOf_0 := by decide +kernel
theorem dksX9_partOf_1 : cX9_partOf.data.toList.drop 22 = dktX9_partOf_1 := dk_seg dksX9_partOf_0 22 rfl rfl
theorem dX9_partOf_0 : decode cX9_partOf 0 = .ok (.lload_n 0, 1) := dk_30 (dk_at dksX9_partOf_0 0 rfl rfl)
theorem dX9_partOf_1 : decode cX9_partOf 1 = .ok (.lconst 0, 1) := dk_9 (dk_at dksX9_partOf_0 1 rfl rfl)
theorem dX9_partOf_2 : decode cX9_partOf 2 = .ok (.lcmp, 1) := dk_148 (dk_at dksX9_partOf_0 2 rfl rfl)
theorem dX9_partOf_3 : decode cX9_partOf 3 = .ok (.ifCond .ne 7, 3) := dk_154 0 7 (dk_at dksX9_partOf_0 3 rfl rfl)
theorem dX9_partOf_6 : decode cX9_partOf 6 = .ok (.iload 4, 2) := dk_21 4 (dk_at dksX9_partOf_0 6 rfl rfl)
theorem dX9_partOf_8 : decode cX9_partOf 8 = .ok (.i2l, 1) := dk_133 (dk_at dksX9_partOf_0 8 rfl rfl)
theorem dX9_partOf_9 : decode cX9_partOf 9 = .ok (.lreturn, 1) := dk_173 (dk_at dksX9_partOf_0 9 rfl rfl)
theorem dX9_partOf_10 : decode cX9_partOf 10 = .ok (.iload 4, 2) := dk_21 4 (dk_at dksX9_partOf_0 10 rfl rfl)
theorem dX9_partOf_12 : decode cX9_partOf 12 = .ok (.ifCond .ne 7, 3) := dk_154 0 7 (dk_at dksX9_partOf_0 12 rfl rfl)
theorem dX9_partOf_15 : decode cX9_partOf 15 = .ok (.lload_n 0, 1) := dk_30 (dk_at dksX9_partOf_0 15 rfl rfl)
theorem dX9_partOf_16 : decode cX9_partOf 16 = .ok (.goto 4, 3) := dk_167 0 4 (dk_at dksX9_partOf_0 16 rfl rfl)
theorem dX9_partOf_19 : decode cX9_partOf 19 = .ok (.lload_n 2, 1) := dk_32 (dk_at dksX9_partOf_0 19 rfl rfl)
theorem dX9_partOf_20 : decode cX9_partOf 20 = .ok (.lload_n 0, 1) := dk_30 (dk_at dksX9_partOf_0 20 rfl rfl)
theorem dX9_partOf_21 : decode cX9_partOf 21 = .ok (.lload_n 2, 1) := dk_32 (dk_at dksX9_partOf_0 21 rfl rfl)
theorem dX9_partOf_22 : decode cX9_partOf 22 = .ok (.invokestatic 220, 3) := dk_184 0 220 (dk_at dksX9_partOf_1 0 rfl rfl)
theorem dX9_partOf_25 : decode cX9_partOf 25 = .ok (.ldiv, 1) := dk_109 (dk_at dksX9_partOf_1 3 rfl rfl)
theorem dX9_partOf_26 : decode cX9_partOf 26 = .ok (.lreturn, 1) := dk_173 (dk_at dksX9_partOf_1 4 rfl rfl)
abbrev cX9_gcd : ByteArray := prog_21_method_73_code
def yX9_gcd : MethodName := ⟨RX9, "gcd", "(JJ)J"⟩
def dkwX9_gcd_1 : List UInt8 := [22, 8, 55, 6, 167, 255, 234, 22, 4, 173]
abbrev dktX9_gcd_1 : List UInt8 := dkwX9_gcd_1 ++ []
def dkwX9_gcd_0 : List UInt8 := [30, 55, 4, 32, 55, 6, 22, 6, 9, 148, 153, 0, 21, 22, 4, 22, 6, 113, 55, 8, 22, 6, 55, 4]
abbrev dktX9_gcd_0 : List UInt8 := dkwX9_gcd_0 ++ dktX9_gcd_1
theorem dksX9_gcd_0 : cX9_gcd.data.toList.drop 0 = dktX9_gcd_0 := by decide +kernel
theorem dksX9_gcd_1 : cX9_gcd.data.toList.drop 24 = dktX9_gcd_1 := dk_seg dksX9_gcd_0 24 rfl rfl
theorem dX9_gcd_0 : decode cX9_gcd 0 = .ok (.lload_n 0, 1) := dk_30 (dk_at dksX9_gcd_0 0 rfl rfl)
theorem dX9_gcd_1 : decode cX9_gcd 1 = .ok (.lstore 4, 2) := dk_55 4 (dk_at dksX9_gcd_0 1 rfl rfl)
theorem dX9_gcd_3 : decode cX9_gcd 3 = .ok (.lload_n 2, 1) := dk_32 (dk_at dksX9_gcd_0 3 rfl rfl)
theorem dX9_gcd_4 : decode cX9_gcd 4 = .ok (.lstore 6, 2) := dk_55 6 (dk_at dksX9_gcd_0 4 rfl rfl)
theorem dX9_gcd_6 : decode cX9_gcd 6 = .ok (.lload 6, 2) := dk_22 6 (dk_at dksX9_gcd_0 6 rfl rfl)
theorem dX9_gcd_8 : decode cX9_gcd 8 = .ok (.lconst 0, 1) := dk_9 (dk_at dksX9_gcd_0 8 rfl rfl)
theorem dX9_gcd_9 : decode cX9_gcd 9 = .ok (.lcmp, 1) := dk_148 (dk_at dksX9_gcd_0 9 rfl rfl)
theorem dX9_gcd_10 : decode cX9_gcd 10 = .ok (.ifCond .eq 21, 3) := dk_153 0 21 (dk_at dksX9_gcd_0 10 rfl rfl)
theorem dX9_gcd_13 : decode cX9_gcd 13 = .ok (.lload 4, 2) := dk_22 4 (dk_at dksX9_gcd_0 13 rfl rfl)
theorem dX9_gcd_15 : decode cX9_gcd 15 = .ok (.lload 6, 2) := dk_22 6 (dk_at dksX9_gcd_0 15 rfl rfl)
theorem dX9_gcd_17 : decode cX9_gcd 17 = .ok (.lrem, 1) := dk_113 (dk_at dksX9_gcd_0 17 rfl rfl)
theorem dX9_gcd_18 : decode cX9_gcd 18 = .ok (.lstore 8, 2) := dk_55 8 (dk_at dksX9_gcd_0 18 rfl rfl)
theorem dX9_gcd_20 : decode cX9_gcd 20 = .ok (.lload 6, 2) := dk_22 6 (dk_at dksX9_gcd_0 20 rfl rfl)
theorem dX9_gcd_22 : decode cX9_gcd 22 = .ok (.lstore 4, 2) := dk_55 4 (dk_at dksX9_gcd_0 22 rfl rfl)
theorem dX9_gcd_24 : decode cX9_gcd 24 = .ok (.lload 8, 2) := dk_22 8 (dk_at dksX9_gcd_1 0 rfl rfl)
theorem dX9_gcd_26 : decode cX9_gcd 26 = .ok (.lstore 6, 2) := dk_55 6 (dk_at dksX9_gcd_1 2 rfl rfl)
theorem dX9_gcd_28 : decode cX9_gcd 28 = .ok (.goto (-22), 3) := dk_167 255 234 (dk_at dksX9_gcd_1 4 rfl rfl)
theorem dX9_gcd_31 : decode cX9_gcd 31 = .ok (.lload 4, 2) := dk_22 4 (dk_at dksX9_gcd_1 7 rfl rfl)
theorem dX9_gcd_33 : decode cX9_gcd 33 = .ok (.lreturn, 1) := dk_173 (dk_at dksX9_gcd_1 9 rfl rfl)
abbrev cX9_mean : ByteArray := prog_21_method_77_code
def yX9_mean : MethodName := ⟨RX9, "mean", "(I)J"⟩
def dkwX9_mean_1 : List UInt8 := [184, 0, 232, 167, 0, 9, 42, 16, 254, 182, 0, 228, 173]
abbrev dktX9_mean_1 : List UInt8 := dkwX9_mean_1 ++ []
def dkwX9_mean_0 : List UInt8 := [27, 3, 4, 184, 0, 58, 153, 0, 24, 42, 42, 180, 0, 10, 182, 0, 174, 133, 42, 180, 0, 62, 133, 27]
abbrev dktX9_mean_0 : List UInt8 := dkwX9_mean_0 ++ dktX9_mean_1
theorem dksX9_mean_0 : cX9_mean.data.toList.drop 0 = dktX9_mean_0 := by decide +kernel
theorem dksX9_mean_1 : cX9_mean.data.toList.drop 24 = dktX9_mean_1 := dk_seg dksX9_mean_0 24 rfl rfl
theorem dX9_mean_0 : decode cX9_mean 0 = .ok (.iload_n 1, 1) := dk_27 (dk_at dksX9_mean_0 0 rfl rfl)
theorem dX9_mean_1 : decode cX9_mean 1 = .ok (.iconst 0, 1) := dk_3 (dk_at dksX9_mean_0 1 rfl rfl)
theorem dX9_mean_2 : decode cX9_mean 2 = .ok (.iconst 1, 1) := dk_4 (dk_at dksX9_mean_0 2 rfl rfl)
theorem dX9_mean_3 : decode cX9_mean 3 = .ok (.invokestatic 58, 3) := dk_184 0 58 (dk_at dksX9_mean_0 3 rfl rfl)
theorem dX9_mean_6 : decode cX9_mean 6 = .ok (.ifCond .eq 24, 3) := dk_153 0 24 (dk_at dksX9_mean_0 6 rfl rfl)
theorem dX9_mean_9 : decode cX9_mean 9 = .ok (.aload_n 0, 1) := dk_42 (dk_at dksX9_mean_0 9 rfl rfl)
theorem dX9_mean_10 : decode cX9_mean 10 = .ok (.aload_n 0, 1) := dk_42 (dk_at dksX9_mean_0 10 rfl rfl)
theorem dX9_mean_11 : decode cX9_mean 11 = .ok (.getfield 10, 3) := dk_180 0 10 (dk_at dksX9_mean_0 11 rfl rfl)
theorem dX9_mean_14 : decode cX9_mean 14 = .ok (.invokevirtual 174, 3) := dk_182 0 174 (dk_at dksX9_mean_0 14 rfl rfl)
theorem dX9_mean_17 : decode cX9_mean 17 = .ok (.i2l, 1) := dk_133 (dk_at dksX9_mean_0 17 rfl rfl)
theorem dX9_mean_18 : decode cX9_mean 18 = .ok (.aload_n 0, 1) := dk_42 (dk_at dksX9_mean_0 18 rfl rfl)
theorem dX9_mean_19 : decode cX9_mean 19 = .ok (.getfield 62, 3) := dk_180 0 62 (dk_at dksX9_mean_0 19 rfl rfl)
theorem dX9_mean_22 : decode cX9_mean 22 = .ok (.i2l, 1) := dk_133 (dk_at dksX9_mean_0 22 rfl rfl)
theorem dX9_mean_23 : decode cX9_mean 23 = .ok (.iload_n 1, 1) := dk_27 (dk_at dksX9_mean_0 23 rfl rfl)
theorem dX9_mean_24 : decode cX9_mean 24 = .ok (.invokestatic 232, 3) := dk_184 0 232 (dk_at dksX9_mean_1 0 rfl rfl)
theorem dX9_mean_27 : decode cX9_mean 27 = .ok (.goto 9, 3) := dk_167 0 9 (dk_at dksX9_mean_1 3 rfl rfl)
theorem dX9_mean_30 : decode cX9_mean 30 = .ok (.aload_n 0, 1) := dk_42 (dk_at dksX9_mean_1 6 rfl rfl)
theorem dX9_mean_31 : decode cX9_mean 31 = .ok (.bipush (-2), 2) := dk_16 254 (dk_at dksX9_mean_1 7 rfl rfl)
theorem dX9_mean_33 : decode cX9_mean 33 = .ok (.invokevirtual 228, 3) := dk_182 0 228 (dk_at dksX9_mean_1 9 rfl rfl)
theorem dX9_mean_36 : decode cX9_mean 36 = .ok (.lreturn, 1) := dk_173 (dk_at dksX9_mean_1 12 rfl rfl)
abbrev cX9_whatIs : ByteArray := prog_21_method_78_code
def yX9_whatIs : MethodName := ⟨RX9, "whatIs", "(II)I"⟩
def dkwX9_whatIs_7 : List UInt8 := [62, 132, 4, 1, 167, 255, 121, 29, 172]
abbrev dktX9_whatIs_7 : List UInt8 := dkwX9_whatIs_7 ++ []
def dkwX9_whatIs_6 : List UInt8 := [126, 54, 5, 132, 6, 1, 167, 255, 165, 29, 21, 5, 153, 0, 10, 4, 21, 4, 120, 167, 0, 4, 3, 128]
abbrev dktX9_whatIs_6 : List UInt8 := dkwX9_whatIs_6 ++ dktX9_whatIs_7
def dkwX9_whatIs_5 : List UInt8 := [42, 180, 0, 18, 27, 46, 184, 0, 94, 42, 180, 0, 36, 21, 6, 46, 160, 0, 7, 4, 167, 0, 4, 3]
abbrev dktX9_whatIs_5 : List UInt8 := dkwX9_whatIs_5 ++ dktX9_whatIs_6
def dkwX9_whatIs_4 : List UInt8 := [154, 0, 8, 21, 4, 167, 0, 9, 42, 180, 0, 14, 27, 46, 28, 4, 160, 0, 8, 21, 4, 167, 0, 9]
abbrev dktX9_whatIs_4 : List UInt8 := dkwX9_whatIs_4 ++ dktX9_whatIs_5
def dkwX9_whatIs_3 : List UInt8 := [154, 0, 10, 42, 180, 0, 10, 167, 0, 16, 42, 180, 0, 10, 4, 21, 6, 4, 100, 120, 2, 130, 126, 28]
abbrev dktX9_whatIs_3 : List UInt8 := dkwX9_whatIs_3 ++ dktX9_whatIs_4
def dkwX9_whatIs_2 : List UInt8 := [162, 0, 125, 4, 54, 5, 3, 54, 6, 21, 6, 42, 180, 0, 236, 162, 0, 88, 21, 5, 21, 6]
abbrev dktX9_whatIs_2 : List UInt8 := dkwX9_whatIs_2 ++ dktX9_whatIs_3
def dkwX9_whatIs_1 : List UInt8 := [16, 254, 182, 0, 52, 172, 3, 62, 3, 54, 4, 21, 4, 28, 154, 0, 8, 16, 6, 167, 0, 5, 16, 10]
abbrev dktX9_whatIs_1 : List UInt8 := dkwX9_whatIs_1 ++ dktX9_whatIs_2
def dkwX9_whatIs_0 : List UInt8 := [42, 27, 182, 0, 168, 154, 0, 9, 42, 2, 182, 0, 52, 172, 28, 3, 4, 184, 0, 58, 154, 0, 10, 42]
abbrev dktX9_whatIs_0 : List UInt8 := dkwX9_whatIs_0 ++ dktX9_whatIs_1
theorem dksX9_whatIs_0 : cX9_whatIs.data.toList.drop 0 = dktX9_whatIs_0 := by decide +kernel
theorem dksX9_whatIs_1 : cX9_whatIs.data.toList.drop 24 = dktX9_whatIs_1 := dk_seg dksX9_whatIs_0 24 rfl rfl
theorem dksX9_whatIs_2 : cX9_whatIs.data.toList.drop 48 = dktX9_whatIs_2 := dk_seg dksX9_whatIs_1 24 rfl rfl
theorem dksX9_whatIs_3 : cX9_whatIs.data.toList.drop 70 = dktX9_whatIs_3 := dk_seg dksX9_whatIs_2 22 rfl rfl
theorem dksX9_whatIs_4 : cX9_whatIs.data.toList.drop 94 = dktX9_whatIs_4 := dk_seg dksX9_whatIs_3 24 rfl rfl
theorem dksX9_whatIs_5 : cX9_whatIs.data.toList.drop 118 = dktX9_whatIs_5 := dk_seg dksX9_whatIs_4 24 rfl rfl
theorem dksX9_whatIs_6 : cX9_whatIs.data.toList.drop 142 = dktX9_whatIs_6 := dk_seg dksX9_whatIs_5 24 rfl rfl
theorem dksX9_whatIs_7 : cX9_whatIs.data.toList.drop 166 = dktX9_whatIs_7 := dk_seg dksX9_whatIs_6 24 rfl rfl
theorem dX9_whatIs_0 : decode cX9_whatIs 0 = .ok (.aload_n 0, 1) := dk_42 (dk_at dksX9_whatIs_0 0 rfl rfl)
theorem dX9_whatIs_1 : decode cX9_whatIs 1 = .ok (.iload_n 1, 1) := dk_27 (dk_at dksX9_whatIs_0 1 rfl rfl)
theorem dX9_whatIs_2 : decode cX9_whatIs 2 = .ok (.invokevirtual 168, 3) := dk_182 0 168 (dk_at dksX9_whatIs_0 2 rfl rfl)
theorem dX9_whatIs_5 : decode cX9_whatIs 5 = .ok (.ifCond .ne 9, 3) := dk_154 0 9 (dk_at dksX9_whatIs_0 5 rfl rfl)
theorem dX9_whatIs_8 : decode cX9_whatIs 8 = .ok (.aload_n 0, 1) := dk_42 (dk_at dksX9_whatIs_0 8 rfl rfl)
theorem dX9_whatIs_9 : decode cX9_whatIs 9 = .ok (.iconst (-1), 1) := dk_2 (dk_at dksX9_whatIs_0 9 rfl rfl)
theorem dX9_whatIs_10 : decode cX9_whatIs 10 = .ok (.invokevirtual 52, 3) := dk_182 0 52 (dk_at dksX9_whatIs_0 10 rfl rfl)
theorem dX9_whatIs_13 : decode cX9_whatIs 13 = .ok (.ireturn, 1) := dk_172 (dk_at dksX9_whatIs_0 13 rfl rfl)
theorem dX9_whatIs_14 : decode cX9_whatIs 14 = .ok (.iload_n 2, 1) := dk_28 (dk_at dksX9_whatIs_0 14 rfl rfl)
theorem dX9_whatIs_15 : decode cX9_whatIs 15 = .ok (.iconst 0, 1) := dk_3 (dk_at dksX9_whatIs_0 15 rfl rfl)
theorem dX9_whatIs_16 : decode cX9_whatIs 16 = .ok (.iconst 1, 1) := dk_4 (dk_at dksX9_whatIs_0 16 rfl rfl)
theorem dX9_whatIs_17 : decode cX9_whatIs 17 = .ok (.invokestatic 58, 3) := dk_184 0 58 (dk_at dksX9_whatIs_0 17 rfl rfl)
theorem dX9_whatIs_20 : decode cX9_whatIs 20 = .ok (.ifCond .ne 10, 3) := dk_154 0 10 (dk_at dksX9_whatIs_0 20 rfl rfl)
theorem dX9_whatIs_23 : decode cX9_whatIs 23 = .ok (.aload_n 0, 1) := dk_42 (dk_at dksX9_whatIs_0 23 rfl rfl)
theorem dX9_whatIs_24 : decode cX9_whatIs 24 = .ok (.bipush (-2), 2) := dk_16 254 (dk_at dksX9_whatIs_1 0 rfl rfl)
theorem dX9_whatIs_26 : decode cX9_whatIs 26 = .ok (.invokevirtual 52, 3) := dk_182 0 52 (dk_at dksX9_whatIs_1 2 rfl rfl)
theorem dX9_whatIs_29 : decode cX9_whatIs 29 = .ok (.ireturn, 1) := dk_172 (dk_at dksX9_whatIs_1 5 rfl rfl)
theorem dX9_whatIs_30 : decode cX9_whatIs 30 = .ok (.iconst 0, 1) := dk_3 (dk_at dksX9_whatIs_1 6 rfl rfl)
theorem dX9_whatIs_31 : decode cX9_whatIs 31 = .ok (.istore_n 3, 1) := dk_62 (dk_at dksX9_whatIs_1 7 rfl rfl)
theorem dX9_whatIs_32 : decode cX9_whatIs 32 = .ok (.iconst 0, 1) := dk_3 (dk_at dksX9_whatIs_1 8 rfl rfl)
theorem dX9_whatIs_33 : decode cX9_whatIs 33 = .ok (.istore 4, 2) := dk_54 4 (dk_at dksX9_whatIs_1 9 rfl rfl)
theorem dX9_whatIs_35 : decode cX9_whatIs 35 = .ok (.iload 4, 2) := dk_21 4 (dk_at dksX9_whatIs_1 11 rfl rfl)
theorem dX9_whatIs_37 : decode cX9_whatIs 37 = .ok (.iload_n 2, 1) := dk_28 (dk_at dksX9_whatIs_1 13 rfl rfl)
theorem dX9_whatIs_38 : decode cX9_whatIs 38 = .ok (.ifCond .ne 8, 3) := dk_154 0 8 (dk_at dksX9_whatIs_1 14 rfl rfl)
theorem dX9_whatIs_41 : decode cX9_whatIs 41 = .ok (.bipush 6, 2) := dk_16 6 (dk_at dksX9_whatIs_1 17 rfl rfl)
theorem dX9_whatIs_43 : decode cX9_whatIs 43 = .ok (.goto 5, 3) := dk_167 0 5 (dk_at dksX9_whatIs_1 19 rfl rfl)
theorem dX9_whatIs_46 : decode cX9_whatIs 46 = .ok (.bipush 10, 2) := dk_16 10 (dk_at dksX9_whatIs_1 22 rfl rfl)
theorem dX9_whatIs_48 : decode cX9_whatIs 48 = .ok (.if_icmp .ge 125, 3) := dk_162 0 125 (dk_at dksX9_whatIs_2 0 rfl rfl)
theorem dX9_whatIs_51 : decode cX9_whatIs 51 = .ok (.iconst 1, 1) := dk_4 (dk_at dksX9_whatIs_2 3 rfl rfl)
theorem dX9_whatIs_52 : decode cX9_whatIs 52 = .ok (.istore 5, 2) := dk_54 5 (dk_at dksX9_whatIs_2 4 rfl rfl)
theorem dX9_whatIs_54 : decode cX9_whatIs 54 = .ok (.iconst 0, 1) := dk_3 (dk_at dksX9_whatIs_2 6 rfl rfl)
theorem dX9_whatIs_55 : decode cX9_whatIs 55 = .ok (.istore 6, 2) := dk_54 6 (dk_at dksX9_whatIs_2 7 rfl rfl)
theorem dX9_whatIs_57 : decode cX9_whatIs 57 = .ok (.iload 6, 2) := dk_21 6 (dk_at dksX9_whatIs_2 9 rfl rfl)
theorem dX9_whatIs_59 : decode cX9_whatIs 59 = .ok (.aload_n 0, 1) := dk_42 (dk_at dksX9_whatIs_2 11 rfl rfl)
theorem dX9_whatIs_60 : decode cX9_whatIs 60 = .ok (.getfield 236, 3) := dk_180 0 236 (dk_at dksX9_whatIs_2 12 rfl rfl)
theorem dX9_whatIs_63 : decode cX9_whatIs 63 = .ok (.if_icmp .ge 88, 3) := dk_162 0 88 (dk_at dksX9_whatIs_2 15 rfl rfl)
theorem dX9_whatIs_66 : decode cX9_whatIs 66 = .ok (.iload 5, 2) := dk_21 5 (dk_at dksX9_whatIs_2 18 rfl rfl)
theorem dX9_whatIs_68 : decode cX9_whatIs 68 = .ok (.iload 6, 2) := dk_21 6 (dk_at dksX9_whatIs_2 20 rfl rfl)
theorem dX9_whatIs_70 : decode cX9_whatIs 70 = .ok (.ifCond .ne 10, 3) := dk_154 0 10 (dk_at dksX9_whatIs_3 0 rfl rfl)
theorem dX9_whatIs_73 : decode cX9_whatIs 73 = .ok (.aload_n 0, 1) := dk_42 (dk_at dksX9_whatIs_3 3 rfl rfl)
theorem dX9_whatIs_74 : decode cX9_whatIs 74 = .ok (.getfield 10, 3) := dk_180 0 10 (dk_at dksX9_whatIs_3 4 rfl rfl)
theorem dX9_whatIs_77 : decode cX9_whatIs 77 = .ok (.goto 16, 3) := dk_167 0 16 (dk_at dksX9_whatIs_3 7 rfl rfl)
theorem dX9_whatIs_80 : decode cX9_whatIs 80 = .ok (.aload_n 0, 1) := dk_42 (dk_at dksX9_whatIs_3 10 rfl rfl)
theorem dX9_whatIs_81 : decode cX9_whatIs 81 = .ok (.getfield 10, 3) := dk_180 0 10 (dk_at dksX9_whatIs_3 11 rfl rfl)
theorem dX9_whatIs_84 : decode cX9_whatIs 84 = .ok (.iconst 1, 1) := dk_4 (dk_at dksX9_whatIs_3 14 rfl rfl)
theorem dX9_whatIs_85 : decode cX9_whatIs 85 = .ok (.iload 6, 2) := dk_21 6 (dk_at dksX9_whatIs_3 15 rfl rfl)
theorem dX9_whatIs_87 : decode cX9_whatIs 87 = .ok (.iconst 1, 1) := dk_4 (dk_at dksX9_whatIs_3 17 rfl rfl)
theorem dX9_whatIs_88 : decode cX9_whatIs 88 = .ok (.isub, 1) := dk_100 (dk_at dksX9_whatIs_3 18 rfl rfl)
theorem dX9_whatIs_89 : decode cX9_whatIs 89 = .ok (.ishl, 1) := dk_120 (dk_at dksX9_whatIs_3 19 rfl rfl)
theorem dX9_whatIs_90 : decode cX9_whatIs 90 = .ok (.iconst (-1), 1) := dk_2 (dk_at dksX9_whatIs_3 20 rfl rfl)
theorem dX9_whatIs_91 : decode cX9_whatIs 91 = .ok (.ixor, 1) := dk_130 (dk_at dksX9_whatIs_3 21 rfl rfl)
theorem dX9_whatIs_92 : decode cX9_whatIs 92 = .ok (.iand, 1) := dk_126 (dk_at dksX9_whatIs_3 22 rfl rfl)
theorem dX9_whatIs_93 : decode cX9_whatIs 93 = .ok (.iload_n 2, 1) := dk_28 (dk_at dksX9_whatIs_3 23 rfl rfl)
theorem dX9_whatIs_94 : decode cX9_whatIs 94 = .ok (.ifCond .ne 8, 3) := dk_154 0 8 (dk_at dksX9_whatIs_4 0 rfl rfl)
theorem dX9_whatIs_97 : decode cX9_whatIs 97 = .ok (.iload 4, 2) := dk_21 4 (dk_at dksX9_whatIs_4 3 rfl rfl)
theorem dX9_whatIs_99 : decode cX9_whatIs 99 = .ok (.goto 9, 3) := dk_167 0 9 (dk_at dksX9_whatIs_4 5 rfl rfl)
theorem dX9_whatIs_102 : decode cX9_whatIs 102 = .ok (.aload_n 0, 1) := dk_42 (dk_at dksX9_whatIs_4 8 rfl rfl)
theorem dX9_whatIs_103 : decode cX9_whatIs 103 = .ok (.getfield 14, 3) := dk_180 0 14 (dk_at dksX9_whatIs_4 9 rfl rfl)
theorem dX9_whatIs_106 : decode cX9_whatIs 106 = .ok (.iload_n 1, 1) := dk_27 (dk_at dksX9_whatIs_4 12 rfl rfl)
theorem dX9_whatIs_107 : decode cX9_whatIs 107 = .ok (.iaload, 1) := dk_46 (dk_at dksX9_whatIs_4 13 rfl rfl)
theorem dX9_whatIs_108 : decode cX9_whatIs 108 = .ok (.iload_n 2, 1) := dk_28 (dk_at dksX9_whatIs_4 14 rfl rfl)
theorem dX9_whatIs_109 : decode cX9_whatIs 109 = .ok (.iconst 1, 1) := dk_4 (dk_at dksX9_whatIs_4 15 rfl rfl)
theorem dX9_whatIs_110 : decode cX9_whatIs 110 = .ok (.if_icmp .ne 8, 3) := dk_160 0 8 (dk_at dksX9_whatIs_4 16 rfl rfl)
theorem dX9_whatIs_113 : decode cX9_whatIs 113 = .ok (.iload 4, 2) := dk_21 4 (dk_at dksX9_whatIs_4 19 rfl rfl)
theorem dX9_whatIs_115 : decode cX9_whatIs 115 = .ok (.goto 9, 3) := dk_167 0 9 (dk_at dksX9_whatIs_4 21 rfl rfl)
theorem dX9_whatIs_118 : decode cX9_whatIs 118 = .ok (.aload_n 0, 1) := dk_42 (dk_at dksX9_whatIs_5 0 rfl rfl)
theorem dX9_whatIs_119 : decode cX9_whatIs 119 = .ok (.getfield 18, 3) := dk_180 0 18 (dk_at dksX9_whatIs_5 1 rfl rfl)
theorem dX9_whatIs_122 : decode cX9_whatIs 122 = .ok (.iload_n 1, 1) := dk_27 (dk_at dksX9_whatIs_5 4 rfl rfl)
theorem dX9_whatIs_123 : decode cX9_whatIs 123 = .ok (.iaload, 1) := dk_46 (dk_at dksX9_whatIs_5 5 rfl rfl)
theorem dX9_whatIs_124 : decode cX9_whatIs 124 = .ok (.invokestatic 94, 3) := dk_184 0 94 (dk_at dksX9_whatIs_5 6 rfl rfl)
theorem dX9_whatIs_127 : decode cX9_whatIs 127 = .ok (.aload_n 0, 1) := dk_42 (dk_at dksX9_whatIs_5 9 rfl rfl)
theorem dX9_whatIs_128 : decode cX9_whatIs 128 = .ok (.getfield 36, 3) := dk_180 0 36 (dk_at dksX9_whatIs_5 10 rfl rfl)
theorem dX9_whatIs_131 : decode cX9_whatIs 131 = .ok (.iload 6, 2) := dk_21 6 (dk_at dksX9_whatIs_5 13 rfl rfl)
theorem dX9_whatIs_133 : decode cX9_whatIs 133 = .ok (.iaload, 1) := dk_46 (dk_at dksX9_whatIs_5 15 rfl rfl)
theorem dX9_whatIs_134 : decode cX9_whatIs 134 = .ok (.if_icmp .ne 7, 3) := dk_160 0 7 (dk_at dksX9_whatIs_5 16 rfl rfl)
theorem dX9_whatIs_137 : decode cX9_whatIs 137 = .ok (.iconst 1, 1) := dk_4 (dk_at dksX9_whatIs_5 19 rfl rfl)
theorem dX9_whatIs_138 : decode cX9_whatIs 138 = .ok (.goto 4, 3) := dk_167 0 4 (dk_at dksX9_whatIs_5 20 rfl rfl)
theorem dX9_whatIs_141 : decode cX9_whatIs 141 = .ok (.iconst 0, 1) := dk_3 (dk_at dksX9_whatIs_5 23 rfl rfl)
theorem dX9_whatIs_142 : decode cX9_whatIs 142 = .ok (.iand, 1) := dk_126 (dk_at dksX9_whatIs_6 0 rfl rfl)
theorem dX9_whatIs_143 : decode cX9_whatIs 143 = .ok (.istore 5, 2) := dk_54 5 (dk_at dksX9_whatIs_6 1 rfl rfl)
theorem dX9_whatIs_145 : decode cX9_whatIs 145 = .ok (.iinc 6 1, 3) := dk_132 6 1 (dk_at dksX9_whatIs_6 3 rfl rfl)
theorem dX9_whatIs_148 : decode cX9_whatIs 148 = .ok (.goto (-91), 3) := dk_167 255 165 (dk_at dksX9_whatIs_6 6 rfl rfl)
theorem dX9_whatIs_151 : decode cX9_whatIs 151 = .ok (.iload_n 3, 1) := dk_29 (dk_at dksX9_whatIs_6 9 rfl rfl)
theorem dX9_whatIs_152 : decode cX9_whatIs 152 = .ok (.iload 5, 2) := dk_21 5 (dk_at dksX9_whatIs_6 10 rfl rfl)
theorem dX9_whatIs_154 : decode cX9_whatIs 154 = .ok (.ifCond .eq 10, 3) := dk_153 0 10 (dk_at dksX9_whatIs_6 12 rfl rfl)
theorem dX9_whatIs_157 : decode cX9_whatIs 157 = .ok (.iconst 1, 1) := dk_4 (dk_at dksX9_whatIs_6 15 rfl rfl)
theorem dX9_whatIs_158 : decode cX9_whatIs 158 = .ok (.iload 4, 2) := dk_21 4 (dk_at dksX9_whatIs_6 16 rfl rfl)
theorem dX9_whatIs_160 : decode cX9_whatIs 160 = .ok (.ishl, 1) := dk_120 (dk_at dksX9_whatIs_6 18 rfl rfl)
theorem dX9_whatIs_161 : decode cX9_whatIs 161 = .ok (.goto 4, 3) := dk_167 0 4 (dk_at dksX9_whatIs_6 19 rfl rfl)
theorem dX9_whatIs_164 : decode cX9_whatIs 164 = .ok (.iconst 0, 1) := dk_3 (dk_at dksX9_whatIs_6 22 rfl rfl)
theorem dX9_whatIs_165 : decode cX9_whatIs 165 = .ok (.ior, 1) := dk_128 (dk_at dksX9_whatIs_6 23 rfl rfl)
theorem dX9_whatIs_166 : decode cX9_whatIs 166 = .ok (.istore_n 3, 1) := dk_62 (dk_at dksX9_whatIs_7 0 rfl rfl)
theorem dX9_whatIs_167 : decode cX9_whatIs 167 = .ok (.iinc 4 1, 3) := dk_132 4 1 (dk_at dksX9_whatIs_7 1 rfl rfl)
theorem dX9_whatIs_170 : decode cX9_whatIs 170 = .ok (.goto (-135), 3) := dk_167 255 121 (dk_at dksX9_whatIs_7 4 rfl rfl)
theorem dX9_whatIs_173 : decode cX9_whatIs 173 = .ok (.iload_n 3, 1) := dk_29 (dk_at dksX9_whatIs_7 7 rfl rfl)
theorem dX9_whatIs_174 : decode cX9_whatIs 174 = .ok (.ireturn, 1) := dk_172 (dk_at dksX9_whatIs_7 8 rfl rfl)
abbrev cX9_row : ByteArray := prog_21_method_79_code
def yX9_row : MethodName := ⟨RX9, "row", "(I)I"⟩
def dkwX9_row_2 : List UInt8 := [4, 96, 181, 0, 236, 42, 180, 0, 236, 172]
abbrev dktX9_row_2 : List UInt8 := dkwX9_row_2 ++ []
def dkwX9_row_1 : List UInt8 := [153, 0, 9, 42, 28, 182, 0, 52, 172, 42, 180, 0, 36, 42, 180, 0, 236, 27, 79, 42, 89, 180, 0, 236]
abbrev dktX9_row_1 : List UInt8 := dkwX9_row_1 ++ dktX9_row_2
def dkwX9_row_0 : List UInt8 := [27, 16, 99, 184, 0, 171, 61, 28, 154, 0, 15, 42, 180, 0, 236, 16, 16, 160, 0, 6, 16, 250, 61, 28]
abbrev dktX9_row_0 : List UInt8 := dkwX9_row_0 ++ dktX9_row_1
theorem dksX9_row_0 : cX9_row.data.toList.drop 0 = dktX9_row_0 := by decide +kernel
theorem dksX9_row_1 : cX9_row.data.toList.drop 24 = dktX9_row_1 := dk_seg dksX9_row_0 24 rfl rfl
theorem dksX9_row_2 : cX9_row.data.toList.drop 48 = dktX9_row_2 := dk_seg dksX9_row_1 24 rfl rfl
theorem dX9_row_0 : decode cX9_row 0 = .ok (.iload_n 1, 1) := dk_27 (dk_at dksX9_row_0 0 rfl rfl)
theorem dX9_row_1 : decode cX9_row 1 = .ok (.bipush 99, 2) := dk_16 99 (dk_at dksX9_row_0 1 rfl rfl)
theorem dX9_row_3 : decode cX9_row 3 = .ok (.invokestatic 171, 3) := dk_184 0 171 (dk_at dksX9_row_0 3 rfl rfl)
theorem dX9_row_6 : decode cX9_row 6 = .ok (.istore_n 2, 1) := dk_61 (dk_at dksX9_row_0 6 rfl rfl)
theorem dX9_row_7 : decode cX9_row 7 = .ok (.iload_n 2, 1) := dk_28 (dk_at dksX9_row_0 7 rfl rfl)
theorem dX9_row_8 : decode cX9_row 8 = .ok (.ifCond .ne 15, 3) := dk_154 0 15 (dk_at dksX9_row_0 8 rfl rfl)
theorem dX9_row_11 : decode cX9_row 11 = .ok (.aload_n 0, 1) := dk_42 (dk_at dksX9_row_0 11 rfl rfl)
theorem dX9_row_12 : decode cX9_row 12 = .ok (.getfield 236, 3) := dk_180 0 236 (dk_at dksX9_row_0 12 rfl rfl)
theorem dX9_row_15 : decode cX9_row 15 = .ok (.bipush 16, 2) := dk_16 16 (dk_at dksX9_row_0 15 rfl rfl)
theorem dX9_row_17 : decode cX9_row 17 = .ok (.if_icmp .ne 6, 3) := dk_160 0 6 (dk_at dksX9_row_0 17 rfl rfl)
theorem dX9_row_20 : decode cX9_row 20 = .ok (.bipush (-6), 2) := dk_16 250 (dk_at dksX9_row_0 20 rfl rfl)
theorem dX9_row_22 : decode cX9_row 22 = .ok (.istore_n 2, 1) := dk_61 (dk_at dksX9_row_0 22 rfl rfl)
theorem dX9_row_23 : decode cX9_row 23 = .ok (.iload_n 2, 1) := dk_28 (dk_at dksX9_row_0 23 rfl rfl)
theorem dX9_row_24 : decode cX9_row 24 = .ok (.ifCond .eq 9, 3) := dk_153 0 9 (dk_at dksX9_row_1 0 rfl rfl)
theorem dX9_row_27 : decode cX9_row 27 = .ok (.aload_n 0, 1) := dk_42 (dk_at dksX9_row_1 3 rfl rfl)
theorem dX9_row_28 : decode cX9_row 28 = .ok (.iload_n 2, 1) := dk_28 (dk_at dksX9_row_1 4 rfl rfl)
theorem dX9_row_29 : decode cX9_row 29 = .ok (.invokevirtual 52, 3) := dk_182 0 52 (dk_at dksX9_row_1 5 rfl rfl)
theorem dX9_row_32 : decode cX9_row 32 = .ok (.ireturn, 1) := dk_172 (dk_at dksX9_row_1 8 rfl rfl)
theorem dX9_row_33 : decode cX9_row 33 = .ok (.aload_n 0, 1) := dk_42 (dk_at dksX9_row_1 9 rfl rfl)
theorem dX9_row_34 : decode cX9_row 34 = .ok (.getfield 36, 3) := dk_180 0 36 (dk_at dksX9_row_1 10 rfl rfl)
theorem dX9_row_37 : decode cX9_row 37 = .ok (.aload_n 0, 1) := dk_42 (dk_at dksX9_row_1 13 rfl rfl)
theorem dX9_row_38 : decode cX9_row 38 = .ok (.getfield 236, 3) := dk_180 0 236 (dk_at dksX9_row_1 14 rfl rfl)
theorem dX9_row_41 : decode cX9_row 41 = .ok (.iload_n 1, 1) := dk_27 (dk_at dksX9_row_1 17 rfl rfl)
theorem dX9_row_42 : decode cX9_row 42 = .ok (.iastore, 1) := dk_79 (dk_at dksX9_row_1 18 rfl rfl)
theorem dX9_row_43 : decode cX9_row 43 = .ok (.aload_n 0, 1) := dk_42 (dk_at dksX9_row_1 19 rfl rfl)
theorem dX9_row_44 : decode cX9_row 44 = .ok (.dup, 1) := dk_89 (dk_at dksX9_row_1 20 rfl rfl)
theorem dX9_row_45 : decode cX9_row 45 = .ok (.getfield 236, 3) := dk_180 0 236 (dk_at dksX9_row_1 21 rfl rfl)
theorem dX9_row_48 : decode cX9_row 48 = .ok (.iconst 1, 1) := dk_4 (dk_at dksX9_row_2 0 rfl rfl)
theorem dX9_row_49 : decode cX9_row 49 = .ok (.iadd, 1) := dk_96 (dk_at dksX9_row_2 1 rfl rfl)
theorem dX9_row_50 : decode cX9_row 50 = .ok (.putfield 236, 3) := dk_181 0 236 (dk_at dksX9_row_2 2 rfl rfl)
theorem dX9_row_53 : decode cX9_row 53 = .ok (.aload_n 0, 1) := dk_42 (dk_at dksX9_row_2 5 rfl rfl)
theorem dX9_row_54 : decode cX9_row 54 = .ok (.getfield 236, 3) := dk_180 0 236 (dk_at dksX9_row_2 6 rfl rfl)
theorem dX9_row_57 : decode cX9_row 57 = .ok (.ireturn, 1) := dk_172 (dk_at dksX9_row_2 9 rfl rfl)
abbrev cX9_judge : ByteArray := prog_21_method_80_code
def yX9_judge : MethodName := ⟨RX9, "judge", "()I"⟩
def dkwX9_judge_2 : List UInt8 := [132, 2, 1, 167, 255, 220, 16, 247, 172]
abbrev dktX9_judge_2 : List UInt8 := dkwX9_judge_2 ++ []
def dkwX9_judge_1 : List UInt8 := [153, 0, 21, 42, 42, 180, 0, 10, 28, 182, 0, 98, 42, 180, 0, 36, 28, 46, 159, 0, 5, 28, 172]
abbrev dktX9_judge_1 : List UInt8 := dkwX9_judge_1 ++ dktX9_judge_2
def dkwX9_judge_0 : List UInt8 := [42, 180, 0, 236, 60, 42, 3, 181, 0, 236, 3, 61, 28, 27, 162, 0, 37, 42, 28, 182, 0, 168]
abbrev dktX9_judge_0 : List UInt8 := dkwX9_judge_0 ++ dktX9_judge_1
theorem dksX9_judge_0 : cX9_judge.data.toList.drop 0 = dktX9_judge_0 := by decide +kernel
theorem dksX9_judge_1 : cX9_judge.data.toList.drop 22 = dktX9_judge_1 := dk_seg dksX9_judge_0 22 rfl rfl
theorem dksX9_judge_2 : cX9_judge.data.toList.drop 45 = dktX9_judge_2 := dk_seg dksX9_judge_1 23 rfl rfl
theorem dX9_judge_0 : decode cX9_judge 0 = .ok (.aload_n 0, 1) := dk_42 (dk_at dksX9_judge_0 0 rfl rfl)
theorem dX9_judge_1 : decode cX9_judge 1 = .ok (.getfield 236, 3) := dk_180 0 236 (dk_at dksX9_judge_0 1 rfl rfl)
theorem dX9_judge_4 : decode cX9_judge 4 = .ok (.istore_n 1, 1) := dk_60 (dk_at dksX9_judge_0 4 rfl rfl)
theorem dX9_judge_5 : decode cX9_judge 5 = .ok (.aload_n 0, 1) := dk_42 (dk_at dksX9_judge_0 5 rfl rfl)
theorem dX9_judge_6 : decode cX9_judge 6 = .ok (.iconst 0, 1) := dk_3 (dk_at dksX9_judge_0 6 rfl rfl)
theorem dX9_judge_7 : decode cX9_judge 7 = .ok (.putfield 236, 3) := dk_181 0 236 (dk_at dksX9_judge_0 7 rfl rfl)
theorem dX9_judge_10 : decode cX9_judge 10 = .ok (.iconst 0, 1) := dk_3 (dk_at dksX9_judge_0 10 rfl rfl)
theorem dX9_judge_11 : decode cX9_judge 11 = .ok (.istore_n 2, 1) := dk_61 (dk_at dksX9_judge_0 11 rfl rfl)
theorem dX9_judge_12 : decode cX9_judge 12 = .ok (.iload_n 2, 1) := dk_28 (dk_at dksX9_judge_0 12 rfl rfl)
theorem dX9_judge_13 : decode cX9_judge 13 = .ok (.iload_n 1, 1) := dk_27 (dk_at dksX9_judge_0 13 rfl rfl)
theorem dX9_judge_14 : decode cX9_judge 14 = .ok (.if_icmp .ge 37, 3) := dk_162 0 37 (dk_at dksX9_judge_0 14 rfl rfl)
theorem dX9_judge_17 : decode cX9_judge 17 = .ok (.aload_n 0, 1) := dk_42 (dk_at dksX9_judge_0 17 rfl rfl)
theorem dX9_judge_18 : decode cX9_judge 18 = .ok (.iload_n 2, 1) := dk_28 (dk_at dksX9_judge_0 18 rfl rfl)
theorem dX9_judge_19 : decode cX9_judge 19 = .ok (.invokevirtual 168, 3) := dk_182 0 168 (dk_at dksX9_judge_0 19 rfl rfl)
theorem dX9_judge_22 : decode cX9_judge 22 = .ok (.ifCond .eq 21, 3) := dk_153 0 21 (dk_at dksX9_judge_1 0 rfl rfl)
theorem dX9_judge_25 : decode cX9_judge 25 = .ok (.aload_n 0, 1) := dk_42 (dk_at dksX9_judge_1 3 rfl rfl)
theorem dX9_judge_26 : decode cX9_judge 26 = .ok (.aload_n 0, 1) := dk_42 (dk_at dksX9_judge_1 4 rfl rfl)
theorem dX9_judge_27 : decode cX9_judge 27 = .ok (.getfield 10, 3) := dk_180 0 10 (dk_at dksX9_judge_1 5 rfl rfl)
theorem dX9_judge_30 : decode cX9_judge 30 = .ok (.iload_n 2, 1) := dk_28 (dk_at dksX9_judge_1 8 rfl rfl)
theorem dX9_judge_31 : decode cX9_judge 31 = .ok (.invokevirtual 98, 3) := dk_182 0 98 (dk_at dksX9_judge_1 9 rfl rfl)
theorem dX9_judge_34 : decode cX9_judge 34 = .ok (.aload_n 0, 1) := dk_42 (dk_at dksX9_judge_1 12 rfl rfl)
theorem dX9_judge_35 : decode cX9_judge 35 = .ok (.getfield 36, 3) := dk_180 0 36 (dk_at dksX9_judge_1 13 rfl rfl)
theorem dX9_judge_38 : decode cX9_judge 38 = .ok (.iload_n 2, 1) := dk_28 (dk_at dksX9_judge_1 16 rfl rfl)
theorem dX9_judge_39 : decode cX9_judge 39 = .ok (.iaload, 1) := dk_46 (dk_at dksX9_judge_1 17 rfl rfl)
theorem dX9_judge_40 : decode cX9_judge 40 = .ok (.if_icmp .eq 5, 3) := dk_159 0 5 (dk_at dksX9_judge_1 18 rfl rfl)
theorem dX9_judge_43 : decode cX9_judge 43 = .ok (.iload_n 2, 1) := dk_28 (dk_at dksX9_judge_1 21 rfl rfl)
theorem dX9_judge_44 : decode cX9_judge 44 = .ok (.ireturn, 1) := dk_172 (dk_at dksX9_judge_1 22 rfl rfl)
theorem dX9_judge_45 : decode cX9_judge 45 = .ok (.iinc 2 1, 3) := dk_132 2 1 (dk_at dksX9_judge_2 0 rfl rfl)
theorem dX9_judge_48 : decode cX9_judge 48 = .ok (.goto (-36), 3) := dk_167 255 220 (dk_at dksX9_judge_2 3 rfl rfl)
theorem dX9_judge_51 : decode cX9_judge 51 = .ok (.bipush (-9), 2) := dk_16 247 (dk_at dksX9_judge_2 6 rfl rfl)
theorem dX9_judge_53 : decode cX9_judge 53 = .ok (.ireturn, 1) := dk_172 (dk_at dksX9_judge_2 8 rfl rfl)
abbrev cX9_clear : ByteArray := prog_21_method_81_code
def yX9_clear : MethodName := ⟨RX9, "clear", "()I"⟩
def dkwX9_clear_0 : List UInt8 := [42, 180, 0, 236, 60, 42, 3, 181, 0, 236, 27, 172]
abbrev dktX9_clear_0 : List UInt8 := dkwX9_clear_0 ++ []
theorem dksX9_clear_0 : cX9_clear.data.toList.drop 0 = dktX9_clear_0 := by decide +kernel
theorem dX9_clear_0 : decode cX9_clear 0 = .ok (.aload_n 0, 1) := dk_42 (dk_at dksX9_clear_0 0 rfl rfl)
theorem dX9_clear_1 : decode cX9_clear 1 = .ok (.getfield 236, 3) := dk_180 0 236 (dk_at dksX9_clear_0 1 rfl rfl)
theorem dX9_clear_4 : decode cX9_clear 4 = .ok (.istore_n 1, 1) := dk_60 (dk_at dksX9_clear_0 4 rfl rfl)
theorem dX9_clear_5 : decode cX9_clear 5 = .ok (.aload_n 0, 1) := dk_42 (dk_at dksX9_clear_0 5 rfl rfl)
theorem dX9_clear_6 : decode cX9_clear 6 = .ok (.iconst 0, 1) := dk_3 (dk_at dksX9_clear_0 6 rfl rfl)
theorem dX9_clear_7 : decode cX9_clear 7 = .ok (.putfield 236, 3) := dk_181 0 236 (dk_at dksX9_clear_0 7 rfl rfl)
theorem dX9_clear_10 : decode cX9_clear 10 = .ok (.iload_n 1, 1) := dk_27 (dk_at dksX9_clear_0 10 rfl rfl)
theorem dX9_clear_11 : decode cX9_clear 11 = .ok (.ireturn, 1) := dk_172 (dk_at dksX9_clear_0 11 rfl rfl)
abbrev cX9_lots : ByteArray := prog_21_method_83_code
def yX9_lots : MethodName := ⟨RX9, "lots", "(III)I"⟩
def dkwX9_lots_7 : List UInt8 := [172]
abbrev dktX9_lots_7 : List UInt8 := dkwX9_lots_7 ++ []
def dkwX9_lots_6 : List UInt8 := [21, 6, 184, 0, 85, 154, 0, 7, 4, 167, 0, 4, 3, 96, 54, 4, 132, 5, 1, 167, 255, 148, 21, 4]
abbrev dktX9_lots_6 : List UInt8 := dkwX9_lots_6 ++ dktX9_lots_7
def dkwX9_lots_5 : List UInt8 := [54, 6, 132, 7, 1, 167, 255, 200, 21, 4, 29, 154, 0, 12, 42, 21, 6, 182, 0, 174, 167, 0, 16]
abbrev dktX9_lots_5 : List UInt8 := dkwX9_lots_5 ++ dktX9_lots_6
def dkwX9_lots_4 : List UInt8 := [184, 0, 134, 153, 0, 18, 21, 6, 21, 8, 21, 9, 184, 0, 65, 2, 130, 126, 167, 0, 5, 21, 6]
abbrev dktX9_lots_4 : List UInt8 := dkwX9_lots_4 ++ dktX9_lots_5
def dkwX9_lots_3 : List UInt8 := [162, 0, 55, 42, 7, 182, 0, 245, 54, 8, 42, 16, 25, 182, 0, 245, 54, 9, 21, 6, 21, 8, 21, 9]
abbrev dktX9_lots_3 : List UInt8 := dkwX9_lots_3 ++ dktX9_lots_4
def dkwX9_lots_2 : List UInt8 := [54, 4, 3, 54, 5, 21, 5, 27, 162, 0, 108, 42, 180, 0, 10, 54, 6, 3, 54, 7, 21, 7, 16, 6]
abbrev dktX9_lots_2 : List UInt8 := dkwX9_lots_2 ++ dktX9_lots_3
def dkwX9_lots_1 : List UInt8 := [172, 29, 3, 4, 184, 0, 58, 154, 0, 10, 42, 16, 254, 182, 0, 52, 172, 42, 28, 181, 0, 239, 3]
abbrev dktX9_lots_1 : List UInt8 := dkwX9_lots_1 ++ dktX9_lots_2
def dkwX9_lots_0 : List UInt8 := [27, 4, 162, 0, 10, 42, 16, 252, 182, 0, 52, 172, 27, 16, 20, 164, 0, 10, 42, 16, 250, 182, 0, 52]
abbrev dktX9_lots_0 : List UInt8 := dkwX9_lots_0 ++ dktX9_lots_1
theorem dksX9_lots_0 : cX9_lots.data.toList.drop 0 = dktX9_lots_0 := by decide +kernel
theorem dksX9_lots_1 : cX9_lots.data.toList.drop 24 = dktX9_lots_1 := dk_seg dksX9_lots_0 24 rfl rfl
theorem dksX9_lots_2 : cX9_lots.data.toList.drop 47 = dktX9_lots_2 := dk_seg dksX9_lots_1 23 rfl rfl
theorem dksX9_lots_3 : cX9_lots.data.toList.drop 71 = dktX9_lots_3 := dk_seg dksX9_lots_2 24 rfl rfl
theorem dksX9_lots_4 : cX9_lots.data.toList.drop 95 = dktX9_lots_4 := dk_seg dksX9_lots_3 24 rfl rfl
theorem dksX9_lots_5 : cX9_lots.data.toList.drop 118 = dktX9_lots_5 := dk_seg dksX9_lots_4 23 rfl rfl
theorem dksX9_lots_6 : cX9_lots.data.toList.drop 141 = dktX9_lots_6 := dk_seg dksX9_lots_5 23 rfl rfl
theorem dksX9_lots_7 : cX9_lots.data.toList.drop 165 = dktX9_lots_7 := dk_seg dksX9_lots_6 24 rfl rfl
theorem dX9_lots_0 : decode cX9_lots 0 = .ok (.iload_n 1, 1) := dk_27 (dk_at dksX9_lots_0 0 rfl rfl)
theorem dX9_lots_1 : decode cX9_lots 1 = .ok (.iconst 1, 1) := dk_4 (dk_at dksX9_lots_0 1 rfl rfl)
theorem dX9_lots_2 : decode cX9_lots 2 = .ok (.if_icmp .ge 10, 3) := dk_162 0 10 (dk_at dksX9_lots_0 2 rfl rfl)
theorem dX9_lots_5 : decode cX9_lots 5 = .ok (.aload_n 0, 1) := dk_42 (dk_at dksX9_lots_0 5 rfl rfl)
theorem dX9_lots_6 : decode cX9_lots 6 = .ok (.bipush (-4), 2) := dk_16 252 (dk_at dksX9_lots_0 6 rfl rfl)
theorem dX9_lots_8 : decode cX9_lots 8 = .ok (.invokevirtual 52, 3) := dk_182 0 52 (dk_at dksX9_lots_0 8 rfl rfl)
theorem dX9_lots_11 : decode cX9_lots 11 = .ok (.ireturn, 1) := dk_172 (dk_at dksX9_lots_0 11 rfl rfl)
theorem dX9_lots_12 : decode cX9_lots 12 = .ok (.iload_n 1, 1) := dk_27 (dk_at dksX9_lots_0 12 rfl rfl)
theorem dX9_lots_13 : decode cX9_lots 13 = .ok (.bipush 20, 2) := dk_16 20 (dk_at dksX9_lots_0 13 rfl rfl)
theorem dX9_lots_15 : decode cX9_lots 15 = .ok (.if_icmp .le 10, 3) := dk_164 0 10 (dk_at dksX9_lots_0 15 rfl rfl)
theorem dX9_lots_18 : decode cX9_lots 18 = .ok (.aload_n 0, 1) := dk_42 (dk_at dksX9_lots_0 18 rfl rfl)
theorem dX9_lots_19 : decode cX9_lots 19 = .ok (.bipush (-6), 2) := dk_16 250 (dk_at dksX9_lots_0 19 rfl rfl)
theorem dX9_lots_21 : decode cX9_lots 21 = .ok (.invokevirtual 52, 3) := dk_182 0 52 (dk_at dksX9_lots_0 21 rfl rfl)
theorem dX9_lots_24 : decode cX9_lots 24 = .ok (.ireturn, 1) := dk_172 (dk_at dksX9_lots_1 0 rfl rfl)
theorem dX9_lots_25 : decode cX9_lots 25 = .ok (.iload_n 3, 1) := dk_29 (dk_at dksX9_lots_1 1 rfl rfl)
theorem dX9_lots_26 : decode cX9_lots 26 = .ok (.iconst 0, 1) := dk_3 (dk_at dksX9_lots_1 2 rfl rfl)
theorem dX9_lots_27 : decode cX9_lots 27 = .ok (.iconst 1, 1) := dk_4 (dk_at dksX9_lots_1 3 rfl rfl)
theorem dX9_lots_28 : decode cX9_lots 28 = .ok (.invokestatic 58, 3) := dk_184 0 58 (dk_at dksX9_lots_1 4 rfl rfl)
theorem dX9_lots_31 : decode cX9_lots 31 = .ok (.ifCond .ne 10, 3) := dk_154 0 10 (dk_at dksX9_lots_1 7 rfl rfl)
theorem dX9_lots_34 : decode cX9_lots 34 = .ok (.aload_n 0, 1) := dk_42 (dk_at dksX9_lots_1 10 rfl rfl)
theorem dX9_lots_35 : decode cX9_lots 35 = .ok (.bipush (-2), 2) := dk_16 254 (dk_at dksX9_lots_1 11 rfl rfl)
theorem dX9_lots_37 : decode cX9_lots 37 = .ok (.invokevirtual 52, 3) := dk_182 0 52 (dk_at dksX9_lots_1 13 rfl rfl)
theorem dX9_lots_40 : decode cX9_lots 40 = .ok (.ireturn, 1) := dk_172 (dk_at dksX9_lots_1 16 rfl rfl)
theorem dX9_lots_41 : decode cX9_lots 41 = .ok (.aload_n 0, 1) := dk_42 (dk_at dksX9_lots_1 17 rfl rfl)
theorem dX9_lots_42 : decode cX9_lots 42 = .ok (.iload_n 2, 1) := dk_28 (dk_at dksX9_lots_1 18 rfl rfl)
theorem dX9_lots_43 : decode cX9_lots 43 = .ok (.putfield 239, 3) := dk_181 0 239 (dk_at dksX9_lots_1 19 rfl rfl)
theorem dX9_lots_46 : decode cX9_lots 46 = .ok (.iconst 0, 1) := dk_3 (dk_at dksX9_lots_1 22 rfl rfl)
theorem dX9_lots_47 : decode cX9_lots 47 = .ok (.istore 4, 2) := dk_54 4 (dk_at dksX9_lots_2 0 rfl rfl)
theorem dX9_lots_49 : decode cX9_lots 49 = .ok (.iconst 0, 1) := dk_3 (dk_at dksX9_lots_2 2 rfl rfl)
theorem dX9_lots_50 : decode cX9_lots 50 = .ok (.istore 5, 2) := dk_54 5 (dk_at dksX9_lots_2 3 rfl rfl)
theorem dX9_lots_52 : decode cX9_lots 52 = .ok (.iload 5, 2) := dk_21 5 (dk_at dksX9_lots_2 5 rfl rfl)
theorem dX9_lots_54 : decode cX9_lots 54 = .ok (.iload_n 1, 1) := dk_27 (dk_at dksX9_lots_2 7 rfl rfl)
theorem dX9_lots_55 : decode cX9_lots 55 = .ok (.if_icmp .ge 108, 3) := dk_162 0 108 (dk_at dksX9_lots_2 8 rfl rfl)
theorem dX9_lots_58 : decode cX9_lots 58 = .ok (.aload_n 0, 1) := dk_42 (dk_at dksX9_lots_2 11 rfl rfl)
theorem dX9_lots_59 : decode cX9_lots 59 = .ok (.getfield 10, 3) := dk_180 0 10 (dk_at dksX9_lots_2 12 rfl rfl)
theorem dX9_lots_62 : decode cX9_lots 62 = .ok (.istore 6, 2) := dk_54 6 (dk_at dksX9_lots_2 15 rfl rfl)
theorem dX9_lots_64 : decode cX9_lots 64 = .ok (.iconst 0, 1) := dk_3 (dk_at dksX9_lots_2 17 rfl rfl)
theorem dX9_lots_65 : decode cX9_lots 65 = .ok (.istore 7, 2) := dk_54 7 (dk_at dksX9_lots_2 18 rfl rfl)
theorem dX9_lots_67 : decode cX9_lots 67 = .ok (.iload 7, 2) := dk_21 7 (dk_at dksX9_lots_2 20 rfl rfl)
theorem dX9_lots_69 : decode cX9_lots 69 = .ok (.bipush 6, 2) := dk_16 6 (dk_at dksX9_lots_2 22 rfl rfl)
theorem dX9_lots_71 : decode cX9_lots 71 = .ok (.if_icmp .ge 55, 3) := dk_162 0 55 (dk_at dksX9_lots_3 0 rfl rfl)
theorem dX9_lots_74 : decode cX9_lots 74 = .ok (.aload_n 0, 1) := dk_42 (dk_at dksX9_lots_3 3 rfl rfl)
theorem dX9_lots_75 : decode cX9_lots 75 = .ok (.iconst 4, 1) := dk_7 (dk_at dksX9_lots_3 4 rfl rfl)
theorem dX9_lots_76 : decode cX9_lots 76 = .ok (.invokevirtual 245, 3) := dk_182 0 245 (dk_at dksX9_lots_3 5 rfl rfl)
theorem dX9_lots_79 : decode cX9_lots 79 = .ok (.istore 8, 2) := dk_54 8 (dk_at dksX9_lots_3 8 rfl rfl)
theorem dX9_lots_81 : decode cX9_lots 81 = .ok (.aload_n 0, 1) := dk_42 (dk_at dksX9_lots_3 10 rfl rfl)
theorem dX9_lots_82 : decode cX9_lots 82 = .ok (.bipush 25, 2) := dk_16 25 (dk_at dksX9_lots_3 11 rfl rfl)
theorem dX9_lots_84 : decode cX9_lots 84 = .ok (.invokevirtual 245, 3) := dk_182 0 245 (dk_at dksX9_lots_3 13 rfl rfl)
theorem dX9_lots_87 : decode cX9_lots 87 = .ok (.istore 9, 2) := dk_54 9 (dk_at dksX9_lots_3 16 rfl rfl)
theorem dX9_lots_89 : decode cX9_lots 89 = .ok (.iload 6, 2) := dk_21 6 (dk_at dksX9_lots_3 18 rfl rfl)
theorem dX9_lots_91 : decode cX9_lots 91 = .ok (.iload 8, 2) := dk_21 8 (dk_at dksX9_lots_3 20 rfl rfl)
theorem dX9_lots_93 : decode cX9_lots 93 = .ok (.iload 9, 2) := dk_21 9 (dk_at dksX9_lots_3 22 rfl rfl)
theorem dX9_lots_95 : decode cX9_lots 95 = .ok (.invokestatic 134, 3) := dk_184 0 134 (dk_at dksX9_lots_4 0 rfl rfl)
theorem dX9_lots_98 : decode cX9_lots 98 = .ok (.ifCond .eq 18, 3) := dk_153 0 18 (dk_at dksX9_lots_4 3 rfl rfl)
theorem dX9_lots_101 : decode cX9_lots 101 = .ok (.iload 6, 2) := dk_21 6 (dk_at dksX9_lots_4 6 rfl rfl)
theorem dX9_lots_103 : decode cX9_lots 103 = .ok (.iload 8, 2) := dk_21 8 (dk_at dksX9_lots_4 8 rfl rfl)
theorem dX9_lots_105 : decode cX9_lots 105 = .ok (.iload 9, 2) := dk_21 9 (dk_at dksX9_lots_4 10 rfl rfl)
theorem dX9_lots_107 : decode cX9_lots 107 = .ok (.invokestatic 65, 3) := dk_184 0 65 (dk_at dksX9_lots_4 12 rfl rfl)
theorem dX9_lots_110 : decode cX9_lots 110 = .ok (.iconst (-1), 1) := dk_2 (dk_at dksX9_lots_4 15 rfl rfl)
theorem dX9_lots_111 : decode cX9_lots 111 = .ok (.ixor, 1) := dk_130 (dk_at dksX9_lots_4 16 rfl rfl)
theorem dX9_lots_112 : decode cX9_lots 112 = .ok (.iand, 1) := dk_126 (dk_at dksX9_lots_4 17 rfl rfl)
theorem dX9_lots_113 : decode cX9_lots 113 = .ok (.goto 5, 3) := dk_167 0 5 (dk_at dksX9_lots_4 18 rfl rfl)
theorem dX9_lots_116 : decode cX9_lots 116 = .ok (.iload 6, 2) := dk_21 6 (dk_at dksX9_lots_4 21 rfl rfl)
theorem dX9_lots_118 : decode cX9_lots 118 = .ok (.istore 6, 2) := dk_54 6 (dk_at dksX9_lots_5 0 rfl rfl)
theorem dX9_lots_120 : decode cX9_lots 120 = .ok (.iinc 7 1, 3) := dk_132 7 1 (dk_at dksX9_lots_5 2 rfl rfl)
theorem dX9_lots_123 : decode cX9_lots 123 = .ok (.goto (-56), 3) := dk_167 255 200 (dk_at dksX9_lots_5 5 rfl rfl)
theorem dX9_lots_126 : decode cX9_lots 126 = .ok (.iload 4, 2) := dk_21 4 (dk_at dksX9_lots_5 8 rfl rfl)
theorem dX9_lots_128 : decode cX9_lots 128 = .ok (.iload_n 3, 1) := dk_29 (dk_at dksX9_lots_5 10 rfl rfl)
theorem dX9_lots_129 : decode cX9_lots 129 = .ok (.ifCond .ne 12, 3) := dk_154 0 12 (dk_at dksX9_lots_5 11 rfl rfl)
theorem dX9_lots_132 : decode cX9_lots 132 = .ok (.aload_n 0, 1) := dk_42 (dk_at dksX9_lots_5 14 rfl rfl)
theorem dX9_lots_133 : decode cX9_lots 133 = .ok (.iload 6, 2) := dk_21 6 (dk_at dksX9_lots_5 15 rfl rfl)
theorem dX9_lots_135 : decode cX9_lots 135 = .ok (.invokevirtual 174, 3) := dk_182 0 174 (dk_at dksX9_lots_5 17 rfl rfl)
theorem dX9_lots_138 : decode cX9_lots 138 = .ok (.goto 16, 3) := dk_167 0 16 (dk_at dksX9_lots_5 20 rfl rfl)
theorem dX9_lots_141 : decode cX9_lots 141 = .ok (.iload 6, 2) := dk_21 6 (dk_at dksX9_lots_6 0 rfl rfl)
theorem dX9_lots_143 : decode cX9_lots 143 = .ok (.invokestatic 85, 3) := dk_184 0 85 (dk_at dksX9_lots_6 2 rfl rfl)
theorem dX9_lots_146 : decode cX9_lots 146 = .ok (.ifCond .ne 7, 3) := dk_154 0 7 (dk_at dksX9_lots_6 5 rfl rfl)
theorem dX9_lots_149 : decode cX9_lots 149 = .ok (.iconst 1, 1) := dk_4 (dk_at dksX9_lots_6 8 rfl rfl)
theorem dX9_lots_150 : decode cX9_lots 150 = .ok (.goto 4, 3) := dk_167 0 4 (dk_at dksX9_lots_6 9 rfl rfl)
theorem dX9_lots_153 : decode cX9_lots 153 = .ok (.iconst 0, 1) := dk_3 (dk_at dksX9_lots_6 12 rfl rfl)
theorem dX9_lots_154 : decode cX9_lots 154 = .ok (.iadd, 1) := dk_96 (dk_at dksX9_lots_6 13 rfl rfl)
theorem dX9_lots_155 : decode cX9_lots 155 = .ok (.istore 4, 2) := dk_54 4 (dk_at dksX9_lots_6 14 rfl rfl)
theorem dX9_lots_157 : decode cX9_lots 157 = .ok (.iinc 5 1, 3) := dk_132 5 1 (dk_at dksX9_lots_6 16 rfl rfl)
theorem dX9_lots_160 : decode cX9_lots 160 = .ok (.goto (-108), 3) := dk_167 255 148 (dk_at dksX9_lots_6 19 rfl rfl)
theorem dX9_lots_163 : decode cX9_lots 163 = .ok (.iload 4, 2) := dk_21 4 (dk_at dksX9_lots_6 22 rfl rfl)
theorem dX9_lots_165 : decode cX9_lots 165 = .ok (.ireturn, 1) := dk_172 (dk_at dksX9_lots_7 0 rfl rfl)
abbrev cX9_drawn : ByteArray := prog_21_method_82_code
def yX9_drawn : MethodName := ⟨RX9, "drawn", "(I)I"⟩
def dkwX9_drawn_1 : List UInt8 := [108, 27, 112, 172]
abbrev dktX9_drawn_1 : List UInt8 := dkwX9_drawn_1 ++ []
def dkwX9_drawn_0 : List UInt8 := [42, 42, 180, 0, 239, 18, 242, 104, 18, 243, 96, 181, 0, 239, 42, 180, 0, 239, 18, 244, 126, 17, 1, 0]
abbrev dktX9_drawn_0 : List UInt8 := dkwX9_drawn_0 ++ dktX9_drawn_1
theorem dksX9_drawn_0 : cX9_drawn.data.toList.drop 0 = dktX9_drawn_0 := by decide +kernel
theorem dksX9_drawn_1 : cX9_drawn.data.toList.drop 24 = dktX9_drawn_1 := dk_seg dksX9_drawn_0 24 rfl rfl
theorem dX9_drawn_0 : decode cX9_drawn 0 = .ok (.aload_n 0, 1) := dk_42 (dk_at dksX9_drawn_0 0 rfl rfl)
theorem dX9_drawn_1 : decode cX9_drawn 1 = .ok (.aload_n 0, 1) := dk_42 (dk_at dksX9_drawn_0 1 rfl rfl)
theorem dX9_drawn_2 : decode cX9_drawn 2 = .ok (.getfield 239, 3) := dk_180 0 239 (dk_at dksX9_drawn_0 2 rfl rfl)
theorem dX9_drawn_5 : decode cX9_drawn 5 = .ok (.ldc 242, 2) := dk_18 242 (dk_at dksX9_drawn_0 5 rfl rfl)
theorem dX9_drawn_7 : decode cX9_drawn 7 = .ok (.imul, 1) := dk_104 (dk_at dksX9_drawn_0 7 rfl rfl)
theorem dX9_drawn_8 : decode cX9_drawn 8 = .ok (.ldc 243, 2) := dk_18 243 (dk_at dksX9_drawn_0 8 rfl rfl)
theorem dX9_drawn_10 : decode cX9_drawn 10 = .ok (.iadd, 1) := dk_96 (dk_at dksX9_drawn_0 10 rfl rfl)
theorem dX9_drawn_11 : decode cX9_drawn 11 = .ok (.putfield 239, 3) := dk_181 0 239 (dk_at dksX9_drawn_0 11 rfl rfl)
theorem dX9_drawn_14 : decode cX9_drawn 14 = .ok (.aload_n 0, 1) := dk_42 (dk_at dksX9_drawn_0 14 rfl rfl)
theorem dX9_drawn_15 : decode cX9_drawn 15 = .ok (.getfield 239, 3) := dk_180 0 239 (dk_at dksX9_drawn_0 15 rfl rfl)
theorem dX9_drawn_18 : decode cX9_drawn 18 = .ok (.ldc 244, 2) := dk_18 244 (dk_at dksX9_drawn_0 18 rfl rfl)
theorem dX9_drawn_20 : decode cX9_drawn 20 = .ok (.iand, 1) := dk_126 (dk_at dksX9_drawn_0 20 rfl rfl)
theorem dX9_drawn_21 : decode cX9_drawn 21 = .ok (.sipush 256, 3) := dk_17 1 0 (dk_at dksX9_drawn_0 21 rfl rfl)
theorem dX9_drawn_24 : decode cX9_drawn 24 = .ok (.idiv, 1) := dk_108 (dk_at dksX9_drawn_1 0 rfl rfl)
theorem dX9_drawn_25 : decode cX9_drawn 25 = .ok (.iload_n 1, 1) := dk_27 (dk_at dksX9_drawn_1 1 rfl rfl)
theorem dX9_drawn_26 : decode cX9_drawn 26 = .ok (.irem, 1) := dk_112 (dk_at dksX9_drawn_1 2 rfl rfl)
theorem dX9_drawn_27 : decode cX9_drawn 27 = .ok (.ireturn, 1) := dk_172 (dk_at dksX9_drawn_1 3 rfl rfl)
abbrev cX9_image : ByteArray := prog_21_method_84_code
def yX9_image : MethodName := ⟨RX9, "image", "()I"⟩
def dkwX9_image_2 : List UInt8 := [42, 180, 0, 18, 27, 46, 79, 132, 1, 1, 167, 255, 224, 42, 4, 181, 1, 1, 42, 180, 0, 124, 172]
abbrev dktX9_image_2 : List UInt8 := dkwX9_image_2 ++ []
def dkwX9_image_1 : List UInt8 := [3, 60, 27, 8, 162, 0, 33, 42, 180, 0, 21, 27, 42, 180, 0, 14, 27, 46, 79, 42, 180, 0, 24, 27]
abbrev dktX9_image_1 : List UInt8 := dkwX9_image_1 ++ dktX9_image_2
def dkwX9_image_0 : List UInt8 := [42, 42, 180, 0, 10, 181, 0, 248, 42, 42, 180, 0, 124, 181, 0, 251, 42, 42, 180, 0, 62, 181, 0, 254]
abbrev dktX9_image_0 : List UInt8 := dkwX9_image_0 ++ dktX9_image_1
theorem dksX9_image_0 : cX9_image.data.toList.drop 0 = dktX9_image_0 := by decide +kernel
theorem dksX9_image_1 : cX9_image.data.toList.drop 24 = dktX9_image_1 := dk_seg dksX9_image_0 24 rfl rfl
theorem dksX9_image_2 : cX9_image.data.toList.drop 48 = dktX9_image_2 := dk_seg dksX9_image_1 24 rfl rfl
theorem dX9_image_0 : decode cX9_image 0 = .ok (.aload_n 0, 1) := dk_42 (dk_at dksX9_image_0 0 rfl rfl)
theorem dX9_image_1 : decode cX9_image 1 = .ok (.aload_n 0, 1) := dk_42 (dk_at dksX9_image_0 1 rfl rfl)
theorem dX9_image_2 : decode cX9_image 2 = .ok (.getfield 10, 3) := dk_180 0 10 (dk_at dksX9_image_0 2 rfl rfl)
theorem dX9_image_5 : decode cX9_image 5 = .ok (.putfield 248, 3) := dk_181 0 248 (dk_at dksX9_image_0 5 rfl rfl)
theorem dX9_image_8 : decode cX9_image 8 = .ok (.aload_n 0, 1) := dk_42 (dk_at dksX9_image_0 8 rfl rfl)
theorem dX9_image_9 : decode cX9_image 9 = .ok (.aload_n 0, 1) := dk_42 (dk_at dksX9_image_0 9 rfl rfl)
theorem dX9_image_10 : decode cX9_image 10 = .ok (.getfield 124, 3) := dk_180 0 124 (dk_at dksX9_image_0 10 rfl rfl)
theorem dX9_image_13 : decode cX9_image 13 = .ok (.putfield 251, 3) := dk_181 0 251 (dk_at dksX9_image_0 13 rfl rfl)
theorem dX9_image_16 : decode cX9_image 16 = .ok (.aload_n 0, 1) := dk_42 (dk_at dksX9_image_0 16 rfl rfl)
theorem dX9_image_17 : decode cX9_image 17 = .ok (.aload_n 0, 1) := dk_42 (dk_at dksX9_image_0 17 rfl rfl)
theorem dX9_image_18 : decode cX9_image 18 = .ok (.getfield 62, 3) := dk_180 0 62 (dk_at dksX9_image_0 18 rfl rfl)
theorem dX9_image_21 : decode cX9_image 21 = .ok (.putfield 254, 3) := dk_181 0 254 (dk_at dksX9_image_0 21 rfl rfl)
theorem dX9_image_24 : decode cX9_image 24 = .ok (.iconst 0, 1) := dk_3 (dk_at dksX9_image_1 0 rfl rfl)
theorem dX9_image_25 : decode cX9_image 25 = .ok (.istore_n 1, 1) := dk_60 (dk_at dksX9_image_1 1 rfl rfl)
theorem dX9_image_26 : decode cX9_image 26 = .ok (.iload_n 1, 1) := dk_27 (dk_at dksX9_image_1 2 rfl rfl)
theorem dX9_image_27 : decode cX9_image 27 = .ok (.iconst 5, 1) := dk_8 (dk_at dksX9_image_1 3 rfl rfl)
theorem dX9_image_28 : decode cX9_image 28 = .ok (.if_icmp .ge 33, 3) := dk_162 0 33 (dk_at dksX9_image_1 4 rfl rfl)
theorem dX9_image_31 : decode cX9_image 31 = .ok (.aload_n 0, 1) := dk_42 (dk_at dksX9_image_1 7 rfl rfl)
theorem dX9_image_32 : decode cX9_image 32 = .ok (.getfield 21, 3) := dk_180 0 21 (dk_at dksX9_image_1 8 rfl rfl)
theorem dX9_image_35 : decode cX9_image 35 = .ok (.iload_n 1, 1) := dk_27 (dk_at dksX9_image_1 11 rfl rfl)
theorem dX9_image_36 : decode cX9_image 36 = .ok (.aload_n 0, 1) := dk_42 (dk_at dksX9_image_1 12 rfl rfl)
theorem dX9_image_37 : decode cX9_image 37 = .ok (.getfield 14, 3) := dk_180 0 14 (dk_at dksX9_image_1 13 rfl rfl)
theorem dX9_image_40 : decode cX9_image 40 = .ok (.iload_n 1, 1) := dk_27 (dk_at dksX9_image_1 16 rfl rfl)
theorem dX9_image_41 : decode cX9_image 41 = .ok (.iaload, 1) := dk_46 (dk_at dksX9_image_1 17 rfl rfl)
theorem dX9_image_42 : decode cX9_image 42 = .ok (.iastore, 1) := dk_79 (dk_at dksX9_image_1 18 rfl rfl)
theorem dX9_image_43 : decode cX9_image 43 = .ok (.aload_n 0, 1) := dk_42 (dk_at dksX9_image_1 19 rfl rfl)
theorem dX9_image_44 : decode cX9_image 44 = .ok (.getfield 24, 3) := dk_180 0 24 (dk_at dksX9_image_1 20 rfl rfl)
theorem dX9_image_47 : decode cX9_image 47 = .ok (.iload_n 1, 1) := dk_27 (dk_at dksX9_image_1 23 rfl rfl)
theorem dX9_image_48 : decode cX9_image 48 = .ok (.aload_n 0, 1) := dk_42 (dk_at dksX9_image_2 0 rfl rfl)
theorem dX9_image_49 : decode cX9_image 49 = .ok (.getfield 18, 3) := dk_180 0 18 (dk_at dksX9_image_2 1 rfl rfl)
theorem dX9_image_52 : decode cX9_image 52 = .ok (.iload_n 1, 1) := dk_27 (dk_at dksX9_image_2 4 rfl rfl)
theorem dX9_image_53 : decode cX9_image 53 = .ok (.iaload, 1) := dk_46 (dk_at dksX9_image_2 5 rfl rfl)
theorem dX9_image_54 : decode cX9_image 54 = .ok (.iastore, 1) := dk_79 (dk_at dksX9_image_2 6 rfl rfl)
theorem dX9_image_55 : decode cX9_image 55 = .ok (.iinc 1 1, 3) := dk_132 1 1 (dk_at dksX9_image_2 7 rfl rfl)
theorem dX9_image_58 : decode cX9_image 58 = .ok (.goto (-32), 3) := dk_167 255 224 (dk_at dksX9_image_2 10 rfl rfl)
theorem dX9_image_61 : decode cX9_image 61 = .ok (.aload_n 0, 1) := dk_42 (dk_at dksX9_image_2 13 rfl rfl)
theorem dX9_image_62 : decode cX9_image 62 = .ok (.iconst 1, 1) := dk_4 (dk_at dksX9_image_2 14 rfl rfl)
theorem dX9_image_63 : decode cX9_image 63 = .ok (.putfield 257, 3) := dk_181 1 1 (dk_at dksX9_image_2 15 rfl rfl)
theorem dX9_image_66 : decode cX9_image 66 = .ok (.aload_n 0, 1) := dk_42 (dk_at dksX9_image_2 18 rfl rfl)
theorem dX9_image_67 : decode cX9_image 67 = .ok (.getfield 124, 3) := dk_180 0 124 (dk_at dksX9_image_2 19 rfl rfl)
theorem dX9_image_70 : decode cX9_image 70 = .ok (.ireturn, 1) := dk_172 (dk_at dksX9_image_2 22 rfl rfl)
abbrev cX9_on : ByteArray := prog_21_method_85_code
def yX9_on : MethodName := ⟨RX9, "on", "()I"⟩
def dkwX9_on_3 : List UInt8 := [132, 1, 1, 167, 255, 224, 42, 180, 0, 124, 172]
abbrev dktX9_on_3 : List UInt8 := dkwX9_on_3 ++ []
def dkwX9_on_2 : List UInt8 := [180, 0, 14, 27, 42, 180, 0, 21, 27, 46, 79, 42, 180, 0, 18, 27, 42, 180, 0, 24, 27, 46, 79]
abbrev dktX9_on_2 : List UInt8 := dkwX9_on_2 ++ dktX9_on_3
def dkwX9_on_1 : List UInt8 := [180, 0, 251, 181, 0, 124, 42, 42, 180, 0, 254, 181, 0, 62, 3, 60, 27, 8, 162, 0, 33, 42]
abbrev dktX9_on_1 : List UInt8 := dkwX9_on_1 ++ dktX9_on_2
def dkwX9_on_0 : List UInt8 := [42, 180, 1, 1, 154, 0, 10, 42, 16, 253, 182, 0, 52, 172, 42, 42, 180, 0, 248, 181, 0, 10, 42, 42]
abbrev dktX9_on_0 : List UInt8 := dkwX9_on_0 ++ dktX9_on_1
theorem dksX9_on_0 : cX9_on.data.toList.drop 0 = dktX9_on_0 := by decide +kernel
theorem dksX9_on_1 : cX9_on.data.toList.drop 24 = dktX9_on_1 := dk_seg dksX9_on_0 24 rfl rfl
theorem dksX9_on_2 : cX9_on.data.toList.drop 46 = dktX9_on_2 := dk_seg dksX9_on_1 22 rfl rfl
theorem dksX9_on_3 : cX9_on.data.toList.drop 69 = dktX9_on_3 := dk_seg dksX9_on_2 23 rfl rfl
theorem dX9_on_0 : decode cX9_on 0 = .ok (.aload_n 0, 1) := dk_42 (dk_at dksX9_on_0 0 rfl rfl)
theorem dX9_on_1 : decode cX9_on 1 = .ok (.getfield 257, 3) := dk_180 1 1 (dk_at dksX9_on_0 1 rfl rfl)
theorem dX9_on_4 : decode cX9_on 4 = .ok (.ifCond .ne 10, 3) := dk_154 0 10 (dk_at dksX9_on_0 4 rfl rfl)
theorem dX9_on_7 : decode cX9_on 7 = .ok (.aload_n 0, 1) := dk_42 (dk_at dksX9_on_0 7 rfl rfl)
theorem dX9_on_8 : decode cX9_on 8 = .ok (.bipush (-3), 2) := dk_16 253 (dk_at dksX9_on_0 8 rfl rfl)
theorem dX9_on_10 : decode cX9_on 10 = .ok (.invokevirtual 52, 3) := dk_182 0 52 (dk_at dksX9_on_0 10 rfl rfl)
theorem dX9_on_13 : decode cX9_on 13 = .ok (.ireturn, 1) := dk_172 (dk_at dksX9_on_0 13 rfl rfl)
theorem dX9_on_14 : decode cX9_on 14 = .ok (.aload_n 0, 1) := dk_42 (dk_at dksX9_on_0 14 rfl rfl)
theorem dX9_on_15 : decode cX9_on 15 = .ok (.aload_n 0, 1) := dk_42 (dk_at dksX9_on_0 15 rfl rfl)
theorem dX9_on_16 : decode cX9_on 16 = .ok (.getfield 248, 3) := dk_180 0 248 (dk_at dksX9_on_0 16 rfl rfl)
theorem dX9_on_19 : decode cX9_on 19 = .ok (.putfield 10, 3) := dk_181 0 10 (dk_at dksX9_on_0 19 rfl rfl)
theorem dX9_on_22 : decode cX9_on 22 = .ok (.aload_n 0, 1) := dk_42 (dk_at dksX9_on_0 22 rfl rfl)
theorem dX9_on_23 : decode cX9_on 23 = .ok (.aload_n 0, 1) := dk_42 (dk_at dksX9_on_0 23 rfl rfl)
theorem dX9_on_24 : decode cX9_on 24 = .ok (.getfield 251, 3) := dk_180 0 251 (dk_at dksX9_on_1 0 rfl rfl)
theorem dX9_on_27 : decode cX9_on 27 = .ok (.putfield 124, 3) := dk_181 0 124 (dk_at dksX9_on_1 3 rfl rfl)
theorem dX9_on_30 : decode cX9_on 30 = .ok (.aload_n 0, 1) := dk_42 (dk_at dksX9_on_1 6 rfl rfl)
theorem dX9_on_31 : decode cX9_on 31 = .ok (.aload_n 0, 1) := dk_42 (dk_at dksX9_on_1 7 rfl rfl)
theorem dX9_on_32 : decode cX9_on 32 = .ok (.getfield 254, 3) := dk_180 0 254 (dk_at dksX9_on_1 8 rfl rfl)
theorem dX9_on_35 : decode cX9_on 35 = .ok (.putfield 62, 3) := dk_181 0 62 (dk_at dksX9_on_1 11 rfl rfl)
theorem dX9_on_38 : decode cX9_on 38 = .ok (.iconst 0, 1) := dk_3 (dk_at dksX9_on_1 14 rfl rfl)
theorem dX9_on_39 : decode cX9_on 39 = .ok (.istore_n 1, 1) := dk_60 (dk_at dksX9_on_1 15 rfl rfl)
theorem dX9_on_40 : decode cX9_on 40 = .ok (.iload_n 1, 1) := dk_27 (dk_at dksX9_on_1 16 rfl rfl)
theorem dX9_on_41 : decode cX9_on 41 = .ok (.iconst 5, 1) := dk_8 (dk_at dksX9_on_1 17 rfl rfl)
theorem dX9_on_42 : decode cX9_on 42 = .ok (.if_icmp .ge 33, 3) := dk_162 0 33 (dk_at dksX9_on_1 18 rfl rfl)
theorem dX9_on_45 : decode cX9_on 45 = .ok (.aload_n 0, 1) := dk_42 (dk_at dksX9_on_1 21 rfl rfl)
theorem dX9_on_46 : decode cX9_on 46 = .ok (.getfield 14, 3) := dk_180 0 14 (dk_at dksX9_on_2 0 rfl rfl)
theorem dX9_on_49 : decode cX9_on 49 = .ok (.iload_n 1, 1) := dk_27 (dk_at dksX9_on_2 3 rfl rfl)
theorem dX9_on_50 : decode cX9_on 50 = .ok (.aload_n 0, 1) := dk_42 (dk_at dksX9_on_2 4 rfl rfl)
theorem dX9_on_51 : decode cX9_on 51 = .ok (.getfield 21, 3) := dk_180 0 21 (dk_at dksX9_on_2 5 rfl rfl)
theorem dX9_on_54 : decode cX9_on 54 = .ok (.iload_n 1, 1) := dk_27 (dk_at dksX9_on_2 8 rfl rfl)
theorem dX9_on_55 : decode cX9_on 55 = .ok (.iaload, 1) := dk_46 (dk_at dksX9_on_2 9 rfl rfl)
theorem dX9_on_56 : decode cX9_on 56 = .ok (.iastore, 1) := dk_79 (dk_at dksX9_on_2 10 rfl rfl)
theorem dX9_on_57 : decode cX9_on 57 = .ok (.aload_n 0, 1) := dk_42 (dk_at dksX9_on_2 11 rfl rfl)
theorem dX9_on_58 : decode cX9_on 58 = .ok (.getfield 18, 3) := dk_180 0 18 (dk_at dksX9_on_2 12 rfl rfl)
theorem dX9_on_61 : decode cX9_on 61 = .ok (.iload_n 1, 1) := dk_27 (dk_at dksX9_on_2 15 rfl rfl)
theorem dX9_on_62 : decode cX9_on 62 = .ok (.aload_n 0, 1) := dk_42 (dk_at dksX9_on_2 16 rfl rfl)
theorem dX9_on_63 : decode cX9_on 63 = .ok (.getfield 24, 3) := dk_180 0 24 (dk_at dksX9_on_2 17 rfl rfl)
theorem dX9_on_66 : decode cX9_on 66 = .ok (.iload_n 1, 1) := dk_27 (dk_at dksX9_on_2 20 rfl rfl)
theorem dX9_on_67 : decode cX9_on 67 = .ok (.iaload, 1) := dk_46 (dk_at dksX9_on_2 21 rfl rfl)
theorem dX9_on_68 : decode cX9_on 68 = .ok (.iastore, 1) := dk_79 (dk_at dksX9_on_2 22 rfl rfl)
theorem dX9_on_69 : decode cX9_on 69 = .ok (.iinc 1 1, 3) := dk_132 1 1 (dk_at dksX9_on_3 0 rfl rfl)
theorem dX9_on_72 : decode cX9_on 72 = .ok (.goto (-32), 3) := dk_167 255 224 (dk_at dksX9_on_3 3 rfl rfl)
theorem dX9_on_75 : decode cX9_on 75 = .ok (.aload_n 0, 1) := dk_42 (dk_at dksX9_on_3 6 rfl rfl)
theorem dX9_on_76 : decode cX9_on 76 = .ok (.getfield 124, 3) := dk_180 0 124 (dk_at dksX9_on_3 7 rfl rfl)
theorem dX9_on_79 : decode cX9_on 79 = .ok (.ireturn, 1) := dk_172 (dk_at dksX9_on_3 10 rfl rfl)
abbrev cX9_count : ByteArray := prog_21_method_86_code
def yX9_count : MethodName := ⟨RX9, "count", "(I)I"⟩
def dkwX9_count_4 : List UInt8 := [42, 180, 0, 236, 172, 42, 180, 0, 104, 172, 16, 247, 172]
abbrev dktX9_count_4 : List UInt8 := dkwX9_count_4 ++ []
def dkwX9_count_3 : List UInt8 := [42, 180, 0, 10, 182, 0, 174, 172, 42, 180, 0, 10, 184, 0, 85, 154, 0, 7, 4, 167, 0, 4, 3, 172]
abbrev dktX9_count_3 : List UInt8 := dkwX9_count_3 ++ dktX9_count_4
def dkwX9_count_2 : List UInt8 := [42, 180, 0, 62, 172, 42, 180, 0, 124, 172, 42, 180, 0, 10, 172, 42, 180, 0, 10, 184, 0, 82, 172, 42]
abbrev dktX9_count_2 : List UInt8 := dkwX9_count_2 ++ dktX9_count_3
def dkwX9_count_1 : List UInt8 := [170, 0, 0, 0, 0, 104, 0, 0, 0, 0, 0, 0, 0, 7, 0, 0, 0, 46, 0, 0, 0, 51, 0, 0, 0, 56, 0, 0, 0, 61, 0, 0, 0, 69, 0, 0, 0, 78, 0, 0, 0, 94, 0, 0, 0, 99]
abbrev dktX9_count_1 : List UInt8 := dkwX9_count_1 ++ dktX9_count_2
def dkwX9_count_0 : List UInt8 := [27, 16, 11, 16, 16, 184, 0, 58, 153, 0, 13, 42, 180, 0, 39, 27, 16, 10, 100, 46, 172, 27]
abbrev dktX9_count_0 : List UInt8 := dkwX9_count_0 ++ dktX9_count_1
theorem dksX9_count_0 : cX9_count.data.toList.drop 0 = dktX9_count_0 := by decide +kernel
theorem dksX9_count_1 : cX9_count.data.toList.drop 22 = dktX9_count_1 := dk_seg dksX9_count_0 22 rfl rfl
theorem dksX9_count_2 : cX9_count.data.toList.drop 68 = dktX9_count_2 := dk_seg dksX9_count_1 46 rfl rfl
theorem dksX9_count_3 : cX9_count.data.toList.drop 92 = dktX9_count_3 := dk_seg dksX9_count_2 24 rfl rfl
theorem dksX9_count_4 : cX9_count.data.toList.drop 116 = dktX9_count_4 := dk_seg dksX9_count_3 24 rfl rfl
theorem dX9_count_0 : decode cX9_count 0 = .ok (.iload_n 1, 1) := dk_27 (dk_at dksX9_count_0 0 rfl rfl)
theorem dX9_count_1 : decode cX9_count 1 = .ok (.bipush 11, 2) := dk_16 11 (dk_at dksX9_count_0 1 rfl rfl)
theorem dX9_count_3 : decode cX9_count 3 = .ok (.bipush 16, 2) := dk_16 16 (dk_at dksX9_count_0 3 rfl rfl)
theorem dX9_count_5 : decode cX9_count 5 = .ok (.invokestatic 58, 3) := dk_184 0 58 (dk_at dksX9_count_0 5 rfl rfl)
theorem dX9_count_8 : decode cX9_count 8 = .ok (.ifCond .eq 13, 3) := dk_153 0 13 (dk_at dksX9_count_0 8 rfl rfl)
theorem dX9_count_11 : decode cX9_count 11 = .ok (.aload_n 0, 1) := dk_42 (dk_at dksX9_count_0 11 rfl rfl)
theorem dX9_count_12 : decode cX9_count 12 = .ok (.getfield 39, 3) := dk_180 0 39 (dk_at dksX9_count_0 12 rfl rfl)
theorem dX9_count_15 : decode cX9_count 15 = .ok (.iload_n 1, 1) := dk_27 (dk_at dksX9_count_0 15 rfl rfl)
theorem dX9_count_16 : decode cX9_count 16 = .ok (.bipush 10, 2) := dk_16 10 (dk_at dksX9_count_0 16 rfl rfl)
theorem dX9_count_18 : decode cX9_count 18 = .ok (.isub, 1) := dk_100 (dk_at dksX9_count_0 18 rfl rfl)
theorem dX9_count_19 : decode cX9_count 19 = .ok (.iaload, 1) := dk_46 (dk_at dksX9_count_0 19 rfl rfl)
theorem dX9_count_20 : decode cX9_count 20 = .ok (.ireturn, 1) := dk_172 (dk_at dksX9_count_0 20 rfl rfl)
theorem dX9_count_21 : decode cX9_count 21 = .ok (.iload_n 1, 1) := dk_27 (dk_at dksX9_count_0 21 rfl rfl)
theorem dX9_count_22 : decode cX9_count 22 = .ok (.tableswitch 104 0 7 #[46, 51, 56, 61, 69, 78, 94, 99], 46) := by decide +kernel
theorem dX9_count_68 : decode cX9_count 68 = .ok (.aload_n 0, 1) := dk_42 (dk_at dksX9_count_2 0 rfl rfl)
theorem dX9_count_69 : decode cX9_count 69 = .ok (.getfield 62, 3) := dk_180 0 62 (dk_at dksX9_count_2 1 rfl rfl)
theorem dX9_count_72 : decode cX9_count 72 = .ok (.ireturn, 1) := dk_172 (dk_at dksX9_count_2 4 rfl rfl)
theorem dX9_count_73 : decode cX9_count 73 = .ok (.aload_n 0, 1) := dk_42 (dk_at dksX9_count_2 5 rfl rfl)
theorem dX9_count_74 : decode cX9_count 74 = .ok (.getfield 124, 3) := dk_180 0 124 (dk_at dksX9_count_2 6 rfl rfl)
theorem dX9_count_77 : decode cX9_count 77 = .ok (.ireturn, 1) := dk_172 (dk_at dksX9_count_2 9 rfl rfl)
theorem dX9_count_78 : decode cX9_count 78 = .ok (.aload_n 0, 1) := dk_42 (dk_at dksX9_count_2 10 rfl rfl)
theorem dX9_count_79 : decode cX9_count 79 = .ok (.getfield 10, 3) := dk_180 0 10 (dk_at dksX9_count_2 11 rfl rfl)
theorem dX9_count_82 : decode cX9_count 82 = .ok (.ireturn, 1) := dk_172 (dk_at dksX9_count_2 14 rfl rfl)
theorem dX9_count_83 : decode cX9_count 83 = .ok (.aload_n 0, 1) := dk_42 (dk_at dksX9_count_2 15 rfl rfl)
theorem dX9_count_84 : decode cX9_count 84 = .ok (.getfield 10, 3) := dk_180 0 10 (dk_at dksX9_count_2 16 rfl rfl)
theorem dX9_count_87 : decode cX9_count 87 = .ok (.invokestatic 82, 3) := dk_184 0 82 (dk_at dksX9_count_2 19 rfl rfl)
theorem dX9_count_90 : decode cX9_count 90 = .ok (.ireturn, 1) := dk_172 (dk_at dksX9_count_2 22 rfl rfl)
theorem dX9_count_91 : decode cX9_count 91 = .ok (.aload_n 0, 1) := dk_42 (dk_at dksX9_count_2 23 rfl rfl)
theorem dX9_count_92 : decode cX9_count 92 = .ok (.aload_n 0, 1) := dk_42 (dk_at dksX9_count_3 0 rfl rfl)
theorem dX9_count_93 : decode cX9_count 93 = .ok (.getfield 10, 3) := dk_180 0 10 (dk_at dksX9_count_3 1 rfl rfl)
theorem dX9_count_96 : decode cX9_count 96 = .ok (.invokevirtual 174, 3) := dk_182 0 174 (dk_at dksX9_count_3 4 rfl rfl)
theorem dX9_count_99 : decode cX9_count 99 = .ok (.ireturn, 1) := dk_172 (dk_at dksX9_count_3 7 rfl rfl)
theorem dX9_count_100 : decode cX9_count 100 = .ok (.aload_n 0, 1) := dk_42 (dk_at dksX9_count_3 8 rfl rfl)
theorem dX9_count_101 : decode cX9_count 101 = .ok (.getfield 10, 3) := dk_180 0 10 (dk_at dksX9_count_3 9 rfl rfl)
theorem dX9_count_104 : decode cX9_count 104 = .ok (.invokestatic 85, 3) := dk_184 0 85 (dk_at dksX9_count_3 12 rfl rfl)
theorem dX9_count_107 : decode cX9_count 107 = .ok (.ifCond .ne 7, 3) := dk_154 0 7 (dk_at dksX9_count_3 15 rfl rfl)
theorem dX9_count_110 : decode cX9_count 110 = .ok (.iconst 1, 1) := dk_4 (dk_at dksX9_count_3 18 rfl rfl)
theorem dX9_count_111 : decode cX9_count 111 = .ok (.goto 4, 3) := dk_167 0 4 (dk_at dksX9_count_3 19 rfl rfl)
theorem dX9_count_114 : decode cX9_count 114 = .ok (.iconst 0, 1) := dk_3 (dk_at dksX9_count_3 22 rfl rfl)
theorem dX9_count_115 : decode cX9_count 115 = .ok (.ireturn, 1) := dk_172 (dk_at dksX9_count_3 23 rfl rfl)
theorem dX9_count_116 : decode cX9_count 116 = .ok (.aload_n 0, 1) := dk_42 (dk_at dksX9_count_4 0 rfl rfl)
theorem dX9_count_117 : decode cX9_count 117 = .ok (.getfield 236, 3) := dk_180 0 236 (dk_at dksX9_count_4 1 rfl rfl)
theorem dX9_count_120 : decode cX9_count 120 = .ok (.ireturn, 1) := dk_172 (dk_at dksX9_count_4 4 rfl rfl)
theorem dX9_count_121 : decode cX9_count 121 = .ok (.aload_n 0, 1) := dk_42 (dk_at dksX9_count_4 5 rfl rfl)
theorem dX9_count_122 : decode cX9_count 122 = .ok (.getfield 104, 3) := dk_180 0 104 (dk_at dksX9_count_4 6 rfl rfl)
theorem dX9_count_125 : decode cX9_count 125 = .ok (.ireturn, 1) := dk_172 (dk_at dksX9_count_4 9 rfl rfl)
theorem dX9_count_126 : decode cX9_count 126 = .ok (.bipush (-9), 2) := dk_16 247 (dk_at dksX9_count_4 10 rfl rfl)
theorem dX9_count_128 : decode cX9_count 128 = .ok (.ireturn, 1) := dk_172 (dk_at dksX9_count_4 12 rfl rfl)
theorem q111 : (Jvm.Cond.initialized "CoresAreWillsModel") ∈ lw_all := lw_g (lw_at lw_m1 10 rfl) rfl
theorem q1174 : (Jvm.Cond.instantiable "CoresAreWillsModel" (26 : Nat)) ∈ lw_all := lw_g (lw_at lw_m5 113 rfl) rfl
theorem q1176 : (Jvm.Cond.instanceMethod ({ cls := "CoresAreWillsModel", name := "<init>", desc := "()V" } : Jvm.MethodName)) ∈ lw_all := lw_g (lw_at lw_m5 115 rfl) rfl
theorem q1177 : (Jvm.Cond.code ({ cls := "CoresAreWillsModel", name := "<init>", desc := "()V" } : Jvm.MethodName) prog_21_method_1_code (1 : Nat) (Option.none : Option Jvm.ClassFile.FieldType)) ∈ lw_all := lw_g (lw_at lw_m5 116 rfl) rfl
theorem q1178 : (Jvm.Cond.methodLink "CoresAreWillsModel" (1 : Nat) ({ cls := "java/lang/Object", name := "<init>", desc := "()V" } : Jvm.MethodName)) ∈ lw_all := lw_g (lw_at lw_m5 117 rfl) rfl
theorem q1179 : (Jvm.Cond.constant "CoresAreWillsModel" (9 : Nat) (33554431 : Int32)) ∈ lw_all := lw_g (lw_at lw_m5 118 rfl) rfl
theorem q1180 : (Jvm.Cond.fieldLink "CoresAreWillsModel" (10 : Nat) "CoresAreWillsModel" "left" "I") ∈ lw_all := lw_g (lw_at lw_m5 119 rfl) rfl
theorem q1181 : (Jvm.Cond.fieldLink "CoresAreWillsModel" (124 : Nat) "CoresAreWillsModel" "bites" "I") ∈ lw_all := lw_g (lw_at lw_m5 120 rfl) rfl
theorem q1182 : (Jvm.Cond.fieldLink "CoresAreWillsModel" (62 : Nat) "CoresAreWillsModel" "many" "I") ∈ lw_all := lw_g (lw_at lw_m5 121 rfl) rfl
theorem q1183 : (Jvm.Cond.fieldLink "CoresAreWillsModel" (248 : Nat) "CoresAreWillsModel" "imageLeft" "I") ∈ lw_all := lw_g (lw_at lw_m5 122 rfl) rfl
theorem q1184 : (Jvm.Cond.fieldLink "CoresAreWillsModel" (251 : Nat) "CoresAreWillsModel" "imageBites" "I") ∈ lw_all := lw_g (lw_at lw_m5 123 rfl) rfl
theorem q1185 : (Jvm.Cond.fieldLink "CoresAreWillsModel" (254 : Nat) "CoresAreWillsModel" "imageMany" "I") ∈ lw_all := lw_g (lw_at lw_m5 124 rfl) rfl
theorem q1186 : (Jvm.Cond.fieldLink "CoresAreWillsModel" (147 : Nat) "CoresAreWillsModel" "wasLeft" "I") ∈ lw_all := lw_g (lw_at lw_m5 125 rfl) rfl
theorem q1187 : (Jvm.Cond.fieldLink "CoresAreWillsModel" (150 : Nat) "CoresAreWillsModel" "wasBites" "I") ∈ lw_all := lw_g (lw_at lw_m5 126 rfl) rfl
theorem q1188 : (Jvm.Cond.fieldLink "CoresAreWillsModel" (153 : Nat) "CoresAreWillsModel" "wasMany" "I") ∈ lw_all := lw_g (lw_at lw_m5 127 rfl) rfl
theorem q1189 : (Jvm.Cond.fieldLink "CoresAreWillsModel" (14 : Nat) "CoresAreWillsModel" "kind" "[I") ∈ lw_all := lw_g (lw_at lw_m5 128 rfl) rfl
theorem q1190 : (Jvm.Cond.fieldLink "CoresAreWillsModel" (18 : Nat) "CoresAreWillsModel" "figure" "[I") ∈ lw_all := lw_g (lw_at lw_m5 129 rfl) rfl
theorem q1191 : (Jvm.Cond.fieldLink "CoresAreWillsModel" (21 : Nat) "CoresAreWillsModel" "imageKind" "[I") ∈ lw_all := lw_g (lw_at lw_m5 130 rfl) rfl
theorem q1192 : (Jvm.Cond.fieldLink "CoresAreWillsModel" (24 : Nat) "CoresAreWillsModel" "imageFigure" "[I") ∈ lw_all := lw_g (lw_at lw_m5 131 rfl) rfl
theorem q1193 : (Jvm.Cond.fieldLink "CoresAreWillsModel" (27 : Nat) "CoresAreWillsModel" "wasKind" "[I") ∈ lw_all := lw_g (lw_at lw_m5 132 rfl) rfl
theorem q1194 : (Jvm.Cond.fieldLink "CoresAreWillsModel" (30 : Nat) "CoresAreWillsModel" "wasFigure" "[I") ∈ lw_all := lw_g (lw_at lw_m5 133 rfl) rfl
theorem q1195 : (Jvm.Cond.fieldLink "CoresAreWillsModel" (257 : Nat) "CoresAreWillsModel" "hasImage" "Z") ∈ lw_all := lw_g (lw_at lw_m5 134 rfl) rfl
theorem q1196 : (Jvm.Cond.fieldLink "CoresAreWillsModel" (33 : Nat) "CoresAreWillsModel" "letters" "[I") ∈ lw_all := lw_g (lw_at lw_m5 135 rfl) rfl
theorem q1197 : (Jvm.Cond.fieldLink "CoresAreWillsModel" (36 : Nat) "CoresAreWillsModel" "row" "[I") ∈ lw_all := lw_g (lw_at lw_m5 136 rfl) rfl
theorem q1198 : (Jvm.Cond.fieldLink "CoresAreWillsModel" (39 : Nat) "CoresAreWillsModel" "refused" "[I") ∈ lw_all := lw_g (lw_at lw_m5 137 rfl) rfl
theorem q1199 : (Jvm.Cond.fieldLink "CoresAreWillsModel" (104 : Nat) "CoresAreWillsModel" "letterMany" "I") ∈ lw_all := lw_g (lw_at lw_m5 138 rfl) rfl
theorem q1200 : (Jvm.Cond.fieldLink "CoresAreWillsModel" (236 : Nat) "CoresAreWillsModel" "rowMany" "I") ∈ lw_all := lw_g (lw_at lw_m5 139 rfl) rfl
theorem q1201 : (Jvm.Cond.fieldLink "CoresAreWillsModel" (107 : Nat) "CoresAreWillsModel" "place" "I") ∈ lw_all := lw_g (lw_at lw_m5 140 rfl) rfl
theorem q1202 : (Jvm.Cond.fieldLink "CoresAreWillsModel" (42 : Nat) "CoresAreWillsModel" "numbers" "[I") ∈ lw_all := lw_g (lw_at lw_m5 141 rfl) rfl
theorem q1203 : (Jvm.Cond.fieldLink "CoresAreWillsModel" (45 : Nat) "CoresAreWillsModel" "counted" "[I") ∈ lw_all := lw_g (lw_at lw_m5 142 rfl) rfl
theorem q1204 : (Jvm.Cond.fieldLink "CoresAreWillsModel" (48 : Nat) "CoresAreWillsModel" "few" "[I") ∈ lw_all := lw_g (lw_at lw_m5 143 rfl) rfl
theorem q1205 : (Jvm.Cond.fieldLink "CoresAreWillsModel" (239 : Nat) "CoresAreWillsModel" "seed" "I") ∈ lw_all := lw_g (lw_at lw_m5 144 rfl) rfl
theorem q1206 : (Jvm.Cond.lays "CoresAreWillsModel" "CoresAreWillsModel" "left" "I") ∈ lw_all := lw_g (lw_at lw_m5 145 rfl) rfl
theorem q1207 : (Jvm.Cond.soleField "CoresAreWillsModel" "left") ∈ lw_all := lw_g (lw_at lw_m5 146 rfl) rfl
theorem q1208 : (Jvm.Cond.lays "CoresAreWillsModel" "CoresAreWillsModel" "bites" "I") ∈ lw_all := lw_g (lw_at lw_m5 147 rfl) rfl
theorem q1209 : (Jvm.Cond.soleField "CoresAreWillsModel" "bites") ∈ lw_all := lw_g (lw_at lw_m5 148 rfl) rfl
theorem q1210 : (Jvm.Cond.lays "CoresAreWillsModel" "CoresAreWillsModel" "many" "I") ∈ lw_all := lw_g (lw_at lw_m5 149 rfl) rfl
theorem q1211 : (Jvm.Cond.soleField "CoresAreWillsModel" "many") ∈ lw_all := lw_g (lw_at lw_m5 150 rfl) rfl
theorem q1212 : (Jvm.Cond.lays "CoresAreWillsModel" "CoresAreWillsModel" "imageLeft" "I") ∈ lw_all := lw_g (lw_at lw_m5 151 rfl) rfl
theorem q1213 : (Jvm.Cond.soleField "CoresAreWillsModel" "imageLeft") ∈ lw_all := lw_g (lw_at lw_m5 152 rfl) rfl
theorem q1214 : (Jvm.Cond.lays "CoresAreWillsModel" "CoresAreWillsModel" "imageBites" "I") ∈ lw_all := lw_g (lw_at lw_m5 153 rfl) rfl
theorem q1215 : (Jvm.Cond.soleField "CoresAreWillsModel" "imageBites") ∈ lw_all := lw_g (lw_at lw_m5 154 rfl) rfl
theorem q1216 : (Jvm.Cond.lays "CoresAreWillsModel" "CoresAreWillsModel" "imageMany" "I") ∈ lw_all := lw_g (lw_at lw_m5 155 rfl) rfl
theorem q1217 : (Jvm.Cond.soleField "CoresAreWillsModel" "imageMany") ∈ lw_all := lw_g (lw_at lw_m5 156 rfl) rfl
theorem q1218 : (Jvm.Cond.lays "CoresAreWillsModel" "CoresAreWillsModel" "wasLeft" "I") ∈ lw_all := lw_g (lw_at lw_m5 157 rfl) rfl
theorem q1219 : (Jvm.Cond.soleField "CoresAreWillsModel" "wasLeft") ∈ lw_all := lw_g (lw_at lw_m5 158 rfl) rfl
theorem q1220 : (Jvm.Cond.lays "CoresAreWillsModel" "CoresAreWillsModel" "wasBites" "I") ∈ lw_all := lw_g (lw_at lw_m5 159 rfl) rfl
theorem q1221 : (Jvm.Cond.soleField "CoresAreWillsModel" "wasBites") ∈ lw_all := lw_g (lw_at lw_m5 160 rfl) rfl
theorem q1222 : (Jvm.Cond.lays "CoresAreWillsModel" "CoresAreWillsModel" "wasMany" "I") ∈ lw_all := lw_g (lw_at lw_m5 161 rfl) rfl
theorem q1223 : (Jvm.Cond.soleField "CoresAreWillsModel" "wasMany") ∈ lw_all := lw_g (lw_at lw_m5 162 rfl) rfl
theorem q1224 : (Jvm.Cond.laysFinal "CoresAreWillsModel" "CoresAreWillsModel" "kind" "[I") ∈ lw_all := lw_g (lw_at lw_m5 163 rfl) rfl
theorem q1225 : (Jvm.Cond.soleField "CoresAreWillsModel" "kind") ∈ lw_all := lw_g (lw_at lw_m5 164 rfl) rfl
theorem q1226 : (Jvm.Cond.laysFinal "CoresAreWillsModel" "CoresAreWillsModel" "figure" "[I") ∈ lw_all := lw_g (lw_at lw_m5 165 rfl) rfl
theorem q1227 : (Jvm.Cond.soleField "CoresAreWillsModel" "figure") ∈ lw_all := lw_g (lw_at lw_m5 166 rfl) rfl
theorem q1228 : (Jvm.Cond.laysFinal "CoresAreWillsModel" "CoresAreWillsModel" "imageKind" "[I") ∈ lw_all := lw_g (lw_at lw_m5 167 rfl) rfl
theorem q1229 : (Jvm.Cond.soleField "CoresAreWillsModel" "imageKind") ∈ lw_all := lw_g (lw_at lw_m5 168 rfl) rfl
theorem q1230 : (Jvm.Cond.laysFinal "CoresAreWillsModel" "CoresAreWillsModel" "imageFigure" "[I") ∈ lw_all := lw_g (lw_at lw_m5 169 rfl) rfl
theorem q1231 : (Jvm.Cond.soleField "CoresAreWillsModel" "imageFigure") ∈ lw_all := lw_g (lw_at lw_m5 170 rfl) rfl
theorem q1232 : (Jvm.Cond.laysFinal "CoresAreWillsModel" "CoresAreWillsModel" "wasKind" "[I") ∈ lw_all := lw_g (lw_at lw_m5 171 rfl) rfl
theorem q1233 : (Jvm.Cond.soleField "CoresAreWillsModel" "wasKind") ∈ lw_all := lw_g (lw_at lw_m5 172 rfl) rfl
theorem q1234 : (Jvm.Cond.laysFinal "CoresAreWillsModel" "CoresAreWillsModel" "wasFigure" "[I") ∈ lw_all := lw_g (lw_at lw_m5 173 rfl) rfl
theorem q1235 : (Jvm.Cond.soleField "CoresAreWillsModel" "wasFigure") ∈ lw_all := lw_g (lw_at lw_m5 174 rfl) rfl
theorem q1236 : (Jvm.Cond.lays "CoresAreWillsModel" "CoresAreWillsModel" "hasImage" "Z") ∈ lw_all := lw_g (lw_at lw_m5 175 rfl) rfl
theorem q1237 : (Jvm.Cond.soleField "CoresAreWillsModel" "hasImage") ∈ lw_all := lw_g (lw_at lw_m5 176 rfl) rfl
theorem q1238 : (Jvm.Cond.laysFinal "CoresAreWillsModel" "CoresAreWillsModel" "letters" "[I") ∈ lw_all := lw_g (lw_at lw_m5 177 rfl) rfl
theorem q1239 : (Jvm.Cond.soleField "CoresAreWillsModel" "letters") ∈ lw_all := lw_g (lw_at lw_m5 178 rfl) rfl
theorem q1240 : (Jvm.Cond.laysFinal "CoresAreWillsModel" "CoresAreWillsModel" "row" "[I") ∈ lw_all := lw_g (lw_at lw_m5 179 rfl) rfl
theorem q1241 : (Jvm.Cond.soleField "CoresAreWillsModel" "row") ∈ lw_all := lw_g (lw_at lw_m5 180 rfl) rfl
theorem q1242 : (Jvm.Cond.laysFinal "CoresAreWillsModel" "CoresAreWillsModel" "refused" "[I") ∈ lw_all := lw_g (lw_at lw_m5 181 rfl) rfl
theorem q1243 : (Jvm.Cond.soleField "CoresAreWillsModel" "refused") ∈ lw_all := lw_g (lw_at lw_m5 182 rfl) rfl
theorem q1244 : (Jvm.Cond.lays "CoresAreWillsModel" "CoresAreWillsModel" "letterMany" "I") ∈ lw_all := lw_g (lw_at lw_m5 183 rfl) rfl
theorem q1245 : (Jvm.Cond.soleField "CoresAreWillsModel" "letterMany") ∈ lw_all := lw_g (lw_at lw_m5 184 rfl) rfl
theorem q1246 : (Jvm.Cond.lays "CoresAreWillsModel" "CoresAreWillsModel" "rowMany" "I") ∈ lw_all := lw_g (lw_at lw_m5 185 rfl) rfl
theorem q1247 : (Jvm.Cond.soleField "CoresAreWillsModel" "rowMany") ∈ lw_all := lw_g (lw_at lw_m5 186 rfl) rfl
theorem q1248 : (Jvm.Cond.lays "CoresAreWillsModel" "CoresAreWillsModel" "place" "I") ∈ lw_all := lw_g (lw_at lw_m5 187 rfl) rfl
theorem q1249 : (Jvm.Cond.soleField "CoresAreWillsModel" "place") ∈ lw_all := lw_g (lw_at lw_m5 188 rfl) rfl
theorem q1250 : (Jvm.Cond.laysFinal "CoresAreWillsModel" "CoresAreWillsModel" "numbers" "[I") ∈ lw_all := lw_g (lw_at lw_m5 189 rfl) rfl
theorem q1251 : (Jvm.Cond.soleField "CoresAreWillsModel" "numbers") ∈ lw_all := lw_g (lw_at lw_m5 190 rfl) rfl
theorem q1252 : (Jvm.Cond.laysFinal "CoresAreWillsModel" "CoresAreWillsModel" "counted" "[I") ∈ lw_all := lw_g (lw_at lw_m5 191 rfl) rfl
theorem q1253 : (Jvm.Cond.soleField "CoresAreWillsModel" "counted") ∈ lw_all := lw_g (lw_at lw_m5 192 rfl) rfl
theorem q1254 : (Jvm.Cond.laysFinal "CoresAreWillsModel" "CoresAreWillsModel" "few" "[I") ∈ lw_all := lw_g (lw_at lw_m5 193 rfl) rfl
theorem q1255 : (Jvm.Cond.soleField "CoresAreWillsModel" "few") ∈ lw_all := lw_g (lw_at lw_m5 194 rfl) rfl
theorem q1256 : (Jvm.Cond.lays "CoresAreWillsModel" "CoresAreWillsModel" "seed" "I") ∈ lw_all := lw_g (lw_at lw_m5 195 rfl) rfl
theorem q1257 : (Jvm.Cond.soleField "CoresAreWillsModel" "seed") ∈ lw_all := lw_g (lw_at lw_m5 196 rfl) rfl
theorem q1258 : (Jvm.Cond.superclass "CoresAreWillsModel" "java/lang/Object") ∈ lw_all := lw_g (lw_at lw_m5 197 rfl) rfl
theorem q1260 : (Jvm.Cond.instanceMethod ({ cls := "CoresAreWillsModel", name := "letter", desc := "(I)I" } : Jvm.MethodName)) ∈ lw_all := lw_g (lw_at lw_m5 199 rfl) rfl
theorem q1261 : (Jvm.Cond.selects "CoresAreWillsModel" ({ cls := "CoresAreWillsModel", name := "letter", desc := "(I)I" } : Jvm.MethodName) ({ cls := "CoresAreWillsModel", name := "letter", desc := "(I)I" } : Jvm.MethodName)) ∈ lw_all := lw_g (lw_at lw_m5 200 rfl) rfl
theorem q1262 : (Jvm.Cond.code ({ cls := "CoresAreWillsModel", name := "letter", desc := "(I)I" } : Jvm.MethodName) prog_21_method_24_code (2 : Nat) (Option.some Jvm.ClassFile.FieldType.int)) ∈ lw_all := lw_g (lw_at lw_m5 201 rfl) rfl
theorem q1263 : (Jvm.Cond.methodLink "CoresAreWillsModel" (52 : Nat) ({ cls := "CoresAreWillsModel", name := "no", desc := "(I)I" } : Jvm.MethodName)) ∈ lw_all := lw_g (lw_at lw_m5 202 rfl) rfl
theorem q1264 : (Jvm.Cond.privateMethod ({ cls := "CoresAreWillsModel", name := "no", desc := "(I)I" } : Jvm.MethodName)) ∈ lw_tbl := lw_at lw_m5 203 rfl
theorem q1265 : (Jvm.Cond.instanceMethod ({ cls := "CoresAreWillsModel", name := "no", desc := "(I)I" } : Jvm.MethodName)) ∈ lw_all := lw_g (lw_at lw_m5 204 rfl) rfl
theorem q1266 : (Jvm.Cond.code ({ cls := "CoresAreWillsModel", name := "no", desc := "(I)I" } : Jvm.MethodName) prog_21_method_4_code (2 : Nat) (Option.some Jvm.ClassFile.FieldType.int)) ∈ lw_all := lw_g (lw_at lw_m5 205 rfl) rfl
theorem q1268 : (Jvm.Cond.instanceMethod ({ cls := "CoresAreWillsModel", name := "core", desc := "()I" } : Jvm.MethodName)) ∈ lw_all := lw_g (lw_at lw_m5 207 rfl) rfl
theorem q1269 : (Jvm.Cond.selects "CoresAreWillsModel" ({ cls := "CoresAreWillsModel", name := "core", desc := "()I" } : Jvm.MethodName) ({ cls := "CoresAreWillsModel", name := "core", desc := "()I" } : Jvm.MethodName)) ∈ lw_all := lw_g (lw_at lw_m5 208 rfl) rfl
theorem q1270 : (Jvm.Cond.code ({ cls := "CoresAreWillsModel", name := "core", desc := "()I" } : Jvm.MethodName) prog_21_method_35_code (6 : Nat) (Option.some Jvm.ClassFile.FieldType.int)) ∈ lw_all := lw_g (lw_at lw_m5 209 rfl) rfl
theorem q1271 : (Jvm.Cond.methodLink "CoresAreWillsModel" (156 : Nat) ({ cls := "CoresAreWillsModel", name := "readsStatement", desc := "()Z" } : Jvm.MethodName)) ∈ lw_all := lw_g (lw_at lw_m5 210 rfl) rfl
theorem q1272 : (Jvm.Cond.privateMethod ({ cls := "CoresAreWillsModel", name := "readsStatement", desc := "()Z" } : Jvm.MethodName)) ∈ lw_tbl := lw_at lw_m5 211 rfl
theorem q1273 : (Jvm.Cond.instanceMethod ({ cls := "CoresAreWillsModel", name := "readsStatement", desc := "()Z" } : Jvm.MethodName)) ∈ lw_all := lw_g (lw_at lw_m5 212 rfl) rfl
theorem q1274 : (Jvm.Cond.code ({ cls := "CoresAreWillsModel", name := "readsStatement", desc := "()Z" } : Jvm.MethodName) prog_21_method_29_code (3 : Nat) (Option.some Jvm.ClassFile.FieldType.boolean)) ∈ lw_all := lw_g (lw_at lw_m5 213 rfl) rfl
theorem q1275 : (Jvm.Cond.methodLink "CoresAreWillsModel" (110 : Nat) ({ cls := "CoresAreWillsModel", name := "here", desc := "()I" } : Jvm.MethodName)) ∈ lw_all := lw_g (lw_at lw_m5 214 rfl) rfl
theorem q1276 : (Jvm.Cond.privateMethod ({ cls := "CoresAreWillsModel", name := "here", desc := "()I" } : Jvm.MethodName)) ∈ lw_tbl := lw_at lw_m5 215 rfl
theorem q1277 : (Jvm.Cond.instanceMethod ({ cls := "CoresAreWillsModel", name := "here", desc := "()I" } : Jvm.MethodName)) ∈ lw_all := lw_g (lw_at lw_m5 216 rfl) rfl
theorem q1278 : (Jvm.Cond.code ({ cls := "CoresAreWillsModel", name := "here", desc := "()I" } : Jvm.MethodName) prog_21_method_25_code (1 : Nat) (Option.some Jvm.ClassFile.FieldType.int)) ∈ lw_all := lw_g (lw_at lw_m5 217 rfl) rfl
theorem q1279 : (Jvm.Cond.methodLink "CoresAreWillsModel" (117 : Nat) ({ cls := "CoresAreWillsModel", name := "readsKind", desc := "()Z" } : Jvm.MethodName)) ∈ lw_all := lw_g (lw_at lw_m5 218 rfl) rfl
theorem q1280 : (Jvm.Cond.privateMethod ({ cls := "CoresAreWillsModel", name := "readsKind", desc := "()Z" } : Jvm.MethodName)) ∈ lw_tbl := lw_at lw_m5 219 rfl
theorem q1281 : (Jvm.Cond.instanceMethod ({ cls := "CoresAreWillsModel", name := "readsKind", desc := "()Z" } : Jvm.MethodName)) ∈ lw_all := lw_g (lw_at lw_m5 220 rfl) rfl
theorem q1282 : (Jvm.Cond.code ({ cls := "CoresAreWillsModel", name := "readsKind", desc := "()Z" } : Jvm.MethodName) prog_21_method_28_code (1 : Nat) (Option.some Jvm.ClassFile.FieldType.boolean)) ∈ lw_all := lw_g (lw_at lw_m5 221 rfl) rfl
theorem q1283 : (Jvm.Cond.methodLink "CoresAreWillsModel" (114 : Nat) ({ cls := "CoresAreWillsModel", name := "kindBy", desc := "(I)I" } : Jvm.MethodName)) ∈ lw_all := lw_g (lw_at lw_m5 222 rfl) rfl
theorem q1284 : (Jvm.Cond.static ({ cls := "CoresAreWillsModel", name := "kindBy", desc := "(I)I" } : Jvm.MethodName)) ∈ lw_all := lw_g (lw_at lw_m5 223 rfl) rfl
theorem q1285 : (Jvm.Cond.code ({ cls := "CoresAreWillsModel", name := "kindBy", desc := "(I)I" } : Jvm.MethodName) prog_21_method_27_code (1 : Nat) (Option.some Jvm.ClassFile.FieldType.int)) ∈ lw_all := lw_g (lw_at lw_m5 224 rfl) rfl
theorem q1286 : (Jvm.Cond.methodLink "CoresAreWillsModel" (121 : Nat) ({ cls := "CoresAreWillsModel", name := "readsNumber", desc := "(II)Z" } : Jvm.MethodName)) ∈ lw_all := lw_g (lw_at lw_m5 225 rfl) rfl
theorem q1287 : (Jvm.Cond.privateMethod ({ cls := "CoresAreWillsModel", name := "readsNumber", desc := "(II)Z" } : Jvm.MethodName)) ∈ lw_tbl := lw_at lw_m5 226 rfl
theorem q1288 : (Jvm.Cond.instanceMethod ({ cls := "CoresAreWillsModel", name := "readsNumber", desc := "(II)Z" } : Jvm.MethodName)) ∈ lw_all := lw_g (lw_at lw_m5 227 rfl) rfl
theorem q1289 : (Jvm.Cond.code ({ cls := "CoresAreWillsModel", name := "readsNumber", desc := "(II)Z" } : Jvm.MethodName) prog_21_method_26_code (4 : Nat) (Option.some Jvm.ClassFile.FieldType.boolean)) ∈ lw_all := lw_g (lw_at lw_m5 228 rfl) rfl
theorem q1290 : (Jvm.Cond.methodLink "CoresAreWillsModel" (58 : Nat) ({ cls := "CoresAreWillsModel", name := "isIn", desc := "(III)Z" } : Jvm.MethodName)) ∈ lw_all := lw_g (lw_at lw_m5 229 rfl) rfl
theorem q1291 : (Jvm.Cond.static ({ cls := "CoresAreWillsModel", name := "isIn", desc := "(III)Z" } : Jvm.MethodName)) ∈ lw_all := lw_g (lw_at lw_m5 230 rfl) rfl
theorem q1292 : (Jvm.Cond.code ({ cls := "CoresAreWillsModel", name := "isIn", desc := "(III)Z" } : Jvm.MethodName) prog_21_method_2_code (3 : Nat) (Option.some Jvm.ClassFile.FieldType.boolean)) ∈ lw_all := lw_g (lw_at lw_m5 231 rfl) rfl
theorem q1293 : (Jvm.Cond.methodLink "CoresAreWillsModel" (159 : Nat) ({ cls := "CoresAreWillsModel", name := "lays", desc := "()V" } : Jvm.MethodName)) ∈ lw_all := lw_g (lw_at lw_m5 232 rfl) rfl
theorem q1294 : (Jvm.Cond.privateMethod ({ cls := "CoresAreWillsModel", name := "lays", desc := "()V" } : Jvm.MethodName)) ∈ lw_tbl := lw_at lw_m5 233 rfl
theorem q1295 : (Jvm.Cond.instanceMethod ({ cls := "CoresAreWillsModel", name := "lays", desc := "()V" } : Jvm.MethodName)) ∈ lw_all := lw_g (lw_at lw_m5 234 rfl) rfl
theorem q1296 : (Jvm.Cond.code ({ cls := "CoresAreWillsModel", name := "lays", desc := "()V" } : Jvm.MethodName) prog_21_method_33_code (2 : Nat) (Option.none : Option Jvm.ClassFile.FieldType)) ∈ lw_all := lw_g (lw_at lw_m5 235 rfl) rfl
theorem q1297 : (Jvm.Cond.methodLink "CoresAreWillsModel" (162 : Nat) ({ cls := "CoresAreWillsModel", name := "isDone", desc := "(I)Z" } : Jvm.MethodName)) ∈ lw_all := lw_g (lw_at lw_m5 236 rfl) rfl
theorem q1298 : (Jvm.Cond.privateMethod ({ cls := "CoresAreWillsModel", name := "isDone", desc := "(I)Z" } : Jvm.MethodName)) ∈ lw_tbl := lw_at lw_m5 237 rfl
theorem q1299 : (Jvm.Cond.instanceMethod ({ cls := "CoresAreWillsModel", name := "isDone", desc := "(I)Z" } : Jvm.MethodName)) ∈ lw_all := lw_g (lw_at lw_m5 238 rfl) rfl
theorem q1300 : (Jvm.Cond.code ({ cls := "CoresAreWillsModel", name := "isDone", desc := "(I)Z" } : Jvm.MethodName) prog_21_method_32_code (4 : Nat) (Option.some Jvm.ClassFile.FieldType.boolean)) ∈ lw_all := lw_g (lw_at lw_m5 239 rfl) rfl
theorem q1301 : (Jvm.Cond.methodLink "CoresAreWillsModel" (130 : Nat) ({ cls := "CoresAreWillsModel", name := "isCell", desc := "(I)Z" } : Jvm.MethodName)) ∈ lw_all := lw_g (lw_at lw_m6 0 rfl) rfl
theorem q1302 : (Jvm.Cond.static ({ cls := "CoresAreWillsModel", name := "isCell", desc := "(I)Z" } : Jvm.MethodName)) ∈ lw_all := lw_g (lw_at lw_m6 1 rfl) rfl
theorem q1303 : (Jvm.Cond.code ({ cls := "CoresAreWillsModel", name := "isCell", desc := "(I)Z" } : Jvm.MethodName) prog_21_method_7_code (1 : Nat) (Option.some Jvm.ClassFile.FieldType.boolean)) ∈ lw_all := lw_g (lw_at lw_m6 2 rfl) rfl
theorem q1304 : (Jvm.Cond.methodLink "CoresAreWillsModel" (134 : Nat) ({ cls := "CoresAreWillsModel", name := "canBite", desc := "(III)Z" } : Jvm.MethodName)) ∈ lw_all := lw_g (lw_at lw_m6 3 rfl) rfl
theorem q1305 : (Jvm.Cond.static ({ cls := "CoresAreWillsModel", name := "canBite", desc := "(III)Z" } : Jvm.MethodName)) ∈ lw_all := lw_g (lw_at lw_m6 4 rfl) rfl
theorem q1306 : (Jvm.Cond.code ({ cls := "CoresAreWillsModel", name := "canBite", desc := "(III)Z" } : Jvm.MethodName) prog_21_method_12_code (3 : Nat) (Option.some Jvm.ClassFile.FieldType.boolean)) ∈ lw_all := lw_g (lw_at lw_m6 5 rfl) rfl
theorem q1307 : (Jvm.Cond.methodLink "CoresAreWillsModel" (65 : Nat) ({ cls := "CoresAreWillsModel", name := "bite", desc := "(II)I" } : Jvm.MethodName)) ∈ lw_all := lw_g (lw_at lw_m6 6 rfl) rfl
theorem q1308 : (Jvm.Cond.static ({ cls := "CoresAreWillsModel", name := "bite", desc := "(II)I" } : Jvm.MethodName)) ∈ lw_all := lw_g (lw_at lw_m6 7 rfl) rfl
theorem q1309 : (Jvm.Cond.code ({ cls := "CoresAreWillsModel", name := "bite", desc := "(II)I" } : Jvm.MethodName) prog_21_method_11_code (5 : Nat) (Option.some Jvm.ClassFile.FieldType.int)) ∈ lw_all := lw_g (lw_at lw_m6 8 rfl) rfl
theorem q1310 : (Jvm.Cond.methodLink "CoresAreWillsModel" (137 : Nat) ({ cls := "CoresAreWillsModel", name := "bitesOff", desc := "(I)V" } : Jvm.MethodName)) ∈ lw_all := lw_g (lw_at lw_m6 9 rfl) rfl
theorem q1311 : (Jvm.Cond.privateMethod ({ cls := "CoresAreWillsModel", name := "bitesOff", desc := "(I)V" } : Jvm.MethodName)) ∈ lw_tbl := lw_at lw_m6 10 rfl
theorem q1312 : (Jvm.Cond.instanceMethod ({ cls := "CoresAreWillsModel", name := "bitesOff", desc := "(I)V" } : Jvm.MethodName)) ∈ lw_all := lw_g (lw_at lw_m6 11 rfl) rfl
theorem q1313 : (Jvm.Cond.code ({ cls := "CoresAreWillsModel", name := "bitesOff", desc := "(I)V" } : Jvm.MethodName) prog_21_method_30_code (2 : Nat) (Option.none : Option Jvm.ClassFile.FieldType)) ∈ lw_all := lw_g (lw_at lw_m6 12 rfl) rfl
theorem q1314 : (Jvm.Cond.methodLink "CoresAreWillsModel" (127 : Nat) ({ cls := "CoresAreWillsModel", name := "least", desc := "(II)I" } : Jvm.MethodName)) ∈ lw_all := lw_g (lw_at lw_m6 13 rfl) rfl
theorem q1315 : (Jvm.Cond.static ({ cls := "CoresAreWillsModel", name := "least", desc := "(II)I" } : Jvm.MethodName)) ∈ lw_all := lw_g (lw_at lw_m6 14 rfl) rfl
theorem q1316 : (Jvm.Cond.code ({ cls := "CoresAreWillsModel", name := "least", desc := "(II)I" } : Jvm.MethodName) prog_21_method_3_code (2 : Nat) (Option.some Jvm.ClassFile.FieldType.int)) ∈ lw_all := lw_g (lw_at lw_m6 15 rfl) rfl
theorem q1317 : (Jvm.Cond.methodLink "CoresAreWillsModel" (141 : Nat) ({ cls := "CoresAreWillsModel", name := "turnedBy", desc := "(II)I" } : Jvm.MethodName)) ∈ lw_all := lw_g (lw_at lw_m6 16 rfl) rfl
theorem q1318 : (Jvm.Cond.static ({ cls := "CoresAreWillsModel", name := "turnedBy", desc := "(II)I" } : Jvm.MethodName)) ∈ lw_all := lw_g (lw_at lw_m6 17 rfl) rfl
theorem q1319 : (Jvm.Cond.code ({ cls := "CoresAreWillsModel", name := "turnedBy", desc := "(II)I" } : Jvm.MethodName) prog_21_method_23_code (4 : Nat) (Option.some Jvm.ClassFile.FieldType.int)) ∈ lw_all := lw_g (lw_at lw_m6 18 rfl) rfl
theorem q1320 : (Jvm.Cond.methodLink "CoresAreWillsModel" (101 : Nat) ({ cls := "CoresAreWillsModel", name := "turned", desc := "(I)I" } : Jvm.MethodName)) ∈ lw_all := lw_g (lw_at lw_m6 19 rfl) rfl
theorem q1321 : (Jvm.Cond.static ({ cls := "CoresAreWillsModel", name := "turned", desc := "(I)I" } : Jvm.MethodName)) ∈ lw_all := lw_g (lw_at lw_m6 20 rfl) rfl
theorem q1322 : (Jvm.Cond.code ({ cls := "CoresAreWillsModel", name := "turned", desc := "(I)I" } : Jvm.MethodName) prog_21_method_22_code (3 : Nat) (Option.some Jvm.ClassFile.FieldType.int)) ∈ lw_all := lw_g (lw_at lw_m6 21 rfl) rfl
theorem q1323 : (Jvm.Cond.methodLink "CoresAreWillsModel" (144 : Nat) ({ cls := "CoresAreWillsModel", name := "allAgain", desc := "()V" } : Jvm.MethodName)) ∈ lw_all := lw_g (lw_at lw_m6 22 rfl) rfl
theorem q1324 : (Jvm.Cond.privateMethod ({ cls := "CoresAreWillsModel", name := "allAgain", desc := "()V" } : Jvm.MethodName)) ∈ lw_tbl := lw_at lw_m6 23 rfl
theorem q1325 : (Jvm.Cond.instanceMethod ({ cls := "CoresAreWillsModel", name := "allAgain", desc := "()V" } : Jvm.MethodName)) ∈ lw_all := lw_g (lw_at lw_m6 24 rfl) rfl
theorem q1326 : (Jvm.Cond.code ({ cls := "CoresAreWillsModel", name := "allAgain", desc := "()V" } : Jvm.MethodName) prog_21_method_31_code (1 : Nat) (Option.none : Option Jvm.ClassFile.FieldType)) ∈ lw_all := lw_g (lw_at lw_m6 25 rfl) rfl
theorem q1327 : (Jvm.Cond.methodLink "CoresAreWillsModel" (165 : Nat) ({ cls := "CoresAreWillsModel", name := "laysBack", desc := "()V" } : Jvm.MethodName)) ∈ lw_all := lw_g (lw_at lw_m6 26 rfl) rfl
theorem q1328 : (Jvm.Cond.privateMethod ({ cls := "CoresAreWillsModel", name := "laysBack", desc := "()V" } : Jvm.MethodName)) ∈ lw_tbl := lw_at lw_m6 27 rfl
theorem q1329 : (Jvm.Cond.instanceMethod ({ cls := "CoresAreWillsModel", name := "laysBack", desc := "()V" } : Jvm.MethodName)) ∈ lw_all := lw_g (lw_at lw_m6 28 rfl) rfl
theorem q1330 : (Jvm.Cond.code ({ cls := "CoresAreWillsModel", name := "laysBack", desc := "()V" } : Jvm.MethodName) prog_21_method_34_code (2 : Nat) (Option.none : Option Jvm.ClassFile.FieldType)) ∈ lw_all := lw_g (lw_at lw_m6 29 rfl) rfl
theorem q1332 : (Jvm.Cond.instanceMethod ({ cls := "CoresAreWillsModel", name := "cell", desc := "(II)I" } : Jvm.MethodName)) ∈ lw_all := lw_g (lw_at lw_m6 31 rfl) rfl
theorem q1333 : (Jvm.Cond.selects "CoresAreWillsModel" ({ cls := "CoresAreWillsModel", name := "cell", desc := "(II)I" } : Jvm.MethodName) ({ cls := "CoresAreWillsModel", name := "cell", desc := "(II)I" } : Jvm.MethodName)) ∈ lw_all := lw_g (lw_at lw_m6 32 rfl) rfl
theorem q1334 : (Jvm.Cond.code ({ cls := "CoresAreWillsModel", name := "cell", desc := "(II)I" } : Jvm.MethodName) prog_21_method_36_code (3 : Nat) (Option.some Jvm.ClassFile.FieldType.int)) ∈ lw_all := lw_g (lw_at lw_m6 33 rfl) rfl
theorem q1335 : (Jvm.Cond.methodLink "CoresAreWillsModel" (69 : Nat) ({ cls := "CoresAreWillsModel", name := "besideOf", desc := "(I)I" } : Jvm.MethodName)) ∈ lw_all := lw_g (lw_at lw_m6 34 rfl) rfl
theorem q1336 : (Jvm.Cond.static ({ cls := "CoresAreWillsModel", name := "besideOf", desc := "(I)I" } : Jvm.MethodName)) ∈ lw_all := lw_g (lw_at lw_m6 35 rfl) rfl
theorem q1337 : (Jvm.Cond.code ({ cls := "CoresAreWillsModel", name := "besideOf", desc := "(I)I" } : Jvm.MethodName) prog_21_method_13_code (3 : Nat) (Option.some Jvm.ClassFile.FieldType.int)) ∈ lw_all := lw_g (lw_at lw_m6 36 rfl) rfl
theorem q1338 : (Jvm.Cond.methodLink "CoresAreWillsModel" (82 : Nat) ({ cls := "CoresAreWillsModel", name := "bits", desc := "(I)I" } : Jvm.MethodName)) ∈ lw_all := lw_g (lw_at lw_m6 37 rfl) rfl
theorem q1339 : (Jvm.Cond.static ({ cls := "CoresAreWillsModel", name := "bits", desc := "(I)I" } : Jvm.MethodName)) ∈ lw_all := lw_g (lw_at lw_m6 38 rfl) rfl
theorem q1340 : (Jvm.Cond.code ({ cls := "CoresAreWillsModel", name := "bits", desc := "(I)I" } : Jvm.MethodName) prog_21_method_10_code (3 : Nat) (Option.some Jvm.ClassFile.FieldType.int)) ∈ lw_all := lw_g (lw_at lw_m6 39 rfl) rfl
theorem q1341 : (Jvm.Cond.methodLink "CoresAreWillsModel" (79 : Nat) ({ cls := "CoresAreWillsModel", name := "heapOf", desc := "(II)I" } : Jvm.MethodName)) ∈ lw_all := lw_g (lw_at lw_m6 40 rfl) rfl
theorem q1342 : (Jvm.Cond.static ({ cls := "CoresAreWillsModel", name := "heapOf", desc := "(II)I" } : Jvm.MethodName)) ∈ lw_all := lw_g (lw_at lw_m6 41 rfl) rfl
theorem q1343 : (Jvm.Cond.code ({ cls := "CoresAreWillsModel", name := "heapOf", desc := "(II)I" } : Jvm.MethodName) prog_21_method_14_code (4 : Nat) (Option.some Jvm.ClassFile.FieldType.int)) ∈ lw_all := lw_g (lw_at lw_m6 42 rfl) rfl
theorem q1345 : (Jvm.Cond.instanceMethod ({ cls := "CoresAreWillsModel", name := "heir", desc := "(II)I" } : Jvm.MethodName)) ∈ lw_all := lw_g (lw_at lw_m6 44 rfl) rfl
theorem q1346 : (Jvm.Cond.selects "CoresAreWillsModel" ({ cls := "CoresAreWillsModel", name := "heir", desc := "(II)I" } : Jvm.MethodName) ({ cls := "CoresAreWillsModel", name := "heir", desc := "(II)I" } : Jvm.MethodName)) ∈ lw_all := lw_g (lw_at lw_m6 45 rfl) rfl
theorem q1347 : (Jvm.Cond.code ({ cls := "CoresAreWillsModel", name := "heir", desc := "(II)I" } : Jvm.MethodName) prog_21_method_37_code (3 : Nat) (Option.some Jvm.ClassFile.FieldType.int)) ∈ lw_all := lw_g (lw_at lw_m6 46 rfl) rfl
theorem q1348 : (Jvm.Cond.methodLink "CoresAreWillsModel" (168 : Nat) ({ cls := "CoresAreWillsModel", name := "isHeir", desc := "(I)Z" } : Jvm.MethodName)) ∈ lw_all := lw_g (lw_at lw_m6 47 rfl) rfl
theorem q1349 : (Jvm.Cond.privateMethod ({ cls := "CoresAreWillsModel", name := "isHeir", desc := "(I)Z" } : Jvm.MethodName)) ∈ lw_tbl := lw_at lw_m6 48 rfl
theorem q1350 : (Jvm.Cond.instanceMethod ({ cls := "CoresAreWillsModel", name := "isHeir", desc := "(I)Z" } : Jvm.MethodName)) ∈ lw_all := lw_g (lw_at lw_m6 49 rfl) rfl
theorem q1351 : (Jvm.Cond.code ({ cls := "CoresAreWillsModel", name := "isHeir", desc := "(I)Z" } : Jvm.MethodName) prog_21_method_8_code (2 : Nat) (Option.some Jvm.ClassFile.FieldType.boolean)) ∈ lw_all := lw_g (lw_at lw_m6 50 rfl) rfl
theorem q1352 : (Jvm.Cond.methodLink "CoresAreWillsModel" (98 : Nat) ({ cls := "CoresAreWillsModel", name := "shareOf", desc := "(II)I" } : Jvm.MethodName)) ∈ lw_all := lw_g (lw_at lw_m6 51 rfl) rfl
theorem q1353 : (Jvm.Cond.privateMethod ({ cls := "CoresAreWillsModel", name := "shareOf", desc := "(II)I" } : Jvm.MethodName)) ∈ lw_tbl := lw_at lw_m6 52 rfl
theorem q1354 : (Jvm.Cond.instanceMethod ({ cls := "CoresAreWillsModel", name := "shareOf", desc := "(II)I" } : Jvm.MethodName)) ∈ lw_all := lw_g (lw_at lw_m6 53 rfl) rfl
theorem q1355 : (Jvm.Cond.code ({ cls := "CoresAreWillsModel", name := "shareOf", desc := "(II)I" } : Jvm.MethodName) prog_21_method_20_code (3 : Nat) (Option.some Jvm.ClassFile.FieldType.int)) ∈ lw_all := lw_g (lw_at lw_m6 54 rfl) rfl
theorem q1356 : (Jvm.Cond.methodLink "CoresAreWillsModel" (94 : Nat) ({ cls := "CoresAreWillsModel", name := "shareBy", desc := "(III)I" } : Jvm.MethodName)) ∈ lw_all := lw_g (lw_at lw_m6 55 rfl) rfl
theorem q1357 : (Jvm.Cond.static ({ cls := "CoresAreWillsModel", name := "shareBy", desc := "(III)I" } : Jvm.MethodName)) ∈ lw_all := lw_g (lw_at lw_m6 56 rfl) rfl
theorem q1358 : (Jvm.Cond.code ({ cls := "CoresAreWillsModel", name := "shareBy", desc := "(III)I" } : Jvm.MethodName) prog_21_method_19_code (7 : Nat) (Option.some Jvm.ClassFile.FieldType.int)) ∈ lw_all := lw_g (lw_at lw_m6 57 rfl) rfl
theorem q1359 : (Jvm.Cond.methodLink "CoresAreWillsModel" (85 : Nat) ({ cls := "CoresAreWillsModel", name := "deed", desc := "(I)I" } : Jvm.MethodName)) ∈ lw_all := lw_g (lw_at lw_m6 58 rfl) rfl
theorem q1360 : (Jvm.Cond.static ({ cls := "CoresAreWillsModel", name := "deed", desc := "(I)I" } : Jvm.MethodName)) ∈ lw_all := lw_g (lw_at lw_m6 59 rfl) rfl
theorem q1361 : (Jvm.Cond.code ({ cls := "CoresAreWillsModel", name := "deed", desc := "(I)I" } : Jvm.MethodName) prog_21_method_17_code (5 : Nat) (Option.some Jvm.ClassFile.FieldType.int)) ∈ lw_all := lw_g (lw_at lw_m6 60 rfl) rfl
theorem q1362 : (Jvm.Cond.methodLink "CoresAreWillsModel" (76 : Nat) ({ cls := "CoresAreWillsModel", name := "leastOf", desc := "(I)I" } : Jvm.MethodName)) ∈ lw_all := lw_g (lw_at lw_m6 61 rfl) rfl
theorem q1363 : (Jvm.Cond.static ({ cls := "CoresAreWillsModel", name := "leastOf", desc := "(I)I" } : Jvm.MethodName)) ∈ lw_all := lw_g (lw_at lw_m6 62 rfl) rfl
theorem q1364 : (Jvm.Cond.code ({ cls := "CoresAreWillsModel", name := "leastOf", desc := "(I)I" } : Jvm.MethodName) prog_21_method_15_code (2 : Nat) (Option.some Jvm.ClassFile.FieldType.int)) ∈ lw_all := lw_g (lw_at lw_m6 63 rfl) rfl
theorem q1365 : (Jvm.Cond.methodLink "CoresAreWillsModel" (72 : Nat) ({ cls := "CoresAreWillsModel", name := "has", desc := "(II)Z" } : Jvm.MethodName)) ∈ lw_all := lw_g (lw_at lw_m6 64 rfl) rfl
theorem q1366 : (Jvm.Cond.static ({ cls := "CoresAreWillsModel", name := "has", desc := "(II)Z" } : Jvm.MethodName)) ∈ lw_all := lw_g (lw_at lw_m6 65 rfl) rfl
theorem q1367 : (Jvm.Cond.code ({ cls := "CoresAreWillsModel", name := "has", desc := "(II)Z" } : Jvm.MethodName) prog_21_method_9_code (2 : Nat) (Option.some Jvm.ClassFile.FieldType.boolean)) ∈ lw_all := lw_g (lw_at lw_m6 66 rfl) rfl
theorem q1368 : (Jvm.Cond.methodLink "CoresAreWillsModel" (88 : Nat) ({ cls := "CoresAreWillsModel", name := "most", desc := "(II)I" } : Jvm.MethodName)) ∈ lw_all := lw_g (lw_at lw_m6 67 rfl) rfl
theorem q1369 : (Jvm.Cond.static ({ cls := "CoresAreWillsModel", name := "most", desc := "(II)I" } : Jvm.MethodName)) ∈ lw_all := lw_g (lw_at lw_m6 68 rfl) rfl
theorem q1370 : (Jvm.Cond.code ({ cls := "CoresAreWillsModel", name := "most", desc := "(II)I" } : Jvm.MethodName) prog_21_method_18_code (2 : Nat) (Option.some Jvm.ClassFile.FieldType.int)) ∈ lw_all := lw_g (lw_at lw_m6 69 rfl) rfl
theorem q1371 : (Jvm.Cond.methodLink "CoresAreWillsModel" (91 : Nat) ({ cls := "CoresAreWillsModel", name := "heaps", desc := "(I)I" } : Jvm.MethodName)) ∈ lw_all := lw_g (lw_at lw_m6 70 rfl) rfl
theorem q1372 : (Jvm.Cond.static ({ cls := "CoresAreWillsModel", name := "heaps", desc := "(I)I" } : Jvm.MethodName)) ∈ lw_all := lw_g (lw_at lw_m6 71 rfl) rfl
theorem q1373 : (Jvm.Cond.code ({ cls := "CoresAreWillsModel", name := "heaps", desc := "(I)I" } : Jvm.MethodName) prog_21_method_16_code (3 : Nat) (Option.some Jvm.ClassFile.FieldType.int)) ∈ lw_all := lw_g (lw_at lw_m6 72 rfl) rfl
theorem q1375 : (Jvm.Cond.instanceMethod ({ cls := "CoresAreWillsModel", name := "bites", desc := "(II)I" } : Jvm.MethodName)) ∈ lw_all := lw_g (lw_at lw_m6 74 rfl) rfl
theorem q1376 : (Jvm.Cond.selects "CoresAreWillsModel" ({ cls := "CoresAreWillsModel", name := "bites", desc := "(II)I" } : Jvm.MethodName) ({ cls := "CoresAreWillsModel", name := "bites", desc := "(II)I" } : Jvm.MethodName)) ∈ lw_all := lw_g (lw_at lw_m6 75 rfl) rfl
theorem q1377 : (Jvm.Cond.code ({ cls := "CoresAreWillsModel", name := "bites", desc := "(II)I" } : Jvm.MethodName) prog_21_method_38_code (3 : Nat) (Option.some Jvm.ClassFile.FieldType.int)) ∈ lw_all := lw_g (lw_at lw_m6 76 rfl) rfl
theorem q1379 : (Jvm.Cond.instanceMethod ({ cls := "CoresAreWillsModel", name := "heals", desc := "(I)I" } : Jvm.MethodName)) ∈ lw_all := lw_g (lw_at lw_m6 78 rfl) rfl
theorem q1380 : (Jvm.Cond.selects "CoresAreWillsModel" ({ cls := "CoresAreWillsModel", name := "heals", desc := "(I)I" } : Jvm.MethodName) ({ cls := "CoresAreWillsModel", name := "heals", desc := "(I)I" } : Jvm.MethodName)) ∈ lw_all := lw_g (lw_at lw_m6 79 rfl) rfl
theorem q1381 : (Jvm.Cond.code ({ cls := "CoresAreWillsModel", name := "heals", desc := "(I)I" } : Jvm.MethodName) prog_21_method_39_code (2 : Nat) (Option.some Jvm.ClassFile.FieldType.int)) ∈ lw_all := lw_g (lw_at lw_m6 80 rfl) rfl
theorem q1383 : (Jvm.Cond.instanceMethod ({ cls := "CoresAreWillsModel", name := "rolls", desc := "(I)I" } : Jvm.MethodName)) ∈ lw_all := lw_g (lw_at lw_m6 82 rfl) rfl
theorem q1384 : (Jvm.Cond.selects "CoresAreWillsModel" ({ cls := "CoresAreWillsModel", name := "rolls", desc := "(I)I" } : Jvm.MethodName) ({ cls := "CoresAreWillsModel", name := "rolls", desc := "(I)I" } : Jvm.MethodName)) ∈ lw_all := lw_g (lw_at lw_m6 83 rfl) rfl
theorem q1385 : (Jvm.Cond.code ({ cls := "CoresAreWillsModel", name := "rolls", desc := "(I)I" } : Jvm.MethodName) prog_21_method_40_code (2 : Nat) (Option.some Jvm.ClassFile.FieldType.int)) ∈ lw_all := lw_g (lw_at lw_m6 84 rfl) rfl
theorem q1387 : (Jvm.Cond.instanceMethod ({ cls := "CoresAreWillsModel", name := "turn", desc := "(III)I" } : Jvm.MethodName)) ∈ lw_all := lw_g (lw_at lw_m6 86 rfl) rfl
theorem q1388 : (Jvm.Cond.selects "CoresAreWillsModel" ({ cls := "CoresAreWillsModel", name := "turn", desc := "(III)I" } : Jvm.MethodName) ({ cls := "CoresAreWillsModel", name := "turn", desc := "(III)I" } : Jvm.MethodName)) ∈ lw_all := lw_g (lw_at lw_m6 87 rfl) rfl
theorem q1389 : (Jvm.Cond.code ({ cls := "CoresAreWillsModel", name := "turn", desc := "(III)I" } : Jvm.MethodName) prog_21_method_42_code (6 : Nat) (Option.some Jvm.ClassFile.FieldType.int)) ∈ lw_all := lw_g (lw_at lw_m6 88 rfl) rfl
theorem q1390 : (Jvm.Cond.methodLink "CoresAreWillsModel" (171 : Nat) ({ cls := "CoresAreWillsModel", name := "wrongBy", desc := "(II)I" } : Jvm.MethodName)) ∈ lw_all := lw_g (lw_at lw_m6 89 rfl) rfl
theorem q1391 : (Jvm.Cond.static ({ cls := "CoresAreWillsModel", name := "wrongBy", desc := "(II)I" } : Jvm.MethodName)) ∈ lw_all := lw_g (lw_at lw_m6 90 rfl) rfl
theorem q1392 : (Jvm.Cond.code ({ cls := "CoresAreWillsModel", name := "wrongBy", desc := "(II)I" } : Jvm.MethodName) prog_21_method_41_code (2 : Nat) (Option.some Jvm.ClassFile.FieldType.int)) ∈ lw_all := lw_g (lw_at lw_m6 91 rfl) rfl
theorem q1394 : (Jvm.Cond.instanceMethod ({ cls := "CoresAreWillsModel", name := "anew", desc := "()I" } : Jvm.MethodName)) ∈ lw_all := lw_g (lw_at lw_m6 93 rfl) rfl
theorem q1395 : (Jvm.Cond.selects "CoresAreWillsModel" ({ cls := "CoresAreWillsModel", name := "anew", desc := "()I" } : Jvm.MethodName) ({ cls := "CoresAreWillsModel", name := "anew", desc := "()I" } : Jvm.MethodName)) ∈ lw_all := lw_g (lw_at lw_m6 94 rfl) rfl
theorem q1396 : (Jvm.Cond.code ({ cls := "CoresAreWillsModel", name := "anew", desc := "()I" } : Jvm.MethodName) prog_21_method_43_code (2 : Nat) (Option.some Jvm.ClassFile.FieldType.int)) ∈ lw_all := lw_g (lw_at lw_m6 95 rfl) rfl
theorem q1398 : (Jvm.Cond.instanceMethod ({ cls := "CoresAreWillsModel", name := "shares", desc := "(I)I" } : Jvm.MethodName)) ∈ lw_all := lw_g (lw_at lw_m6 97 rfl) rfl
theorem q1399 : (Jvm.Cond.selects "CoresAreWillsModel" ({ cls := "CoresAreWillsModel", name := "shares", desc := "(I)I" } : Jvm.MethodName) ({ cls := "CoresAreWillsModel", name := "shares", desc := "(I)I" } : Jvm.MethodName)) ∈ lw_all := lw_g (lw_at lw_m6 98 rfl) rfl
theorem q1400 : (Jvm.Cond.code ({ cls := "CoresAreWillsModel", name := "shares", desc := "(I)I" } : Jvm.MethodName) prog_21_method_44_code (4 : Nat) (Option.some Jvm.ClassFile.FieldType.int)) ∈ lw_all := lw_g (lw_at lw_m6 99 rfl) rfl
theorem q1401 : (Jvm.Cond.methodLink "CoresAreWillsModel" (174 : Nat) ({ cls := "CoresAreWillsModel", name := "sharesOf", desc := "(I)I" } : Jvm.MethodName)) ∈ lw_all := lw_g (lw_at lw_m6 100 rfl) rfl
theorem q1402 : (Jvm.Cond.privateMethod ({ cls := "CoresAreWillsModel", name := "sharesOf", desc := "(I)I" } : Jvm.MethodName)) ∈ lw_tbl := lw_at lw_m6 101 rfl
theorem q1403 : (Jvm.Cond.instanceMethod ({ cls := "CoresAreWillsModel", name := "sharesOf", desc := "(I)I" } : Jvm.MethodName)) ∈ lw_all := lw_g (lw_at lw_m6 102 rfl) rfl
theorem q1404 : (Jvm.Cond.code ({ cls := "CoresAreWillsModel", name := "sharesOf", desc := "(I)I" } : Jvm.MethodName) prog_21_method_21_code (4 : Nat) (Option.some Jvm.ClassFile.FieldType.int)) ∈ lw_all := lw_g (lw_at lw_m6 103 rfl) rfl
theorem q1406 : (Jvm.Cond.instanceMethod ({ cls := "CoresAreWillsModel", name := "pieces", desc := "(I)I" } : Jvm.MethodName)) ∈ lw_all := lw_g (lw_at lw_m6 105 rfl) rfl
theorem q1407 : (Jvm.Cond.selects "CoresAreWillsModel" ({ cls := "CoresAreWillsModel", name := "pieces", desc := "(I)I" } : Jvm.MethodName) ({ cls := "CoresAreWillsModel", name := "pieces", desc := "(I)I" } : Jvm.MethodName)) ∈ lw_all := lw_g (lw_at lw_m6 106 rfl) rfl
theorem q1408 : (Jvm.Cond.code ({ cls := "CoresAreWillsModel", name := "pieces", desc := "(I)I" } : Jvm.MethodName) prog_21_method_46_code (3 : Nat) (Option.some Jvm.ClassFile.FieldType.int)) ∈ lw_all := lw_g (lw_at lw_m6 107 rfl) rfl
theorem q1409 : (Jvm.Cond.methodLink "CoresAreWillsModel" (177 : Nat) ({ cls := "CoresAreWillsModel", name := "leastHeap", desc := "(I)I" } : Jvm.MethodName)) ∈ lw_all := lw_g (lw_at lw_m6 108 rfl) rfl
theorem q1410 : (Jvm.Cond.static ({ cls := "CoresAreWillsModel", name := "leastHeap", desc := "(I)I" } : Jvm.MethodName)) ∈ lw_all := lw_g (lw_at lw_m6 109 rfl) rfl
theorem q1411 : (Jvm.Cond.code ({ cls := "CoresAreWillsModel", name := "leastHeap", desc := "(I)I" } : Jvm.MethodName) prog_21_method_45_code (4 : Nat) (Option.some Jvm.ClassFile.FieldType.int)) ∈ lw_all := lw_g (lw_at lw_m6 110 rfl) rfl
theorem q1413 : (Jvm.Cond.instanceMethod ({ cls := "CoresAreWillsModel", name := "edge", desc := "(I)I" } : Jvm.MethodName)) ∈ lw_all := lw_g (lw_at lw_m6 112 rfl) rfl
theorem q1414 : (Jvm.Cond.selects "CoresAreWillsModel" ({ cls := "CoresAreWillsModel", name := "edge", desc := "(I)I" } : Jvm.MethodName) ({ cls := "CoresAreWillsModel", name := "edge", desc := "(I)I" } : Jvm.MethodName)) ∈ lw_all := lw_g (lw_at lw_m6 113 rfl) rfl
theorem q1415 : (Jvm.Cond.code ({ cls := "CoresAreWillsModel", name := "edge", desc := "(I)I" } : Jvm.MethodName) prog_21_method_48_code (5 : Nat) (Option.some Jvm.ClassFile.FieldType.int)) ∈ lw_all := lw_g (lw_at lw_m6 114 rfl) rfl
theorem q1416 : (Jvm.Cond.methodLink "CoresAreWillsModel" (180 : Nat) ({ cls := "CoresAreWillsModel", name := "border", desc := "()I" } : Jvm.MethodName)) ∈ lw_all := lw_g (lw_at lw_m6 115 rfl) rfl
theorem q1417 : (Jvm.Cond.static ({ cls := "CoresAreWillsModel", name := "border", desc := "()I" } : Jvm.MethodName)) ∈ lw_all := lw_g (lw_at lw_m6 116 rfl) rfl
theorem q1418 : (Jvm.Cond.code ({ cls := "CoresAreWillsModel", name := "border", desc := "()I" } : Jvm.MethodName) prog_21_method_47_code (2 : Nat) (Option.some Jvm.ClassFile.FieldType.int)) ∈ lw_all := lw_g (lw_at lw_m6 117 rfl) rfl
theorem q1420 : (Jvm.Cond.instanceMethod ({ cls := "CoresAreWillsModel", name := "best", desc := "(II)I" } : Jvm.MethodName)) ∈ lw_all := lw_g (lw_at lw_m6 119 rfl) rfl
theorem q1421 : (Jvm.Cond.selects "CoresAreWillsModel" ({ cls := "CoresAreWillsModel", name := "best", desc := "(II)I" } : Jvm.MethodName) ({ cls := "CoresAreWillsModel", name := "best", desc := "(II)I" } : Jvm.MethodName)) ∈ lw_all := lw_g (lw_at lw_m6 120 rfl) rfl
theorem q1422 : (Jvm.Cond.code ({ cls := "CoresAreWillsModel", name := "best", desc := "(II)I" } : Jvm.MethodName) prog_21_method_52_code (3 : Nat) (Option.some Jvm.ClassFile.FieldType.int)) ∈ lw_all := lw_g (lw_at lw_m6 121 rfl) rfl
theorem q1423 : (Jvm.Cond.methodLink "CoresAreWillsModel" (189 : Nat) ({ cls := "CoresAreWillsModel", name := "biteTold", desc := "(III)I" } : Jvm.MethodName)) ∈ lw_all := lw_g (lw_at lw_m6 122 rfl) rfl
theorem q1424 : (Jvm.Cond.privateMethod ({ cls := "CoresAreWillsModel", name := "biteTold", desc := "(III)I" } : Jvm.MethodName)) ∈ lw_tbl := lw_at lw_m6 123 rfl
theorem q1425 : (Jvm.Cond.instanceMethod ({ cls := "CoresAreWillsModel", name := "biteTold", desc := "(III)I" } : Jvm.MethodName)) ∈ lw_all := lw_g (lw_at lw_m6 124 rfl) rfl
theorem q1426 : (Jvm.Cond.code ({ cls := "CoresAreWillsModel", name := "biteTold", desc := "(III)I" } : Jvm.MethodName) prog_21_method_51_code (5 : Nat) (Option.some Jvm.ClassFile.FieldType.int)) ∈ lw_all := lw_g (lw_at lw_m6 125 rfl) rfl
theorem q1427 : (Jvm.Cond.methodLink "CoresAreWillsModel" (183 : Nat) ({ cls := "CoresAreWillsModel", name := "biteFor", desc := "(III)I" } : Jvm.MethodName)) ∈ lw_all := lw_g (lw_at lw_m6 126 rfl) rfl
theorem q1428 : (Jvm.Cond.privateMethod ({ cls := "CoresAreWillsModel", name := "biteFor", desc := "(III)I" } : Jvm.MethodName)) ∈ lw_tbl := lw_at lw_m6 127 rfl
theorem q1429 : (Jvm.Cond.instanceMethod ({ cls := "CoresAreWillsModel", name := "biteFor", desc := "(III)I" } : Jvm.MethodName)) ∈ lw_all := lw_g (lw_at lw_m6 128 rfl) rfl
theorem q1430 : (Jvm.Cond.code ({ cls := "CoresAreWillsModel", name := "biteFor", desc := "(III)I" } : Jvm.MethodName) prog_21_method_49_code (9 : Nat) (Option.some Jvm.ClassFile.FieldType.int)) ∈ lw_all := lw_g (lw_at lw_m6 129 rfl) rfl
theorem q1431 : (Jvm.Cond.methodLink "CoresAreWillsModel" (186 : Nat) ({ cls := "CoresAreWillsModel", name := "after", desc := "(II)I" } : Jvm.MethodName)) ∈ lw_all := lw_g (lw_at lw_m6 130 rfl) rfl
theorem q1432 : (Jvm.Cond.static ({ cls := "CoresAreWillsModel", name := "after", desc := "(II)I" } : Jvm.MethodName)) ∈ lw_all := lw_g (lw_at lw_m6 131 rfl) rfl
theorem q1433 : (Jvm.Cond.code ({ cls := "CoresAreWillsModel", name := "after", desc := "(II)I" } : Jvm.MethodName) prog_21_method_50_code (2 : Nat) (Option.some Jvm.ClassFile.FieldType.int)) ∈ lw_all := lw_g (lw_at lw_m6 132 rfl) rfl
theorem q1435 : (Jvm.Cond.instanceMethod ({ cls := "CoresAreWillsModel", name := "worst", desc := "(II)I" } : Jvm.MethodName)) ∈ lw_all := lw_g (lw_at lw_m6 134 rfl) rfl
theorem q1436 : (Jvm.Cond.selects "CoresAreWillsModel" ({ cls := "CoresAreWillsModel", name := "worst", desc := "(II)I" } : Jvm.MethodName) ({ cls := "CoresAreWillsModel", name := "worst", desc := "(II)I" } : Jvm.MethodName)) ∈ lw_all := lw_g (lw_at lw_m6 135 rfl) rfl
theorem q1437 : (Jvm.Cond.code ({ cls := "CoresAreWillsModel", name := "worst", desc := "(II)I" } : Jvm.MethodName) prog_21_method_53_code (3 : Nat) (Option.some Jvm.ClassFile.FieldType.int)) ∈ lw_all := lw_g (lw_at lw_m6 136 rfl) rfl
theorem q1439 : (Jvm.Cond.instanceMethod ({ cls := "CoresAreWillsModel", name := "fewest", desc := "(III)I" } : Jvm.MethodName)) ∈ lw_all := lw_g (lw_at lw_m6 138 rfl) rfl
theorem q1440 : (Jvm.Cond.selects "CoresAreWillsModel" ({ cls := "CoresAreWillsModel", name := "fewest", desc := "(III)I" } : Jvm.MethodName) ({ cls := "CoresAreWillsModel", name := "fewest", desc := "(III)I" } : Jvm.MethodName)) ∈ lw_all := lw_g (lw_at lw_m6 139 rfl) rfl
theorem q1441 : (Jvm.Cond.code ({ cls := "CoresAreWillsModel", name := "fewest", desc := "(III)I" } : Jvm.MethodName) prog_21_method_56_code (6 : Nat) (Option.some Jvm.ClassFile.FieldType.int)) ∈ lw_all := lw_g (lw_at lw_m6 140 rfl) rfl
theorem q1442 : (Jvm.Cond.methodLink "CoresAreWillsModel" (192 : Nat) ({ cls := "CoresAreWillsModel", name := "isSoBy", desc := "(IIII)Z" } : Jvm.MethodName)) ∈ lw_all := lw_g (lw_at lw_m6 141 rfl) rfl
theorem q1443 : (Jvm.Cond.privateMethod ({ cls := "CoresAreWillsModel", name := "isSoBy", desc := "(IIII)Z" } : Jvm.MethodName)) ∈ lw_tbl := lw_at lw_m6 142 rfl
theorem q1444 : (Jvm.Cond.instanceMethod ({ cls := "CoresAreWillsModel", name := "isSoBy", desc := "(IIII)Z" } : Jvm.MethodName)) ∈ lw_all := lw_g (lw_at lw_m6 143 rfl) rfl
theorem q1445 : (Jvm.Cond.code ({ cls := "CoresAreWillsModel", name := "isSoBy", desc := "(IIII)Z" } : Jvm.MethodName) prog_21_method_54_code (7 : Nat) (Option.some Jvm.ClassFile.FieldType.boolean)) ∈ lw_all := lw_g (lw_at lw_m6 144 rfl) rfl
theorem q1446 : (Jvm.Cond.methodLink "CoresAreWillsModel" (196 : Nat) ({ cls := "CoresAreWillsModel", name := "firstSo", desc := "(III)I" } : Jvm.MethodName)) ∈ lw_all := lw_g (lw_at lw_m6 145 rfl) rfl
theorem q1447 : (Jvm.Cond.privateMethod ({ cls := "CoresAreWillsModel", name := "firstSo", desc := "(III)I" } : Jvm.MethodName)) ∈ lw_tbl := lw_at lw_m6 146 rfl
theorem q1448 : (Jvm.Cond.instanceMethod ({ cls := "CoresAreWillsModel", name := "firstSo", desc := "(III)I" } : Jvm.MethodName)) ∈ lw_all := lw_g (lw_at lw_m6 147 rfl) rfl
theorem q1449 : (Jvm.Cond.code ({ cls := "CoresAreWillsModel", name := "firstSo", desc := "(III)I" } : Jvm.MethodName) prog_21_method_55_code (6 : Nat) (Option.some Jvm.ClassFile.FieldType.int)) ∈ lw_all := lw_g (lw_at lw_m6 148 rfl) rfl
theorem q1451 : (Jvm.Cond.instanceMethod ({ cls := "CoresAreWillsModel", name := "safe", desc := "()I" } : Jvm.MethodName)) ∈ lw_all := lw_g (lw_at lw_m6 150 rfl) rfl
theorem q1452 : (Jvm.Cond.selects "CoresAreWillsModel" ({ cls := "CoresAreWillsModel", name := "safe", desc := "()I" } : Jvm.MethodName) ({ cls := "CoresAreWillsModel", name := "safe", desc := "()I" } : Jvm.MethodName)) ∈ lw_all := lw_g (lw_at lw_m6 151 rfl) rfl
theorem q1453 : (Jvm.Cond.code ({ cls := "CoresAreWillsModel", name := "safe", desc := "()I" } : Jvm.MethodName) prog_21_method_57_code (6 : Nat) (Option.some Jvm.ClassFile.FieldType.int)) ∈ lw_all := lw_g (lw_at lw_m6 152 rfl) rfl
theorem q1455 : (Jvm.Cond.instanceMethod ({ cls := "CoresAreWillsModel", name := "can", desc := "(I)I" } : Jvm.MethodName)) ∈ lw_all := lw_g (lw_at lw_m6 154 rfl) rfl
theorem q1456 : (Jvm.Cond.selects "CoresAreWillsModel" ({ cls := "CoresAreWillsModel", name := "can", desc := "(I)I" } : Jvm.MethodName) ({ cls := "CoresAreWillsModel", name := "can", desc := "(I)I" } : Jvm.MethodName)) ∈ lw_all := lw_g (lw_at lw_m6 155 rfl) rfl
theorem q1457 : (Jvm.Cond.code ({ cls := "CoresAreWillsModel", name := "can", desc := "(I)I" } : Jvm.MethodName) prog_21_method_58_code (5 : Nat) (Option.some Jvm.ClassFile.FieldType.int)) ∈ lw_all := lw_g (lw_at lw_m6 156 rfl) rfl
theorem q1459 : (Jvm.Cond.instanceMethod ({ cls := "CoresAreWillsModel", name := "ways", desc := "(I)I" } : Jvm.MethodName)) ∈ lw_all := lw_g (lw_at lw_m6 158 rfl) rfl
theorem q1460 : (Jvm.Cond.selects "CoresAreWillsModel" ({ cls := "CoresAreWillsModel", name := "ways", desc := "(I)I" } : Jvm.MethodName) ({ cls := "CoresAreWillsModel", name := "ways", desc := "(I)I" } : Jvm.MethodName)) ∈ lw_all := lw_g (lw_at lw_m6 159 rfl) rfl
theorem q1461 : (Jvm.Cond.code ({ cls := "CoresAreWillsModel", name := "ways", desc := "(I)I" } : Jvm.MethodName) prog_21_method_60_code (8 : Nat) (Option.some Jvm.ClassFile.FieldType.int)) ∈ lw_all := lw_g (lw_at lw_m6 160 rfl) rfl
theorem q1462 : (Jvm.Cond.constant "CoresAreWillsModel" (51 : Nat) (1000000000 : Int32)) ∈ lw_all := lw_g (lw_at lw_m6 161 rfl) rfl
theorem q1463 : (Jvm.Cond.methodLink "CoresAreWillsModel" (200 : Nat) ({ cls := "CoresAreWillsModel", name := "comesTo", desc := "(IIII)V" } : Jvm.MethodName)) ∈ lw_all := lw_g (lw_at lw_m6 162 rfl) rfl
theorem q1464 : (Jvm.Cond.privateMethod ({ cls := "CoresAreWillsModel", name := "comesTo", desc := "(IIII)V" } : Jvm.MethodName)) ∈ lw_tbl := lw_at lw_m6 163 rfl
theorem q1465 : (Jvm.Cond.instanceMethod ({ cls := "CoresAreWillsModel", name := "comesTo", desc := "(IIII)V" } : Jvm.MethodName)) ∈ lw_all := lw_g (lw_at lw_m6 164 rfl) rfl
theorem q1466 : (Jvm.Cond.code ({ cls := "CoresAreWillsModel", name := "comesTo", desc := "(IIII)V" } : Jvm.MethodName) prog_21_method_59_code (6 : Nat) (Option.none : Option Jvm.ClassFile.FieldType)) ∈ lw_all := lw_g (lw_at lw_m6 165 rfl) rfl
theorem q1467 : (Jvm.Cond.constant "CoresAreWillsModel" (199 : Nat) (1000003 : Int32)) ∈ lw_all := lw_g (lw_at lw_m6 166 rfl) rfl
theorem q1469 : (Jvm.Cond.instanceMethod ({ cls := "CoresAreWillsModel", name := "alike", desc := "(I)I" } : Jvm.MethodName)) ∈ lw_all := lw_g (lw_at lw_m6 168 rfl) rfl
theorem q1470 : (Jvm.Cond.selects "CoresAreWillsModel" ({ cls := "CoresAreWillsModel", name := "alike", desc := "(I)I" } : Jvm.MethodName) ({ cls := "CoresAreWillsModel", name := "alike", desc := "(I)I" } : Jvm.MethodName)) ∈ lw_all := lw_g (lw_at lw_m6 169 rfl) rfl
theorem q1471 : (Jvm.Cond.code ({ cls := "CoresAreWillsModel", name := "alike", desc := "(I)I" } : Jvm.MethodName) prog_21_method_61_code (4 : Nat) (Option.some Jvm.ClassFile.FieldType.int)) ∈ lw_all := lw_g (lw_at lw_m6 170 rfl) rfl
theorem q1473 : (Jvm.Cond.instanceMethod ({ cls := "CoresAreWillsModel", name := "settles", desc := "(I)I" } : Jvm.MethodName)) ∈ lw_all := lw_g (lw_at lw_m6 172 rfl) rfl
theorem q1474 : (Jvm.Cond.selects "CoresAreWillsModel" ({ cls := "CoresAreWillsModel", name := "settles", desc := "(I)I" } : Jvm.MethodName) ({ cls := "CoresAreWillsModel", name := "settles", desc := "(I)I" } : Jvm.MethodName)) ∈ lw_all := lw_g (lw_at lw_m6 173 rfl) rfl
theorem q1475 : (Jvm.Cond.code ({ cls := "CoresAreWillsModel", name := "settles", desc := "(I)I" } : Jvm.MethodName) prog_21_method_62_code (4 : Nat) (Option.some Jvm.ClassFile.FieldType.int)) ∈ lw_all := lw_g (lw_at lw_m6 174 rfl) rfl
theorem q1477 : (Jvm.Cond.instanceMethod ({ cls := "CoresAreWillsModel", name := "pips", desc := "(I)I" } : Jvm.MethodName)) ∈ lw_all := lw_g (lw_at lw_m6 176 rfl) rfl
theorem q1478 : (Jvm.Cond.selects "CoresAreWillsModel" ({ cls := "CoresAreWillsModel", name := "pips", desc := "(I)I" } : Jvm.MethodName) ({ cls := "CoresAreWillsModel", name := "pips", desc := "(I)I" } : Jvm.MethodName)) ∈ lw_all := lw_g (lw_at lw_m6 177 rfl) rfl
theorem q1479 : (Jvm.Cond.code ({ cls := "CoresAreWillsModel", name := "pips", desc := "(I)I" } : Jvm.MethodName) prog_21_method_63_code (2 : Nat) (Option.some Jvm.ClassFile.FieldType.int)) ∈ lw_all := lw_g (lw_at lw_m6 178 rfl) rfl
theorem q1481 : (Jvm.Cond.instanceMethod ({ cls := "CoresAreWillsModel", name := "grudge", desc := "(I)I" } : Jvm.MethodName)) ∈ lw_all := lw_g (lw_at lw_m6 180 rfl) rfl
theorem q1482 : (Jvm.Cond.selects "CoresAreWillsModel" ({ cls := "CoresAreWillsModel", name := "grudge", desc := "(I)I" } : Jvm.MethodName) ({ cls := "CoresAreWillsModel", name := "grudge", desc := "(I)I" } : Jvm.MethodName)) ∈ lw_all := lw_g (lw_at lw_m6 181 rfl) rfl
theorem q1483 : (Jvm.Cond.code ({ cls := "CoresAreWillsModel", name := "grudge", desc := "(I)I" } : Jvm.MethodName) prog_21_method_64_code (6 : Nat) (Option.some Jvm.ClassFile.FieldType.int)) ∈ lw_all := lw_g (lw_at lw_m6 182 rfl) rfl
theorem q1485 : (Jvm.Cond.instanceMethod ({ cls := "CoresAreWillsModel", name := "gain", desc := "(II)I" } : Jvm.MethodName)) ∈ lw_all := lw_g (lw_at lw_m6 184 rfl) rfl
theorem q1486 : (Jvm.Cond.selects "CoresAreWillsModel" ({ cls := "CoresAreWillsModel", name := "gain", desc := "(II)I" } : Jvm.MethodName) ({ cls := "CoresAreWillsModel", name := "gain", desc := "(II)I" } : Jvm.MethodName)) ∈ lw_all := lw_g (lw_at lw_m6 185 rfl) rfl
theorem q1487 : (Jvm.Cond.code ({ cls := "CoresAreWillsModel", name := "gain", desc := "(II)I" } : Jvm.MethodName) prog_21_method_66_code (3 : Nat) (Option.some Jvm.ClassFile.FieldType.int)) ∈ lw_all := lw_g (lw_at lw_m6 186 rfl) rfl
theorem q1488 : (Jvm.Cond.methodLink "CoresAreWillsModel" (204 : Nat) ({ cls := "CoresAreWillsModel", name := "areTwo", desc := "(II)Z" } : Jvm.MethodName)) ∈ lw_all := lw_g (lw_at lw_m6 187 rfl) rfl
theorem q1489 : (Jvm.Cond.privateMethod ({ cls := "CoresAreWillsModel", name := "areTwo", desc := "(II)Z" } : Jvm.MethodName)) ∈ lw_tbl := lw_at lw_m6 188 rfl
theorem q1490 : (Jvm.Cond.instanceMethod ({ cls := "CoresAreWillsModel", name := "areTwo", desc := "(II)Z" } : Jvm.MethodName)) ∈ lw_all := lw_g (lw_at lw_m6 189 rfl) rfl
theorem q1491 : (Jvm.Cond.code ({ cls := "CoresAreWillsModel", name := "areTwo", desc := "(II)Z" } : Jvm.MethodName) prog_21_method_65_code (3 : Nat) (Option.some Jvm.ClassFile.FieldType.boolean)) ∈ lw_all := lw_g (lw_at lw_m6 190 rfl) rfl
theorem q1492 : (Jvm.Cond.methodLink "CoresAreWillsModel" (207 : Nat) ({ cls := "CoresAreWillsModel", name := "noFar", desc := "(I)I" } : Jvm.MethodName)) ∈ lw_all := lw_g (lw_at lw_m6 191 rfl) rfl
theorem q1493 : (Jvm.Cond.privateMethod ({ cls := "CoresAreWillsModel", name := "noFar", desc := "(I)I" } : Jvm.MethodName)) ∈ lw_tbl := lw_at lw_m6 192 rfl
theorem q1494 : (Jvm.Cond.instanceMethod ({ cls := "CoresAreWillsModel", name := "noFar", desc := "(I)I" } : Jvm.MethodName)) ∈ lw_all := lw_g (lw_at lw_m6 193 rfl) rfl
theorem q1495 : (Jvm.Cond.code ({ cls := "CoresAreWillsModel", name := "noFar", desc := "(I)I" } : Jvm.MethodName) prog_21_method_5_code (2 : Nat) (Option.some Jvm.ClassFile.FieldType.int)) ∈ lw_all := lw_g (lw_at lw_m6 194 rfl) rfl
theorem q1497 : (Jvm.Cond.instanceMethod ({ cls := "CoresAreWillsModel", name := "join", desc := "(I)I" } : Jvm.MethodName)) ∈ lw_all := lw_g (lw_at lw_m6 196 rfl) rfl
theorem q1498 : (Jvm.Cond.selects "CoresAreWillsModel" ({ cls := "CoresAreWillsModel", name := "join", desc := "(I)I" } : Jvm.MethodName) ({ cls := "CoresAreWillsModel", name := "join", desc := "(I)I" } : Jvm.MethodName)) ∈ lw_all := lw_g (lw_at lw_m6 197 rfl) rfl
theorem q1499 : (Jvm.Cond.code ({ cls := "CoresAreWillsModel", name := "join", desc := "(I)I" } : Jvm.MethodName) prog_21_method_67_code (2 : Nat) (Option.some Jvm.ClassFile.FieldType.int)) ∈ lw_all := lw_g (lw_at lw_m6 198 rfl) rfl
theorem q1501 : (Jvm.Cond.instanceMethod ({ cls := "CoresAreWillsModel", name := "bridge", desc := "(I)I" } : Jvm.MethodName)) ∈ lw_all := lw_g (lw_at lw_m6 200 rfl) rfl
theorem q1502 : (Jvm.Cond.selects "CoresAreWillsModel" ({ cls := "CoresAreWillsModel", name := "bridge", desc := "(I)I" } : Jvm.MethodName) ({ cls := "CoresAreWillsModel", name := "bridge", desc := "(I)I" } : Jvm.MethodName)) ∈ lw_all := lw_g (lw_at lw_m6 201 rfl) rfl
theorem q1503 : (Jvm.Cond.code ({ cls := "CoresAreWillsModel", name := "bridge", desc := "(I)I" } : Jvm.MethodName) prog_21_method_69_code (7 : Nat) (Option.some Jvm.ClassFile.FieldType.int)) ∈ lw_all := lw_g (lw_at lw_m6 202 rfl) rfl
theorem q1504 : (Jvm.Cond.methodLink "CoresAreWillsModel" (210 : Nat) ({ cls := "CoresAreWillsModel", name := "stepsFrom", desc := "(I)I" } : Jvm.MethodName)) ∈ lw_all := lw_g (lw_at lw_m6 203 rfl) rfl
theorem q1505 : (Jvm.Cond.privateMethod ({ cls := "CoresAreWillsModel", name := "stepsFrom", desc := "(I)I" } : Jvm.MethodName)) ∈ lw_tbl := lw_at lw_m6 204 rfl
theorem q1506 : (Jvm.Cond.instanceMethod ({ cls := "CoresAreWillsModel", name := "stepsFrom", desc := "(I)I" } : Jvm.MethodName)) ∈ lw_all := lw_g (lw_at lw_m6 205 rfl) rfl
theorem q1507 : (Jvm.Cond.code ({ cls := "CoresAreWillsModel", name := "stepsFrom", desc := "(I)I" } : Jvm.MethodName) prog_21_method_68_code (6 : Nat) (Option.some Jvm.ClassFile.FieldType.int)) ∈ lw_all := lw_g (lw_at lw_m6 206 rfl) rfl
theorem q1509 : (Jvm.Cond.instanceMethod ({ cls := "CoresAreWillsModel", name := "two", desc := "(II)I" } : Jvm.MethodName)) ∈ lw_all := lw_g (lw_at lw_m6 208 rfl) rfl
theorem q1510 : (Jvm.Cond.selects "CoresAreWillsModel" ({ cls := "CoresAreWillsModel", name := "two", desc := "(II)I" } : Jvm.MethodName) ({ cls := "CoresAreWillsModel", name := "two", desc := "(II)I" } : Jvm.MethodName)) ∈ lw_all := lw_g (lw_at lw_m6 209 rfl) rfl
theorem q1511 : (Jvm.Cond.code ({ cls := "CoresAreWillsModel", name := "two", desc := "(II)I" } : Jvm.MethodName) prog_21_method_72_code (6 : Nat) (Option.some Jvm.ClassFile.FieldType.int)) ∈ lw_all := lw_g (lw_at lw_m6 210 rfl) rfl
theorem q1512 : (Jvm.Cond.methodLink "CoresAreWillsModel" (216 : Nat) ({ cls := "CoresAreWillsModel", name := "shareBoth", desc := "(IIIII)I" } : Jvm.MethodName)) ∈ lw_all := lw_g (lw_at lw_m6 211 rfl) rfl
theorem q1513 : (Jvm.Cond.privateMethod ({ cls := "CoresAreWillsModel", name := "shareBoth", desc := "(IIIII)I" } : Jvm.MethodName)) ∈ lw_tbl := lw_at lw_m6 212 rfl
theorem q1514 : (Jvm.Cond.instanceMethod ({ cls := "CoresAreWillsModel", name := "shareBoth", desc := "(IIIII)I" } : Jvm.MethodName)) ∈ lw_all := lw_g (lw_at lw_m6 213 rfl) rfl
theorem q1515 : (Jvm.Cond.code ({ cls := "CoresAreWillsModel", name := "shareBoth", desc := "(IIIII)I" } : Jvm.MethodName) prog_21_method_71_code (7 : Nat) (Option.some Jvm.ClassFile.FieldType.int)) ∈ lw_all := lw_g (lw_at lw_m6 214 rfl) rfl
theorem q1516 : (Jvm.Cond.methodLink "CoresAreWillsModel" (213 : Nat) ({ cls := "CoresAreWillsModel", name := "firstBite", desc := "(I)I" } : Jvm.MethodName)) ∈ lw_all := lw_g (lw_at lw_m6 215 rfl) rfl
theorem q1517 : (Jvm.Cond.privateMethod ({ cls := "CoresAreWillsModel", name := "firstBite", desc := "(I)I" } : Jvm.MethodName)) ∈ lw_tbl := lw_at lw_m6 216 rfl
theorem q1518 : (Jvm.Cond.instanceMethod ({ cls := "CoresAreWillsModel", name := "firstBite", desc := "(I)I" } : Jvm.MethodName)) ∈ lw_all := lw_g (lw_at lw_m6 217 rfl) rfl
theorem q1519 : (Jvm.Cond.code ({ cls := "CoresAreWillsModel", name := "firstBite", desc := "(I)I" } : Jvm.MethodName) prog_21_method_70_code (4 : Nat) (Option.some Jvm.ClassFile.FieldType.int)) ∈ lw_all := lw_g (lw_at lw_m6 218 rfl) rfl
theorem q1521 : (Jvm.Cond.instanceMethod ({ cls := "CoresAreWillsModel", name := "chance", desc := "(IIII)J" } : Jvm.MethodName)) ∈ lw_all := lw_g (lw_at lw_m6 220 rfl) rfl
theorem q1522 : (Jvm.Cond.selects "CoresAreWillsModel" ({ cls := "CoresAreWillsModel", name := "chance", desc := "(IIII)J" } : Jvm.MethodName) ({ cls := "CoresAreWillsModel", name := "chance", desc := "(IIII)J" } : Jvm.MethodName)) ∈ lw_all := lw_g (lw_at lw_m6 221 rfl) rfl
theorem q1523 : (Jvm.Cond.code ({ cls := "CoresAreWillsModel", name := "chance", desc := "(IIII)J" } : Jvm.MethodName) prog_21_method_76_code (8 : Nat) (Option.some Jvm.ClassFile.FieldType.long)) ∈ lw_all := lw_g (lw_at lw_m6 222 rfl) rfl
theorem q1524 : (Jvm.Cond.methodLink "CoresAreWillsModel" (228 : Nat) ({ cls := "CoresAreWillsModel", name := "noWide", desc := "(I)J" } : Jvm.MethodName)) ∈ lw_all := lw_g (lw_at lw_m6 223 rfl) rfl
theorem q1525 : (Jvm.Cond.privateMethod ({ cls := "CoresAreWillsModel", name := "noWide", desc := "(I)J" } : Jvm.MethodName)) ∈ lw_tbl := lw_at lw_m6 224 rfl
theorem q1526 : (Jvm.Cond.instanceMethod ({ cls := "CoresAreWillsModel", name := "noWide", desc := "(I)J" } : Jvm.MethodName)) ∈ lw_all := lw_g (lw_at lw_m6 225 rfl) rfl
theorem q1527 : (Jvm.Cond.code ({ cls := "CoresAreWillsModel", name := "noWide", desc := "(I)J" } : Jvm.MethodName) prog_21_method_6_code (2 : Nat) (Option.some Jvm.ClassFile.FieldType.long)) ∈ lw_all := lw_g (lw_at lw_m6 226 rfl) rfl
theorem q1528 : (Jvm.Cond.constantLong "CoresAreWillsModel" (56 : Nat) (4000000000000000000 : Int64)) ∈ lw_all := lw_g (lw_at lw_m6 227 rfl) rfl
theorem q1529 : (Jvm.Cond.methodLink "CoresAreWillsModel" (224 : Nat) ({ cls := "CoresAreWillsModel", name := "waysFor", desc := "(IIII)J" } : Jvm.MethodName)) ∈ lw_all := lw_g (lw_at lw_m6 228 rfl) rfl
theorem q1530 : (Jvm.Cond.privateMethod ({ cls := "CoresAreWillsModel", name := "waysFor", desc := "(IIII)J" } : Jvm.MethodName)) ∈ lw_tbl := lw_at lw_m6 229 rfl
theorem q1531 : (Jvm.Cond.instanceMethod ({ cls := "CoresAreWillsModel", name := "waysFor", desc := "(IIII)J" } : Jvm.MethodName)) ∈ lw_all := lw_g (lw_at lw_m6 230 rfl) rfl
theorem q1532 : (Jvm.Cond.code ({ cls := "CoresAreWillsModel", name := "waysFor", desc := "(IIII)J" } : Jvm.MethodName) prog_21_method_75_code (8 : Nat) (Option.some Jvm.ClassFile.FieldType.long)) ∈ lw_all := lw_g (lw_at lw_m6 231 rfl) rfl
theorem q1533 : (Jvm.Cond.methodLink "CoresAreWillsModel" (232 : Nat) ({ cls := "CoresAreWillsModel", name := "partOf", desc := "(JJI)J" } : Jvm.MethodName)) ∈ lw_all := lw_g (lw_at lw_m6 232 rfl) rfl
theorem q1534 : (Jvm.Cond.static ({ cls := "CoresAreWillsModel", name := "partOf", desc := "(JJI)J" } : Jvm.MethodName)) ∈ lw_all := lw_g (lw_at lw_m6 233 rfl) rfl
theorem q1535 : (Jvm.Cond.code ({ cls := "CoresAreWillsModel", name := "partOf", desc := "(JJI)J" } : Jvm.MethodName) prog_21_method_74_code (5 : Nat) (Option.some Jvm.ClassFile.FieldType.long)) ∈ lw_all := lw_g (lw_at lw_m6 234 rfl) rfl
theorem q1536 : (Jvm.Cond.methodLink "CoresAreWillsModel" (220 : Nat) ({ cls := "CoresAreWillsModel", name := "gcd", desc := "(JJ)J" } : Jvm.MethodName)) ∈ lw_all := lw_g (lw_at lw_m6 235 rfl) rfl
theorem q1537 : (Jvm.Cond.static ({ cls := "CoresAreWillsModel", name := "gcd", desc := "(JJ)J" } : Jvm.MethodName)) ∈ lw_all := lw_g (lw_at lw_m6 236 rfl) rfl
theorem q1538 : (Jvm.Cond.code ({ cls := "CoresAreWillsModel", name := "gcd", desc := "(JJ)J" } : Jvm.MethodName) prog_21_method_73_code (10 : Nat) (Option.some Jvm.ClassFile.FieldType.long)) ∈ lw_all := lw_g (lw_at lw_m6 237 rfl) rfl
theorem q1540 : (Jvm.Cond.instanceMethod ({ cls := "CoresAreWillsModel", name := "mean", desc := "(I)J" } : Jvm.MethodName)) ∈ lw_all := lw_g (lw_at lw_m6 239 rfl) rfl
theorem q1541 : (Jvm.Cond.selects "CoresAreWillsModel" ({ cls := "CoresAreWillsModel", name := "mean", desc := "(I)J" } : Jvm.MethodName) ({ cls := "CoresAreWillsModel", name := "mean", desc := "(I)J" } : Jvm.MethodName)) ∈ lw_all := lw_g (lw_at lw_m7 0 rfl) rfl
theorem q1542 : (Jvm.Cond.code ({ cls := "CoresAreWillsModel", name := "mean", desc := "(I)J" } : Jvm.MethodName) prog_21_method_77_code (2 : Nat) (Option.some Jvm.ClassFile.FieldType.long)) ∈ lw_all := lw_g (lw_at lw_m7 1 rfl) rfl
theorem q1544 : (Jvm.Cond.instanceMethod ({ cls := "CoresAreWillsModel", name := "whatIs", desc := "(II)I" } : Jvm.MethodName)) ∈ lw_all := lw_g (lw_at lw_m7 3 rfl) rfl
theorem q1545 : (Jvm.Cond.selects "CoresAreWillsModel" ({ cls := "CoresAreWillsModel", name := "whatIs", desc := "(II)I" } : Jvm.MethodName) ({ cls := "CoresAreWillsModel", name := "whatIs", desc := "(II)I" } : Jvm.MethodName)) ∈ lw_all := lw_g (lw_at lw_m7 4 rfl) rfl
theorem q1546 : (Jvm.Cond.code ({ cls := "CoresAreWillsModel", name := "whatIs", desc := "(II)I" } : Jvm.MethodName) prog_21_method_78_code (7 : Nat) (Option.some Jvm.ClassFile.FieldType.int)) ∈ lw_all := lw_g (lw_at lw_m7 5 rfl) rfl
theorem q1548 : (Jvm.Cond.instanceMethod ({ cls := "CoresAreWillsModel", name := "row", desc := "(I)I" } : Jvm.MethodName)) ∈ lw_all := lw_g (lw_at lw_m7 7 rfl) rfl
theorem q1549 : (Jvm.Cond.selects "CoresAreWillsModel" ({ cls := "CoresAreWillsModel", name := "row", desc := "(I)I" } : Jvm.MethodName) ({ cls := "CoresAreWillsModel", name := "row", desc := "(I)I" } : Jvm.MethodName)) ∈ lw_all := lw_g (lw_at lw_m7 8 rfl) rfl
theorem q1550 : (Jvm.Cond.code ({ cls := "CoresAreWillsModel", name := "row", desc := "(I)I" } : Jvm.MethodName) prog_21_method_79_code (3 : Nat) (Option.some Jvm.ClassFile.FieldType.int)) ∈ lw_all := lw_g (lw_at lw_m7 9 rfl) rfl
theorem q1552 : (Jvm.Cond.instanceMethod ({ cls := "CoresAreWillsModel", name := "judge", desc := "()I" } : Jvm.MethodName)) ∈ lw_all := lw_g (lw_at lw_m7 11 rfl) rfl
theorem q1553 : (Jvm.Cond.selects "CoresAreWillsModel" ({ cls := "CoresAreWillsModel", name := "judge", desc := "()I" } : Jvm.MethodName) ({ cls := "CoresAreWillsModel", name := "judge", desc := "()I" } : Jvm.MethodName)) ∈ lw_all := lw_g (lw_at lw_m7 12 rfl) rfl
theorem q1554 : (Jvm.Cond.code ({ cls := "CoresAreWillsModel", name := "judge", desc := "()I" } : Jvm.MethodName) prog_21_method_80_code (3 : Nat) (Option.some Jvm.ClassFile.FieldType.int)) ∈ lw_all := lw_g (lw_at lw_m7 13 rfl) rfl
theorem q1556 : (Jvm.Cond.instanceMethod ({ cls := "CoresAreWillsModel", name := "clear", desc := "()I" } : Jvm.MethodName)) ∈ lw_all := lw_g (lw_at lw_m7 15 rfl) rfl
theorem q1557 : (Jvm.Cond.selects "CoresAreWillsModel" ({ cls := "CoresAreWillsModel", name := "clear", desc := "()I" } : Jvm.MethodName) ({ cls := "CoresAreWillsModel", name := "clear", desc := "()I" } : Jvm.MethodName)) ∈ lw_all := lw_g (lw_at lw_m7 16 rfl) rfl
theorem q1558 : (Jvm.Cond.code ({ cls := "CoresAreWillsModel", name := "clear", desc := "()I" } : Jvm.MethodName) prog_21_method_81_code (2 : Nat) (Option.some Jvm.ClassFile.FieldType.int)) ∈ lw_all := lw_g (lw_at lw_m7 17 rfl) rfl
theorem q1560 : (Jvm.Cond.instanceMethod ({ cls := "CoresAreWillsModel", name := "lots", desc := "(III)I" } : Jvm.MethodName)) ∈ lw_all := lw_g (lw_at lw_m7 19 rfl) rfl
theorem q1561 : (Jvm.Cond.selects "CoresAreWillsModel" ({ cls := "CoresAreWillsModel", name := "lots", desc := "(III)I" } : Jvm.MethodName) ({ cls := "CoresAreWillsModel", name := "lots", desc := "(III)I" } : Jvm.MethodName)) ∈ lw_all := lw_g (lw_at lw_m7 20 rfl) rfl
theorem q1562 : (Jvm.Cond.code ({ cls := "CoresAreWillsModel", name := "lots", desc := "(III)I" } : Jvm.MethodName) prog_21_method_83_code (10 : Nat) (Option.some Jvm.ClassFile.FieldType.int)) ∈ lw_all := lw_g (lw_at lw_m7 21 rfl) rfl
theorem q1563 : (Jvm.Cond.methodLink "CoresAreWillsModel" (245 : Nat) ({ cls := "CoresAreWillsModel", name := "drawn", desc := "(I)I" } : Jvm.MethodName)) ∈ lw_all := lw_g (lw_at lw_m7 22 rfl) rfl
theorem q1564 : (Jvm.Cond.privateMethod ({ cls := "CoresAreWillsModel", name := "drawn", desc := "(I)I" } : Jvm.MethodName)) ∈ lw_tbl := lw_at lw_m7 23 rfl
theorem q1565 : (Jvm.Cond.instanceMethod ({ cls := "CoresAreWillsModel", name := "drawn", desc := "(I)I" } : Jvm.MethodName)) ∈ lw_all := lw_g (lw_at lw_m7 24 rfl) rfl
theorem q1566 : (Jvm.Cond.code ({ cls := "CoresAreWillsModel", name := "drawn", desc := "(I)I" } : Jvm.MethodName) prog_21_method_82_code (2 : Nat) (Option.some Jvm.ClassFile.FieldType.int)) ∈ lw_all := lw_g (lw_at lw_m7 25 rfl) rfl
theorem q1567 : (Jvm.Cond.constant "CoresAreWillsModel" (242 : Nat) (1664525 : Int32)) ∈ lw_all := lw_g (lw_at lw_m7 26 rfl) rfl
theorem q1568 : (Jvm.Cond.constant "CoresAreWillsModel" (243 : Nat) (1013904223 : Int32)) ∈ lw_all := lw_g (lw_at lw_m7 27 rfl) rfl
theorem q1569 : (Jvm.Cond.constant "CoresAreWillsModel" (244 : Nat) (2147483647 : Int32)) ∈ lw_all := lw_g (lw_at lw_m7 28 rfl) rfl
theorem q1571 : (Jvm.Cond.instanceMethod ({ cls := "CoresAreWillsModel", name := "image", desc := "()I" } : Jvm.MethodName)) ∈ lw_all := lw_g (lw_at lw_m7 30 rfl) rfl
theorem q1572 : (Jvm.Cond.selects "CoresAreWillsModel" ({ cls := "CoresAreWillsModel", name := "image", desc := "()I" } : Jvm.MethodName) ({ cls := "CoresAreWillsModel", name := "image", desc := "()I" } : Jvm.MethodName)) ∈ lw_all := lw_g (lw_at lw_m7 31 rfl) rfl
theorem q1573 : (Jvm.Cond.code ({ cls := "CoresAreWillsModel", name := "image", desc := "()I" } : Jvm.MethodName) prog_21_method_84_code (2 : Nat) (Option.some Jvm.ClassFile.FieldType.int)) ∈ lw_all := lw_g (lw_at lw_m7 32 rfl) rfl
theorem q1575 : (Jvm.Cond.instanceMethod ({ cls := "CoresAreWillsModel", name := "on", desc := "()I" } : Jvm.MethodName)) ∈ lw_all := lw_g (lw_at lw_m7 34 rfl) rfl
theorem q1576 : (Jvm.Cond.selects "CoresAreWillsModel" ({ cls := "CoresAreWillsModel", name := "on", desc := "()I" } : Jvm.MethodName) ({ cls := "CoresAreWillsModel", name := "on", desc := "()I" } : Jvm.MethodName)) ∈ lw_all := lw_g (lw_at lw_m7 35 rfl) rfl
theorem q1577 : (Jvm.Cond.code ({ cls := "CoresAreWillsModel", name := "on", desc := "()I" } : Jvm.MethodName) prog_21_method_85_code (2 : Nat) (Option.some Jvm.ClassFile.FieldType.int)) ∈ lw_all := lw_g (lw_at lw_m7 36 rfl) rfl
theorem q1579 : (Jvm.Cond.instanceMethod ({ cls := "CoresAreWillsModel", name := "count", desc := "(I)I" } : Jvm.MethodName)) ∈ lw_all := lw_g (lw_at lw_m7 38 rfl) rfl
theorem q1580 : (Jvm.Cond.selects "CoresAreWillsModel" ({ cls := "CoresAreWillsModel", name := "count", desc := "(I)I" } : Jvm.MethodName) ({ cls := "CoresAreWillsModel", name := "count", desc := "(I)I" } : Jvm.MethodName)) ∈ lw_all := lw_g (lw_at lw_m7 39 rfl) rfl
theorem q1581 : (Jvm.Cond.code ({ cls := "CoresAreWillsModel", name := "count", desc := "(I)I" } : Jvm.MethodName) prog_21_method_86_code (2 : Nat) (Option.some Jvm.ClassFile.FieldType.int)) ∈ lw_all := lw_g (lw_at lw_m7 40 rfl) rfl
theorem in_X9 : ∀ w ∈ wsX90, w ∈ lw_all := lw_in wsX90 [1206, 1208, 1210, 1212, 1214, 1216, 1218, 1220, 1222, 1224, 1226, 1228, 1230, 1232, 1234, 1236, 1238, 1240, 1242, 1244, 1246, 1248, 1250, 1252, 1254, 1256] (by decide +kernel) (by decide +kernel)
