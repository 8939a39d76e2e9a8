/-! CoresAreWills$Kind -/
set_option maxRecDepth 100000
def RX1 : String := "CoresAreWills$Kind"
abbrev cX1_init : ByteArray := prog_9_method_1_code
def yX1_init : MethodName := ⟨RX1, "<init>", "()V"⟩
theorem dX1_init_0 : decode cX1_init 0 = .ok (.aload_n 0, 1) := by decide +kernel
theorem dX1_init_1 : decode cX1_init 1 = .ok (.invokespecial 1, 3) := by decide +kernel
theorem dX1_init_4 : decode cX1_init 4 = .ok (.return_, 1) := by decide +kernel
abbrev cX1_inChancery : ByteArray := prog_9_method_4_code
def yX1_inChancery : MethodName := ⟨RX1, "inChancery", "(I)I"⟩
theorem dX1_inChancery_0 : decode cX1_inChancery 0 = .ok (.iconst 0, 1) := by decide +kernel
theorem dX1_inChancery_1 : decode cX1_inChancery 1 = .ok (.ireturn, 1) := by decide +kernel
theorem q103 : (Jvm.Cond.initialized "CoresAreWills$Kind") ∈ lw_all := lw_g (lw_at lw_m1 2 rfl) rfl
theorem q143 : (Jvm.Cond.instanceMethod ({ cls := "CoresAreWills$Kind", name := "<init>", desc := "()V" } : Jvm.MethodName)) ∈ lw_all := lw_g (lw_at lw_m1 42 rfl) rfl
theorem q144 : (Jvm.Cond.code ({ cls := "CoresAreWills$Kind", name := "<init>", desc := "()V" } : Jvm.MethodName) prog_9_method_1_code (1 : Nat) (Option.none : Option Jvm.ClassFile.FieldType)) ∈ lw_all := lw_g (lw_at lw_m1 43 rfl) rfl
theorem q145 : (Jvm.Cond.methodLink "CoresAreWills$Kind" (1 : Nat) ({ cls := "java/lang/Object", name := "<init>", desc := "()V" } : Jvm.MethodName)) ∈ lw_all := lw_g (lw_at lw_m1 44 rfl) rfl
theorem q664 : (Jvm.Cond.declares ({ cls := "CoresAreWills$Kind", name := "kind", desc := "()I" } : Jvm.MethodName)) ∈ lw_tbl := lw_at lw_m3 83 rfl
theorem q665 : (Jvm.Cond.sameMethod "CoresAreWills$Kind" "CoresAreWills$Kind" "kind" "()I") ∈ lw_all := lw_g (lw_at lw_m3 84 rfl) rfl
theorem q693 : (Jvm.Cond.instanceMethod ({ cls := "CoresAreWills$Kind", name := "inChancery", desc := "(I)I" } : Jvm.MethodName)) ∈ lw_all := lw_g (lw_at lw_m3 112 rfl) rfl
theorem q694 : (Jvm.Cond.sameMethod "CoresAreWills$Kind" "CoresAreWills$Kind" "inChancery" "(I)I") ∈ lw_all := lw_g (lw_at lw_m3 113 rfl) rfl
theorem q702 : (Jvm.Cond.declares ({ cls := "CoresAreWills$Kind", name := "inChancery", desc := "(I)I" } : Jvm.MethodName)) ∈ lw_tbl := lw_at lw_m3 121 rfl
theorem q703 : (Jvm.Cond.code ({ cls := "CoresAreWills$Kind", name := "inChancery", desc := "(I)I" } : Jvm.MethodName) prog_9_method_4_code (2 : Nat) (Option.some Jvm.ClassFile.FieldType.int)) ∈ lw_all := lw_g (lw_at lw_m3 122 rfl) rfl
theorem q708 : (Jvm.Cond.declares ({ cls := "CoresAreWills$Kind", name := "share", desc := "(LCoresAreWills$Core;I)I" } : Jvm.MethodName)) ∈ lw_tbl := lw_at lw_m3 127 rfl
theorem q709 : (Jvm.Cond.sameMethod "CoresAreWills$Kind" "CoresAreWills$Kind" "share" "(LCoresAreWills$Core;I)I") ∈ lw_all := lw_g (lw_at lw_m3 128 rfl) rfl

/-! CoresAreWills$Nephew -/
set_option maxRecDepth 100000
def RX2 : String := "CoresAreWills$Nephew"
abbrev cX2_init : ByteArray := prog_12_method_1_code
def yX2_init : MethodName := ⟨RX2, "<init>", "()V"⟩
theorem dX2_init_0 : decode cX2_init 0 = .ok (.aload_n 0, 1) := by decide +kernel
theorem dX2_init_1 : decode cX2_init 1 = .ok (.invokespecial 3, 3) := by decide +kernel
theorem dX2_init_4 : decode cX2_init 4 = .ok (.return_, 1) := by decide +kernel
abbrev cX2_kind : ByteArray := prog_12_method_2_code
def yX2_kind : MethodName := ⟨RX2, "kind", "()I"⟩
theorem dX2_kind_0 : decode cX2_kind 0 = .ok (.iconst 0, 1) := by decide +kernel
theorem dX2_kind_1 : decode cX2_kind 1 = .ok (.ireturn, 1) := by decide +kernel
abbrev cX2_share : ByteArray := prog_12_method_3_code
def yX2_share : MethodName := ⟨RX2, "share", "(LCoresAreWills$Core;I)I"⟩
def dkwX2_share_1 : List UInt8 := [153, 0, 7, 4, 167, 0, 4, 3, 96, 62, 132, 4, 5, 167, 255, 226, 29, 172]
abbrev dktX2_share_1 : List UInt8 := dkwX2_share_1 ++ []
def dkwX2_share_0 : List UInt8 := [3, 62, 28, 8, 112, 54, 4, 21, 4, 16, 25, 162, 0, 29, 29, 43, 180, 0, 9, 21, 4, 184, 0, 15]
abbrev dktX2_share_0 : List UInt8 := dkwX2_share_0 ++ dktX2_share_1
theorem dksX2_share_0 : cX2_share.data.toList.drop 0 = dktX2_share_0 := by decide +kernel
theorem dksX2_share_1 : cX2_share.data.toList.drop 24 = dktX2_share_1 := dk_seg dksX2_share_0 24 rfl rfl
theorem dX2_share_0 : decode cX2_share 0 = .ok (.iconst 0, 1) := dk_3 (dk_at dksX2_share_0 0 rfl rfl)
theorem dX2_share_1 : decode cX2_share 1 = .ok (.istore_n 3, 1) := dk_62 (dk_at dksX2_share_0 1 rfl rfl)
theorem dX2_share_2 : decode cX2_share 2 = .ok (.iload_n 2, 1) := dk_28 (dk_at dksX2_share_0 2 rfl rfl)
theorem dX2_share_3 : decode cX2_share 3 = .ok (.iconst 5, 1) := dk_8 (dk_at dksX2_share_0 3 rfl rfl)
theorem dX2_share_4 : decode cX2_share 4 = .ok (.irem, 1) := dk_112 (dk_at dksX2_share_0 4 rfl rfl)
theorem dX2_share_5 : decode cX2_share 5 = .ok (.istore 4, 2) := dk_54 4 (dk_at dksX2_share_0 5 rfl rfl)
theorem dX2_share_7 : decode cX2_share 7 = .ok (.iload 4, 2) := dk_21 4 (dk_at dksX2_share_0 7 rfl rfl)
theorem dX2_share_9 : decode cX2_share 9 = .ok (.bipush 25, 2) := dk_16 25 (dk_at dksX2_share_0 9 rfl rfl)
theorem dX2_share_11 : decode cX2_share 11 = .ok (.if_icmp .ge 29, 3) := dk_162 0 29 (dk_at dksX2_share_0 11 rfl rfl)
theorem dX2_share_14 : decode cX2_share 14 = .ok (.iload_n 3, 1) := dk_29 (dk_at dksX2_share_0 14 rfl rfl)
theorem dX2_share_15 : decode cX2_share 15 = .ok (.aload_n 1, 1) := dk_43 (dk_at dksX2_share_0 15 rfl rfl)
theorem dX2_share_16 : decode cX2_share 16 = .ok (.getfield 9, 3) := dk_180 0 9 (dk_at dksX2_share_0 16 rfl rfl)
theorem dX2_share_19 : decode cX2_share 19 = .ok (.iload 4, 2) := dk_21 4 (dk_at dksX2_share_0 19 rfl rfl)
theorem dX2_share_21 : decode cX2_share 21 = .ok (.invokestatic 15, 3) := dk_184 0 15 (dk_at dksX2_share_0 21 rfl rfl)
theorem dX2_share_24 : decode cX2_share 24 = .ok (.ifCond .eq 7, 3) := dk_153 0 7 (dk_at dksX2_share_1 0 rfl rfl)
theorem dX2_share_27 : decode cX2_share 27 = .ok (.iconst 1, 1) := dk_4 (dk_at dksX2_share_1 3 rfl rfl)
theorem dX2_share_28 : decode cX2_share 28 = .ok (.goto 4, 3) := dk_167 0 4 (dk_at dksX2_share_1 4 rfl rfl)
theorem dX2_share_31 : decode cX2_share 31 = .ok (.iconst 0, 1) := dk_3 (dk_at dksX2_share_1 7 rfl rfl)
theorem dX2_share_32 : decode cX2_share 32 = .ok (.iadd, 1) := dk_96 (dk_at dksX2_share_1 8 rfl rfl)
theorem dX2_share_33 : decode cX2_share 33 = .ok (.istore_n 3, 1) := dk_62 (dk_at dksX2_share_1 9 rfl rfl)
theorem dX2_share_34 : decode cX2_share 34 = .ok (.iinc 4 5, 3) := dk_132 4 5 (dk_at dksX2_share_1 10 rfl rfl)
theorem dX2_share_37 : decode cX2_share 37 = .ok (.goto (-30), 3) := dk_167 255 226 (dk_at dksX2_share_1 13 rfl rfl)
theorem dX2_share_40 : decode cX2_share 40 = .ok (.iload_n 3, 1) := dk_29 (dk_at dksX2_share_1 16 rfl rfl)
theorem dX2_share_41 : decode cX2_share 41 = .ok (.ireturn, 1) := dk_172 (dk_at dksX2_share_1 17 rfl rfl)
theorem q104 : (Jvm.Cond.initialized "CoresAreWills$Nephew") ∈ lw_all := lw_g (lw_at lw_m1 3 rfl) rfl
theorem q138 : (Jvm.Cond.instantiable "CoresAreWills$Nephew" (0 : Nat)) ∈ lw_all := lw_g (lw_at lw_m1 37 rfl) rfl
theorem q140 : (Jvm.Cond.instanceMethod ({ cls := "CoresAreWills$Nephew", name := "<init>", desc := "()V" } : Jvm.MethodName)) ∈ lw_all := lw_g (lw_at lw_m1 39 rfl) rfl
theorem q141 : (Jvm.Cond.code ({ cls := "CoresAreWills$Nephew", name := "<init>", desc := "()V" } : Jvm.MethodName) prog_12_method_1_code (1 : Nat) (Option.none : Option Jvm.ClassFile.FieldType)) ∈ lw_all := lw_g (lw_at lw_m1 40 rfl) rfl
theorem q142 : (Jvm.Cond.methodLinkNest "CoresAreWills$Nephew" (3 : Nat) ({ cls := "CoresAreWills$Kind", name := "<init>", desc := "()V" } : Jvm.MethodName) "CoresAreWills") ∈ lw_tbl := lw_at lw_m1 41 rfl
theorem q146 : (Jvm.Cond.superclass "CoresAreWills$Nephew" "CoresAreWills$Kind") ∈ lw_all := lw_g (lw_at lw_m1 45 rfl) rfl
theorem q207 : (Jvm.Cond.fieldLinkNest "CoresAreWills$Nephew" (9 : Nat) "CoresAreWills$Core" "deed" "I" "CoresAreWills") ∈ lw_tbl := lw_at lw_m1 106 rfl
theorem q675 : (Jvm.Cond.selects "CoresAreWills$Nephew" ({ cls := "CoresAreWills$Kind", name := "kind", desc := "()I" } : Jvm.MethodName) ({ cls := "CoresAreWills$Nephew", name := "kind", desc := "()I" } : Jvm.MethodName)) ∈ lw_all := lw_g (lw_at lw_m3 94 rfl) rfl
theorem q676 : (Jvm.Cond.instanceMethod ({ cls := "CoresAreWills$Nephew", name := "kind", desc := "()I" } : Jvm.MethodName)) ∈ lw_all := lw_g (lw_at lw_m3 95 rfl) rfl
theorem q677 : (Jvm.Cond.code ({ cls := "CoresAreWills$Nephew", name := "kind", desc := "()I" } : Jvm.MethodName) prog_12_method_2_code (1 : Nat) (Option.some Jvm.ClassFile.FieldType.int)) ∈ lw_all := lw_g (lw_at lw_m3 96 rfl) rfl
theorem q704 : (Jvm.Cond.selects "CoresAreWills$Nephew" ({ cls := "CoresAreWills$Kind", name := "inChancery", desc := "(I)I" } : Jvm.MethodName) ({ cls := "CoresAreWills$Kind", name := "inChancery", desc := "(I)I" } : Jvm.MethodName)) ∈ lw_all := lw_g (lw_at lw_m3 123 rfl) rfl
theorem q714 : (Jvm.Cond.instanceMethod ({ cls := "CoresAreWills$Nephew", name := "share", desc := "(LCoresAreWills$Core;I)I" } : Jvm.MethodName)) ∈ lw_all := lw_g (lw_at lw_m3 133 rfl) rfl
theorem q715 : (Jvm.Cond.code ({ cls := "CoresAreWills$Nephew", name := "share", desc := "(LCoresAreWills$Core;I)I" } : Jvm.MethodName) prog_12_method_3_code (5 : Nat) (Option.some Jvm.ClassFile.FieldType.int)) ∈ lw_all := lw_g (lw_at lw_m3 134 rfl) rfl
theorem q716 : (Jvm.Cond.methodLinkNest "CoresAreWills$Nephew" (15 : Nat) ({ cls := "CoresAreWills", name := "has", desc := "(II)Z" } : Jvm.MethodName) "CoresAreWills") ∈ lw_tbl := lw_at lw_m3 135 rfl
theorem q730 : (Jvm.Cond.selects "CoresAreWills$Nephew" ({ cls := "CoresAreWills$Kind", name := "share", desc := "(LCoresAreWills$Core;I)I" } : Jvm.MethodName) ({ cls := "CoresAreWills$Nephew", name := "share", desc := "(LCoresAreWills$Core;I)I" } : Jvm.MethodName)) ∈ lw_all := lw_g (lw_at lw_m3 149 rfl) rfl
theorem q1583 : (Jvm.Cond.sameMethod "CoresAreWills$Nephew" "CoresAreWills$Nephew" "share" "(LCoresAreWills$Core;I)I") ∈ lw_all := lw_g (lw_at lw_m7 42 rfl) rfl
theorem q1588 : (Jvm.Cond.castable "CoresAreWills$Nephew" "CoresAreWills$Kind") ∈ lw_tbl := lw_at lw_m7 47 rfl

/-! CoresAreWills$Elder -/
set_option maxRecDepth 100000
def RX3 : String := "CoresAreWills$Elder"
abbrev cX3_init : ByteArray := prog_5_method_1_code
def yX3_init : MethodName := ⟨RX3, "<init>", "()V"⟩
theorem dX3_init_0 : decode cX3_init 0 = .ok (.aload_n 0, 1) := by decide +kernel
theorem dX3_init_1 : decode cX3_init 1 = .ok (.invokespecial 3, 3) := by decide +kernel
theorem dX3_init_4 : decode cX3_init 4 = .ok (.return_, 1) := by decide +kernel
abbrev cX3_kind : ByteArray := prog_5_method_2_code
def yX3_kind : MethodName := ⟨RX3, "kind", "()I"⟩
theorem dX3_kind_0 : decode cX3_kind 0 = .ok (.iconst 1, 1) := by decide +kernel
theorem dX3_kind_1 : decode cX3_kind 1 = .ok (.ireturn, 1) := by decide +kernel
abbrev cX3_share : ByteArray := prog_5_method_3_code
def yX3_share : MethodName := ⟨RX3, "share", "(LCoresAreWills$Core;I)I"⟩
def dkwX3_share_0 : List UInt8 := [42, 43, 28, 183, 0, 9, 43, 180, 0, 13, 5, 184, 0, 19, 153, 0, 7, 8, 167, 0, 4, 3, 96, 172]
abbrev dktX3_share_0 : List UInt8 := dkwX3_share_0 ++ []
theorem dksX3_share_0 : cX3_share.data.toList.drop 0 = dktX3_share_0 := by decide +kernel
theorem dX3_share_0 : decode cX3_share 0 = .ok (.aload_n 0, 1) := dk_42 (dk_at dksX3_share_0 0 rfl rfl)
theorem dX3_share_1 : decode cX3_share 1 = .ok (.aload_n 1, 1) := dk_43 (dk_at dksX3_share_0 1 rfl rfl)
theorem dX3_share_2 : decode cX3_share 2 = .ok (.iload_n 2, 1) := dk_28 (dk_at dksX3_share_0 2 rfl rfl)
theorem dX3_share_3 : decode cX3_share 3 = .ok (.invokespecial 9, 3) := dk_183 0 9 (dk_at dksX3_share_0 3 rfl rfl)
theorem dX3_share_6 : decode cX3_share 6 = .ok (.aload_n 1, 1) := dk_43 (dk_at dksX3_share_0 6 rfl rfl)
theorem dX3_share_7 : decode cX3_share 7 = .ok (.getfield 13, 3) := dk_180 0 13 (dk_at dksX3_share_0 7 rfl rfl)
theorem dX3_share_10 : decode cX3_share 10 = .ok (.iconst 2, 1) := dk_5 (dk_at dksX3_share_0 10 rfl rfl)
theorem dX3_share_11 : decode cX3_share 11 = .ok (.invokestatic 19, 3) := dk_184 0 19 (dk_at dksX3_share_0 11 rfl rfl)
theorem dX3_share_14 : decode cX3_share 14 = .ok (.ifCond .eq 7, 3) := dk_153 0 7 (dk_at dksX3_share_0 14 rfl rfl)
theorem dX3_share_17 : decode cX3_share 17 = .ok (.iconst 5, 1) := dk_8 (dk_at dksX3_share_0 17 rfl rfl)
theorem dX3_share_18 : decode cX3_share 18 = .ok (.goto 4, 3) := dk_167 0 4 (dk_at dksX3_share_0 18 rfl rfl)
theorem dX3_share_21 : decode cX3_share 21 = .ok (.iconst 0, 1) := dk_3 (dk_at dksX3_share_0 21 rfl rfl)
theorem dX3_share_22 : decode cX3_share 22 = .ok (.iadd, 1) := dk_96 (dk_at dksX3_share_0 22 rfl rfl)
theorem dX3_share_23 : decode cX3_share 23 = .ok (.ireturn, 1) := dk_172 (dk_at dksX3_share_0 23 rfl rfl)
theorem q105 : (Jvm.Cond.initialized "CoresAreWills$Elder") ∈ lw_all := lw_g (lw_at lw_m1 4 rfl) rfl
theorem q148 : (Jvm.Cond.instantiable "CoresAreWills$Elder" (0 : Nat)) ∈ lw_all := lw_g (lw_at lw_m1 47 rfl) rfl
theorem q150 : (Jvm.Cond.instanceMethod ({ cls := "CoresAreWills$Elder", name := "<init>", desc := "()V" } : Jvm.MethodName)) ∈ lw_all := lw_g (lw_at lw_m1 49 rfl) rfl
theorem q151 : (Jvm.Cond.code ({ cls := "CoresAreWills$Elder", name := "<init>", desc := "()V" } : Jvm.MethodName) prog_5_method_1_code (1 : Nat) (Option.none : Option Jvm.ClassFile.FieldType)) ∈ lw_all := lw_g (lw_at lw_m1 50 rfl) rfl
theorem q152 : (Jvm.Cond.methodLinkNest "CoresAreWills$Elder" (3 : Nat) ({ cls := "CoresAreWills$Nephew", name := "<init>", desc := "()V" } : Jvm.MethodName) "CoresAreWills") ∈ lw_tbl := lw_at lw_m1 51 rfl
theorem q153 : (Jvm.Cond.superclass "CoresAreWills$Elder" "CoresAreWills$Nephew") ∈ lw_all := lw_g (lw_at lw_m1 52 rfl) rfl
theorem q205 : (Jvm.Cond.fieldLinkNest "CoresAreWills$Elder" (13 : Nat) "CoresAreWills$Core" "deed" "I" "CoresAreWills") ∈ lw_tbl := lw_at lw_m1 104 rfl
theorem q666 : (Jvm.Cond.selects "CoresAreWills$Elder" ({ cls := "CoresAreWills$Kind", name := "kind", desc := "()I" } : Jvm.MethodName) ({ cls := "CoresAreWills$Elder", name := "kind", desc := "()I" } : Jvm.MethodName)) ∈ lw_all := lw_g (lw_at lw_m3 85 rfl) rfl
theorem q667 : (Jvm.Cond.instanceMethod ({ cls := "CoresAreWills$Elder", name := "kind", desc := "()I" } : Jvm.MethodName)) ∈ lw_all := lw_g (lw_at lw_m3 86 rfl) rfl
theorem q668 : (Jvm.Cond.code ({ cls := "CoresAreWills$Elder", name := "kind", desc := "()I" } : Jvm.MethodName) prog_5_method_2_code (1 : Nat) (Option.some Jvm.ClassFile.FieldType.int)) ∈ lw_all := lw_g (lw_at lw_m3 87 rfl) rfl
theorem q695 : (Jvm.Cond.selects "CoresAreWills$Elder" ({ cls := "CoresAreWills$Kind", name := "inChancery", desc := "(I)I" } : Jvm.MethodName) ({ cls := "CoresAreWills$Kind", name := "inChancery", desc := "(I)I" } : Jvm.MethodName)) ∈ lw_all := lw_g (lw_at lw_m3 114 rfl) rfl
theorem q701 : (Jvm.Cond.sameMethod "CoresAreWills$Elder" "CoresAreWills$Kind" "inChancery" "(I)I") ∈ lw_all := lw_g (lw_at lw_m3 120 rfl) rfl
theorem q710 : (Jvm.Cond.selects "CoresAreWills$Elder" ({ cls := "CoresAreWills$Kind", name := "share", desc := "(LCoresAreWills$Core;I)I" } : Jvm.MethodName) ({ cls := "CoresAreWills$Elder", name := "share", desc := "(LCoresAreWills$Core;I)I" } : Jvm.MethodName)) ∈ lw_all := lw_g (lw_at lw_m3 129 rfl) rfl
theorem q711 : (Jvm.Cond.instanceMethod ({ cls := "CoresAreWills$Elder", name := "share", desc := "(LCoresAreWills$Core;I)I" } : Jvm.MethodName)) ∈ lw_all := lw_g (lw_at lw_m3 130 rfl) rfl
theorem q712 : (Jvm.Cond.code ({ cls := "CoresAreWills$Elder", name := "share", desc := "(LCoresAreWills$Core;I)I" } : Jvm.MethodName) prog_5_method_3_code (3 : Nat) (Option.some Jvm.ClassFile.FieldType.int)) ∈ lw_all := lw_g (lw_at lw_m3 131 rfl) rfl
theorem q713 : (Jvm.Cond.methodLink "CoresAreWills$Elder" (9 : Nat) ({ cls := "CoresAreWills$Nephew", name := "share", desc := "(LCoresAreWills$Core;I)I" } : Jvm.MethodName)) ∈ lw_all := lw_g (lw_at lw_m3 132 rfl) rfl
theorem q717 : (Jvm.Cond.methodLinkNest "CoresAreWills$Elder" (19 : Nat) ({ cls := "CoresAreWills", name := "has", desc := "(II)Z" } : Jvm.MethodName) "CoresAreWills") ∈ lw_tbl := lw_at lw_m3 136 rfl
theorem q1585 : (Jvm.Cond.sameMethod "CoresAreWills$Elder" "CoresAreWills$Elder" "share" "(LCoresAreWills$Core;I)I") ∈ lw_all := lw_g (lw_at lw_m7 44 rfl) rfl
theorem q1589 : (Jvm.Cond.castable "CoresAreWills$Elder" "CoresAreWills$Kind") ∈ lw_tbl := lw_at lw_m7 48 rfl

/-! CoresAreWills$Widow -/
set_option maxRecDepth 100000
def RX4 : String := "CoresAreWills$Widow"
abbrev cX4_init : ByteArray := prog_19_method_1_code
def yX4_init : MethodName := ⟨RX4, "<init>", "()V"⟩
theorem dX4_init_0 : decode cX4_init 0 = .ok (.aload_n 0, 1) := by decide +kernel
theorem dX4_init_1 : decode cX4_init 1 = .ok (.invokespecial 3, 3) := by decide +kernel
theorem dX4_init_4 : decode cX4_init 4 = .ok (.return_, 1) := by decide +kernel
abbrev cX4_kind : ByteArray := prog_19_method_2_code
def yX4_kind : MethodName := ⟨RX4, "kind", "()I"⟩
theorem dX4_kind_0 : decode cX4_kind 0 = .ok (.iconst 2, 1) := by decide +kernel
theorem dX4_kind_1 : decode cX4_kind 1 = .ok (.ireturn, 1) := by decide +kernel
abbrev cX4_share : ByteArray := prog_19_method_3_code
def yX4_share : MethodName := ⟨RX4, "share", "(LCoresAreWills$Core;I)I"⟩
def dkwX4_share_0 : List UInt8 := [42, 43, 28, 183, 0, 9, 5, 108, 5, 43, 180, 0, 13, 17, 56, 0, 126, 184, 0, 19, 104, 96, 172]
abbrev dktX4_share_0 : List UInt8 := dkwX4_share_0 ++ []
theorem dksX4_share_0 : cX4_share.data.toList.drop 0 = dktX4_share_0 := by decide +kernel
theorem dX4_share_0 : decode cX4_share 0 = .ok (.aload_n 0, 1) := dk_42 (dk_at dksX4_share_0 0 rfl rfl)
theorem dX4_share_1 : decode cX4_share 1 = .ok (.aload_n 1, 1) := dk_43 (dk_at dksX4_share_0 1 rfl rfl)
theorem dX4_share_2 : decode cX4_share 2 = .ok (.iload_n 2, 1) := dk_28 (dk_at dksX4_share_0 2 rfl rfl)
theorem dX4_share_3 : decode cX4_share 3 = .ok (.invokespecial 9, 3) := dk_183 0 9 (dk_at dksX4_share_0 3 rfl rfl)
theorem dX4_share_6 : decode cX4_share 6 = .ok (.iconst 2, 1) := dk_5 (dk_at dksX4_share_0 6 rfl rfl)
theorem dX4_share_7 : decode cX4_share 7 = .ok (.idiv, 1) := dk_108 (dk_at dksX4_share_0 7 rfl rfl)
theorem dX4_share_8 : decode cX4_share 8 = .ok (.iconst 2, 1) := dk_5 (dk_at dksX4_share_0 8 rfl rfl)
theorem dX4_share_9 : decode cX4_share 9 = .ok (.aload_n 1, 1) := dk_43 (dk_at dksX4_share_0 9 rfl rfl)
theorem dX4_share_10 : decode cX4_share 10 = .ok (.getfield 13, 3) := dk_180 0 13 (dk_at dksX4_share_0 10 rfl rfl)
theorem dX4_share_13 : decode cX4_share 13 = .ok (.sipush 14336, 3) := dk_17 56 0 (dk_at dksX4_share_0 13 rfl rfl)
theorem dX4_share_16 : decode cX4_share 16 = .ok (.iand, 1) := dk_126 (dk_at dksX4_share_0 16 rfl rfl)
theorem dX4_share_17 : decode cX4_share 17 = .ok (.invokestatic 19, 3) := dk_184 0 19 (dk_at dksX4_share_0 17 rfl rfl)
theorem dX4_share_20 : decode cX4_share 20 = .ok (.imul, 1) := dk_104 (dk_at dksX4_share_0 20 rfl rfl)
theorem dX4_share_21 : decode cX4_share 21 = .ok (.iadd, 1) := dk_96 (dk_at dksX4_share_0 21 rfl rfl)
theorem dX4_share_22 : decode cX4_share 22 = .ok (.ireturn, 1) := dk_172 (dk_at dksX4_share_0 22 rfl rfl)
theorem q106 : (Jvm.Cond.initialized "CoresAreWills$Widow") ∈ lw_all := lw_g (lw_at lw_m1 5 rfl) rfl
theorem q155 : (Jvm.Cond.instantiable "CoresAreWills$Widow" (0 : Nat)) ∈ lw_all := lw_g (lw_at lw_m1 54 rfl) rfl
theorem q157 : (Jvm.Cond.instanceMethod ({ cls := "CoresAreWills$Widow", name := "<init>", desc := "()V" } : Jvm.MethodName)) ∈ lw_all := lw_g (lw_at lw_m1 56 rfl) rfl
theorem q158 : (Jvm.Cond.code ({ cls := "CoresAreWills$Widow", name := "<init>", desc := "()V" } : Jvm.MethodName) prog_19_method_1_code (1 : Nat) (Option.none : Option Jvm.ClassFile.FieldType)) ∈ lw_all := lw_g (lw_at lw_m1 57 rfl) rfl
theorem q159 : (Jvm.Cond.methodLinkNest "CoresAreWills$Widow" (3 : Nat) ({ cls := "CoresAreWills$Nephew", name := "<init>", desc := "()V" } : Jvm.MethodName) "CoresAreWills") ∈ lw_tbl := lw_at lw_m1 58 rfl
theorem q160 : (Jvm.Cond.superclass "CoresAreWills$Widow" "CoresAreWills$Nephew") ∈ lw_all := lw_g (lw_at lw_m1 59 rfl) rfl
theorem q206 : (Jvm.Cond.fieldLinkNest "CoresAreWills$Widow" (13 : Nat) "CoresAreWills$Core" "deed" "I" "CoresAreWills") ∈ lw_tbl := lw_at lw_m1 105 rfl
theorem q681 : (Jvm.Cond.selects "CoresAreWills$Widow" ({ cls := "CoresAreWills$Kind", name := "kind", desc := "()I" } : Jvm.MethodName) ({ cls := "CoresAreWills$Widow", name := "kind", desc := "()I" } : Jvm.MethodName)) ∈ lw_all := lw_g (lw_at lw_m3 100 rfl) rfl
theorem q682 : (Jvm.Cond.instanceMethod ({ cls := "CoresAreWills$Widow", name := "kind", desc := "()I" } : Jvm.MethodName)) ∈ lw_all := lw_g (lw_at lw_m3 101 rfl) rfl
theorem q683 : (Jvm.Cond.code ({ cls := "CoresAreWills$Widow", name := "kind", desc := "()I" } : Jvm.MethodName) prog_19_method_2_code (1 : Nat) (Option.some Jvm.ClassFile.FieldType.int)) ∈ lw_all := lw_g (lw_at lw_m3 102 rfl) rfl
theorem q706 : (Jvm.Cond.selects "CoresAreWills$Widow" ({ cls := "CoresAreWills$Kind", name := "inChancery", desc := "(I)I" } : Jvm.MethodName) ({ cls := "CoresAreWills$Kind", name := "inChancery", desc := "(I)I" } : Jvm.MethodName)) ∈ lw_all := lw_g (lw_at lw_m3 125 rfl) rfl
theorem q722 : (Jvm.Cond.instanceMethod ({ cls := "CoresAreWills$Widow", name := "share", desc := "(LCoresAreWills$Core;I)I" } : Jvm.MethodName)) ∈ lw_all := lw_g (lw_at lw_m3 141 rfl) rfl
theorem q723 : (Jvm.Cond.code ({ cls := "CoresAreWills$Widow", name := "share", desc := "(LCoresAreWills$Core;I)I" } : Jvm.MethodName) prog_19_method_3_code (3 : Nat) (Option.some Jvm.ClassFile.FieldType.int)) ∈ lw_all := lw_g (lw_at lw_m3 142 rfl) rfl
theorem q724 : (Jvm.Cond.methodLink "CoresAreWills$Widow" (9 : Nat) ({ cls := "CoresAreWills$Nephew", name := "share", desc := "(LCoresAreWills$Core;I)I" } : Jvm.MethodName)) ∈ lw_all := lw_g (lw_at lw_m3 143 rfl) rfl
theorem q725 : (Jvm.Cond.methodLinkNest "CoresAreWills$Widow" (19 : Nat) ({ cls := "CoresAreWills", name := "manyIn", desc := "(I)I" } : Jvm.MethodName) "CoresAreWills") ∈ lw_tbl := lw_at lw_m3 144 rfl
theorem q736 : (Jvm.Cond.selects "CoresAreWills$Widow" ({ cls := "CoresAreWills$Kind", name := "share", desc := "(LCoresAreWills$Core;I)I" } : Jvm.MethodName) ({ cls := "CoresAreWills$Widow", name := "share", desc := "(LCoresAreWills$Core;I)I" } : Jvm.MethodName)) ∈ lw_all := lw_g (lw_at lw_m3 155 rfl) rfl
theorem q1584 : (Jvm.Cond.sameMethod "CoresAreWills$Widow" "CoresAreWills$Widow" "share" "(LCoresAreWills$Core;I)I") ∈ lw_all := lw_g (lw_at lw_m7 43 rfl) rfl
theorem q1590 : (Jvm.Cond.castable "CoresAreWills$Widow" "CoresAreWills$Kind") ∈ lw_tbl := lw_at lw_m7 49 rfl

/-! CoresAreWills$Lawyer -/
set_option maxRecDepth 100000
def RX5 : String := "CoresAreWills$Lawyer"
abbrev cX5_init : ByteArray := prog_11_method_1_code
def yX5_init : MethodName := ⟨RX5, "<init>", "()V"⟩
theorem dX5_init_0 : decode cX5_init 0 = .ok (.aload_n 0, 1) := by decide +kernel
theorem dX5_init_1 : decode cX5_init 1 = .ok (.invokespecial 1, 3) := by decide +kernel
theorem dX5_init_4 : decode cX5_init 4 = .ok (.return_, 1) := by decide +kernel
abbrev cX5_kind : ByteArray := prog_11_method_2_code
def yX5_kind : MethodName := ⟨RX5, "kind", "()I"⟩
theorem dX5_kind_0 : decode cX5_kind 0 = .ok (.iconst 3, 1) := by decide +kernel
theorem dX5_kind_1 : decode cX5_kind 1 = .ok (.ireturn, 1) := by decide +kernel
abbrev cX5_inChancery : ByteArray := prog_11_method_4_code
def yX5_inChancery : MethodName := ⟨RX5, "inChancery", "(I)I"⟩
def dkwX5_inChancery_0 : List UInt8 := [42, 27, 183, 0, 11, 27, 96, 172]
abbrev dktX5_inChancery_0 : List UInt8 := dkwX5_inChancery_0 ++ []
theorem dksX5_inChancery_0 : cX5_inChancery.data.toList.drop 0 = dktX5_inChancery_0 := by decide +kernel
theorem dX5_inChancery_0 : decode cX5_inChancery 0 = .ok (.aload_n 0, 1) := dk_42 (dk_at dksX5_inChancery_0 0 rfl rfl)
theorem dX5_inChancery_1 : decode cX5_inChancery 1 = .ok (.iload_n 1, 1) := dk_27 (dk_at dksX5_inChancery_0 1 rfl rfl)
theorem dX5_inChancery_2 : decode cX5_inChancery 2 = .ok (.invokespecial 11, 3) := dk_183 0 11 (dk_at dksX5_inChancery_0 2 rfl rfl)
theorem dX5_inChancery_5 : decode cX5_inChancery 5 = .ok (.iload_n 1, 1) := dk_27 (dk_at dksX5_inChancery_0 5 rfl rfl)
theorem dX5_inChancery_6 : decode cX5_inChancery 6 = .ok (.iadd, 1) := dk_96 (dk_at dksX5_inChancery_0 6 rfl rfl)
theorem dX5_inChancery_7 : decode cX5_inChancery 7 = .ok (.ireturn, 1) := dk_172 (dk_at dksX5_inChancery_0 7 rfl rfl)
abbrev cX5_share : ByteArray := prog_11_method_3_code
def yX5_share : MethodName := ⟨RX5, "share", "(LCoresAreWills$Core;I)I"⟩
def dkwX5_share_0 : List UInt8 := [42, 43, 28, 183, 0, 7, 6, 108, 172]
abbrev dktX5_share_0 : List UInt8 := dkwX5_share_0 ++ []
theorem dksX5_share_0 : cX5_share.data.toList.drop 0 = dktX5_share_0 := by decide +kernel
theorem dX5_share_0 : decode cX5_share 0 = .ok (.aload_n 0, 1) := dk_42 (dk_at dksX5_share_0 0 rfl rfl)
theorem dX5_share_1 : decode cX5_share 1 = .ok (.aload_n 1, 1) := dk_43 (dk_at dksX5_share_0 1 rfl rfl)
theorem dX5_share_2 : decode cX5_share 2 = .ok (.iload_n 2, 1) := dk_28 (dk_at dksX5_share_0 2 rfl rfl)
theorem dX5_share_3 : decode cX5_share 3 = .ok (.invokespecial 7, 3) := dk_183 0 7 (dk_at dksX5_share_0 3 rfl rfl)
theorem dX5_share_6 : decode cX5_share 6 = .ok (.iconst 3, 1) := dk_6 (dk_at dksX5_share_0 6 rfl rfl)
theorem dX5_share_7 : decode cX5_share 7 = .ok (.idiv, 1) := dk_108 (dk_at dksX5_share_0 7 rfl rfl)
theorem dX5_share_8 : decode cX5_share 8 = .ok (.ireturn, 1) := dk_172 (dk_at dksX5_share_0 8 rfl rfl)
theorem q107 : (Jvm.Cond.initialized "CoresAreWills$Lawyer") ∈ lw_all := lw_g (lw_at lw_m1 6 rfl) rfl
theorem q162 : (Jvm.Cond.instantiable "CoresAreWills$Lawyer" (0 : Nat)) ∈ lw_all := lw_g (lw_at lw_m1 61 rfl) rfl
theorem q164 : (Jvm.Cond.instanceMethod ({ cls := "CoresAreWills$Lawyer", name := "<init>", desc := "()V" } : Jvm.MethodName)) ∈ lw_all := lw_g (lw_at lw_m1 63 rfl) rfl
theorem q165 : (Jvm.Cond.code ({ cls := "CoresAreWills$Lawyer", name := "<init>", desc := "()V" } : Jvm.MethodName) prog_11_method_1_code (1 : Nat) (Option.none : Option Jvm.ClassFile.FieldType)) ∈ lw_all := lw_g (lw_at lw_m1 64 rfl) rfl
theorem q166 : (Jvm.Cond.methodLinkNest "CoresAreWills$Lawyer" (1 : Nat) ({ cls := "CoresAreWills$Elder", name := "<init>", desc := "()V" } : Jvm.MethodName) "CoresAreWills") ∈ lw_tbl := lw_at lw_m1 65 rfl
theorem q167 : (Jvm.Cond.superclass "CoresAreWills$Lawyer" "CoresAreWills$Elder") ∈ lw_all := lw_g (lw_at lw_m1 66 rfl) rfl
theorem q672 : (Jvm.Cond.selects "CoresAreWills$Lawyer" ({ cls := "CoresAreWills$Kind", name := "kind", desc := "()I" } : Jvm.MethodName) ({ cls := "CoresAreWills$Lawyer", name := "kind", desc := "()I" } : Jvm.MethodName)) ∈ lw_all := lw_g (lw_at lw_m3 91 rfl) rfl
theorem q673 : (Jvm.Cond.instanceMethod ({ cls := "CoresAreWills$Lawyer", name := "kind", desc := "()I" } : Jvm.MethodName)) ∈ lw_all := lw_g (lw_at lw_m3 92 rfl) rfl
theorem q674 : (Jvm.Cond.code ({ cls := "CoresAreWills$Lawyer", name := "kind", desc := "()I" } : Jvm.MethodName) prog_11_method_2_code (1 : Nat) (Option.some Jvm.ClassFile.FieldType.int)) ∈ lw_all := lw_g (lw_at lw_m3 93 rfl) rfl
theorem q697 : (Jvm.Cond.selects "CoresAreWills$Lawyer" ({ cls := "CoresAreWills$Kind", name := "inChancery", desc := "(I)I" } : Jvm.MethodName) ({ cls := "CoresAreWills$Lawyer", name := "inChancery", desc := "(I)I" } : Jvm.MethodName)) ∈ lw_all := lw_g (lw_at lw_m3 116 rfl) rfl
theorem q698 : (Jvm.Cond.instanceMethod ({ cls := "CoresAreWills$Lawyer", name := "inChancery", desc := "(I)I" } : Jvm.MethodName)) ∈ lw_all := lw_g (lw_at lw_m3 117 rfl) rfl
theorem q699 : (Jvm.Cond.code ({ cls := "CoresAreWills$Lawyer", name := "inChancery", desc := "(I)I" } : Jvm.MethodName) prog_11_method_4_code (2 : Nat) (Option.some Jvm.ClassFile.FieldType.int)) ∈ lw_all := lw_g (lw_at lw_m3 118 rfl) rfl
theorem q700 : (Jvm.Cond.methodLink "CoresAreWills$Lawyer" (11 : Nat) ({ cls := "CoresAreWills$Elder", name := "inChancery", desc := "(I)I" } : Jvm.MethodName)) ∈ lw_all := lw_g (lw_at lw_m3 119 rfl) rfl
theorem q726 : (Jvm.Cond.selects "CoresAreWills$Lawyer" ({ cls := "CoresAreWills$Kind", name := "share", desc := "(LCoresAreWills$Core;I)I" } : Jvm.MethodName) ({ cls := "CoresAreWills$Lawyer", name := "share", desc := "(LCoresAreWills$Core;I)I" } : Jvm.MethodName)) ∈ lw_all := lw_g (lw_at lw_m3 145 rfl) rfl
theorem q727 : (Jvm.Cond.instanceMethod ({ cls := "CoresAreWills$Lawyer", name := "share", desc := "(LCoresAreWills$Core;I)I" } : Jvm.MethodName)) ∈ lw_all := lw_g (lw_at lw_m3 146 rfl) rfl
theorem q728 : (Jvm.Cond.code ({ cls := "CoresAreWills$Lawyer", name := "share", desc := "(LCoresAreWills$Core;I)I" } : Jvm.MethodName) prog_11_method_3_code (3 : Nat) (Option.some Jvm.ClassFile.FieldType.int)) ∈ lw_all := lw_g (lw_at lw_m3 147 rfl) rfl
theorem q729 : (Jvm.Cond.methodLink "CoresAreWills$Lawyer" (7 : Nat) ({ cls := "CoresAreWills$Elder", name := "share", desc := "(LCoresAreWills$Core;I)I" } : Jvm.MethodName)) ∈ lw_all := lw_g (lw_at lw_m3 148 rfl) rfl
theorem q1591 : (Jvm.Cond.castable "CoresAreWills$Lawyer" "CoresAreWills$Kind") ∈ lw_tbl := lw_at lw_m7 50 rfl

/-! CoresAreWills$Pig -/
set_option maxRecDepth 100000
def RX6 : String := "CoresAreWills$Pig"
abbrev cX6_init : ByteArray := prog_13_method_1_code
def yX6_init : MethodName := ⟨RX6, "<init>", "()V"⟩
theorem dX6_init_0 : decode cX6_init 0 = .ok (.aload_n 0, 1) := by decide +kernel
theorem dX6_init_1 : decode cX6_init 1 = .ok (.invokespecial 3, 3) := by decide +kernel
theorem dX6_init_4 : decode cX6_init 4 = .ok (.return_, 1) := by decide +kernel
abbrev cX6_kind : ByteArray := prog_13_method_2_code
def yX6_kind : MethodName := ⟨RX6, "kind", "()I"⟩
theorem dX6_kind_0 : decode cX6_kind 0 = .ok (.iconst 4, 1) := by decide +kernel
theorem dX6_kind_1 : decode cX6_kind 1 = .ok (.ireturn, 1) := by decide +kernel
abbrev cX6_share : ByteArray := prog_13_method_3_code
def yX6_share : MethodName := ⟨RX6, "share", "(LCoresAreWills$Core;I)I"⟩
def dkwX6_share_0 : List UInt8 := [3, 16, 25, 43, 180, 0, 9, 184, 0, 15, 100, 28, 100, 184, 0, 19, 172]
abbrev dktX6_share_0 : List UInt8 := dkwX6_share_0 ++ []
theorem dksX6_share_0 : cX6_share.data.toList.drop 0 = dktX6_share_0 := by decide +kernel
theorem dX6_share_0 : decode cX6_share 0 = .ok (.iconst 0, 1) := dk_3 (dk_at dksX6_share_0 0 rfl rfl)
theorem dX6_share_1 : decode cX6_share 1 = .ok (.bipush 25, 2) := dk_16 25 (dk_at dksX6_share_0 1 rfl rfl)
theorem dX6_share_3 : decode cX6_share 3 = .ok (.aload_n 1, 1) := dk_43 (dk_at dksX6_share_0 3 rfl rfl)
theorem dX6_share_4 : decode cX6_share 4 = .ok (.getfield 9, 3) := dk_180 0 9 (dk_at dksX6_share_0 4 rfl rfl)
theorem dX6_share_7 : decode cX6_share 7 = .ok (.invokestatic 15, 3) := dk_184 0 15 (dk_at dksX6_share_0 7 rfl rfl)
theorem dX6_share_10 : decode cX6_share 10 = .ok (.isub, 1) := dk_100 (dk_at dksX6_share_0 10 rfl rfl)
theorem dX6_share_11 : decode cX6_share 11 = .ok (.iload_n 2, 1) := dk_28 (dk_at dksX6_share_0 11 rfl rfl)
theorem dX6_share_12 : decode cX6_share 12 = .ok (.isub, 1) := dk_100 (dk_at dksX6_share_0 12 rfl rfl)
theorem dX6_share_13 : decode cX6_share 13 = .ok (.invokestatic 19, 3) := dk_184 0 19 (dk_at dksX6_share_0 13 rfl rfl)
theorem dX6_share_16 : decode cX6_share 16 = .ok (.ireturn, 1) := dk_172 (dk_at dksX6_share_0 16 rfl rfl)
theorem q108 : (Jvm.Cond.initialized "CoresAreWills$Pig") ∈ lw_all := lw_g (lw_at lw_m1 7 rfl) rfl
theorem q169 : (Jvm.Cond.instantiable "CoresAreWills$Pig" (0 : Nat)) ∈ lw_all := lw_g (lw_at lw_m1 68 rfl) rfl
theorem q171 : (Jvm.Cond.instanceMethod ({ cls := "CoresAreWills$Pig", name := "<init>", desc := "()V" } : Jvm.MethodName)) ∈ lw_all := lw_g (lw_at lw_m1 70 rfl) rfl
theorem q172 : (Jvm.Cond.code ({ cls := "CoresAreWills$Pig", name := "<init>", desc := "()V" } : Jvm.MethodName) prog_13_method_1_code (1 : Nat) (Option.none : Option Jvm.ClassFile.FieldType)) ∈ lw_all := lw_g (lw_at lw_m1 71 rfl) rfl
theorem q173 : (Jvm.Cond.methodLinkNest "CoresAreWills$Pig" (3 : Nat) ({ cls := "CoresAreWills$Nephew", name := "<init>", desc := "()V" } : Jvm.MethodName) "CoresAreWills") ∈ lw_tbl := lw_at lw_m1 72 rfl
theorem q174 : (Jvm.Cond.superclass "CoresAreWills$Pig" "CoresAreWills$Nephew") ∈ lw_all := lw_g (lw_at lw_m1 73 rfl) rfl
theorem q192 : (Jvm.Cond.fieldLinkNest "CoresAreWills$Pig" (9 : Nat) "CoresAreWills$Core" "left" "I" "CoresAreWills") ∈ lw_tbl := lw_at lw_m1 91 rfl
theorem q678 : (Jvm.Cond.selects "CoresAreWills$Pig" ({ cls := "CoresAreWills$Kind", name := "kind", desc := "()I" } : Jvm.MethodName) ({ cls := "CoresAreWills$Pig", name := "kind", desc := "()I" } : Jvm.MethodName)) ∈ lw_all := lw_g (lw_at lw_m3 97 rfl) rfl
theorem q679 : (Jvm.Cond.instanceMethod ({ cls := "CoresAreWills$Pig", name := "kind", desc := "()I" } : Jvm.MethodName)) ∈ lw_all := lw_g (lw_at lw_m3 98 rfl) rfl
theorem q680 : (Jvm.Cond.code ({ cls := "CoresAreWills$Pig", name := "kind", desc := "()I" } : Jvm.MethodName) prog_13_method_2_code (1 : Nat) (Option.some Jvm.ClassFile.FieldType.int)) ∈ lw_all := lw_g (lw_at lw_m3 99 rfl) rfl
theorem q705 : (Jvm.Cond.selects "CoresAreWills$Pig" ({ cls := "CoresAreWills$Kind", name := "inChancery", desc := "(I)I" } : Jvm.MethodName) ({ cls := "CoresAreWills$Kind", name := "inChancery", desc := "(I)I" } : Jvm.MethodName)) ∈ lw_all := lw_g (lw_at lw_m3 124 rfl) rfl
theorem q731 : (Jvm.Cond.selects "CoresAreWills$Pig" ({ cls := "CoresAreWills$Kind", name := "share", desc := "(LCoresAreWills$Core;I)I" } : Jvm.MethodName) ({ cls := "CoresAreWills$Pig", name := "share", desc := "(LCoresAreWills$Core;I)I" } : Jvm.MethodName)) ∈ lw_all := lw_g (lw_at lw_m3 150 rfl) rfl
theorem q732 : (Jvm.Cond.instanceMethod ({ cls := "CoresAreWills$Pig", name := "share", desc := "(LCoresAreWills$Core;I)I" } : Jvm.MethodName)) ∈ lw_all := lw_g (lw_at lw_m3 151 rfl) rfl
theorem q733 : (Jvm.Cond.code ({ cls := "CoresAreWills$Pig", name := "share", desc := "(LCoresAreWills$Core;I)I" } : Jvm.MethodName) prog_13_method_3_code (3 : Nat) (Option.some Jvm.ClassFile.FieldType.int)) ∈ lw_all := lw_g (lw_at lw_m3 152 rfl) rfl
theorem q734 : (Jvm.Cond.methodLinkNest "CoresAreWills$Pig" (15 : Nat) ({ cls := "CoresAreWills", name := "manyIn", desc := "(I)I" } : Jvm.MethodName) "CoresAreWills") ∈ lw_tbl := lw_at lw_m3 153 rfl
theorem q735 : (Jvm.Cond.methodLink "CoresAreWills$Pig" (19 : Nat) ({ cls := "java/lang/Math", name := "max", desc := "(II)I" } : Jvm.MethodName)) ∈ lw_all := lw_g (lw_at lw_m3 154 rfl) rfl
theorem q1592 : (Jvm.Cond.castable "CoresAreWills$Pig" "CoresAreWills$Kind") ∈ lw_tbl := lw_at lw_m7 51 rfl

/-! CoresAreWills$Kitchen -/
set_option maxRecDepth 100000
def RX7 : String := "CoresAreWills$Kitchen"
abbrev cX7_init : ByteArray := prog_10_method_1_code
def yX7_init : MethodName := ⟨RX7, "<init>", "()V"⟩
theorem dX7_init_0 : decode cX7_init 0 = .ok (.aload_n 0, 1) := by decide +kernel
theorem dX7_init_1 : decode cX7_init 1 = .ok (.invokespecial 1, 3) := by decide +kernel
theorem dX7_init_4 : decode cX7_init 4 = .ok (.return_, 1) := by decide +kernel
abbrev cX7_kind : ByteArray := prog_10_method_2_code
def yX7_kind : MethodName := ⟨RX7, "kind", "()I"⟩
theorem dX7_kind_0 : decode cX7_kind 0 = .ok (.iconst 5, 1) := by decide +kernel
theorem dX7_kind_1 : decode cX7_kind 1 = .ok (.ireturn, 1) := by decide +kernel
abbrev cX7_share : ByteArray := prog_10_method_3_code
def yX7_share : MethodName := ⟨RX7, "share", "(LCoresAreWills$Core;I)I"⟩
def dkwX7_share_0 : List UInt8 := [42, 43, 28, 183, 0, 7, 43, 180, 0, 11, 96, 4, 100, 172]
abbrev dktX7_share_0 : List UInt8 := dkwX7_share_0 ++ []
theorem dksX7_share_0 : cX7_share.data.toList.drop 0 = dktX7_share_0 := by decide +kernel
theorem dX7_share_0 : decode cX7_share 0 = .ok (.aload_n 0, 1) := dk_42 (dk_at dksX7_share_0 0 rfl rfl)
theorem dX7_share_1 : decode cX7_share 1 = .ok (.aload_n 1, 1) := dk_43 (dk_at dksX7_share_0 1 rfl rfl)
theorem dX7_share_2 : decode cX7_share 2 = .ok (.iload_n 2, 1) := dk_28 (dk_at dksX7_share_0 2 rfl rfl)
theorem dX7_share_3 : decode cX7_share 3 = .ok (.invokespecial 7, 3) := dk_183 0 7 (dk_at dksX7_share_0 3 rfl rfl)
theorem dX7_share_6 : decode cX7_share 6 = .ok (.aload_n 1, 1) := dk_43 (dk_at dksX7_share_0 6 rfl rfl)
theorem dX7_share_7 : decode cX7_share 7 = .ok (.getfield 11, 3) := dk_180 0 11 (dk_at dksX7_share_0 7 rfl rfl)
theorem dX7_share_10 : decode cX7_share 10 = .ok (.iadd, 1) := dk_96 (dk_at dksX7_share_0 10 rfl rfl)
theorem dX7_share_11 : decode cX7_share 11 = .ok (.iconst 1, 1) := dk_4 (dk_at dksX7_share_0 11 rfl rfl)
theorem dX7_share_12 : decode cX7_share 12 = .ok (.isub, 1) := dk_100 (dk_at dksX7_share_0 12 rfl rfl)
theorem dX7_share_13 : decode cX7_share 13 = .ok (.ireturn, 1) := dk_172 (dk_at dksX7_share_0 13 rfl rfl)
theorem q109 : (Jvm.Cond.initialized "CoresAreWills$Kitchen") ∈ lw_all := lw_g (lw_at lw_m1 8 rfl) rfl
theorem q176 : (Jvm.Cond.instantiable "CoresAreWills$Kitchen" (0 : Nat)) ∈ lw_all := lw_g (lw_at lw_m1 75 rfl) rfl
theorem q178 : (Jvm.Cond.instanceMethod ({ cls := "CoresAreWills$Kitchen", name := "<init>", desc := "()V" } : Jvm.MethodName)) ∈ lw_all := lw_g (lw_at lw_m1 77 rfl) rfl
theorem q179 : (Jvm.Cond.code ({ cls := "CoresAreWills$Kitchen", name := "<init>", desc := "()V" } : Jvm.MethodName) prog_10_method_1_code (1 : Nat) (Option.none : Option Jvm.ClassFile.FieldType)) ∈ lw_all := lw_g (lw_at lw_m1 78 rfl) rfl
theorem q180 : (Jvm.Cond.methodLinkNest "CoresAreWills$Kitchen" (1 : Nat) ({ cls := "CoresAreWills$Widow", name := "<init>", desc := "()V" } : Jvm.MethodName) "CoresAreWills") ∈ lw_tbl := lw_at lw_m1 79 rfl
theorem q181 : (Jvm.Cond.superclass "CoresAreWills$Kitchen" "CoresAreWills$Widow") ∈ lw_all := lw_g (lw_at lw_m1 80 rfl) rfl
theorem q210 : (Jvm.Cond.fieldLinkNest "CoresAreWills$Kitchen" (11 : Nat) "CoresAreWills$Core" "pieceMany" "I" "CoresAreWills") ∈ lw_tbl := lw_at lw_m1 109 rfl
theorem q669 : (Jvm.Cond.selects "CoresAreWills$Kitchen" ({ cls := "CoresAreWills$Kind", name := "kind", desc := "()I" } : Jvm.MethodName) ({ cls := "CoresAreWills$Kitchen", name := "kind", desc := "()I" } : Jvm.MethodName)) ∈ lw_all := lw_g (lw_at lw_m3 88 rfl) rfl
theorem q670 : (Jvm.Cond.instanceMethod ({ cls := "CoresAreWills$Kitchen", name := "kind", desc := "()I" } : Jvm.MethodName)) ∈ lw_all := lw_g (lw_at lw_m3 89 rfl) rfl
theorem q671 : (Jvm.Cond.code ({ cls := "CoresAreWills$Kitchen", name := "kind", desc := "()I" } : Jvm.MethodName) prog_10_method_2_code (1 : Nat) (Option.some Jvm.ClassFile.FieldType.int)) ∈ lw_all := lw_g (lw_at lw_m3 90 rfl) rfl
theorem q696 : (Jvm.Cond.selects "CoresAreWills$Kitchen" ({ cls := "CoresAreWills$Kind", name := "inChancery", desc := "(I)I" } : Jvm.MethodName) ({ cls := "CoresAreWills$Kind", name := "inChancery", desc := "(I)I" } : Jvm.MethodName)) ∈ lw_all := lw_g (lw_at lw_m3 115 rfl) rfl
theorem q718 : (Jvm.Cond.selects "CoresAreWills$Kitchen" ({ cls := "CoresAreWills$Kind", name := "share", desc := "(LCoresAreWills$Core;I)I" } : Jvm.MethodName) ({ cls := "CoresAreWills$Kitchen", name := "share", desc := "(LCoresAreWills$Core;I)I" } : Jvm.MethodName)) ∈ lw_all := lw_g (lw_at lw_m3 137 rfl) rfl
theorem q719 : (Jvm.Cond.instanceMethod ({ cls := "CoresAreWills$Kitchen", name := "share", desc := "(LCoresAreWills$Core;I)I" } : Jvm.MethodName)) ∈ lw_all := lw_g (lw_at lw_m3 138 rfl) rfl
theorem q720 : (Jvm.Cond.code ({ cls := "CoresAreWills$Kitchen", name := "share", desc := "(LCoresAreWills$Core;I)I" } : Jvm.MethodName) prog_10_method_3_code (3 : Nat) (Option.some Jvm.ClassFile.FieldType.int)) ∈ lw_all := lw_g (lw_at lw_m3 139 rfl) rfl
theorem q721 : (Jvm.Cond.methodLink "CoresAreWills$Kitchen" (7 : Nat) ({ cls := "CoresAreWills$Widow", name := "share", desc := "(LCoresAreWills$Core;I)I" } : Jvm.MethodName)) ∈ lw_all := lw_g (lw_at lw_m3 140 rfl) rfl
theorem q1593 : (Jvm.Cond.castable "CoresAreWills$Kitchen" "CoresAreWills$Kind") ∈ lw_tbl := lw_at lw_m7 52 rfl

/-! CoresAreWills$Core -/
set_option maxRecDepth 100000
def RX8 : String := "CoresAreWills$Core"
def TX8 : u_T := fun k => match k with
  | 0 => ("CoresAreWills$Core", "left", "I", false)
  | 1 => ("CoresAreWills$Core", "heirs", "I", false)
  | 2 => ("CoresAreWills$Core", "kind", "[LCoresAreWills$Kind;", true)
  | 3 => ("CoresAreWills$Core", "figures", "[I", true)
  | 4 => ("CoresAreWills$Core", "bitten", "I", false)
  | 5 => ("CoresAreWills$Core", "deed", "I", false)
  | 6 => ("CoresAreWills$Core", "pieceMany", "I", false)
  | _ => ("CoresAreWills$Core", "leastPiece", "I", false)
def tyX8 : Nat → FieldType := fun k => match k with
  | 0 => .int
  | 1 => .int
  | 2 => .array (.object "CoresAreWills$Kind")
  | 3 => .array .int
  | 4 => .int
  | 5 => .int
  | 6 => .int
  | _ => .int
abbrev wsX80 : List Cond := u_ws RX8 TX8 8
theorem nmX8 : ∀ a, a < 8 → ∀ b, b < 8 → a ≠ b → (TX8 a).2.1 ≠ (TX8 b).2.1 := by decide +kernel
theorem tyX8_ok : ∀ k, k < 8 → parseFieldDescriptor (TX8 k).2.2.1 = some (tyX8 k) := by decide +kernel
abbrev cX8_init : ByteArray := prog_4_method_1_code
def yX8_init : MethodName := ⟨RX8, "<init>", "()V"⟩
def dkwX8_init_1 : List UInt8 := [181, 0, 22, 42, 18, 9, 181, 0, 26, 42, 4, 181, 0, 29, 42, 16, 25, 181, 0, 32, 177]
abbrev dktX8_init_1 : List UInt8 := dkwX8_init_1 ++ []
def dkwX8_init_0 : List UInt8 := [42, 183, 0, 3, 42, 18, 9, 181, 0, 10, 42, 8, 189, 0, 16, 181, 0, 18, 42, 8, 188, 10]
abbrev dktX8_init_0 : List UInt8 := dkwX8_init_0 ++ dktX8_init_1
theorem dksX8_init_0 : cX8_init.data.toList.drop 0 = dktX8_init_0 := by decide +kernel
theorem dksX8_init_1 : cX8_init.data.toList.drop 22 = dktX8_init_1 := dk_seg dksX8_init_0 22 rfl rfl
theorem dX8_init_0 : decode cX8_init 0 = .ok (.aload_n 0, 1) := dk_42 (dk_at dksX8_init_0 0 rfl rfl)
theorem dX8_init_1 : decode cX8_init 1 = .ok (.invokespecial 3, 3) := dk_183 0 3 (dk_at dksX8_init_0 1 rfl rfl)
theorem dX8_init_4 : decode cX8_init 4 = .ok (.aload_n 0, 1) := dk_42 (dk_at dksX8_init_0 4 rfl rfl)
theorem dX8_init_5 : decode cX8_init 5 = .ok (.ldc 9, 2) := dk_18 9 (dk_at dksX8_init_0 5 rfl rfl)
theorem dX8_init_7 : decode cX8_init 7 = .ok (.putfield 10, 3) := dk_181 0 10 (dk_at dksX8_init_0 7 rfl rfl)
theorem dX8_init_10 : decode cX8_init 10 = .ok (.aload_n 0, 1) := dk_42 (dk_at dksX8_init_0 10 rfl rfl)
theorem dX8_init_11 : decode cX8_init 11 = .ok (.iconst 5, 1) := dk_8 (dk_at dksX8_init_0 11 rfl rfl)
theorem dX8_init_12 : decode cX8_init 12 = .ok (.anewarray 16, 3) := dk_189 0 16 (dk_at dksX8_init_0 12 rfl rfl)
theorem dX8_init_15 : decode cX8_init 15 = .ok (.putfield 18, 3) := dk_181 0 18 (dk_at dksX8_init_0 15 rfl rfl)
theorem dX8_init_18 : decode cX8_init 18 = .ok (.aload_n 0, 1) := dk_42 (dk_at dksX8_init_0 18 rfl rfl)
theorem dX8_init_19 : decode cX8_init 19 = .ok (.iconst 5, 1) := dk_8 (dk_at dksX8_init_0 19 rfl rfl)
theorem dX8_init_20 : decode cX8_init 20 = .ok (.newarray .int, 2) := dk_188_10 (dk_at dksX8_init_0 20 rfl rfl)
theorem dX8_init_22 : decode cX8_init 22 = .ok (.putfield 22, 3) := dk_181 0 22 (dk_at dksX8_init_1 0 rfl rfl)
theorem dX8_init_25 : decode cX8_init 25 = .ok (.aload_n 0, 1) := dk_42 (dk_at dksX8_init_1 3 rfl rfl)
theorem dX8_init_26 : decode cX8_init 26 = .ok (.ldc 9, 2) := dk_18 9 (dk_at dksX8_init_1 4 rfl rfl)
theorem dX8_init_28 : decode cX8_init 28 = .ok (.putfield 26, 3) := dk_181 0 26 (dk_at dksX8_init_1 6 rfl rfl)
theorem dX8_init_31 : decode cX8_init 31 = .ok (.aload_n 0, 1) := dk_42 (dk_at dksX8_init_1 9 rfl rfl)
theorem dX8_init_32 : decode cX8_init 32 = .ok (.iconst 1, 1) := dk_4 (dk_at dksX8_init_1 10 rfl rfl)
theorem dX8_init_33 : decode cX8_init 33 = .ok (.putfield 29, 3) := dk_181 0 29 (dk_at dksX8_init_1 11 rfl rfl)
theorem dX8_init_36 : decode cX8_init 36 = .ok (.aload_n 0, 1) := dk_42 (dk_at dksX8_init_1 14 rfl rfl)
theorem dX8_init_37 : decode cX8_init 37 = .ok (.bipush 25, 2) := dk_16 25 (dk_at dksX8_init_1 15 rfl rfl)
theorem dX8_init_39 : decode cX8_init 39 = .ok (.putfield 32, 3) := dk_181 0 32 (dk_at dksX8_init_1 17 rfl rfl)
theorem dX8_init_42 : decode cX8_init 42 = .ok (.return_, 1) := dk_177 (dk_at dksX8_init_1 20 rfl rfl)
abbrev cX8_set : ByteArray := prog_4_method_2_code
def yX8_set : MethodName := ⟨RX8, "set", "(LCoresAreWills$Core;)LCoresAreWills$Core;"⟩
def dkwX8_set_3 : List UInt8 := [180, 0, 32, 181, 0, 32, 42, 176]
abbrev dktX8_set_3 : List UInt8 := dkwX8_set_3 ++ []
def dkwX8_set_2 : List UInt8 := [180, 0, 10, 181, 0, 10, 42, 43, 180, 0, 26, 181, 0, 26, 42, 43, 180, 0, 29, 181, 0, 29, 42, 43]
abbrev dktX8_set_2 : List UInt8 := dkwX8_set_2 ++ dktX8_set_3
def dkwX8_set_1 : List UInt8 := [180, 0, 18, 3, 8, 184, 0, 41, 43, 180, 0, 22, 3, 42, 180, 0, 22, 3, 8, 184, 0, 41, 42, 43]
abbrev dktX8_set_1 : List UInt8 := dkwX8_set_1 ++ dktX8_set_2
def dkwX8_set_0 : List UInt8 := [42, 43, 180, 0, 35, 181, 0, 35, 42, 43, 180, 0, 38, 181, 0, 38, 43, 180, 0, 18, 3, 42]
abbrev dktX8_set_0 : List UInt8 := dkwX8_set_0 ++ dktX8_set_1
theorem dksX8_set_0 : cX8_set.data.toList.drop 0 = dktX8_set_0 := by decide +kernel
theorem dksX8_set_1 : cX8_set.data.toList.drop 22 = dktX8_set_1 := dk_seg dksX8_set_0 22 rfl rfl
theorem dksX8_set_2 : cX8_set.data.toList.drop 46 = dktX8_set_2 := dk_seg dksX8_set_1 24 rfl rfl
theorem dksX8_set_3 : cX8_set.data.toList.drop 70 = dktX8_set_3 := dk_seg dksX8_set_2 24 rfl rfl
theorem dX8_set_0 : decode cX8_set 0 = .ok (.aload_n 0, 1) := dk_42 (dk_at dksX8_set_0 0 rfl rfl)
theorem dX8_set_1 : decode cX8_set 1 = .ok (.aload_n 1, 1) := dk_43 (dk_at dksX8_set_0 1 rfl rfl)
theorem dX8_set_2 : decode cX8_set 2 = .ok (.getfield 35, 3) := dk_180 0 35 (dk_at dksX8_set_0 2 rfl rfl)
theorem dX8_set_5 : decode cX8_set 5 = .ok (.putfield 35, 3) := dk_181 0 35 (dk_at dksX8_set_0 5 rfl rfl)
theorem dX8_set_8 : decode cX8_set 8 = .ok (.aload_n 0, 1) := dk_42 (dk_at dksX8_set_0 8 rfl rfl)
theorem dX8_set_9 : decode cX8_set 9 = .ok (.aload_n 1, 1) := dk_43 (dk_at dksX8_set_0 9 rfl rfl)
theorem dX8_set_10 : decode cX8_set 10 = .ok (.getfield 38, 3) := dk_180 0 38 (dk_at dksX8_set_0 10 rfl rfl)
theorem dX8_set_13 : decode cX8_set 13 = .ok (.putfield 38, 3) := dk_181 0 38 (dk_at dksX8_set_0 13 rfl rfl)
theorem dX8_set_16 : decode cX8_set 16 = .ok (.aload_n 1, 1) := dk_43 (dk_at dksX8_set_0 16 rfl rfl)
theorem dX8_set_17 : decode cX8_set 17 = .ok (.getfield 18, 3) := dk_180 0 18 (dk_at dksX8_set_0 17 rfl rfl)
theorem dX8_set_20 : decode cX8_set 20 = .ok (.iconst 0, 1) := dk_3 (dk_at dksX8_set_0 20 rfl rfl)
theorem dX8_set_21 : decode cX8_set 21 = .ok (.aload_n 0, 1) := dk_42 (dk_at dksX8_set_0 21 rfl rfl)
theorem dX8_set_22 : decode cX8_set 22 = .ok (.getfield 18, 3) := dk_180 0 18 (dk_at dksX8_set_1 0 rfl rfl)
theorem dX8_set_25 : decode cX8_set 25 = .ok (.iconst 0, 1) := dk_3 (dk_at dksX8_set_1 3 rfl rfl)
theorem dX8_set_26 : decode cX8_set 26 = .ok (.iconst 5, 1) := dk_8 (dk_at dksX8_set_1 4 rfl rfl)
theorem dX8_set_27 : decode cX8_set 27 = .ok (.invokestatic 41, 3) := dk_184 0 41 (dk_at dksX8_set_1 5 rfl rfl)
theorem dX8_set_30 : decode cX8_set 30 = .ok (.aload_n 1, 1) := dk_43 (dk_at dksX8_set_1 8 rfl rfl)
theorem dX8_set_31 : decode cX8_set 31 = .ok (.getfield 22, 3) := dk_180 0 22 (dk_at dksX8_set_1 9 rfl rfl)
theorem dX8_set_34 : decode cX8_set 34 = .ok (.iconst 0, 1) := dk_3 (dk_at dksX8_set_1 12 rfl rfl)
theorem dX8_set_35 : decode cX8_set 35 = .ok (.aload_n 0, 1) := dk_42 (dk_at dksX8_set_1 13 rfl rfl)
theorem dX8_set_36 : decode cX8_set 36 = .ok (.getfield 22, 3) := dk_180 0 22 (dk_at dksX8_set_1 14 rfl rfl)
theorem dX8_set_39 : decode cX8_set 39 = .ok (.iconst 0, 1) := dk_3 (dk_at dksX8_set_1 17 rfl rfl)
theorem dX8_set_40 : decode cX8_set 40 = .ok (.iconst 5, 1) := dk_8 (dk_at dksX8_set_1 18 rfl rfl)
theorem dX8_set_41 : decode cX8_set 41 = .ok (.invokestatic 41, 3) := dk_184 0 41 (dk_at dksX8_set_1 19 rfl rfl)
theorem dX8_set_44 : decode cX8_set 44 = .ok (.aload_n 0, 1) := dk_42 (dk_at dksX8_set_1 22 rfl rfl)
theorem dX8_set_45 : decode cX8_set 45 = .ok (.aload_n 1, 1) := dk_43 (dk_at dksX8_set_1 23 rfl rfl)
theorem dX8_set_46 : decode cX8_set 46 = .ok (.getfield 10, 3) := dk_180 0 10 (dk_at dksX8_set_2 0 rfl rfl)
theorem dX8_set_49 : decode cX8_set 49 = .ok (.putfield 10, 3) := dk_181 0 10 (dk_at dksX8_set_2 3 rfl rfl)
theorem dX8_set_52 : decode cX8_set 52 = .ok (.aload_n 0, 1) := dk_42 (dk_at dksX8_set_2 6 rfl rfl)
theorem dX8_set_53 : decode cX8_set 53 = .ok (.aload_n 1, 1) := dk_43 (dk_at dksX8_set_2 7 rfl rfl)
theorem dX8_set_54 : decode cX8_set 54 = .ok (.getfield 26, 3) := dk_180 0 26 (dk_at dksX8_set_2 8 rfl rfl)
theorem dX8_set_57 : decode cX8_set 57 = .ok (.putfield 26, 3) := dk_181 0 26 (dk_at dksX8_set_2 11 rfl rfl)
theorem dX8_set_60 : decode cX8_set 60 = .ok (.aload_n 0, 1) := dk_42 (dk_at dksX8_set_2 14 rfl rfl)
theorem dX8_set_61 : decode cX8_set 61 = .ok (.aload_n 1, 1) := dk_43 (dk_at dksX8_set_2 15 rfl rfl)
theorem dX8_set_62 : decode cX8_set 62 = .ok (.getfield 29, 3) := dk_180 0 29 (dk_at dksX8_set_2 16 rfl rfl)
theorem dX8_set_65 : decode cX8_set 65 = .ok (.putfield 29, 3) := dk_181 0 29 (dk_at dksX8_set_2 19 rfl rfl)
theorem dX8_set_68 : decode cX8_set 68 = .ok (.aload_n 0, 1) := dk_42 (dk_at dksX8_set_2 22 rfl rfl)
theorem dX8_set_69 : decode cX8_set 69 = .ok (.aload_n 1, 1) := dk_43 (dk_at dksX8_set_2 23 rfl rfl)
theorem dX8_set_70 : decode cX8_set 70 = .ok (.getfield 32, 3) := dk_180 0 32 (dk_at dksX8_set_3 0 rfl rfl)
theorem dX8_set_73 : decode cX8_set 73 = .ok (.putfield 32, 3) := dk_181 0 32 (dk_at dksX8_set_3 3 rfl rfl)
theorem dX8_set_76 : decode cX8_set 76 = .ok (.aload_n 0, 1) := dk_42 (dk_at dksX8_set_3 6 rfl rfl)
theorem dX8_set_77 : decode cX8_set 77 = .ok (.areturn, 1) := dk_176 (dk_at dksX8_set_3 7 rfl rfl)
abbrev cX8_canBite : ByteArray := prog_4_method_7_code
def yX8_canBite : MethodName := ⟨RX8, "canBite", "(II)Z"⟩
def dkwX8_canBite_1 : List UInt8 := [167, 0, 4, 3, 172]
abbrev dktX8_canBite_1 : List UInt8 := dkwX8_canBite_1 ++ []
def dkwX8_canBite_0 : List UInt8 := [27, 28, 184, 0, 81, 62, 29, 153, 0, 18, 29, 42, 180, 0, 10, 2, 130, 126, 154, 0, 7, 4]
abbrev dktX8_canBite_0 : List UInt8 := dkwX8_canBite_0 ++ dktX8_canBite_1
theorem dksX8_canBite_0 : cX8_canBite.data.toList.drop 0 = dktX8_canBite_0 := by decide +kernel
theorem dksX8_canBite_1 : cX8_canBite.data.toList.drop 22 = dktX8_canBite_1 := dk_seg dksX8_canBite_0 22 rfl rfl
theorem dX8_canBite_0 : decode cX8_canBite 0 = .ok (.iload_n 1, 1) := dk_27 (dk_at dksX8_canBite_0 0 rfl rfl)
theorem dX8_canBite_1 : decode cX8_canBite 1 = .ok (.iload_n 2, 1) := dk_28 (dk_at dksX8_canBite_0 1 rfl rfl)
theorem dX8_canBite_2 : decode cX8_canBite 2 = .ok (.invokestatic 81, 3) := dk_184 0 81 (dk_at dksX8_canBite_0 2 rfl rfl)
theorem dX8_canBite_5 : decode cX8_canBite 5 = .ok (.istore_n 3, 1) := dk_62 (dk_at dksX8_canBite_0 5 rfl rfl)
theorem dX8_canBite_6 : decode cX8_canBite 6 = .ok (.iload_n 3, 1) := dk_29 (dk_at dksX8_canBite_0 6 rfl rfl)
theorem dX8_canBite_7 : decode cX8_canBite 7 = .ok (.ifCond .eq 18, 3) := dk_153 0 18 (dk_at dksX8_canBite_0 7 rfl rfl)
theorem dX8_canBite_10 : decode cX8_canBite 10 = .ok (.iload_n 3, 1) := dk_29 (dk_at dksX8_canBite_0 10 rfl rfl)
theorem dX8_canBite_11 : decode cX8_canBite 11 = .ok (.aload_n 0, 1) := dk_42 (dk_at dksX8_canBite_0 11 rfl rfl)
theorem dX8_canBite_12 : decode cX8_canBite 12 = .ok (.getfield 10, 3) := dk_180 0 10 (dk_at dksX8_canBite_0 12 rfl rfl)
theorem dX8_canBite_15 : decode cX8_canBite 15 = .ok (.iconst (-1), 1) := dk_2 (dk_at dksX8_canBite_0 15 rfl rfl)
theorem dX8_canBite_16 : decode cX8_canBite 16 = .ok (.ixor, 1) := dk_130 (dk_at dksX8_canBite_0 16 rfl rfl)
theorem dX8_canBite_17 : decode cX8_canBite 17 = .ok (.iand, 1) := dk_126 (dk_at dksX8_canBite_0 17 rfl rfl)
theorem dX8_canBite_18 : decode cX8_canBite 18 = .ok (.ifCond .ne 7, 3) := dk_154 0 7 (dk_at dksX8_canBite_0 18 rfl rfl)
theorem dX8_canBite_21 : decode cX8_canBite 21 = .ok (.iconst 1, 1) := dk_4 (dk_at dksX8_canBite_0 21 rfl rfl)
theorem dX8_canBite_22 : decode cX8_canBite 22 = .ok (.goto 4, 3) := dk_167 0 4 (dk_at dksX8_canBite_1 0 rfl rfl)
theorem dX8_canBite_25 : decode cX8_canBite 25 = .ok (.iconst 0, 1) := dk_3 (dk_at dksX8_canBite_1 3 rfl rfl)
theorem dX8_canBite_26 : decode cX8_canBite 26 = .ok (.ireturn, 1) := dk_172 (dk_at dksX8_canBite_1 4 rfl rfl)
abbrev cX8_leave : ByteArray := prog_4_method_3_code
def yX8_leave : MethodName := ⟨RX8, "leave", "(I)LCoresAreWills$Core;"⟩
def dkwX8_leave_6 : List UInt8 := [42, 176]
abbrev dktX8_leave_6 : List UInt8 := dkwX8_leave_6 ++ []
def dkwX8_leave_5 : List UInt8 := [3, 167, 0, 7, 42, 180, 0, 26, 181, 0, 26, 28, 21, 6, 184, 0, 64, 61, 132, 4, 1, 167, 255, 144]
abbrev dktX8_leave_5 : List UInt8 := dkwX8_leave_5 ++ dktX8_leave_6
def dkwX8_leave_4 : List UInt8 := [184, 0, 59, 181, 0, 32, 42, 21, 6, 28, 164, 0, 8, 21, 5, 167, 0, 17, 21, 6, 28, 160, 0, 7]
abbrev dktX8_leave_4 : List UInt8 := dkwX8_leave_4 ++ dktX8_leave_5
def dkwX8_leave_3 : List UInt8 := [4, 96, 181, 0, 29, 42, 42, 180, 0, 32, 154, 0, 8, 21, 6, 167, 0, 12, 42, 180, 0, 32, 21, 6]
abbrev dktX8_leave_3 : List UInt8 := dkwX8_leave_3 ++ dktX8_leave_4
def dkwX8_leave_2 : List UInt8 := [184, 0, 51, 54, 5, 21, 5, 184, 0, 55, 54, 6, 29, 21, 5, 2, 130, 126, 62, 42, 89, 180, 0, 29]
abbrev dktX8_leave_2 : List UInt8 := dkwX8_leave_2 ++ dktX8_leave_3
def dkwX8_leave_1 : List UInt8 := [3, 54, 4, 21, 4, 16, 25, 162, 0, 111, 29, 21, 4, 184, 0, 47, 153, 0, 96, 21, 4, 27]
abbrev dktX8_leave_1 : List UInt8 := dkwX8_leave_1 ++ dktX8_leave_2
def dkwX8_leave_0 : List UInt8 := [42, 27, 181, 0, 10, 42, 3, 181, 0, 26, 42, 3, 181, 0, 29, 42, 3, 181, 0, 32, 3, 61, 27, 62]
abbrev dktX8_leave_0 : List UInt8 := dkwX8_leave_0 ++ dktX8_leave_1
theorem dksX8_leave_0 : cX8_leave.data.toList.drop 0 = dktX8_leave_0 := by decide +kernel
theorem dksX8_leave_1 : cX8_leave.data.toList.drop 24 = dktX8_leave_1 := dk_seg dksX8_leave_0 24 rfl rfl
theorem dksX8_leave_2 : cX8_leave.data.toList.drop 46 = dktX8_leave_2 := dk_seg dksX8_leave_1 22 rfl rfl
theorem dksX8_leave_3 : cX8_leave.data.toList.drop 70 = dktX8_leave_3 := dk_seg dksX8_leave_2 24 rfl rfl
theorem dksX8_leave_4 : cX8_leave.data.toList.drop 94 = dktX8_leave_4 := dk_seg dksX8_leave_3 24 rfl rfl
theorem dksX8_leave_5 : cX8_leave.data.toList.drop 118 = dktX8_leave_5 := dk_seg dksX8_leave_4 24 rfl rfl
theorem dksX8_leave_6 : cX8_leave.data.toList.drop 142 = dktX8_leave_6 := dk_seg dksX8_leave_5 24 rfl rfl
theorem dX8_leave_0 : decode cX8_leave 0 = .ok (.aload_n 0, 1) := dk_42 (dk_at dksX8_leave_0 0 rfl rfl)
theorem dX8_leave_1 : decode cX8_leave 1 = .ok (.iload_n 1, 1) := dk_27 (dk_at dksX8_leave_0 1 rfl rfl)
theorem dX8_leave_2 : decode cX8_leave 2 = .ok (.putfield 10, 3) := dk_181 0 10 (dk_at dksX8_leave_0 2 rfl rfl)
theorem dX8_leave_5 : decode cX8_leave 5 = .ok (.aload_n 0, 1) := dk_42 (dk_at dksX8_leave_0 5 rfl rfl)
theorem dX8_leave_6 : decode cX8_leave 6 = .ok (.iconst 0, 1) := dk_3 (dk_at dksX8_leave_0 6 rfl rfl)
theorem dX8_leave_7 : decode cX8_leave 7 = .ok (.putfield 26, 3) := dk_181 0 26 (dk_at dksX8_leave_0 7 rfl rfl)
theorem dX8_leave_10 : decode cX8_leave 10 = .ok (.aload_n 0, 1) := dk_42 (dk_at dksX8_leave_0 10 rfl rfl)
theorem dX8_leave_11 : decode cX8_leave 11 = .ok (.iconst 0, 1) := dk_3 (dk_at dksX8_leave_0 11 rfl rfl)
theorem dX8_leave_12 : decode cX8_leave 12 = .ok (.putfield 29, 3) := dk_181 0 29 (dk_at dksX8_leave_0 12 rfl rfl)
theorem dX8_leave_15 : decode cX8_leave 15 = .ok (.aload_n 0, 1) := dk_42 (dk_at dksX8_leave_0 15 rfl rfl)
theorem dX8_leave_16 : decode cX8_leave 16 = .ok (.iconst 0, 1) := dk_3 (dk_at dksX8_leave_0 16 rfl rfl)
theorem dX8_leave_17 : decode cX8_leave 17 = .ok (.putfield 32, 3) := dk_181 0 32 (dk_at dksX8_leave_0 17 rfl rfl)
theorem dX8_leave_20 : decode cX8_leave 20 = .ok (.iconst 0, 1) := dk_3 (dk_at dksX8_leave_0 20 rfl rfl)
theorem dX8_leave_21 : decode cX8_leave 21 = .ok (.istore_n 2, 1) := dk_61 (dk_at dksX8_leave_0 21 rfl rfl)
theorem dX8_leave_22 : decode cX8_leave 22 = .ok (.iload_n 1, 1) := dk_27 (dk_at dksX8_leave_0 22 rfl rfl)
theorem dX8_leave_23 : decode cX8_leave 23 = .ok (.istore_n 3, 1) := dk_62 (dk_at dksX8_leave_0 23 rfl rfl)
theorem dX8_leave_24 : decode cX8_leave 24 = .ok (.iconst 0, 1) := dk_3 (dk_at dksX8_leave_1 0 rfl rfl)
theorem dX8_leave_25 : decode cX8_leave 25 = .ok (.istore 4, 2) := dk_54 4 (dk_at dksX8_leave_1 1 rfl rfl)
theorem dX8_leave_27 : decode cX8_leave 27 = .ok (.iload 4, 2) := dk_21 4 (dk_at dksX8_leave_1 3 rfl rfl)
theorem dX8_leave_29 : decode cX8_leave 29 = .ok (.bipush 25, 2) := dk_16 25 (dk_at dksX8_leave_1 5 rfl rfl)
theorem dX8_leave_31 : decode cX8_leave 31 = .ok (.if_icmp .ge 111, 3) := dk_162 0 111 (dk_at dksX8_leave_1 7 rfl rfl)
theorem dX8_leave_34 : decode cX8_leave 34 = .ok (.iload_n 3, 1) := dk_29 (dk_at dksX8_leave_1 10 rfl rfl)
theorem dX8_leave_35 : decode cX8_leave 35 = .ok (.iload 4, 2) := dk_21 4 (dk_at dksX8_leave_1 11 rfl rfl)
theorem dX8_leave_37 : decode cX8_leave 37 = .ok (.invokestatic 47, 3) := dk_184 0 47 (dk_at dksX8_leave_1 13 rfl rfl)
theorem dX8_leave_40 : decode cX8_leave 40 = .ok (.ifCond .eq 96, 3) := dk_153 0 96 (dk_at dksX8_leave_1 16 rfl rfl)
theorem dX8_leave_43 : decode cX8_leave 43 = .ok (.iload 4, 2) := dk_21 4 (dk_at dksX8_leave_1 19 rfl rfl)
theorem dX8_leave_45 : decode cX8_leave 45 = .ok (.iload_n 1, 1) := dk_27 (dk_at dksX8_leave_1 21 rfl rfl)
theorem dX8_leave_46 : decode cX8_leave 46 = .ok (.invokestatic 51, 3) := dk_184 0 51 (dk_at dksX8_leave_2 0 rfl rfl)
theorem dX8_leave_49 : decode cX8_leave 49 = .ok (.istore 5, 2) := dk_54 5 (dk_at dksX8_leave_2 3 rfl rfl)
theorem dX8_leave_51 : decode cX8_leave 51 = .ok (.iload 5, 2) := dk_21 5 (dk_at dksX8_leave_2 5 rfl rfl)
theorem dX8_leave_53 : decode cX8_leave 53 = .ok (.invokestatic 55, 3) := dk_184 0 55 (dk_at dksX8_leave_2 7 rfl rfl)
theorem dX8_leave_56 : decode cX8_leave 56 = .ok (.istore 6, 2) := dk_54 6 (dk_at dksX8_leave_2 10 rfl rfl)
theorem dX8_leave_58 : decode cX8_leave 58 = .ok (.iload_n 3, 1) := dk_29 (dk_at dksX8_leave_2 12 rfl rfl)
theorem dX8_leave_59 : decode cX8_leave 59 = .ok (.iload 5, 2) := dk_21 5 (dk_at dksX8_leave_2 13 rfl rfl)
theorem dX8_leave_61 : decode cX8_leave 61 = .ok (.iconst (-1), 1) := dk_2 (dk_at dksX8_leave_2 15 rfl rfl)
theorem dX8_leave_62 : decode cX8_leave 62 = .ok (.ixor, 1) := dk_130 (dk_at dksX8_leave_2 16 rfl rfl)
theorem dX8_leave_63 : decode cX8_leave 63 = .ok (.iand, 1) := dk_126 (dk_at dksX8_leave_2 17 rfl rfl)
theorem dX8_leave_64 : decode cX8_leave 64 = .ok (.istore_n 3, 1) := dk_62 (dk_at dksX8_leave_2 18 rfl rfl)
theorem dX8_leave_65 : decode cX8_leave 65 = .ok (.aload_n 0, 1) := dk_42 (dk_at dksX8_leave_2 19 rfl rfl)
theorem dX8_leave_66 : decode cX8_leave 66 = .ok (.dup, 1) := dk_89 (dk_at dksX8_leave_2 20 rfl rfl)
theorem dX8_leave_67 : decode cX8_leave 67 = .ok (.getfield 29, 3) := dk_180 0 29 (dk_at dksX8_leave_2 21 rfl rfl)
theorem dX8_leave_70 : decode cX8_leave 70 = .ok (.iconst 1, 1) := dk_4 (dk_at dksX8_leave_3 0 rfl rfl)
theorem dX8_leave_71 : decode cX8_leave 71 = .ok (.iadd, 1) := dk_96 (dk_at dksX8_leave_3 1 rfl rfl)
theorem dX8_leave_72 : decode cX8_leave 72 = .ok (.putfield 29, 3) := dk_181 0 29 (dk_at dksX8_leave_3 2 rfl rfl)
theorem dX8_leave_75 : decode cX8_leave 75 = .ok (.aload_n 0, 1) := dk_42 (dk_at dksX8_leave_3 5 rfl rfl)
theorem dX8_leave_76 : decode cX8_leave 76 = .ok (.aload_n 0, 1) := dk_42 (dk_at dksX8_leave_3 6 rfl rfl)
theorem dX8_leave_77 : decode cX8_leave 77 = .ok (.getfield 32, 3) := dk_180 0 32 (dk_at dksX8_leave_3 7 rfl rfl)
theorem dX8_leave_80 : decode cX8_leave 80 = .ok (.ifCond .ne 8, 3) := dk_154 0 8 (dk_at dksX8_leave_3 10 rfl rfl)
theorem dX8_leave_83 : decode cX8_leave 83 = .ok (.iload 6, 2) := dk_21 6 (dk_at dksX8_leave_3 13 rfl rfl)
theorem dX8_leave_85 : decode cX8_leave 85 = .ok (.goto 12, 3) := dk_167 0 12 (dk_at dksX8_leave_3 15 rfl rfl)
theorem dX8_leave_88 : decode cX8_leave 88 = .ok (.aload_n 0, 1) := dk_42 (dk_at dksX8_leave_3 18 rfl rfl)
theorem dX8_leave_89 : decode cX8_leave 89 = .ok (.getfield 32, 3) := dk_180 0 32 (dk_at dksX8_leave_3 19 rfl rfl)
theorem dX8_leave_92 : decode cX8_leave 92 = .ok (.iload 6, 2) := dk_21 6 (dk_at dksX8_leave_3 22 rfl rfl)
theorem dX8_leave_94 : decode cX8_leave 94 = .ok (.invokestatic 59, 3) := dk_184 0 59 (dk_at dksX8_leave_4 0 rfl rfl)
theorem dX8_leave_97 : decode cX8_leave 97 = .ok (.putfield 32, 3) := dk_181 0 32 (dk_at dksX8_leave_4 3 rfl rfl)
theorem dX8_leave_100 : decode cX8_leave 100 = .ok (.aload_n 0, 1) := dk_42 (dk_at dksX8_leave_4 6 rfl rfl)
theorem dX8_leave_101 : decode cX8_leave 101 = .ok (.iload 6, 2) := dk_21 6 (dk_at dksX8_leave_4 7 rfl rfl)
theorem dX8_leave_103 : decode cX8_leave 103 = .ok (.iload_n 2, 1) := dk_28 (dk_at dksX8_leave_4 9 rfl rfl)
theorem dX8_leave_104 : decode cX8_leave 104 = .ok (.if_icmp .le 8, 3) := dk_164 0 8 (dk_at dksX8_leave_4 10 rfl rfl)
theorem dX8_leave_107 : decode cX8_leave 107 = .ok (.iload 5, 2) := dk_21 5 (dk_at dksX8_leave_4 13 rfl rfl)
theorem dX8_leave_109 : decode cX8_leave 109 = .ok (.goto 17, 3) := dk_167 0 17 (dk_at dksX8_leave_4 15 rfl rfl)
theorem dX8_leave_112 : decode cX8_leave 112 = .ok (.iload 6, 2) := dk_21 6 (dk_at dksX8_leave_4 18 rfl rfl)
theorem dX8_leave_114 : decode cX8_leave 114 = .ok (.iload_n 2, 1) := dk_28 (dk_at dksX8_leave_4 20 rfl rfl)
theorem dX8_leave_115 : decode cX8_leave 115 = .ok (.if_icmp .ne 7, 3) := dk_160 0 7 (dk_at dksX8_leave_4 21 rfl rfl)
theorem dX8_leave_118 : decode cX8_leave 118 = .ok (.iconst 0, 1) := dk_3 (dk_at dksX8_leave_5 0 rfl rfl)
theorem dX8_leave_119 : decode cX8_leave 119 = .ok (.goto 7, 3) := dk_167 0 7 (dk_at dksX8_leave_5 1 rfl rfl)
theorem dX8_leave_122 : decode cX8_leave 122 = .ok (.aload_n 0, 1) := dk_42 (dk_at dksX8_leave_5 4 rfl rfl)
theorem dX8_leave_123 : decode cX8_leave 123 = .ok (.getfield 26, 3) := dk_180 0 26 (dk_at dksX8_leave_5 5 rfl rfl)
theorem dX8_leave_126 : decode cX8_leave 126 = .ok (.putfield 26, 3) := dk_181 0 26 (dk_at dksX8_leave_5 8 rfl rfl)
theorem dX8_leave_129 : decode cX8_leave 129 = .ok (.iload_n 2, 1) := dk_28 (dk_at dksX8_leave_5 11 rfl rfl)
theorem dX8_leave_130 : decode cX8_leave 130 = .ok (.iload 6, 2) := dk_21 6 (dk_at dksX8_leave_5 12 rfl rfl)
theorem dX8_leave_132 : decode cX8_leave 132 = .ok (.invokestatic 64, 3) := dk_184 0 64 (dk_at dksX8_leave_5 14 rfl rfl)
theorem dX8_leave_135 : decode cX8_leave 135 = .ok (.istore_n 2, 1) := dk_61 (dk_at dksX8_leave_5 17 rfl rfl)
theorem dX8_leave_136 : decode cX8_leave 136 = .ok (.iinc 4 1, 3) := dk_132 4 1 (dk_at dksX8_leave_5 18 rfl rfl)
theorem dX8_leave_139 : decode cX8_leave 139 = .ok (.goto (-112), 3) := dk_167 255 144 (dk_at dksX8_leave_5 21 rfl rfl)
theorem dX8_leave_142 : decode cX8_leave 142 = .ok (.aload_n 0, 1) := dk_42 (dk_at dksX8_leave_6 0 rfl rfl)
theorem dX8_leave_143 : decode cX8_leave 143 = .ok (.areturn, 1) := dk_176 (dk_at dksX8_leave_6 1 rfl rfl)
abbrev cX8_bite : ByteArray := prog_4_method_8_code
def yX8_bite : MethodName := ⟨RX8, "bite", "(II)V"⟩
def dkwX8_bite_1 : List UInt8 := [184, 0, 81, 2, 130, 126, 182, 0, 84, 87, 177]
abbrev dktX8_bite_1 : List UInt8 := dkwX8_bite_1 ++ []
def dkwX8_bite_0 : List UInt8 := [42, 17, 3, 231, 42, 180, 0, 38, 4, 96, 184, 0, 59, 181, 0, 38, 42, 42, 180, 0, 10, 27, 28]
abbrev dktX8_bite_0 : List UInt8 := dkwX8_bite_0 ++ dktX8_bite_1
theorem dksX8_bite_0 : cX8_bite.data.toList.drop 0 = dktX8_bite_0 := by decide +kernel
theorem dksX8_bite_1 : cX8_bite.data.toList.drop 23 = dktX8_bite_1 := dk_seg dksX8_bite_0 23 rfl rfl
theorem dX8_bite_0 : decode cX8_bite 0 = .ok (.aload_n 0, 1) := dk_42 (dk_at dksX8_bite_0 0 rfl rfl)
theorem dX8_bite_1 : decode cX8_bite 1 = .ok (.sipush 999, 3) := dk_17 3 231 (dk_at dksX8_bite_0 1 rfl rfl)
theorem dX8_bite_4 : decode cX8_bite 4 = .ok (.aload_n 0, 1) := dk_42 (dk_at dksX8_bite_0 4 rfl rfl)
theorem dX8_bite_5 : decode cX8_bite 5 = .ok (.getfield 38, 3) := dk_180 0 38 (dk_at dksX8_bite_0 5 rfl rfl)
theorem dX8_bite_8 : decode cX8_bite 8 = .ok (.iconst 1, 1) := dk_4 (dk_at dksX8_bite_0 8 rfl rfl)
theorem dX8_bite_9 : decode cX8_bite 9 = .ok (.iadd, 1) := dk_96 (dk_at dksX8_bite_0 9 rfl rfl)
theorem dX8_bite_10 : decode cX8_bite 10 = .ok (.invokestatic 59, 3) := dk_184 0 59 (dk_at dksX8_bite_0 10 rfl rfl)
theorem dX8_bite_13 : decode cX8_bite 13 = .ok (.putfield 38, 3) := dk_181 0 38 (dk_at dksX8_bite_0 13 rfl rfl)
theorem dX8_bite_16 : decode cX8_bite 16 = .ok (.aload_n 0, 1) := dk_42 (dk_at dksX8_bite_0 16 rfl rfl)
theorem dX8_bite_17 : decode cX8_bite 17 = .ok (.aload_n 0, 1) := dk_42 (dk_at dksX8_bite_0 17 rfl rfl)
theorem dX8_bite_18 : decode cX8_bite 18 = .ok (.getfield 10, 3) := dk_180 0 10 (dk_at dksX8_bite_0 18 rfl rfl)
theorem dX8_bite_21 : decode cX8_bite 21 = .ok (.iload_n 1, 1) := dk_27 (dk_at dksX8_bite_0 21 rfl rfl)
theorem dX8_bite_22 : decode cX8_bite 22 = .ok (.iload_n 2, 1) := dk_28 (dk_at dksX8_bite_0 22 rfl rfl)
theorem dX8_bite_23 : decode cX8_bite 23 = .ok (.invokestatic 81, 3) := dk_184 0 81 (dk_at dksX8_bite_1 0 rfl rfl)
theorem dX8_bite_26 : decode cX8_bite 26 = .ok (.iconst (-1), 1) := dk_2 (dk_at dksX8_bite_1 3 rfl rfl)
theorem dX8_bite_27 : decode cX8_bite 27 = .ok (.ixor, 1) := dk_130 (dk_at dksX8_bite_1 4 rfl rfl)
theorem dX8_bite_28 : decode cX8_bite 28 = .ok (.iand, 1) := dk_126 (dk_at dksX8_bite_1 5 rfl rfl)
theorem dX8_bite_29 : decode cX8_bite 29 = .ok (.invokevirtual 84, 3) := dk_182 0 84 (dk_at dksX8_bite_1 6 rfl rfl)
theorem dX8_bite_32 : decode cX8_bite 32 = .ok (.pop, 1) := dk_87 (dk_at dksX8_bite_1 9 rfl rfl)
theorem dX8_bite_33 : decode cX8_bite 33 = .ok (.return_, 1) := dk_177 (dk_at dksX8_bite_1 10 rfl rfl)
abbrev cX8_comes : ByteArray := prog_4_method_10_code
def yX8_comes : MethodName := ⟨RX8, "comes", "(LCoresAreWills$Kind;I)V"⟩
def dkwX8_comes_1 : List UInt8 := [180, 0, 35, 4, 96, 181, 0, 35, 177]
abbrev dktX8_comes_1 : List UInt8 := dkwX8_comes_1 ++ []
def dkwX8_comes_0 : List UInt8 := [42, 180, 0, 18, 42, 180, 0, 35, 43, 83, 42, 180, 0, 22, 42, 180, 0, 35, 28, 79, 42, 89]
abbrev dktX8_comes_0 : List UInt8 := dkwX8_comes_0 ++ dktX8_comes_1
theorem dksX8_comes_0 : cX8_comes.data.toList.drop 0 = dktX8_comes_0 := by decide +kernel
theorem dksX8_comes_1 : cX8_comes.data.toList.drop 22 = dktX8_comes_1 := dk_seg dksX8_comes_0 22 rfl rfl
theorem dX8_comes_0 : decode cX8_comes 0 = .ok (.aload_n 0, 1) := dk_42 (dk_at dksX8_comes_0 0 rfl rfl)
theorem dX8_comes_1 : decode cX8_comes 1 = .ok (.getfield 18, 3) := dk_180 0 18 (dk_at dksX8_comes_0 1 rfl rfl)
theorem dX8_comes_4 : decode cX8_comes 4 = .ok (.aload_n 0, 1) := dk_42 (dk_at dksX8_comes_0 4 rfl rfl)
theorem dX8_comes_5 : decode cX8_comes 5 = .ok (.getfield 35, 3) := dk_180 0 35 (dk_at dksX8_comes_0 5 rfl rfl)
theorem dX8_comes_8 : decode cX8_comes 8 = .ok (.aload_n 1, 1) := dk_43 (dk_at dksX8_comes_0 8 rfl rfl)
theorem dX8_comes_9 : decode cX8_comes 9 = .ok (.aastore, 1) := dk_83 (dk_at dksX8_comes_0 9 rfl rfl)
theorem dX8_comes_10 : decode cX8_comes 10 = .ok (.aload_n 0, 1) := dk_42 (dk_at dksX8_comes_0 10 rfl rfl)
theorem dX8_comes_11 : decode cX8_comes 11 = .ok (.getfield 22, 3) := dk_180 0 22 (dk_at dksX8_comes_0 11 rfl rfl)
theorem dX8_comes_14 : decode cX8_comes 14 = .ok (.aload_n 0, 1) := dk_42 (dk_at dksX8_comes_0 14 rfl rfl)
theorem dX8_comes_15 : decode cX8_comes 15 = .ok (.getfield 35, 3) := dk_180 0 35 (dk_at dksX8_comes_0 15 rfl rfl)
theorem dX8_comes_18 : decode cX8_comes 18 = .ok (.iload_n 2, 1) := dk_28 (dk_at dksX8_comes_0 18 rfl rfl)
theorem dX8_comes_19 : decode cX8_comes 19 = .ok (.iastore, 1) := dk_79 (dk_at dksX8_comes_0 19 rfl rfl)
theorem dX8_comes_20 : decode cX8_comes 20 = .ok (.aload_n 0, 1) := dk_42 (dk_at dksX8_comes_0 20 rfl rfl)
theorem dX8_comes_21 : decode cX8_comes 21 = .ok (.dup, 1) := dk_89 (dk_at dksX8_comes_0 21 rfl rfl)
theorem dX8_comes_22 : decode cX8_comes 22 = .ok (.getfield 35, 3) := dk_180 0 35 (dk_at dksX8_comes_1 0 rfl rfl)
theorem dX8_comes_25 : decode cX8_comes 25 = .ok (.iconst 1, 1) := dk_4 (dk_at dksX8_comes_1 3 rfl rfl)
theorem dX8_comes_26 : decode cX8_comes 26 = .ok (.iadd, 1) := dk_96 (dk_at dksX8_comes_1 4 rfl rfl)
theorem dX8_comes_27 : decode cX8_comes 27 = .ok (.putfield 35, 3) := dk_181 0 35 (dk_at dksX8_comes_1 5 rfl rfl)
theorem dX8_comes_30 : decode cX8_comes 30 = .ok (.return_, 1) := dk_177 (dk_at dksX8_comes_1 8 rfl rfl)
abbrev cX8_roll : ByteArray := prog_4_method_9_code
def yX8_roll : MethodName := ⟨RX8, "roll", "(I)V"⟩
def dkwX8_roll_1 : List UInt8 := [28, 182, 0, 84, 87, 177]
abbrev dktX8_roll_1 : List UInt8 := dkwX8_roll_1 ++ []
def dkwX8_roll_0 : List UInt8 := [42, 180, 0, 10, 61, 3, 62, 29, 27, 162, 0, 14, 28, 184, 0, 88, 61, 132, 3, 1, 167, 255, 243, 42]
abbrev dktX8_roll_0 : List UInt8 := dkwX8_roll_0 ++ dktX8_roll_1
theorem dksX8_roll_0 : cX8_roll.data.toList.drop 0 = dktX8_roll_0 := by decide +kernel
theorem dksX8_roll_1 : cX8_roll.data.toList.drop 24 = dktX8_roll_1 := dk_seg dksX8_roll_0 24 rfl rfl
theorem dX8_roll_0 : decode cX8_roll 0 = .ok (.aload_n 0, 1) := dk_42 (dk_at dksX8_roll_0 0 rfl rfl)
theorem dX8_roll_1 : decode cX8_roll 1 = .ok (.getfield 10, 3) := dk_180 0 10 (dk_at dksX8_roll_0 1 rfl rfl)
theorem dX8_roll_4 : decode cX8_roll 4 = .ok (.istore_n 2, 1) := dk_61 (dk_at dksX8_roll_0 4 rfl rfl)
theorem dX8_roll_5 : decode cX8_roll 5 = .ok (.iconst 0, 1) := dk_3 (dk_at dksX8_roll_0 5 rfl rfl)
theorem dX8_roll_6 : decode cX8_roll 6 = .ok (.istore_n 3, 1) := dk_62 (dk_at dksX8_roll_0 6 rfl rfl)
theorem dX8_roll_7 : decode cX8_roll 7 = .ok (.iload_n 3, 1) := dk_29 (dk_at dksX8_roll_0 7 rfl rfl)
theorem dX8_roll_8 : decode cX8_roll 8 = .ok (.iload_n 1, 1) := dk_27 (dk_at dksX8_roll_0 8 rfl rfl)
theorem dX8_roll_9 : decode cX8_roll 9 = .ok (.if_icmp .ge 14, 3) := dk_162 0 14 (dk_at dksX8_roll_0 9 rfl rfl)
theorem dX8_roll_12 : decode cX8_roll 12 = .ok (.iload_n 2, 1) := dk_28 (dk_at dksX8_roll_0 12 rfl rfl)
theorem dX8_roll_13 : decode cX8_roll 13 = .ok (.invokestatic 88, 3) := dk_184 0 88 (dk_at dksX8_roll_0 13 rfl rfl)
theorem dX8_roll_16 : decode cX8_roll 16 = .ok (.istore_n 2, 1) := dk_61 (dk_at dksX8_roll_0 16 rfl rfl)
theorem dX8_roll_17 : decode cX8_roll 17 = .ok (.iinc 3 1, 3) := dk_132 3 1 (dk_at dksX8_roll_0 17 rfl rfl)
theorem dX8_roll_20 : decode cX8_roll 20 = .ok (.goto (-13), 3) := dk_167 255 243 (dk_at dksX8_roll_0 20 rfl rfl)
theorem dX8_roll_23 : decode cX8_roll 23 = .ok (.aload_n 0, 1) := dk_42 (dk_at dksX8_roll_0 23 rfl rfl)
theorem dX8_roll_24 : decode cX8_roll 24 = .ok (.iload_n 2, 1) := dk_28 (dk_at dksX8_roll_1 0 rfl rfl)
theorem dX8_roll_25 : decode cX8_roll 25 = .ok (.invokevirtual 84, 3) := dk_182 0 84 (dk_at dksX8_roll_1 1 rfl rfl)
theorem dX8_roll_28 : decode cX8_roll 28 = .ok (.pop, 1) := dk_87 (dk_at dksX8_roll_1 4 rfl rfl)
theorem dX8_roll_29 : decode cX8_roll 29 = .ok (.return_, 1) := dk_177 (dk_at dksX8_roll_1 5 rfl rfl)
abbrev cX8_shareOf : ByteArray := prog_4_method_5_code
def yX8_shareOf : MethodName := ⟨RX8, "shareOf", "(I)I"⟩
def dkwX8_shareOf_1 : List UInt8 := [167, 0, 19, 42, 180, 0, 18, 27, 50, 42, 42, 180, 0, 22, 27, 46, 182, 0, 74, 172]
abbrev dktX8_shareOf_1 : List UInt8 := dkwX8_shareOf_1 ++ []
def dkwX8_shareOf_0 : List UInt8 := [42, 182, 0, 67, 153, 0, 21, 42, 180, 0, 18, 27, 50, 42, 180, 0, 22, 27, 46, 182, 0, 71]
abbrev dktX8_shareOf_0 : List UInt8 := dkwX8_shareOf_0 ++ dktX8_shareOf_1
theorem dksX8_shareOf_0 : cX8_shareOf.data.toList.drop 0 = dktX8_shareOf_0 := by decide +kernel
theorem dksX8_shareOf_1 : cX8_shareOf.data.toList.drop 22 = dktX8_shareOf_1 := dk_seg dksX8_shareOf_0 22 rfl rfl
theorem dX8_shareOf_0 : decode cX8_shareOf 0 = .ok (.aload_n 0, 1) := dk_42 (dk_at dksX8_shareOf_0 0 rfl rfl)
theorem dX8_shareOf_1 : decode cX8_shareOf 1 = .ok (.invokevirtual 67, 3) := dk_182 0 67 (dk_at dksX8_shareOf_0 1 rfl rfl)
theorem dX8_shareOf_4 : decode cX8_shareOf 4 = .ok (.ifCond .eq 21, 3) := dk_153 0 21 (dk_at dksX8_shareOf_0 4 rfl rfl)
theorem dX8_shareOf_7 : decode cX8_shareOf 7 = .ok (.aload_n 0, 1) := dk_42 (dk_at dksX8_shareOf_0 7 rfl rfl)
theorem dX8_shareOf_8 : decode cX8_shareOf 8 = .ok (.getfield 18, 3) := dk_180 0 18 (dk_at dksX8_shareOf_0 8 rfl rfl)
theorem dX8_shareOf_11 : decode cX8_shareOf 11 = .ok (.iload_n 1, 1) := dk_27 (dk_at dksX8_shareOf_0 11 rfl rfl)
theorem dX8_shareOf_12 : decode cX8_shareOf 12 = .ok (.aaload, 1) := dk_50 (dk_at dksX8_shareOf_0 12 rfl rfl)
theorem dX8_shareOf_13 : decode cX8_shareOf 13 = .ok (.aload_n 0, 1) := dk_42 (dk_at dksX8_shareOf_0 13 rfl rfl)
theorem dX8_shareOf_14 : decode cX8_shareOf 14 = .ok (.getfield 22, 3) := dk_180 0 22 (dk_at dksX8_shareOf_0 14 rfl rfl)
theorem dX8_shareOf_17 : decode cX8_shareOf 17 = .ok (.iload_n 1, 1) := dk_27 (dk_at dksX8_shareOf_0 17 rfl rfl)
theorem dX8_shareOf_18 : decode cX8_shareOf 18 = .ok (.iaload, 1) := dk_46 (dk_at dksX8_shareOf_0 18 rfl rfl)
theorem dX8_shareOf_19 : decode cX8_shareOf 19 = .ok (.invokevirtual 71, 3) := dk_182 0 71 (dk_at dksX8_shareOf_0 19 rfl rfl)
theorem dX8_shareOf_22 : decode cX8_shareOf 22 = .ok (.goto 19, 3) := dk_167 0 19 (dk_at dksX8_shareOf_1 0 rfl rfl)
theorem dX8_shareOf_25 : decode cX8_shareOf 25 = .ok (.aload_n 0, 1) := dk_42 (dk_at dksX8_shareOf_1 3 rfl rfl)
theorem dX8_shareOf_26 : decode cX8_shareOf 26 = .ok (.getfield 18, 3) := dk_180 0 18 (dk_at dksX8_shareOf_1 4 rfl rfl)
theorem dX8_shareOf_29 : decode cX8_shareOf 29 = .ok (.iload_n 1, 1) := dk_27 (dk_at dksX8_shareOf_1 7 rfl rfl)
theorem dX8_shareOf_30 : decode cX8_shareOf 30 = .ok (.aaload, 1) := dk_50 (dk_at dksX8_shareOf_1 8 rfl rfl)
theorem dX8_shareOf_31 : decode cX8_shareOf 31 = .ok (.aload_n 0, 1) := dk_42 (dk_at dksX8_shareOf_1 9 rfl rfl)
theorem dX8_shareOf_32 : decode cX8_shareOf 32 = .ok (.aload_n 0, 1) := dk_42 (dk_at dksX8_shareOf_1 10 rfl rfl)
theorem dX8_shareOf_33 : decode cX8_shareOf 33 = .ok (.getfield 22, 3) := dk_180 0 22 (dk_at dksX8_shareOf_1 11 rfl rfl)
theorem dX8_shareOf_36 : decode cX8_shareOf 36 = .ok (.iload_n 1, 1) := dk_27 (dk_at dksX8_shareOf_1 14 rfl rfl)
theorem dX8_shareOf_37 : decode cX8_shareOf 37 = .ok (.iaload, 1) := dk_46 (dk_at dksX8_shareOf_1 15 rfl rfl)
theorem dX8_shareOf_38 : decode cX8_shareOf 38 = .ok (.invokevirtual 74, 3) := dk_182 0 74 (dk_at dksX8_shareOf_1 16 rfl rfl)
theorem dX8_shareOf_41 : decode cX8_shareOf 41 = .ok (.ireturn, 1) := dk_172 (dk_at dksX8_shareOf_1 19 rfl rfl)
abbrev cX8_isInChancery : ByteArray := prog_4_method_4_code
def yX8_isInChancery : MethodName := ⟨RX8, "isInChancery", "()Z"⟩
def dkwX8_isInChancery_0 : List UInt8 := [42, 180, 0, 26, 154, 0, 7, 4, 167, 0, 4, 3, 172]
abbrev dktX8_isInChancery_0 : List UInt8 := dkwX8_isInChancery_0 ++ []
theorem dksX8_isInChancery_0 : cX8_isInChancery.data.toList.drop 0 = dktX8_isInChancery_0 := by decide +kernel
theorem dX8_isInChancery_0 : decode cX8_isInChancery 0 = .ok (.aload_n 0, 1) := dk_42 (dk_at dksX8_isInChancery_0 0 rfl rfl)
theorem dX8_isInChancery_1 : decode cX8_isInChancery 1 = .ok (.getfield 26, 3) := dk_180 0 26 (dk_at dksX8_isInChancery_0 1 rfl rfl)
theorem dX8_isInChancery_4 : decode cX8_isInChancery 4 = .ok (.ifCond .ne 7, 3) := dk_154 0 7 (dk_at dksX8_isInChancery_0 4 rfl rfl)
theorem dX8_isInChancery_7 : decode cX8_isInChancery 7 = .ok (.iconst 1, 1) := dk_4 (dk_at dksX8_isInChancery_0 7 rfl rfl)
theorem dX8_isInChancery_8 : decode cX8_isInChancery 8 = .ok (.goto 4, 3) := dk_167 0 4 (dk_at dksX8_isInChancery_0 8 rfl rfl)
theorem dX8_isInChancery_11 : decode cX8_isInChancery 11 = .ok (.iconst 0, 1) := dk_3 (dk_at dksX8_isInChancery_0 11 rfl rfl)
theorem dX8_isInChancery_12 : decode cX8_isInChancery 12 = .ok (.ireturn, 1) := dk_172 (dk_at dksX8_isInChancery_0 12 rfl rfl)
abbrev cX8_allShares : ByteArray := prog_4_method_6_code
def yX8_allShares : MethodName := ⟨RX8, "allShares", "()I"⟩
def dkwX8_allShares_1 : List UInt8 := [167, 255, 237, 27, 172]
abbrev dktX8_allShares_1 : List UInt8 := dkwX8_allShares_1 ++ []
def dkwX8_allShares_0 : List UInt8 := [3, 60, 3, 61, 28, 42, 180, 0, 35, 162, 0, 17, 27, 42, 28, 182, 0, 78, 96, 60, 132, 2, 1]
abbrev dktX8_allShares_0 : List UInt8 := dkwX8_allShares_0 ++ dktX8_allShares_1
theorem dksX8_allShares_0 : cX8_allShares.data.toList.drop 0 = dktX8_allShares_0 := by decide +kernel
theorem dksX8_allShares_1 : cX8_allShares.data.toList.drop 23 = dktX8_allShares_1 := dk_seg dksX8_allShares_0 23 rfl rfl
theorem dX8_allShares_0 : decode cX8_allShares 0 = .ok (.iconst 0, 1) := dk_3 (dk_at dksX8_allShares_0 0 rfl rfl)
theorem dX8_allShares_1 : decode cX8_allShares 1 = .ok (.istore_n 1, 1) := dk_60 (dk_at dksX8_allShares_0 1 rfl rfl)
theorem dX8_allShares_2 : decode cX8_allShares 2 = .ok (.iconst 0, 1) := dk_3 (dk_at dksX8_allShares_0 2 rfl rfl)
theorem dX8_allShares_3 : decode cX8_allShares 3 = .ok (.istore_n 2, 1) := dk_61 (dk_at dksX8_allShares_0 3 rfl rfl)
theorem dX8_allShares_4 : decode cX8_allShares 4 = .ok (.iload_n 2, 1) := dk_28 (dk_at dksX8_allShares_0 4 rfl rfl)
theorem dX8_allShares_5 : decode cX8_allShares 5 = .ok (.aload_n 0, 1) := dk_42 (dk_at dksX8_allShares_0 5 rfl rfl)
theorem dX8_allShares_6 : decode cX8_allShares 6 = .ok (.getfield 35, 3) := dk_180 0 35 (dk_at dksX8_allShares_0 6 rfl rfl)
theorem dX8_allShares_9 : decode cX8_allShares 9 = .ok (.if_icmp .ge 17, 3) := dk_162 0 17 (dk_at dksX8_allShares_0 9 rfl rfl)
theorem dX8_allShares_12 : decode cX8_allShares 12 = .ok (.iload_n 1, 1) := dk_27 (dk_at dksX8_allShares_0 12 rfl rfl)
theorem dX8_allShares_13 : decode cX8_allShares 13 = .ok (.aload_n 0, 1) := dk_42 (dk_at dksX8_allShares_0 13 rfl rfl)
theorem dX8_allShares_14 : decode cX8_allShares 14 = .ok (.iload_n 2, 1) := dk_28 (dk_at dksX8_allShares_0 14 rfl rfl)
theorem dX8_allShares_15 : decode cX8_allShares 15 = .ok (.invokevirtual 78, 3) := dk_182 0 78 (dk_at dksX8_allShares_0 15 rfl rfl)
theorem dX8_allShares_18 : decode cX8_allShares 18 = .ok (.iadd, 1) := dk_96 (dk_at dksX8_allShares_0 18 rfl rfl)
theorem dX8_allShares_19 : decode cX8_allShares 19 = .ok (.istore_n 1, 1) := dk_60 (dk_at dksX8_allShares_0 19 rfl rfl)
theorem dX8_allShares_20 : decode cX8_allShares 20 = .ok (.iinc 2 1, 3) := dk_132 2 1 (dk_at dksX8_allShares_0 20 rfl rfl)
theorem dX8_allShares_23 : decode cX8_allShares 23 = .ok (.goto (-19), 3) := dk_167 255 237 (dk_at dksX8_allShares_1 0 rfl rfl)
theorem dX8_allShares_26 : decode cX8_allShares 26 = .ok (.iload_n 1, 1) := dk_27 (dk_at dksX8_allShares_1 3 rfl rfl)
theorem dX8_allShares_27 : decode cX8_allShares 27 = .ok (.ireturn, 1) := dk_172 (dk_at dksX8_allShares_1 4 rfl rfl)
theorem q110 : (Jvm.Cond.initialized "CoresAreWills$Core") ∈ lw_all := lw_g (lw_at lw_m1 9 rfl) rfl
theorem q183 : (Jvm.Cond.instantiable "CoresAreWills$Core" (8 : Nat)) ∈ lw_all := lw_g (lw_at lw_m1 82 rfl) rfl
theorem q185 : (Jvm.Cond.instanceMethod ({ cls := "CoresAreWills$Core", name := "<init>", desc := "()V" } : Jvm.MethodName)) ∈ lw_all := lw_g (lw_at lw_m1 84 rfl) rfl
theorem q186 : (Jvm.Cond.code ({ cls := "CoresAreWills$Core", name := "<init>", desc := "()V" } : Jvm.MethodName) prog_4_method_1_code (1 : Nat) (Option.none : Option Jvm.ClassFile.FieldType)) ∈ lw_all := lw_g (lw_at lw_m1 85 rfl) rfl
theorem q187 : (Jvm.Cond.methodLink "CoresAreWills$Core" (3 : Nat) ({ cls := "java/lang/Object", name := "<init>", desc := "()V" } : Jvm.MethodName)) ∈ lw_all := lw_g (lw_at lw_m1 86 rfl) rfl
theorem q188 : (Jvm.Cond.constant "CoresAreWills$Core" (9 : Nat) (33554431 : Int32)) ∈ lw_all := lw_g (lw_at lw_m1 87 rfl) rfl
theorem q189 : (Jvm.Cond.classLink "CoresAreWills$Core" (16 : Nat) "CoresAreWills$Kind") ∈ lw_all := lw_g (lw_at lw_m1 88 rfl) rfl
theorem q190 : (Jvm.Cond.fieldLink "CoresAreWills$Core" (10 : Nat) "CoresAreWills$Core" "left" "I") ∈ lw_all := lw_g (lw_at lw_m1 89 rfl) rfl
theorem q195 : (Jvm.Cond.fieldLink "CoresAreWills$Core" (35 : Nat) "CoresAreWills$Core" "heirs" "I") ∈ lw_all := lw_g (lw_at lw_m1 94 rfl) rfl
theorem q197 : (Jvm.Cond.fieldLink "CoresAreWills$Core" (18 : Nat) "CoresAreWills$Core" "kind" "[LCoresAreWills$Kind;") ∈ lw_all := lw_g (lw_at lw_m1 96 rfl) rfl
theorem q199 : (Jvm.Cond.fieldLink "CoresAreWills$Core" (22 : Nat) "CoresAreWills$Core" "figures" "[I") ∈ lw_all := lw_g (lw_at lw_m1 98 rfl) rfl
theorem q201 : (Jvm.Cond.fieldLink "CoresAreWills$Core" (38 : Nat) "CoresAreWills$Core" "bitten" "I") ∈ lw_all := lw_g (lw_at lw_m1 100 rfl) rfl
theorem q204 : (Jvm.Cond.fieldLink "CoresAreWills$Core" (26 : Nat) "CoresAreWills$Core" "deed" "I") ∈ lw_all := lw_g (lw_at lw_m1 103 rfl) rfl
theorem q209 : (Jvm.Cond.fieldLink "CoresAreWills$Core" (29 : Nat) "CoresAreWills$Core" "pieceMany" "I") ∈ lw_all := lw_g (lw_at lw_m1 108 rfl) rfl
theorem q212 : (Jvm.Cond.fieldLink "CoresAreWills$Core" (32 : Nat) "CoresAreWills$Core" "leastPiece" "I") ∈ lw_all := lw_g (lw_at lw_m1 111 rfl) rfl
theorem q214 : (Jvm.Cond.lays "CoresAreWills$Core" "CoresAreWills$Core" "left" "I") ∈ lw_all := lw_g (lw_at lw_m1 113 rfl) rfl
theorem q215 : (Jvm.Cond.soleField "CoresAreWills$Core" "left") ∈ lw_all := lw_g (lw_at lw_m1 114 rfl) rfl
theorem q216 : (Jvm.Cond.lays "CoresAreWills$Core" "CoresAreWills$Core" "heirs" "I") ∈ lw_all := lw_g (lw_at lw_m1 115 rfl) rfl
theorem q217 : (Jvm.Cond.soleField "CoresAreWills$Core" "heirs") ∈ lw_all := lw_g (lw_at lw_m1 116 rfl) rfl
theorem q218 : (Jvm.Cond.laysFinal "CoresAreWills$Core" "CoresAreWills$Core" "kind" "[LCoresAreWills$Kind;") ∈ lw_all := lw_g (lw_at lw_m1 117 rfl) rfl
theorem q219 : (Jvm.Cond.soleField "CoresAreWills$Core" "kind") ∈ lw_all := lw_g (lw_at lw_m1 118 rfl) rfl
theorem q220 : (Jvm.Cond.laysFinal "CoresAreWills$Core" "CoresAreWills$Core" "figures" "[I") ∈ lw_all := lw_g (lw_at lw_m1 119 rfl) rfl
theorem q221 : (Jvm.Cond.soleField "CoresAreWills$Core" "figures") ∈ lw_all := lw_g (lw_at lw_m1 120 rfl) rfl
theorem q222 : (Jvm.Cond.lays "CoresAreWills$Core" "CoresAreWills$Core" "bitten" "I") ∈ lw_all := lw_g (lw_at lw_m1 121 rfl) rfl
theorem q223 : (Jvm.Cond.soleField "CoresAreWills$Core" "bitten") ∈ lw_all := lw_g (lw_at lw_m1 122 rfl) rfl
theorem q224 : (Jvm.Cond.lays "CoresAreWills$Core" "CoresAreWills$Core" "deed" "I") ∈ lw_all := lw_g (lw_at lw_m1 123 rfl) rfl
theorem q225 : (Jvm.Cond.soleField "CoresAreWills$Core" "deed") ∈ lw_all := lw_g (lw_at lw_m1 124 rfl) rfl
theorem q226 : (Jvm.Cond.lays "CoresAreWills$Core" "CoresAreWills$Core" "pieceMany" "I") ∈ lw_all := lw_g (lw_at lw_m1 125 rfl) rfl
theorem q227 : (Jvm.Cond.soleField "CoresAreWills$Core" "pieceMany") ∈ lw_all := lw_g (lw_at lw_m1 126 rfl) rfl
theorem q228 : (Jvm.Cond.lays "CoresAreWills$Core" "CoresAreWills$Core" "leastPiece" "I") ∈ lw_all := lw_g (lw_at lw_m1 127 rfl) rfl
theorem q229 : (Jvm.Cond.soleField "CoresAreWills$Core" "leastPiece") ∈ lw_all := lw_g (lw_at lw_m1 128 rfl) rfl
theorem q230 : (Jvm.Cond.superclass "CoresAreWills$Core" "java/lang/Object") ∈ lw_all := lw_g (lw_at lw_m1 129 rfl) rfl
theorem q535 : (Jvm.Cond.instanceMethod ({ cls := "CoresAreWills$Core", name := "set", desc := "(LCoresAreWills$Core;)LCoresAreWills$Core;" } : Jvm.MethodName)) ∈ lw_all := lw_g (lw_at lw_m2 194 rfl) rfl
theorem q536 : (Jvm.Cond.selects "CoresAreWills$Core" ({ cls := "CoresAreWills$Core", name := "set", desc := "(LCoresAreWills$Core;)LCoresAreWills$Core;" } : Jvm.MethodName) ({ cls := "CoresAreWills$Core", name := "set", desc := "(LCoresAreWills$Core;)LCoresAreWills$Core;" } : Jvm.MethodName)) ∈ lw_all := lw_g (lw_at lw_m2 195 rfl) rfl
theorem q537 : (Jvm.Cond.code ({ cls := "CoresAreWills$Core", name := "set", desc := "(LCoresAreWills$Core;)LCoresAreWills$Core;" } : Jvm.MethodName) prog_4_method_2_code (2 : Nat) (Option.some (Jvm.ClassFile.FieldType.object "CoresAreWills$Core"))) ∈ lw_all := lw_g (lw_at lw_m2 196 rfl) rfl
theorem q538 : (Jvm.Cond.methodLink "CoresAreWills$Core" (41 : Nat) ({ cls := "java/lang/System", name := "arraycopy", desc := "(Ljava/lang/Object;ILjava/lang/Object;II)V" } : Jvm.MethodName)) ∈ lw_all := lw_g (lw_at lw_m2 197 rfl) rfl
theorem q560 : (Jvm.Cond.instanceMethod ({ cls := "CoresAreWills$Core", name := "canBite", desc := "(II)Z" } : Jvm.MethodName)) ∈ lw_all := lw_g (lw_at lw_m2 219 rfl) rfl
theorem q561 : (Jvm.Cond.selects "CoresAreWills$Core" ({ cls := "CoresAreWills$Core", name := "canBite", desc := "(II)Z" } : Jvm.MethodName) ({ cls := "CoresAreWills$Core", name := "canBite", desc := "(II)Z" } : Jvm.MethodName)) ∈ lw_all := lw_g (lw_at lw_m2 220 rfl) rfl
theorem q562 : (Jvm.Cond.code ({ cls := "CoresAreWills$Core", name := "canBite", desc := "(II)Z" } : Jvm.MethodName) prog_4_method_7_code (4 : Nat) (Option.some Jvm.ClassFile.FieldType.boolean)) ∈ lw_all := lw_g (lw_at lw_m2 221 rfl) rfl
theorem q563 : (Jvm.Cond.methodLinkNest "CoresAreWills$Core" (81 : Nat) ({ cls := "CoresAreWills", name := "cellsOf", desc := "(II)I" } : Jvm.MethodName) "CoresAreWills") ∈ lw_tbl := lw_at lw_m2 222 rfl
theorem q585 : (Jvm.Cond.instanceMethod ({ cls := "CoresAreWills$Core", name := "leave", desc := "(I)LCoresAreWills$Core;" } : Jvm.MethodName)) ∈ lw_all := lw_g (lw_at lw_m3 4 rfl) rfl
theorem q586 : (Jvm.Cond.selects "CoresAreWills$Core" ({ cls := "CoresAreWills$Core", name := "leave", desc := "(I)LCoresAreWills$Core;" } : Jvm.MethodName) ({ cls := "CoresAreWills$Core", name := "leave", desc := "(I)LCoresAreWills$Core;" } : Jvm.MethodName)) ∈ lw_all := lw_g (lw_at lw_m3 5 rfl) rfl
theorem q587 : (Jvm.Cond.code ({ cls := "CoresAreWills$Core", name := "leave", desc := "(I)LCoresAreWills$Core;" } : Jvm.MethodName) prog_4_method_3_code (7 : Nat) (Option.some (Jvm.ClassFile.FieldType.object "CoresAreWills$Core"))) ∈ lw_all := lw_g (lw_at lw_m3 6 rfl) rfl
theorem q588 : (Jvm.Cond.methodLinkNest "CoresAreWills$Core" (47 : Nat) ({ cls := "CoresAreWills", name := "has", desc := "(II)Z" } : Jvm.MethodName) "CoresAreWills") ∈ lw_tbl := lw_at lw_m3 7 rfl
theorem q591 : (Jvm.Cond.methodLinkNest "CoresAreWills$Core" (51 : Nat) ({ cls := "CoresAreWills", name := "heapOf", desc := "(II)I" } : Jvm.MethodName) "CoresAreWills") ∈ lw_tbl := lw_at lw_m3 10 rfl
theorem q601 : (Jvm.Cond.methodLinkNest "CoresAreWills$Core" (55 : Nat) ({ cls := "CoresAreWills", name := "manyIn", desc := "(I)I" } : Jvm.MethodName) "CoresAreWills") ∈ lw_tbl := lw_at lw_m3 20 rfl
theorem q604 : (Jvm.Cond.methodLink "CoresAreWills$Core" (59 : Nat) ({ cls := "java/lang/Math", name := "min", desc := "(II)I" } : Jvm.MethodName)) ∈ lw_all := lw_g (lw_at lw_m3 23 rfl) rfl
theorem q607 : (Jvm.Cond.methodLink "CoresAreWills$Core" (64 : Nat) ({ cls := "java/lang/Math", name := "max", desc := "(II)I" } : Jvm.MethodName)) ∈ lw_all := lw_g (lw_at lw_m3 26 rfl) rfl
theorem q614 : (Jvm.Cond.instanceMethod ({ cls := "CoresAreWills$Core", name := "bite", desc := "(II)V" } : Jvm.MethodName)) ∈ lw_all := lw_g (lw_at lw_m3 33 rfl) rfl
theorem q615 : (Jvm.Cond.selects "CoresAreWills$Core" ({ cls := "CoresAreWills$Core", name := "bite", desc := "(II)V" } : Jvm.MethodName) ({ cls := "CoresAreWills$Core", name := "bite", desc := "(II)V" } : Jvm.MethodName)) ∈ lw_all := lw_g (lw_at lw_m3 34 rfl) rfl
theorem q616 : (Jvm.Cond.code ({ cls := "CoresAreWills$Core", name := "bite", desc := "(II)V" } : Jvm.MethodName) prog_4_method_8_code (3 : Nat) (Option.none : Option Jvm.ClassFile.FieldType)) ∈ lw_all := lw_g (lw_at lw_m3 35 rfl) rfl
theorem q617 : (Jvm.Cond.methodLink "CoresAreWills$Core" (84 : Nat) ({ cls := "CoresAreWills$Core", name := "leave", desc := "(I)LCoresAreWills$Core;" } : Jvm.MethodName)) ∈ lw_all := lw_g (lw_at lw_m3 36 rfl) rfl
theorem q626 : (Jvm.Cond.instanceMethod ({ cls := "CoresAreWills$Core", name := "comes", desc := "(LCoresAreWills$Kind;I)V" } : Jvm.MethodName)) ∈ lw_all := lw_g (lw_at lw_m3 45 rfl) rfl
theorem q627 : (Jvm.Cond.selects "CoresAreWills$Core" ({ cls := "CoresAreWills$Core", name := "comes", desc := "(LCoresAreWills$Kind;I)V" } : Jvm.MethodName) ({ cls := "CoresAreWills$Core", name := "comes", desc := "(LCoresAreWills$Kind;I)V" } : Jvm.MethodName)) ∈ lw_all := lw_g (lw_at lw_m3 46 rfl) rfl
theorem q628 : (Jvm.Cond.code ({ cls := "CoresAreWills$Core", name := "comes", desc := "(LCoresAreWills$Kind;I)V" } : Jvm.MethodName) prog_4_method_10_code (3 : Nat) (Option.none : Option Jvm.ClassFile.FieldType)) ∈ lw_all := lw_g (lw_at lw_m3 47 rfl) rfl
theorem q633 : (Jvm.Cond.instanceMethod ({ cls := "CoresAreWills$Core", name := "roll", desc := "(I)V" } : Jvm.MethodName)) ∈ lw_all := lw_g (lw_at lw_m3 52 rfl) rfl
theorem q634 : (Jvm.Cond.selects "CoresAreWills$Core" ({ cls := "CoresAreWills$Core", name := "roll", desc := "(I)V" } : Jvm.MethodName) ({ cls := "CoresAreWills$Core", name := "roll", desc := "(I)V" } : Jvm.MethodName)) ∈ lw_all := lw_g (lw_at lw_m3 53 rfl) rfl
theorem q635 : (Jvm.Cond.code ({ cls := "CoresAreWills$Core", name := "roll", desc := "(I)V" } : Jvm.MethodName) prog_4_method_9_code (4 : Nat) (Option.none : Option Jvm.ClassFile.FieldType)) ∈ lw_all := lw_g (lw_at lw_m3 54 rfl) rfl
theorem q636 : (Jvm.Cond.methodLinkNest "CoresAreWills$Core" (88 : Nat) ({ cls := "CoresAreWills", name := "rolled", desc := "(I)I" } : Jvm.MethodName) "CoresAreWills") ∈ lw_tbl := lw_at lw_m3 55 rfl
theorem q685 : (Jvm.Cond.instanceMethod ({ cls := "CoresAreWills$Core", name := "shareOf", desc := "(I)I" } : Jvm.MethodName)) ∈ lw_all := lw_g (lw_at lw_m3 104 rfl) rfl
theorem q686 : (Jvm.Cond.selects "CoresAreWills$Core" ({ cls := "CoresAreWills$Core", name := "shareOf", desc := "(I)I" } : Jvm.MethodName) ({ cls := "CoresAreWills$Core", name := "shareOf", desc := "(I)I" } : Jvm.MethodName)) ∈ lw_all := lw_g (lw_at lw_m3 105 rfl) rfl
theorem q687 : (Jvm.Cond.code ({ cls := "CoresAreWills$Core", name := "shareOf", desc := "(I)I" } : Jvm.MethodName) prog_4_method_5_code (2 : Nat) (Option.some Jvm.ClassFile.FieldType.int)) ∈ lw_all := lw_g (lw_at lw_m3 106 rfl) rfl
theorem q688 : (Jvm.Cond.methodLink "CoresAreWills$Core" (67 : Nat) ({ cls := "CoresAreWills$Core", name := "isInChancery", desc := "()Z" } : Jvm.MethodName)) ∈ lw_all := lw_g (lw_at lw_m3 107 rfl) rfl
theorem q689 : (Jvm.Cond.instanceMethod ({ cls := "CoresAreWills$Core", name := "isInChancery", desc := "()Z" } : Jvm.MethodName)) ∈ lw_all := lw_g (lw_at lw_m3 108 rfl) rfl
theorem q690 : (Jvm.Cond.selects "CoresAreWills$Core" ({ cls := "CoresAreWills$Core", name := "isInChancery", desc := "()Z" } : Jvm.MethodName) ({ cls := "CoresAreWills$Core", name := "isInChancery", desc := "()Z" } : Jvm.MethodName)) ∈ lw_all := lw_g (lw_at lw_m3 109 rfl) rfl
theorem q691 : (Jvm.Cond.code ({ cls := "CoresAreWills$Core", name := "isInChancery", desc := "()Z" } : Jvm.MethodName) prog_4_method_4_code (1 : Nat) (Option.some Jvm.ClassFile.FieldType.boolean)) ∈ lw_all := lw_g (lw_at lw_m3 110 rfl) rfl
theorem q692 : (Jvm.Cond.methodLink "CoresAreWills$Core" (71 : Nat) ({ cls := "CoresAreWills$Kind", name := "inChancery", desc := "(I)I" } : Jvm.MethodName)) ∈ lw_all := lw_g (lw_at lw_m3 111 rfl) rfl
theorem q707 : (Jvm.Cond.methodLink "CoresAreWills$Core" (74 : Nat) ({ cls := "CoresAreWills$Kind", name := "share", desc := "(LCoresAreWills$Core;I)I" } : Jvm.MethodName)) ∈ lw_all := lw_g (lw_at lw_m3 126 rfl) rfl
theorem q777 : (Jvm.Cond.instanceMethod ({ cls := "CoresAreWills$Core", name := "allShares", desc := "()I" } : Jvm.MethodName)) ∈ lw_all := lw_g (lw_at lw_m3 196 rfl) rfl
theorem q778 : (Jvm.Cond.selects "CoresAreWills$Core" ({ cls := "CoresAreWills$Core", name := "allShares", desc := "()I" } : Jvm.MethodName) ({ cls := "CoresAreWills$Core", name := "allShares", desc := "()I" } : Jvm.MethodName)) ∈ lw_all := lw_g (lw_at lw_m3 197 rfl) rfl
theorem q779 : (Jvm.Cond.code ({ cls := "CoresAreWills$Core", name := "allShares", desc := "()I" } : Jvm.MethodName) prog_4_method_6_code (3 : Nat) (Option.some Jvm.ClassFile.FieldType.int)) ∈ lw_all := lw_g (lw_at lw_m3 198 rfl) rfl
theorem q780 : (Jvm.Cond.methodLink "CoresAreWills$Core" (78 : Nat) ({ cls := "CoresAreWills$Core", name := "shareOf", desc := "(I)I" } : Jvm.MethodName)) ∈ lw_all := lw_g (lw_at lw_m3 199 rfl) rfl
theorem in_X8 : ∀ w ∈ wsX80, w ∈ lw_all := lw_in wsX80 [214, 216, 218, 220, 222, 224, 226, 228] (by decide +kernel) (by decide +kernel)

/-! CoresAreWills$Refusal -/
set_option maxRecDepth 100000
def RX10 : String := "CoresAreWills$Refusal"
abbrev cX10_init : ByteArray := prog_15_method_1_code
def yX10_init : MethodName := ⟨RX10, "<init>", "()V"⟩
theorem dX10_init_0 : decode cX10_init 0 = .ok (.aload_n 0, 1) := by decide +kernel
theorem dX10_init_1 : decode cX10_init 1 = .ok (.invokespecial 1, 3) := by decide +kernel
theorem dX10_init_4 : decode cX10_init 4 = .ok (.return_, 1) := by decide +kernel
theorem q115 : (Jvm.Cond.initialized "CoresAreWills$Refusal") ∈ lw_all := lw_g (lw_at lw_m1 14 rfl) rfl
theorem q321 : (Jvm.Cond.declares ({ cls := "CoresAreWills$Refusal", name := "<init>", desc := "()V" } : Jvm.MethodName)) ∈ lw_tbl := lw_at lw_m1 220 rfl
theorem q363 : (Jvm.Cond.instanceMethod ({ cls := "CoresAreWills$Refusal", name := "<init>", desc := "()V" } : Jvm.MethodName)) ∈ lw_all := lw_g (lw_at lw_m2 22 rfl) rfl
theorem q364 : (Jvm.Cond.code ({ cls := "CoresAreWills$Refusal", name := "<init>", desc := "()V" } : Jvm.MethodName) prog_15_method_1_code (1 : Nat) (Option.none : Option Jvm.ClassFile.FieldType)) ∈ lw_all := lw_g (lw_at lw_m2 23 rfl) rfl
theorem q365 : (Jvm.Cond.methodLink "CoresAreWills$Refusal" (1 : Nat) ({ cls := "java/lang/RuntimeException", name := "<init>", desc := "()V" } : Jvm.MethodName)) ∈ lw_all := lw_g (lw_at lw_m2 24 rfl) rfl
theorem q988 : (Jvm.Cond.declares ({ cls := "CoresAreWills$Refusal", name := "number", desc := "()I" } : Jvm.MethodName)) ∈ lw_tbl := lw_at lw_m4 167 rfl
theorem q989 : (Jvm.Cond.sameMethod "CoresAreWills$Refusal" "CoresAreWills$Refusal" "number" "()I") ∈ lw_all := lw_g (lw_at lw_m4 168 rfl) rfl

/-! CoresAreWills$Refused -/
set_option maxRecDepth 100000
def RX11 : String := "CoresAreWills$Refused"
def TX11 : u_T := fun k => match k with
  | 0 => ("java/lang/Throwable", "cause", "Ljava/lang/Throwable;", false)
  | 1 => ("java/lang/Throwable", "stackTrace", "[Ljava/lang/StackTraceElement;", false)
  | 2 => ("java/lang/Throwable", "suppressedExceptions", "Ljava/util/List;", false)
  | 3 => ("java/lang/Throwable", "detailMessage", "Ljava/lang/String;", false)
  | 4 => ("java/lang/Throwable", "backtrace", "Ljava/lang/Object;", false)
  | 5 => ("java/lang/Throwable", "depth", "I", false)
  | _ => ("CoresAreWills$Refused", "number", "I", true)
def tyX11 : Nat → FieldType := fun k => match k with
  | 0 => .object "java/lang/Throwable"
  | 1 => .array (.object "java/lang/StackTraceElement")
  | 2 => .object "java/util/List"
  | 3 => .object "java/lang/String"
  | 4 => .object "java/lang/Object"
  | 5 => .int
  | _ => .int
abbrev wsX110 : List Cond := u_ws RX11 TX11 7
theorem nmX11 : ∀ a, a < 7 → ∀ b, b < 7 → a ≠ b → (TX11 a).2.1 ≠ (TX11 b).2.1 := by decide +kernel
theorem tyX11_ok : ∀ k, k < 7 → parseFieldDescriptor (TX11 k).2.2.1 = some (tyX11 k) := by decide +kernel
abbrev cX11_init : ByteArray := prog_16_method_1_code
def yX11_init : MethodName := ⟨RX11, "<init>", "(I)V"⟩
def dkwX11_init_0 : List UInt8 := [42, 183, 0, 1, 42, 27, 181, 0, 7, 177]
abbrev dktX11_init_0 : List UInt8 := dkwX11_init_0 ++ []
theorem dksX11_init_0 : cX11_init.data.toList.drop 0 = dktX11_init_0 := by decide +kernel
theorem dX11_init_0 : decode cX11_init 0 = .ok (.aload_n 0, 1) := dk_42 (dk_at dksX11_init_0 0 rfl rfl)
theorem dX11_init_1 : decode cX11_init 1 = .ok (.invokespecial 1, 3) := dk_183 0 1 (dk_at dksX11_init_0 1 rfl rfl)
theorem dX11_init_4 : decode cX11_init 4 = .ok (.aload_n 0, 1) := dk_42 (dk_at dksX11_init_0 4 rfl rfl)
theorem dX11_init_5 : decode cX11_init 5 = .ok (.iload_n 1, 1) := dk_27 (dk_at dksX11_init_0 5 rfl rfl)
theorem dX11_init_6 : decode cX11_init 6 = .ok (.putfield 7, 3) := dk_181 0 7 (dk_at dksX11_init_0 6 rfl rfl)
theorem dX11_init_9 : decode cX11_init 9 = .ok (.return_, 1) := dk_177 (dk_at dksX11_init_0 9 rfl rfl)
abbrev cX11_number : ByteArray := prog_16_method_2_code
def yX11_number : MethodName := ⟨RX11, "number", "()I"⟩
theorem dX11_number_0 : decode cX11_number 0 = .ok (.aload_n 0, 1) := by decide +kernel
theorem dX11_number_1 : decode cX11_number 1 = .ok (.getfield 7, 3) := by decide +kernel
theorem dX11_number_4 : decode cX11_number 4 = .ok (.ireturn, 1) := by decide +kernel
theorem q116 : (Jvm.Cond.initialized "CoresAreWills$Refused") ∈ lw_all := lw_g (lw_at lw_m1 15 rfl) rfl
theorem q319 : (Jvm.Cond.instantiable "CoresAreWills$Refused" (7 : Nat)) ∈ lw_all := lw_g (lw_at lw_m1 218 rfl) rfl
theorem q320 : (Jvm.Cond.castable "CoresAreWills$Refused" "CoresAreWills$Refused") ∈ lw_tbl := lw_at lw_m1 219 rfl
theorem q328 : (Jvm.Cond.selects "CoresAreWills$Refused" ({ cls := "java/lang/Throwable", name := "fillInStackTrace", desc := "(I)Ljava/lang/Throwable;" } : Jvm.MethodName) ({ cls := "java/lang/Throwable", name := "fillInStackTrace", desc := "(I)Ljava/lang/Throwable;" } : Jvm.MethodName)) ∈ lw_all := lw_g (lw_at lw_m1 227 rfl) rfl
theorem q329 : (Jvm.Cond.selects "CoresAreWills$Refused" ({ cls := "java/lang/Throwable", name := "fillInStackTrace", desc := "()Ljava/lang/Throwable;" } : Jvm.MethodName) ({ cls := "java/lang/Throwable", name := "fillInStackTrace", desc := "()Ljava/lang/Throwable;" } : Jvm.MethodName)) ∈ lw_all := lw_g (lw_at lw_m1 228 rfl) rfl
theorem q330 : (Jvm.Cond.lays "CoresAreWills$Refused" "java/lang/Throwable" "cause" "Ljava/lang/Throwable;") ∈ lw_all := lw_g (lw_at lw_m1 229 rfl) rfl
theorem q332 : (Jvm.Cond.lays "CoresAreWills$Refused" "java/lang/Throwable" "stackTrace" "[Ljava/lang/StackTraceElement;") ∈ lw_all := lw_g (lw_at lw_m1 231 rfl) rfl
theorem q334 : (Jvm.Cond.lays "CoresAreWills$Refused" "java/lang/Throwable" "suppressedExceptions" "Ljava/util/List;") ∈ lw_all := lw_g (lw_at lw_m1 233 rfl) rfl
theorem q336 : (Jvm.Cond.lays "CoresAreWills$Refused" "java/lang/Throwable" "detailMessage" "Ljava/lang/String;") ∈ lw_all := lw_g (lw_at lw_m1 235 rfl) rfl
theorem q338 : (Jvm.Cond.lays "CoresAreWills$Refused" "java/lang/Throwable" "backtrace" "Ljava/lang/Object;") ∈ lw_all := lw_g (lw_at lw_m1 237 rfl) rfl
theorem q360 : (Jvm.Cond.instanceMethod ({ cls := "CoresAreWills$Refused", name := "<init>", desc := "(I)V" } : Jvm.MethodName)) ∈ lw_all := lw_g (lw_at lw_m2 19 rfl) rfl
theorem q361 : (Jvm.Cond.code ({ cls := "CoresAreWills$Refused", name := "<init>", desc := "(I)V" } : Jvm.MethodName) prog_16_method_1_code (2 : Nat) (Option.none : Option Jvm.ClassFile.FieldType)) ∈ lw_all := lw_g (lw_at lw_m2 20 rfl) rfl
theorem q362 : (Jvm.Cond.methodLinkNest "CoresAreWills$Refused" (1 : Nat) ({ cls := "CoresAreWills$Refusal", name := "<init>", desc := "()V" } : Jvm.MethodName) "CoresAreWills") ∈ lw_tbl := lw_at lw_m2 21 rfl
theorem q372 : (Jvm.Cond.fieldLink "CoresAreWills$Refused" (7 : Nat) "CoresAreWills$Refused" "number" "I") ∈ lw_all := lw_g (lw_at lw_m2 31 rfl) rfl
theorem q377 : (Jvm.Cond.laysFinal "CoresAreWills$Refused" "CoresAreWills$Refused" "number" "I") ∈ lw_all := lw_g (lw_at lw_m2 36 rfl) rfl
theorem q378 : (Jvm.Cond.soleField "CoresAreWills$Refused" "number") ∈ lw_all := lw_g (lw_at lw_m2 37 rfl) rfl
theorem q383 : (Jvm.Cond.lays "CoresAreWills$Refused" "java/lang/Throwable" "depth" "I") ∈ lw_all := lw_g (lw_at lw_m2 42 rfl) rfl
theorem q386 : (Jvm.Cond.superclass "CoresAreWills$Refused" "CoresAreWills$Refusal") ∈ lw_all := lw_g (lw_at lw_m2 45 rfl) rfl
theorem q993 : (Jvm.Cond.selects "CoresAreWills$Refused" ({ cls := "CoresAreWills$Refusal", name := "number", desc := "()I" } : Jvm.MethodName) ({ cls := "CoresAreWills$Refused", name := "number", desc := "()I" } : Jvm.MethodName)) ∈ lw_all := lw_g (lw_at lw_m4 172 rfl) rfl
theorem q994 : (Jvm.Cond.instanceMethod ({ cls := "CoresAreWills$Refused", name := "number", desc := "()I" } : Jvm.MethodName)) ∈ lw_all := lw_g (lw_at lw_m4 173 rfl) rfl
theorem q995 : (Jvm.Cond.code ({ cls := "CoresAreWills$Refused", name := "number", desc := "()I" } : Jvm.MethodName) prog_16_method_2_code (1 : Nat) (Option.some Jvm.ClassFile.FieldType.int)) ∈ lw_all := lw_g (lw_at lw_m4 174 rfl) rfl
theorem q1587 : (Jvm.Cond.castable "CoresAreWills$Refused" "CoresAreWills$Refusal") ∈ lw_tbl := lw_at lw_m7 46 rfl
theorem in_X11 : ∀ w ∈ wsX110, w ∈ lw_all := lw_in wsX110 [330, 332, 334, 336, 338, 383, 377] (by decide +kernel) (by decide +kernel)

/-! CoresAreWills$Reader -/
set_option maxRecDepth 100000
def RX12 : String := "CoresAreWills$Reader"
def TX12 : u_T := fun k => match k with
  | 0 => ("CoresAreWills$Reader", "size", "I", true)
  | 1 => ("CoresAreWills$Reader", "at", "I", false)
  | _ => ("CoresAreWills$Reader", "this$0", "LCoresAreWills;", true)
def tyX12 : Nat → FieldType := fun k => match k with
  | 0 => .int
  | 1 => .int
  | _ => .object "CoresAreWills"
abbrev wsX120 : List Cond := u_ws RX12 TX12 3
theorem nmX12 : ∀ a, a < 3 → ∀ b, b < 3 → a ≠ b → (TX12 a).2.1 ≠ (TX12 b).2.1 := by decide +kernel
theorem tyX12_ok : ∀ k, k < 3 → parseFieldDescriptor (TX12 k).2.2.1 = some (tyX12 k) := by decide +kernel
abbrev cX12_init : ByteArray := prog_14_method_1_code
def yX12_init : MethodName := ⟨RX12, "<init>", "(LCoresAreWills;)V"⟩
def dkwX12_init_0 : List UInt8 := [42, 43, 181, 0, 1, 42, 183, 0, 7, 42, 42, 180, 0, 1, 180, 0, 13, 181, 0, 19, 177]
abbrev dktX12_init_0 : List UInt8 := dkwX12_init_0 ++ []
theorem dksX12_init_0 : cX12_init.data.toList.drop 0 = dktX12_init_0 := by decide +kernel
theorem dX12_init_0 : decode cX12_init 0 = .ok (.aload_n 0, 1) := dk_42 (dk_at dksX12_init_0 0 rfl rfl)
theorem dX12_init_1 : decode cX12_init 1 = .ok (.aload_n 1, 1) := dk_43 (dk_at dksX12_init_0 1 rfl rfl)
theorem dX12_init_2 : decode cX12_init 2 = .ok (.putfield 1, 3) := dk_181 0 1 (dk_at dksX12_init_0 2 rfl rfl)
theorem dX12_init_5 : decode cX12_init 5 = .ok (.aload_n 0, 1) := dk_42 (dk_at dksX12_init_0 5 rfl rfl)
theorem dX12_init_6 : decode cX12_init 6 = .ok (.invokespecial 7, 3) := dk_183 0 7 (dk_at dksX12_init_0 6 rfl rfl)
theorem dX12_init_9 : decode cX12_init 9 = .ok (.aload_n 0, 1) := dk_42 (dk_at dksX12_init_0 9 rfl rfl)
theorem dX12_init_10 : decode cX12_init 10 = .ok (.aload_n 0, 1) := dk_42 (dk_at dksX12_init_0 10 rfl rfl)
theorem dX12_init_11 : decode cX12_init 11 = .ok (.getfield 1, 3) := dk_180 0 1 (dk_at dksX12_init_0 11 rfl rfl)
theorem dX12_init_14 : decode cX12_init 14 = .ok (.getfield 13, 3) := dk_180 0 13 (dk_at dksX12_init_0 14 rfl rfl)
theorem dX12_init_17 : decode cX12_init 17 = .ok (.putfield 19, 3) := dk_181 0 19 (dk_at dksX12_init_0 17 rfl rfl)
theorem dX12_init_20 : decode cX12_init 20 = .ok (.return_, 1) := dk_177 (dk_at dksX12_init_0 20 rfl rfl)
abbrev cX12_statement : ByteArray := prog_14_method_7_code
def yX12_statement : MethodName := ⟨RX12, "statement", "()LCoresAreWills$Told;"⟩
def dkwX12_statement_4 : List UInt8 := [182, 0, 60, 78, 42, 16, 59, 182, 0, 64, 45, 176]
abbrev dktX12_statement_4 : List UInt8 := dkwX12_statement_4 ++ []
def dkwX12_statement_3 : List UInt8 := [183, 0, 55, 167, 0, 23, 28, 16, 104, 160, 0, 11, 42, 27, 182, 0, 56, 167, 0, 9, 42, 28, 27]
abbrev dktX12_statement_3 : List UInt8 := dkwX12_statement_3 ++ dktX12_statement_4
def dkwX12_statement_2 : List UInt8 := [182, 0, 38, 42, 89, 180, 0, 22, 4, 96, 181, 0, 22, 28, 16, 110, 160, 0, 14, 187, 0, 53, 89, 27]
abbrev dktX12_statement_2 : List UInt8 := dkwX12_statement_2 ++ dktX12_statement_3
def dkwX12_statement_1 : List UInt8 := [16, 108, 159, 0, 15, 28, 16, 114, 159, 0, 9, 28, 16, 110, 160, 0, 7, 4, 167, 0, 4, 3]
abbrev dktX12_statement_1 : List UInt8 := dkwX12_statement_1 ++ dktX12_statement_2
def dkwX12_statement_0 : List UInt8 := [42, 180, 0, 22, 60, 42, 182, 0, 34, 61, 42, 28, 16, 104, 159, 0, 27, 28, 16, 98, 159, 0, 21, 28]
abbrev dktX12_statement_0 : List UInt8 := dkwX12_statement_0 ++ dktX12_statement_1
theorem dksX12_statement_0 : cX12_statement.data.toList.drop 0 = dktX12_statement_0 := by decide +kernel
theorem dksX12_statement_1 : cX12_statement.data.toList.drop 24 = dktX12_statement_1 := dk_seg dksX12_statement_0 24 rfl rfl
theorem dksX12_statement_2 : cX12_statement.data.toList.drop 46 = dktX12_statement_2 := dk_seg dksX12_statement_1 22 rfl rfl
theorem dksX12_statement_3 : cX12_statement.data.toList.drop 70 = dktX12_statement_3 := dk_seg dksX12_statement_2 24 rfl rfl
theorem dksX12_statement_4 : cX12_statement.data.toList.drop 93 = dktX12_statement_4 := dk_seg dksX12_statement_3 23 rfl rfl
theorem dX12_statement_0 : decode cX12_statement 0 = .ok (.aload_n 0, 1) := dk_42 (dk_at dksX12_statement_0 0 rfl rfl)
theorem dX12_statement_1 : decode cX12_statement 1 = .ok (.getfield 22, 3) := dk_180 0 22 (dk_at dksX12_statement_0 1 rfl rfl)
theorem dX12_statement_4 : decode cX12_statement 4 = .ok (.istore_n 1, 1) := dk_60 (dk_at dksX12_statement_0 4 rfl rfl)
theorem dX12_statement_5 : decode cX12_statement 5 = .ok (.aload_n 0, 1) := dk_42 (dk_at dksX12_statement_0 5 rfl rfl)
theorem dX12_statement_6 : decode cX12_statement 6 = .ok (.invokevirtual 34, 3) := dk_182 0 34 (dk_at dksX12_statement_0 6 rfl rfl)
theorem dX12_statement_9 : decode cX12_statement 9 = .ok (.istore_n 2, 1) := dk_61 (dk_at dksX12_statement_0 9 rfl rfl)
theorem dX12_statement_10 : decode cX12_statement 10 = .ok (.aload_n 0, 1) := dk_42 (dk_at dksX12_statement_0 10 rfl rfl)
theorem dX12_statement_11 : decode cX12_statement 11 = .ok (.iload_n 2, 1) := dk_28 (dk_at dksX12_statement_0 11 rfl rfl)
theorem dX12_statement_12 : decode cX12_statement 12 = .ok (.bipush 104, 2) := dk_16 104 (dk_at dksX12_statement_0 12 rfl rfl)
theorem dX12_statement_14 : decode cX12_statement 14 = .ok (.if_icmp .eq 27, 3) := dk_159 0 27 (dk_at dksX12_statement_0 14 rfl rfl)
theorem dX12_statement_17 : decode cX12_statement 17 = .ok (.iload_n 2, 1) := dk_28 (dk_at dksX12_statement_0 17 rfl rfl)
theorem dX12_statement_18 : decode cX12_statement 18 = .ok (.bipush 98, 2) := dk_16 98 (dk_at dksX12_statement_0 18 rfl rfl)
theorem dX12_statement_20 : decode cX12_statement 20 = .ok (.if_icmp .eq 21, 3) := dk_159 0 21 (dk_at dksX12_statement_0 20 rfl rfl)
theorem dX12_statement_23 : decode cX12_statement 23 = .ok (.iload_n 2, 1) := dk_28 (dk_at dksX12_statement_0 23 rfl rfl)
theorem dX12_statement_24 : decode cX12_statement 24 = .ok (.bipush 108, 2) := dk_16 108 (dk_at dksX12_statement_1 0 rfl rfl)
theorem dX12_statement_26 : decode cX12_statement 26 = .ok (.if_icmp .eq 15, 3) := dk_159 0 15 (dk_at dksX12_statement_1 2 rfl rfl)
theorem dX12_statement_29 : decode cX12_statement 29 = .ok (.iload_n 2, 1) := dk_28 (dk_at dksX12_statement_1 5 rfl rfl)
theorem dX12_statement_30 : decode cX12_statement 30 = .ok (.bipush 114, 2) := dk_16 114 (dk_at dksX12_statement_1 6 rfl rfl)
theorem dX12_statement_32 : decode cX12_statement 32 = .ok (.if_icmp .eq 9, 3) := dk_159 0 9 (dk_at dksX12_statement_1 8 rfl rfl)
theorem dX12_statement_35 : decode cX12_statement 35 = .ok (.iload_n 2, 1) := dk_28 (dk_at dksX12_statement_1 11 rfl rfl)
theorem dX12_statement_36 : decode cX12_statement 36 = .ok (.bipush 110, 2) := dk_16 110 (dk_at dksX12_statement_1 12 rfl rfl)
theorem dX12_statement_38 : decode cX12_statement 38 = .ok (.if_icmp .ne 7, 3) := dk_160 0 7 (dk_at dksX12_statement_1 14 rfl rfl)
theorem dX12_statement_41 : decode cX12_statement 41 = .ok (.iconst 1, 1) := dk_4 (dk_at dksX12_statement_1 17 rfl rfl)
theorem dX12_statement_42 : decode cX12_statement 42 = .ok (.goto 4, 3) := dk_167 0 4 (dk_at dksX12_statement_1 18 rfl rfl)
theorem dX12_statement_45 : decode cX12_statement 45 = .ok (.iconst 0, 1) := dk_3 (dk_at dksX12_statement_1 21 rfl rfl)
theorem dX12_statement_46 : decode cX12_statement 46 = .ok (.invokevirtual 38, 3) := dk_182 0 38 (dk_at dksX12_statement_2 0 rfl rfl)
theorem dX12_statement_49 : decode cX12_statement 49 = .ok (.aload_n 0, 1) := dk_42 (dk_at dksX12_statement_2 3 rfl rfl)
theorem dX12_statement_50 : decode cX12_statement 50 = .ok (.dup, 1) := dk_89 (dk_at dksX12_statement_2 4 rfl rfl)
theorem dX12_statement_51 : decode cX12_statement 51 = .ok (.getfield 22, 3) := dk_180 0 22 (dk_at dksX12_statement_2 5 rfl rfl)
theorem dX12_statement_54 : decode cX12_statement 54 = .ok (.iconst 1, 1) := dk_4 (dk_at dksX12_statement_2 8 rfl rfl)
theorem dX12_statement_55 : decode cX12_statement 55 = .ok (.iadd, 1) := dk_96 (dk_at dksX12_statement_2 9 rfl rfl)
theorem dX12_statement_56 : decode cX12_statement 56 = .ok (.putfield 22, 3) := dk_181 0 22 (dk_at dksX12_statement_2 10 rfl rfl)
theorem dX12_statement_59 : decode cX12_statement 59 = .ok (.iload_n 2, 1) := dk_28 (dk_at dksX12_statement_2 13 rfl rfl)
theorem dX12_statement_60 : decode cX12_statement 60 = .ok (.bipush 110, 2) := dk_16 110 (dk_at dksX12_statement_2 14 rfl rfl)
theorem dX12_statement_62 : decode cX12_statement 62 = .ok (.if_icmp .ne 14, 3) := dk_160 0 14 (dk_at dksX12_statement_2 16 rfl rfl)
theorem dX12_statement_65 : decode cX12_statement 65 = .ok (.new 53, 3) := dk_187 0 53 (dk_at dksX12_statement_2 19 rfl rfl)
theorem dX12_statement_68 : decode cX12_statement 68 = .ok (.dup, 1) := dk_89 (dk_at dksX12_statement_2 22 rfl rfl)
theorem dX12_statement_69 : decode cX12_statement 69 = .ok (.iload_n 1, 1) := dk_27 (dk_at dksX12_statement_2 23 rfl rfl)
theorem dX12_statement_70 : decode cX12_statement 70 = .ok (.invokespecial 55, 3) := dk_183 0 55 (dk_at dksX12_statement_3 0 rfl rfl)
theorem dX12_statement_73 : decode cX12_statement 73 = .ok (.goto 23, 3) := dk_167 0 23 (dk_at dksX12_statement_3 3 rfl rfl)
theorem dX12_statement_76 : decode cX12_statement 76 = .ok (.iload_n 2, 1) := dk_28 (dk_at dksX12_statement_3 6 rfl rfl)
theorem dX12_statement_77 : decode cX12_statement 77 = .ok (.bipush 104, 2) := dk_16 104 (dk_at dksX12_statement_3 7 rfl rfl)
theorem dX12_statement_79 : decode cX12_statement 79 = .ok (.if_icmp .ne 11, 3) := dk_160 0 11 (dk_at dksX12_statement_3 9 rfl rfl)
theorem dX12_statement_82 : decode cX12_statement 82 = .ok (.aload_n 0, 1) := dk_42 (dk_at dksX12_statement_3 12 rfl rfl)
theorem dX12_statement_83 : decode cX12_statement 83 = .ok (.iload_n 1, 1) := dk_27 (dk_at dksX12_statement_3 13 rfl rfl)
theorem dX12_statement_84 : decode cX12_statement 84 = .ok (.invokevirtual 56, 3) := dk_182 0 56 (dk_at dksX12_statement_3 14 rfl rfl)
theorem dX12_statement_87 : decode cX12_statement 87 = .ok (.goto 9, 3) := dk_167 0 9 (dk_at dksX12_statement_3 17 rfl rfl)
theorem dX12_statement_90 : decode cX12_statement 90 = .ok (.aload_n 0, 1) := dk_42 (dk_at dksX12_statement_3 20 rfl rfl)
theorem dX12_statement_91 : decode cX12_statement 91 = .ok (.iload_n 2, 1) := dk_28 (dk_at dksX12_statement_3 21 rfl rfl)
theorem dX12_statement_92 : decode cX12_statement 92 = .ok (.iload_n 1, 1) := dk_27 (dk_at dksX12_statement_3 22 rfl rfl)
theorem dX12_statement_93 : decode cX12_statement 93 = .ok (.invokevirtual 60, 3) := dk_182 0 60 (dk_at dksX12_statement_4 0 rfl rfl)
theorem dX12_statement_96 : decode cX12_statement 96 = .ok (.astore_n 3, 1) := dk_78 (dk_at dksX12_statement_4 3 rfl rfl)
theorem dX12_statement_97 : decode cX12_statement 97 = .ok (.aload_n 0, 1) := dk_42 (dk_at dksX12_statement_4 4 rfl rfl)
theorem dX12_statement_98 : decode cX12_statement 98 = .ok (.bipush 59, 2) := dk_16 59 (dk_at dksX12_statement_4 5 rfl rfl)
theorem dX12_statement_100 : decode cX12_statement 100 = .ok (.invokevirtual 64, 3) := dk_182 0 64 (dk_at dksX12_statement_4 7 rfl rfl)
theorem dX12_statement_103 : decode cX12_statement 103 = .ok (.aload_n 3, 1) := dk_45 (dk_at dksX12_statement_4 10 rfl rfl)
theorem dX12_statement_104 : decode cX12_statement 104 = .ok (.areturn, 1) := dk_176 (dk_at dksX12_statement_4 11 rfl rfl)
abbrev cX12_here : ByteArray := prog_14_method_2_code
def yX12_here : MethodName := ⟨RX12, "here", "()I"⟩
def dkwX12_here_1 : List UInt8 := [167, 0, 4, 2, 172]
abbrev dktX12_here_1 : List UInt8 := dkwX12_here_1 ++ []
def dkwX12_here_0 : List UInt8 := [42, 180, 0, 22, 42, 180, 0, 19, 162, 0, 18, 42, 180, 0, 1, 180, 0, 25, 42, 180, 0, 22, 52]
abbrev dktX12_here_0 : List UInt8 := dkwX12_here_0 ++ dktX12_here_1
theorem dksX12_here_0 : cX12_here.data.toList.drop 0 = dktX12_here_0 := by decide +kernel
theorem dksX12_here_1 : cX12_here.data.toList.drop 23 = dktX12_here_1 := dk_seg dksX12_here_0 23 rfl rfl
theorem dX12_here_0 : decode cX12_here 0 = .ok (.aload_n 0, 1) := dk_42 (dk_at dksX12_here_0 0 rfl rfl)
theorem dX12_here_1 : decode cX12_here 1 = .ok (.getfield 22, 3) := dk_180 0 22 (dk_at dksX12_here_0 1 rfl rfl)
theorem dX12_here_4 : decode cX12_here 4 = .ok (.aload_n 0, 1) := dk_42 (dk_at dksX12_here_0 4 rfl rfl)
theorem dX12_here_5 : decode cX12_here 5 = .ok (.getfield 19, 3) := dk_180 0 19 (dk_at dksX12_here_0 5 rfl rfl)
theorem dX12_here_8 : decode cX12_here 8 = .ok (.if_icmp .ge 18, 3) := dk_162 0 18 (dk_at dksX12_here_0 8 rfl rfl)
theorem dX12_here_11 : decode cX12_here 11 = .ok (.aload_n 0, 1) := dk_42 (dk_at dksX12_here_0 11 rfl rfl)
theorem dX12_here_12 : decode cX12_here 12 = .ok (.getfield 1, 3) := dk_180 0 1 (dk_at dksX12_here_0 12 rfl rfl)
theorem dX12_here_15 : decode cX12_here 15 = .ok (.getfield 25, 3) := dk_180 0 25 (dk_at dksX12_here_0 15 rfl rfl)
theorem dX12_here_18 : decode cX12_here 18 = .ok (.aload_n 0, 1) := dk_42 (dk_at dksX12_here_0 18 rfl rfl)
theorem dX12_here_19 : decode cX12_here 19 = .ok (.getfield 22, 3) := dk_180 0 22 (dk_at dksX12_here_0 19 rfl rfl)
theorem dX12_here_22 : decode cX12_here 22 = .ok (.caload, 1) := dk_52 (dk_at dksX12_here_0 22 rfl rfl)
theorem dX12_here_23 : decode cX12_here 23 = .ok (.goto 4, 3) := dk_167 0 4 (dk_at dksX12_here_1 0 rfl rfl)
theorem dX12_here_26 : decode cX12_here 26 = .ok (.iconst (-1), 1) := dk_2 (dk_at dksX12_here_1 3 rfl rfl)
theorem dX12_here_27 : decode cX12_here 27 = .ok (.ireturn, 1) := dk_172 (dk_at dksX12_here_1 4 rfl rfl)
abbrev cX12_mustStand : ByteArray := prog_14_method_3_code
def yX12_mustStand : MethodName := ⟨RX12, "mustStand", "(Z)V"⟩
def dkwX12_mustStand_0 : List UInt8 := [27, 154, 0, 19, 187, 0, 29, 89, 17, 252, 24, 42, 180, 0, 22, 100, 183, 0, 31, 191, 177]
abbrev dktX12_mustStand_0 : List UInt8 := dkwX12_mustStand_0 ++ []
theorem dksX12_mustStand_0 : cX12_mustStand.data.toList.drop 0 = dktX12_mustStand_0 := by decide +kernel
theorem dX12_mustStand_0 : decode cX12_mustStand 0 = .ok (.iload_n 1, 1) := dk_27 (dk_at dksX12_mustStand_0 0 rfl rfl)
theorem dX12_mustStand_1 : decode cX12_mustStand 1 = .ok (.ifCond .ne 19, 3) := dk_154 0 19 (dk_at dksX12_mustStand_0 1 rfl rfl)
theorem dX12_mustStand_4 : decode cX12_mustStand 4 = .ok (.new 29, 3) := dk_187 0 29 (dk_at dksX12_mustStand_0 4 rfl rfl)
theorem dX12_mustStand_7 : decode cX12_mustStand 7 = .ok (.dup, 1) := dk_89 (dk_at dksX12_mustStand_0 7 rfl rfl)
theorem dX12_mustStand_8 : decode cX12_mustStand 8 = .ok (.sipush (-1000), 3) := dk_17 252 24 (dk_at dksX12_mustStand_0 8 rfl rfl)
theorem dX12_mustStand_11 : decode cX12_mustStand 11 = .ok (.aload_n 0, 1) := dk_42 (dk_at dksX12_mustStand_0 11 rfl rfl)
theorem dX12_mustStand_12 : decode cX12_mustStand 12 = .ok (.getfield 22, 3) := dk_180 0 22 (dk_at dksX12_mustStand_0 12 rfl rfl)
theorem dX12_mustStand_15 : decode cX12_mustStand 15 = .ok (.isub, 1) := dk_100 (dk_at dksX12_mustStand_0 15 rfl rfl)
theorem dX12_mustStand_16 : decode cX12_mustStand 16 = .ok (.invokespecial 31, 3) := dk_183 0 31 (dk_at dksX12_mustStand_0 16 rfl rfl)
theorem dX12_mustStand_19 : decode cX12_mustStand 19 = .ok (.athrow, 1) := dk_191 (dk_at dksX12_mustStand_0 19 rfl rfl)
theorem dX12_mustStand_20 : decode cX12_mustStand 20 = .ok (.return_, 1) := dk_177 (dk_at dksX12_mustStand_0 20 rfl rfl)
abbrev cX12_heirTold : ByteArray := prog_14_method_8_code
def yX12_heirTold : MethodName := ⟨RX12, "heirTold", "(I)LCoresAreWills$Told;"⟩
def dkwX12_heirTold_2 : List UInt8 := [180, 0, 73, 28, 50, 42, 182, 0, 50, 183, 0, 77, 176]
abbrev dktX12_heirTold_2 : List UInt8 := dkwX12_heirTold_2 ++ []
def dkwX12_heirTold_1 : List UInt8 := [182, 0, 38, 42, 89, 180, 0, 22, 4, 96, 181, 0, 22, 187, 0, 71, 89, 27, 42, 180, 0, 1]
abbrev dktX12_heirTold_1 : List UInt8 := dkwX12_heirTold_1 ++ dktX12_heirTold_2
def dkwX12_heirTold_0 : List UInt8 := [42, 180, 0, 1, 42, 182, 0, 34, 182, 0, 67, 61, 42, 28, 155, 0, 7, 4, 167, 0, 4, 3]
abbrev dktX12_heirTold_0 : List UInt8 := dkwX12_heirTold_0 ++ dktX12_heirTold_1
theorem dksX12_heirTold_0 : cX12_heirTold.data.toList.drop 0 = dktX12_heirTold_0 := by decide +kernel
theorem dksX12_heirTold_1 : cX12_heirTold.data.toList.drop 22 = dktX12_heirTold_1 := dk_seg dksX12_heirTold_0 22 rfl rfl
theorem dksX12_heirTold_2 : cX12_heirTold.data.toList.drop 44 = dktX12_heirTold_2 := dk_seg dksX12_heirTold_1 22 rfl rfl
theorem dX12_heirTold_0 : decode cX12_heirTold 0 = .ok (.aload_n 0, 1) := dk_42 (dk_at dksX12_heirTold_0 0 rfl rfl)
theorem dX12_heirTold_1 : decode cX12_heirTold 1 = .ok (.getfield 1, 3) := dk_180 0 1 (dk_at dksX12_heirTold_0 1 rfl rfl)
theorem dX12_heirTold_4 : decode cX12_heirTold 4 = .ok (.aload_n 0, 1) := dk_42 (dk_at dksX12_heirTold_0 4 rfl rfl)
theorem dX12_heirTold_5 : decode cX12_heirTold 5 = .ok (.invokevirtual 34, 3) := dk_182 0 34 (dk_at dksX12_heirTold_0 5 rfl rfl)
theorem dX12_heirTold_8 : decode cX12_heirTold 8 = .ok (.invokevirtual 67, 3) := dk_182 0 67 (dk_at dksX12_heirTold_0 8 rfl rfl)
theorem dX12_heirTold_11 : decode cX12_heirTold 11 = .ok (.istore_n 2, 1) := dk_61 (dk_at dksX12_heirTold_0 11 rfl rfl)
theorem dX12_heirTold_12 : decode cX12_heirTold 12 = .ok (.aload_n 0, 1) := dk_42 (dk_at dksX12_heirTold_0 12 rfl rfl)
theorem dX12_heirTold_13 : decode cX12_heirTold 13 = .ok (.iload_n 2, 1) := dk_28 (dk_at dksX12_heirTold_0 13 rfl rfl)
theorem dX12_heirTold_14 : decode cX12_heirTold 14 = .ok (.ifCond .lt 7, 3) := dk_155 0 7 (dk_at dksX12_heirTold_0 14 rfl rfl)
theorem dX12_heirTold_17 : decode cX12_heirTold 17 = .ok (.iconst 1, 1) := dk_4 (dk_at dksX12_heirTold_0 17 rfl rfl)
theorem dX12_heirTold_18 : decode cX12_heirTold 18 = .ok (.goto 4, 3) := dk_167 0 4 (dk_at dksX12_heirTold_0 18 rfl rfl)
theorem dX12_heirTold_21 : decode cX12_heirTold 21 = .ok (.iconst 0, 1) := dk_3 (dk_at dksX12_heirTold_0 21 rfl rfl)
theorem dX12_heirTold_22 : decode cX12_heirTold 22 = .ok (.invokevirtual 38, 3) := dk_182 0 38 (dk_at dksX12_heirTold_1 0 rfl rfl)
theorem dX12_heirTold_25 : decode cX12_heirTold 25 = .ok (.aload_n 0, 1) := dk_42 (dk_at dksX12_heirTold_1 3 rfl rfl)
theorem dX12_heirTold_26 : decode cX12_heirTold 26 = .ok (.dup, 1) := dk_89 (dk_at dksX12_heirTold_1 4 rfl rfl)
theorem dX12_heirTold_27 : decode cX12_heirTold 27 = .ok (.getfield 22, 3) := dk_180 0 22 (dk_at dksX12_heirTold_1 5 rfl rfl)
theorem dX12_heirTold_30 : decode cX12_heirTold 30 = .ok (.iconst 1, 1) := dk_4 (dk_at dksX12_heirTold_1 8 rfl rfl)
theorem dX12_heirTold_31 : decode cX12_heirTold 31 = .ok (.iadd, 1) := dk_96 (dk_at dksX12_heirTold_1 9 rfl rfl)
theorem dX12_heirTold_32 : decode cX12_heirTold 32 = .ok (.putfield 22, 3) := dk_181 0 22 (dk_at dksX12_heirTold_1 10 rfl rfl)
theorem dX12_heirTold_35 : decode cX12_heirTold 35 = .ok (.new 71, 3) := dk_187 0 71 (dk_at dksX12_heirTold_1 13 rfl rfl)
theorem dX12_heirTold_38 : decode cX12_heirTold 38 = .ok (.dup, 1) := dk_89 (dk_at dksX12_heirTold_1 16 rfl rfl)
theorem dX12_heirTold_39 : decode cX12_heirTold 39 = .ok (.iload_n 1, 1) := dk_27 (dk_at dksX12_heirTold_1 17 rfl rfl)
theorem dX12_heirTold_40 : decode cX12_heirTold 40 = .ok (.aload_n 0, 1) := dk_42 (dk_at dksX12_heirTold_1 18 rfl rfl)
theorem dX12_heirTold_41 : decode cX12_heirTold 41 = .ok (.getfield 1, 3) := dk_180 0 1 (dk_at dksX12_heirTold_1 19 rfl rfl)
theorem dX12_heirTold_44 : decode cX12_heirTold 44 = .ok (.getfield 73, 3) := dk_180 0 73 (dk_at dksX12_heirTold_2 0 rfl rfl)
theorem dX12_heirTold_47 : decode cX12_heirTold 47 = .ok (.iload_n 2, 1) := dk_28 (dk_at dksX12_heirTold_2 3 rfl rfl)
theorem dX12_heirTold_48 : decode cX12_heirTold 48 = .ok (.aaload, 1) := dk_50 (dk_at dksX12_heirTold_2 4 rfl rfl)
theorem dX12_heirTold_49 : decode cX12_heirTold 49 = .ok (.aload_n 0, 1) := dk_42 (dk_at dksX12_heirTold_2 5 rfl rfl)
theorem dX12_heirTold_50 : decode cX12_heirTold 50 = .ok (.invokevirtual 50, 3) := dk_182 0 50 (dk_at dksX12_heirTold_2 6 rfl rfl)
theorem dX12_heirTold_53 : decode cX12_heirTold 53 = .ok (.invokespecial 77, 3) := dk_183 0 77 (dk_at dksX12_heirTold_2 9 rfl rfl)
theorem dX12_heirTold_56 : decode cX12_heirTold 56 = .ok (.areturn, 1) := dk_176 (dk_at dksX12_heirTold_2 12 rfl rfl)
abbrev cX12_digit : ByteArray := prog_14_method_5_code
def yX12_digit : MethodName := ⟨RX12, "digit", "()I"⟩
def dkwX12_digit_1 : List UInt8 := [96, 181, 0, 22, 42, 180, 0, 1, 180, 0, 25, 42, 180, 0, 22, 4, 100, 52, 16, 48, 100, 172]
abbrev dktX12_digit_1 : List UInt8 := dkwX12_digit_1 ++ []
def dkwX12_digit_0 : List UInt8 := [42, 42, 182, 0, 34, 133, 20, 0, 42, 20, 0, 44, 184, 0, 46, 182, 0, 38, 42, 89, 180, 0, 22, 4]
abbrev dktX12_digit_0 : List UInt8 := dkwX12_digit_0 ++ dktX12_digit_1
theorem dksX12_digit_0 : cX12_digit.data.toList.drop 0 = dktX12_digit_0 := by decide +kernel
theorem dksX12_digit_1 : cX12_digit.data.toList.drop 24 = dktX12_digit_1 := dk_seg dksX12_digit_0 24 rfl rfl
theorem dX12_digit_0 : decode cX12_digit 0 = .ok (.aload_n 0, 1) := dk_42 (dk_at dksX12_digit_0 0 rfl rfl)
theorem dX12_digit_1 : decode cX12_digit 1 = .ok (.aload_n 0, 1) := dk_42 (dk_at dksX12_digit_0 1 rfl rfl)
theorem dX12_digit_2 : decode cX12_digit 2 = .ok (.invokevirtual 34, 3) := dk_182 0 34 (dk_at dksX12_digit_0 2 rfl rfl)
theorem dX12_digit_5 : decode cX12_digit 5 = .ok (.i2l, 1) := dk_133 (dk_at dksX12_digit_0 5 rfl rfl)
theorem dX12_digit_6 : decode cX12_digit 6 = .ok (.ldc2_w 42, 3) := dk_20 0 42 (dk_at dksX12_digit_0 6 rfl rfl)
theorem dX12_digit_9 : decode cX12_digit 9 = .ok (.ldc2_w 44, 3) := dk_20 0 44 (dk_at dksX12_digit_0 9 rfl rfl)
theorem dX12_digit_12 : decode cX12_digit 12 = .ok (.invokestatic 46, 3) := dk_184 0 46 (dk_at dksX12_digit_0 12 rfl rfl)
theorem dX12_digit_15 : decode cX12_digit 15 = .ok (.invokevirtual 38, 3) := dk_182 0 38 (dk_at dksX12_digit_0 15 rfl rfl)
theorem dX12_digit_18 : decode cX12_digit 18 = .ok (.aload_n 0, 1) := dk_42 (dk_at dksX12_digit_0 18 rfl rfl)
theorem dX12_digit_19 : decode cX12_digit 19 = .ok (.dup, 1) := dk_89 (dk_at dksX12_digit_0 19 rfl rfl)
theorem dX12_digit_20 : decode cX12_digit 20 = .ok (.getfield 22, 3) := dk_180 0 22 (dk_at dksX12_digit_0 20 rfl rfl)
theorem dX12_digit_23 : decode cX12_digit 23 = .ok (.iconst 1, 1) := dk_4 (dk_at dksX12_digit_0 23 rfl rfl)
theorem dX12_digit_24 : decode cX12_digit 24 = .ok (.iadd, 1) := dk_96 (dk_at dksX12_digit_1 0 rfl rfl)
theorem dX12_digit_25 : decode cX12_digit 25 = .ok (.putfield 22, 3) := dk_181 0 22 (dk_at dksX12_digit_1 1 rfl rfl)
theorem dX12_digit_28 : decode cX12_digit 28 = .ok (.aload_n 0, 1) := dk_42 (dk_at dksX12_digit_1 4 rfl rfl)
theorem dX12_digit_29 : decode cX12_digit 29 = .ok (.getfield 1, 3) := dk_180 0 1 (dk_at dksX12_digit_1 5 rfl rfl)
theorem dX12_digit_32 : decode cX12_digit 32 = .ok (.getfield 25, 3) := dk_180 0 25 (dk_at dksX12_digit_1 8 rfl rfl)
theorem dX12_digit_35 : decode cX12_digit 35 = .ok (.aload_n 0, 1) := dk_42 (dk_at dksX12_digit_1 11 rfl rfl)
theorem dX12_digit_36 : decode cX12_digit 36 = .ok (.getfield 22, 3) := dk_180 0 22 (dk_at dksX12_digit_1 12 rfl rfl)
theorem dX12_digit_39 : decode cX12_digit 39 = .ok (.iconst 1, 1) := dk_4 (dk_at dksX12_digit_1 15 rfl rfl)
theorem dX12_digit_40 : decode cX12_digit 40 = .ok (.isub, 1) := dk_100 (dk_at dksX12_digit_1 16 rfl rfl)
theorem dX12_digit_41 : decode cX12_digit 41 = .ok (.caload, 1) := dk_52 (dk_at dksX12_digit_1 17 rfl rfl)
theorem dX12_digit_42 : decode cX12_digit 42 = .ok (.bipush 48, 2) := dk_16 48 (dk_at dksX12_digit_1 18 rfl rfl)
theorem dX12_digit_44 : decode cX12_digit 44 = .ok (.isub, 1) := dk_100 (dk_at dksX12_digit_1 20 rfl rfl)
theorem dX12_digit_45 : decode cX12_digit 45 = .ok (.ireturn, 1) := dk_172 (dk_at dksX12_digit_1 21 rfl rfl)
abbrev cX12_told : ByteArray := prog_14_method_9_code
def yX12_told : MethodName := ⟨RX12, "told", "(II)LCoresAreWills$Told;"⟩
def dkwX12_told_2 : List UInt8 := [42, 182, 0, 82, 183, 0, 93, 176]
abbrev dktX12_told_2 : List UInt8 := dkwX12_told_2 ++ []
def dkwX12_told_1 : List UInt8 := [27, 16, 114, 160, 0, 15, 187, 0, 88, 89, 28, 29, 183, 0, 90, 167, 0, 16, 187, 0, 91, 89, 28, 29]
abbrev dktX12_told_1 : List UInt8 := dkwX12_told_1 ++ dktX12_told_2
def dkwX12_told_0 : List UInt8 := [27, 16, 108, 160, 0, 16, 187, 0, 80, 89, 28, 42, 182, 0, 82, 183, 0, 85, 176, 42, 182, 0, 50, 62]
abbrev dktX12_told_0 : List UInt8 := dkwX12_told_0 ++ dktX12_told_1
theorem dksX12_told_0 : cX12_told.data.toList.drop 0 = dktX12_told_0 := by decide +kernel
theorem dksX12_told_1 : cX12_told.data.toList.drop 24 = dktX12_told_1 := dk_seg dksX12_told_0 24 rfl rfl
theorem dksX12_told_2 : cX12_told.data.toList.drop 48 = dktX12_told_2 := dk_seg dksX12_told_1 24 rfl rfl
theorem dX12_told_0 : decode cX12_told 0 = .ok (.iload_n 1, 1) := dk_27 (dk_at dksX12_told_0 0 rfl rfl)
theorem dX12_told_1 : decode cX12_told 1 = .ok (.bipush 108, 2) := dk_16 108 (dk_at dksX12_told_0 1 rfl rfl)
theorem dX12_told_3 : decode cX12_told 3 = .ok (.if_icmp .ne 16, 3) := dk_160 0 16 (dk_at dksX12_told_0 3 rfl rfl)
theorem dX12_told_6 : decode cX12_told 6 = .ok (.new 80, 3) := dk_187 0 80 (dk_at dksX12_told_0 6 rfl rfl)
theorem dX12_told_9 : decode cX12_told 9 = .ok (.dup, 1) := dk_89 (dk_at dksX12_told_0 9 rfl rfl)
theorem dX12_told_10 : decode cX12_told 10 = .ok (.iload_n 2, 1) := dk_28 (dk_at dksX12_told_0 10 rfl rfl)
theorem dX12_told_11 : decode cX12_told 11 = .ok (.aload_n 0, 1) := dk_42 (dk_at dksX12_told_0 11 rfl rfl)
theorem dX12_told_12 : decode cX12_told 12 = .ok (.invokevirtual 82, 3) := dk_182 0 82 (dk_at dksX12_told_0 12 rfl rfl)
theorem dX12_told_15 : decode cX12_told 15 = .ok (.invokespecial 85, 3) := dk_183 0 85 (dk_at dksX12_told_0 15 rfl rfl)
theorem dX12_told_18 : decode cX12_told 18 = .ok (.areturn, 1) := dk_176 (dk_at dksX12_told_0 18 rfl rfl)
theorem dX12_told_19 : decode cX12_told 19 = .ok (.aload_n 0, 1) := dk_42 (dk_at dksX12_told_0 19 rfl rfl)
theorem dX12_told_20 : decode cX12_told 20 = .ok (.invokevirtual 50, 3) := dk_182 0 50 (dk_at dksX12_told_0 20 rfl rfl)
theorem dX12_told_23 : decode cX12_told 23 = .ok (.istore_n 3, 1) := dk_62 (dk_at dksX12_told_0 23 rfl rfl)
theorem dX12_told_24 : decode cX12_told 24 = .ok (.iload_n 1, 1) := dk_27 (dk_at dksX12_told_1 0 rfl rfl)
theorem dX12_told_25 : decode cX12_told 25 = .ok (.bipush 114, 2) := dk_16 114 (dk_at dksX12_told_1 1 rfl rfl)
theorem dX12_told_27 : decode cX12_told 27 = .ok (.if_icmp .ne 15, 3) := dk_160 0 15 (dk_at dksX12_told_1 3 rfl rfl)
theorem dX12_told_30 : decode cX12_told 30 = .ok (.new 88, 3) := dk_187 0 88 (dk_at dksX12_told_1 6 rfl rfl)
theorem dX12_told_33 : decode cX12_told 33 = .ok (.dup, 1) := dk_89 (dk_at dksX12_told_1 9 rfl rfl)
theorem dX12_told_34 : decode cX12_told 34 = .ok (.iload_n 2, 1) := dk_28 (dk_at dksX12_told_1 10 rfl rfl)
theorem dX12_told_35 : decode cX12_told 35 = .ok (.iload_n 3, 1) := dk_29 (dk_at dksX12_told_1 11 rfl rfl)
theorem dX12_told_36 : decode cX12_told 36 = .ok (.invokespecial 90, 3) := dk_183 0 90 (dk_at dksX12_told_1 12 rfl rfl)
theorem dX12_told_39 : decode cX12_told 39 = .ok (.goto 16, 3) := dk_167 0 16 (dk_at dksX12_told_1 15 rfl rfl)
theorem dX12_told_42 : decode cX12_told 42 = .ok (.new 91, 3) := dk_187 0 91 (dk_at dksX12_told_1 18 rfl rfl)
theorem dX12_told_45 : decode cX12_told 45 = .ok (.dup, 1) := dk_89 (dk_at dksX12_told_1 21 rfl rfl)
theorem dX12_told_46 : decode cX12_told 46 = .ok (.iload_n 2, 1) := dk_28 (dk_at dksX12_told_1 22 rfl rfl)
theorem dX12_told_47 : decode cX12_told 47 = .ok (.iload_n 3, 1) := dk_29 (dk_at dksX12_told_1 23 rfl rfl)
theorem dX12_told_48 : decode cX12_told 48 = .ok (.aload_n 0, 1) := dk_42 (dk_at dksX12_told_2 0 rfl rfl)
theorem dX12_told_49 : decode cX12_told 49 = .ok (.invokevirtual 82, 3) := dk_182 0 82 (dk_at dksX12_told_2 1 rfl rfl)
theorem dX12_told_52 : decode cX12_told 52 = .ok (.invokespecial 93, 3) := dk_183 0 93 (dk_at dksX12_told_2 4 rfl rfl)
theorem dX12_told_55 : decode cX12_told 55 = .ok (.areturn, 1) := dk_176 (dk_at dksX12_told_2 7 rfl rfl)
abbrev cX12_pair : ByteArray := prog_14_method_6_code
def yX12_pair : MethodName := ⟨RX12, "pair", "()I"⟩
def dkwX12_pair_0 : List UInt8 := [42, 182, 0, 50, 60, 16, 10, 27, 104, 42, 182, 0, 50, 96, 172]
abbrev dktX12_pair_0 : List UInt8 := dkwX12_pair_0 ++ []
theorem dksX12_pair_0 : cX12_pair.data.toList.drop 0 = dktX12_pair_0 := by decide +kernel
theorem dX12_pair_0 : decode cX12_pair 0 = .ok (.aload_n 0, 1) := dk_42 (dk_at dksX12_pair_0 0 rfl rfl)
theorem dX12_pair_1 : decode cX12_pair 1 = .ok (.invokevirtual 50, 3) := dk_182 0 50 (dk_at dksX12_pair_0 1 rfl rfl)
theorem dX12_pair_4 : decode cX12_pair 4 = .ok (.istore_n 1, 1) := dk_60 (dk_at dksX12_pair_0 4 rfl rfl)
theorem dX12_pair_5 : decode cX12_pair 5 = .ok (.bipush 10, 2) := dk_16 10 (dk_at dksX12_pair_0 5 rfl rfl)
theorem dX12_pair_7 : decode cX12_pair 7 = .ok (.iload_n 1, 1) := dk_27 (dk_at dksX12_pair_0 7 rfl rfl)
theorem dX12_pair_8 : decode cX12_pair 8 = .ok (.imul, 1) := dk_104 (dk_at dksX12_pair_0 8 rfl rfl)
theorem dX12_pair_9 : decode cX12_pair 9 = .ok (.aload_n 0, 1) := dk_42 (dk_at dksX12_pair_0 9 rfl rfl)
theorem dX12_pair_10 : decode cX12_pair 10 = .ok (.invokevirtual 50, 3) := dk_182 0 50 (dk_at dksX12_pair_0 10 rfl rfl)
theorem dX12_pair_13 : decode cX12_pair 13 = .ok (.iadd, 1) := dk_96 (dk_at dksX12_pair_0 13 rfl rfl)
theorem dX12_pair_14 : decode cX12_pair 14 = .ok (.ireturn, 1) := dk_172 (dk_at dksX12_pair_0 14 rfl rfl)
abbrev cX12_take : ByteArray := prog_14_method_4_code
def yX12_take : MethodName := ⟨RX12, "take", "(I)V"⟩
def dkwX12_take_1 : List UInt8 := [181, 0, 22, 177]
abbrev dktX12_take_1 : List UInt8 := dkwX12_take_1 ++ []
def dkwX12_take_0 : List UInt8 := [42, 42, 182, 0, 34, 27, 160, 0, 7, 4, 167, 0, 4, 3, 182, 0, 38, 42, 89, 180, 0, 22, 4, 96]
abbrev dktX12_take_0 : List UInt8 := dkwX12_take_0 ++ dktX12_take_1
theorem dksX12_take_0 : cX12_take.data.toList.drop 0 = dktX12_take_0 := by decide +kernel
theorem dksX12_take_1 : cX12_take.data.toList.drop 24 = dktX12_take_1 := dk_seg dksX12_take_0 24 rfl rfl
theorem dX12_take_0 : decode cX12_take 0 = .ok (.aload_n 0, 1) := dk_42 (dk_at dksX12_take_0 0 rfl rfl)
theorem dX12_take_1 : decode cX12_take 1 = .ok (.aload_n 0, 1) := dk_42 (dk_at dksX12_take_0 1 rfl rfl)
theorem dX12_take_2 : decode cX12_take 2 = .ok (.invokevirtual 34, 3) := dk_182 0 34 (dk_at dksX12_take_0 2 rfl rfl)
theorem dX12_take_5 : decode cX12_take 5 = .ok (.iload_n 1, 1) := dk_27 (dk_at dksX12_take_0 5 rfl rfl)
theorem dX12_take_6 : decode cX12_take 6 = .ok (.if_icmp .ne 7, 3) := dk_160 0 7 (dk_at dksX12_take_0 6 rfl rfl)
theorem dX12_take_9 : decode cX12_take 9 = .ok (.iconst 1, 1) := dk_4 (dk_at dksX12_take_0 9 rfl rfl)
theorem dX12_take_10 : decode cX12_take 10 = .ok (.goto 4, 3) := dk_167 0 4 (dk_at dksX12_take_0 10 rfl rfl)
theorem dX12_take_13 : decode cX12_take 13 = .ok (.iconst 0, 1) := dk_3 (dk_at dksX12_take_0 13 rfl rfl)
theorem dX12_take_14 : decode cX12_take 14 = .ok (.invokevirtual 38, 3) := dk_182 0 38 (dk_at dksX12_take_0 14 rfl rfl)
theorem dX12_take_17 : decode cX12_take 17 = .ok (.aload_n 0, 1) := dk_42 (dk_at dksX12_take_0 17 rfl rfl)
theorem dX12_take_18 : decode cX12_take 18 = .ok (.dup, 1) := dk_89 (dk_at dksX12_take_0 18 rfl rfl)
theorem dX12_take_19 : decode cX12_take 19 = .ok (.getfield 22, 3) := dk_180 0 22 (dk_at dksX12_take_0 19 rfl rfl)
theorem dX12_take_22 : decode cX12_take 22 = .ok (.iconst 1, 1) := dk_4 (dk_at dksX12_take_0 22 rfl rfl)
theorem dX12_take_23 : decode cX12_take 23 = .ok (.iadd, 1) := dk_96 (dk_at dksX12_take_0 23 rfl rfl)
theorem dX12_take_24 : decode cX12_take 24 = .ok (.putfield 22, 3) := dk_181 0 22 (dk_at dksX12_take_1 0 rfl rfl)
theorem dX12_take_27 : decode cX12_take 27 = .ok (.return_, 1) := dk_177 (dk_at dksX12_take_1 3 rfl rfl)
theorem q117 : (Jvm.Cond.initialized "CoresAreWills$Reader") ∈ lw_all := lw_g (lw_at lw_m1 16 rfl) rfl
theorem q232 : (Jvm.Cond.fieldLinkNest "CoresAreWills$Reader" (73 : Nat) "CoresAreWills" "kinds" "[LCoresAreWills$Kind;" "CoresAreWills") ∈ lw_tbl := lw_at lw_m1 131 rfl
theorem q240 : (Jvm.Cond.fieldLinkNest "CoresAreWills$Reader" (25 : Nat) "CoresAreWills" "letters" "[C" "CoresAreWills") ∈ lw_tbl := lw_at lw_m1 139 rfl
theorem q242 : (Jvm.Cond.fieldLinkNest "CoresAreWills$Reader" (13 : Nat) "CoresAreWills" "letterMany" "I" "CoresAreWills") ∈ lw_tbl := lw_at lw_m1 141 rfl
theorem q392 : (Jvm.Cond.instantiable "CoresAreWills$Reader" (3 : Nat)) ∈ lw_all := lw_g (lw_at lw_m2 51 rfl) rfl
theorem q394 : (Jvm.Cond.instanceMethod ({ cls := "CoresAreWills$Reader", name := "<init>", desc := "(LCoresAreWills;)V" } : Jvm.MethodName)) ∈ lw_all := lw_g (lw_at lw_m2 53 rfl) rfl
theorem q395 : (Jvm.Cond.code ({ cls := "CoresAreWills$Reader", name := "<init>", desc := "(LCoresAreWills;)V" } : Jvm.MethodName) prog_14_method_1_code (2 : Nat) (Option.none : Option Jvm.ClassFile.FieldType)) ∈ lw_all := lw_g (lw_at lw_m2 54 rfl) rfl
theorem q396 : (Jvm.Cond.methodLink "CoresAreWills$Reader" (7 : Nat) ({ cls := "java/lang/Object", name := "<init>", desc := "()V" } : Jvm.MethodName)) ∈ lw_all := lw_g (lw_at lw_m2 55 rfl) rfl
theorem q397 : (Jvm.Cond.fieldLink "CoresAreWills$Reader" (19 : Nat) "CoresAreWills$Reader" "size" "I") ∈ lw_all := lw_g (lw_at lw_m2 56 rfl) rfl
theorem q399 : (Jvm.Cond.fieldLink "CoresAreWills$Reader" (22 : Nat) "CoresAreWills$Reader" "at" "I") ∈ lw_all := lw_g (lw_at lw_m2 58 rfl) rfl
theorem q401 : (Jvm.Cond.fieldLink "CoresAreWills$Reader" (1 : Nat) "CoresAreWills$Reader" "this$0" "LCoresAreWills;") ∈ lw_all := lw_g (lw_at lw_m2 60 rfl) rfl
theorem q402 : (Jvm.Cond.laysFinal "CoresAreWills$Reader" "CoresAreWills$Reader" "size" "I") ∈ lw_all := lw_g (lw_at lw_m2 61 rfl) rfl
theorem q403 : (Jvm.Cond.soleField "CoresAreWills$Reader" "size") ∈ lw_all := lw_g (lw_at lw_m2 62 rfl) rfl
theorem q404 : (Jvm.Cond.lays "CoresAreWills$Reader" "CoresAreWills$Reader" "at" "I") ∈ lw_all := lw_g (lw_at lw_m2 63 rfl) rfl
theorem q405 : (Jvm.Cond.soleField "CoresAreWills$Reader" "at") ∈ lw_all := lw_g (lw_at lw_m2 64 rfl) rfl
theorem q406 : (Jvm.Cond.laysFinal "CoresAreWills$Reader" "CoresAreWills$Reader" "this$0" "LCoresAreWills;") ∈ lw_all := lw_g (lw_at lw_m2 65 rfl) rfl
theorem q407 : (Jvm.Cond.soleField "CoresAreWills$Reader" "this$0") ∈ lw_all := lw_g (lw_at lw_m2 66 rfl) rfl
theorem q408 : (Jvm.Cond.superclass "CoresAreWills$Reader" "java/lang/Object") ∈ lw_all := lw_g (lw_at lw_m2 67 rfl) rfl
theorem q412 : (Jvm.Cond.instanceMethod ({ cls := "CoresAreWills$Reader", name := "statement", desc := "()LCoresAreWills$Told;" } : Jvm.MethodName)) ∈ lw_all := lw_g (lw_at lw_m2 71 rfl) rfl
theorem q413 : (Jvm.Cond.selects "CoresAreWills$Reader" ({ cls := "CoresAreWills$Reader", name := "statement", desc := "()LCoresAreWills$Told;" } : Jvm.MethodName) ({ cls := "CoresAreWills$Reader", name := "statement", desc := "()LCoresAreWills$Told;" } : Jvm.MethodName)) ∈ lw_all := lw_g (lw_at lw_m2 72 rfl) rfl
theorem q414 : (Jvm.Cond.code ({ cls := "CoresAreWills$Reader", name := "statement", desc := "()LCoresAreWills$Told;" } : Jvm.MethodName) prog_14_method_7_code (4 : Nat) (Option.some (Jvm.ClassFile.FieldType.object "CoresAreWills$Told"))) ∈ lw_all := lw_g (lw_at lw_m2 73 rfl) rfl
theorem q415 : (Jvm.Cond.methodLink "CoresAreWills$Reader" (34 : Nat) ({ cls := "CoresAreWills$Reader", name := "here", desc := "()I" } : Jvm.MethodName)) ∈ lw_all := lw_g (lw_at lw_m2 74 rfl) rfl
theorem q416 : (Jvm.Cond.privateMethod ({ cls := "CoresAreWills$Reader", name := "here", desc := "()I" } : Jvm.MethodName)) ∈ lw_tbl := lw_at lw_m2 75 rfl
theorem q417 : (Jvm.Cond.instanceMethod ({ cls := "CoresAreWills$Reader", name := "here", desc := "()I" } : Jvm.MethodName)) ∈ lw_all := lw_g (lw_at lw_m2 76 rfl) rfl
theorem q418 : (Jvm.Cond.code ({ cls := "CoresAreWills$Reader", name := "here", desc := "()I" } : Jvm.MethodName) prog_14_method_2_code (1 : Nat) (Option.some Jvm.ClassFile.FieldType.int)) ∈ lw_all := lw_g (lw_at lw_m2 77 rfl) rfl
theorem q419 : (Jvm.Cond.methodLink "CoresAreWills$Reader" (38 : Nat) ({ cls := "CoresAreWills$Reader", name := "mustStand", desc := "(Z)V" } : Jvm.MethodName)) ∈ lw_all := lw_g (lw_at lw_m2 78 rfl) rfl
theorem q420 : (Jvm.Cond.privateMethod ({ cls := "CoresAreWills$Reader", name := "mustStand", desc := "(Z)V" } : Jvm.MethodName)) ∈ lw_tbl := lw_at lw_m2 79 rfl
theorem q421 : (Jvm.Cond.instanceMethod ({ cls := "CoresAreWills$Reader", name := "mustStand", desc := "(Z)V" } : Jvm.MethodName)) ∈ lw_all := lw_g (lw_at lw_m2 80 rfl) rfl
theorem q422 : (Jvm.Cond.code ({ cls := "CoresAreWills$Reader", name := "mustStand", desc := "(Z)V" } : Jvm.MethodName) prog_14_method_3_code (2 : Nat) (Option.none : Option Jvm.ClassFile.FieldType)) ∈ lw_all := lw_g (lw_at lw_m2 81 rfl) rfl
theorem q423 : (Jvm.Cond.classLink "CoresAreWills$Reader" (29 : Nat) "CoresAreWills$Fault") ∈ lw_all := lw_g (lw_at lw_m2 82 rfl) rfl
theorem q432 : (Jvm.Cond.methodLink "CoresAreWills$Reader" (31 : Nat) ({ cls := "CoresAreWills$Fault", name := "<init>", desc := "(I)V" } : Jvm.MethodName)) ∈ lw_all := lw_g (lw_at lw_m2 91 rfl) rfl
theorem q441 : (Jvm.Cond.classLink "CoresAreWills$Reader" (53 : Nat) "CoresAreWills$AnewTold") ∈ lw_all := lw_g (lw_at lw_m2 100 rfl) rfl
theorem q443 : (Jvm.Cond.methodLink "CoresAreWills$Reader" (55 : Nat) ({ cls := "CoresAreWills$AnewTold", name := "<init>", desc := "(I)V" } : Jvm.MethodName)) ∈ lw_all := lw_g (lw_at lw_m2 102 rfl) rfl
theorem q455 : (Jvm.Cond.methodLink "CoresAreWills$Reader" (56 : Nat) ({ cls := "CoresAreWills$Reader", name := "heirTold", desc := "(I)LCoresAreWills$Told;" } : Jvm.MethodName)) ∈ lw_all := lw_g (lw_at lw_m2 114 rfl) rfl
theorem q456 : (Jvm.Cond.privateMethod ({ cls := "CoresAreWills$Reader", name := "heirTold", desc := "(I)LCoresAreWills$Told;" } : Jvm.MethodName)) ∈ lw_tbl := lw_at lw_m2 115 rfl
theorem q457 : (Jvm.Cond.instanceMethod ({ cls := "CoresAreWills$Reader", name := "heirTold", desc := "(I)LCoresAreWills$Told;" } : Jvm.MethodName)) ∈ lw_all := lw_g (lw_at lw_m2 116 rfl) rfl
theorem q458 : (Jvm.Cond.code ({ cls := "CoresAreWills$Reader", name := "heirTold", desc := "(I)LCoresAreWills$Told;" } : Jvm.MethodName) prog_14_method_8_code (3 : Nat) (Option.some (Jvm.ClassFile.FieldType.object "CoresAreWills$Told"))) ∈ lw_all := lw_g (lw_at lw_m2 117 rfl) rfl
theorem q459 : (Jvm.Cond.methodLinkNest "CoresAreWills$Reader" (67 : Nat) ({ cls := "CoresAreWills", name := "kindOf", desc := "(I)I" } : Jvm.MethodName) "CoresAreWills") ∈ lw_tbl := lw_at lw_m2 118 rfl
theorem q463 : (Jvm.Cond.classLink "CoresAreWills$Reader" (71 : Nat) "CoresAreWills$HeirTold") ∈ lw_all := lw_g (lw_at lw_m2 122 rfl) rfl
theorem q465 : (Jvm.Cond.methodLink "CoresAreWills$Reader" (50 : Nat) ({ cls := "CoresAreWills$Reader", name := "digit", desc := "()I" } : Jvm.MethodName)) ∈ lw_all := lw_g (lw_at lw_m2 124 rfl) rfl
theorem q466 : (Jvm.Cond.privateMethod ({ cls := "CoresAreWills$Reader", name := "digit", desc := "()I" } : Jvm.MethodName)) ∈ lw_tbl := lw_at lw_m2 125 rfl
theorem q467 : (Jvm.Cond.instanceMethod ({ cls := "CoresAreWills$Reader", name := "digit", desc := "()I" } : Jvm.MethodName)) ∈ lw_all := lw_g (lw_at lw_m2 126 rfl) rfl
theorem q468 : (Jvm.Cond.code ({ cls := "CoresAreWills$Reader", name := "digit", desc := "()I" } : Jvm.MethodName) prog_14_method_5_code (1 : Nat) (Option.some Jvm.ClassFile.FieldType.int)) ∈ lw_all := lw_g (lw_at lw_m2 127 rfl) rfl
theorem q469 : (Jvm.Cond.constantLong "CoresAreWills$Reader" (42 : Nat) (48 : Int64)) ∈ lw_all := lw_g (lw_at lw_m2 128 rfl) rfl
theorem q470 : (Jvm.Cond.constantLong "CoresAreWills$Reader" (44 : Nat) (57 : Int64)) ∈ lw_all := lw_g (lw_at lw_m2 129 rfl) rfl
theorem q471 : (Jvm.Cond.methodLinkNest "CoresAreWills$Reader" (46 : Nat) ({ cls := "CoresAreWills", name := "in", desc := "(JJJ)Z" } : Jvm.MethodName) "CoresAreWills") ∈ lw_tbl := lw_at lw_m2 130 rfl
theorem q474 : (Jvm.Cond.methodLink "CoresAreWills$Reader" (77 : Nat) ({ cls := "CoresAreWills$HeirTold", name := "<init>", desc := "(ILCoresAreWills$Kind;I)V" } : Jvm.MethodName)) ∈ lw_all := lw_g (lw_at lw_m2 133 rfl) rfl
theorem q486 : (Jvm.Cond.methodLink "CoresAreWills$Reader" (60 : Nat) ({ cls := "CoresAreWills$Reader", name := "told", desc := "(II)LCoresAreWills$Told;" } : Jvm.MethodName)) ∈ lw_all := lw_g (lw_at lw_m2 145 rfl) rfl
theorem q487 : (Jvm.Cond.privateMethod ({ cls := "CoresAreWills$Reader", name := "told", desc := "(II)LCoresAreWills$Told;" } : Jvm.MethodName)) ∈ lw_tbl := lw_at lw_m2 146 rfl
theorem q488 : (Jvm.Cond.instanceMethod ({ cls := "CoresAreWills$Reader", name := "told", desc := "(II)LCoresAreWills$Told;" } : Jvm.MethodName)) ∈ lw_all := lw_g (lw_at lw_m2 147 rfl) rfl
theorem q489 : (Jvm.Cond.code ({ cls := "CoresAreWills$Reader", name := "told", desc := "(II)LCoresAreWills$Told;" } : Jvm.MethodName) prog_14_method_9_code (4 : Nat) (Option.some (Jvm.ClassFile.FieldType.object "CoresAreWills$Told"))) ∈ lw_all := lw_g (lw_at lw_m2 148 rfl) rfl
theorem q490 : (Jvm.Cond.classLink "CoresAreWills$Reader" (80 : Nat) "CoresAreWills$HealTold") ∈ lw_all := lw_g (lw_at lw_m2 149 rfl) rfl
theorem q492 : (Jvm.Cond.methodLink "CoresAreWills$Reader" (82 : Nat) ({ cls := "CoresAreWills$Reader", name := "pair", desc := "()I" } : Jvm.MethodName)) ∈ lw_all := lw_g (lw_at lw_m2 151 rfl) rfl
theorem q493 : (Jvm.Cond.privateMethod ({ cls := "CoresAreWills$Reader", name := "pair", desc := "()I" } : Jvm.MethodName)) ∈ lw_tbl := lw_at lw_m2 152 rfl
theorem q494 : (Jvm.Cond.instanceMethod ({ cls := "CoresAreWills$Reader", name := "pair", desc := "()I" } : Jvm.MethodName)) ∈ lw_all := lw_g (lw_at lw_m2 153 rfl) rfl
theorem q495 : (Jvm.Cond.code ({ cls := "CoresAreWills$Reader", name := "pair", desc := "()I" } : Jvm.MethodName) prog_14_method_6_code (2 : Nat) (Option.some Jvm.ClassFile.FieldType.int)) ∈ lw_all := lw_g (lw_at lw_m2 154 rfl) rfl
theorem q496 : (Jvm.Cond.methodLink "CoresAreWills$Reader" (85 : Nat) ({ cls := "CoresAreWills$HealTold", name := "<init>", desc := "(II)V" } : Jvm.MethodName)) ∈ lw_all := lw_g (lw_at lw_m2 155 rfl) rfl
theorem q505 : (Jvm.Cond.classLink "CoresAreWills$Reader" (88 : Nat) "CoresAreWills$RollTold") ∈ lw_all := lw_g (lw_at lw_m2 164 rfl) rfl
theorem q507 : (Jvm.Cond.methodLink "CoresAreWills$Reader" (90 : Nat) ({ cls := "CoresAreWills$RollTold", name := "<init>", desc := "(II)V" } : Jvm.MethodName)) ∈ lw_all := lw_g (lw_at lw_m2 166 rfl) rfl
theorem q516 : (Jvm.Cond.classLink "CoresAreWills$Reader" (91 : Nat) "CoresAreWills$BiteTold") ∈ lw_all := lw_g (lw_at lw_m2 175 rfl) rfl
theorem q518 : (Jvm.Cond.methodLink "CoresAreWills$Reader" (93 : Nat) ({ cls := "CoresAreWills$BiteTold", name := "<init>", desc := "(III)V" } : Jvm.MethodName)) ∈ lw_all := lw_g (lw_at lw_m2 177 rfl) rfl
theorem q530 : (Jvm.Cond.methodLink "CoresAreWills$Reader" (64 : Nat) ({ cls := "CoresAreWills$Reader", name := "take", desc := "(I)V" } : Jvm.MethodName)) ∈ lw_all := lw_g (lw_at lw_m2 189 rfl) rfl
theorem q531 : (Jvm.Cond.privateMethod ({ cls := "CoresAreWills$Reader", name := "take", desc := "(I)V" } : Jvm.MethodName)) ∈ lw_tbl := lw_at lw_m2 190 rfl
theorem q532 : (Jvm.Cond.instanceMethod ({ cls := "CoresAreWills$Reader", name := "take", desc := "(I)V" } : Jvm.MethodName)) ∈ lw_all := lw_g (lw_at lw_m2 191 rfl) rfl
theorem q533 : (Jvm.Cond.code ({ cls := "CoresAreWills$Reader", name := "take", desc := "(I)V" } : Jvm.MethodName) prog_14_method_4_code (2 : Nat) (Option.none : Option Jvm.ClassFile.FieldType)) ∈ lw_all := lw_g (lw_at lw_m2 192 rfl) rfl
theorem in_X12 : ∀ w ∈ wsX120, w ∈ lw_all := lw_in wsX120 [402, 404, 406] (by decide +kernel) (by decide +kernel)

/-! CoresAreWills$Fault -/
set_option maxRecDepth 100000
def RX13 : String := "CoresAreWills$Fault"
def TX13 : u_T := fun k => match k with
  | 0 => ("java/lang/Throwable", "cause", "Ljava/lang/Throwable;", false)
  | 1 => ("java/lang/Throwable", "stackTrace", "[Ljava/lang/StackTraceElement;", false)
  | 2 => ("java/lang/Throwable", "suppressedExceptions", "Ljava/util/List;", false)
  | 3 => ("java/lang/Throwable", "detailMessage", "Ljava/lang/String;", false)
  | 4 => ("java/lang/Throwable", "backtrace", "Ljava/lang/Object;", false)
  | 5 => ("java/lang/Throwable", "depth", "I", false)
  | _ => ("CoresAreWills$Fault", "told", "I", true)
def tyX13 : Nat → FieldType := fun k => match k with
  | 0 => .object "java/lang/Throwable"
  | 1 => .array (.object "java/lang/StackTraceElement")
  | 2 => .object "java/util/List"
  | 3 => .object "java/lang/String"
  | 4 => .object "java/lang/Object"
  | 5 => .int
  | _ => .int
abbrev wsX130 : List Cond := u_ws RX13 TX13 7
theorem nmX13 : ∀ a, a < 7 → ∀ b, b < 7 → a ≠ b → (TX13 a).2.1 ≠ (TX13 b).2.1 := by decide +kernel
theorem tyX13_ok : ∀ k, k < 7 → parseFieldDescriptor (TX13 k).2.2.1 = some (tyX13 k) := by decide +kernel
abbrev cX13_init : ByteArray := prog_6_method_1_code
def yX13_init : MethodName := ⟨RX13, "<init>", "(I)V"⟩
def dkwX13_init_0 : List UInt8 := [42, 183, 0, 1, 42, 27, 181, 0, 7, 177]
abbrev dktX13_init_0 : List UInt8 := dkwX13_init_0 ++ []
theorem dksX13_init_0 : cX13_init.data.toList.drop 0 = dktX13_init_0 := by decide +kernel
theorem dX13_init_0 : decode cX13_init 0 = .ok (.aload_n 0, 1) := dk_42 (dk_at dksX13_init_0 0 rfl rfl)
theorem dX13_init_1 : decode cX13_init 1 = .ok (.invokespecial 1, 3) := dk_183 0 1 (dk_at dksX13_init_0 1 rfl rfl)
theorem dX13_init_4 : decode cX13_init 4 = .ok (.aload_n 0, 1) := dk_42 (dk_at dksX13_init_0 4 rfl rfl)
theorem dX13_init_5 : decode cX13_init 5 = .ok (.iload_n 1, 1) := dk_27 (dk_at dksX13_init_0 5 rfl rfl)
theorem dX13_init_6 : decode cX13_init 6 = .ok (.putfield 7, 3) := dk_181 0 7 (dk_at dksX13_init_0 6 rfl rfl)
theorem dX13_init_9 : decode cX13_init 9 = .ok (.return_, 1) := dk_177 (dk_at dksX13_init_0 9 rfl rfl)
abbrev cX13_number : ByteArray := prog_6_method_2_code
def yX13_number : MethodName := ⟨RX13, "number", "()I"⟩
theorem dX13_number_0 : decode cX13_number 0 = .ok (.aload_n 0, 1) := by decide +kernel
theorem dX13_number_1 : decode cX13_number 1 = .ok (.getfield 7, 3) := by decide +kernel
theorem dX13_number_4 : decode cX13_number 4 = .ok (.ireturn, 1) := by decide +kernel
theorem q118 : (Jvm.Cond.initialized "CoresAreWills$Fault") ∈ lw_all := lw_g (lw_at lw_m1 17 rfl) rfl
theorem q352 : (Jvm.Cond.selects "CoresAreWills$Fault" ({ cls := "java/lang/Throwable", name := "fillInStackTrace", desc := "()Ljava/lang/Throwable;" } : Jvm.MethodName) ({ cls := "java/lang/Throwable", name := "fillInStackTrace", desc := "()Ljava/lang/Throwable;" } : Jvm.MethodName)) ∈ lw_all := lw_g (lw_at lw_m2 11 rfl) rfl
theorem q424 : (Jvm.Cond.instantiable "CoresAreWills$Fault" (7 : Nat)) ∈ lw_all := lw_g (lw_at lw_m2 83 rfl) rfl
theorem q425 : (Jvm.Cond.castable "CoresAreWills$Fault" "CoresAreWills$Fault") ∈ lw_tbl := lw_at lw_m2 84 rfl
theorem q426 : (Jvm.Cond.selects "CoresAreWills$Fault" ({ cls := "java/lang/Throwable", name := "fillInStackTrace", desc := "(I)Ljava/lang/Throwable;" } : Jvm.MethodName) ({ cls := "java/lang/Throwable", name := "fillInStackTrace", desc := "(I)Ljava/lang/Throwable;" } : Jvm.MethodName)) ∈ lw_all := lw_g (lw_at lw_m2 85 rfl) rfl
theorem q427 : (Jvm.Cond.lays "CoresAreWills$Fault" "java/lang/Throwable" "cause" "Ljava/lang/Throwable;") ∈ lw_all := lw_g (lw_at lw_m2 86 rfl) rfl
theorem q428 : (Jvm.Cond.lays "CoresAreWills$Fault" "java/lang/Throwable" "stackTrace" "[Ljava/lang/StackTraceElement;") ∈ lw_all := lw_g (lw_at lw_m2 87 rfl) rfl
theorem q429 : (Jvm.Cond.lays "CoresAreWills$Fault" "java/lang/Throwable" "suppressedExceptions" "Ljava/util/List;") ∈ lw_all := lw_g (lw_at lw_m2 88 rfl) rfl
theorem q430 : (Jvm.Cond.lays "CoresAreWills$Fault" "java/lang/Throwable" "detailMessage" "Ljava/lang/String;") ∈ lw_all := lw_g (lw_at lw_m2 89 rfl) rfl
theorem q431 : (Jvm.Cond.lays "CoresAreWills$Fault" "java/lang/Throwable" "backtrace" "Ljava/lang/Object;") ∈ lw_all := lw_g (lw_at lw_m2 90 rfl) rfl
theorem q433 : (Jvm.Cond.instanceMethod ({ cls := "CoresAreWills$Fault", name := "<init>", desc := "(I)V" } : Jvm.MethodName)) ∈ lw_all := lw_g (lw_at lw_m2 92 rfl) rfl
theorem q434 : (Jvm.Cond.code ({ cls := "CoresAreWills$Fault", name := "<init>", desc := "(I)V" } : Jvm.MethodName) prog_6_method_1_code (2 : Nat) (Option.none : Option Jvm.ClassFile.FieldType)) ∈ lw_all := lw_g (lw_at lw_m2 93 rfl) rfl
theorem q435 : (Jvm.Cond.methodLinkNest "CoresAreWills$Fault" (1 : Nat) ({ cls := "CoresAreWills$Refusal", name := "<init>", desc := "()V" } : Jvm.MethodName) "CoresAreWills") ∈ lw_tbl := lw_at lw_m2 94 rfl
theorem q436 : (Jvm.Cond.fieldLink "CoresAreWills$Fault" (7 : Nat) "CoresAreWills$Fault" "told" "I") ∈ lw_all := lw_g (lw_at lw_m2 95 rfl) rfl
theorem q437 : (Jvm.Cond.laysFinal "CoresAreWills$Fault" "CoresAreWills$Fault" "told" "I") ∈ lw_all := lw_g (lw_at lw_m2 96 rfl) rfl
theorem q438 : (Jvm.Cond.soleField "CoresAreWills$Fault" "told") ∈ lw_all := lw_g (lw_at lw_m2 97 rfl) rfl
theorem q439 : (Jvm.Cond.lays "CoresAreWills$Fault" "java/lang/Throwable" "depth" "I") ∈ lw_all := lw_g (lw_at lw_m2 98 rfl) rfl
theorem q440 : (Jvm.Cond.superclass "CoresAreWills$Fault" "CoresAreWills$Refusal") ∈ lw_all := lw_g (lw_at lw_m2 99 rfl) rfl
theorem q990 : (Jvm.Cond.selects "CoresAreWills$Fault" ({ cls := "CoresAreWills$Refusal", name := "number", desc := "()I" } : Jvm.MethodName) ({ cls := "CoresAreWills$Fault", name := "number", desc := "()I" } : Jvm.MethodName)) ∈ lw_all := lw_g (lw_at lw_m4 169 rfl) rfl
theorem q991 : (Jvm.Cond.instanceMethod ({ cls := "CoresAreWills$Fault", name := "number", desc := "()I" } : Jvm.MethodName)) ∈ lw_all := lw_g (lw_at lw_m4 170 rfl) rfl
theorem q992 : (Jvm.Cond.code ({ cls := "CoresAreWills$Fault", name := "number", desc := "()I" } : Jvm.MethodName) prog_6_method_2_code (1 : Nat) (Option.some Jvm.ClassFile.FieldType.int)) ∈ lw_all := lw_g (lw_at lw_m4 171 rfl) rfl
theorem q1586 : (Jvm.Cond.castable "CoresAreWills$Fault" "CoresAreWills$Refusal") ∈ lw_tbl := lw_at lw_m7 45 rfl
theorem in_X13 : ∀ w ∈ wsX130, w ∈ lw_all := lw_in wsX130 [427, 428, 429, 430, 431, 439, 437] (by decide +kernel) (by decide +kernel)

/-! CoresAreWills$Told -/
set_option maxRecDepth 100000
def RX14 : String := "CoresAreWills$Told"
abbrev cX14_init : ByteArray := prog_18_method_1_code
def yX14_init : MethodName := ⟨RX14, "<init>", "(I)V"⟩
def dkwX14_init_0 : List UInt8 := [42, 183, 0, 1, 42, 27, 181, 0, 7, 177]
abbrev dktX14_init_0 : List UInt8 := dkwX14_init_0 ++ []
theorem dksX14_init_0 : cX14_init.data.toList.drop 0 = dktX14_init_0 := by decide +kernel
theorem dX14_init_0 : decode cX14_init 0 = .ok (.aload_n 0, 1) := dk_42 (dk_at dksX14_init_0 0 rfl rfl)
theorem dX14_init_1 : decode cX14_init 1 = .ok (.invokespecial 1, 3) := dk_183 0 1 (dk_at dksX14_init_0 1 rfl rfl)
theorem dX14_init_4 : decode cX14_init 4 = .ok (.aload_n 0, 1) := dk_42 (dk_at dksX14_init_0 4 rfl rfl)
theorem dX14_init_5 : decode cX14_init 5 = .ok (.iload_n 1, 1) := dk_27 (dk_at dksX14_init_0 5 rfl rfl)
theorem dX14_init_6 : decode cX14_init 6 = .ok (.putfield 7, 3) := dk_181 0 7 (dk_at dksX14_init_0 6 rfl rfl)
theorem dX14_init_9 : decode cX14_init 9 = .ok (.return_, 1) := dk_177 (dk_at dksX14_init_0 9 rfl rfl)
abbrev cX14_comes : ByteArray := prog_18_method_4_code
def yX14_comes : MethodName := ⟨RX14, "comes", "(LCoresAreWills$Core;)Z"⟩
def dkwX14_comes_0 : List UInt8 := [42, 43, 182, 0, 13, 61, 28, 153, 0, 8, 42, 43, 182, 0, 17, 28, 172]
abbrev dktX14_comes_0 : List UInt8 := dkwX14_comes_0 ++ []
theorem dksX14_comes_0 : cX14_comes.data.toList.drop 0 = dktX14_comes_0 := by decide +kernel
theorem dX14_comes_0 : decode cX14_comes 0 = .ok (.aload_n 0, 1) := dk_42 (dk_at dksX14_comes_0 0 rfl rfl)
theorem dX14_comes_1 : decode cX14_comes 1 = .ok (.aload_n 1, 1) := dk_43 (dk_at dksX14_comes_0 1 rfl rfl)
theorem dX14_comes_2 : decode cX14_comes 2 = .ok (.invokevirtual 13, 3) := dk_182 0 13 (dk_at dksX14_comes_0 2 rfl rfl)
theorem dX14_comes_5 : decode cX14_comes 5 = .ok (.istore_n 2, 1) := dk_61 (dk_at dksX14_comes_0 5 rfl rfl)
theorem dX14_comes_6 : decode cX14_comes 6 = .ok (.iload_n 2, 1) := dk_28 (dk_at dksX14_comes_0 6 rfl rfl)
theorem dX14_comes_7 : decode cX14_comes 7 = .ok (.ifCond .eq 8, 3) := dk_153 0 8 (dk_at dksX14_comes_0 7 rfl rfl)
theorem dX14_comes_10 : decode cX14_comes 10 = .ok (.aload_n 0, 1) := dk_42 (dk_at dksX14_comes_0 10 rfl rfl)
theorem dX14_comes_11 : decode cX14_comes 11 = .ok (.aload_n 1, 1) := dk_43 (dk_at dksX14_comes_0 11 rfl rfl)
theorem dX14_comes_12 : decode cX14_comes 12 = .ok (.invokevirtual 17, 3) := dk_182 0 17 (dk_at dksX14_comes_0 12 rfl rfl)
theorem dX14_comes_15 : decode cX14_comes 15 = .ok (.iload_n 2, 1) := dk_28 (dk_at dksX14_comes_0 15 rfl rfl)
theorem dX14_comes_16 : decode cX14_comes 16 = .ok (.ireturn, 1) := dk_172 (dk_at dksX14_comes_0 16 rfl rfl)
theorem q119 : (Jvm.Cond.initialized "CoresAreWills$Told") ∈ lw_all := lw_g (lw_at lw_m1 18 rfl) rfl
theorem q447 : (Jvm.Cond.instanceMethod ({ cls := "CoresAreWills$Told", name := "<init>", desc := "(I)V" } : Jvm.MethodName)) ∈ lw_all := lw_g (lw_at lw_m2 106 rfl) rfl
theorem q448 : (Jvm.Cond.code ({ cls := "CoresAreWills$Told", name := "<init>", desc := "(I)V" } : Jvm.MethodName) prog_18_method_1_code (2 : Nat) (Option.none : Option Jvm.ClassFile.FieldType)) ∈ lw_all := lw_g (lw_at lw_m2 107 rfl) rfl
theorem q449 : (Jvm.Cond.methodLink "CoresAreWills$Told" (1 : Nat) ({ cls := "java/lang/Object", name := "<init>", desc := "()V" } : Jvm.MethodName)) ∈ lw_all := lw_g (lw_at lw_m2 108 rfl) rfl
theorem q450 : (Jvm.Cond.fieldLink "CoresAreWills$Told" (7 : Nat) "CoresAreWills$Told" "start" "I") ∈ lw_all := lw_g (lw_at lw_m2 109 rfl) rfl
theorem q453 : (Jvm.Cond.soleField "CoresAreWills$Told" "start") ∈ lw_all := lw_g (lw_at lw_m2 112 rfl) rfl
theorem q542 : (Jvm.Cond.instanceMethod ({ cls := "CoresAreWills$Told", name := "comes", desc := "(LCoresAreWills$Core;)Z" } : Jvm.MethodName)) ∈ lw_all := lw_g (lw_at lw_m2 201 rfl) rfl
theorem q543 : (Jvm.Cond.sameMethod "CoresAreWills$Told" "CoresAreWills$Told" "comes" "(LCoresAreWills$Core;)Z") ∈ lw_all := lw_g (lw_at lw_m2 202 rfl) rfl
theorem q549 : (Jvm.Cond.code ({ cls := "CoresAreWills$Told", name := "comes", desc := "(LCoresAreWills$Core;)Z" } : Jvm.MethodName) prog_18_method_4_code (3 : Nat) (Option.some Jvm.ClassFile.FieldType.boolean)) ∈ lw_all := lw_g (lw_at lw_m2 208 rfl) rfl
theorem q550 : (Jvm.Cond.methodLink "CoresAreWills$Told" (13 : Nat) ({ cls := "CoresAreWills$Told", name := "isGood", desc := "(LCoresAreWills$Core;)Z" } : Jvm.MethodName)) ∈ lw_all := lw_g (lw_at lw_m2 209 rfl) rfl
theorem q551 : (Jvm.Cond.declares ({ cls := "CoresAreWills$Told", name := "isGood", desc := "(LCoresAreWills$Core;)Z" } : Jvm.MethodName)) ∈ lw_tbl := lw_at lw_m2 210 rfl
theorem q552 : (Jvm.Cond.sameMethod "CoresAreWills$Told" "CoresAreWills$Told" "isGood" "(LCoresAreWills$Core;)Z") ∈ lw_all := lw_g (lw_at lw_m2 211 rfl) rfl
theorem q577 : (Jvm.Cond.methodLink "CoresAreWills$Told" (17 : Nat) ({ cls := "CoresAreWills$Told", name := "become", desc := "(LCoresAreWills$Core;)V" } : Jvm.MethodName)) ∈ lw_all := lw_g (lw_at lw_m2 236 rfl) rfl
theorem q578 : (Jvm.Cond.declares ({ cls := "CoresAreWills$Told", name := "become", desc := "(LCoresAreWills$Core;)V" } : Jvm.MethodName)) ∈ lw_tbl := lw_at lw_m2 237 rfl
theorem q579 : (Jvm.Cond.sameMethod "CoresAreWills$Told" "CoresAreWills$Told" "become" "(LCoresAreWills$Core;)V") ∈ lw_all := lw_g (lw_at lw_m2 238 rfl) rfl

/-! CoresAreWills$AnewTold -/
set_option maxRecDepth 100000
def RX15 : String := "CoresAreWills$AnewTold"
def TX15 : u_T := fun k => match k with
  | _ => ("CoresAreWills$Told", "start", "I", true)
def tyX15 : Nat → FieldType := fun k => match k with
  | _ => .int
abbrev wsX150 : List Cond := u_ws RX15 TX15 1
theorem nmX15 : ∀ a, a < 1 → ∀ b, b < 1 → a ≠ b → (TX15 a).2.1 ≠ (TX15 b).2.1 := by decide +kernel
theorem tyX15_ok : ∀ k, k < 1 → parseFieldDescriptor (TX15 k).2.2.1 = some (tyX15 k) := by decide +kernel
abbrev cX15_init : ByteArray := prog_2_method_1_code
def yX15_init : MethodName := ⟨RX15, "<init>", "(I)V"⟩
def dkwX15_init_0 : List UInt8 := [42, 27, 183, 0, 3, 177]
abbrev dktX15_init_0 : List UInt8 := dkwX15_init_0 ++ []
theorem dksX15_init_0 : cX15_init.data.toList.drop 0 = dktX15_init_0 := by decide +kernel
theorem dX15_init_0 : decode cX15_init 0 = .ok (.aload_n 0, 1) := dk_42 (dk_at dksX15_init_0 0 rfl rfl)
theorem dX15_init_1 : decode cX15_init 1 = .ok (.iload_n 1, 1) := dk_27 (dk_at dksX15_init_0 1 rfl rfl)
theorem dX15_init_2 : decode cX15_init 2 = .ok (.invokespecial 3, 3) := dk_183 0 3 (dk_at dksX15_init_0 2 rfl rfl)
theorem dX15_init_5 : decode cX15_init 5 = .ok (.return_, 1) := dk_177 (dk_at dksX15_init_0 5 rfl rfl)
abbrev cX15_isGood : ByteArray := prog_2_method_2_code
def yX15_isGood : MethodName := ⟨RX15, "isGood", "(LCoresAreWills$Core;)Z"⟩
theorem dX15_isGood_0 : decode cX15_isGood 0 = .ok (.iconst 1, 1) := by decide +kernel
theorem dX15_isGood_1 : decode cX15_isGood 1 = .ok (.ireturn, 1) := by decide +kernel
abbrev cX15_become : ByteArray := prog_2_method_3_code
def yX15_become : MethodName := ⟨RX15, "become", "(LCoresAreWills$Core;)V"⟩
def dkwX15_become_0 : List UInt8 := [43, 3, 181, 0, 9, 43, 18, 15, 182, 0, 16, 87, 177]
abbrev dktX15_become_0 : List UInt8 := dkwX15_become_0 ++ []
theorem dksX15_become_0 : cX15_become.data.toList.drop 0 = dktX15_become_0 := by decide +kernel
theorem dX15_become_0 : decode cX15_become 0 = .ok (.aload_n 1, 1) := dk_43 (dk_at dksX15_become_0 0 rfl rfl)
theorem dX15_become_1 : decode cX15_become 1 = .ok (.iconst 0, 1) := dk_3 (dk_at dksX15_become_0 1 rfl rfl)
theorem dX15_become_2 : decode cX15_become 2 = .ok (.putfield 9, 3) := dk_181 0 9 (dk_at dksX15_become_0 2 rfl rfl)
theorem dX15_become_5 : decode cX15_become 5 = .ok (.aload_n 1, 1) := dk_43 (dk_at dksX15_become_0 5 rfl rfl)
theorem dX15_become_6 : decode cX15_become 6 = .ok (.ldc 15, 2) := dk_18 15 (dk_at dksX15_become_0 6 rfl rfl)
theorem dX15_become_8 : decode cX15_become 8 = .ok (.invokevirtual 16, 3) := dk_182 0 16 (dk_at dksX15_become_0 8 rfl rfl)
theorem dX15_become_11 : decode cX15_become 11 = .ok (.pop, 1) := dk_87 (dk_at dksX15_become_0 11 rfl rfl)
theorem dX15_become_12 : decode cX15_become 12 = .ok (.return_, 1) := dk_177 (dk_at dksX15_become_0 12 rfl rfl)
theorem q120 : (Jvm.Cond.initialized "CoresAreWills$AnewTold") ∈ lw_all := lw_g (lw_at lw_m1 19 rfl) rfl
theorem q202 : (Jvm.Cond.fieldLinkNest "CoresAreWills$AnewTold" (9 : Nat) "CoresAreWills$Core" "bitten" "I" "CoresAreWills") ∈ lw_tbl := lw_at lw_m1 101 rfl
theorem q442 : (Jvm.Cond.instantiable "CoresAreWills$AnewTold" (1 : Nat)) ∈ lw_all := lw_g (lw_at lw_m2 101 rfl) rfl
theorem q444 : (Jvm.Cond.instanceMethod ({ cls := "CoresAreWills$AnewTold", name := "<init>", desc := "(I)V" } : Jvm.MethodName)) ∈ lw_all := lw_g (lw_at lw_m2 103 rfl) rfl
theorem q445 : (Jvm.Cond.code ({ cls := "CoresAreWills$AnewTold", name := "<init>", desc := "(I)V" } : Jvm.MethodName) prog_2_method_1_code (2 : Nat) (Option.none : Option Jvm.ClassFile.FieldType)) ∈ lw_all := lw_g (lw_at lw_m2 104 rfl) rfl
theorem q446 : (Jvm.Cond.methodLink "CoresAreWills$AnewTold" (3 : Nat) ({ cls := "CoresAreWills$Told", name := "<init>", desc := "(I)V" } : Jvm.MethodName)) ∈ lw_all := lw_g (lw_at lw_m2 105 rfl) rfl
theorem q452 : (Jvm.Cond.laysFinal "CoresAreWills$AnewTold" "CoresAreWills$Told" "start" "I") ∈ lw_all := lw_g (lw_at lw_m2 111 rfl) rfl
theorem q454 : (Jvm.Cond.superclass "CoresAreWills$AnewTold" "CoresAreWills$Told") ∈ lw_all := lw_g (lw_at lw_m2 113 rfl) rfl
theorem q544 : (Jvm.Cond.selects "CoresAreWills$AnewTold" ({ cls := "CoresAreWills$Told", name := "comes", desc := "(LCoresAreWills$Core;)Z" } : Jvm.MethodName) ({ cls := "CoresAreWills$Told", name := "comes", desc := "(LCoresAreWills$Core;)Z" } : Jvm.MethodName)) ∈ lw_all := lw_g (lw_at lw_m2 203 rfl) rfl
theorem q553 : (Jvm.Cond.selects "CoresAreWills$AnewTold" ({ cls := "CoresAreWills$Told", name := "isGood", desc := "(LCoresAreWills$Core;)Z" } : Jvm.MethodName) ({ cls := "CoresAreWills$AnewTold", name := "isGood", desc := "(LCoresAreWills$Core;)Z" } : Jvm.MethodName)) ∈ lw_all := lw_g (lw_at lw_m2 212 rfl) rfl
theorem q554 : (Jvm.Cond.instanceMethod ({ cls := "CoresAreWills$AnewTold", name := "isGood", desc := "(LCoresAreWills$Core;)Z" } : Jvm.MethodName)) ∈ lw_all := lw_g (lw_at lw_m2 213 rfl) rfl
theorem q555 : (Jvm.Cond.code ({ cls := "CoresAreWills$AnewTold", name := "isGood", desc := "(LCoresAreWills$Core;)Z" } : Jvm.MethodName) prog_2_method_2_code (2 : Nat) (Option.some Jvm.ClassFile.FieldType.boolean)) ∈ lw_all := lw_g (lw_at lw_m2 214 rfl) rfl
theorem q580 : (Jvm.Cond.selects "CoresAreWills$AnewTold" ({ cls := "CoresAreWills$Told", name := "become", desc := "(LCoresAreWills$Core;)V" } : Jvm.MethodName) ({ cls := "CoresAreWills$AnewTold", name := "become", desc := "(LCoresAreWills$Core;)V" } : Jvm.MethodName)) ∈ lw_all := lw_g (lw_at lw_m2 239 rfl) rfl
theorem q581 : (Jvm.Cond.instanceMethod ({ cls := "CoresAreWills$AnewTold", name := "become", desc := "(LCoresAreWills$Core;)V" } : Jvm.MethodName)) ∈ lw_all := lw_g (lw_at lw_m3 0 rfl) rfl
theorem q582 : (Jvm.Cond.code ({ cls := "CoresAreWills$AnewTold", name := "become", desc := "(LCoresAreWills$Core;)V" } : Jvm.MethodName) prog_2_method_3_code (2 : Nat) (Option.none : Option Jvm.ClassFile.FieldType)) ∈ lw_all := lw_g (lw_at lw_m3 1 rfl) rfl
theorem q583 : (Jvm.Cond.constant "CoresAreWills$AnewTold" (15 : Nat) (33554431 : Int32)) ∈ lw_all := lw_g (lw_at lw_m3 2 rfl) rfl
theorem q584 : (Jvm.Cond.methodLink "CoresAreWills$AnewTold" (16 : Nat) ({ cls := "CoresAreWills$Core", name := "leave", desc := "(I)LCoresAreWills$Core;" } : Jvm.MethodName)) ∈ lw_all := lw_g (lw_at lw_m3 3 rfl) rfl
theorem q1594 : (Jvm.Cond.castable "CoresAreWills$AnewTold" "CoresAreWills$Told") ∈ lw_tbl := lw_at lw_m7 53 rfl
theorem in_X15 : ∀ w ∈ wsX150, w ∈ lw_all := lw_in wsX150 [452] (by decide +kernel) (by decide +kernel)

/-! CoresAreWills$HeirTold -/
set_option maxRecDepth 100000
def RX16 : String := "CoresAreWills$HeirTold"
def TX16 : u_T := fun k => match k with
  | 0 => ("CoresAreWills$Told", "start", "I", true)
  | 1 => ("CoresAreWills$HeirTold", "kind", "LCoresAreWills$Kind;", true)
  | _ => ("CoresAreWills$HeirTold", "figure", "I", true)
def tyX16 : Nat → FieldType := fun k => match k with
  | 0 => .int
  | 1 => .object "CoresAreWills$Kind"
  | _ => .int
abbrev wsX160 : List Cond := u_ws RX16 TX16 3
theorem nmX16 : ∀ a, a < 3 → ∀ b, b < 3 → a ≠ b → (TX16 a).2.1 ≠ (TX16 b).2.1 := by decide +kernel
theorem tyX16_ok : ∀ k, k < 3 → parseFieldDescriptor (TX16 k).2.2.1 = some (tyX16 k) := by decide +kernel
abbrev cX16_init : ByteArray := prog_8_method_1_code
def yX16_init : MethodName := ⟨RX16, "<init>", "(ILCoresAreWills$Kind;I)V"⟩
def dkwX16_init_0 : List UInt8 := [42, 27, 183, 0, 3, 42, 44, 181, 0, 9, 42, 29, 181, 0, 15, 177]
abbrev dktX16_init_0 : List UInt8 := dkwX16_init_0 ++ []
theorem dksX16_init_0 : cX16_init.data.toList.drop 0 = dktX16_init_0 := by decide +kernel
theorem dX16_init_0 : decode cX16_init 0 = .ok (.aload_n 0, 1) := dk_42 (dk_at dksX16_init_0 0 rfl rfl)
theorem dX16_init_1 : decode cX16_init 1 = .ok (.iload_n 1, 1) := dk_27 (dk_at dksX16_init_0 1 rfl rfl)
theorem dX16_init_2 : decode cX16_init 2 = .ok (.invokespecial 3, 3) := dk_183 0 3 (dk_at dksX16_init_0 2 rfl rfl)
theorem dX16_init_5 : decode cX16_init 5 = .ok (.aload_n 0, 1) := dk_42 (dk_at dksX16_init_0 5 rfl rfl)
theorem dX16_init_6 : decode cX16_init 6 = .ok (.aload_n 2, 1) := dk_44 (dk_at dksX16_init_0 6 rfl rfl)
theorem dX16_init_7 : decode cX16_init 7 = .ok (.putfield 9, 3) := dk_181 0 9 (dk_at dksX16_init_0 7 rfl rfl)
theorem dX16_init_10 : decode cX16_init 10 = .ok (.aload_n 0, 1) := dk_42 (dk_at dksX16_init_0 10 rfl rfl)
theorem dX16_init_11 : decode cX16_init 11 = .ok (.iload_n 3, 1) := dk_29 (dk_at dksX16_init_0 11 rfl rfl)
theorem dX16_init_12 : decode cX16_init 12 = .ok (.putfield 15, 3) := dk_181 0 15 (dk_at dksX16_init_0 12 rfl rfl)
theorem dX16_init_15 : decode cX16_init 15 = .ok (.return_, 1) := dk_177 (dk_at dksX16_init_0 15 rfl rfl)
abbrev cX16_isGood : ByteArray := prog_8_method_2_code
def yX16_isGood : MethodName := ⟨RX16, "isGood", "(LCoresAreWills$Core;)Z"⟩
def dkwX16_isGood_0 : List UInt8 := [43, 180, 0, 19, 8, 162, 0, 7, 4, 167, 0, 4, 3, 172]
abbrev dktX16_isGood_0 : List UInt8 := dkwX16_isGood_0 ++ []
theorem dksX16_isGood_0 : cX16_isGood.data.toList.drop 0 = dktX16_isGood_0 := by decide +kernel
theorem dX16_isGood_0 : decode cX16_isGood 0 = .ok (.aload_n 1, 1) := dk_43 (dk_at dksX16_isGood_0 0 rfl rfl)
theorem dX16_isGood_1 : decode cX16_isGood 1 = .ok (.getfield 19, 3) := dk_180 0 19 (dk_at dksX16_isGood_0 1 rfl rfl)
theorem dX16_isGood_4 : decode cX16_isGood 4 = .ok (.iconst 5, 1) := dk_8 (dk_at dksX16_isGood_0 4 rfl rfl)
theorem dX16_isGood_5 : decode cX16_isGood 5 = .ok (.if_icmp .ge 7, 3) := dk_162 0 7 (dk_at dksX16_isGood_0 5 rfl rfl)
theorem dX16_isGood_8 : decode cX16_isGood 8 = .ok (.iconst 1, 1) := dk_4 (dk_at dksX16_isGood_0 8 rfl rfl)
theorem dX16_isGood_9 : decode cX16_isGood 9 = .ok (.goto 4, 3) := dk_167 0 4 (dk_at dksX16_isGood_0 9 rfl rfl)
theorem dX16_isGood_12 : decode cX16_isGood 12 = .ok (.iconst 0, 1) := dk_3 (dk_at dksX16_isGood_0 12 rfl rfl)
theorem dX16_isGood_13 : decode cX16_isGood 13 = .ok (.ireturn, 1) := dk_172 (dk_at dksX16_isGood_0 13 rfl rfl)
abbrev cX16_become : ByteArray := prog_8_method_3_code
def yX16_become : MethodName := ⟨RX16, "become", "(LCoresAreWills$Core;)V"⟩
def dkwX16_become_0 : List UInt8 := [43, 42, 180, 0, 9, 42, 180, 0, 15, 182, 0, 24, 177]
abbrev dktX16_become_0 : List UInt8 := dkwX16_become_0 ++ []
theorem dksX16_become_0 : cX16_become.data.toList.drop 0 = dktX16_become_0 := by decide +kernel
theorem dX16_become_0 : decode cX16_become 0 = .ok (.aload_n 1, 1) := dk_43 (dk_at dksX16_become_0 0 rfl rfl)
theorem dX16_become_1 : decode cX16_become 1 = .ok (.aload_n 0, 1) := dk_42 (dk_at dksX16_become_0 1 rfl rfl)
theorem dX16_become_2 : decode cX16_become 2 = .ok (.getfield 9, 3) := dk_180 0 9 (dk_at dksX16_become_0 2 rfl rfl)
theorem dX16_become_5 : decode cX16_become 5 = .ok (.aload_n 0, 1) := dk_42 (dk_at dksX16_become_0 5 rfl rfl)
theorem dX16_become_6 : decode cX16_become 6 = .ok (.getfield 15, 3) := dk_180 0 15 (dk_at dksX16_become_0 6 rfl rfl)
theorem dX16_become_9 : decode cX16_become 9 = .ok (.invokevirtual 24, 3) := dk_182 0 24 (dk_at dksX16_become_0 9 rfl rfl)
theorem dX16_become_12 : decode cX16_become 12 = .ok (.return_, 1) := dk_177 (dk_at dksX16_become_0 12 rfl rfl)
theorem q121 : (Jvm.Cond.initialized "CoresAreWills$HeirTold") ∈ lw_all := lw_g (lw_at lw_m1 20 rfl) rfl
theorem q194 : (Jvm.Cond.fieldLinkNest "CoresAreWills$HeirTold" (19 : Nat) "CoresAreWills$Core" "heirs" "I" "CoresAreWills") ∈ lw_tbl := lw_at lw_m1 93 rfl
theorem q464 : (Jvm.Cond.instantiable "CoresAreWills$HeirTold" (3 : Nat)) ∈ lw_all := lw_g (lw_at lw_m2 123 rfl) rfl
theorem q475 : (Jvm.Cond.instanceMethod ({ cls := "CoresAreWills$HeirTold", name := "<init>", desc := "(ILCoresAreWills$Kind;I)V" } : Jvm.MethodName)) ∈ lw_all := lw_g (lw_at lw_m2 134 rfl) rfl
theorem q476 : (Jvm.Cond.code ({ cls := "CoresAreWills$HeirTold", name := "<init>", desc := "(ILCoresAreWills$Kind;I)V" } : Jvm.MethodName) prog_8_method_1_code (4 : Nat) (Option.none : Option Jvm.ClassFile.FieldType)) ∈ lw_all := lw_g (lw_at lw_m2 135 rfl) rfl
theorem q477 : (Jvm.Cond.methodLink "CoresAreWills$HeirTold" (3 : Nat) ({ cls := "CoresAreWills$Told", name := "<init>", desc := "(I)V" } : Jvm.MethodName)) ∈ lw_all := lw_g (lw_at lw_m2 136 rfl) rfl
theorem q478 : (Jvm.Cond.fieldLink "CoresAreWills$HeirTold" (9 : Nat) "CoresAreWills$HeirTold" "kind" "LCoresAreWills$Kind;") ∈ lw_all := lw_g (lw_at lw_m2 137 rfl) rfl
theorem q479 : (Jvm.Cond.fieldLink "CoresAreWills$HeirTold" (15 : Nat) "CoresAreWills$HeirTold" "figure" "I") ∈ lw_all := lw_g (lw_at lw_m2 138 rfl) rfl
theorem q480 : (Jvm.Cond.laysFinal "CoresAreWills$HeirTold" "CoresAreWills$HeirTold" "kind" "LCoresAreWills$Kind;") ∈ lw_all := lw_g (lw_at lw_m2 139 rfl) rfl
theorem q481 : (Jvm.Cond.soleField "CoresAreWills$HeirTold" "kind") ∈ lw_all := lw_g (lw_at lw_m2 140 rfl) rfl
theorem q482 : (Jvm.Cond.laysFinal "CoresAreWills$HeirTold" "CoresAreWills$HeirTold" "figure" "I") ∈ lw_all := lw_g (lw_at lw_m2 141 rfl) rfl
theorem q483 : (Jvm.Cond.soleField "CoresAreWills$HeirTold" "figure") ∈ lw_all := lw_g (lw_at lw_m2 142 rfl) rfl
theorem q484 : (Jvm.Cond.laysFinal "CoresAreWills$HeirTold" "CoresAreWills$Told" "start" "I") ∈ lw_all := lw_g (lw_at lw_m2 143 rfl) rfl
theorem q485 : (Jvm.Cond.superclass "CoresAreWills$HeirTold" "CoresAreWills$Told") ∈ lw_all := lw_g (lw_at lw_m2 144 rfl) rfl
theorem q547 : (Jvm.Cond.selects "CoresAreWills$HeirTold" ({ cls := "CoresAreWills$Told", name := "comes", desc := "(LCoresAreWills$Core;)Z" } : Jvm.MethodName) ({ cls := "CoresAreWills$Told", name := "comes", desc := "(LCoresAreWills$Core;)Z" } : Jvm.MethodName)) ∈ lw_all := lw_g (lw_at lw_m2 206 rfl) rfl
theorem q569 : (Jvm.Cond.selects "CoresAreWills$HeirTold" ({ cls := "CoresAreWills$Told", name := "isGood", desc := "(LCoresAreWills$Core;)Z" } : Jvm.MethodName) ({ cls := "CoresAreWills$HeirTold", name := "isGood", desc := "(LCoresAreWills$Core;)Z" } : Jvm.MethodName)) ∈ lw_all := lw_g (lw_at lw_m2 228 rfl) rfl
theorem q570 : (Jvm.Cond.instanceMethod ({ cls := "CoresAreWills$HeirTold", name := "isGood", desc := "(LCoresAreWills$Core;)Z" } : Jvm.MethodName)) ∈ lw_all := lw_g (lw_at lw_m2 229 rfl) rfl
theorem q571 : (Jvm.Cond.code ({ cls := "CoresAreWills$HeirTold", name := "isGood", desc := "(LCoresAreWills$Core;)Z" } : Jvm.MethodName) prog_8_method_2_code (2 : Nat) (Option.some Jvm.ClassFile.FieldType.boolean)) ∈ lw_all := lw_g (lw_at lw_m2 230 rfl) rfl
theorem q622 : (Jvm.Cond.selects "CoresAreWills$HeirTold" ({ cls := "CoresAreWills$Told", name := "become", desc := "(LCoresAreWills$Core;)V" } : Jvm.MethodName) ({ cls := "CoresAreWills$HeirTold", name := "become", desc := "(LCoresAreWills$Core;)V" } : Jvm.MethodName)) ∈ lw_all := lw_g (lw_at lw_m3 41 rfl) rfl
theorem q623 : (Jvm.Cond.instanceMethod ({ cls := "CoresAreWills$HeirTold", name := "become", desc := "(LCoresAreWills$Core;)V" } : Jvm.MethodName)) ∈ lw_all := lw_g (lw_at lw_m3 42 rfl) rfl
theorem q624 : (Jvm.Cond.code ({ cls := "CoresAreWills$HeirTold", name := "become", desc := "(LCoresAreWills$Core;)V" } : Jvm.MethodName) prog_8_method_3_code (2 : Nat) (Option.none : Option Jvm.ClassFile.FieldType)) ∈ lw_all := lw_g (lw_at lw_m3 43 rfl) rfl
theorem q625 : (Jvm.Cond.methodLink "CoresAreWills$HeirTold" (24 : Nat) ({ cls := "CoresAreWills$Core", name := "comes", desc := "(LCoresAreWills$Kind;I)V" } : Jvm.MethodName)) ∈ lw_all := lw_g (lw_at lw_m3 44 rfl) rfl
theorem q1595 : (Jvm.Cond.castable "CoresAreWills$HeirTold" "CoresAreWills$Told") ∈ lw_tbl := lw_at lw_m7 54 rfl
theorem in_X16 : ∀ w ∈ wsX160, w ∈ lw_all := lw_in wsX160 [484, 480, 482] (by decide +kernel) (by decide +kernel)

/-! CoresAreWills$HealTold -/
set_option maxRecDepth 100000
def RX17 : String := "CoresAreWills$HealTold"
def TX17 : u_T := fun k => match k with
  | 0 => ("CoresAreWills$Told", "start", "I", true)
  | _ => ("CoresAreWills$HealTold", "at", "I", true)
def tyX17 : Nat → FieldType := fun k => match k with
  | 0 => .int
  | _ => .int
abbrev wsX170 : List Cond := u_ws RX17 TX17 2
theorem nmX17 : ∀ a, a < 2 → ∀ b, b < 2 → a ≠ b → (TX17 a).2.1 ≠ (TX17 b).2.1 := by decide +kernel
theorem tyX17_ok : ∀ k, k < 2 → parseFieldDescriptor (TX17 k).2.2.1 = some (tyX17 k) := by decide +kernel
abbrev cX17_init : ByteArray := prog_7_method_1_code
def yX17_init : MethodName := ⟨RX17, "<init>", "(II)V"⟩
def dkwX17_init_0 : List UInt8 := [42, 27, 183, 0, 3, 42, 28, 181, 0, 9, 177]
abbrev dktX17_init_0 : List UInt8 := dkwX17_init_0 ++ []
theorem dksX17_init_0 : cX17_init.data.toList.drop 0 = dktX17_init_0 := by decide +kernel
theorem dX17_init_0 : decode cX17_init 0 = .ok (.aload_n 0, 1) := dk_42 (dk_at dksX17_init_0 0 rfl rfl)
theorem dX17_init_1 : decode cX17_init 1 = .ok (.iload_n 1, 1) := dk_27 (dk_at dksX17_init_0 1 rfl rfl)
theorem dX17_init_2 : decode cX17_init 2 = .ok (.invokespecial 3, 3) := dk_183 0 3 (dk_at dksX17_init_0 2 rfl rfl)
theorem dX17_init_5 : decode cX17_init 5 = .ok (.aload_n 0, 1) := dk_42 (dk_at dksX17_init_0 5 rfl rfl)
theorem dX17_init_6 : decode cX17_init 6 = .ok (.iload_n 2, 1) := dk_28 (dk_at dksX17_init_0 6 rfl rfl)
theorem dX17_init_7 : decode cX17_init 7 = .ok (.putfield 9, 3) := dk_181 0 9 (dk_at dksX17_init_0 7 rfl rfl)
theorem dX17_init_10 : decode cX17_init 10 = .ok (.return_, 1) := dk_177 (dk_at dksX17_init_0 10 rfl rfl)
abbrev cX17_isGood : ByteArray := prog_7_method_2_code
def yX17_isGood : MethodName := ⟨RX17, "isGood", "(LCoresAreWills$Core;)Z"⟩
def dkwX17_isGood_0 : List UInt8 := [42, 180, 0, 9, 16, 25, 162, 0, 7, 4, 167, 0, 4, 3, 172]
abbrev dktX17_isGood_0 : List UInt8 := dkwX17_isGood_0 ++ []
theorem dksX17_isGood_0 : cX17_isGood.data.toList.drop 0 = dktX17_isGood_0 := by decide +kernel
theorem dX17_isGood_0 : decode cX17_isGood 0 = .ok (.aload_n 0, 1) := dk_42 (dk_at dksX17_isGood_0 0 rfl rfl)
theorem dX17_isGood_1 : decode cX17_isGood 1 = .ok (.getfield 9, 3) := dk_180 0 9 (dk_at dksX17_isGood_0 1 rfl rfl)
theorem dX17_isGood_4 : decode cX17_isGood 4 = .ok (.bipush 25, 2) := dk_16 25 (dk_at dksX17_isGood_0 4 rfl rfl)
theorem dX17_isGood_6 : decode cX17_isGood 6 = .ok (.if_icmp .ge 7, 3) := dk_162 0 7 (dk_at dksX17_isGood_0 6 rfl rfl)
theorem dX17_isGood_9 : decode cX17_isGood 9 = .ok (.iconst 1, 1) := dk_4 (dk_at dksX17_isGood_0 9 rfl rfl)
theorem dX17_isGood_10 : decode cX17_isGood 10 = .ok (.goto 4, 3) := dk_167 0 4 (dk_at dksX17_isGood_0 10 rfl rfl)
theorem dX17_isGood_13 : decode cX17_isGood 13 = .ok (.iconst 0, 1) := dk_3 (dk_at dksX17_isGood_0 13 rfl rfl)
theorem dX17_isGood_14 : decode cX17_isGood 14 = .ok (.ireturn, 1) := dk_172 (dk_at dksX17_isGood_0 14 rfl rfl)
abbrev cX17_become : ByteArray := prog_7_method_3_code
def yX17_become : MethodName := ⟨RX17, "become", "(LCoresAreWills$Core;)V"⟩
def dkwX17_become_0 : List UInt8 := [43, 43, 180, 0, 15, 4, 42, 180, 0, 9, 120, 128, 182, 0, 20, 87, 177]
abbrev dktX17_become_0 : List UInt8 := dkwX17_become_0 ++ []
theorem dksX17_become_0 : cX17_become.data.toList.drop 0 = dktX17_become_0 := by decide +kernel
theorem dX17_become_0 : decode cX17_become 0 = .ok (.aload_n 1, 1) := dk_43 (dk_at dksX17_become_0 0 rfl rfl)
theorem dX17_become_1 : decode cX17_become 1 = .ok (.aload_n 1, 1) := dk_43 (dk_at dksX17_become_0 1 rfl rfl)
theorem dX17_become_2 : decode cX17_become 2 = .ok (.getfield 15, 3) := dk_180 0 15 (dk_at dksX17_become_0 2 rfl rfl)
theorem dX17_become_5 : decode cX17_become 5 = .ok (.iconst 1, 1) := dk_4 (dk_at dksX17_become_0 5 rfl rfl)
theorem dX17_become_6 : decode cX17_become 6 = .ok (.aload_n 0, 1) := dk_42 (dk_at dksX17_become_0 6 rfl rfl)
theorem dX17_become_7 : decode cX17_become 7 = .ok (.getfield 9, 3) := dk_180 0 9 (dk_at dksX17_become_0 7 rfl rfl)
theorem dX17_become_10 : decode cX17_become 10 = .ok (.ishl, 1) := dk_120 (dk_at dksX17_become_0 10 rfl rfl)
theorem dX17_become_11 : decode cX17_become 11 = .ok (.ior, 1) := dk_128 (dk_at dksX17_become_0 11 rfl rfl)
theorem dX17_become_12 : decode cX17_become 12 = .ok (.invokevirtual 20, 3) := dk_182 0 20 (dk_at dksX17_become_0 12 rfl rfl)
theorem dX17_become_15 : decode cX17_become 15 = .ok (.pop, 1) := dk_87 (dk_at dksX17_become_0 15 rfl rfl)
theorem dX17_become_16 : decode cX17_become 16 = .ok (.return_, 1) := dk_177 (dk_at dksX17_become_0 16 rfl rfl)
theorem q122 : (Jvm.Cond.initialized "CoresAreWills$HealTold") ∈ lw_all := lw_g (lw_at lw_m1 21 rfl) rfl
theorem q191 : (Jvm.Cond.fieldLinkNest "CoresAreWills$HealTold" (15 : Nat) "CoresAreWills$Core" "left" "I" "CoresAreWills") ∈ lw_tbl := lw_at lw_m1 90 rfl
theorem q491 : (Jvm.Cond.instantiable "CoresAreWills$HealTold" (2 : Nat)) ∈ lw_all := lw_g (lw_at lw_m2 150 rfl) rfl
theorem q497 : (Jvm.Cond.instanceMethod ({ cls := "CoresAreWills$HealTold", name := "<init>", desc := "(II)V" } : Jvm.MethodName)) ∈ lw_all := lw_g (lw_at lw_m2 156 rfl) rfl
theorem q498 : (Jvm.Cond.code ({ cls := "CoresAreWills$HealTold", name := "<init>", desc := "(II)V" } : Jvm.MethodName) prog_7_method_1_code (3 : Nat) (Option.none : Option Jvm.ClassFile.FieldType)) ∈ lw_all := lw_g (lw_at lw_m2 157 rfl) rfl
theorem q499 : (Jvm.Cond.methodLink "CoresAreWills$HealTold" (3 : Nat) ({ cls := "CoresAreWills$Told", name := "<init>", desc := "(I)V" } : Jvm.MethodName)) ∈ lw_all := lw_g (lw_at lw_m2 158 rfl) rfl
theorem q500 : (Jvm.Cond.fieldLink "CoresAreWills$HealTold" (9 : Nat) "CoresAreWills$HealTold" "at" "I") ∈ lw_all := lw_g (lw_at lw_m2 159 rfl) rfl
theorem q501 : (Jvm.Cond.laysFinal "CoresAreWills$HealTold" "CoresAreWills$HealTold" "at" "I") ∈ lw_all := lw_g (lw_at lw_m2 160 rfl) rfl
theorem q502 : (Jvm.Cond.soleField "CoresAreWills$HealTold" "at") ∈ lw_all := lw_g (lw_at lw_m2 161 rfl) rfl
theorem q503 : (Jvm.Cond.laysFinal "CoresAreWills$HealTold" "CoresAreWills$Told" "start" "I") ∈ lw_all := lw_g (lw_at lw_m2 162 rfl) rfl
theorem q504 : (Jvm.Cond.superclass "CoresAreWills$HealTold" "CoresAreWills$Told") ∈ lw_all := lw_g (lw_at lw_m2 163 rfl) rfl
theorem q546 : (Jvm.Cond.selects "CoresAreWills$HealTold" ({ cls := "CoresAreWills$Told", name := "comes", desc := "(LCoresAreWills$Core;)Z" } : Jvm.MethodName) ({ cls := "CoresAreWills$Told", name := "comes", desc := "(LCoresAreWills$Core;)Z" } : Jvm.MethodName)) ∈ lw_all := lw_g (lw_at lw_m2 205 rfl) rfl
theorem q566 : (Jvm.Cond.selects "CoresAreWills$HealTold" ({ cls := "CoresAreWills$Told", name := "isGood", desc := "(LCoresAreWills$Core;)Z" } : Jvm.MethodName) ({ cls := "CoresAreWills$HealTold", name := "isGood", desc := "(LCoresAreWills$Core;)Z" } : Jvm.MethodName)) ∈ lw_all := lw_g (lw_at lw_m2 225 rfl) rfl
theorem q567 : (Jvm.Cond.instanceMethod ({ cls := "CoresAreWills$HealTold", name := "isGood", desc := "(LCoresAreWills$Core;)Z" } : Jvm.MethodName)) ∈ lw_all := lw_g (lw_at lw_m2 226 rfl) rfl
theorem q568 : (Jvm.Cond.code ({ cls := "CoresAreWills$HealTold", name := "isGood", desc := "(LCoresAreWills$Core;)Z" } : Jvm.MethodName) prog_7_method_2_code (2 : Nat) (Option.some Jvm.ClassFile.FieldType.boolean)) ∈ lw_all := lw_g (lw_at lw_m2 227 rfl) rfl
theorem q618 : (Jvm.Cond.selects "CoresAreWills$HealTold" ({ cls := "CoresAreWills$Told", name := "become", desc := "(LCoresAreWills$Core;)V" } : Jvm.MethodName) ({ cls := "CoresAreWills$HealTold", name := "become", desc := "(LCoresAreWills$Core;)V" } : Jvm.MethodName)) ∈ lw_all := lw_g (lw_at lw_m3 37 rfl) rfl
theorem q619 : (Jvm.Cond.instanceMethod ({ cls := "CoresAreWills$HealTold", name := "become", desc := "(LCoresAreWills$Core;)V" } : Jvm.MethodName)) ∈ lw_all := lw_g (lw_at lw_m3 38 rfl) rfl
theorem q620 : (Jvm.Cond.code ({ cls := "CoresAreWills$HealTold", name := "become", desc := "(LCoresAreWills$Core;)V" } : Jvm.MethodName) prog_7_method_3_code (2 : Nat) (Option.none : Option Jvm.ClassFile.FieldType)) ∈ lw_all := lw_g (lw_at lw_m3 39 rfl) rfl
theorem q621 : (Jvm.Cond.methodLink "CoresAreWills$HealTold" (20 : Nat) ({ cls := "CoresAreWills$Core", name := "leave", desc := "(I)LCoresAreWills$Core;" } : Jvm.MethodName)) ∈ lw_all := lw_g (lw_at lw_m3 40 rfl) rfl
theorem q1596 : (Jvm.Cond.castable "CoresAreWills$HealTold" "CoresAreWills$Told") ∈ lw_tbl := lw_at lw_m7 55 rfl
theorem in_X17 : ∀ w ∈ wsX170, w ∈ lw_all := lw_in wsX170 [503, 501] (by decide +kernel) (by decide +kernel)

/-! CoresAreWills$RollTold -/
set_option maxRecDepth 100000
def RX18 : String := "CoresAreWills$RollTold"
def TX18 : u_T := fun k => match k with
  | 0 => ("CoresAreWills$Told", "start", "I", true)
  | _ => ("CoresAreWills$RollTold", "quarters", "I", true)
def tyX18 : Nat → FieldType := fun k => match k with
  | 0 => .int
  | _ => .int
abbrev wsX180 : List Cond := u_ws RX18 TX18 2
theorem nmX18 : ∀ a, a < 2 → ∀ b, b < 2 → a ≠ b → (TX18 a).2.1 ≠ (TX18 b).2.1 := by decide +kernel
theorem tyX18_ok : ∀ k, k < 2 → parseFieldDescriptor (TX18 k).2.2.1 = some (tyX18 k) := by decide +kernel
abbrev cX18_init : ByteArray := prog_17_method_1_code
def yX18_init : MethodName := ⟨RX18, "<init>", "(II)V"⟩
def dkwX18_init_0 : List UInt8 := [42, 27, 183, 0, 3, 42, 28, 181, 0, 9, 177]
abbrev dktX18_init_0 : List UInt8 := dkwX18_init_0 ++ []
theorem dksX18_init_0 : cX18_init.data.toList.drop 0 = dktX18_init_0 := by decide +kernel
theorem dX18_init_0 : decode cX18_init 0 = .ok (.aload_n 0, 1) := dk_42 (dk_at dksX18_init_0 0 rfl rfl)
theorem dX18_init_1 : decode cX18_init 1 = .ok (.iload_n 1, 1) := dk_27 (dk_at dksX18_init_0 1 rfl rfl)
theorem dX18_init_2 : decode cX18_init 2 = .ok (.invokespecial 3, 3) := dk_183 0 3 (dk_at dksX18_init_0 2 rfl rfl)
theorem dX18_init_5 : decode cX18_init 5 = .ok (.aload_n 0, 1) := dk_42 (dk_at dksX18_init_0 5 rfl rfl)
theorem dX18_init_6 : decode cX18_init 6 = .ok (.iload_n 2, 1) := dk_28 (dk_at dksX18_init_0 6 rfl rfl)
theorem dX18_init_7 : decode cX18_init 7 = .ok (.putfield 9, 3) := dk_181 0 9 (dk_at dksX18_init_0 7 rfl rfl)
theorem dX18_init_10 : decode cX18_init 10 = .ok (.return_, 1) := dk_177 (dk_at dksX18_init_0 10 rfl rfl)
abbrev cX18_isGood : ByteArray := prog_17_method_2_code
def yX18_isGood : MethodName := ⟨RX18, "isGood", "(LCoresAreWills$Core;)Z"⟩
def dkwX18_isGood_0 : List UInt8 := [42, 180, 0, 9, 133, 10, 20, 0, 15, 184, 0, 17, 172]
abbrev dktX18_isGood_0 : List UInt8 := dkwX18_isGood_0 ++ []
theorem dksX18_isGood_0 : cX18_isGood.data.toList.drop 0 = dktX18_isGood_0 := by decide +kernel
theorem dX18_isGood_0 : decode cX18_isGood 0 = .ok (.aload_n 0, 1) := dk_42 (dk_at dksX18_isGood_0 0 rfl rfl)
theorem dX18_isGood_1 : decode cX18_isGood 1 = .ok (.getfield 9, 3) := dk_180 0 9 (dk_at dksX18_isGood_0 1 rfl rfl)
theorem dX18_isGood_4 : decode cX18_isGood 4 = .ok (.i2l, 1) := dk_133 (dk_at dksX18_isGood_0 4 rfl rfl)
theorem dX18_isGood_5 : decode cX18_isGood 5 = .ok (.lconst 1, 1) := dk_10 (dk_at dksX18_isGood_0 5 rfl rfl)
theorem dX18_isGood_6 : decode cX18_isGood 6 = .ok (.ldc2_w 15, 3) := dk_20 0 15 (dk_at dksX18_isGood_0 6 rfl rfl)
theorem dX18_isGood_9 : decode cX18_isGood 9 = .ok (.invokestatic 17, 3) := dk_184 0 17 (dk_at dksX18_isGood_0 9 rfl rfl)
theorem dX18_isGood_12 : decode cX18_isGood 12 = .ok (.ireturn, 1) := dk_172 (dk_at dksX18_isGood_0 12 rfl rfl)
abbrev cX18_become : ByteArray := prog_17_method_3_code
def yX18_become : MethodName := ⟨RX18, "become", "(LCoresAreWills$Core;)V"⟩
def dkwX18_become_0 : List UInt8 := [43, 42, 180, 0, 9, 182, 0, 21, 177]
abbrev dktX18_become_0 : List UInt8 := dkwX18_become_0 ++ []
theorem dksX18_become_0 : cX18_become.data.toList.drop 0 = dktX18_become_0 := by decide +kernel
theorem dX18_become_0 : decode cX18_become 0 = .ok (.aload_n 1, 1) := dk_43 (dk_at dksX18_become_0 0 rfl rfl)
theorem dX18_become_1 : decode cX18_become 1 = .ok (.aload_n 0, 1) := dk_42 (dk_at dksX18_become_0 1 rfl rfl)
theorem dX18_become_2 : decode cX18_become 2 = .ok (.getfield 9, 3) := dk_180 0 9 (dk_at dksX18_become_0 2 rfl rfl)
theorem dX18_become_5 : decode cX18_become 5 = .ok (.invokevirtual 21, 3) := dk_182 0 21 (dk_at dksX18_become_0 5 rfl rfl)
theorem dX18_become_8 : decode cX18_become 8 = .ok (.return_, 1) := dk_177 (dk_at dksX18_become_0 8 rfl rfl)
theorem q123 : (Jvm.Cond.initialized "CoresAreWills$RollTold") ∈ lw_all := lw_g (lw_at lw_m1 22 rfl) rfl
theorem q506 : (Jvm.Cond.instantiable "CoresAreWills$RollTold" (2 : Nat)) ∈ lw_all := lw_g (lw_at lw_m2 165 rfl) rfl
theorem q508 : (Jvm.Cond.instanceMethod ({ cls := "CoresAreWills$RollTold", name := "<init>", desc := "(II)V" } : Jvm.MethodName)) ∈ lw_all := lw_g (lw_at lw_m2 167 rfl) rfl
theorem q509 : (Jvm.Cond.code ({ cls := "CoresAreWills$RollTold", name := "<init>", desc := "(II)V" } : Jvm.MethodName) prog_17_method_1_code (3 : Nat) (Option.none : Option Jvm.ClassFile.FieldType)) ∈ lw_all := lw_g (lw_at lw_m2 168 rfl) rfl
theorem q510 : (Jvm.Cond.methodLink "CoresAreWills$RollTold" (3 : Nat) ({ cls := "CoresAreWills$Told", name := "<init>", desc := "(I)V" } : Jvm.MethodName)) ∈ lw_all := lw_g (lw_at lw_m2 169 rfl) rfl
theorem q511 : (Jvm.Cond.fieldLink "CoresAreWills$RollTold" (9 : Nat) "CoresAreWills$RollTold" "quarters" "I") ∈ lw_all := lw_g (lw_at lw_m2 170 rfl) rfl
theorem q512 : (Jvm.Cond.laysFinal "CoresAreWills$RollTold" "CoresAreWills$RollTold" "quarters" "I") ∈ lw_all := lw_g (lw_at lw_m2 171 rfl) rfl
theorem q513 : (Jvm.Cond.soleField "CoresAreWills$RollTold" "quarters") ∈ lw_all := lw_g (lw_at lw_m2 172 rfl) rfl
theorem q514 : (Jvm.Cond.laysFinal "CoresAreWills$RollTold" "CoresAreWills$Told" "start" "I") ∈ lw_all := lw_g (lw_at lw_m2 173 rfl) rfl
theorem q515 : (Jvm.Cond.superclass "CoresAreWills$RollTold" "CoresAreWills$Told") ∈ lw_all := lw_g (lw_at lw_m2 174 rfl) rfl
theorem q548 : (Jvm.Cond.selects "CoresAreWills$RollTold" ({ cls := "CoresAreWills$Told", name := "comes", desc := "(LCoresAreWills$Core;)Z" } : Jvm.MethodName) ({ cls := "CoresAreWills$Told", name := "comes", desc := "(LCoresAreWills$Core;)Z" } : Jvm.MethodName)) ∈ lw_all := lw_g (lw_at lw_m2 207 rfl) rfl
theorem q572 : (Jvm.Cond.selects "CoresAreWills$RollTold" ({ cls := "CoresAreWills$Told", name := "isGood", desc := "(LCoresAreWills$Core;)Z" } : Jvm.MethodName) ({ cls := "CoresAreWills$RollTold", name := "isGood", desc := "(LCoresAreWills$Core;)Z" } : Jvm.MethodName)) ∈ lw_all := lw_g (lw_at lw_m2 231 rfl) rfl
theorem q573 : (Jvm.Cond.instanceMethod ({ cls := "CoresAreWills$RollTold", name := "isGood", desc := "(LCoresAreWills$Core;)Z" } : Jvm.MethodName)) ∈ lw_all := lw_g (lw_at lw_m2 232 rfl) rfl
theorem q574 : (Jvm.Cond.code ({ cls := "CoresAreWills$RollTold", name := "isGood", desc := "(LCoresAreWills$Core;)Z" } : Jvm.MethodName) prog_17_method_2_code (2 : Nat) (Option.some Jvm.ClassFile.FieldType.boolean)) ∈ lw_all := lw_g (lw_at lw_m2 233 rfl) rfl
theorem q575 : (Jvm.Cond.constantLong "CoresAreWills$RollTold" (15 : Nat) (3 : Int64)) ∈ lw_all := lw_g (lw_at lw_m2 234 rfl) rfl
theorem q576 : (Jvm.Cond.methodLinkNest "CoresAreWills$RollTold" (17 : Nat) ({ cls := "CoresAreWills", name := "in", desc := "(JJJ)Z" } : Jvm.MethodName) "CoresAreWills") ∈ lw_tbl := lw_at lw_m2 235 rfl
theorem q629 : (Jvm.Cond.selects "CoresAreWills$RollTold" ({ cls := "CoresAreWills$Told", name := "become", desc := "(LCoresAreWills$Core;)V" } : Jvm.MethodName) ({ cls := "CoresAreWills$RollTold", name := "become", desc := "(LCoresAreWills$Core;)V" } : Jvm.MethodName)) ∈ lw_all := lw_g (lw_at lw_m3 48 rfl) rfl
theorem q630 : (Jvm.Cond.instanceMethod ({ cls := "CoresAreWills$RollTold", name := "become", desc := "(LCoresAreWills$Core;)V" } : Jvm.MethodName)) ∈ lw_all := lw_g (lw_at lw_m3 49 rfl) rfl
theorem q631 : (Jvm.Cond.code ({ cls := "CoresAreWills$RollTold", name := "become", desc := "(LCoresAreWills$Core;)V" } : Jvm.MethodName) prog_17_method_3_code (2 : Nat) (Option.none : Option Jvm.ClassFile.FieldType)) ∈ lw_all := lw_g (lw_at lw_m3 50 rfl) rfl
theorem q632 : (Jvm.Cond.methodLink "CoresAreWills$RollTold" (21 : Nat) ({ cls := "CoresAreWills$Core", name := "roll", desc := "(I)V" } : Jvm.MethodName)) ∈ lw_all := lw_g (lw_at lw_m3 51 rfl) rfl
theorem q1597 : (Jvm.Cond.castable "CoresAreWills$RollTold" "CoresAreWills$Told") ∈ lw_tbl := lw_at lw_m7 56 rfl
theorem in_X18 : ∀ w ∈ wsX180, w ∈ lw_all := lw_in wsX180 [514, 512] (by decide +kernel) (by decide +kernel)

/-! CoresAreWills$BiteTold -/
set_option maxRecDepth 100000
def RX19 : String := "CoresAreWills$BiteTold"
def TX19 : u_T := fun k => match k with
  | 0 => ("CoresAreWills$Told", "start", "I", true)
  | 1 => ("CoresAreWills$BiteTold", "shape", "I", true)
  | _ => ("CoresAreWills$BiteTold", "at", "I", true)
def tyX19 : Nat → FieldType := fun k => match k with
  | 0 => .int
  | 1 => .int
  | _ => .int
abbrev wsX190 : List Cond := u_ws RX19 TX19 3
theorem nmX19 : ∀ a, a < 3 → ∀ b, b < 3 → a ≠ b → (TX19 a).2.1 ≠ (TX19 b).2.1 := by decide +kernel
theorem tyX19_ok : ∀ k, k < 3 → parseFieldDescriptor (TX19 k).2.2.1 = some (tyX19 k) := by decide +kernel
abbrev cX19_init : ByteArray := prog_3_method_1_code
def yX19_init : MethodName := ⟨RX19, "<init>", "(III)V"⟩
def dkwX19_init_0 : List UInt8 := [42, 27, 183, 0, 3, 42, 28, 181, 0, 9, 42, 29, 181, 0, 15, 177]
abbrev dktX19_init_0 : List UInt8 := dkwX19_init_0 ++ []
theorem dksX19_init_0 : cX19_init.data.toList.drop 0 = dktX19_init_0 := by decide +kernel
theorem dX19_init_0 : decode cX19_init 0 = .ok (.aload_n 0, 1) := dk_42 (dk_at dksX19_init_0 0 rfl rfl)
theorem dX19_init_1 : decode cX19_init 1 = .ok (.iload_n 1, 1) := dk_27 (dk_at dksX19_init_0 1 rfl rfl)
theorem dX19_init_2 : decode cX19_init 2 = .ok (.invokespecial 3, 3) := dk_183 0 3 (dk_at dksX19_init_0 2 rfl rfl)
theorem dX19_init_5 : decode cX19_init 5 = .ok (.aload_n 0, 1) := dk_42 (dk_at dksX19_init_0 5 rfl rfl)
theorem dX19_init_6 : decode cX19_init 6 = .ok (.iload_n 2, 1) := dk_28 (dk_at dksX19_init_0 6 rfl rfl)
theorem dX19_init_7 : decode cX19_init 7 = .ok (.putfield 9, 3) := dk_181 0 9 (dk_at dksX19_init_0 7 rfl rfl)
theorem dX19_init_10 : decode cX19_init 10 = .ok (.aload_n 0, 1) := dk_42 (dk_at dksX19_init_0 10 rfl rfl)
theorem dX19_init_11 : decode cX19_init 11 = .ok (.iload_n 3, 1) := dk_29 (dk_at dksX19_init_0 11 rfl rfl)
theorem dX19_init_12 : decode cX19_init 12 = .ok (.putfield 15, 3) := dk_181 0 15 (dk_at dksX19_init_0 12 rfl rfl)
theorem dX19_init_15 : decode cX19_init 15 = .ok (.return_, 1) := dk_177 (dk_at dksX19_init_0 15 rfl rfl)
abbrev cX19_isGood : ByteArray := prog_3_method_2_code
def yX19_isGood : MethodName := ⟨RX19, "isGood", "(LCoresAreWills$Core;)Z"⟩
def dkwX19_isGood_1 : List UInt8 := [180, 0, 15, 182, 0, 18, 153, 0, 7, 4, 167, 0, 4, 3, 172]
abbrev dktX19_isGood_1 : List UInt8 := dkwX19_isGood_1 ++ []
def dkwX19_isGood_0 : List UInt8 := [42, 180, 0, 9, 7, 162, 0, 31, 42, 180, 0, 15, 16, 25, 162, 0, 22, 43, 42, 180, 0, 9, 42]
abbrev dktX19_isGood_0 : List UInt8 := dkwX19_isGood_0 ++ dktX19_isGood_1
theorem dksX19_isGood_0 : cX19_isGood.data.toList.drop 0 = dktX19_isGood_0 := by decide +kernel
theorem dksX19_isGood_1 : cX19_isGood.data.toList.drop 23 = dktX19_isGood_1 := dk_seg dksX19_isGood_0 23 rfl rfl
theorem dX19_isGood_0 : decode cX19_isGood 0 = .ok (.aload_n 0, 1) := dk_42 (dk_at dksX19_isGood_0 0 rfl rfl)
theorem dX19_isGood_1 : decode cX19_isGood 1 = .ok (.getfield 9, 3) := dk_180 0 9 (dk_at dksX19_isGood_0 1 rfl rfl)
theorem dX19_isGood_4 : decode cX19_isGood 4 = .ok (.iconst 4, 1) := dk_7 (dk_at dksX19_isGood_0 4 rfl rfl)
theorem dX19_isGood_5 : decode cX19_isGood 5 = .ok (.if_icmp .ge 31, 3) := dk_162 0 31 (dk_at dksX19_isGood_0 5 rfl rfl)
theorem dX19_isGood_8 : decode cX19_isGood 8 = .ok (.aload_n 0, 1) := dk_42 (dk_at dksX19_isGood_0 8 rfl rfl)
theorem dX19_isGood_9 : decode cX19_isGood 9 = .ok (.getfield 15, 3) := dk_180 0 15 (dk_at dksX19_isGood_0 9 rfl rfl)
theorem dX19_isGood_12 : decode cX19_isGood 12 = .ok (.bipush 25, 2) := dk_16 25 (dk_at dksX19_isGood_0 12 rfl rfl)
theorem dX19_isGood_14 : decode cX19_isGood 14 = .ok (.if_icmp .ge 22, 3) := dk_162 0 22 (dk_at dksX19_isGood_0 14 rfl rfl)
theorem dX19_isGood_17 : decode cX19_isGood 17 = .ok (.aload_n 1, 1) := dk_43 (dk_at dksX19_isGood_0 17 rfl rfl)
theorem dX19_isGood_18 : decode cX19_isGood 18 = .ok (.aload_n 0, 1) := dk_42 (dk_at dksX19_isGood_0 18 rfl rfl)
theorem dX19_isGood_19 : decode cX19_isGood 19 = .ok (.getfield 9, 3) := dk_180 0 9 (dk_at dksX19_isGood_0 19 rfl rfl)
theorem dX19_isGood_22 : decode cX19_isGood 22 = .ok (.aload_n 0, 1) := dk_42 (dk_at dksX19_isGood_0 22 rfl rfl)
theorem dX19_isGood_23 : decode cX19_isGood 23 = .ok (.getfield 15, 3) := dk_180 0 15 (dk_at dksX19_isGood_1 0 rfl rfl)
theorem dX19_isGood_26 : decode cX19_isGood 26 = .ok (.invokevirtual 18, 3) := dk_182 0 18 (dk_at dksX19_isGood_1 3 rfl rfl)
theorem dX19_isGood_29 : decode cX19_isGood 29 = .ok (.ifCond .eq 7, 3) := dk_153 0 7 (dk_at dksX19_isGood_1 6 rfl rfl)
theorem dX19_isGood_32 : decode cX19_isGood 32 = .ok (.iconst 1, 1) := dk_4 (dk_at dksX19_isGood_1 9 rfl rfl)
theorem dX19_isGood_33 : decode cX19_isGood 33 = .ok (.goto 4, 3) := dk_167 0 4 (dk_at dksX19_isGood_1 10 rfl rfl)
theorem dX19_isGood_36 : decode cX19_isGood 36 = .ok (.iconst 0, 1) := dk_3 (dk_at dksX19_isGood_1 13 rfl rfl)
theorem dX19_isGood_37 : decode cX19_isGood 37 = .ok (.ireturn, 1) := dk_172 (dk_at dksX19_isGood_1 14 rfl rfl)
abbrev cX19_become : ByteArray := prog_3_method_3_code
def yX19_become : MethodName := ⟨RX19, "become", "(LCoresAreWills$Core;)V"⟩
def dkwX19_become_0 : List UInt8 := [43, 42, 180, 0, 9, 42, 180, 0, 15, 182, 0, 24, 177]
abbrev dktX19_become_0 : List UInt8 := dkwX19_become_0 ++ []
theorem dksX19_become_0 : cX19_become.data.toList.drop 0 = dktX19_become_0 := by decide +kernel
theorem dX19_become_0 : decode cX19_become 0 = .ok (.aload_n 1, 1) := dk_43 (dk_at dksX19_become_0 0 rfl rfl)
theorem dX19_become_1 : decode cX19_become 1 = .ok (.aload_n 0, 1) := dk_42 (dk_at dksX19_become_0 1 rfl rfl)
theorem dX19_become_2 : decode cX19_become 2 = .ok (.getfield 9, 3) := dk_180 0 9 (dk_at dksX19_become_0 2 rfl rfl)
theorem dX19_become_5 : decode cX19_become 5 = .ok (.aload_n 0, 1) := dk_42 (dk_at dksX19_become_0 5 rfl rfl)
theorem dX19_become_6 : decode cX19_become 6 = .ok (.getfield 15, 3) := dk_180 0 15 (dk_at dksX19_become_0 6 rfl rfl)
theorem dX19_become_9 : decode cX19_become 9 = .ok (.invokevirtual 24, 3) := dk_182 0 24 (dk_at dksX19_become_0 9 rfl rfl)
theorem dX19_become_12 : decode cX19_become 12 = .ok (.return_, 1) := dk_177 (dk_at dksX19_become_0 12 rfl rfl)
theorem q124 : (Jvm.Cond.initialized "CoresAreWills$BiteTold") ∈ lw_all := lw_g (lw_at lw_m1 23 rfl) rfl
theorem q517 : (Jvm.Cond.instantiable "CoresAreWills$BiteTold" (3 : Nat)) ∈ lw_all := lw_g (lw_at lw_m2 176 rfl) rfl
theorem q519 : (Jvm.Cond.instanceMethod ({ cls := "CoresAreWills$BiteTold", name := "<init>", desc := "(III)V" } : Jvm.MethodName)) ∈ lw_all := lw_g (lw_at lw_m2 178 rfl) rfl
theorem q520 : (Jvm.Cond.code ({ cls := "CoresAreWills$BiteTold", name := "<init>", desc := "(III)V" } : Jvm.MethodName) prog_3_method_1_code (4 : Nat) (Option.none : Option Jvm.ClassFile.FieldType)) ∈ lw_all := lw_g (lw_at lw_m2 179 rfl) rfl
theorem q521 : (Jvm.Cond.methodLink "CoresAreWills$BiteTold" (3 : Nat) ({ cls := "CoresAreWills$Told", name := "<init>", desc := "(I)V" } : Jvm.MethodName)) ∈ lw_all := lw_g (lw_at lw_m2 180 rfl) rfl
theorem q522 : (Jvm.Cond.fieldLink "CoresAreWills$BiteTold" (9 : Nat) "CoresAreWills$BiteTold" "shape" "I") ∈ lw_all := lw_g (lw_at lw_m2 181 rfl) rfl
theorem q523 : (Jvm.Cond.fieldLink "CoresAreWills$BiteTold" (15 : Nat) "CoresAreWills$BiteTold" "at" "I") ∈ lw_all := lw_g (lw_at lw_m2 182 rfl) rfl
theorem q524 : (Jvm.Cond.laysFinal "CoresAreWills$BiteTold" "CoresAreWills$BiteTold" "shape" "I") ∈ lw_all := lw_g (lw_at lw_m2 183 rfl) rfl
theorem q525 : (Jvm.Cond.soleField "CoresAreWills$BiteTold" "shape") ∈ lw_all := lw_g (lw_at lw_m2 184 rfl) rfl
theorem q526 : (Jvm.Cond.laysFinal "CoresAreWills$BiteTold" "CoresAreWills$BiteTold" "at" "I") ∈ lw_all := lw_g (lw_at lw_m2 185 rfl) rfl
theorem q527 : (Jvm.Cond.soleField "CoresAreWills$BiteTold" "at") ∈ lw_all := lw_g (lw_at lw_m2 186 rfl) rfl
theorem q528 : (Jvm.Cond.laysFinal "CoresAreWills$BiteTold" "CoresAreWills$Told" "start" "I") ∈ lw_all := lw_g (lw_at lw_m2 187 rfl) rfl
theorem q529 : (Jvm.Cond.superclass "CoresAreWills$BiteTold" "CoresAreWills$Told") ∈ lw_all := lw_g (lw_at lw_m2 188 rfl) rfl
theorem q545 : (Jvm.Cond.selects "CoresAreWills$BiteTold" ({ cls := "CoresAreWills$Told", name := "comes", desc := "(LCoresAreWills$Core;)Z" } : Jvm.MethodName) ({ cls := "CoresAreWills$Told", name := "comes", desc := "(LCoresAreWills$Core;)Z" } : Jvm.MethodName)) ∈ lw_all := lw_g (lw_at lw_m2 204 rfl) rfl
theorem q556 : (Jvm.Cond.selects "CoresAreWills$BiteTold" ({ cls := "CoresAreWills$Told", name := "isGood", desc := "(LCoresAreWills$Core;)Z" } : Jvm.MethodName) ({ cls := "CoresAreWills$BiteTold", name := "isGood", desc := "(LCoresAreWills$Core;)Z" } : Jvm.MethodName)) ∈ lw_all := lw_g (lw_at lw_m2 215 rfl) rfl
theorem q557 : (Jvm.Cond.instanceMethod ({ cls := "CoresAreWills$BiteTold", name := "isGood", desc := "(LCoresAreWills$Core;)Z" } : Jvm.MethodName)) ∈ lw_all := lw_g (lw_at lw_m2 216 rfl) rfl
theorem q558 : (Jvm.Cond.code ({ cls := "CoresAreWills$BiteTold", name := "isGood", desc := "(LCoresAreWills$Core;)Z" } : Jvm.MethodName) prog_3_method_2_code (2 : Nat) (Option.some Jvm.ClassFile.FieldType.boolean)) ∈ lw_all := lw_g (lw_at lw_m2 217 rfl) rfl
theorem q559 : (Jvm.Cond.methodLink "CoresAreWills$BiteTold" (18 : Nat) ({ cls := "CoresAreWills$Core", name := "canBite", desc := "(II)Z" } : Jvm.MethodName)) ∈ lw_all := lw_g (lw_at lw_m2 218 rfl) rfl
theorem q610 : (Jvm.Cond.selects "CoresAreWills$BiteTold" ({ cls := "CoresAreWills$Told", name := "become", desc := "(LCoresAreWills$Core;)V" } : Jvm.MethodName) ({ cls := "CoresAreWills$BiteTold", name := "become", desc := "(LCoresAreWills$Core;)V" } : Jvm.MethodName)) ∈ lw_all := lw_g (lw_at lw_m3 29 rfl) rfl
theorem q611 : (Jvm.Cond.instanceMethod ({ cls := "CoresAreWills$BiteTold", name := "become", desc := "(LCoresAreWills$Core;)V" } : Jvm.MethodName)) ∈ lw_all := lw_g (lw_at lw_m3 30 rfl) rfl
theorem q612 : (Jvm.Cond.code ({ cls := "CoresAreWills$BiteTold", name := "become", desc := "(LCoresAreWills$Core;)V" } : Jvm.MethodName) prog_3_method_3_code (2 : Nat) (Option.none : Option Jvm.ClassFile.FieldType)) ∈ lw_all := lw_g (lw_at lw_m3 31 rfl) rfl
theorem q613 : (Jvm.Cond.methodLink "CoresAreWills$BiteTold" (24 : Nat) ({ cls := "CoresAreWills$Core", name := "bite", desc := "(II)V" } : Jvm.MethodName)) ∈ lw_all := lw_g (lw_at lw_m3 32 rfl) rfl
theorem q1598 : (Jvm.Cond.castable "CoresAreWills$BiteTold" "CoresAreWills$Told") ∈ lw_tbl := lw_at lw_m7 57 rfl
theorem in_X19 : ∀ w ∈ wsX190, w ∈ lw_all := lw_in wsX190 [528, 524, 526] (by decide +kernel) (by decide +kernel)

/-! java/lang/Throwable -/
set_option maxRecDepth 100000
def RJ0 : String := "java/lang/Throwable"
def TJ0 : u_T := fun k => match k with
  | 0 => ("java/lang/Throwable", "cause", "Ljava/lang/Throwable;", false)
  | 1 => ("java/lang/Throwable", "stackTrace", "[Ljava/lang/StackTraceElement;", false)
  | 2 => ("java/lang/Throwable", "suppressedExceptions", "Ljava/util/List;", false)
  | 3 => ("java/lang/Throwable", "detailMessage", "Ljava/lang/String;", false)
  | _ => ("java/lang/Throwable", "backtrace", "Ljava/lang/Object;", false)
def tyJ0 : Nat → FieldType := fun k => match k with
  | 0 => .object "java/lang/Throwable"
  | 1 => .array (.object "java/lang/StackTraceElement")
  | 2 => .object "java/util/List"
  | 3 => .object "java/lang/String"
  | _ => .object "java/lang/Object"
abbrev wsJ00 : List Cond := u_ws RJ0 TJ0 5
theorem nmJ0 : ∀ a, a < 5 → ∀ b, b < 5 → a ≠ b → (TJ0 a).2.1 ≠ (TJ0 b).2.1 := by decide +kernel
theorem tyJ0_ok : ∀ k, k < 5 → parseFieldDescriptor (TJ0 k).2.2.1 = some (tyJ0 k) := by decide +kernel
abbrev cJ0_init : ByteArray := prog_26_method_1_code
def yJ0_init : MethodName := ⟨RJ0, "<init>", "()V"⟩
def dkwJ0_init_1 : List UInt8 := [182, 0, 27, 87, 177]
abbrev dktJ0_init_1 : List UInt8 := dkwJ0_init_1 ++ []
def dkwJ0_init_0 : List UInt8 := [42, 183, 0, 1, 42, 42, 181, 0, 7, 42, 178, 0, 13, 181, 0, 17, 42, 178, 0, 20, 181, 0, 24, 42]
abbrev dktJ0_init_0 : List UInt8 := dkwJ0_init_0 ++ dktJ0_init_1
theorem dksJ0_init_0 : cJ0_init.data.toList.drop 0 = dktJ0_init_0 := by decide +kernel
theorem dksJ0_init_1 : cJ0_init.data.toList.drop 24 = dktJ0_init_1 := dk_seg dksJ0_init_0 24 rfl rfl
theorem dJ0_init_0 : decode cJ0_init 0 = .ok (.aload_n 0, 1) := dk_42 (dk_at dksJ0_init_0 0 rfl rfl)
theorem dJ0_init_1 : decode cJ0_init 1 = .ok (.invokespecial 1, 3) := dk_183 0 1 (dk_at dksJ0_init_0 1 rfl rfl)
theorem dJ0_init_4 : decode cJ0_init 4 = .ok (.aload_n 0, 1) := dk_42 (dk_at dksJ0_init_0 4 rfl rfl)
theorem dJ0_init_5 : decode cJ0_init 5 = .ok (.aload_n 0, 1) := dk_42 (dk_at dksJ0_init_0 5 rfl rfl)
theorem dJ0_init_6 : decode cJ0_init 6 = .ok (.putfield 7, 3) := dk_181 0 7 (dk_at dksJ0_init_0 6 rfl rfl)
theorem dJ0_init_9 : decode cJ0_init 9 = .ok (.aload_n 0, 1) := dk_42 (dk_at dksJ0_init_0 9 rfl rfl)
theorem dJ0_init_10 : decode cJ0_init 10 = .ok (.getstatic 13, 3) := dk_178 0 13 (dk_at dksJ0_init_0 10 rfl rfl)
theorem dJ0_init_13 : decode cJ0_init 13 = .ok (.putfield 17, 3) := dk_181 0 17 (dk_at dksJ0_init_0 13 rfl rfl)
theorem dJ0_init_16 : decode cJ0_init 16 = .ok (.aload_n 0, 1) := dk_42 (dk_at dksJ0_init_0 16 rfl rfl)
theorem dJ0_init_17 : decode cJ0_init 17 = .ok (.getstatic 20, 3) := dk_178 0 20 (dk_at dksJ0_init_0 17 rfl rfl)
theorem dJ0_init_20 : decode cJ0_init 20 = .ok (.putfield 24, 3) := dk_181 0 24 (dk_at dksJ0_init_0 20 rfl rfl)
theorem dJ0_init_23 : decode cJ0_init 23 = .ok (.aload_n 0, 1) := dk_42 (dk_at dksJ0_init_0 23 rfl rfl)
theorem dJ0_init_24 : decode cJ0_init 24 = .ok (.invokevirtual 27, 3) := dk_182 0 27 (dk_at dksJ0_init_1 0 rfl rfl)
theorem dJ0_init_27 : decode cJ0_init 27 = .ok (.pop, 1) := dk_87 (dk_at dksJ0_init_1 3 rfl rfl)
theorem dJ0_init_28 : decode cJ0_init 28 = .ok (.return_, 1) := dk_177 (dk_at dksJ0_init_1 4 rfl rfl)
theorem q112 : (Jvm.Cond.initialized "java/lang/Throwable") ∈ lw_all := lw_g (lw_at lw_m1 11 rfl) rfl
theorem q326 : (Jvm.Cond.declares ({ cls := "java/lang/Throwable", name := "<init>", desc := "()V" } : Jvm.MethodName)) ∈ lw_tbl := lw_at lw_m1 225 rfl
theorem q327 : (Jvm.Cond.declares ({ cls := "java/lang/Throwable", name := "<init>", desc := "(Ljava/lang/String;)V" } : Jvm.MethodName)) ∈ lw_tbl := lw_at lw_m1 226 rfl
theorem q331 : (Jvm.Cond.lays "java/lang/Throwable" "java/lang/Throwable" "cause" "Ljava/lang/Throwable;") ∈ lw_all := lw_g (lw_at lw_m1 230 rfl) rfl
theorem q333 : (Jvm.Cond.lays "java/lang/Throwable" "java/lang/Throwable" "stackTrace" "[Ljava/lang/StackTraceElement;") ∈ lw_all := lw_g (lw_at lw_m1 232 rfl) rfl
theorem q335 : (Jvm.Cond.lays "java/lang/Throwable" "java/lang/Throwable" "suppressedExceptions" "Ljava/util/List;") ∈ lw_all := lw_g (lw_at lw_m1 234 rfl) rfl
theorem q337 : (Jvm.Cond.lays "java/lang/Throwable" "java/lang/Throwable" "detailMessage" "Ljava/lang/String;") ∈ lw_all := lw_g (lw_at lw_m1 236 rfl) rfl
theorem q339 : (Jvm.Cond.lays "java/lang/Throwable" "java/lang/Throwable" "backtrace" "Ljava/lang/Object;") ∈ lw_all := lw_g (lw_at lw_m1 238 rfl) rfl
theorem q340 : (Jvm.Cond.fieldLink "java/lang/Throwable" (198 : Nat) "java/lang/Throwable" "backtrace" "Ljava/lang/Object;") ∈ lw_all := lw_g (lw_at lw_m1 239 rfl) rfl
theorem q341 : (Jvm.Cond.superclass "java/lang/Throwable" "java/lang/Object") ∈ lw_all := lw_g (lw_at lw_m2 0 rfl) rfl
theorem q342 : (Jvm.Cond.instanceMethod ({ cls := "java/lang/Throwable", name := "<init>", desc := "()V" } : Jvm.MethodName)) ∈ lw_all := lw_g (lw_at lw_m2 1 rfl) rfl
theorem q343 : (Jvm.Cond.code ({ cls := "java/lang/Throwable", name := "<init>", desc := "()V" } : Jvm.MethodName) prog_26_method_1_code (1 : Nat) (Option.none : Option Jvm.ClassFile.FieldType)) ∈ lw_all := lw_g (lw_at lw_m2 2 rfl) rfl
theorem q344 : (Jvm.Cond.methodLink "java/lang/Throwable" (1 : Nat) ({ cls := "java/lang/Object", name := "<init>", desc := "()V" } : Jvm.MethodName)) ∈ lw_all := lw_g (lw_at lw_m2 3 rfl) rfl
theorem q345 : (Jvm.Cond.fieldLink "java/lang/Throwable" (13 : Nat) "java/lang/Throwable" "UNASSIGNED_STACK" "[Ljava/lang/StackTraceElement;") ∈ lw_all := lw_g (lw_at lw_m2 4 rfl) rfl
theorem q346 : (Jvm.Cond.laysStatic "java/lang/Throwable" "UNASSIGNED_STACK" "[Ljava/lang/StackTraceElement;") ∈ lw_tbl := lw_at lw_m2 5 rfl
theorem q347 : (Jvm.Cond.fieldLink "java/lang/Throwable" (20 : Nat) "java/lang/Throwable" "SUPPRESSED_SENTINEL" "Ljava/util/List;") ∈ lw_all := lw_g (lw_at lw_m2 6 rfl) rfl
theorem q348 : (Jvm.Cond.laysStatic "java/lang/Throwable" "SUPPRESSED_SENTINEL" "Ljava/util/List;") ∈ lw_tbl := lw_at lw_m2 7 rfl
theorem q349 : (Jvm.Cond.methodLink "java/lang/Throwable" (27 : Nat) ({ cls := "java/lang/Throwable", name := "fillInStackTrace", desc := "()Ljava/lang/Throwable;" } : Jvm.MethodName)) ∈ lw_all := lw_g (lw_at lw_m2 8 rfl) rfl
theorem q350 : (Jvm.Cond.instanceMethod ({ cls := "java/lang/Throwable", name := "fillInStackTrace", desc := "()Ljava/lang/Throwable;" } : Jvm.MethodName)) ∈ lw_all := lw_g (lw_at lw_m2 9 rfl) rfl
theorem q351 : (Jvm.Cond.sameMethod "java/lang/Throwable" "java/lang/Throwable" "fillInStackTrace" "()Ljava/lang/Throwable;") ∈ lw_all := lw_g (lw_at lw_m2 10 rfl) rfl
theorem q353 : (Jvm.Cond.codeSync ({ cls := "java/lang/Throwable", name := "fillInStackTrace", desc := "()Ljava/lang/Throwable;" } : Jvm.MethodName) prog_26_method_18_code (1 : Nat) (Option.some (Jvm.ClassFile.FieldType.object "java/lang/Throwable"))) ∈ lw_all := lw_g (lw_at lw_m2 12 rfl) rfl
theorem q354 : (Jvm.Cond.methodLink "java/lang/Throwable" (202 : Nat) ({ cls := "java/lang/Throwable", name := "fillInStackTrace", desc := "(I)Ljava/lang/Throwable;" } : Jvm.MethodName)) ∈ lw_all := lw_g (lw_at lw_m2 13 rfl) rfl
theorem q355 : (Jvm.Cond.privateMethod ({ cls := "java/lang/Throwable", name := "fillInStackTrace", desc := "(I)Ljava/lang/Throwable;" } : Jvm.MethodName)) ∈ lw_tbl := lw_at lw_m2 14 rfl
theorem q356 : (Jvm.Cond.instanceMethod ({ cls := "java/lang/Throwable", name := "fillInStackTrace", desc := "(I)Ljava/lang/Throwable;" } : Jvm.MethodName)) ∈ lw_all := lw_g (lw_at lw_m2 15 rfl) rfl
theorem q357 : (Jvm.Cond.instantiable "java/lang/Throwable" (6 : Nat)) ∈ lw_all := lw_g (lw_at lw_m2 16 rfl) rfl
theorem q358 : (Jvm.Cond.native ({ cls := "java/lang/Throwable", name := "fillInStackTrace", desc := "(I)Ljava/lang/Throwable;" } : Jvm.MethodName)) ∈ lw_all := lw_g (lw_at lw_m2 17 rfl) rfl
theorem q373 : (Jvm.Cond.fieldLink "java/lang/Throwable" (198 : Nat) "java/lang/Throwable" "backtrace" "Ljava/lang/Object;") ∈ lw_all := lw_g (lw_at lw_m2 32 rfl) rfl
theorem q374 : (Jvm.Cond.fieldLink "java/lang/Throwable" (7 : Nat) "java/lang/Throwable" "cause" "Ljava/lang/Throwable;") ∈ lw_all := lw_g (lw_at lw_m2 33 rfl) rfl
theorem q375 : (Jvm.Cond.fieldLink "java/lang/Throwable" (17 : Nat) "java/lang/Throwable" "stackTrace" "[Ljava/lang/StackTraceElement;") ∈ lw_all := lw_g (lw_at lw_m2 34 rfl) rfl
theorem q376 : (Jvm.Cond.fieldLink "java/lang/Throwable" (24 : Nat) "java/lang/Throwable" "suppressedExceptions" "Ljava/util/List;") ∈ lw_all := lw_g (lw_at lw_m2 35 rfl) rfl
theorem q379 : (Jvm.Cond.soleField "java/lang/Throwable" "backtrace") ∈ lw_all := lw_g (lw_at lw_m2 38 rfl) rfl
theorem q380 : (Jvm.Cond.soleField "java/lang/Throwable" "detailMessage") ∈ lw_all := lw_g (lw_at lw_m2 39 rfl) rfl
theorem q381 : (Jvm.Cond.soleField "java/lang/Throwable" "cause") ∈ lw_all := lw_g (lw_at lw_m2 40 rfl) rfl
theorem q382 : (Jvm.Cond.soleField "java/lang/Throwable" "stackTrace") ∈ lw_all := lw_g (lw_at lw_m2 41 rfl) rfl
theorem q384 : (Jvm.Cond.soleField "java/lang/Throwable" "depth") ∈ lw_all := lw_g (lw_at lw_m2 43 rfl) rfl
theorem q385 : (Jvm.Cond.soleField "java/lang/Throwable" "suppressedExceptions") ∈ lw_all := lw_g (lw_at lw_m2 44 rfl) rfl
theorem q1582 : (Jvm.Cond.sameMethod "java/lang/Throwable" "java/lang/Throwable" "fillInStackTrace" "(I)Ljava/lang/Throwable;") ∈ lw_all := lw_g (lw_at lw_m7 41 rfl) rfl
theorem in_J0 : ∀ w ∈ wsJ00, w ∈ lw_all := lw_in wsJ00 [331, 333, 335, 337, 339] (by decide +kernel) (by decide +kernel)

/-! java/lang/Exception -/
set_option maxRecDepth 100000
def RJ1 : String := "java/lang/Exception"
abbrev cJ1_init : ByteArray := prog_22_method_1_code
def yJ1_init : MethodName := ⟨RJ1, "<init>", "()V"⟩
theorem dJ1_init_0 : decode cJ1_init 0 = .ok (.aload_n 0, 1) := by decide +kernel
theorem dJ1_init_1 : decode cJ1_init 1 = .ok (.invokespecial 1, 3) := by decide +kernel
theorem dJ1_init_4 : decode cJ1_init 4 = .ok (.return_, 1) := by decide +kernel
theorem q113 : (Jvm.Cond.initialized "java/lang/Exception") ∈ lw_all := lw_g (lw_at lw_m1 12 rfl) rfl
theorem q324 : (Jvm.Cond.declares ({ cls := "java/lang/Exception", name := "<init>", desc := "()V" } : Jvm.MethodName)) ∈ lw_tbl := lw_at lw_m1 223 rfl
theorem q325 : (Jvm.Cond.declares ({ cls := "java/lang/Exception", name := "<init>", desc := "(Ljava/lang/String;)V" } : Jvm.MethodName)) ∈ lw_tbl := lw_at lw_m1 224 rfl
theorem q369 : (Jvm.Cond.instanceMethod ({ cls := "java/lang/Exception", name := "<init>", desc := "()V" } : Jvm.MethodName)) ∈ lw_all := lw_g (lw_at lw_m2 28 rfl) rfl
theorem q370 : (Jvm.Cond.code ({ cls := "java/lang/Exception", name := "<init>", desc := "()V" } : Jvm.MethodName) prog_22_method_1_code (1 : Nat) (Option.none : Option Jvm.ClassFile.FieldType)) ∈ lw_all := lw_g (lw_at lw_m2 29 rfl) rfl
theorem q371 : (Jvm.Cond.methodLink "java/lang/Exception" (1 : Nat) ({ cls := "java/lang/Throwable", name := "<init>", desc := "()V" } : Jvm.MethodName)) ∈ lw_all := lw_g (lw_at lw_m2 30 rfl) rfl

/-! java/lang/RuntimeException -/
set_option maxRecDepth 100000
def RJ2 : String := "java/lang/RuntimeException"
abbrev cJ2_init : ByteArray := prog_24_method_1_code
def yJ2_init : MethodName := ⟨RJ2, "<init>", "()V"⟩
theorem dJ2_init_0 : decode cJ2_init 0 = .ok (.aload_n 0, 1) := by decide +kernel
theorem dJ2_init_1 : decode cJ2_init 1 = .ok (.invokespecial 1, 3) := by decide +kernel
theorem dJ2_init_4 : decode cJ2_init 4 = .ok (.return_, 1) := by decide +kernel
theorem q114 : (Jvm.Cond.initialized "java/lang/RuntimeException") ∈ lw_all := lw_g (lw_at lw_m1 13 rfl) rfl
theorem q322 : (Jvm.Cond.declares ({ cls := "java/lang/RuntimeException", name := "<init>", desc := "()V" } : Jvm.MethodName)) ∈ lw_tbl := lw_at lw_m1 221 rfl
theorem q323 : (Jvm.Cond.declares ({ cls := "java/lang/RuntimeException", name := "<init>", desc := "(Ljava/lang/String;)V" } : Jvm.MethodName)) ∈ lw_tbl := lw_at lw_m1 222 rfl
theorem q366 : (Jvm.Cond.instanceMethod ({ cls := "java/lang/RuntimeException", name := "<init>", desc := "()V" } : Jvm.MethodName)) ∈ lw_all := lw_g (lw_at lw_m2 25 rfl) rfl
theorem q367 : (Jvm.Cond.code ({ cls := "java/lang/RuntimeException", name := "<init>", desc := "()V" } : Jvm.MethodName) prog_24_method_1_code (1 : Nat) (Option.none : Option Jvm.ClassFile.FieldType)) ∈ lw_all := lw_g (lw_at lw_m2 26 rfl) rfl
theorem q368 : (Jvm.Cond.methodLink "java/lang/RuntimeException" (1 : Nat) ({ cls := "java/lang/Exception", name := "<init>", desc := "()V" } : Jvm.MethodName)) ∈ lw_all := lw_g (lw_at lw_m2 27 rfl) rfl

/-! java/lang/Math -/
set_option maxRecDepth 100000
def RJ3 : String := "java/lang/Math"
abbrev cJ3_min : ByteArray := prog_23_method_69_code
def yJ3_min : MethodName := ⟨RJ3, "min", "(II)I"⟩
def dkwJ3_min_0 : List UInt8 := [26, 27, 163, 0, 7, 26, 167, 0, 4, 27, 172]
abbrev dktJ3_min_0 : List UInt8 := dkwJ3_min_0 ++ []
theorem dksJ3_min_0 : cJ3_min.data.toList.drop 0 = dktJ3_min_0 := by decide +kernel
theorem dJ3_min_0 : decode cJ3_min 0 = .ok (.iload_n 0, 1) := dk_26 (dk_at dksJ3_min_0 0 rfl rfl)
theorem dJ3_min_1 : decode cJ3_min 1 = .ok (.iload_n 1, 1) := dk_27 (dk_at dksJ3_min_0 1 rfl rfl)
theorem dJ3_min_2 : decode cJ3_min 2 = .ok (.if_icmp .gt 7, 3) := dk_163 0 7 (dk_at dksJ3_min_0 2 rfl rfl)
theorem dJ3_min_5 : decode cJ3_min 5 = .ok (.iload_n 0, 1) := dk_26 (dk_at dksJ3_min_0 5 rfl rfl)
theorem dJ3_min_6 : decode cJ3_min 6 = .ok (.goto 4, 3) := dk_167 0 4 (dk_at dksJ3_min_0 6 rfl rfl)
theorem dJ3_min_9 : decode cJ3_min 9 = .ok (.iload_n 1, 1) := dk_27 (dk_at dksJ3_min_0 9 rfl rfl)
theorem dJ3_min_10 : decode cJ3_min 10 = .ok (.ireturn, 1) := dk_172 (dk_at dksJ3_min_0 10 rfl rfl)
abbrev cJ3_max : ByteArray := prog_23_method_65_code
def yJ3_max : MethodName := ⟨RJ3, "max", "(II)I"⟩
def dkwJ3_max_0 : List UInt8 := [26, 27, 161, 0, 7, 26, 167, 0, 4, 27, 172]
abbrev dktJ3_max_0 : List UInt8 := dkwJ3_max_0 ++ []
theorem dksJ3_max_0 : cJ3_max.data.toList.drop 0 = dktJ3_max_0 := by decide +kernel
theorem dJ3_max_0 : decode cJ3_max 0 = .ok (.iload_n 0, 1) := dk_26 (dk_at dksJ3_max_0 0 rfl rfl)
theorem dJ3_max_1 : decode cJ3_max 1 = .ok (.iload_n 1, 1) := dk_27 (dk_at dksJ3_max_0 1 rfl rfl)
theorem dJ3_max_2 : decode cJ3_max 2 = .ok (.if_icmp .lt 7, 3) := dk_161 0 7 (dk_at dksJ3_max_0 2 rfl rfl)
theorem dJ3_max_5 : decode cJ3_max 5 = .ok (.iload_n 0, 1) := dk_26 (dk_at dksJ3_max_0 5 rfl rfl)
theorem dJ3_max_6 : decode cJ3_max 6 = .ok (.goto 4, 3) := dk_167 0 4 (dk_at dksJ3_max_0 6 rfl rfl)
theorem dJ3_max_9 : decode cJ3_max 9 = .ok (.iload_n 1, 1) := dk_27 (dk_at dksJ3_max_0 9 rfl rfl)
theorem dJ3_max_10 : decode cJ3_max 10 = .ok (.ireturn, 1) := dk_172 (dk_at dksJ3_max_0 10 rfl rfl)
abbrev cJ3_abs : ByteArray := prog_23_method_59_code
def yJ3_abs : MethodName := ⟨RJ3, "abs", "(I)I"⟩
def dkwJ3_abs_0 : List UInt8 := [26, 156, 0, 8, 26, 116, 167, 0, 4, 26, 172]
abbrev dktJ3_abs_0 : List UInt8 := dkwJ3_abs_0 ++ []
theorem dksJ3_abs_0 : cJ3_abs.data.toList.drop 0 = dktJ3_abs_0 := by decide +kernel
theorem dJ3_abs_0 : decode cJ3_abs 0 = .ok (.iload_n 0, 1) := dk_26 (dk_at dksJ3_abs_0 0 rfl rfl)
theorem dJ3_abs_1 : decode cJ3_abs 1 = .ok (.ifCond .ge 8, 3) := dk_156 0 8 (dk_at dksJ3_abs_0 1 rfl rfl)
theorem dJ3_abs_4 : decode cJ3_abs 4 = .ok (.iload_n 0, 1) := dk_26 (dk_at dksJ3_abs_0 4 rfl rfl)
theorem dJ3_abs_5 : decode cJ3_abs 5 = .ok (.ineg, 1) := dk_116 (dk_at dksJ3_abs_0 5 rfl rfl)
theorem dJ3_abs_6 : decode cJ3_abs 6 = .ok (.goto 4, 3) := dk_167 0 4 (dk_at dksJ3_abs_0 6 rfl rfl)
theorem dJ3_abs_9 : decode cJ3_abs 9 = .ok (.iload_n 0, 1) := dk_26 (dk_at dksJ3_abs_0 9 rfl rfl)
theorem dJ3_abs_10 : decode cJ3_abs 10 = .ok (.ireturn, 1) := dk_172 (dk_at dksJ3_abs_0 10 rfl rfl)
theorem q126 : (Jvm.Cond.initialized "java/lang/Math") ∈ lw_all := lw_g (lw_at lw_m1 25 rfl) rfl
theorem q605 : (Jvm.Cond.static ({ cls := "java/lang/Math", name := "min", desc := "(II)I" } : Jvm.MethodName)) ∈ lw_all := lw_g (lw_at lw_m3 24 rfl) rfl
theorem q606 : (Jvm.Cond.code ({ cls := "java/lang/Math", name := "min", desc := "(II)I" } : Jvm.MethodName) prog_23_method_69_code (2 : Nat) (Option.some Jvm.ClassFile.FieldType.int)) ∈ lw_all := lw_g (lw_at lw_m3 25 rfl) rfl
theorem q608 : (Jvm.Cond.static ({ cls := "java/lang/Math", name := "max", desc := "(II)I" } : Jvm.MethodName)) ∈ lw_all := lw_g (lw_at lw_m3 27 rfl) rfl
theorem q609 : (Jvm.Cond.code ({ cls := "java/lang/Math", name := "max", desc := "(II)I" } : Jvm.MethodName) prog_23_method_65_code (2 : Nat) (Option.some Jvm.ClassFile.FieldType.int)) ∈ lw_all := lw_g (lw_at lw_m3 28 rfl) rfl
theorem q929 : (Jvm.Cond.static ({ cls := "java/lang/Math", name := "abs", desc := "(I)I" } : Jvm.MethodName)) ∈ lw_all := lw_g (lw_at lw_m4 108 rfl) rfl
theorem q930 : (Jvm.Cond.code ({ cls := "java/lang/Math", name := "abs", desc := "(I)I" } : Jvm.MethodName) prog_23_method_59_code (1 : Nat) (Option.some Jvm.ClassFile.FieldType.int)) ∈ lw_all := lw_g (lw_at lw_m4 109 rfl) rfl

/-! java/lang/Object -/
set_option maxRecDepth 100000
def RJ4 : String := "java/lang/Object"
abbrev cJ4_init : ByteArray := object_method_1_code
def yJ4_init : MethodName := ⟨RJ4, "<init>", "()V"⟩
theorem dJ4_init_0 : decode cJ4_init 0 = .ok (.return_, 1) := by decide +kernel
theorem q133 : (Jvm.Cond.instanceMethod ({ cls := "java/lang/Object", name := "<init>", desc := "()V" } : Jvm.MethodName)) ∈ lw_all := lw_g (lw_at lw_m1 32 rfl) rfl
theorem q134 : (Jvm.Cond.code ({ cls := "java/lang/Object", name := "<init>", desc := "()V" } : Jvm.MethodName) object_method_1_code (1 : Nat) (Option.none : Option Jvm.ClassFile.FieldType)) ∈ lw_all := lw_g (lw_at lw_m1 33 rfl) rfl

theorem q101 : (Jvm.Cond.initialized "CoresAreWillsLaw") ∈ lw_all := lw_g (lw_at lw_m1 0 rfl) rfl
set_option maxRecDepth 100000
theorem q127 : (Jvm.Cond.classLink "CoresAreWillsLaw" (7 : Nat) "CoresAreWills") ∈ lw_all := lw_g (lw_at lw_m1 26 rfl) rfl
theorem q129 : (Jvm.Cond.methodLink "CoresAreWillsLaw" (9 : Nat) ({ cls := "CoresAreWills", name := "<init>", desc := "()V" } : Jvm.MethodName)) ∈ lw_all := lw_g (lw_at lw_m1 28 rfl) rfl
theorem q290 : (Jvm.Cond.methodLink "CoresAreWillsLaw" (13 : Nat) ({ cls := "CoresAreWills", name := "letter", desc := "(I)I" } : Jvm.MethodName)) ∈ lw_all := lw_g (lw_at lw_m1 189 rfl) rfl
theorem q1000 : (Jvm.Cond.methodLink "CoresAreWillsLaw" (18 : Nat) ({ cls := "CoresAreWills", name := "core", desc := "()I" } : Jvm.MethodName)) ∈ lw_all := lw_g (lw_at lw_m4 179 rfl) rfl
theorem q1004 : (Jvm.Cond.methodLink "CoresAreWillsLaw" (23 : Nat) ({ cls := "CoresAreWills", name := "cell", desc := "(II)I" } : Jvm.MethodName)) ∈ lw_all := lw_g (lw_at lw_m4 183 rfl) rfl
theorem q1008 : (Jvm.Cond.methodLink "CoresAreWillsLaw" (28 : Nat) ({ cls := "CoresAreWills", name := "heir", desc := "(II)I" } : Jvm.MethodName)) ∈ lw_all := lw_g (lw_at lw_m4 187 rfl) rfl
theorem q1012 : (Jvm.Cond.methodLink "CoresAreWillsLaw" (32 : Nat) ({ cls := "CoresAreWills", name := "bites", desc := "(II)I" } : Jvm.MethodName)) ∈ lw_all := lw_g (lw_at lw_m4 191 rfl) rfl
theorem q1016 : (Jvm.Cond.methodLink "CoresAreWillsLaw" (36 : Nat) ({ cls := "CoresAreWills", name := "heals", desc := "(I)I" } : Jvm.MethodName)) ∈ lw_all := lw_g (lw_at lw_m4 195 rfl) rfl
theorem q1020 : (Jvm.Cond.methodLink "CoresAreWillsLaw" (40 : Nat) ({ cls := "CoresAreWills", name := "rolls", desc := "(I)I" } : Jvm.MethodName)) ∈ lw_all := lw_g (lw_at lw_m4 199 rfl) rfl
theorem q1024 : (Jvm.Cond.methodLink "CoresAreWillsLaw" (44 : Nat) ({ cls := "CoresAreWills", name := "turn", desc := "(III)I" } : Jvm.MethodName)) ∈ lw_all := lw_g (lw_at lw_m4 203 rfl) rfl
theorem q1028 : (Jvm.Cond.methodLink "CoresAreWillsLaw" (49 : Nat) ({ cls := "CoresAreWills", name := "anew", desc := "()I" } : Jvm.MethodName)) ∈ lw_all := lw_g (lw_at lw_m4 207 rfl) rfl
theorem q1032 : (Jvm.Cond.methodLink "CoresAreWillsLaw" (53 : Nat) ({ cls := "CoresAreWills", name := "shares", desc := "(I)I" } : Jvm.MethodName)) ∈ lw_all := lw_g (lw_at lw_m4 211 rfl) rfl
theorem q1036 : (Jvm.Cond.methodLink "CoresAreWillsLaw" (57 : Nat) ({ cls := "CoresAreWills", name := "pieces", desc := "(I)I" } : Jvm.MethodName)) ∈ lw_all := lw_g (lw_at lw_m4 215 rfl) rfl
theorem q1040 : (Jvm.Cond.methodLink "CoresAreWillsLaw" (61 : Nat) ({ cls := "CoresAreWills", name := "edge", desc := "(I)I" } : Jvm.MethodName)) ∈ lw_all := lw_g (lw_at lw_m4 219 rfl) rfl
theorem q1044 : (Jvm.Cond.methodLink "CoresAreWillsLaw" (65 : Nat) ({ cls := "CoresAreWills", name := "best", desc := "(II)I" } : Jvm.MethodName)) ∈ lw_all := lw_g (lw_at lw_m4 223 rfl) rfl
theorem q1048 : (Jvm.Cond.methodLink "CoresAreWillsLaw" (69 : Nat) ({ cls := "CoresAreWills", name := "worst", desc := "(II)I" } : Jvm.MethodName)) ∈ lw_all := lw_g (lw_at lw_m4 227 rfl) rfl
theorem q1052 : (Jvm.Cond.methodLink "CoresAreWillsLaw" (73 : Nat) ({ cls := "CoresAreWills", name := "fewest", desc := "(III)I" } : Jvm.MethodName)) ∈ lw_all := lw_g (lw_at lw_m4 231 rfl) rfl
theorem q1056 : (Jvm.Cond.methodLink "CoresAreWillsLaw" (77 : Nat) ({ cls := "CoresAreWills", name := "safe", desc := "()I" } : Jvm.MethodName)) ∈ lw_all := lw_g (lw_at lw_m4 235 rfl) rfl
theorem q1060 : (Jvm.Cond.methodLink "CoresAreWillsLaw" (81 : Nat) ({ cls := "CoresAreWills", name := "can", desc := "(I)I" } : Jvm.MethodName)) ∈ lw_all := lw_g (lw_at lw_m4 239 rfl) rfl
theorem q1064 : (Jvm.Cond.methodLink "CoresAreWillsLaw" (85 : Nat) ({ cls := "CoresAreWills", name := "ways", desc := "(I)I" } : Jvm.MethodName)) ∈ lw_all := lw_g (lw_at lw_m5 3 rfl) rfl
theorem q1068 : (Jvm.Cond.methodLink "CoresAreWillsLaw" (89 : Nat) ({ cls := "CoresAreWills", name := "alike", desc := "(I)I" } : Jvm.MethodName)) ∈ lw_all := lw_g (lw_at lw_m5 7 rfl) rfl
theorem q1072 : (Jvm.Cond.methodLink "CoresAreWillsLaw" (93 : Nat) ({ cls := "CoresAreWills", name := "settles", desc := "(I)I" } : Jvm.MethodName)) ∈ lw_all := lw_g (lw_at lw_m5 11 rfl) rfl
theorem q1076 : (Jvm.Cond.methodLink "CoresAreWillsLaw" (97 : Nat) ({ cls := "CoresAreWills", name := "pips", desc := "(I)I" } : Jvm.MethodName)) ∈ lw_all := lw_g (lw_at lw_m5 15 rfl) rfl
theorem q1080 : (Jvm.Cond.methodLink "CoresAreWillsLaw" (101 : Nat) ({ cls := "CoresAreWills", name := "grudge", desc := "(I)I" } : Jvm.MethodName)) ∈ lw_all := lw_g (lw_at lw_m5 19 rfl) rfl
theorem q1084 : (Jvm.Cond.methodLink "CoresAreWillsLaw" (105 : Nat) ({ cls := "CoresAreWills", name := "gain", desc := "(II)I" } : Jvm.MethodName)) ∈ lw_all := lw_g (lw_at lw_m5 23 rfl) rfl
theorem q1092 : (Jvm.Cond.methodLink "CoresAreWillsLaw" (109 : Nat) ({ cls := "CoresAreWills", name := "join", desc := "(I)I" } : Jvm.MethodName)) ∈ lw_all := lw_g (lw_at lw_m5 31 rfl) rfl
theorem q1096 : (Jvm.Cond.methodLink "CoresAreWillsLaw" (113 : Nat) ({ cls := "CoresAreWills", name := "bridge", desc := "(I)I" } : Jvm.MethodName)) ∈ lw_all := lw_g (lw_at lw_m5 35 rfl) rfl
theorem q1100 : (Jvm.Cond.methodLink "CoresAreWillsLaw" (117 : Nat) ({ cls := "CoresAreWills", name := "two", desc := "(II)I" } : Jvm.MethodName)) ∈ lw_all := lw_g (lw_at lw_m5 39 rfl) rfl
theorem q1104 : (Jvm.Cond.methodLink "CoresAreWillsLaw" (121 : Nat) ({ cls := "CoresAreWills", name := "chance", desc := "(IIII)J" } : Jvm.MethodName)) ∈ lw_all := lw_g (lw_at lw_m5 43 rfl) rfl
theorem q1131 : (Jvm.Cond.methodLink "CoresAreWillsLaw" (126 : Nat) ({ cls := "CoresAreWills", name := "mean", desc := "(I)J" } : Jvm.MethodName)) ∈ lw_all := lw_g (lw_at lw_m5 70 rfl) rfl
theorem q1139 : (Jvm.Cond.methodLink "CoresAreWillsLaw" (131 : Nat) ({ cls := "CoresAreWills", name := "whatIs", desc := "(II)I" } : Jvm.MethodName)) ∈ lw_all := lw_g (lw_at lw_m5 78 rfl) rfl
theorem q1143 : (Jvm.Cond.methodLink "CoresAreWillsLaw" (135 : Nat) ({ cls := "CoresAreWills", name := "row", desc := "(I)I" } : Jvm.MethodName)) ∈ lw_all := lw_g (lw_at lw_m5 82 rfl) rfl
theorem q1147 : (Jvm.Cond.methodLink "CoresAreWillsLaw" (139 : Nat) ({ cls := "CoresAreWills", name := "judge", desc := "()I" } : Jvm.MethodName)) ∈ lw_all := lw_g (lw_at lw_m5 86 rfl) rfl
theorem q1151 : (Jvm.Cond.methodLink "CoresAreWillsLaw" (143 : Nat) ({ cls := "CoresAreWills", name := "clear", desc := "()I" } : Jvm.MethodName)) ∈ lw_all := lw_g (lw_at lw_m5 90 rfl) rfl
theorem q1155 : (Jvm.Cond.methodLink "CoresAreWillsLaw" (147 : Nat) ({ cls := "CoresAreWills", name := "lots", desc := "(III)I" } : Jvm.MethodName)) ∈ lw_all := lw_g (lw_at lw_m5 94 rfl) rfl
theorem q1159 : (Jvm.Cond.methodLink "CoresAreWillsLaw" (151 : Nat) ({ cls := "CoresAreWills", name := "image", desc := "()I" } : Jvm.MethodName)) ∈ lw_all := lw_g (lw_at lw_m5 98 rfl) rfl
theorem q1163 : (Jvm.Cond.methodLink "CoresAreWillsLaw" (155 : Nat) ({ cls := "CoresAreWills", name := "on", desc := "()I" } : Jvm.MethodName)) ∈ lw_all := lw_g (lw_at lw_m5 102 rfl) rfl
theorem q1167 : (Jvm.Cond.methodLink "CoresAreWillsLaw" (159 : Nat) ({ cls := "CoresAreWills", name := "count", desc := "(I)I" } : Jvm.MethodName)) ∈ lw_all := lw_g (lw_at lw_m5 106 rfl) rfl
theorem q1173 : (Jvm.Cond.classLink "CoresAreWillsLaw" (10 : Nat) "CoresAreWillsModel") ∈ lw_all := lw_g (lw_at lw_m5 112 rfl) rfl
theorem q1175 : (Jvm.Cond.methodLink "CoresAreWillsLaw" (12 : Nat) ({ cls := "CoresAreWillsModel", name := "<init>", desc := "()V" } : Jvm.MethodName)) ∈ lw_all := lw_g (lw_at lw_m5 114 rfl) rfl
theorem q1259 : (Jvm.Cond.methodLink "CoresAreWillsLaw" (17 : Nat) ({ cls := "CoresAreWillsModel", name := "letter", desc := "(I)I" } : Jvm.MethodName)) ∈ lw_all := lw_g (lw_at lw_m5 198 rfl) rfl
theorem q1267 : (Jvm.Cond.methodLink "CoresAreWillsLaw" (22 : Nat) ({ cls := "CoresAreWillsModel", name := "core", desc := "()I" } : Jvm.MethodName)) ∈ lw_all := lw_g (lw_at lw_m5 206 rfl) rfl
theorem q1331 : (Jvm.Cond.methodLink "CoresAreWillsLaw" (27 : Nat) ({ cls := "CoresAreWillsModel", name := "cell", desc := "(II)I" } : Jvm.MethodName)) ∈ lw_all := lw_g (lw_at lw_m6 30 rfl) rfl
theorem q1344 : (Jvm.Cond.methodLink "CoresAreWillsLaw" (31 : Nat) ({ cls := "CoresAreWillsModel", name := "heir", desc := "(II)I" } : Jvm.MethodName)) ∈ lw_all := lw_g (lw_at lw_m6 43 rfl) rfl
theorem q1374 : (Jvm.Cond.methodLink "CoresAreWillsLaw" (35 : Nat) ({ cls := "CoresAreWillsModel", name := "bites", desc := "(II)I" } : Jvm.MethodName)) ∈ lw_all := lw_g (lw_at lw_m6 73 rfl) rfl
theorem q1378 : (Jvm.Cond.methodLink "CoresAreWillsLaw" (39 : Nat) ({ cls := "CoresAreWillsModel", name := "heals", desc := "(I)I" } : Jvm.MethodName)) ∈ lw_all := lw_g (lw_at lw_m6 77 rfl) rfl
theorem q1382 : (Jvm.Cond.methodLink "CoresAreWillsLaw" (43 : Nat) ({ cls := "CoresAreWillsModel", name := "rolls", desc := "(I)I" } : Jvm.MethodName)) ∈ lw_all := lw_g (lw_at lw_m6 81 rfl) rfl
theorem q1386 : (Jvm.Cond.methodLink "CoresAreWillsLaw" (48 : Nat) ({ cls := "CoresAreWillsModel", name := "turn", desc := "(III)I" } : Jvm.MethodName)) ∈ lw_all := lw_g (lw_at lw_m6 85 rfl) rfl
theorem q1393 : (Jvm.Cond.methodLink "CoresAreWillsLaw" (52 : Nat) ({ cls := "CoresAreWillsModel", name := "anew", desc := "()I" } : Jvm.MethodName)) ∈ lw_all := lw_g (lw_at lw_m6 92 rfl) rfl
theorem q1397 : (Jvm.Cond.methodLink "CoresAreWillsLaw" (56 : Nat) ({ cls := "CoresAreWillsModel", name := "shares", desc := "(I)I" } : Jvm.MethodName)) ∈ lw_all := lw_g (lw_at lw_m6 96 rfl) rfl
theorem q1405 : (Jvm.Cond.methodLink "CoresAreWillsLaw" (60 : Nat) ({ cls := "CoresAreWillsModel", name := "pieces", desc := "(I)I" } : Jvm.MethodName)) ∈ lw_all := lw_g (lw_at lw_m6 104 rfl) rfl
theorem q1412 : (Jvm.Cond.methodLink "CoresAreWillsLaw" (64 : Nat) ({ cls := "CoresAreWillsModel", name := "edge", desc := "(I)I" } : Jvm.MethodName)) ∈ lw_all := lw_g (lw_at lw_m6 111 rfl) rfl
theorem q1419 : (Jvm.Cond.methodLink "CoresAreWillsLaw" (68 : Nat) ({ cls := "CoresAreWillsModel", name := "best", desc := "(II)I" } : Jvm.MethodName)) ∈ lw_all := lw_g (lw_at lw_m6 118 rfl) rfl
theorem q1434 : (Jvm.Cond.methodLink "CoresAreWillsLaw" (72 : Nat) ({ cls := "CoresAreWillsModel", name := "worst", desc := "(II)I" } : Jvm.MethodName)) ∈ lw_all := lw_g (lw_at lw_m6 133 rfl) rfl
theorem q1438 : (Jvm.Cond.methodLink "CoresAreWillsLaw" (76 : Nat) ({ cls := "CoresAreWillsModel", name := "fewest", desc := "(III)I" } : Jvm.MethodName)) ∈ lw_all := lw_g (lw_at lw_m6 137 rfl) rfl
theorem q1450 : (Jvm.Cond.methodLink "CoresAreWillsLaw" (80 : Nat) ({ cls := "CoresAreWillsModel", name := "safe", desc := "()I" } : Jvm.MethodName)) ∈ lw_all := lw_g (lw_at lw_m6 149 rfl) rfl
theorem q1454 : (Jvm.Cond.methodLink "CoresAreWillsLaw" (84 : Nat) ({ cls := "CoresAreWillsModel", name := "can", desc := "(I)I" } : Jvm.MethodName)) ∈ lw_all := lw_g (lw_at lw_m6 153 rfl) rfl
theorem q1458 : (Jvm.Cond.methodLink "CoresAreWillsLaw" (88 : Nat) ({ cls := "CoresAreWillsModel", name := "ways", desc := "(I)I" } : Jvm.MethodName)) ∈ lw_all := lw_g (lw_at lw_m6 157 rfl) rfl
theorem q1468 : (Jvm.Cond.methodLink "CoresAreWillsLaw" (92 : Nat) ({ cls := "CoresAreWillsModel", name := "alike", desc := "(I)I" } : Jvm.MethodName)) ∈ lw_all := lw_g (lw_at lw_m6 167 rfl) rfl
theorem q1472 : (Jvm.Cond.methodLink "CoresAreWillsLaw" (96 : Nat) ({ cls := "CoresAreWillsModel", name := "settles", desc := "(I)I" } : Jvm.MethodName)) ∈ lw_all := lw_g (lw_at lw_m6 171 rfl) rfl
theorem q1476 : (Jvm.Cond.methodLink "CoresAreWillsLaw" (100 : Nat) ({ cls := "CoresAreWillsModel", name := "pips", desc := "(I)I" } : Jvm.MethodName)) ∈ lw_all := lw_g (lw_at lw_m6 175 rfl) rfl
theorem q1480 : (Jvm.Cond.methodLink "CoresAreWillsLaw" (104 : Nat) ({ cls := "CoresAreWillsModel", name := "grudge", desc := "(I)I" } : Jvm.MethodName)) ∈ lw_all := lw_g (lw_at lw_m6 179 rfl) rfl
theorem q1484 : (Jvm.Cond.methodLink "CoresAreWillsLaw" (108 : Nat) ({ cls := "CoresAreWillsModel", name := "gain", desc := "(II)I" } : Jvm.MethodName)) ∈ lw_all := lw_g (lw_at lw_m6 183 rfl) rfl
theorem q1496 : (Jvm.Cond.methodLink "CoresAreWillsLaw" (112 : Nat) ({ cls := "CoresAreWillsModel", name := "join", desc := "(I)I" } : Jvm.MethodName)) ∈ lw_all := lw_g (lw_at lw_m6 195 rfl) rfl
theorem q1500 : (Jvm.Cond.methodLink "CoresAreWillsLaw" (116 : Nat) ({ cls := "CoresAreWillsModel", name := "bridge", desc := "(I)I" } : Jvm.MethodName)) ∈ lw_all := lw_g (lw_at lw_m6 199 rfl) rfl
theorem q1508 : (Jvm.Cond.methodLink "CoresAreWillsLaw" (120 : Nat) ({ cls := "CoresAreWillsModel", name := "two", desc := "(II)I" } : Jvm.MethodName)) ∈ lw_all := lw_g (lw_at lw_m6 207 rfl) rfl
theorem q1520 : (Jvm.Cond.methodLink "CoresAreWillsLaw" (125 : Nat) ({ cls := "CoresAreWillsModel", name := "chance", desc := "(IIII)J" } : Jvm.MethodName)) ∈ lw_all := lw_g (lw_at lw_m6 219 rfl) rfl
theorem q1539 : (Jvm.Cond.methodLink "CoresAreWillsLaw" (130 : Nat) ({ cls := "CoresAreWillsModel", name := "mean", desc := "(I)J" } : Jvm.MethodName)) ∈ lw_all := lw_g (lw_at lw_m6 238 rfl) rfl
theorem q1543 : (Jvm.Cond.methodLink "CoresAreWillsLaw" (134 : Nat) ({ cls := "CoresAreWillsModel", name := "whatIs", desc := "(II)I" } : Jvm.MethodName)) ∈ lw_all := lw_g (lw_at lw_m7 2 rfl) rfl
theorem q1547 : (Jvm.Cond.methodLink "CoresAreWillsLaw" (138 : Nat) ({ cls := "CoresAreWillsModel", name := "row", desc := "(I)I" } : Jvm.MethodName)) ∈ lw_all := lw_g (lw_at lw_m7 6 rfl) rfl
theorem q1551 : (Jvm.Cond.methodLink "CoresAreWillsLaw" (142 : Nat) ({ cls := "CoresAreWillsModel", name := "judge", desc := "()I" } : Jvm.MethodName)) ∈ lw_all := lw_g (lw_at lw_m7 10 rfl) rfl
theorem q1555 : (Jvm.Cond.methodLink "CoresAreWillsLaw" (146 : Nat) ({ cls := "CoresAreWillsModel", name := "clear", desc := "()I" } : Jvm.MethodName)) ∈ lw_all := lw_g (lw_at lw_m7 14 rfl) rfl
theorem q1559 : (Jvm.Cond.methodLink "CoresAreWillsLaw" (150 : Nat) ({ cls := "CoresAreWillsModel", name := "lots", desc := "(III)I" } : Jvm.MethodName)) ∈ lw_all := lw_g (lw_at lw_m7 18 rfl) rfl
theorem q1570 : (Jvm.Cond.methodLink "CoresAreWillsLaw" (154 : Nat) ({ cls := "CoresAreWillsModel", name := "image", desc := "()I" } : Jvm.MethodName)) ∈ lw_all := lw_g (lw_at lw_m7 29 rfl) rfl
theorem q1574 : (Jvm.Cond.methodLink "CoresAreWillsLaw" (158 : Nat) ({ cls := "CoresAreWillsModel", name := "on", desc := "()I" } : Jvm.MethodName)) ∈ lw_all := lw_g (lw_at lw_m7 33 rfl) rfl
theorem q1578 : (Jvm.Cond.methodLink "CoresAreWillsLaw" (162 : Nat) ({ cls := "CoresAreWillsModel", name := "count", desc := "(I)I" } : Jvm.MethodName)) ∈ lw_all := lw_g (lw_at lw_m7 37 rfl) rfl
theorem q125 : (Jvm.Cond.initialized "java/lang/System") ∈ lw_all := lw_g (lw_at lw_m1 24 rfl) rfl
set_option maxRecDepth 100000
theorem q539 : (Jvm.Cond.static ({ cls := "java/lang/System", name := "arraycopy", desc := "(Ljava/lang/Object;ILjava/lang/Object;II)V" } : Jvm.MethodName)) ∈ lw_all := lw_g (lw_at lw_m2 198 rfl) rfl
theorem q540 : (Jvm.Cond.native ({ cls := "java/lang/System", name := "arraycopy", desc := "(Ljava/lang/Object;ILjava/lang/Object;II)V" } : Jvm.MethodName)) ∈ lw_all := lw_g (lw_at lw_m2 199 rfl) rfl
theorem q136 : (Jvm.Cond.arrayOver (Jvm.ClassFile.FieldType.object "CoresAreWills$Kind")) ∈ lw_tbl := lw_at lw_m1 35 rfl
set_option maxRecDepth 100000
theorem q231 : (Jvm.Cond.arrayClass Jvm.ClassFile.FieldType.int) ∈ lw_all := lw_g (lw_at lw_m1 130 rfl) rfl
theorem q287 : (Jvm.Cond.arrayClass Jvm.ClassFile.FieldType.byte) ∈ lw_all := lw_g (lw_at lw_m1 186 rfl) rfl
theorem q288 : (Jvm.Cond.arrayClass Jvm.ClassFile.FieldType.char) ∈ lw_all := lw_g (lw_at lw_m1 187 rfl) rfl
theorem q289 : (Jvm.Cond.arrayClass Jvm.ClassFile.FieldType.long) ∈ lw_all := lw_g (lw_at lw_m1 188 rfl) rfl
theorem q410 : (Jvm.Cond.arrayOver (Jvm.ClassFile.FieldType.object "CoresAreWills$Told")) ∈ lw_tbl := lw_at lw_m2 69 rfl
