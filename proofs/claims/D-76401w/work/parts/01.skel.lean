-- ===== PART A: goes FIRST, ahead of the names: the tables' words, and 'selects' of the private methods out of them =====
/-- a private method of a class that the tables say can be made, by its rows of tables_1 -/
def lw_okq (q : MethodName × Nat) : Prop := (q.1.cls ≠ "java/lang/invoke/MethodHandle" ∧ q.1.cls ≠ "java/lang/invoke/VarHandle") ∧ Cond.instantiable q.1.cls q.2 ∈ tables_1 ∧ Cond.privateMethod q.1 ∈ tables_1 ∧ Cond.instanceMethod q.1 ∈ tables_1
set_option maxRecDepth 100000
theorem lw_t1 {w : Cond} (h : w ∈ tables_1_1) : w ∈ tables_1 := List.mem_append_left _ h
theorem lw_t2 {w : Cond} (h : w ∈ tables_1_2) : w ∈ tables_1 := List.mem_append_right _ (List.mem_append_left _ h)
theorem lw_t3 {w : Cond} (h : w ∈ tables_1_3) : w ∈ tables_1 := List.mem_append_right _ (List.mem_append_right _ (List.mem_append_left _ h))
theorem lw_t4 {w : Cond} (h : w ∈ tables_1_4) : w ∈ tables_1 := List.mem_append_right _ (List.mem_append_right _ (List.mem_append_right _ (List.mem_append_left _ h)))
theorem lw_t5 {w : Cond} (h : w ∈ tables_1_5) : w ∈ tables_1 := List.mem_append_right _ (List.mem_append_right _ (List.mem_append_right _ (List.mem_append_right _ (List.mem_append_left _ h))))
theorem lw_t6 {w : Cond} (h : w ∈ tables_1_6) : w ∈ tables_1 := List.mem_append_right _ (List.mem_append_right _ (List.mem_append_right _ (List.mem_append_right _ (List.mem_append_right _ (List.mem_append_left _ h)))))
theorem lw_t7 {w : Cond} (h : w ∈ tables_1_7) : w ∈ tables_1 := List.mem_append_right _ (List.mem_append_right _ (List.mem_append_right _ (List.mem_append_right _ (List.mem_append_right _ (List.mem_append_right _ h)))))
theorem lw_p0 : lw_okq (⟨"CoresAreWills", "act", "(IIII)I"⟩, 17) := ⟨⟨by decide +kernel, by decide +kernel⟩, lw_t1 (List.mem_of_getElem? (i := 27) rfl), lw_t1 (List.mem_of_getElem? (i := 194) rfl), lw_t1 (List.mem_of_getElem? (i := 195) rfl)⟩
theorem lw_p1 : lw_okq (⟨"CoresAreWills", "doIt", "(IIII)I"⟩, 17) := ⟨⟨by decide +kernel, by decide +kernel⟩, lw_t1 (List.mem_of_getElem? (i := 27) rfl), lw_t1 (List.mem_of_getElem? (i := 199) rfl), lw_t1 (List.mem_of_getElem? (i := 200) rfl)⟩
theorem lw_p2 : lw_okq (⟨"CoresAreWills", "ofCore", "(IIII)I"⟩, 17) := ⟨⟨by decide +kernel, by decide +kernel⟩, lw_t1 (List.mem_of_getElem? (i := 27) rfl), lw_t1 (List.mem_of_getElem? (i := 203) rfl), lw_t1 (List.mem_of_getElem? (i := 204) rfl)⟩
theorem lw_p3 : lw_okq (⟨"CoresAreWills", "letterIt", "(I)I"⟩, 17) := ⟨⟨by decide +kernel, by decide +kernel⟩, lw_t1 (List.mem_of_getElem? (i := 27) rfl), lw_t1 (List.mem_of_getElem? (i := 207) rfl), lw_t1 (List.mem_of_getElem? (i := 208) rfl)⟩
theorem lw_p4 : lw_okq (⟨"java/lang/Throwable", "fillInStackTrace", "(I)Ljava/lang/Throwable;"⟩, 6) := ⟨⟨by decide +kernel, by decide +kernel⟩, lw_t2 (List.mem_of_getElem? (i := 16) rfl), lw_t2 (List.mem_of_getElem? (i := 14) rfl), lw_t2 (List.mem_of_getElem? (i := 15) rfl)⟩
theorem lw_p5 : lw_okq (⟨"CoresAreWills", "readCore", "()I"⟩, 17) := ⟨⟨by decide +kernel, by decide +kernel⟩, lw_t1 (List.mem_of_getElem? (i := 27) rfl), lw_t2 (List.mem_of_getElem? (i := 47) rfl), lw_t2 (List.mem_of_getElem? (i := 48) rfl)⟩
theorem lw_p6 : lw_okq (⟨"CoresAreWills$Reader", "here", "()I"⟩, 3) := ⟨⟨by decide +kernel, by decide +kernel⟩, lw_t2 (List.mem_of_getElem? (i := 51) rfl), lw_t2 (List.mem_of_getElem? (i := 75) rfl), lw_t2 (List.mem_of_getElem? (i := 76) rfl)⟩
theorem lw_p7 : lw_okq (⟨"CoresAreWills$Reader", "mustStand", "(Z)V"⟩, 3) := ⟨⟨by decide +kernel, by decide +kernel⟩, lw_t2 (List.mem_of_getElem? (i := 51) rfl), lw_t2 (List.mem_of_getElem? (i := 79) rfl), lw_t2 (List.mem_of_getElem? (i := 80) rfl)⟩
theorem lw_p8 : lw_okq (⟨"CoresAreWills$Reader", "heirTold", "(I)LCoresAreWills$Told;"⟩, 3) := ⟨⟨by decide +kernel, by decide +kernel⟩, lw_t2 (List.mem_of_getElem? (i := 51) rfl), lw_t2 (List.mem_of_getElem? (i := 115) rfl), lw_t2 (List.mem_of_getElem? (i := 116) rfl)⟩
theorem lw_p9 : lw_okq (⟨"CoresAreWills", "kindOf", "(I)I"⟩, 17) := ⟨⟨by decide +kernel, by decide +kernel⟩, lw_t1 (List.mem_of_getElem? (i := 27) rfl), lw_t2 (List.mem_of_getElem? (i := 119) rfl), lw_t2 (List.mem_of_getElem? (i := 120) rfl)⟩
theorem lw_p10 : lw_okq (⟨"CoresAreWills$Reader", "digit", "()I"⟩, 3) := ⟨⟨by decide +kernel, by decide +kernel⟩, lw_t2 (List.mem_of_getElem? (i := 51) rfl), lw_t2 (List.mem_of_getElem? (i := 125) rfl), lw_t2 (List.mem_of_getElem? (i := 126) rfl)⟩
theorem lw_p11 : lw_okq (⟨"CoresAreWills$Reader", "told", "(II)LCoresAreWills$Told;"⟩, 3) := ⟨⟨by decide +kernel, by decide +kernel⟩, lw_t2 (List.mem_of_getElem? (i := 51) rfl), lw_t2 (List.mem_of_getElem? (i := 146) rfl), lw_t2 (List.mem_of_getElem? (i := 147) rfl)⟩
theorem lw_p12 : lw_okq (⟨"CoresAreWills$Reader", "pair", "()I"⟩, 3) := ⟨⟨by decide +kernel, by decide +kernel⟩, lw_t2 (List.mem_of_getElem? (i := 51) rfl), lw_t2 (List.mem_of_getElem? (i := 152) rfl), lw_t2 (List.mem_of_getElem? (i := 153) rfl)⟩
theorem lw_p13 : lw_okq (⟨"CoresAreWills$Reader", "take", "(I)V"⟩, 3) := ⟨⟨by decide +kernel, by decide +kernel⟩, lw_t2 (List.mem_of_getElem? (i := 51) rfl), lw_t2 (List.mem_of_getElem? (i := 190) rfl), lw_t2 (List.mem_of_getElem? (i := 191) rfl)⟩
theorem lw_p14 : lw_okq (⟨"CoresAreWills", "cellAsked", "(II)I"⟩, 17) := ⟨⟨by decide +kernel, by decide +kernel⟩, lw_t1 (List.mem_of_getElem? (i := 27) rfl), lw_t3 (List.mem_of_getElem? (i := 61) rfl), lw_t3 (List.mem_of_getElem? (i := 62) rfl)⟩
theorem lw_p15 : lw_okq (⟨"CoresAreWills", "heirAsked", "(II)I"⟩, 17) := ⟨⟨by decide +kernel, by decide +kernel⟩, lw_t1 (List.mem_of_getElem? (i := 27) rfl), lw_t3 (List.mem_of_getElem? (i := 75) rfl), lw_t3 (List.mem_of_getElem? (i := 76) rfl)⟩
def lw_privs_1 : List (MethodName × Nat) := [(⟨"CoresAreWills", "act", "(IIII)I"⟩, 17), (⟨"CoresAreWills", "doIt", "(IIII)I"⟩, 17), (⟨"CoresAreWills", "ofCore", "(IIII)I"⟩, 17), (⟨"CoresAreWills", "letterIt", "(I)I"⟩, 17), (⟨"java/lang/Throwable", "fillInStackTrace", "(I)Ljava/lang/Throwable;"⟩, 6), (⟨"CoresAreWills", "readCore", "()I"⟩, 17), (⟨"CoresAreWills$Reader", "here", "()I"⟩, 3), (⟨"CoresAreWills$Reader", "mustStand", "(Z)V"⟩, 3), (⟨"CoresAreWills$Reader", "heirTold", "(I)LCoresAreWills$Told;"⟩, 3), (⟨"CoresAreWills", "kindOf", "(I)I"⟩, 17), (⟨"CoresAreWills$Reader", "digit", "()I"⟩, 3), (⟨"CoresAreWills$Reader", "told", "(II)LCoresAreWills$Told;"⟩, 3), (⟨"CoresAreWills$Reader", "pair", "()I"⟩, 3), (⟨"CoresAreWills$Reader", "take", "(I)V"⟩, 3), (⟨"CoresAreWills", "cellAsked", "(II)I"⟩, 17), (⟨"CoresAreWills", "heirAsked", "(II)I"⟩, 17)]
theorem lw_r1 : ∀ q ∈ lw_privs_1, lw_okq q := List.forall_mem_cons.mpr ⟨lw_p0, List.forall_mem_cons.mpr ⟨lw_p1, List.forall_mem_cons.mpr ⟨lw_p2, List.forall_mem_cons.mpr ⟨lw_p3, List.forall_mem_cons.mpr ⟨lw_p4, List.forall_mem_cons.mpr ⟨lw_p5, List.forall_mem_cons.mpr ⟨lw_p6, List.forall_mem_cons.mpr ⟨lw_p7, List.forall_mem_cons.mpr ⟨lw_p8, List.forall_mem_cons.mpr ⟨lw_p9, List.forall_mem_cons.mpr ⟨lw_p10, List.forall_mem_cons.mpr ⟨lw_p11, List.forall_mem_cons.mpr ⟨lw_p12, List.forall_mem_cons.mpr ⟨lw_p13, List.forall_mem_cons.mpr ⟨lw_p14, List.forall_mem_cons.mpr ⟨lw_p15, fun _ h => absurd h List.not_mem_nil⟩⟩⟩⟩⟩⟩⟩⟩⟩⟩⟩⟩⟩⟩⟩⟩
theorem lw_p16 : lw_okq (⟨"CoresAreWills", "mustBeHeir", "(I)V"⟩, 17) := ⟨⟨by decide +kernel, by decide +kernel⟩, lw_t1 (List.mem_of_getElem? (i := 27) rfl), lw_t3 (List.mem_of_getElem? (i := 79) rfl), lw_t3 (List.mem_of_getElem? (i := 80) rfl)⟩
theorem lw_p17 : lw_okq (⟨"CoresAreWills", "biteIt", "(II)I"⟩, 17) := ⟨⟨by decide +kernel, by decide +kernel⟩, lw_t1 (List.mem_of_getElem? (i := 27) rfl), lw_t3 (List.mem_of_getElem? (i := 157) rfl), lw_t3 (List.mem_of_getElem? (i := 158) rfl)⟩
theorem lw_p18 : lw_okq (⟨"CoresAreWills", "healIt", "(I)I"⟩, 17) := ⟨⟨by decide +kernel, by decide +kernel⟩, lw_t1 (List.mem_of_getElem? (i := 27) rfl), lw_t3 (List.mem_of_getElem? (i := 164) rfl), lw_t3 (List.mem_of_getElem? (i := 165) rfl)⟩
theorem lw_p19 : lw_okq (⟨"CoresAreWills", "rollIt", "(I)I"⟩, 17) := ⟨⟨by decide +kernel, by decide +kernel⟩, lw_t1 (List.mem_of_getElem? (i := 27) rfl), lw_t3 (List.mem_of_getElem? (i := 169) rfl), lw_t3 (List.mem_of_getElem? (i := 170) rfl)⟩
theorem lw_p20 : lw_okq (⟨"CoresAreWills", "turnIt", "(III)I"⟩, 17) := ⟨⟨by decide +kernel, by decide +kernel⟩, lw_t1 (List.mem_of_getElem? (i := 27) rfl), lw_t3 (List.mem_of_getElem? (i := 174) rfl), lw_t3 (List.mem_of_getElem? (i := 175) rfl)⟩
theorem lw_p21 : lw_okq (⟨"CoresAreWills", "allAnew", "()I"⟩, 17) := ⟨⟨by decide +kernel, by decide +kernel⟩, lw_t1 (List.mem_of_getElem? (i := 27) rfl), lw_t3 (List.mem_of_getElem? (i := 180) rfl), lw_t3 (List.mem_of_getElem? (i := 181) rfl)⟩
theorem lw_p22 : lw_okq (⟨"CoresAreWills", "ofBites", "(IIII)I"⟩, 17) := ⟨⟨by decide +kernel, by decide +kernel⟩, lw_t1 (List.mem_of_getElem? (i := 27) rfl), lw_t3 (List.mem_of_getElem? (i := 185) rfl), lw_t3 (List.mem_of_getElem? (i := 186) rfl)⟩
theorem lw_p23 : lw_okq (⟨"CoresAreWills", "sharesTold", "(I)I"⟩, 17) := ⟨⟨by decide +kernel, by decide +kernel⟩, lw_t1 (List.mem_of_getElem? (i := 27) rfl), lw_t3 (List.mem_of_getElem? (i := 189) rfl), lw_t3 (List.mem_of_getElem? (i := 190) rfl)⟩
theorem lw_p24 : lw_okq (⟨"CoresAreWills", "richestOne", "()I"⟩, 17) := ⟨⟨by decide +kernel, by decide +kernel⟩, lw_t1 (List.mem_of_getElem? (i := 27) rfl), lw_t3 (List.mem_of_getElem? (i := 201) rfl), lw_t3 (List.mem_of_getElem? (i := 202) rfl)⟩
theorem lw_p25 : lw_okq (⟨"CoresAreWills", "piecesTold", "(I)I"⟩, 17) := ⟨⟨by decide +kernel, by decide +kernel⟩, lw_t1 (List.mem_of_getElem? (i := 27) rfl), lw_t3 (List.mem_of_getElem? (i := 205) rfl), lw_t3 (List.mem_of_getElem? (i := 206) rfl)⟩
theorem lw_p26 : lw_okq (⟨"CoresAreWills", "edgeTold", "(I)I"⟩, 17) := ⟨⟨by decide +kernel, by decide +kernel⟩, lw_t1 (List.mem_of_getElem? (i := 27) rfl), lw_t3 (List.mem_of_getElem? (i := 213) rfl), lw_t3 (List.mem_of_getElem? (i := 214) rfl)⟩
theorem lw_p27 : lw_okq (⟨"CoresAreWills", "sides", "()I"⟩, 17) := ⟨⟨by decide +kernel, by decide +kernel⟩, lw_t1 (List.mem_of_getElem? (i := 27) rfl), lw_t3 (List.mem_of_getElem? (i := 217) rfl), lw_t3 (List.mem_of_getElem? (i := 218) rfl)⟩
theorem lw_p28 : lw_okq (⟨"CoresAreWills", "holes", "()I"⟩, 17) := ⟨⟨by decide +kernel, by decide +kernel⟩, lw_t1 (List.mem_of_getElem? (i := 27) rfl), lw_t3 (List.mem_of_getElem? (i := 221) rfl), lw_t3 (List.mem_of_getElem? (i := 222) rfl)⟩
theorem lw_p29 : lw_okq (⟨"CoresAreWills", "bestTold", "(III)I"⟩, 17) := ⟨⟨by decide +kernel, by decide +kernel⟩, lw_t1 (List.mem_of_getElem? (i := 27) rfl), lw_t3 (List.mem_of_getElem? (i := 228) rfl), lw_t3 (List.mem_of_getElem? (i := 229) rfl)⟩
theorem lw_p30 : lw_okq (⟨"CoresAreWills", "bestFor", "(LCoresAreWills$Core;II)I"⟩, 17) := ⟨⟨by decide +kernel, by decide +kernel⟩, lw_t1 (List.mem_of_getElem? (i := 27) rfl), lw_t3 (List.mem_of_getElem? (i := 232) rfl), lw_t3 (List.mem_of_getElem? (i := 233) rfl)⟩
theorem lw_p31 : lw_okq (⟨"CoresAreWills", "openMind", "()LCoresAreWills$Core;"⟩, 17) := ⟨⟨by decide +kernel, by decide +kernel⟩, lw_t1 (List.mem_of_getElem? (i := 27) rfl), lw_t3 (List.mem_of_getElem? (i := 238) rfl), lw_t3 (List.mem_of_getElem? (i := 239) rfl)⟩
def lw_privs_2 : List (MethodName × Nat) := [(⟨"CoresAreWills", "mustBeHeir", "(I)V"⟩, 17), (⟨"CoresAreWills", "biteIt", "(II)I"⟩, 17), (⟨"CoresAreWills", "healIt", "(I)I"⟩, 17), (⟨"CoresAreWills", "rollIt", "(I)I"⟩, 17), (⟨"CoresAreWills", "turnIt", "(III)I"⟩, 17), (⟨"CoresAreWills", "allAnew", "()I"⟩, 17), (⟨"CoresAreWills", "ofBites", "(IIII)I"⟩, 17), (⟨"CoresAreWills", "sharesTold", "(I)I"⟩, 17), (⟨"CoresAreWills", "richestOne", "()I"⟩, 17), (⟨"CoresAreWills", "piecesTold", "(I)I"⟩, 17), (⟨"CoresAreWills", "edgeTold", "(I)I"⟩, 17), (⟨"CoresAreWills", "sides", "()I"⟩, 17), (⟨"CoresAreWills", "holes", "()I"⟩, 17), (⟨"CoresAreWills", "bestTold", "(III)I"⟩, 17), (⟨"CoresAreWills", "bestFor", "(LCoresAreWills$Core;II)I"⟩, 17), (⟨"CoresAreWills", "openMind", "()LCoresAreWills$Core;"⟩, 17)]
theorem lw_r2 : ∀ q ∈ lw_privs_2, lw_okq q := List.forall_mem_cons.mpr ⟨lw_p16, List.forall_mem_cons.mpr ⟨lw_p17, List.forall_mem_cons.mpr ⟨lw_p18, List.forall_mem_cons.mpr ⟨lw_p19, List.forall_mem_cons.mpr ⟨lw_p20, List.forall_mem_cons.mpr ⟨lw_p21, List.forall_mem_cons.mpr ⟨lw_p22, List.forall_mem_cons.mpr ⟨lw_p23, List.forall_mem_cons.mpr ⟨lw_p24, List.forall_mem_cons.mpr ⟨lw_p25, List.forall_mem_cons.mpr ⟨lw_p26, List.forall_mem_cons.mpr ⟨lw_p27, List.forall_mem_cons.mpr ⟨lw_p28, List.forall_mem_cons.mpr ⟨lw_p29, List.forall_mem_cons.mpr ⟨lw_p30, List.forall_mem_cons.mpr ⟨lw_p31, fun _ h => absurd h List.not_mem_nil⟩⟩⟩⟩⟩⟩⟩⟩⟩⟩⟩⟩⟩⟩⟩⟩
theorem lw_p32 : lw_okq (⟨"CoresAreWills", "fewestTold", "(III)I"⟩, 17) := ⟨⟨by decide +kernel, by decide +kernel⟩, lw_t1 (List.mem_of_getElem? (i := 27) rfl), lw_t4 (List.mem_of_getElem? (i := 5) rfl), lw_t4 (List.mem_of_getElem? (i := 6) rfl)⟩
theorem lw_p33 : lw_okq (⟨"CoresAreWills", "fewestFor", "(III)I"⟩, 17) := ⟨⟨by decide +kernel, by decide +kernel⟩, lw_t1 (List.mem_of_getElem? (i := 27) rfl), lw_t4 (List.mem_of_getElem? (i := 10) rfl), lw_t4 (List.mem_of_getElem? (i := 11) rfl)⟩
theorem lw_p34 : lw_okq (⟨"CoresAreWills", "hasBehindOne", "(LCoresAreWills$Core;III)Z"⟩, 17) := ⟨⟨by decide +kernel, by decide +kernel⟩, lw_t1 (List.mem_of_getElem? (i := 27) rfl), lw_t4 (List.mem_of_getElem? (i := 14) rfl), lw_t4 (List.mem_of_getElem? (i := 15) rfl)⟩
theorem lw_p35 : lw_okq (⟨"CoresAreWills", "manyThatCan", "(IZ)I"⟩, 17) := ⟨⟨by decide +kernel, by decide +kernel⟩, lw_t1 (List.mem_of_getElem? (i := 27) rfl), lw_t4 (List.mem_of_getElem? (i := 18) rfl), lw_t4 (List.mem_of_getElem? (i := 19) rfl)⟩
theorem lw_p36 : lw_okq (⟨"CoresAreWills", "isSafe", "(LCoresAreWills$Core;)Z"⟩, 17) := ⟨⟨by decide +kernel, by decide +kernel⟩, lw_t1 (List.mem_of_getElem? (i := 27) rfl), lw_t4 (List.mem_of_getElem? (i := 22) rfl), lw_t4 (List.mem_of_getElem? (i := 23) rfl)⟩
theorem lw_p37 : lw_okq (⟨"CoresAreWills", "canTold", "(I)I"⟩, 17) := ⟨⟨by decide +kernel, by decide +kernel⟩, lw_t1 (List.mem_of_getElem? (i := 27) rfl), lw_t4 (List.mem_of_getElem? (i := 26) rfl), lw_t4 (List.mem_of_getElem? (i := 27) rfl)⟩
theorem lw_p38 : lw_okq (⟨"CoresAreWills", "waysTold", "(I)I"⟩, 17) := ⟨⟨by decide +kernel, by decide +kernel⟩, lw_t1 (List.mem_of_getElem? (i := 27) rfl), lw_t4 (List.mem_of_getElem? (i := 31) rfl), lw_t4 (List.mem_of_getElem? (i := 32) rfl)⟩
theorem lw_p39 : lw_okq (⟨"CoresAreWills", "clearThen", "()V"⟩, 17) := ⟨⟨by decide +kernel, by decide +kernel⟩, lw_t1 (List.mem_of_getElem? (i := 27) rfl), lw_t4 (List.mem_of_getElem? (i := 35) rfl), lw_t4 (List.mem_of_getElem? (i := 36) rfl)⟩
theorem lw_p40 : lw_okq (⟨"CoresAreWills", "coverFrom", "(II)V"⟩, 17) := ⟨⟨by decide +kernel, by decide +kernel⟩, lw_t1 (List.mem_of_getElem? (i := 27) rfl), lw_t4 (List.mem_of_getElem? (i := 40) rfl), lw_t4 (List.mem_of_getElem? (i := 41) rfl)⟩
theorem lw_p41 : lw_okq (⟨"CoresAreWills", "goTo", "(III)V"⟩, 17) := ⟨⟨by decide +kernel, by decide +kernel⟩, lw_t1 (List.mem_of_getElem? (i := 27) rfl), lw_t4 (List.mem_of_getElem? (i := 44) rfl), lw_t4 (List.mem_of_getElem? (i := 45) rfl)⟩
theorem lw_p42 : lw_okq (⟨"CoresAreWills", "ofRest", "(IIII)I"⟩, 17) := ⟨⟨by decide +kernel, by decide +kernel⟩, lw_t1 (List.mem_of_getElem? (i := 27) rfl), lw_t4 (List.mem_of_getElem? (i := 50) rfl), lw_t4 (List.mem_of_getElem? (i := 51) rfl)⟩
theorem lw_p43 : lw_okq (⟨"CoresAreWills", "alikeTold", "(I)I"⟩, 17) := ⟨⟨by decide +kernel, by decide +kernel⟩, lw_t1 (List.mem_of_getElem? (i := 27) rfl), lw_t4 (List.mem_of_getElem? (i := 54) rfl), lw_t4 (List.mem_of_getElem? (i := 55) rfl)⟩
theorem lw_p44 : lw_okq (⟨"CoresAreWills", "settlesTold", "(I)I"⟩, 17) := ⟨⟨by decide +kernel, by decide +kernel⟩, lw_t1 (List.mem_of_getElem? (i := 27) rfl), lw_t4 (List.mem_of_getElem? (i := 59) rfl), lw_t4 (List.mem_of_getElem? (i := 60) rfl)⟩
theorem lw_p45 : lw_okq (⟨"CoresAreWills", "settledBy", "(I)I"⟩, 17) := ⟨⟨by decide +kernel, by decide +kernel⟩, lw_t1 (List.mem_of_getElem? (i := 27) rfl), lw_t4 (List.mem_of_getElem? (i := 63) rfl), lw_t4 (List.mem_of_getElem? (i := 64) rfl)⟩
theorem lw_p46 : lw_okq (⟨"CoresAreWills", "pipsTold", "(I)I"⟩, 17) := ⟨⟨by decide +kernel, by decide +kernel⟩, lw_t1 (List.mem_of_getElem? (i := 27) rfl), lw_t4 (List.mem_of_getElem? (i := 67) rfl), lw_t4 (List.mem_of_getElem? (i := 68) rfl)⟩
theorem lw_p47 : lw_okq (⟨"CoresAreWills", "worstGrudge", "(I)I"⟩, 17) := ⟨⟨by decide +kernel, by decide +kernel⟩, lw_t1 (List.mem_of_getElem? (i := 27) rfl), lw_t4 (List.mem_of_getElem? (i := 71) rfl), lw_t4 (List.mem_of_getElem? (i := 72) rfl)⟩
def lw_privs_3 : List (MethodName × Nat) := [(⟨"CoresAreWills", "fewestTold", "(III)I"⟩, 17), (⟨"CoresAreWills", "fewestFor", "(III)I"⟩, 17), (⟨"CoresAreWills", "hasBehindOne", "(LCoresAreWills$Core;III)Z"⟩, 17), (⟨"CoresAreWills", "manyThatCan", "(IZ)I"⟩, 17), (⟨"CoresAreWills", "isSafe", "(LCoresAreWills$Core;)Z"⟩, 17), (⟨"CoresAreWills", "canTold", "(I)I"⟩, 17), (⟨"CoresAreWills", "waysTold", "(I)I"⟩, 17), (⟨"CoresAreWills", "clearThen", "()V"⟩, 17), (⟨"CoresAreWills", "coverFrom", "(II)V"⟩, 17), (⟨"CoresAreWills", "goTo", "(III)V"⟩, 17), (⟨"CoresAreWills", "ofRest", "(IIII)I"⟩, 17), (⟨"CoresAreWills", "alikeTold", "(I)I"⟩, 17), (⟨"CoresAreWills", "settlesTold", "(I)I"⟩, 17), (⟨"CoresAreWills", "settledBy", "(I)I"⟩, 17), (⟨"CoresAreWills", "pipsTold", "(I)I"⟩, 17), (⟨"CoresAreWills", "worstGrudge", "(I)I"⟩, 17)]
theorem lw_r3 : ∀ q ∈ lw_privs_3, lw_okq q := List.forall_mem_cons.mpr ⟨lw_p32, List.forall_mem_cons.mpr ⟨lw_p33, List.forall_mem_cons.mpr ⟨lw_p34, List.forall_mem_cons.mpr ⟨lw_p35, List.forall_mem_cons.mpr ⟨lw_p36, List.forall_mem_cons.mpr ⟨lw_p37, List.forall_mem_cons.mpr ⟨lw_p38, List.forall_mem_cons.mpr ⟨lw_p39, List.forall_mem_cons.mpr ⟨lw_p40, List.forall_mem_cons.mpr ⟨lw_p41, List.forall_mem_cons.mpr ⟨lw_p42, List.forall_mem_cons.mpr ⟨lw_p43, List.forall_mem_cons.mpr ⟨lw_p44, List.forall_mem_cons.mpr ⟨lw_p45, List.forall_mem_cons.mpr ⟨lw_p46, List.forall_mem_cons.mpr ⟨lw_p47, fun _ h => absurd h List.not_mem_nil⟩⟩⟩⟩⟩⟩⟩⟩⟩⟩⟩⟩⟩⟩⟩⟩
theorem lw_p48 : lw_okq (⟨"CoresAreWills", "shareBy", "(II)I"⟩, 17) := ⟨⟨by decide +kernel, by decide +kernel⟩, lw_t1 (List.mem_of_getElem? (i := 27) rfl), lw_t4 (List.mem_of_getElem? (i := 76) rfl), lw_t4 (List.mem_of_getElem? (i := 77) rfl)⟩
theorem lw_p49 : lw_okq (⟨"CoresAreWills", "gainTold", "(II)I"⟩, 17) := ⟨⟨by decide +kernel, by decide +kernel⟩, lw_t1 (List.mem_of_getElem? (i := 27) rfl), lw_t4 (List.mem_of_getElem? (i := 80) rfl), lw_t4 (List.mem_of_getElem? (i := 81) rfl)⟩
theorem lw_p50 : lw_okq (⟨"CoresAreWills", "mustBeTwo", "(II)V"⟩, 17) := ⟨⟨by decide +kernel, by decide +kernel⟩, lw_t1 (List.mem_of_getElem? (i := 27) rfl), lw_t4 (List.mem_of_getElem? (i := 84) rfl), lw_t4 (List.mem_of_getElem? (i := 85) rfl)⟩
theorem lw_p51 : lw_okq (⟨"CoresAreWills", "gainOf", "(II)I"⟩, 17) := ⟨⟨by decide +kernel, by decide +kernel⟩, lw_t1 (List.mem_of_getElem? (i := 27) rfl), lw_t4 (List.mem_of_getElem? (i := 88) rfl), lw_t4 (List.mem_of_getElem? (i := 89) rfl)⟩
theorem lw_p52 : lw_okq (⟨"CoresAreWills", "joinTold", "(I)I"⟩, 17) := ⟨⟨by decide +kernel, by decide +kernel⟩, lw_t1 (List.mem_of_getElem? (i := 27) rfl), lw_t4 (List.mem_of_getElem? (i := 92) rfl), lw_t4 (List.mem_of_getElem? (i := 93) rfl)⟩
theorem lw_p53 : lw_okq (⟨"CoresAreWills", "bridgeTold", "(I)I"⟩, 17) := ⟨⟨by decide +kernel, by decide +kernel⟩, lw_t1 (List.mem_of_getElem? (i := 27) rfl), lw_t4 (List.mem_of_getElem? (i := 96) rfl), lw_t4 (List.mem_of_getElem? (i := 97) rfl)⟩
theorem lw_p54 : lw_okq (⟨"CoresAreWills", "middleCell", "()I"⟩, 17) := ⟨⟨by decide +kernel, by decide +kernel⟩, lw_t1 (List.mem_of_getElem? (i := 27) rfl), lw_t4 (List.mem_of_getElem? (i := 100) rfl), lw_t4 (List.mem_of_getElem? (i := 101) rfl)⟩
theorem lw_p55 : lw_okq (⟨"CoresAreWills", "stepsFrom", "(I)I"⟩, 17) := ⟨⟨by decide +kernel, by decide +kernel⟩, lw_t1 (List.mem_of_getElem? (i := 27) rfl), lw_t4 (List.mem_of_getElem? (i := 104) rfl), lw_t4 (List.mem_of_getElem? (i := 105) rfl)⟩
theorem lw_p56 : lw_okq (⟨"CoresAreWills", "bridgeBits", "()I"⟩, 17) := ⟨⟨by decide +kernel, by decide +kernel⟩, lw_t1 (List.mem_of_getElem? (i := 27) rfl), lw_t4 (List.mem_of_getElem? (i := 111) rfl), lw_t4 (List.mem_of_getElem? (i := 112) rfl)⟩
theorem lw_p57 : lw_okq (⟨"CoresAreWills", "twoTold", "(II)I"⟩, 17) := ⟨⟨by decide +kernel, by decide +kernel⟩, lw_t1 (List.mem_of_getElem? (i := 27) rfl), lw_t4 (List.mem_of_getElem? (i := 115) rfl), lw_t4 (List.mem_of_getElem? (i := 116) rfl)⟩
theorem lw_p58 : lw_okq (⟨"CoresAreWills", "restingBites", "(II)I"⟩, 17) := ⟨⟨by decide +kernel, by decide +kernel⟩, lw_t1 (List.mem_of_getElem? (i := 27) rfl), lw_t4 (List.mem_of_getElem? (i := 119) rfl), lw_t4 (List.mem_of_getElem? (i := 120) rfl)⟩
theorem lw_p59 : lw_okq (⟨"CoresAreWills", "biteAs", "(LCoresAreWills$Core;II)V"⟩, 17) := ⟨⟨by decide +kernel, by decide +kernel⟩, lw_t1 (List.mem_of_getElem? (i := 27) rfl), lw_t4 (List.mem_of_getElem? (i := 123) rfl), lw_t4 (List.mem_of_getElem? (i := 124) rfl)⟩
theorem lw_p60 : lw_okq (⟨"CoresAreWills", "ofLast", "(IIII)I"⟩, 17) := ⟨⟨by decide +kernel, by decide +kernel⟩, lw_t1 (List.mem_of_getElem? (i := 27) rfl), lw_t4 (List.mem_of_getElem? (i := 130) rfl), lw_t4 (List.mem_of_getElem? (i := 131) rfl)⟩
theorem lw_p61 : lw_okq (⟨"CoresAreWills", "whatTold", "(II)I"⟩, 17) := ⟨⟨by decide +kernel, by decide +kernel⟩, lw_t1 (List.mem_of_getElem? (i := 27) rfl), lw_t4 (List.mem_of_getElem? (i := 134) rfl), lw_t4 (List.mem_of_getElem? (i := 135) rfl)⟩
theorem lw_p62 : lw_okq (⟨"CoresAreWills", "fitting", "(II)I"⟩, 17) := ⟨⟨by decide +kernel, by decide +kernel⟩, lw_t1 (List.mem_of_getElem? (i := 27) rfl), lw_t4 (List.mem_of_getElem? (i := 138) rfl), lw_t4 (List.mem_of_getElem? (i := 139) rfl)⟩
theorem lw_p63 : lw_okq (⟨"CoresAreWills", "isRow", "(LCoresAreWills$Core;I)Z"⟩, 17) := ⟨⟨by decide +kernel, by decide +kernel⟩, lw_t1 (List.mem_of_getElem? (i := 27) rfl), lw_t4 (List.mem_of_getElem? (i := 142) rfl), lw_t4 (List.mem_of_getElem? (i := 143) rfl)⟩
def lw_privs_4 : List (MethodName × Nat) := [(⟨"CoresAreWills", "shareBy", "(II)I"⟩, 17), (⟨"CoresAreWills", "gainTold", "(II)I"⟩, 17), (⟨"CoresAreWills", "mustBeTwo", "(II)V"⟩, 17), (⟨"CoresAreWills", "gainOf", "(II)I"⟩, 17), (⟨"CoresAreWills", "joinTold", "(I)I"⟩, 17), (⟨"CoresAreWills", "bridgeTold", "(I)I"⟩, 17), (⟨"CoresAreWills", "middleCell", "()I"⟩, 17), (⟨"CoresAreWills", "stepsFrom", "(I)I"⟩, 17), (⟨"CoresAreWills", "bridgeBits", "()I"⟩, 17), (⟨"CoresAreWills", "twoTold", "(II)I"⟩, 17), (⟨"CoresAreWills", "restingBites", "(II)I"⟩, 17), (⟨"CoresAreWills", "biteAs", "(LCoresAreWills$Core;II)V"⟩, 17), (⟨"CoresAreWills", "ofLast", "(IIII)I"⟩, 17), (⟨"CoresAreWills", "whatTold", "(II)I"⟩, 17), (⟨"CoresAreWills", "fitting", "(II)I"⟩, 17), (⟨"CoresAreWills", "isRow", "(LCoresAreWills$Core;I)Z"⟩, 17)]
theorem lw_r4 : ∀ q ∈ lw_privs_4, lw_okq q := List.forall_mem_cons.mpr ⟨lw_p48, List.forall_mem_cons.mpr ⟨lw_p49, List.forall_mem_cons.mpr ⟨lw_p50, List.forall_mem_cons.mpr ⟨lw_p51, List.forall_mem_cons.mpr ⟨lw_p52, List.forall_mem_cons.mpr ⟨lw_p53, List.forall_mem_cons.mpr ⟨lw_p54, List.forall_mem_cons.mpr ⟨lw_p55, List.forall_mem_cons.mpr ⟨lw_p56, List.forall_mem_cons.mpr ⟨lw_p57, List.forall_mem_cons.mpr ⟨lw_p58, List.forall_mem_cons.mpr ⟨lw_p59, List.forall_mem_cons.mpr ⟨lw_p60, List.forall_mem_cons.mpr ⟨lw_p61, List.forall_mem_cons.mpr ⟨lw_p62, List.forall_mem_cons.mpr ⟨lw_p63, fun _ h => absurd h List.not_mem_nil⟩⟩⟩⟩⟩⟩⟩⟩⟩⟩⟩⟩⟩⟩⟩⟩
theorem lw_p64 : lw_okq (⟨"CoresAreWills", "judgeRow", "()I"⟩, 17) := ⟨⟨by decide +kernel, by decide +kernel⟩, lw_t1 (List.mem_of_getElem? (i := 27) rfl), lw_t4 (List.mem_of_getElem? (i := 147) rfl), lw_t4 (List.mem_of_getElem? (i := 148) rfl)⟩
theorem lw_p65 : lw_okq (⟨"CoresAreWills", "lotsTold", "(III)I"⟩, 17) := ⟨⟨by decide +kernel, by decide +kernel⟩, lw_t1 (List.mem_of_getElem? (i := 27) rfl), lw_t4 (List.mem_of_getElem? (i := 151) rfl), lw_t4 (List.mem_of_getElem? (i := 152) rfl)⟩
theorem lw_p66 : lw_okq (⟨"CoresAreWills", "byLots", "(III)I"⟩, 17) := ⟨⟨by decide +kernel, by decide +kernel⟩, lw_t1 (List.mem_of_getElem? (i := 27) rfl), lw_t4 (List.mem_of_getElem? (i := 156) rfl), lw_t4 (List.mem_of_getElem? (i := 157) rfl)⟩
theorem lw_p67 : lw_okq (⟨"CoresAreWills", "drawBelow", "(I)I"⟩, 17) := ⟨⟨by decide +kernel, by decide +kernel⟩, lw_t1 (List.mem_of_getElem? (i := 27) rfl), lw_t4 (List.mem_of_getElem? (i := 160) rfl), lw_t4 (List.mem_of_getElem? (i := 161) rfl)⟩
theorem lw_p68 : lw_okq (⟨"CoresAreWills", "refuse", "(I)I"⟩, 17) := ⟨⟨by decide +kernel, by decide +kernel⟩, lw_t1 (List.mem_of_getElem? (i := 27) rfl), lw_t4 (List.mem_of_getElem? (i := 176) rfl), lw_t4 (List.mem_of_getElem? (i := 177) rfl)⟩
theorem lw_p69 : lw_okq (⟨"CoresAreWills", "actFar", "(IIII)I"⟩, 17) := ⟨⟨by decide +kernel, by decide +kernel⟩, lw_t1 (List.mem_of_getElem? (i := 27) rfl), lw_t5 (List.mem_of_getElem? (i := 28) rfl), lw_t5 (List.mem_of_getElem? (i := 29) rfl)⟩
theorem lw_p70 : lw_okq (⟨"CoresAreWills", "chanceTold", "(IIII)J"⟩, 17) := ⟨⟨by decide +kernel, by decide +kernel⟩, lw_t1 (List.mem_of_getElem? (i := 27) rfl), lw_t5 (List.mem_of_getElem? (i := 48) rfl), lw_t5 (List.mem_of_getElem? (i := 49) rfl)⟩
theorem lw_p71 : lw_okq (⟨"CoresAreWills", "chancePart", "(IIII)J"⟩, 17) := ⟨⟨by decide +kernel, by decide +kernel⟩, lw_t1 (List.mem_of_getElem? (i := 27) rfl), lw_t5 (List.mem_of_getElem? (i := 52) rfl), lw_t5 (List.mem_of_getElem? (i := 53) rfl)⟩
theorem lw_p72 : lw_okq (⟨"CoresAreWills", "manyWays", "(LCoresAreWills$Core;IIII)J"⟩, 17) := ⟨⟨by decide +kernel, by decide +kernel⟩, lw_t1 (List.mem_of_getElem? (i := 27) rfl), lw_t5 (List.mem_of_getElem? (i := 56) rfl), lw_t5 (List.mem_of_getElem? (i := 57) rfl)⟩
theorem lw_p73 : lw_okq (⟨"CoresAreWills", "far", "(LCoresAreWills$Refusal;)J"⟩, 17) := ⟨⟨by decide +kernel, by decide +kernel⟩, lw_t1 (List.mem_of_getElem? (i := 27) rfl), lw_t5 (List.mem_of_getElem? (i := 66) rfl), lw_t5 (List.mem_of_getElem? (i := 67) rfl)⟩
theorem lw_p74 : lw_okq (⟨"CoresAreWills", "meanTold", "(I)J"⟩, 17) := ⟨⟨by decide +kernel, by decide +kernel⟩, lw_t1 (List.mem_of_getElem? (i := 27) rfl), lw_t5 (List.mem_of_getElem? (i := 75) rfl), lw_t5 (List.mem_of_getElem? (i := 76) rfl)⟩
theorem lw_p75 : lw_okq (⟨"CoresAreWillsModel", "no", "(I)I"⟩, 26) := ⟨⟨by decide +kernel, by decide +kernel⟩, lw_t5 (List.mem_of_getElem? (i := 113) rfl), lw_t5 (List.mem_of_getElem? (i := 203) rfl), lw_t5 (List.mem_of_getElem? (i := 204) rfl)⟩
theorem lw_p76 : lw_okq (⟨"CoresAreWillsModel", "readsStatement", "()Z"⟩, 26) := ⟨⟨by decide +kernel, by decide +kernel⟩, lw_t5 (List.mem_of_getElem? (i := 113) rfl), lw_t5 (List.mem_of_getElem? (i := 211) rfl), lw_t5 (List.mem_of_getElem? (i := 212) rfl)⟩
theorem lw_p77 : lw_okq (⟨"CoresAreWillsModel", "here", "()I"⟩, 26) := ⟨⟨by decide +kernel, by decide +kernel⟩, lw_t5 (List.mem_of_getElem? (i := 113) rfl), lw_t5 (List.mem_of_getElem? (i := 215) rfl), lw_t5 (List.mem_of_getElem? (i := 216) rfl)⟩
theorem lw_p78 : lw_okq (⟨"CoresAreWillsModel", "readsKind", "()Z"⟩, 26) := ⟨⟨by decide +kernel, by decide +kernel⟩, lw_t5 (List.mem_of_getElem? (i := 113) rfl), lw_t5 (List.mem_of_getElem? (i := 219) rfl), lw_t5 (List.mem_of_getElem? (i := 220) rfl)⟩
theorem lw_p79 : lw_okq (⟨"CoresAreWillsModel", "readsNumber", "(II)Z"⟩, 26) := ⟨⟨by decide +kernel, by decide +kernel⟩, lw_t5 (List.mem_of_getElem? (i := 113) rfl), lw_t5 (List.mem_of_getElem? (i := 226) rfl), lw_t5 (List.mem_of_getElem? (i := 227) rfl)⟩
def lw_privs_5 : List (MethodName × Nat) := [(⟨"CoresAreWills", "judgeRow", "()I"⟩, 17), (⟨"CoresAreWills", "lotsTold", "(III)I"⟩, 17), (⟨"CoresAreWills", "byLots", "(III)I"⟩, 17), (⟨"CoresAreWills", "drawBelow", "(I)I"⟩, 17), (⟨"CoresAreWills", "refuse", "(I)I"⟩, 17), (⟨"CoresAreWills", "actFar", "(IIII)I"⟩, 17), (⟨"CoresAreWills", "chanceTold", "(IIII)J"⟩, 17), (⟨"CoresAreWills", "chancePart", "(IIII)J"⟩, 17), (⟨"CoresAreWills", "manyWays", "(LCoresAreWills$Core;IIII)J"⟩, 17), (⟨"CoresAreWills", "far", "(LCoresAreWills$Refusal;)J"⟩, 17), (⟨"CoresAreWills", "meanTold", "(I)J"⟩, 17), (⟨"CoresAreWillsModel", "no", "(I)I"⟩, 26), (⟨"CoresAreWillsModel", "readsStatement", "()Z"⟩, 26), (⟨"CoresAreWillsModel", "here", "()I"⟩, 26), (⟨"CoresAreWillsModel", "readsKind", "()Z"⟩, 26), (⟨"CoresAreWillsModel", "readsNumber", "(II)Z"⟩, 26)]
theorem lw_r5 : ∀ q ∈ lw_privs_5, lw_okq q := List.forall_mem_cons.mpr ⟨lw_p64, List.forall_mem_cons.mpr ⟨lw_p65, List.forall_mem_cons.mpr ⟨lw_p66, List.forall_mem_cons.mpr ⟨lw_p67, List.forall_mem_cons.mpr ⟨lw_p68, List.forall_mem_cons.mpr ⟨lw_p69, List.forall_mem_cons.mpr ⟨lw_p70, List.forall_mem_cons.mpr ⟨lw_p71, List.forall_mem_cons.mpr ⟨lw_p72, List.forall_mem_cons.mpr ⟨lw_p73, List.forall_mem_cons.mpr ⟨lw_p74, List.forall_mem_cons.mpr ⟨lw_p75, List.forall_mem_cons.mpr ⟨lw_p76, List.forall_mem_cons.mpr ⟨lw_p77, List.forall_mem_cons.mpr ⟨lw_p78, List.forall_mem_cons.mpr ⟨lw_p79, fun _ h => absurd h List.not_mem_nil⟩⟩⟩⟩⟩⟩⟩⟩⟩⟩⟩⟩⟩⟩⟩⟩
theorem lw_p80 : lw_okq (⟨"CoresAreWillsModel", "lays", "()V"⟩, 26) := ⟨⟨by decide +kernel, by decide +kernel⟩, lw_t5 (List.mem_of_getElem? (i := 113) rfl), lw_t5 (List.mem_of_getElem? (i := 233) rfl), lw_t5 (List.mem_of_getElem? (i := 234) rfl)⟩
theorem lw_p81 : lw_okq (⟨"CoresAreWillsModel", "isDone", "(I)Z"⟩, 26) := ⟨⟨by decide +kernel, by decide +kernel⟩, lw_t5 (List.mem_of_getElem? (i := 113) rfl), lw_t5 (List.mem_of_getElem? (i := 237) rfl), lw_t5 (List.mem_of_getElem? (i := 238) rfl)⟩
theorem lw_p82 : lw_okq (⟨"CoresAreWillsModel", "bitesOff", "(I)V"⟩, 26) := ⟨⟨by decide +kernel, by decide +kernel⟩, lw_t5 (List.mem_of_getElem? (i := 113) rfl), lw_t6 (List.mem_of_getElem? (i := 10) rfl), lw_t6 (List.mem_of_getElem? (i := 11) rfl)⟩
theorem lw_p83 : lw_okq (⟨"CoresAreWillsModel", "allAgain", "()V"⟩, 26) := ⟨⟨by decide +kernel, by decide +kernel⟩, lw_t5 (List.mem_of_getElem? (i := 113) rfl), lw_t6 (List.mem_of_getElem? (i := 23) rfl), lw_t6 (List.mem_of_getElem? (i := 24) rfl)⟩
theorem lw_p84 : lw_okq (⟨"CoresAreWillsModel", "laysBack", "()V"⟩, 26) := ⟨⟨by decide +kernel, by decide +kernel⟩, lw_t5 (List.mem_of_getElem? (i := 113) rfl), lw_t6 (List.mem_of_getElem? (i := 27) rfl), lw_t6 (List.mem_of_getElem? (i := 28) rfl)⟩
theorem lw_p85 : lw_okq (⟨"CoresAreWillsModel", "isHeir", "(I)Z"⟩, 26) := ⟨⟨by decide +kernel, by decide +kernel⟩, lw_t5 (List.mem_of_getElem? (i := 113) rfl), lw_t6 (List.mem_of_getElem? (i := 48) rfl), lw_t6 (List.mem_of_getElem? (i := 49) rfl)⟩
theorem lw_p86 : lw_okq (⟨"CoresAreWillsModel", "shareOf", "(II)I"⟩, 26) := ⟨⟨by decide +kernel, by decide +kernel⟩, lw_t5 (List.mem_of_getElem? (i := 113) rfl), lw_t6 (List.mem_of_getElem? (i := 52) rfl), lw_t6 (List.mem_of_getElem? (i := 53) rfl)⟩
theorem lw_p87 : lw_okq (⟨"CoresAreWillsModel", "sharesOf", "(I)I"⟩, 26) := ⟨⟨by decide +kernel, by decide +kernel⟩, lw_t5 (List.mem_of_getElem? (i := 113) rfl), lw_t6 (List.mem_of_getElem? (i := 101) rfl), lw_t6 (List.mem_of_getElem? (i := 102) rfl)⟩
theorem lw_p88 : lw_okq (⟨"CoresAreWillsModel", "biteTold", "(III)I"⟩, 26) := ⟨⟨by decide +kernel, by decide +kernel⟩, lw_t5 (List.mem_of_getElem? (i := 113) rfl), lw_t6 (List.mem_of_getElem? (i := 123) rfl), lw_t6 (List.mem_of_getElem? (i := 124) rfl)⟩
theorem lw_p89 : lw_okq (⟨"CoresAreWillsModel", "biteFor", "(III)I"⟩, 26) := ⟨⟨by decide +kernel, by decide +kernel⟩, lw_t5 (List.mem_of_getElem? (i := 113) rfl), lw_t6 (List.mem_of_getElem? (i := 127) rfl), lw_t6 (List.mem_of_getElem? (i := 128) rfl)⟩
theorem lw_p90 : lw_okq (⟨"CoresAreWillsModel", "isSoBy", "(IIII)Z"⟩, 26) := ⟨⟨by decide +kernel, by decide +kernel⟩, lw_t5 (List.mem_of_getElem? (i := 113) rfl), lw_t6 (List.mem_of_getElem? (i := 142) rfl), lw_t6 (List.mem_of_getElem? (i := 143) rfl)⟩
theorem lw_p91 : lw_okq (⟨"CoresAreWillsModel", "firstSo", "(III)I"⟩, 26) := ⟨⟨by decide +kernel, by decide +kernel⟩, lw_t5 (List.mem_of_getElem? (i := 113) rfl), lw_t6 (List.mem_of_getElem? (i := 146) rfl), lw_t6 (List.mem_of_getElem? (i := 147) rfl)⟩
theorem lw_p92 : lw_okq (⟨"CoresAreWillsModel", "comesTo", "(IIII)V"⟩, 26) := ⟨⟨by decide +kernel, by decide +kernel⟩, lw_t5 (List.mem_of_getElem? (i := 113) rfl), lw_t6 (List.mem_of_getElem? (i := 163) rfl), lw_t6 (List.mem_of_getElem? (i := 164) rfl)⟩
theorem lw_p93 : lw_okq (⟨"CoresAreWillsModel", "areTwo", "(II)Z"⟩, 26) := ⟨⟨by decide +kernel, by decide +kernel⟩, lw_t5 (List.mem_of_getElem? (i := 113) rfl), lw_t6 (List.mem_of_getElem? (i := 188) rfl), lw_t6 (List.mem_of_getElem? (i := 189) rfl)⟩
theorem lw_p94 : lw_okq (⟨"CoresAreWillsModel", "noFar", "(I)I"⟩, 26) := ⟨⟨by decide +kernel, by decide +kernel⟩, lw_t5 (List.mem_of_getElem? (i := 113) rfl), lw_t6 (List.mem_of_getElem? (i := 192) rfl), lw_t6 (List.mem_of_getElem? (i := 193) rfl)⟩
theorem lw_p95 : lw_okq (⟨"CoresAreWillsModel", "stepsFrom", "(I)I"⟩, 26) := ⟨⟨by decide +kernel, by decide +kernel⟩, lw_t5 (List.mem_of_getElem? (i := 113) rfl), lw_t6 (List.mem_of_getElem? (i := 204) rfl), lw_t6 (List.mem_of_getElem? (i := 205) rfl)⟩
def lw_privs_6 : List (MethodName × Nat) := [(⟨"CoresAreWillsModel", "lays", "()V"⟩, 26), (⟨"CoresAreWillsModel", "isDone", "(I)Z"⟩, 26), (⟨"CoresAreWillsModel", "bitesOff", "(I)V"⟩, 26), (⟨"CoresAreWillsModel", "allAgain", "()V"⟩, 26), (⟨"CoresAreWillsModel", "laysBack", "()V"⟩, 26), (⟨"CoresAreWillsModel", "isHeir", "(I)Z"⟩, 26), (⟨"CoresAreWillsModel", "shareOf", "(II)I"⟩, 26), (⟨"CoresAreWillsModel", "sharesOf", "(I)I"⟩, 26), (⟨"CoresAreWillsModel", "biteTold", "(III)I"⟩, 26), (⟨"CoresAreWillsModel", "biteFor", "(III)I"⟩, 26), (⟨"CoresAreWillsModel", "isSoBy", "(IIII)Z"⟩, 26), (⟨"CoresAreWillsModel", "firstSo", "(III)I"⟩, 26), (⟨"CoresAreWillsModel", "comesTo", "(IIII)V"⟩, 26), (⟨"CoresAreWillsModel", "areTwo", "(II)Z"⟩, 26), (⟨"CoresAreWillsModel", "noFar", "(I)I"⟩, 26), (⟨"CoresAreWillsModel", "stepsFrom", "(I)I"⟩, 26)]
theorem lw_r6 : ∀ q ∈ lw_privs_6, lw_okq q := List.forall_mem_cons.mpr ⟨lw_p80, List.forall_mem_cons.mpr ⟨lw_p81, List.forall_mem_cons.mpr ⟨lw_p82, List.forall_mem_cons.mpr ⟨lw_p83, List.forall_mem_cons.mpr ⟨lw_p84, List.forall_mem_cons.mpr ⟨lw_p85, List.forall_mem_cons.mpr ⟨lw_p86, List.forall_mem_cons.mpr ⟨lw_p87, List.forall_mem_cons.mpr ⟨lw_p88, List.forall_mem_cons.mpr ⟨lw_p89, List.forall_mem_cons.mpr ⟨lw_p90, List.forall_mem_cons.mpr ⟨lw_p91, List.forall_mem_cons.mpr ⟨lw_p92, List.forall_mem_cons.mpr ⟨lw_p93, List.forall_mem_cons.mpr ⟨lw_p94, List.forall_mem_cons.mpr ⟨lw_p95, fun _ h => absurd h List.not_mem_nil⟩⟩⟩⟩⟩⟩⟩⟩⟩⟩⟩⟩⟩⟩⟩⟩
theorem lw_p96 : lw_okq (⟨"CoresAreWillsModel", "shareBoth", "(IIIII)I"⟩, 26) := ⟨⟨by decide +kernel, by decide +kernel⟩, lw_t5 (List.mem_of_getElem? (i := 113) rfl), lw_t6 (List.mem_of_getElem? (i := 212) rfl), lw_t6 (List.mem_of_getElem? (i := 213) rfl)⟩
theorem lw_p97 : lw_okq (⟨"CoresAreWillsModel", "firstBite", "(I)I"⟩, 26) := ⟨⟨by decide +kernel, by decide +kernel⟩, lw_t5 (List.mem_of_getElem? (i := 113) rfl), lw_t6 (List.mem_of_getElem? (i := 216) rfl), lw_t6 (List.mem_of_getElem? (i := 217) rfl)⟩
theorem lw_p98 : lw_okq (⟨"CoresAreWillsModel", "noWide", "(I)J"⟩, 26) := ⟨⟨by decide +kernel, by decide +kernel⟩, lw_t5 (List.mem_of_getElem? (i := 113) rfl), lw_t6 (List.mem_of_getElem? (i := 224) rfl), lw_t6 (List.mem_of_getElem? (i := 225) rfl)⟩
theorem lw_p99 : lw_okq (⟨"CoresAreWillsModel", "waysFor", "(IIII)J"⟩, 26) := ⟨⟨by decide +kernel, by decide +kernel⟩, lw_t5 (List.mem_of_getElem? (i := 113) rfl), lw_t6 (List.mem_of_getElem? (i := 229) rfl), lw_t6 (List.mem_of_getElem? (i := 230) rfl)⟩
theorem lw_p100 : lw_okq (⟨"CoresAreWillsModel", "drawn", "(I)I"⟩, 26) := ⟨⟨by decide +kernel, by decide +kernel⟩, lw_t5 (List.mem_of_getElem? (i := 113) rfl), lw_t7 (List.mem_of_getElem? (i := 23) rfl), lw_t7 (List.mem_of_getElem? (i := 24) rfl)⟩
def lw_privs_7 : List (MethodName × Nat) := [(⟨"CoresAreWillsModel", "shareBoth", "(IIIII)I"⟩, 26), (⟨"CoresAreWillsModel", "firstBite", "(I)I"⟩, 26), (⟨"CoresAreWillsModel", "noWide", "(I)J"⟩, 26), (⟨"CoresAreWillsModel", "waysFor", "(IIII)J"⟩, 26), (⟨"CoresAreWillsModel", "drawn", "(I)I"⟩, 26)]
theorem lw_r7 : ∀ q ∈ lw_privs_7, lw_okq q := List.forall_mem_cons.mpr ⟨lw_p96, List.forall_mem_cons.mpr ⟨lw_p97, List.forall_mem_cons.mpr ⟨lw_p98, List.forall_mem_cons.mpr ⟨lw_p99, List.forall_mem_cons.mpr ⟨lw_p100, fun _ h => absurd h List.not_mem_nil⟩⟩⟩⟩⟩
def lw_privs : List (MethodName × Nat) := lw_privs_1 ++ (lw_privs_2 ++ (lw_privs_3 ++ (lw_privs_4 ++ (lw_privs_5 ++ (lw_privs_6 ++ (lw_privs_7))))))
def lw_tbl : List Cond := k2_sels lw_privs ++ tables_1
theorem lw_privs_ok : ∀ q ∈ lw_privs, lw_okq q := by
  show ∀ q ∈ lw_privs_1 ++ (lw_privs_2 ++ (lw_privs_3 ++ (lw_privs_4 ++ (lw_privs_5 ++ (lw_privs_6 ++ (lw_privs_7)))))), lw_okq q
  exact List.forall_mem_append.mpr ⟨lw_r1, List.forall_mem_append.mpr ⟨lw_r2, List.forall_mem_append.mpr ⟨lw_r3, List.forall_mem_append.mpr ⟨lw_r4, List.forall_mem_append.mpr ⟨lw_r5, List.forall_mem_append.mpr ⟨lw_r6, lw_r7⟩⟩⟩⟩⟩⟩
-- ===== ONE list of words for every method: the tables' words that hold all through a run =====
def lw_all : List Cond := lw_tbl.filter goodWord
/-- a word of the tables by its place: claim/WORDS.tsv -/
theorem lw_w {w : Cond} (i : Nat) (h : lw_tbl[i]? = some w) (g : goodWord w = true) : w ∈ lw_all := List.mem_filter.mpr ⟨List.mem_of_getElem? h, g⟩
theorem lw_all_tbl {w : Cond} (h : w ∈ lw_all) : w ∈ lw_tbl := (List.mem_filter.mp h).1
theorem lw_self : GoodIn lw_all lw_all := fun w h => ⟨h, good_of_word (List.mem_filter.mp h).2⟩
/-- a class's field words, by their places -/
theorem lw_in (ws : List Cond) (ps : List Nat) (hp : ws = ps.filterMap (fun i => lw_tbl[i]?)) (hg : ws.all goodWord = true) : ∀ w ∈ ws, w ∈ lw_all := by
  intro w h
  have h1 := List.all_eq_true.mp hg w h
  rw [hp] at h
  obtain ⟨i, -, hi⟩ := List.mem_filterMap.mp h
  exact lw_w i hi h1
/-- the words of a contract for the method y with code b, L locals, answer r -/
abbrev ws_ (y : MethodName) (b : ByteArray) (L : Nat) (r : Option FieldType) : List Cond := Cond.code y b L r :: lw_all
theorem lw_meth {y : MethodName} {b : ByteArray} {L : Nat} {r : Option FieldType} (h : Cond.code y b L r ∈ lw_all) : GoodIn lw_all (ws_ y b L r) := by
  intro w hw
  rcases List.mem_cons.mp hw with e | e
  · rw [e]
    exact lw_self _ h
  · exact lw_self _ e
theorem lw_app {a c : List Cond} (ha : ∀ w ∈ a, w ∈ lw_all) (hc : GoodIn lw_all c) : GoodIn lw_all (a ++ c) := by
  intro w hw
  rcases List.mem_append.mp hw with e | e
  · exact lw_self w (ha w e)
  · exact hc w e
/-- what a call through an object asks: cwV n hts (lw_V ..) -/
theorem lw_V {own : String} {idx : Nat} {C : String} {y : MethodName} {b : ByteArray} {L : Nat} {r : Option FieldType} (h1 : Cond.methodLink own idx y ∈ lw_all) (h2 : Cond.instanceMethod y ∈ lw_all) (h3 : Cond.selects C y y ∈ lw_all) (h4 : Cond.initialized C ∈ lw_all) (h5 : Cond.code y b L r ∈ lw_all) : GoodIn lw_all (wsV own idx C y (ws_ y b L r)) := by
  refine lw_app ?_ (lw_meth h5)
  intro w hw
  simp only [List.mem_cons, List.not_mem_nil, or_false] at hw
  rcases hw with e | e | e | e
  · rw [e]; exact h1
  · rw [e]; exact h2
  · rw [e]; exact h3
  · rw [e]; exact h4
/-- what a static call asks: va_cwS n hts (lw_S ..) -/
theorem lw_S {own : String} {idx : Nat} {y : MethodName} {b : ByteArray} {L : Nat} {r : Option FieldType} (h1 : Cond.methodLink own idx y ∈ lw_all) (h2 : Cond.static y ∈ lw_all) (h3 : Cond.initialized y.cls ∈ lw_all) (h4 : Cond.code y b L r ∈ lw_all) : GoodIn lw_all (va_wsS own idx y (ws_ y b L r)) := by
  refine lw_app ?_ (lw_meth h4)
  intro w hw
  simp only [List.mem_cons, List.not_mem_nil, or_false] at hw
  rcases hw with e | e | e
  · rw [e]; exact h1
  · rw [e]; exact h2
  · rw [e]; exact h3
/-- the words of a contract for a method WITH HANDLERS (hh: its table) -/
abbrev wsW_ (y : MethodName) (b : ByteArray) (L : Nat) (r : Option FieldType) (hh : List (Nat × Nat × Nat × Nat)) : List Cond := Cond.codeWith y b L r hh :: lw_all
theorem lw_methW {y : MethodName} {b : ByteArray} {L : Nat} {r : Option FieldType} {hh : List (Nat × Nat × Nat × Nat)} (h : Cond.codeWith y b L r hh ∈ lw_all) : GoodIn lw_all (wsW_ y b L r hh) := by
  intro w hw
  rcases List.mem_cons.mp hw with e | e
  · rw [e]
    exact lw_self _ h
  · exact lw_self _ e
/-- any list of words by their places (lw_in), good -/
theorem lw_good {ws : List Cond} (h : ∀ w ∈ ws, w ∈ lw_all) : GoodIn lw_all ws := fun w hw => lw_self w (h w hw)
/-- what a call of a method with handlers asks: vx_cwVW n hts (lw_VW ..), vx_cwSW n hts (lw_SW ..) -/
theorem lw_VW {own : String} {idx : Nat} {C : String} {y : MethodName} {b : ByteArray} {L : Nat} {r : Option FieldType} {hh : List (Nat × Nat × Nat × Nat)} (h1 : Cond.methodLink own idx y ∈ lw_all) (h2 : Cond.instanceMethod y ∈ lw_all) (h3 : Cond.selects C y y ∈ lw_all) (h4 : Cond.initialized C ∈ lw_all) (h5 : Cond.codeWith y b L r hh ∈ lw_all) : GoodIn lw_all (wsV own idx C y (wsW_ y b L r hh)) := by
  refine lw_app ?_ (lw_methW h5)
  intro w hw
  simp only [List.mem_cons, List.not_mem_nil, or_false] at hw
  rcases hw with e | e | e | e
  · rw [e]; exact h1
  · rw [e]; exact h2
  · rw [e]; exact h3
  · rw [e]; exact h4
theorem lw_SW {own : String} {idx : Nat} {y : MethodName} {b : ByteArray} {L : Nat} {r : Option FieldType} {hh : List (Nat × Nat × Nat × Nat)} (h1 : Cond.methodLink own idx y ∈ lw_all) (h2 : Cond.static y ∈ lw_all) (h3 : Cond.initialized y.cls ∈ lw_all) (h4 : Cond.codeWith y b L r hh ∈ lw_all) : GoodIn lw_all (va_wsS own idx y (wsW_ y b L r hh)) := by
  refine lw_app ?_ (lw_methW h4)
  intro w hw
  simp only [List.mem_cons, List.not_mem_nil, or_false] at hw
  rcases hw with e | e | e
  · rw [e]; exact h1
  · rw [e]; exact h2
  · rw [e]; exact h3
/-- a word by its place in its run of the tables -/
theorem lw_at {r : List Cond} (hr : ∀ w ∈ r, w ∈ lw_tbl) {w : Cond} (i : Nat) (h : r[i]? = some w) : w ∈ lw_tbl := hr w (List.mem_of_getElem? h)
theorem lw_g {w : Cond} (h : w ∈ lw_tbl) (g : goodWord w = true) : w ∈ lw_all := List.mem_filter.mpr ⟨h, g⟩
theorem lw_ms : ∀ w ∈ k2_sels lw_privs, w ∈ lw_tbl := fun w h => show w ∈ k2_sels lw_privs ++ tables_1 from List.mem_append_left _ h
theorem lw_m1 : ∀ w ∈ tables_1_1, w ∈ lw_tbl := fun w h => show w ∈ k2_sels lw_privs ++ tables_1 from List.mem_append_right (k2_sels lw_privs) (show w ∈ tables_1 from List.mem_append_left _ h)
theorem lw_m2 : ∀ w ∈ tables_1_2, w ∈ lw_tbl := fun w h => show w ∈ k2_sels lw_privs ++ tables_1 from List.mem_append_right (k2_sels lw_privs) (show w ∈ tables_1 from List.mem_append_right _ (List.mem_append_left _ h))
theorem lw_m3 : ∀ w ∈ tables_1_3, w ∈ lw_tbl := fun w h => show w ∈ k2_sels lw_privs ++ tables_1 from List.mem_append_right (k2_sels lw_privs) (show w ∈ tables_1 from List.mem_append_right _ (List.mem_append_right _ (List.mem_append_left _ h)))
theorem lw_m4 : ∀ w ∈ tables_1_4, w ∈ lw_tbl := fun w h => show w ∈ k2_sels lw_privs ++ tables_1 from List.mem_append_right (k2_sels lw_privs) (show w ∈ tables_1 from List.mem_append_right _ (List.mem_append_right _ (List.mem_append_right _ (List.mem_append_left _ h))))
theorem lw_m5 : ∀ w ∈ tables_1_5, w ∈ lw_tbl := fun w h => show w ∈ k2_sels lw_privs ++ tables_1 from List.mem_append_right (k2_sels lw_privs) (show w ∈ tables_1 from List.mem_append_right _ (List.mem_append_right _ (List.mem_append_right _ (List.mem_append_right _ (List.mem_append_left _ h)))))
theorem lw_m6 : ∀ w ∈ tables_1_6, w ∈ lw_tbl := fun w h => show w ∈ k2_sels lw_privs ++ tables_1 from List.mem_append_right (k2_sels lw_privs) (show w ∈ tables_1 from List.mem_append_right _ (List.mem_append_right _ (List.mem_append_right _ (List.mem_append_right _ (List.mem_append_right _ (List.mem_append_left _ h))))))
theorem lw_m7 : ∀ w ∈ tables_1_7, w ∈ lw_tbl := fun w h => show w ∈ k2_sels lw_privs ++ tables_1 from List.mem_append_right (k2_sels lw_privs) (show w ∈ tables_1 from List.mem_append_right _ (List.mem_append_right _ (List.mem_append_right _ (List.mem_append_right _ (List.mem_append_right _ (List.mem_append_right _ h))))))
theorem qs0 : (Cond.selects "CoresAreWills" ⟨"CoresAreWills", "act", "(IIII)I"⟩ ⟨"CoresAreWills", "act", "(IIII)I"⟩) ∈ lw_all := lw_g (lw_at lw_ms 0 rfl) rfl
theorem qs1 : (Cond.selects "CoresAreWills" ⟨"CoresAreWills", "doIt", "(IIII)I"⟩ ⟨"CoresAreWills", "doIt", "(IIII)I"⟩) ∈ lw_all := lw_g (lw_at lw_ms 1 rfl) rfl
theorem qs2 : (Cond.selects "CoresAreWills" ⟨"CoresAreWills", "ofCore", "(IIII)I"⟩ ⟨"CoresAreWills", "ofCore", "(IIII)I"⟩) ∈ lw_all := lw_g (lw_at lw_ms 2 rfl) rfl
theorem qs3 : (Cond.selects "CoresAreWills" ⟨"CoresAreWills", "letterIt", "(I)I"⟩ ⟨"CoresAreWills", "letterIt", "(I)I"⟩) ∈ lw_all := lw_g (lw_at lw_ms 3 rfl) rfl
theorem qs4 : (Cond.selects "java/lang/Throwable" ⟨"java/lang/Throwable", "fillInStackTrace", "(I)Ljava/lang/Throwable;"⟩ ⟨"java/lang/Throwable", "fillInStackTrace", "(I)Ljava/lang/Throwable;"⟩) ∈ lw_all := lw_g (lw_at lw_ms 4 rfl) rfl
theorem qs5 : (Cond.selects "CoresAreWills" ⟨"CoresAreWills", "readCore", "()I"⟩ ⟨"CoresAreWills", "readCore", "()I"⟩) ∈ lw_all := lw_g (lw_at lw_ms 5 rfl) rfl
theorem qs6 : (Cond.selects "CoresAreWills$Reader" ⟨"CoresAreWills$Reader", "here", "()I"⟩ ⟨"CoresAreWills$Reader", "here", "()I"⟩) ∈ lw_all := lw_g (lw_at lw_ms 6 rfl) rfl
theorem qs7 : (Cond.selects "CoresAreWills$Reader" ⟨"CoresAreWills$Reader", "mustStand", "(Z)V"⟩ ⟨"CoresAreWills$Reader", "mustStand", "(Z)V"⟩) ∈ lw_all := lw_g (lw_at lw_ms 7 rfl) rfl
theorem qs8 : (Cond.selects "CoresAreWills$Reader" ⟨"CoresAreWills$Reader", "heirTold", "(I)LCoresAreWills$Told;"⟩ ⟨"CoresAreWills$Reader", "heirTold", "(I)LCoresAreWills$Told;"⟩) ∈ lw_all := lw_g (lw_at lw_ms 8 rfl) rfl
theorem qs9 : (Cond.selects "CoresAreWills" ⟨"CoresAreWills", "kindOf", "(I)I"⟩ ⟨"CoresAreWills", "kindOf", "(I)I"⟩) ∈ lw_all := lw_g (lw_at lw_ms 9 rfl) rfl
theorem qs10 : (Cond.selects "CoresAreWills$Reader" ⟨"CoresAreWills$Reader", "digit", "()I"⟩ ⟨"CoresAreWills$Reader", "digit", "()I"⟩) ∈ lw_all := lw_g (lw_at lw_ms 10 rfl) rfl
theorem qs11 : (Cond.selects "CoresAreWills$Reader" ⟨"CoresAreWills$Reader", "told", "(II)LCoresAreWills$Told;"⟩ ⟨"CoresAreWills$Reader", "told", "(II)LCoresAreWills$Told;"⟩) ∈ lw_all := lw_g (lw_at lw_ms 11 rfl) rfl
theorem qs12 : (Cond.selects "CoresAreWills$Reader" ⟨"CoresAreWills$Reader", "pair", "()I"⟩ ⟨"CoresAreWills$Reader", "pair", "()I"⟩) ∈ lw_all := lw_g (lw_at lw_ms 12 rfl) rfl
theorem qs13 : (Cond.selects "CoresAreWills$Reader" ⟨"CoresAreWills$Reader", "take", "(I)V"⟩ ⟨"CoresAreWills$Reader", "take", "(I)V"⟩) ∈ lw_all := lw_g (lw_at lw_ms 13 rfl) rfl
theorem qs14 : (Cond.selects "CoresAreWills" ⟨"CoresAreWills", "cellAsked", "(II)I"⟩ ⟨"CoresAreWills", "cellAsked", "(II)I"⟩) ∈ lw_all := lw_g (lw_at lw_ms 14 rfl) rfl
theorem qs15 : (Cond.selects "CoresAreWills" ⟨"CoresAreWills", "heirAsked", "(II)I"⟩ ⟨"CoresAreWills", "heirAsked", "(II)I"⟩) ∈ lw_all := lw_g (lw_at lw_ms 15 rfl) rfl
theorem qs16 : (Cond.selects "CoresAreWills" ⟨"CoresAreWills", "mustBeHeir", "(I)V"⟩ ⟨"CoresAreWills", "mustBeHeir", "(I)V"⟩) ∈ lw_all := lw_g (lw_at lw_ms 16 rfl) rfl
theorem qs17 : (Cond.selects "CoresAreWills" ⟨"CoresAreWills", "biteIt", "(II)I"⟩ ⟨"CoresAreWills", "biteIt", "(II)I"⟩) ∈ lw_all := lw_g (lw_at lw_ms 17 rfl) rfl
theorem qs18 : (Cond.selects "CoresAreWills" ⟨"CoresAreWills", "healIt", "(I)I"⟩ ⟨"CoresAreWills", "healIt", "(I)I"⟩) ∈ lw_all := lw_g (lw_at lw_ms 18 rfl) rfl
theorem qs19 : (Cond.selects "CoresAreWills" ⟨"CoresAreWills", "rollIt", "(I)I"⟩ ⟨"CoresAreWills", "rollIt", "(I)I"⟩) ∈ lw_all := lw_g (lw_at lw_ms 19 rfl) rfl
theorem qs20 : (Cond.selects "CoresAreWills" ⟨"CoresAreWills", "turnIt", "(III)I"⟩ ⟨"CoresAreWills", "turnIt", "(III)I"⟩) ∈ lw_all := lw_g (lw_at lw_ms 20 rfl) rfl
theorem qs21 : (Cond.selects "CoresAreWills" ⟨"CoresAreWills", "allAnew", "()I"⟩ ⟨"CoresAreWills", "allAnew", "()I"⟩) ∈ lw_all := lw_g (lw_at lw_ms 21 rfl) rfl
theorem qs22 : (Cond.selects "CoresAreWills" ⟨"CoresAreWills", "ofBites", "(IIII)I"⟩ ⟨"CoresAreWills", "ofBites", "(IIII)I"⟩) ∈ lw_all := lw_g (lw_at lw_ms 22 rfl) rfl
theorem qs23 : (Cond.selects "CoresAreWills" ⟨"CoresAreWills", "sharesTold", "(I)I"⟩ ⟨"CoresAreWills", "sharesTold", "(I)I"⟩) ∈ lw_all := lw_g (lw_at lw_ms 23 rfl) rfl
theorem qs24 : (Cond.selects "CoresAreWills" ⟨"CoresAreWills", "richestOne", "()I"⟩ ⟨"CoresAreWills", "richestOne", "()I"⟩) ∈ lw_all := lw_g (lw_at lw_ms 24 rfl) rfl
theorem qs25 : (Cond.selects "CoresAreWills" ⟨"CoresAreWills", "piecesTold", "(I)I"⟩ ⟨"CoresAreWills", "piecesTold", "(I)I"⟩) ∈ lw_all := lw_g (lw_at lw_ms 25 rfl) rfl
theorem qs26 : (Cond.selects "CoresAreWills" ⟨"CoresAreWills", "edgeTold", "(I)I"⟩ ⟨"CoresAreWills", "edgeTold", "(I)I"⟩) ∈ lw_all := lw_g (lw_at lw_ms 26 rfl) rfl
theorem qs27 : (Cond.selects "CoresAreWills" ⟨"CoresAreWills", "sides", "()I"⟩ ⟨"CoresAreWills", "sides", "()I"⟩) ∈ lw_all := lw_g (lw_at lw_ms 27 rfl) rfl
theorem qs28 : (Cond.selects "CoresAreWills" ⟨"CoresAreWills", "holes", "()I"⟩ ⟨"CoresAreWills", "holes", "()I"⟩) ∈ lw_all := lw_g (lw_at lw_ms 28 rfl) rfl
theorem qs29 : (Cond.selects "CoresAreWills" ⟨"CoresAreWills", "bestTold", "(III)I"⟩ ⟨"CoresAreWills", "bestTold", "(III)I"⟩) ∈ lw_all := lw_g (lw_at lw_ms 29 rfl) rfl
theorem qs30 : (Cond.selects "CoresAreWills" ⟨"CoresAreWills", "bestFor", "(LCoresAreWills$Core;II)I"⟩ ⟨"CoresAreWills", "bestFor", "(LCoresAreWills$Core;II)I"⟩) ∈ lw_all := lw_g (lw_at lw_ms 30 rfl) rfl
theorem qs31 : (Cond.selects "CoresAreWills" ⟨"CoresAreWills", "openMind", "()LCoresAreWills$Core;"⟩ ⟨"CoresAreWills", "openMind", "()LCoresAreWills$Core;"⟩) ∈ lw_all := lw_g (lw_at lw_ms 31 rfl) rfl
theorem qs32 : (Cond.selects "CoresAreWills" ⟨"CoresAreWills", "fewestTold", "(III)I"⟩ ⟨"CoresAreWills", "fewestTold", "(III)I"⟩) ∈ lw_all := lw_g (lw_at lw_ms 32 rfl) rfl
theorem qs33 : (Cond.selects "CoresAreWills" ⟨"CoresAreWills", "fewestFor", "(III)I"⟩ ⟨"CoresAreWills", "fewestFor", "(III)I"⟩) ∈ lw_all := lw_g (lw_at lw_ms 33 rfl) rfl
theorem qs34 : (Cond.selects "CoresAreWills" ⟨"CoresAreWills", "hasBehindOne", "(LCoresAreWills$Core;III)Z"⟩ ⟨"CoresAreWills", "hasBehindOne", "(LCoresAreWills$Core;III)Z"⟩) ∈ lw_all := lw_g (lw_at lw_ms 34 rfl) rfl
theorem qs35 : (Cond.selects "CoresAreWills" ⟨"CoresAreWills", "manyThatCan", "(IZ)I"⟩ ⟨"CoresAreWills", "manyThatCan", "(IZ)I"⟩) ∈ lw_all := lw_g (lw_at lw_ms 35 rfl) rfl
theorem qs36 : (Cond.selects "CoresAreWills" ⟨"CoresAreWills", "isSafe", "(LCoresAreWills$Core;)Z"⟩ ⟨"CoresAreWills", "isSafe", "(LCoresAreWills$Core;)Z"⟩) ∈ lw_all := lw_g (lw_at lw_ms 36 rfl) rfl
theorem qs37 : (Cond.selects "CoresAreWills" ⟨"CoresAreWills", "canTold", "(I)I"⟩ ⟨"CoresAreWills", "canTold", "(I)I"⟩) ∈ lw_all := lw_g (lw_at lw_ms 37 rfl) rfl
theorem qs38 : (Cond.selects "CoresAreWills" ⟨"CoresAreWills", "waysTold", "(I)I"⟩ ⟨"CoresAreWills", "waysTold", "(I)I"⟩) ∈ lw_all := lw_g (lw_at lw_ms 38 rfl) rfl
theorem qs39 : (Cond.selects "CoresAreWills" ⟨"CoresAreWills", "clearThen", "()V"⟩ ⟨"CoresAreWills", "clearThen", "()V"⟩) ∈ lw_all := lw_g (lw_at lw_ms 39 rfl) rfl
theorem qs40 : (Cond.selects "CoresAreWills" ⟨"CoresAreWills", "coverFrom", "(II)V"⟩ ⟨"CoresAreWills", "coverFrom", "(II)V"⟩) ∈ lw_all := lw_g (lw_at lw_ms 40 rfl) rfl
theorem qs41 : (Cond.selects "CoresAreWills" ⟨"CoresAreWills", "goTo", "(III)V"⟩ ⟨"CoresAreWills", "goTo", "(III)V"⟩) ∈ lw_all := lw_g (lw_at lw_ms 41 rfl) rfl
theorem qs42 : (Cond.selects "CoresAreWills" ⟨"CoresAreWills", "ofRest", "(IIII)I"⟩ ⟨"CoresAreWills", "ofRest", "(IIII)I"⟩) ∈ lw_all := lw_g (lw_at lw_ms 42 rfl) rfl
theorem qs43 : (Cond.selects "CoresAreWills" ⟨"CoresAreWills", "alikeTold", "(I)I"⟩ ⟨"CoresAreWills", "alikeTold", "(I)I"⟩) ∈ lw_all := lw_g (lw_at lw_ms 43 rfl) rfl
theorem qs44 : (Cond.selects "CoresAreWills" ⟨"CoresAreWills", "settlesTold", "(I)I"⟩ ⟨"CoresAreWills", "settlesTold", "(I)I"⟩) ∈ lw_all := lw_g (lw_at lw_ms 44 rfl) rfl
theorem qs45 : (Cond.selects "CoresAreWills" ⟨"CoresAreWills", "settledBy", "(I)I"⟩ ⟨"CoresAreWills", "settledBy", "(I)I"⟩) ∈ lw_all := lw_g (lw_at lw_ms 45 rfl) rfl
theorem qs46 : (Cond.selects "CoresAreWills" ⟨"CoresAreWills", "pipsTold", "(I)I"⟩ ⟨"CoresAreWills", "pipsTold", "(I)I"⟩) ∈ lw_all := lw_g (lw_at lw_ms 46 rfl) rfl
theorem qs47 : (Cond.selects "CoresAreWills" ⟨"CoresAreWills", "worstGrudge", "(I)I"⟩ ⟨"CoresAreWills", "worstGrudge", "(I)I"⟩) ∈ lw_all := lw_g (lw_at lw_ms 47 rfl) rfl
theorem qs48 : (Cond.selects "CoresAreWills" ⟨"CoresAreWills", "shareBy", "(II)I"⟩ ⟨"CoresAreWills", "shareBy", "(II)I"⟩) ∈ lw_all := lw_g (lw_at lw_ms 48 rfl) rfl
theorem qs49 : (Cond.selects "CoresAreWills" ⟨"CoresAreWills", "gainTold", "(II)I"⟩ ⟨"CoresAreWills", "gainTold", "(II)I"⟩) ∈ lw_all := lw_g (lw_at lw_ms 49 rfl) rfl
theorem qs50 : (Cond.selects "CoresAreWills" ⟨"CoresAreWills", "mustBeTwo", "(II)V"⟩ ⟨"CoresAreWills", "mustBeTwo", "(II)V"⟩) ∈ lw_all := lw_g (lw_at lw_ms 50 rfl) rfl
theorem qs51 : (Cond.selects "CoresAreWills" ⟨"CoresAreWills", "gainOf", "(II)I"⟩ ⟨"CoresAreWills", "gainOf", "(II)I"⟩) ∈ lw_all := lw_g (lw_at lw_ms 51 rfl) rfl
theorem qs52 : (Cond.selects "CoresAreWills" ⟨"CoresAreWills", "joinTold", "(I)I"⟩ ⟨"CoresAreWills", "joinTold", "(I)I"⟩) ∈ lw_all := lw_g (lw_at lw_ms 52 rfl) rfl
theorem qs53 : (Cond.selects "CoresAreWills" ⟨"CoresAreWills", "bridgeTold", "(I)I"⟩ ⟨"CoresAreWills", "bridgeTold", "(I)I"⟩) ∈ lw_all := lw_g (lw_at lw_ms 53 rfl) rfl
theorem qs54 : (Cond.selects "CoresAreWills" ⟨"CoresAreWills", "middleCell", "()I"⟩ ⟨"CoresAreWills", "middleCell", "()I"⟩) ∈ lw_all := lw_g (lw_at lw_ms 54 rfl) rfl
theorem qs55 : (Cond.selects "CoresAreWills" ⟨"CoresAreWills", "stepsFrom", "(I)I"⟩ ⟨"CoresAreWills", "stepsFrom", "(I)I"⟩) ∈ lw_all := lw_g (lw_at lw_ms 55 rfl) rfl
theorem qs56 : (Cond.selects "CoresAreWills" ⟨"CoresAreWills", "bridgeBits", "()I"⟩ ⟨"CoresAreWills", "bridgeBits", "()I"⟩) ∈ lw_all := lw_g (lw_at lw_ms 56 rfl) rfl
theorem qs57 : (Cond.selects "CoresAreWills" ⟨"CoresAreWills", "twoTold", "(II)I"⟩ ⟨"CoresAreWills", "twoTold", "(II)I"⟩) ∈ lw_all := lw_g (lw_at lw_ms 57 rfl) rfl
theorem qs58 : (Cond.selects "CoresAreWills" ⟨"CoresAreWills", "restingBites", "(II)I"⟩ ⟨"CoresAreWills", "restingBites", "(II)I"⟩) ∈ lw_all := lw_g (lw_at lw_ms 58 rfl) rfl
theorem qs59 : (Cond.selects "CoresAreWills" ⟨"CoresAreWills", "biteAs", "(LCoresAreWills$Core;II)V"⟩ ⟨"CoresAreWills", "biteAs", "(LCoresAreWills$Core;II)V"⟩) ∈ lw_all := lw_g (lw_at lw_ms 59 rfl) rfl
theorem qs60 : (Cond.selects "CoresAreWills" ⟨"CoresAreWills", "ofLast", "(IIII)I"⟩ ⟨"CoresAreWills", "ofLast", "(IIII)I"⟩) ∈ lw_all := lw_g (lw_at lw_ms 60 rfl) rfl
theorem qs61 : (Cond.selects "CoresAreWills" ⟨"CoresAreWills", "whatTold", "(II)I"⟩ ⟨"CoresAreWills", "whatTold", "(II)I"⟩) ∈ lw_all := lw_g (lw_at lw_ms 61 rfl) rfl
theorem qs62 : (Cond.selects "CoresAreWills" ⟨"CoresAreWills", "fitting", "(II)I"⟩ ⟨"CoresAreWills", "fitting", "(II)I"⟩) ∈ lw_all := lw_g (lw_at lw_ms 62 rfl) rfl
theorem qs63 : (Cond.selects "CoresAreWills" ⟨"CoresAreWills", "isRow", "(LCoresAreWills$Core;I)Z"⟩ ⟨"CoresAreWills", "isRow", "(LCoresAreWills$Core;I)Z"⟩) ∈ lw_all := lw_g (lw_at lw_ms 63 rfl) rfl
theorem qs64 : (Cond.selects "CoresAreWills" ⟨"CoresAreWills", "judgeRow", "()I"⟩ ⟨"CoresAreWills", "judgeRow", "()I"⟩) ∈ lw_all := lw_g (lw_at lw_ms 64 rfl) rfl
theorem qs65 : (Cond.selects "CoresAreWills" ⟨"CoresAreWills", "lotsTold", "(III)I"⟩ ⟨"CoresAreWills", "lotsTold", "(III)I"⟩) ∈ lw_all := lw_g (lw_at lw_ms 65 rfl) rfl
theorem qs66 : (Cond.selects "CoresAreWills" ⟨"CoresAreWills", "byLots", "(III)I"⟩ ⟨"CoresAreWills", "byLots", "(III)I"⟩) ∈ lw_all := lw_g (lw_at lw_ms 66 rfl) rfl
theorem qs67 : (Cond.selects "CoresAreWills" ⟨"CoresAreWills", "drawBelow", "(I)I"⟩ ⟨"CoresAreWills", "drawBelow", "(I)I"⟩) ∈ lw_all := lw_g (lw_at lw_ms 67 rfl) rfl
theorem qs68 : (Cond.selects "CoresAreWills" ⟨"CoresAreWills", "refuse", "(I)I"⟩ ⟨"CoresAreWills", "refuse", "(I)I"⟩) ∈ lw_all := lw_g (lw_at lw_ms 68 rfl) rfl
theorem qs69 : (Cond.selects "CoresAreWills" ⟨"CoresAreWills", "actFar", "(IIII)I"⟩ ⟨"CoresAreWills", "actFar", "(IIII)I"⟩) ∈ lw_all := lw_g (lw_at lw_ms 69 rfl) rfl
theorem qs70 : (Cond.selects "CoresAreWills" ⟨"CoresAreWills", "chanceTold", "(IIII)J"⟩ ⟨"CoresAreWills", "chanceTold", "(IIII)J"⟩) ∈ lw_all := lw_g (lw_at lw_ms 70 rfl) rfl
theorem qs71 : (Cond.selects "CoresAreWills" ⟨"CoresAreWills", "chancePart", "(IIII)J"⟩ ⟨"CoresAreWills", "chancePart", "(IIII)J"⟩) ∈ lw_all := lw_g (lw_at lw_ms 71 rfl) rfl
theorem qs72 : (Cond.selects "CoresAreWills" ⟨"CoresAreWills", "manyWays", "(LCoresAreWills$Core;IIII)J"⟩ ⟨"CoresAreWills", "manyWays", "(LCoresAreWills$Core;IIII)J"⟩) ∈ lw_all := lw_g (lw_at lw_ms 72 rfl) rfl
theorem qs73 : (Cond.selects "CoresAreWills" ⟨"CoresAreWills", "far", "(LCoresAreWills$Refusal;)J"⟩ ⟨"CoresAreWills", "far", "(LCoresAreWills$Refusal;)J"⟩) ∈ lw_all := lw_g (lw_at lw_ms 73 rfl) rfl
theorem qs74 : (Cond.selects "CoresAreWills" ⟨"CoresAreWills", "meanTold", "(I)J"⟩ ⟨"CoresAreWills", "meanTold", "(I)J"⟩) ∈ lw_all := lw_g (lw_at lw_ms 74 rfl) rfl
theorem qs75 : (Cond.selects "CoresAreWillsModel" ⟨"CoresAreWillsModel", "no", "(I)I"⟩ ⟨"CoresAreWillsModel", "no", "(I)I"⟩) ∈ lw_all := lw_g (lw_at lw_ms 75 rfl) rfl
theorem qs76 : (Cond.selects "CoresAreWillsModel" ⟨"CoresAreWillsModel", "readsStatement", "()Z"⟩ ⟨"CoresAreWillsModel", "readsStatement", "()Z"⟩) ∈ lw_all := lw_g (lw_at lw_ms 76 rfl) rfl
theorem qs77 : (Cond.selects "CoresAreWillsModel" ⟨"CoresAreWillsModel", "here", "()I"⟩ ⟨"CoresAreWillsModel", "here", "()I"⟩) ∈ lw_all := lw_g (lw_at lw_ms 77 rfl) rfl
theorem qs78 : (Cond.selects "CoresAreWillsModel" ⟨"CoresAreWillsModel", "readsKind", "()Z"⟩ ⟨"CoresAreWillsModel", "readsKind", "()Z"⟩) ∈ lw_all := lw_g (lw_at lw_ms 78 rfl) rfl
theorem qs79 : (Cond.selects "CoresAreWillsModel" ⟨"CoresAreWillsModel", "readsNumber", "(II)Z"⟩ ⟨"CoresAreWillsModel", "readsNumber", "(II)Z"⟩) ∈ lw_all := lw_g (lw_at lw_ms 79 rfl) rfl
theorem qs80 : (Cond.selects "CoresAreWillsModel" ⟨"CoresAreWillsModel", "lays", "()V"⟩ ⟨"CoresAreWillsModel", "lays", "()V"⟩) ∈ lw_all := lw_g (lw_at lw_ms 80 rfl) rfl
theorem qs81 : (Cond.selects "CoresAreWillsModel" ⟨"CoresAreWillsModel", "isDone", "(I)Z"⟩ ⟨"CoresAreWillsModel", "isDone", "(I)Z"⟩) ∈ lw_all := lw_g (lw_at lw_ms 81 rfl) rfl
theorem qs82 : (Cond.selects "CoresAreWillsModel" ⟨"CoresAreWillsModel", "bitesOff", "(I)V"⟩ ⟨"CoresAreWillsModel", "bitesOff", "(I)V"⟩) ∈ lw_all := lw_g (lw_at lw_ms 82 rfl) rfl
theorem qs83 : (Cond.selects "CoresAreWillsModel" ⟨"CoresAreWillsModel", "allAgain", "()V"⟩ ⟨"CoresAreWillsModel", "allAgain", "()V"⟩) ∈ lw_all := lw_g (lw_at lw_ms 83 rfl) rfl
theorem qs84 : (Cond.selects "CoresAreWillsModel" ⟨"CoresAreWillsModel", "laysBack", "()V"⟩ ⟨"CoresAreWillsModel", "laysBack", "()V"⟩) ∈ lw_all := lw_g (lw_at lw_ms 84 rfl) rfl
theorem qs85 : (Cond.selects "CoresAreWillsModel" ⟨"CoresAreWillsModel", "isHeir", "(I)Z"⟩ ⟨"CoresAreWillsModel", "isHeir", "(I)Z"⟩) ∈ lw_all := lw_g (lw_at lw_ms 85 rfl) rfl
theorem qs86 : (Cond.selects "CoresAreWillsModel" ⟨"CoresAreWillsModel", "shareOf", "(II)I"⟩ ⟨"CoresAreWillsModel", "shareOf", "(II)I"⟩) ∈ lw_all := lw_g (lw_at lw_ms 86 rfl) rfl
theorem qs87 : (Cond.selects "CoresAreWillsModel" ⟨"CoresAreWillsModel", "sharesOf", "(I)I"⟩ ⟨"CoresAreWillsModel", "sharesOf", "(I)I"⟩) ∈ lw_all := lw_g (lw_at lw_ms 87 rfl) rfl
theorem qs88 : (Cond.selects "CoresAreWillsModel" ⟨"CoresAreWillsModel", "biteTold", "(III)I"⟩ ⟨"CoresAreWillsModel", "biteTold", "(III)I"⟩) ∈ lw_all := lw_g (lw_at lw_ms 88 rfl) rfl
theorem qs89 : (Cond.selects "CoresAreWillsModel" ⟨"CoresAreWillsModel", "biteFor", "(III)I"⟩ ⟨"CoresAreWillsModel", "biteFor", "(III)I"⟩) ∈ lw_all := lw_g (lw_at lw_ms 89 rfl) rfl
theorem qs90 : (Cond.selects "CoresAreWillsModel" ⟨"CoresAreWillsModel", "isSoBy", "(IIII)Z"⟩ ⟨"CoresAreWillsModel", "isSoBy", "(IIII)Z"⟩) ∈ lw_all := lw_g (lw_at lw_ms 90 rfl) rfl
theorem qs91 : (Cond.selects "CoresAreWillsModel" ⟨"CoresAreWillsModel", "firstSo", "(III)I"⟩ ⟨"CoresAreWillsModel", "firstSo", "(III)I"⟩) ∈ lw_all := lw_g (lw_at lw_ms 91 rfl) rfl
theorem qs92 : (Cond.selects "CoresAreWillsModel" ⟨"CoresAreWillsModel", "comesTo", "(IIII)V"⟩ ⟨"CoresAreWillsModel", "comesTo", "(IIII)V"⟩) ∈ lw_all := lw_g (lw_at lw_ms 92 rfl) rfl
theorem qs93 : (Cond.selects "CoresAreWillsModel" ⟨"CoresAreWillsModel", "areTwo", "(II)Z"⟩ ⟨"CoresAreWillsModel", "areTwo", "(II)Z"⟩) ∈ lw_all := lw_g (lw_at lw_ms 93 rfl) rfl
theorem qs94 : (Cond.selects "CoresAreWillsModel" ⟨"CoresAreWillsModel", "noFar", "(I)I"⟩ ⟨"CoresAreWillsModel", "noFar", "(I)I"⟩) ∈ lw_all := lw_g (lw_at lw_ms 94 rfl) rfl
theorem qs95 : (Cond.selects "CoresAreWillsModel" ⟨"CoresAreWillsModel", "stepsFrom", "(I)I"⟩ ⟨"CoresAreWillsModel", "stepsFrom", "(I)I"⟩) ∈ lw_all := lw_g (lw_at lw_ms 95 rfl) rfl
theorem qs96 : (Cond.selects "CoresAreWillsModel" ⟨"CoresAreWillsModel", "shareBoth", "(IIIII)I"⟩ ⟨"CoresAreWillsModel", "shareBoth", "(IIIII)I"⟩) ∈ lw_all := lw_g (lw_at lw_ms 96 rfl) rfl
theorem qs97 : (Cond.selects "CoresAreWillsModel" ⟨"CoresAreWillsModel", "firstBite", "(I)I"⟩ ⟨"CoresAreWillsModel", "firstBite", "(I)I"⟩) ∈ lw_all := lw_g (lw_at lw_ms 97 rfl) rfl
theorem qs98 : (Cond.selects "CoresAreWillsModel" ⟨"CoresAreWillsModel", "noWide", "(I)J"⟩ ⟨"CoresAreWillsModel", "noWide", "(I)J"⟩) ∈ lw_all := lw_g (lw_at lw_ms 98 rfl) rfl
theorem qs99 : (Cond.selects "CoresAreWillsModel" ⟨"CoresAreWillsModel", "waysFor", "(IIII)J"⟩ ⟨"CoresAreWillsModel", "waysFor", "(IIII)J"⟩) ∈ lw_all := lw_g (lw_at lw_ms 99 rfl) rfl
theorem qs100 : (Cond.selects "CoresAreWillsModel" ⟨"CoresAreWillsModel", "drawn", "(I)I"⟩ ⟨"CoresAreWillsModel", "drawn", "(I)I"⟩) ∈ lw_all := lw_g (lw_at lw_ms 100 rfl) rfl
-- ===== end of PART A; then your names; then what follows =====
