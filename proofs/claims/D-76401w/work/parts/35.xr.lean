/-! THE READER -/
abbrev RS : Type := Int32 × Int32
abbrev rG_size (v : RS) : Int32 := v.1
abbrev rG_at (v : RS) : Int32 := v.2
abbrev rS_size (v : RS) (x : Int32) : RS := (x, v.2)
abbrev rS_at (v : RS) (x : Int32) : RS := (v.1, x)
abbrev wR (ax : Nat → Nat) (rq : Nat) (v : RS) : va_W := [(rq, .inr (10, [.int (rG_size v), .int (rG_at v), .ref (ax 0)]))]
abbrev ixR : List Nat := List.range' 0 27
theorem nd_R : va_nd ixR = true := by decide
theorem ixR_eq (ax : Nat → Nat) (ac : Nat → ClassId) (g : XS) (rq : Nat) (r : RS) : ixR = List.range' 0 (wX ax ac g ++ wR ax rq r).length := by
  rw [List.length_append]; rfl
theorem pk_XRS (ax : Nat → Nat) (ac : Nat → ClassId) (g : XS) (rq : Nat) (r : RS) (suf : va_W) : ixR.map (fun i => (wX ax ac g ++ wR ax rq r ++ suf)[i]?) = (wX ax ac g ++ wR ax rq r).map some := by
  rw [ixR_eq ax ac g rq r]; exact pk_pre _ _
theorem pk_XR (ax : Nat → Nat) (ac : Nat → ClassId) (g : XS) (rq : Nat) (r : RS) : ixR.map (fun i => (wX ax ac g ++ wR ax rq r)[i]?) = (wX ax ac g ++ wR ax rq r).map some := by
  rw [ixR_eq ax ac g rq r]; exact pk_all _
theorem ln_XR (ax : Nat → Nat) (ac : Nat → ClassId) (g h : XS) (rq : Nat) (r q : RS) : (wX ax ac g ++ wR ax rq r).length = (wX ax ac h ++ wR ax rq q).length := by
  rw [List.length_append, List.length_append]; rfl
theorem ad_XR (ax : Nat → Nat) (ac : Nat → ClassId) (g h : XS) (rq : Nat) (r q : RS) : (wX ax ac g ++ wR ax rq r).map Prod.fst = (wX ax ac h ++ wR ax rq q).map Prod.fst := by
  rw [List.map_append, List.map_append, ad_X ax ac g h]; rfl
theorem rep_XRS (ax : Nat → Nat) (ac : Nat → ClassId) (g h : XS) (rq : Nat) (r q : RS) (suf : va_W) : rep ixR (wX ax ac g ++ wR ax rq r) (wX ax ac h ++ wR ax rq q ++ suf) = wX ax ac g ++ wR ax rq r ++ suf := by
  rw [ixR_eq ax ac g rq r]; exact rep_pre _ _ _ (ln_XR ax ac g h rq r q)
theorem rep_XR (ax : Nat → Nat) (ac : Nat → ClassId) (g h : XS) (rq : Nat) (r q : RS) : rep ixR (wX ax ac g ++ wR ax rq r) (wX ax ac h ++ wR ax rq q) = wX ax ac g ++ wR ax rq r := by
  rw [ixR_eq ax ac g rq r]; exact rep_all _ _ (ln_XR ax ac g h rq r q)
def f_X0_kindOf (a1 : Int32) : Option (Int32) := if a1 = 101 then some 1 else if a1 = 107 then some 5 else if a1 = 108 then some 3 else if a1 = 110 then some 0 else if a1 = 112 then some 4 else if a1 = 119 then some 2 else some (-1)
abbrev rm_X0_kindOf : Room := ({ frames := 1, cells := 0, slots := 0, locals := 18 })
theorem cw_X0_kindOf {R : Room} {s : State} {args : Array Value} {own : String} {index : Nat} (hts : ∀ w ∈ lw_all, w.before args s = true) (hlink : Cond.methodLink own index yX0_kindOf ∈ lw_all) (hR : rm_X0_kindOf.frames + 1 ≤ R.frames ∧ 8 + (2 + 11) + rm_X0_kindOf.locals ≤ R.locals) : CallW R s args own RX0 index yX0_kindOf cX0_kindOf 2 (some FieldType.int) (ws_ yX0_kindOf cX0_kindOf 2 (some FieldType.int)) rm_X0_kindOf rm_X0_kindOf.cells rm_X0_kindOf.slots 1 :=
  cwV 1 hts (lw_V hlink q461 qs9 q102 q462) rfl rfl rfl (by decide +kernel) hR
set_option maxHeartbeats 4000000 in
theorem m_X0_kindOf (l : Launch) (th : Nat) (a1 : Int32) (r0 : Int32) (hr : f_X0_kindOf a1 = some r0) : PM l yX0_kindOf cX0_kindOf 2 (some FieldType.int) rm_X0_kindOf [.ref th, .int a1] (fun _ => True) (some (.int r0)) := by
  refine fw_of (by decide) (Nat.le_of_ble_eq_true rfl) ?_
  intro p e s m below meth c ls hx hb hrt hts hown hlk hml _ _ hl
  have hl : lv_has ls 2 [(0, .ref th), (1, .int a1)] := hl
  rw [f_X0_kindOf] at hr
  refine lv_iload_n hx hb dX0_kindOf_0 rfl (lv_at hl 1 rfl) ?_
  have hi1 := br_ite hr
  by_cases c1 : a1 = 101
  · have hr := hi1.1 c1
    refine lv_tableIn (tgt := 94) hx hb dX0_kindOf_1 (by rw [c1]; decide) (by rw [c1]; decide) (by rw [c1]; rfl) (by decide) ?_
    refine lv_iconst (v := 1) hx hb dX0_kindOf_94 rfl ?_
    exact W.iret hx hb hrt (fun t ht _ => ⟨ret_i hr, ht⟩) noB dX0_kindOf_95 hlk
  have hr := hi1.2 c1
  have hi2 := br_ite hr
  by_cases c2 : a1 = 107
  · have hr := hi2.1 c2
    refine lv_tableIn (tgt := 102) hx hb dX0_kindOf_1 (by rw [c2]; decide) (by rw [c2]; decide) (by rw [c2]; rfl) (by decide) ?_
    refine lv_iconst (v := 5) hx hb dX0_kindOf_102 rfl ?_
    exact W.iret hx hb hrt (fun t ht _ => ⟨ret_i hr, ht⟩) noB dX0_kindOf_103 hlk
  have hr := hi2.2 c2
  have hi3 := br_ite hr
  by_cases c3 : a1 = 108
  · have hr := hi3.1 c3
    refine lv_tableIn (tgt := 98) hx hb dX0_kindOf_1 (by rw [c3]; decide) (by rw [c3]; decide) (by rw [c3]; rfl) (by decide) ?_
    refine lv_iconst (v := 3) hx hb dX0_kindOf_98 rfl ?_
    exact W.iret hx hb hrt (fun t ht _ => ⟨ret_i hr, ht⟩) noB dX0_kindOf_99 hlk
  have hr := hi3.2 c3
  have hi4 := br_ite hr
  by_cases c4 : a1 = 110
  · have hr := hi4.1 c4
    refine lv_tableIn (tgt := 92) hx hb dX0_kindOf_1 (by rw [c4]; decide) (by rw [c4]; decide) (by rw [c4]; rfl) (by decide) ?_
    refine lv_iconst (v := 0) hx hb dX0_kindOf_92 rfl ?_
    exact W.iret hx hb hrt (fun t ht _ => ⟨ret_i hr, ht⟩) noB dX0_kindOf_93 hlk
  have hr := hi4.2 c4
  have hi5 := br_ite hr
  by_cases c5 : a1 = 112
  · have hr := hi5.1 c5
    refine lv_tableIn (tgt := 100) hx hb dX0_kindOf_1 (by rw [c5]; decide) (by rw [c5]; decide) (by rw [c5]; rfl) (by decide) ?_
    refine lv_iconst (v := 4) hx hb dX0_kindOf_100 rfl ?_
    exact W.iret hx hb hrt (fun t ht _ => ⟨ret_i hr, ht⟩) noB dX0_kindOf_101 hlk
  have hr := hi5.2 c5
  have hi6 := br_ite hr
  by_cases c6 : a1 = 119
  · have hr := hi6.1 c6
    refine lv_tableIn (tgt := 96) hx hb dX0_kindOf_1 (by rw [c6]; decide) (by rw [c6]; decide) (by rw [c6]; rfl) (by decide) ?_
    refine lv_iconst (v := 2) hx hb dX0_kindOf_96 rfl ?_
    exact W.iret hx hb hrt (fun t ht _ => ⟨ret_i hr, ht⟩) noB dX0_kindOf_97 hlk
  have hr := hi6.2 c6
  have K7 : WP p l e rm_X0_kindOf s m [.ref th, .int a1] below meth c (some (.int r0)) 104 ls [] := by
    refine lv_iconst (v := (-1)) hx hb dX0_kindOf_104 rfl ?_
    exact W.iret hx hb hrt (fun t ht _ => ⟨ret_i hr, ht⟩) noB dX0_kindOf_105 hlk
  by_cases g7 : a1.toInt < 101 ∨ 119 < a1.toInt
  · exact lv_tableOut (tgt := 104) hx hb dX0_kindOf_1 g7 (by decide) K7
  · have hz : ∀ j : Nat, j < 19 → (([0, 6, 7, 9, 11, 18] : List Nat).contains j = false) → (#[93, 103, 103, 103, 103, 103, 101, 97, 103, 91, 103, 99, 103, 103, 103, 103, 103, 103, 95] : Array Int)[j]? = some (103) := by decide
    exact lv_tableIn (tgt := 104) hx hb dX0_kindOf_1 (by omega) (by omega) (hz _ (by omega) (by have n1 := lv_neT (a := 101) c1 rfl; have n2 := lv_neT (a := 107) c2 rfl; have n3 := lv_neT (a := 108) c3 rfl; have n4 := lv_neT (a := 110) c4 rfl; have n5 := lv_neT (a := 112) c5 rfl; have n6 := lv_neT (a := 119) c6 rfl; simp; omega)) (by decide) K7
theorem cwvn_X0_kindOf {R : Room} {s : State} {args : Array Value} {own host : String} {index : Nat} (hts : ∀ w ∈ lw_all, w.before args s = true) (hlink : va_Nw (.methodLinkNest own index yX0_kindOf host) s) (hR : rm_X0_kindOf.frames + 1 ≤ R.frames ∧ 8 + (2 + 11) + rm_X0_kindOf.locals ≤ R.locals) : va_CN R s args own index yX0_kindOf host cX0_kindOf 2 (some FieldType.int) (ws_ yX0_kindOf cX0_kindOf 2 (some FieldType.int)) rm_X0_kindOf rm_X0_kindOf.cells rm_X0_kindOf.slots 1 ∧ (Cond.instanceMethod yX0_kindOf).before args s = true ∧ (Cond.selects RX0 yX0_kindOf yX0_kindOf).before args s = true :=
  ⟨va_cnB 1 hts (lw_meth q462) rfl rfl rfl hlink (hts _ q102) (by decide +kernel) hR, hts _ q461, hts _ qs9⟩
def f_X12_here (g : XS) (rd : RS) : Option (Int32) := if (rG_size rd) ≤ (rG_at rd) then some (-1) else if (rG_at rd) < 0 ∨ 96 ≤ Int32.toNatClampNeg (rG_at rd) then none else some ((xG_letters g) (Int32.toNatClampNeg (rG_at rd)))
abbrev rm_X12_here : Room := ({ frames := 1, cells := 0, slots := 0, locals := 17 })
theorem cw_X12_here {R : Room} {s : State} {args : Array Value} {own : String} {index : Nat} (hts : ∀ w ∈ lw_all, w.before args s = true) (hlink : Cond.methodLink own index yX12_here ∈ lw_all) (hR : rm_X12_here.frames + 1 ≤ R.frames ∧ 8 + (1 + 11) + rm_X12_here.locals ≤ R.locals) : CallW R s args own RX12 index yX12_here cX12_here 1 (some FieldType.int) (ws_ yX12_here cX12_here 1 (some FieldType.int)) rm_X12_here rm_X12_here.cells rm_X12_here.slots 0 :=
  cwV 0 hts (lw_V hlink q417 qs6 q117 q418) rfl rfl rfl (by decide +kernel) hR
set_option maxHeartbeats 4000000 in
theorem m_X12_here (l : Launch) (D : va_G) (ax : Nat → Nat) (ac : Nat → ClassId) (g : XS) (rq : Nat) (rd : RS) (r0 : Int32) (hr : f_X12_here g rd = some r0) : PM l yX12_here cX12_here 1 (some FieldType.int) rm_X12_here [.ref rq] (RP D ac (wX ax ac g ++ wR ax rq rd)) (some (.int r0)) := by
  refine fw_of (by decide) (Nat.le_of_ble_eq_true rfl) ?_
  intro p e s m below meth c ls hx hb hrt hts hown hlk hml _ hU hl
  obtain ⟨hP, hG⟩ := hU
  have hl : lv_has ls 1 [(0, .ref rq)] := hl
  rw [f_X12_here] at hr
  refine lv_aload_n hx hb dX12_here_0 rfl (lv_at hl 0 rfl) ?_
  refine va_get (D := D) (ci := 10) (v := .int (rG_at rd)) (C := RX12) (T := TX12) (N := 3) hx hb hts in_X12 hown hG.1 hP 26 rfl rfl 1 (by decide) (hts _ q399) (fun _ h9 => h9) rfl dX12_here_1 ?_
  refine lv_aload_n hx hb dX12_here_4 rfl (lv_at hl 0 rfl) ?_
  refine va_get (D := D) (ci := 10) (v := .int (rG_size rd)) (C := RX12) (T := TX12) (N := 3) hx hb hts in_X12 hown hG.1 hP 26 rfl rfl 0 (by decide) (hts _ q397) (fun _ h9 => h9) rfl dX12_here_5 ?_
  have hi1 := br_ite hr
  refine lv_icmp_ge (tgt := 26) hx hb dX12_here_8 (by decide) (fun c1 => ?_) (fun c1 => ?_)
  · have hr := hi1.1 c1
    refine lv_iconst (v := (-1)) hx hb dX12_here_26 rfl ?_
    exact W.iret hx hb hrt (fun t ht _ => ⟨ret_i hr, ht⟩) noB dX12_here_27 hlk
  · have hr := hi1.2 c1
    refine lv_aload_n hx hb dX12_here_11 rfl (lv_at hl 0 rfl) ?_
    refine va_get (D := D) (ci := 10) (v := .ref (ax 0)) (C := RX12) (T := TX12) (N := 3) hx hb hts in_X12 hown hG.1 hP 26 rfl rfl 2 (by decide) (hts _ q401) (fun _ h9 => h9) rfl dX12_here_12 ?_
    refine va_getN (D := D) (ci := 0) (v := .ref (ax 18)) (C := RX0) (T := TX0) (N := 17) hx hb hts in_X0 hown hG.1 hP 0 rfl rfl 7 (by decide) (va_Nw.use rfl (hG.2.1 _ nq240)) (fun _ h9 => h9) rfl dX12_here_15 ?_
    refine lv_aload_n hx hb dX12_here_18 rfl (lv_at hl 0 rfl) ?_
    refine va_get (D := D) (ci := 10) (v := .int (rG_at rd)) (C := RX12) (T := TX12) (N := 3) hx hb hts in_X12 hown hG.1 hP 26 rfl rfl 1 (by decide) (hts _ q399) (fun _ h9 => h9) rfl dX12_here_19 ?_
    obtain ⟨c2, hr⟩ := br_none hr
    refine va_cald hx hb hG.1 hP 18 2 rfl rfl c2 dX12_here_22 ?_
    refine lv_goto (tgt := 27) hx hb dX12_here_23 (by decide) ?_
    exact W.iret hx hb hrt (fun t ht _ => ⟨ret_i hr, ht⟩) noB dX12_here_27 hlk
def f_X12_mustStand (g : XS) (rd : RS) (a1 : Int32) : Option ((RS) ⊕ (Int32 × RS)) := if a1 = 0 then some (Sum.inr (((-1000 : Int32) - (rG_at rd)), rd)) else some (Sum.inl rd)
abbrev rm_X12_mustStand : Room := ({ frames := 9, cells := 1, slots := 7, locals := 160 })
theorem cw_X12_mustStand {R : Room} {s : State} {args : Array Value} {own : String} {index : Nat} (hts : ∀ w ∈ lw_all, w.before args s = true) (hlink : Cond.methodLink own index yX12_mustStand ∈ lw_all) (hR : rm_X12_mustStand.frames + 1 ≤ R.frames ∧ 8 + (2 + 11) + rm_X12_mustStand.locals ≤ R.locals) : CallW R s args own RX12 index yX12_mustStand cX12_mustStand 2 none (ws_ yX12_mustStand cX12_mustStand 2 none) rm_X12_mustStand rm_X12_mustStand.cells rm_X12_mustStand.slots 1 :=
  cwV 1 hts (lw_V hlink q421 qs7 q117 q422) rfl rfl rfl (by decide +kernel) hR
set_option maxHeartbeats 4000000 in
theorem m_X12_mustStand (l : Launch) (hst : l.stackTraces = false) (D : va_G) (ax : Nat → Nat) (ac : Nat → ClassId) (g : XS) (rq : Nat) (rd : RS) (a1 : Int32) (sz : Nat) (r0 : (RS) ⊕ (Int32 × RS)) (hr : f_X12_mustStand g rd a1 = some r0) : TM l yX12_mustStand cX12_mustStand 2 none rm_X12_mustStand [.ref rq, .int a1] D ac (wX ax ac g ++ wR ax rq rd) sz (Sum.map (fun u => (wX ax ac g ++ wR ax rq u, none)) (fun u => (wX ax ac g ++ wR ax rq u.2, u.1)) r0) := by
  generalize hoc : (Sum.map (fun u => (wX ax ac g ++ wR ax rq u, none)) (fun u => (wX ax ac g ++ wR ax rq u.2, u.1)) r0 : Oc) = oc
  refine fw_ofT (by decide) (Nat.le_of_ble_eq_true rfl) ?_
  intro p e s m below meth c ls hx hb hrt hts hown hlk hml _ hnt hU hl
  obtain ⟨⟨rfl, hP, hG, hD⟩, hZ⟩ := hU
  have hA : ∀ q : Nat, s.heap.size ≤ q → (va_A (wX ax ac g ++ wR ax rq rd) s.heap.size) q := fun q h => Or.inr h
  have hS := Stt.start hP hD
  show WT p l e rm_X12_mustStand s m [.ref rq, .int a1] below meth c D (va_A (wX ax ac g ++ wR ax rq rd) s.heap.size) oc s.heap [] 0 0 0 ls []
  have hl : lv_has ls 2 [(0, .ref rq), (1, .int a1)] := hl
  rw [f_X12_mustStand] at hr
  refine lv_iload_n hx hb dX12_mustStand_0 rfl (lv_at hl 1 rfl) ?_
  have hi1 := br_ite hr
  refine lv_if_ne (tgt := 20) hx hb dX12_mustStand_1 (by decide) (fun c1 => ?_) (fun c1 => ?_)
  · have hr := hi1.2 c1
    obtain rfl := Option.some.inj hr
    refine W.widen (k := rm_X12_mustStand.cells) (n := rm_X12_mustStand.slots) (Nat.le_of_ble_eq_true rfl) (Nat.le_of_ble_eq_true rfl) ?_
    subst hoc
    exact xx_ret (W.vret hx hb hrt (fun t ht _ => hS.q ht rfl) hS.2.2.2.2 dX12_mustStand_20 hlk)
  · have hr := hi1.1 c1
    refine fw_newX (C := RX13) (ci := 11) hx hb hown (hts _ q423) (hts _ q424) (hts _ q118) hS hA (Nat.le_of_ble_eq_true rfl) (Nat.le_of_ble_eq_true rfl) dX12_mustStand_4 (fun xq H xC xK g1 g2 g3 g4 g5 g6 g7 hS => ?_)
    have hP := hS.1
    refine lv_dup hx hb dX12_mustStand_7 rfl ?_
    refine lv_sipush (v := (-1000)) hx hb dX12_mustStand_8 rfl ?_
    refine lv_aload_n hx hb dX12_mustStand_11 rfl (lv_at hl 0 rfl) ?_
    refine va_get (D := D) (ci := 10) (v := .int (rG_at rd)) (C := RX12) (T := TX12) (N := 3) hx hb hts in_X12 hown hG.1 hP 26 rfl rfl 1 (by decide) (hts _ q399) (fun _ h9 => h9) rfl dX12_mustStand_12 ?_
    refine lv_isub hx hb dX12_mustStand_15 ?_
    refine fw_xinit (C := RX13) (ci := 11) (nn := ((-1000 : Int32) - (rG_at rd))) (rest := [.ref xq]) hx hb hml hown hts (m_X13_init l hst D ac xq _ ((-1000 : Int32) - (rG_at rd))) (cwi_X13_init hts q432 ⟨Nat.le_of_ble_eq_true rfl, Nat.le_of_ble_eq_true rfl⟩) hG hZ hS hA g1 g2 g3 g4 g5 g7 hl.1 (Nat.le_of_ble_eq_true rfl) dX12_mustStand_16 ⟨Nat.le_of_ble_eq_true rfl, Nat.le_of_ble_eq_true rfl⟩ (fun H locs hS => ?_)
    obtain rfl := Option.some.inj hr
    refine xx_athrow hx hb dX12_mustStand_19 ?_
    subst hoc
    exact fw_xout hnt hlk hG (Or.inr rfl) hS (Nat.le_of_ble_eq_true rfl) (Nat.le_of_ble_eq_true rfl)
def f_X12_take (g : XS) (rd : RS) (a1 : Int32) : Option ((RS) ⊕ (Int32 × RS)) := Option.bind (f_X12_here g rd) fun o1 => Option.bind (α := Int32) (if o1 = a1 then some 1 else some 0) fun o3 => bX (f_X12_mustStand g rd o3) (fun b4 => (b4.1, b4.2)) fun o4 => Option.bind (some (rS_at o4 ((rG_at o4) + 1))) fun rd5 => some (Sum.inl rd5)
abbrev rm_X12_take : Room := ({ frames := 10, cells := 1, slots := 7, locals := 181 })
theorem cw_X12_take {R : Room} {s : State} {args : Array Value} {own : String} {index : Nat} (hts : ∀ w ∈ lw_all, w.before args s = true) (hlink : Cond.methodLink own index yX12_take ∈ lw_all) (hR : rm_X12_take.frames + 1 ≤ R.frames ∧ 8 + (2 + 11) + rm_X12_take.locals ≤ R.locals) : CallW R s args own RX12 index yX12_take cX12_take 2 none (ws_ yX12_take cX12_take 2 none) rm_X12_take rm_X12_take.cells rm_X12_take.slots 1 :=
  cwV 1 hts (lw_V hlink q532 qs13 q117 q533) rfl rfl rfl (by decide +kernel) hR
set_option maxHeartbeats 4000000 in
theorem m_X12_take (l : Launch) (hst : l.stackTraces = false) (D : va_G) (ax : Nat → Nat) (ac : Nat → ClassId) (g : XS) (rq : Nat) (rd : RS) (a1 : Int32) (sz : Nat) (r0 : (RS) ⊕ (Int32 × RS)) (hr : f_X12_take g rd a1 = some r0) : TM l yX12_take cX12_take 2 none rm_X12_take [.ref rq, .int a1] D ac (wX ax ac g ++ wR ax rq rd) sz (Sum.map (fun u => (wX ax ac g ++ wR ax rq u, none)) (fun u => (wX ax ac g ++ wR ax rq u.2, u.1)) r0) := by
  generalize hoc : (Sum.map (fun u => (wX ax ac g ++ wR ax rq u, none)) (fun u => (wX ax ac g ++ wR ax rq u.2, u.1)) r0 : Oc) = oc
  refine fw_ofT (by decide) (Nat.le_of_ble_eq_true rfl) ?_
  intro p e s m below meth c ls hx hb hrt hts hown hlk hml _ hnt hU hl
  obtain ⟨⟨rfl, hP, hG, hD⟩, hZ⟩ := hU
  have hA : ∀ q : Nat, s.heap.size ≤ q → (va_A (wX ax ac g ++ wR ax rq rd) s.heap.size) q := fun q h => Or.inr h
  have hS := Stt.start hP hD
  show WT p l e rm_X12_take s m [.ref rq, .int a1] below meth c D (va_A (wX ax ac g ++ wR ax rq rd) s.heap.size) oc s.heap [] 0 0 0 ls []
  have hl : lv_has ls 2 [(0, .ref rq), (1, .int a1)] := hl
  rw [f_X12_take] at hr
  refine lv_aload_n hx hb dX12_take_0 rfl (lv_at hl 0 rfl) ?_
  refine lv_aload_n hx hb dX12_take_1 rfl (lv_at hl 0 rfl) ?_
  obtain ⟨o1, ho1, hr⟩ := br_bind hr
  refine fwRV (As := []) (rest := [.ref rq]) (C := RX12) hx hb hml hown hts (m_X12_here l D ax ac g rq rd o1 ho1) (cw_X12_here hts q415 ⟨Nat.le_of_ble_eq_true rfl, Nat.le_of_ble_eq_true rfl⟩) hG hP hP 26 10 rfl rfl rfl hl.1 rfl (Nat.le_of_ble_eq_true rfl) dX12_take_2 ⟨Nat.le_of_ble_eq_true rfl, Nat.le_of_ble_eq_true rfl⟩ ?_
  refine lv_iload_n hx hb dX12_take_5 rfl (lv_at hl 1 rfl) ?_
  obtain ⟨o3, ho3, hr⟩ := br_bind hr
  have J3 : ∀ (H : Heap) (locs : List Loc) ls, lv_has ls 2 [(0, .ref rq)] → Stt D (va_A (wX ax ac g ++ wR ax rq rd) s.heap.size) s.heap (wX ax ac g ++ wR ax rq rd) H locs → WT p l e rm_X12_take s m [.ref rq, .int a1] below meth c D (va_A (wX ax ac g ++ wR ax rq rd) s.heap.size) oc H locs 0 0 14 ls [.int o3, .ref rq] := by
    intro H locs ls hl hS
    have hP := hS.1
    rcases Or.symm (br_bX hr) with ⟨o4, ho4, rfl⟩ | ⟨o4, ho4, hr⟩
    · refine fwTVx (As := [.int o3]) (rest := []) (C := RX12) hx hb hml hown hts (m_X12_mustStand l hst D ax ac g rq rd o3 _ _ ho4) (cw_X12_mustStand hts q419 ⟨Nat.le_of_ble_eq_true rfl, Nat.le_of_ble_eq_true rfl⟩) hG hZ hS hA ixR nd_R (pk_XR ax ac _ _ _) (ad_XR ax ac _ _ _ _ _) 26 10 rfl rfl rfl hl.1 rfl (Nat.le_of_ble_eq_true rfl) dX12_take_14 ⟨Nat.le_of_ble_eq_true rfl, Nat.le_of_ble_eq_true rfl⟩ (wn := wX ax ac g ++ wR ax rq o4.2) (rep_XR ax ac _ _ _ _ _) (fun q_ ci_ H locs hci hS => ?_)
      subst hoc; exact fw_xout hnt hlk hG hci hS (Nat.le_of_ble_eq_true rfl) (Nat.le_of_ble_eq_true rfl)
    refine fwTVo (As := [.int o3]) (rest := []) (C := RX12) hx hb hml hown hts (m_X12_mustStand l hst D ax ac g rq rd o3 _ _ ho4) (cw_X12_mustStand hts q419 ⟨Nat.le_of_ble_eq_true rfl, Nat.le_of_ble_eq_true rfl⟩) hG hZ hS hA ixR nd_R (pk_XR ax ac _ _ _) (ad_XR ax ac _ _ _ _ _) 26 10 rfl rfl rfl hl.1 rfl (Nat.le_of_ble_eq_true rfl) dX12_take_14 ⟨Nat.le_of_ble_eq_true rfl, Nat.le_of_ble_eq_true rfl⟩ (wn := wX ax ac g ++ wR ax rq o4) (rep_XR ax ac _ _ _ _ _) (fun H locs hS => ?_)
    have hP := hS.1
    refine W.widen (k := 1) (n := 7) (by first | exact Nat.le_refl _ | (dsimp only [rm_X12_mustStand]; omega)) (by first | exact Nat.le_refl _ | (dsimp only [rm_X12_mustStand]; omega)) ?_
    refine lv_aload_n hx hb dX12_take_17 rfl (lv_at hl 0 rfl) ?_
    refine lv_dup hx hb dX12_take_18 rfl ?_
    refine va_get (D := D) (ci := 10) (v := .int (rG_at o4)) (C := RX12) (T := TX12) (N := 3) hx hb hts in_X12 hown hG.1 hP 26 rfl rfl 1 (by decide) (hts _ q399) (fun _ h9 => h9) rfl dX12_take_19 ?_
    refine lv_iconst (v := 1) hx hb dX12_take_22 rfl ?_
    refine lv_iadd hx hb dX12_take_23 ?_
    obtain ⟨rd5, hrd5, hr⟩ := br_let hr
    refine fw_put (D := D) (ci := 10) (x := .int ((rG_at o4) + 1)) (C := RX12) (T := TX12) (N := 3) hx hb hts in_X12 tyX12 tyX12_ok nmX12 hown hG hS 26 rfl rfl 1 (by decide) (hts _ q399) (fun _ h9 => h9) rfl (tyX12_ok 1 (by decide)) rfl rfl (Nat.le_of_ble_eq_true rfl) dX12_take_24 (wn := wX ax ac g ++ wR ax rq rd5) (by rw [hrd5]; rfl) (fun H locs hS => ?_)
    have hP := hS.1
    obtain rfl := Option.some.inj hr
    refine W.widen (k := rm_X12_take.cells) (n := rm_X12_take.slots) (Nat.le_of_ble_eq_true rfl) (Nat.le_of_ble_eq_true rfl) ?_
    subst hoc
    exact xx_ret (W.vret hx hb hrt (fun t ht _ => hS.q ht rfl) hS.2.2.2.2 dX12_take_27 hlk)
  have hr := ho3
  have hi2 := br_ite hr
  refine lv_icmp_ne (tgt := 13) hx hb dX12_take_6 (by decide) (fun c2 => ?_) (fun c2 => ?_)
  · have hr := hi2.2 c2
    refine lv_iconst (v := 0) hx hb dX12_take_13 rfl ?_
    obtain rfl := Option.some.inj hr
    exact J3 _ _ ls (lv_sub hl [0] rfl) hS
  · have hr := hi2.1 c2
    refine lv_iconst (v := 1) hx hb dX12_take_9 rfl ?_
    refine lv_goto (tgt := 14) hx hb dX12_take_10 (by decide) ?_
    obtain rfl := Option.some.inj hr
    exact J3 _ _ ls (lv_sub hl [0] rfl) hS
def f_X12_digit (g : XS) (rd : RS) : Option ((Int32 × RS) ⊕ (Int32 × RS)) := Option.bind (f_X12_here g rd) fun o1 => Option.bind (f_X0_in (Int32.toInt64 o1) (48 : Int64) (57 : Int64)) fun o2 => bX (f_X12_mustStand g rd o2) (fun b3 => (b3.1, b3.2)) fun o3 => Option.bind (some (rS_at o3 ((rG_at o3) + 1))) fun rd4 => if ((rG_at rd4) - 1) < 0 ∨ 96 ≤ Int32.toNatClampNeg ((rG_at rd4) - 1) then none else some (Sum.inl ((((xG_letters g) (Int32.toNatClampNeg ((rG_at rd4) - 1))) - 48), rd4))
abbrev rm_X12_digit : Room := ({ frames := 10, cells := 1, slots := 7, locals := 181 })
theorem cw_X12_digit {R : Room} {s : State} {args : Array Value} {own : String} {index : Nat} (hts : ∀ w ∈ lw_all, w.before args s = true) (hlink : Cond.methodLink own index yX12_digit ∈ lw_all) (hR : rm_X12_digit.frames + 1 ≤ R.frames ∧ 8 + (1 + 11) + rm_X12_digit.locals ≤ R.locals) : CallW R s args own RX12 index yX12_digit cX12_digit 1 (some FieldType.int) (ws_ yX12_digit cX12_digit 1 (some FieldType.int)) rm_X12_digit rm_X12_digit.cells rm_X12_digit.slots 0 :=
  cwV 0 hts (lw_V hlink q467 qs10 q117 q468) rfl rfl rfl (by decide +kernel) hR
set_option maxHeartbeats 4000000 in
theorem m_X12_digit (l : Launch) (hst : l.stackTraces = false) (D : va_G) (ax : Nat → Nat) (ac : Nat → ClassId) (g : XS) (rq : Nat) (rd : RS) (sz : Nat) (r0 : (Int32 × RS) ⊕ (Int32 × RS)) (hr : f_X12_digit g rd = some r0) : TM l yX12_digit cX12_digit 1 (some FieldType.int) rm_X12_digit [.ref rq] D ac (wX ax ac g ++ wR ax rq rd) sz (Sum.map (fun u => (wX ax ac g ++ wR ax rq u.2, (some (.int u.1)))) (fun u => (wX ax ac g ++ wR ax rq u.2, u.1)) r0) := by
  generalize hoc : (Sum.map (fun u => (wX ax ac g ++ wR ax rq u.2, (some (.int u.1)))) (fun u => (wX ax ac g ++ wR ax rq u.2, u.1)) r0 : Oc) = oc
  refine fw_ofT (by decide) (Nat.le_of_ble_eq_true rfl) ?_
  intro p e s m below meth c ls hx hb hrt hts hown hlk hml _ hnt hU hl
  obtain ⟨⟨rfl, hP, hG, hD⟩, hZ⟩ := hU
  have hA : ∀ q : Nat, s.heap.size ≤ q → (va_A (wX ax ac g ++ wR ax rq rd) s.heap.size) q := fun q h => Or.inr h
  have hS := Stt.start hP hD
  show WT p l e rm_X12_digit s m [.ref rq] below meth c D (va_A (wX ax ac g ++ wR ax rq rd) s.heap.size) oc s.heap [] 0 0 0 ls []
  have hl : lv_has ls 1 [(0, .ref rq)] := hl
  rw [f_X12_digit] at hr
  refine lv_aload_n hx hb dX12_digit_0 rfl (lv_at hl 0 rfl) ?_
  refine lv_aload_n hx hb dX12_digit_1 rfl (lv_at hl 0 rfl) ?_
  obtain ⟨o1, ho1, hr⟩ := br_bind hr
  refine fwRV (As := []) (rest := [.ref rq]) (C := RX12) hx hb hml hown hts (m_X12_here l D ax ac g rq rd o1 ho1) (cw_X12_here hts q415 ⟨Nat.le_of_ble_eq_true rfl, Nat.le_of_ble_eq_true rfl⟩) hG hP hP 26 10 rfl rfl rfl hl.1 rfl (Nat.le_of_ble_eq_true rfl) dX12_digit_2 ⟨Nat.le_of_ble_eq_true rfl, Nat.le_of_ble_eq_true rfl⟩ ?_
  refine lv_i2l (v := (Int32.toInt64 o1)) hx hb dX12_digit_5 rfl ?_
  refine lv_ldc2 (v := 48) hx hb hown (hts _ q469) dX12_digit_6 ?_
  refine lv_ldc2 (v := 57) hx hb hown (hts _ q470) dX12_digit_9 ?_
  obtain ⟨o2, ho2, hr⟩ := br_bind hr
  refine fwSN (As := [.long (Int32.toInt64 o1), .long 48, .long 57]) (rest := [.ref rq]) hx hb hml hown hts (m_X0_in l (Int32.toInt64 o1) (48 : Int64) (57 : Int64) o2 ho2) (cwn_X0_in hts (hG.2.1 _ nq471) ⟨Nat.le_of_ble_eq_true rfl, Nat.le_of_ble_eq_true rfl⟩) rfl hl.1 rfl (Nat.le_of_ble_eq_true rfl) dX12_digit_12 ⟨Nat.le_of_ble_eq_true rfl, Nat.le_of_ble_eq_true rfl⟩ ?_
  rcases Or.symm (br_bX hr) with ⟨o3, ho3, rfl⟩ | ⟨o3, ho3, hr⟩
  · refine fwTVx (As := [.int o2]) (rest := []) (C := RX12) hx hb hml hown hts (m_X12_mustStand l hst D ax ac g rq rd o2 _ _ ho3) (cw_X12_mustStand hts q419 ⟨Nat.le_of_ble_eq_true rfl, Nat.le_of_ble_eq_true rfl⟩) hG hZ hS hA ixR nd_R (pk_XR ax ac _ _ _) (ad_XR ax ac _ _ _ _ _) 26 10 rfl rfl rfl hl.1 rfl (Nat.le_of_ble_eq_true rfl) dX12_digit_15 ⟨Nat.le_of_ble_eq_true rfl, Nat.le_of_ble_eq_true rfl⟩ (wn := wX ax ac g ++ wR ax rq o3.2) (rep_XR ax ac _ _ _ _ _) (fun q_ ci_ H locs hci hS => ?_)
    subst hoc; exact fw_xout hnt hlk hG hci hS (Nat.le_of_ble_eq_true rfl) (Nat.le_of_ble_eq_true rfl)
  refine fwTVo (As := [.int o2]) (rest := []) (C := RX12) hx hb hml hown hts (m_X12_mustStand l hst D ax ac g rq rd o2 _ _ ho3) (cw_X12_mustStand hts q419 ⟨Nat.le_of_ble_eq_true rfl, Nat.le_of_ble_eq_true rfl⟩) hG hZ hS hA ixR nd_R (pk_XR ax ac _ _ _) (ad_XR ax ac _ _ _ _ _) 26 10 rfl rfl rfl hl.1 rfl (Nat.le_of_ble_eq_true rfl) dX12_digit_15 ⟨Nat.le_of_ble_eq_true rfl, Nat.le_of_ble_eq_true rfl⟩ (wn := wX ax ac g ++ wR ax rq o3) (rep_XR ax ac _ _ _ _ _) (fun H locs hS => ?_)
  have hP := hS.1
  refine W.widen (k := 1) (n := 7) (by first | exact Nat.le_refl _ | (dsimp only [rm_X12_mustStand]; omega)) (by first | exact Nat.le_refl _ | (dsimp only [rm_X12_mustStand]; omega)) ?_
  refine lv_aload_n hx hb dX12_digit_18 rfl (lv_at hl 0 rfl) ?_
  refine lv_dup hx hb dX12_digit_19 rfl ?_
  refine va_get (D := D) (ci := 10) (v := .int (rG_at o3)) (C := RX12) (T := TX12) (N := 3) hx hb hts in_X12 hown hG.1 hP 26 rfl rfl 1 (by decide) (hts _ q399) (fun _ h9 => h9) rfl dX12_digit_20 ?_
  refine lv_iconst (v := 1) hx hb dX12_digit_23 rfl ?_
  refine lv_iadd hx hb dX12_digit_24 ?_
  obtain ⟨rd4, hrd4, hr⟩ := br_let hr
  refine fw_put (D := D) (ci := 10) (x := .int ((rG_at o3) + 1)) (C := RX12) (T := TX12) (N := 3) hx hb hts in_X12 tyX12 tyX12_ok nmX12 hown hG hS 26 rfl rfl 1 (by decide) (hts _ q399) (fun _ h9 => h9) rfl (tyX12_ok 1 (by decide)) rfl rfl (Nat.le_of_ble_eq_true rfl) dX12_digit_25 (wn := wX ax ac g ++ wR ax rq rd4) (by rw [hrd4]; rfl) (fun H locs hS => ?_)
  have hP := hS.1
  refine lv_aload_n hx hb dX12_digit_28 rfl (lv_at hl 0 rfl) ?_
  refine va_get (D := D) (ci := 10) (v := .ref (ax 0)) (C := RX12) (T := TX12) (N := 3) hx hb hts in_X12 hown hG.1 hP 26 rfl rfl 2 (by decide) (hts _ q401) (fun _ h9 => h9) rfl dX12_digit_29 ?_
  refine va_getN (D := D) (ci := 0) (v := .ref (ax 18)) (C := RX0) (T := TX0) (N := 17) hx hb hts in_X0 hown hG.1 hP 0 rfl rfl 7 (by decide) (va_Nw.use rfl (hG.2.1 _ nq240)) (fun _ h9 => h9) rfl dX12_digit_32 ?_
  refine lv_aload_n hx hb dX12_digit_35 rfl (lv_at hl 0 rfl) ?_
  refine va_get (D := D) (ci := 10) (v := .int (rG_at rd4)) (C := RX12) (T := TX12) (N := 3) hx hb hts in_X12 hown hG.1 hP 26 rfl rfl 1 (by decide) (hts _ q399) (fun _ h9 => h9) rfl dX12_digit_36 ?_
  refine lv_iconst (v := 1) hx hb dX12_digit_39 rfl ?_
  refine lv_isub hx hb dX12_digit_40 ?_
  obtain ⟨c5, hr⟩ := br_none hr
  refine va_cald hx hb hG.1 hP 18 2 rfl rfl c5 dX12_digit_41 ?_
  refine lv_bipush (v := 48) hx hb dX12_digit_42 rfl ?_
  refine lv_isub hx hb dX12_digit_44 ?_
  obtain rfl := Option.some.inj hr
  refine W.widen (k := rm_X12_digit.cells) (n := rm_X12_digit.slots) (Nat.le_of_ble_eq_true rfl) (Nat.le_of_ble_eq_true rfl) ?_
  subst hoc
  exact xx_ret (W.iret hx hb hrt (fun t ht _ => hS.q ht rfl) hS.2.2.2.2 dX12_digit_45 hlk)
def f_X12_pair (g : XS) (rd : RS) : Option ((Int32 × RS) ⊕ (Int32 × RS)) := bX (f_X12_digit g rd) (fun b1 => (b1.1, b1.2)) fun o1 => bX (f_X12_digit g o1.2) (fun b2 => (b2.1, b2.2)) fun o2 => some (Sum.inl ((((10 : Int32) * o1.1) + o2.1), o2.2))
abbrev rm_X12_pair : Room := ({ frames := 11, cells := 2, slots := 14, locals := 201 })
theorem cw_X12_pair {R : Room} {s : State} {args : Array Value} {own : String} {index : Nat} (hts : ∀ w ∈ lw_all, w.before args s = true) (hlink : Cond.methodLink own index yX12_pair ∈ lw_all) (hR : rm_X12_pair.frames + 1 ≤ R.frames ∧ 8 + (2 + 11) + rm_X12_pair.locals ≤ R.locals) : CallW R s args own RX12 index yX12_pair cX12_pair 2 (some FieldType.int) (ws_ yX12_pair cX12_pair 2 (some FieldType.int)) rm_X12_pair rm_X12_pair.cells rm_X12_pair.slots 0 :=
  cwV 0 hts (lw_V hlink q494 qs12 q117 q495) rfl rfl rfl (by decide +kernel) hR
set_option maxHeartbeats 4000000 in
theorem m_X12_pair (l : Launch) (hst : l.stackTraces = false) (D : va_G) (ax : Nat → Nat) (ac : Nat → ClassId) (g : XS) (rq : Nat) (rd : RS) (sz : Nat) (r0 : (Int32 × RS) ⊕ (Int32 × RS)) (hr : f_X12_pair g rd = some r0) : TM l yX12_pair cX12_pair 2 (some FieldType.int) rm_X12_pair [.ref rq] D ac (wX ax ac g ++ wR ax rq rd) sz (Sum.map (fun u => (wX ax ac g ++ wR ax rq u.2, (some (.int u.1)))) (fun u => (wX ax ac g ++ wR ax rq u.2, u.1)) r0) := by
  generalize hoc : (Sum.map (fun u => (wX ax ac g ++ wR ax rq u.2, (some (.int u.1)))) (fun u => (wX ax ac g ++ wR ax rq u.2, u.1)) r0 : Oc) = oc
  refine fw_ofT (by decide) (Nat.le_of_ble_eq_true rfl) ?_
  intro p e s m below meth c ls hx hb hrt hts hown hlk hml _ hnt hU hl
  obtain ⟨⟨rfl, hP, hG, hD⟩, hZ⟩ := hU
  have hA : ∀ q : Nat, s.heap.size ≤ q → (va_A (wX ax ac g ++ wR ax rq rd) s.heap.size) q := fun q h => Or.inr h
  have hS := Stt.start hP hD
  show WT p l e rm_X12_pair s m [.ref rq] below meth c D (va_A (wX ax ac g ++ wR ax rq rd) s.heap.size) oc s.heap [] 0 0 0 ls []
  have hl : lv_has ls 2 [(0, .ref rq)] := hl
  rw [f_X12_pair] at hr
  refine lv_aload_n hx hb dX12_pair_0 rfl (lv_at hl 0 rfl) ?_
  rcases Or.symm (br_bX hr) with ⟨o1, ho1, rfl⟩ | ⟨o1, ho1, hr⟩
  · refine fwTVx (As := []) (rest := []) (C := RX12) hx hb hml hown hts (m_X12_digit l hst D ax ac g rq rd _ _ ho1) (cw_X12_digit hts q465 ⟨Nat.le_of_ble_eq_true rfl, Nat.le_of_ble_eq_true rfl⟩) hG hZ hS hA ixR nd_R (pk_XR ax ac _ _ _) (ad_XR ax ac _ _ _ _ _) 26 10 rfl rfl rfl hl.1 rfl (Nat.le_of_ble_eq_true rfl) dX12_pair_1 ⟨Nat.le_of_ble_eq_true rfl, Nat.le_of_ble_eq_true rfl⟩ (wn := wX ax ac g ++ wR ax rq o1.2) (rep_XR ax ac _ _ _ _ _) (fun q_ ci_ H locs hci hS => ?_)
    subst hoc; exact fw_xout hnt hlk hG hci hS (Nat.le_of_ble_eq_true rfl) (Nat.le_of_ble_eq_true rfl)
  refine fwTVo (As := []) (rest := []) (C := RX12) hx hb hml hown hts (m_X12_digit l hst D ax ac g rq rd _ _ ho1) (cw_X12_digit hts q465 ⟨Nat.le_of_ble_eq_true rfl, Nat.le_of_ble_eq_true rfl⟩) hG hZ hS hA ixR nd_R (pk_XR ax ac _ _ _) (ad_XR ax ac _ _ _ _ _) 26 10 rfl rfl rfl hl.1 rfl (Nat.le_of_ble_eq_true rfl) dX12_pair_1 ⟨Nat.le_of_ble_eq_true rfl, Nat.le_of_ble_eq_true rfl⟩ (wn := wX ax ac g ++ wR ax rq o1.2) (rep_XR ax ac _ _ _ _ _) (fun H locs hS => ?_)
  have hP := hS.1
  refine W.widen (k := 1) (n := 7) (by first | exact Nat.le_refl _ | (dsimp only [rm_X12_digit]; omega)) (by first | exact Nat.le_refl _ | (dsimp only [rm_X12_digit]; omega)) ?_
  refine lv_istore_n (lv' := [(1, .int o1.1), (0, .ref rq)]) hx hb dX12_pair_4 rfl hl (by decide) rfl (fun ls hl => ?_)
  refine lv_bipush (v := 10) hx hb dX12_pair_5 rfl ?_
  refine lv_iload_n hx hb dX12_pair_7 rfl (lv_at hl 0 rfl) ?_
  refine lv_imul hx hb dX12_pair_8 ?_
  refine lv_aload_n hx hb dX12_pair_9 rfl (lv_at hl 1 rfl) ?_
  rcases Or.symm (br_bX hr) with ⟨o2, ho2, rfl⟩ | ⟨o2, ho2, hr⟩
  · refine fwTVx (As := []) (rest := [.int ((10 : Int32) * o1.1)]) (C := RX12) hx hb hml hown hts (m_X12_digit l hst D ax ac g rq o1.2 _ _ ho2) (cw_X12_digit hts q465 ⟨Nat.le_of_ble_eq_true rfl, Nat.le_of_ble_eq_true rfl⟩) hG hZ hS hA ixR nd_R (pk_XR ax ac _ _ _) (ad_XR ax ac _ _ _ _ _) 26 10 rfl rfl rfl hl.1 rfl (Nat.le_of_ble_eq_true rfl) dX12_pair_10 ⟨Nat.le_of_ble_eq_true rfl, Nat.le_of_ble_eq_true rfl⟩ (wn := wX ax ac g ++ wR ax rq o2.2) (rep_XR ax ac _ _ _ _ _) (fun q_ ci_ H locs hci hS => ?_)
    subst hoc; exact fw_xout hnt hlk hG hci hS (Nat.le_of_ble_eq_true rfl) (Nat.le_of_ble_eq_true rfl)
  refine fwTVo (As := []) (rest := [.int ((10 : Int32) * o1.1)]) (C := RX12) hx hb hml hown hts (m_X12_digit l hst D ax ac g rq o1.2 _ _ ho2) (cw_X12_digit hts q465 ⟨Nat.le_of_ble_eq_true rfl, Nat.le_of_ble_eq_true rfl⟩) hG hZ hS hA ixR nd_R (pk_XR ax ac _ _ _) (ad_XR ax ac _ _ _ _ _) 26 10 rfl rfl rfl hl.1 rfl (Nat.le_of_ble_eq_true rfl) dX12_pair_10 ⟨Nat.le_of_ble_eq_true rfl, Nat.le_of_ble_eq_true rfl⟩ (wn := wX ax ac g ++ wR ax rq o2.2) (rep_XR ax ac _ _ _ _ _) (fun H locs hS => ?_)
  have hP := hS.1
  refine W.widen (k := 2) (n := 14) (by first | exact Nat.le_refl _ | (dsimp only [rm_X12_digit]; omega)) (by first | exact Nat.le_refl _ | (dsimp only [rm_X12_digit]; omega)) ?_
  refine lv_iadd hx hb dX12_pair_13 ?_
  obtain rfl := Option.some.inj hr
  refine W.widen (k := rm_X12_pair.cells) (n := rm_X12_pair.slots) (Nat.le_of_ble_eq_true rfl) (Nat.le_of_ble_eq_true rfl) ?_
  subst hoc
  exact xx_ret (W.iret hx hb hrt (fun t ht _ => hS.q ht rfl) hS.2.2.2.2 dX12_pair_14 hlk)
