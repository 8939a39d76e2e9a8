def f_X0_has (a0 : Int32) (a1 : Int32) : Option Int32 := if ((a0 >>> (a1 &&& 31)) &&& 1) = 1 then some 1 else some 0
abbrev rm_X0_has : Room := ({ frames := 1, cells := 0, slots := 0, locals := 18 })
set_option maxHeartbeats 4000000 in
theorem m_X0_has (l : Launch) (a0 : Int32) (a1 : Int32) (r0 : Int32) (hr : f_X0_has a0 a1 = some r0) : PM l yX0_has cX0_has 2 (some FieldType.boolean) rm_X0_has [.int a0, .int a1] (fun _ => True) (some (.int r0)) := by
  refine fw_of (by decide) (Nat.le_of_ble_eq_true rfl) ?_
  intro p e s m below meth c ls hx hb hrt hts hown hlk hml _ _ hl
  have hl : lv_has ls 2 [(0, .int a0), (1, .int a1)] := hl
  rw [f_X0_has] at hr
  refine lv_iload_n hx hb dX0_has_0 rfl (lv_at hl 0 rfl) ?_
  refine lv_iload_n hx hb dX0_has_1 rfl (lv_at hl 1 rfl) ?_
  refine lv_ishr hx hb dX0_has_2 ?_
  refine lv_iconst (v := 1) hx hb dX0_has_3 rfl ?_
  refine lv_iand hx hb dX0_has_4 ?_
  refine lv_iconst (v := 1) hx hb dX0_has_5 rfl ?_
  have hi1 := br_ite hr
  refine lv_icmp_ne (tgt := 13) hx hb dX0_has_6 (by decide) (fun c1 => ?_) (fun c1 => ?_)
  · have hr := hi1.2 c1
    refine lv_iconst (v := 0) hx hb dX0_has_13 rfl ?_
    exact W.zret hx hb hrt rfl (fun t ht _ => ⟨ret_i hr, ht⟩) noB dX0_has_14 hlk
  · have hr := hi1.1 c1
    refine lv_iconst (v := 1) hx hb dX0_has_9 rfl ?_
    refine lv_goto (tgt := 14) hx hb dX0_has_10 (by decide) ?_
    exact W.zret hx hb hrt rfl (fun t ht _ => ⟨ret_i hr, ht⟩) noB dX0_has_14 hlk
theorem cw_X0_has {R : Room} {s : State} {args : Array Value} {own : String} {index : Nat} (hts : ∀ w ∈ lw_all, w.before args s = true) (hlink : Cond.methodLink own index yX0_has ∈ lw_all) (hR : rm_X0_has.frames + 1 ≤ R.frames ∧ 8 + (2 + 11) + rm_X0_has.locals ≤ R.locals) : CallB R s args own index yX0_has cX0_has 2 (some FieldType.boolean) (ws_ yX0_has cX0_has 2 (some FieldType.boolean)) rm_X0_has 0 0 2 ∧ (Cond.static yX0_has).before args s = true :=
  va_cwS 2 hts (lw_S hlink q589 q102 q590) rfl rfl rfl (by decide +kernel) hR
theorem cwn_X0_has {R : Room} {s : State} {args : Array Value} {own host : String} {index : Nat} (hts : ∀ w ∈ lw_all, w.before args s = true) (hlink : va_Nw (.methodLinkNest own index yX0_has host) s) (hR : rm_X0_has.frames + 1 ≤ R.frames ∧ 8 + (2 + 11) + rm_X0_has.locals ≤ R.locals) : va_CN R s args own index yX0_has host cX0_has 2 (some FieldType.boolean) (ws_ yX0_has cX0_has 2 (some FieldType.boolean)) rm_X0_has rm_X0_has.cells rm_X0_has.slots 2 ∧ (Cond.static yX0_has).before args s = true ∧ True :=
  ⟨va_cnB 2 hts (lw_meth q590) rfl rfl rfl hlink (hts _ q102) (by decide +kernel) hR, hts _ q589, trivial⟩
def f_X0_manyIn_L4 : Nat → Int32 → Int32 → Option (Int32)
  | 0, _, _ => none
  | n + 1, x2_1, x1_1 => if x2_1 = 0 then some x1_1 else Option.bind (some ((x1_1 + 1) : Int32)) fun v3 => Option.bind (some ((x2_1 &&& (x2_1 - 1)) : Int32)) fun v4 => f_X0_manyIn_L4 n v4 v3
def f_X0_manyIn (a0 : Int32) : Option Int32 := Option.bind (f_X0_manyIn_L4 1000 a0 0) fun o1 => some o1
abbrev rm_X0_manyIn : Room := ({ frames := 1, cells := 0, slots := 0, locals := 19 })
set_option maxHeartbeats 4000000 in
theorem m_X0_manyIn (l : Launch) (a0 : Int32) (r0 : Int32) (hr : f_X0_manyIn a0 = some r0) : PM l yX0_manyIn cX0_manyIn 3 (some FieldType.int) rm_X0_manyIn [.int a0] (fun _ => True) (some (.int r0)) := by
  refine fw_of (by decide) (Nat.le_of_ble_eq_true rfl) ?_
  intro p e s m below meth c ls hx hb hrt hts hown hlk hml _ _ hl
  have hl : lv_has ls 3 [(0, .int a0)] := hl
  rw [f_X0_manyIn] at hr
  refine lv_iconst (v := 0) hx hb dX0_manyIn_0 rfl ?_
  refine lv_istore_n (lv' := [(1, .int 0), (0, .int a0)]) hx hb dX0_manyIn_1 rfl hl (by decide) rfl (fun ls hl => ?_)
  refine lv_iload_n hx hb dX0_manyIn_2 rfl (lv_at hl 1 rfl) ?_
  refine lv_istore_n (lv' := [(2, .int a0), (1, .int 0), (0, .int a0)]) hx hb dX0_manyIn_3 rfl hl (by decide) rfl (fun ls hl => ?_)
  have L1 : ∀ (n : Nat) (x2_1 : Int32) (x1_1 : Int32) (o1 : Int32), f_X0_manyIn_L4 n x2_1 x1_1 = some o1 → ∀ ls, lv_has ls 3 [(2, .int x2_1), (1, .int x1_1)] → (∀ ls, lv_has ls 3 [(1, .int o1)] → WP p l e rm_X0_manyIn s m [.int a0] below meth c (some (.int r0)) 20 ls []) → WP p l e rm_X0_manyIn s m [.int a0] below meth c (some (.int r0)) 4 ls [] := by
    intro n
    induction n with
    | zero => intro x2_1 x1_1 o1 hr; rw [f_X0_manyIn_L4] at hr; cases hr
    | succ n ih =>
      intro x2_1 x1_1 o1 hr ls hl kx
      rw [f_X0_manyIn_L4] at hr
      refine lv_iload_n hx hb dX0_manyIn_4 rfl (lv_at hl 0 rfl) ?_
      have hi2 := br_ite hr
      refine lv_if_eq (tgt := 20) hx hb dX0_manyIn_5 (by decide) (fun c2 => ?_) (fun c2 => ?_)
      · have hr := hi2.1 c2
        obtain rfl := Option.some.inj hr
        exact kx ls (lv_sub hl [1] rfl)
      · have hr := hi2.2 c2
        obtain ⟨v3, hv3, hr⟩ := br_let hr
        refine lv_iinc (v := v3) (lv' := [(1, .int v3), (2, .int x2_1)]) hx hb dX0_manyIn_8 hl (k := 1) rfl (hv3 ▸ rfl) (by decide) rfl (fun ls hl => ?_)
        refine lv_iload_n hx hb dX0_manyIn_11 rfl (lv_at hl 1 rfl) ?_
        refine lv_iload_n hx hb dX0_manyIn_12 rfl (lv_at hl 1 rfl) ?_
        refine lv_iconst (v := 1) hx hb dX0_manyIn_13 rfl ?_
        refine lv_isub hx hb dX0_manyIn_14 ?_
        refine lv_iand hx hb dX0_manyIn_15 ?_
        refine lv_topi (fun v4 hv4 => ?_)
        have hr := br_letv hr hv4
        refine lv_istore_n (lv' := [(2, .int v4), (1, .int v3)]) hx hb dX0_manyIn_16 rfl hl (by decide) rfl (fun ls hl => ?_)
        refine lv_goto (tgt := 4) hx hb dX0_manyIn_17 (by decide) ?_
        exact ih v4 v3 _ hr ls (lv_sub hl [0, 1] rfl) kx
  obtain ⟨o1, ho1, hr⟩ := br_bind hr
  refine L1 1000 a0 0 o1 ho1 ls (lv_sub hl [0, 1] rfl) (fun ls hl => ?_)
  refine lv_iload_n hx hb dX0_manyIn_20 rfl (lv_at hl 0 rfl) ?_
  exact W.iret hx hb hrt (fun t ht _ => ⟨ret_i hr, ht⟩) noB dX0_manyIn_21 hlk
theorem cw_X0_manyIn {R : Room} {s : State} {args : Array Value} {own : String} {index : Nat} (hts : ∀ w ∈ lw_all, w.before args s = true) (hlink : Cond.methodLink own index yX0_manyIn ∈ lw_all) (hR : rm_X0_manyIn.frames + 1 ≤ R.frames ∧ 8 + (3 + 11) + rm_X0_manyIn.locals ≤ R.locals) : CallB R s args own index yX0_manyIn cX0_manyIn 3 (some FieldType.int) (ws_ yX0_manyIn cX0_manyIn 3 (some FieldType.int)) rm_X0_manyIn 0 0 1 ∧ (Cond.static yX0_manyIn).before args s = true :=
  va_cwS 1 hts (lw_S hlink q602 q102 q603) rfl rfl rfl (by decide +kernel) hR
theorem cwn_X0_manyIn {R : Room} {s : State} {args : Array Value} {own host : String} {index : Nat} (hts : ∀ w ∈ lw_all, w.before args s = true) (hlink : va_Nw (.methodLinkNest own index yX0_manyIn host) s) (hR : rm_X0_manyIn.frames + 1 ≤ R.frames ∧ 8 + (3 + 11) + rm_X0_manyIn.locals ≤ R.locals) : va_CN R s args own index yX0_manyIn host cX0_manyIn 3 (some FieldType.int) (ws_ yX0_manyIn cX0_manyIn 3 (some FieldType.int)) rm_X0_manyIn rm_X0_manyIn.cells rm_X0_manyIn.slots 1 ∧ (Cond.static yX0_manyIn).before args s = true ∧ True :=
  ⟨va_cnB 1 hts (lw_meth q603) rfl rfl rfl hlink (hts _ q102) (by decide +kernel) hR, hts _ q602, trivial⟩
def f_X0_beside (a0 : Int32) (a1 : Int32) : Option Int32 := Option.bind (some ((a0 / 5) : Int32)) fun v1 => Option.bind (some ((a0 - a0 / 5 * 5) : Int32)) fun v2 => if a1 = 0 then if v1 = 0 then some (-9) else some (a0 - 5) else if a1 = 1 then if v2 = 0 then some (-9) else some (a0 - 1) else if a1 = 2 then if v2 = 4 then some (-9) else some (a0 + 1) else if v1 = 4 then some (-9) else some (a0 + 5)
abbrev rm_X0_beside : Room := ({ frames := 1, cells := 0, slots := 0, locals := 20 })
set_option maxHeartbeats 4000000 in
theorem m_X0_beside (l : Launch) (a0 : Int32) (a1 : Int32) (r0 : Int32) (hr : f_X0_beside a0 a1 = some r0) : PM l yX0_beside cX0_beside 4 (some FieldType.int) rm_X0_beside [.int a0, .int a1] (fun _ => True) (some (.int r0)) := by
  refine fw_of (by decide) (Nat.le_of_ble_eq_true rfl) ?_
  intro p e s m below meth c ls hx hb hrt hts hown hlk hml _ _ hl
  have hl : lv_has ls 4 [(0, .int a0), (1, .int a1)] := hl
  rw [f_X0_beside] at hr
  refine lv_iload_n hx hb dX0_beside_0 rfl (lv_at hl 0 rfl) ?_
  refine lv_iconst (v := 5) hx hb dX0_beside_1 rfl ?_
  refine lv_idiv hx hb dX0_beside_2 (by decide) ?_
  refine lv_topi (fun v1 hv1 => ?_)
  have hr := br_letv hr hv1
  refine lv_istore_n (lv' := [(2, .int v1), (0, .int a0), (1, .int a1)]) hx hb dX0_beside_3 rfl hl (by decide) rfl (fun ls hl => ?_)
  refine lv_iload_n hx hb dX0_beside_4 rfl (lv_at hl 1 rfl) ?_
  refine lv_iconst (v := 5) hx hb dX0_beside_5 rfl ?_
  refine lv_irem hx hb dX0_beside_6 (by decide) ?_
  refine lv_topi (fun v2 hv2 => ?_)
  have hr := br_letv hr hv2
  refine lv_istore_n (lv' := [(3, .int v2), (2, .int v1), (0, .int a0), (1, .int a1)]) hx hb dX0_beside_7 rfl hl (by decide) rfl (fun ls hl => ?_)
  refine lv_iload_n hx hb dX0_beside_8 rfl (lv_at hl 3 rfl) ?_
  have hi3 := br_ite hr
  by_cases c3 : a1 = 0
  · have hr := hi3.1 c3
    refine lv_tableIn (tgt := 36) hx hb dX0_beside_9 (by rw [c3]; decide) (by rw [c3]; decide) (by rw [c3]; rfl) (by decide) ?_
    refine lv_iload_n hx hb dX0_beside_36 rfl (lv_at hl 1 rfl) ?_
    have hi6 := br_ite hr
    refine lv_if_ne (tgt := 45) hx hb dX0_beside_37 (by decide) (fun c6 => ?_) (fun c6 => ?_)
    · have hr := hi6.2 c6
      refine lv_iload_n hx hb dX0_beside_45 rfl (lv_at hl 2 rfl) ?_
      refine lv_iconst (v := 5) hx hb dX0_beside_46 rfl ?_
      refine lv_isub hx hb dX0_beside_47 ?_
      exact W.iret hx hb hrt (fun t ht _ => ⟨ret_i hr, ht⟩) noB dX0_beside_48 hlk
    · have hr := hi6.1 c6
      refine lv_bipush (v := (-9)) hx hb dX0_beside_40 rfl ?_
      refine lv_goto (tgt := 48) hx hb dX0_beside_42 (by decide) ?_
      exact W.iret hx hb hrt (fun t ht _ => ⟨ret_i hr, ht⟩) noB dX0_beside_48 hlk
  have hr := hi3.2 c3
  have hi4 := br_ite hr
  by_cases c4 : a1 = 1
  · have hr := hi4.1 c4
    refine lv_tableIn (tgt := 49) hx hb dX0_beside_9 (by rw [c4]; decide) (by rw [c4]; decide) (by rw [c4]; rfl) (by decide) ?_
    refine lv_iload_n hx hb dX0_beside_49 rfl (lv_at hl 0 rfl) ?_
    have hi7 := br_ite hr
    refine lv_if_ne (tgt := 58) hx hb dX0_beside_50 (by decide) (fun c7 => ?_) (fun c7 => ?_)
    · have hr := hi7.2 c7
      refine lv_iload_n hx hb dX0_beside_58 rfl (lv_at hl 2 rfl) ?_
      refine lv_iconst (v := 1) hx hb dX0_beside_59 rfl ?_
      refine lv_isub hx hb dX0_beside_60 ?_
      exact W.iret hx hb hrt (fun t ht _ => ⟨ret_i hr, ht⟩) noB dX0_beside_61 hlk
    · have hr := hi7.1 c7
      refine lv_bipush (v := (-9)) hx hb dX0_beside_53 rfl ?_
      refine lv_goto (tgt := 61) hx hb dX0_beside_55 (by decide) ?_
      exact W.iret hx hb hrt (fun t ht _ => ⟨ret_i hr, ht⟩) noB dX0_beside_61 hlk
  have hr := hi4.2 c4
  have hi5 := br_ite hr
  by_cases c5 : a1 = 2
  · have hr := hi5.1 c5
    refine lv_tableIn (tgt := 62) hx hb dX0_beside_9 (by rw [c5]; decide) (by rw [c5]; decide) (by rw [c5]; rfl) (by decide) ?_
    refine lv_iload_n hx hb dX0_beside_62 rfl (lv_at hl 0 rfl) ?_
    refine lv_iconst (v := 4) hx hb dX0_beside_63 rfl ?_
    have hi8 := br_ite hr
    refine lv_icmp_ne (tgt := 72) hx hb dX0_beside_64 (by decide) (fun c8 => ?_) (fun c8 => ?_)
    · have hr := hi8.2 c8
      refine lv_iload_n hx hb dX0_beside_72 rfl (lv_at hl 2 rfl) ?_
      refine lv_iconst (v := 1) hx hb dX0_beside_73 rfl ?_
      refine lv_iadd hx hb dX0_beside_74 ?_
      exact W.iret hx hb hrt (fun t ht _ => ⟨ret_i hr, ht⟩) noB dX0_beside_75 hlk
    · have hr := hi8.1 c8
      refine lv_bipush (v := (-9)) hx hb dX0_beside_67 rfl ?_
      refine lv_goto (tgt := 75) hx hb dX0_beside_69 (by decide) ?_
      exact W.iret hx hb hrt (fun t ht _ => ⟨ret_i hr, ht⟩) noB dX0_beside_75 hlk
  have hr := hi5.2 c5
  refine lv_tableOut (tgt := 76) hx hb dX0_beside_9 (by have n3 := lv_neT (a := 0) c3 rfl; have n4 := lv_neT (a := 1) c4 rfl; have n5 := lv_neT (a := 2) c5 rfl; omega) (by decide) ?_
  refine lv_iload_n hx hb dX0_beside_76 rfl (lv_at hl 1 rfl) ?_
  refine lv_iconst (v := 4) hx hb dX0_beside_77 rfl ?_
  have hi9 := br_ite hr
  refine lv_icmp_ne (tgt := 86) hx hb dX0_beside_78 (by decide) (fun c9 => ?_) (fun c9 => ?_)
  · have hr := hi9.2 c9
    refine lv_iload_n hx hb dX0_beside_86 rfl (lv_at hl 2 rfl) ?_
    refine lv_iconst (v := 5) hx hb dX0_beside_87 rfl ?_
    refine lv_iadd hx hb dX0_beside_88 ?_
    exact W.iret hx hb hrt (fun t ht _ => ⟨ret_i hr, ht⟩) noB dX0_beside_89 hlk
  · have hr := hi9.1 c9
    refine lv_bipush (v := (-9)) hx hb dX0_beside_81 rfl ?_
    refine lv_goto (tgt := 89) hx hb dX0_beside_83 (by decide) ?_
    exact W.iret hx hb hrt (fun t ht _ => ⟨ret_i hr, ht⟩) noB dX0_beside_89 hlk
theorem cw_X0_beside {R : Room} {s : State} {args : Array Value} {own : String} {index : Nat} (hts : ∀ w ∈ lw_all, w.before args s = true) (hlink : Cond.methodLink own index yX0_beside ∈ lw_all) (hR : rm_X0_beside.frames + 1 ≤ R.frames ∧ 8 + (4 + 11) + rm_X0_beside.locals ≤ R.locals) : CallB R s args own index yX0_beside cX0_beside 4 (some FieldType.int) (ws_ yX0_beside cX0_beside 4 (some FieldType.int)) rm_X0_beside 0 0 2 ∧ (Cond.static yX0_beside).before args s = true :=
  va_cwS 2 hts (lw_S hlink q599 q102 q600) rfl rfl rfl (by decide +kernel) hR
def f_X0_besideBits_L4 (a0 : Int32) : Nat → Int32 → Int32 → Option (Int32)
  | 0, _, _ => none
  | n + 1, x2_1, x1_1 => if 4 ≤ x2_1 then some x1_1 else Option.bind (f_X0_beside a0 x2_1) fun o3 => if o3 = (-9) then Option.bind (some ((x1_1 ||| 0) : Int32)) fun v7 => Option.bind (some ((x2_1 + 1) : Int32)) fun v8 => f_X0_besideBits_L4 a0 n v8 v7 else Option.bind (some ((x1_1 ||| ((1 : Int32) <<< (o3 &&& 31))) : Int32)) fun v5 => Option.bind (some ((x2_1 + 1) : Int32)) fun v6 => f_X0_besideBits_L4 a0 n v6 v5
def f_X0_besideBits (a0 : Int32) : Option Int32 := Option.bind (f_X0_besideBits_L4 a0 1000 0 0) fun o1 => some o1
abbrev rm_X0_besideBits : Room := ({ frames := 2, cells := 0, slots := 0, locals := 43 })
set_option maxHeartbeats 4000000 in
theorem m_X0_besideBits (l : Launch) (a0 : Int32) (r0 : Int32) (hr : f_X0_besideBits a0 = some r0) : PM l yX0_besideBits cX0_besideBits 4 (some FieldType.int) rm_X0_besideBits [.int a0] (fun _ => True) (some (.int r0)) := by
  refine fw_of (by decide) (Nat.le_of_ble_eq_true rfl) ?_
  intro p e s m below meth c ls hx hb hrt hts hown hlk hml _ _ hl
  have hl : lv_has ls 4 [(0, .int a0)] := hl
  rw [f_X0_besideBits] at hr
  refine lv_iconst (v := 0) hx hb dX0_besideBits_0 rfl ?_
  refine lv_istore_n (lv' := [(1, .int 0), (0, .int a0)]) hx hb dX0_besideBits_1 rfl hl (by decide) rfl (fun ls hl => ?_)
  refine lv_iconst (v := 0) hx hb dX0_besideBits_2 rfl ?_
  refine lv_istore_n (lv' := [(2, .int 0), (1, .int 0), (0, .int a0)]) hx hb dX0_besideBits_3 rfl hl (by decide) rfl (fun ls hl => ?_)
  have L1 : ∀ (n : Nat) (x2_1 : Int32) (x1_1 : Int32) (o1 : Int32), f_X0_besideBits_L4 a0 n x2_1 x1_1 = some o1 → ∀ ls, lv_has ls 4 [(2, .int x2_1), (1, .int x1_1), (0, .int a0)] → (∀ ls, lv_has ls 4 [(1, .int o1)] → WP p l e rm_X0_besideBits s m [.int a0] below meth c (some (.int r0)) 37 ls []) → WP p l e rm_X0_besideBits s m [.int a0] below meth c (some (.int r0)) 4 ls [] := by
    intro n
    induction n with
    | zero => intro x2_1 x1_1 o1 hr; rw [f_X0_besideBits_L4] at hr; cases hr
    | succ n ih =>
      intro x2_1 x1_1 o1 hr ls hl kx
      rw [f_X0_besideBits_L4] at hr
      refine lv_iload_n hx hb dX0_besideBits_4 rfl (lv_at hl 0 rfl) ?_
      refine lv_iconst (v := 4) hx hb dX0_besideBits_5 rfl ?_
      have hi2 := br_ite hr
      refine lv_icmp_ge (tgt := 37) hx hb dX0_besideBits_6 (by decide) (fun c2 => ?_) (fun c2 => ?_)
      · have hr := hi2.1 c2
        obtain rfl := Option.some.inj hr
        exact kx ls (lv_sub hl [1] rfl)
      · have hr := hi2.2 c2
        refine lv_iload_n hx hb dX0_besideBits_9 rfl (lv_at hl 2 rfl) ?_
        refine lv_iload_n hx hb dX0_besideBits_10 rfl (lv_at hl 0 rfl) ?_
        obtain ⟨o3, ho3, hr⟩ := br_bind hr
        refine fwS (As := [.int a0, .int x2_1]) (rest := []) hx hb hml hown hts (m_X0_beside l a0 x2_1 o3 ho3) (cw_X0_beside hts q598 ⟨Nat.le_of_ble_eq_true rfl, Nat.le_of_ble_eq_true rfl⟩) rfl hl.1 rfl (Nat.le_of_ble_eq_true rfl) dX0_besideBits_11 ⟨Nat.zero_le _, Nat.zero_le _⟩ ?_
        refine lv_istore_n (lv' := [(3, .int o3), (2, .int x2_1), (1, .int x1_1), (0, .int a0)]) hx hb dX0_besideBits_14 rfl hl (by decide) rfl (fun ls hl => ?_)
        refine lv_iload_n hx hb dX0_besideBits_15 rfl (lv_at hl 2 rfl) ?_
        refine lv_iload_n hx hb dX0_besideBits_16 rfl (lv_at hl 0 rfl) ?_
        refine lv_bipush (v := (-9)) hx hb dX0_besideBits_17 rfl ?_
        have hi4 := br_ite hr
        refine lv_icmp_ne (tgt := 26) hx hb dX0_besideBits_19 (by decide) (fun c4 => ?_) (fun c4 => ?_)
        · have hr := hi4.2 c4
          refine lv_iconst (v := 1) hx hb dX0_besideBits_26 rfl ?_
          refine lv_iload_n hx hb dX0_besideBits_27 rfl (lv_at hl 0 rfl) ?_
          refine lv_ishl hx hb dX0_besideBits_28 ?_
          refine lv_ior hx hb dX0_besideBits_29 ?_
          refine lv_topi (fun v5 hv5 => ?_)
          have hr := br_letv hr hv5
          refine lv_istore_n (lv' := [(1, .int v5), (3, .int o3), (2, .int x2_1), (0, .int a0)]) hx hb dX0_besideBits_30 rfl hl (by decide) rfl (fun ls hl => ?_)
          obtain ⟨v6, hv6, hr⟩ := br_let hr
          refine lv_iinc (v := v6) (lv' := [(2, .int v6), (1, .int v5), (3, .int o3), (0, .int a0)]) hx hb dX0_besideBits_31 hl (k := 2) rfl (hv6 ▸ rfl) (by decide) rfl (fun ls hl => ?_)
          refine lv_goto (tgt := 4) hx hb dX0_besideBits_34 (by decide) ?_
          exact ih v6 v5 _ hr ls (lv_sub hl [0, 1, 3] rfl) kx
        · have hr := hi4.1 c4
          refine lv_iconst (v := 0) hx hb dX0_besideBits_22 rfl ?_
          refine lv_goto (tgt := 29) hx hb dX0_besideBits_23 (by decide) ?_
          refine lv_ior hx hb dX0_besideBits_29 ?_
          refine lv_topi (fun v7 hv7 => ?_)
          have hr := br_letv hr hv7
          refine lv_istore_n (lv' := [(1, .int v7), (3, .int o3), (2, .int x2_1), (0, .int a0)]) hx hb dX0_besideBits_30 rfl hl (by decide) rfl (fun ls hl => ?_)
          obtain ⟨v8, hv8, hr⟩ := br_let hr
          refine lv_iinc (v := v8) (lv' := [(2, .int v8), (1, .int v7), (3, .int o3), (0, .int a0)]) hx hb dX0_besideBits_31 hl (k := 2) rfl (hv8 ▸ rfl) (by decide) rfl (fun ls hl => ?_)
          refine lv_goto (tgt := 4) hx hb dX0_besideBits_34 (by decide) ?_
          exact ih v8 v7 _ hr ls (lv_sub hl [0, 1, 3] rfl) kx
  obtain ⟨o1, ho1, hr⟩ := br_bind hr
  refine L1 1000 0 0 o1 ho1 ls (lv_sub hl [0, 1, 2] rfl) (fun ls hl => ?_)
  refine lv_iload_n hx hb dX0_besideBits_37 rfl (lv_at hl 0 rfl) ?_
  exact W.iret hx hb hrt (fun t ht _ => ⟨ret_i hr, ht⟩) noB dX0_besideBits_38 hlk
theorem cw_X0_besideBits {R : Room} {s : State} {args : Array Value} {own : String} {index : Nat} (hts : ∀ w ∈ lw_all, w.before args s = true) (hlink : Cond.methodLink own index yX0_besideBits ∈ lw_all) (hR : rm_X0_besideBits.frames + 1 ≤ R.frames ∧ 8 + (4 + 11) + rm_X0_besideBits.locals ≤ R.locals) : CallB R s args own index yX0_besideBits cX0_besideBits 4 (some FieldType.int) (ws_ yX0_besideBits cX0_besideBits 4 (some FieldType.int)) rm_X0_besideBits 0 0 1 ∧ (Cond.static yX0_besideBits).before args s = true :=
  va_cwS 1 hts (lw_S hlink q596 q102 q597) rfl rfl rfl (by decide +kernel) hR
def f_X0_heapOf_L16 (a1 : Int32) (x2_2 : Int32) : Nat → Int32 → Int32 → Option (Int32)
  | 0, _, _ => none
  | n + 1, x5_4, x2_4 => if 25 ≤ x5_4 then some x2_4 else Option.bind (f_X0_has x2_2 x5_4) fun o6 => if o6 = 0 then Option.bind (some ((x2_4 ||| 0) : Int32)) fun v8 => Option.bind (some ((x5_4 + 1) : Int32)) fun v9 => f_X0_heapOf_L16 a1 x2_2 n v9 v8 else Option.bind (f_X0_besideBits x5_4) fun o10 => Option.bind (some ((x2_4 ||| (o10 &&& a1)) : Int32)) fun v11 => Option.bind (some ((x5_4 + 1) : Int32)) fun v12 => f_X0_heapOf_L16 a1 x2_2 n v12 v11
def f_X0_heapOf_L6 (a1 : Int32) : Nat → Int32 → Int32 → Option (Int32)
  | 0, _, _ => none
  | n + 1, x3_2, x2_2 => if x3_2 = 0 then some x2_2 else Option.bind (f_X0_heapOf_L16 a1 x2_2 1000 0 x2_2) fun o4 => if o4 = x2_2 then f_X0_heapOf_L6 a1 n 0 o4 else f_X0_heapOf_L6 a1 n 1 o4
def f_X0_heapOf (a0 : Int32) (a1 : Int32) : Option Int32 := Option.bind (some (((1 : Int32) <<< (a0 &&& 31)) : Int32)) fun v1 => Option.bind (f_X0_heapOf_L6 a1 1000 1 v1) fun o2 => some o2
abbrev rm_X0_heapOf : Room := ({ frames := 3, cells := 0, slots := 0, locals := 66 })
set_option maxHeartbeats 4000000 in
theorem m_X0_heapOf (l : Launch) (a0 : Int32) (a1 : Int32) (r0 : Int32) (hr : f_X0_heapOf a0 a1 = some r0) : PM l yX0_heapOf cX0_heapOf 6 (some FieldType.int) rm_X0_heapOf [.int a0, .int a1] (fun _ => True) (some (.int r0)) := by
  refine fw_of (by decide) (Nat.le_of_ble_eq_true rfl) ?_
  intro p e s m below meth c ls hx hb hrt hts hown hlk hml _ _ hl
  have hl : lv_has ls 6 [(0, .int a0), (1, .int a1)] := hl
  rw [f_X0_heapOf] at hr
  refine lv_iconst (v := 1) hx hb dX0_heapOf_0 rfl ?_
  refine lv_iload_n hx hb dX0_heapOf_1 rfl (lv_at hl 0 rfl) ?_
  refine lv_ishl hx hb dX0_heapOf_2 ?_
  refine lv_topi (fun v1 hv1 => ?_)
  have hr := br_letv hr hv1
  refine lv_istore_n (lv' := [(2, .int v1), (0, .int a0), (1, .int a1)]) hx hb dX0_heapOf_3 rfl hl (by decide) rfl (fun ls hl => ?_)
  refine lv_iconst (v := 1) hx hb dX0_heapOf_4 rfl ?_
  refine lv_istore_n (lv' := [(3, .int 1), (2, .int v1), (0, .int a0), (1, .int a1)]) hx hb dX0_heapOf_5 rfl hl (by decide) rfl (fun ls hl => ?_)
  have L2 : ∀ (n : Nat) (x3_2 : Int32) (x2_2 : Int32) (o2 : Int32), f_X0_heapOf_L6 a1 n x3_2 x2_2 = some o2 → ∀ ls, lv_has ls 6 [(3, .int x3_2), (2, .int x2_2), (1, .int a1)] → (∀ ls, lv_has ls 6 [(2, .int o2)] → WP p l e rm_X0_heapOf s m [.int a0, .int a1] below meth c (some (.int r0)) 68 ls []) → WP p l e rm_X0_heapOf s m [.int a0, .int a1] below meth c (some (.int r0)) 6 ls [] := by
    intro n
    induction n with
    | zero => intro x3_2 x2_2 o2 hr; rw [f_X0_heapOf_L6] at hr; cases hr
    | succ n ih =>
      intro x3_2 x2_2 o2 hr ls hl kx
      rw [f_X0_heapOf_L6] at hr
      refine lv_iload_n hx hb dX0_heapOf_6 rfl (lv_at hl 0 rfl) ?_
      have hi3 := br_ite hr
      refine lv_if_eq (tgt := 68) hx hb dX0_heapOf_7 (by decide) (fun c3 => ?_) (fun c3 => ?_)
      · have hr := hi3.1 c3
        obtain rfl := Option.some.inj hr
        exact kx ls (lv_sub hl [1] rfl)
      · have hr := hi3.2 c3
        refine lv_iload_n hx hb dX0_heapOf_10 rfl (lv_at hl 1 rfl) ?_
        refine lv_istore (lv' := [(4, .int x2_2), (3, .int x3_2), (2, .int x2_2), (1, .int a1)]) hx hb dX0_heapOf_11 hl (by decide) rfl (fun ls hl => ?_)
        refine lv_iconst (v := 0) hx hb dX0_heapOf_13 rfl ?_
        refine lv_istore (lv' := [(5, .int 0), (4, .int x2_2), (3, .int x3_2), (2, .int x2_2), (1, .int a1)]) hx hb dX0_heapOf_14 hl (by decide) rfl (fun ls hl => ?_)
        have L4 : ∀ (n : Nat) (x5_4 : Int32) (x2_4 : Int32) (o4 : Int32), f_X0_heapOf_L16 a1 x2_2 n x5_4 x2_4 = some o4 → ∀ ls, lv_has ls 6 [(5, .int x5_4), (4, .int x2_2), (2, .int x2_4), (1, .int a1)] → (∀ ls, lv_has ls 6 [(4, .int x2_2), (2, .int o4), (1, .int a1)] → WP p l e rm_X0_heapOf s m [.int a0, .int a1] below meth c (some (.int r0)) 53 ls []) → WP p l e rm_X0_heapOf s m [.int a0, .int a1] below meth c (some (.int r0)) 16 ls [] := by
          intro n
          induction n with
          | zero => intro x5_4 x2_4 o4 hr; rw [f_X0_heapOf_L16] at hr; cases hr
          | succ n ih =>
            intro x5_4 x2_4 o4 hr ls hl kx
            rw [f_X0_heapOf_L16] at hr
            refine lv_iload hx hb dX0_heapOf_16 (lv_at hl 0 rfl) ?_
            refine lv_bipush (v := 25) hx hb dX0_heapOf_18 rfl ?_
            have hi5 := br_ite hr
            refine lv_icmp_ge (tgt := 53) hx hb dX0_heapOf_20 (by decide) (fun c5 => ?_) (fun c5 => ?_)
            · have hr := hi5.1 c5
              obtain rfl := Option.some.inj hr
              exact kx ls (lv_sub hl [1, 2, 3] rfl)
            · have hr := hi5.2 c5
              refine lv_iload_n hx hb dX0_heapOf_23 rfl (lv_at hl 2 rfl) ?_
              refine lv_iload hx hb dX0_heapOf_24 (lv_at hl 1 rfl) ?_
              refine lv_iload hx hb dX0_heapOf_26 (lv_at hl 0 rfl) ?_
              obtain ⟨o6, ho6, hr⟩ := br_bind hr
              refine fwS (As := [.int x2_2, .int x5_4]) (rest := [.int x2_4]) hx hb hml hown hts (m_X0_has l x2_2 x5_4 o6 ho6) (cw_X0_has hts q594 ⟨Nat.le_of_ble_eq_true rfl, Nat.le_of_ble_eq_true rfl⟩) rfl hl.1 rfl (Nat.le_of_ble_eq_true rfl) dX0_heapOf_28 ⟨Nat.zero_le _, Nat.zero_le _⟩ ?_
              have hi7 := br_ite hr
              refine lv_if_eq (tgt := 44) hx hb dX0_heapOf_31 (by decide) (fun c7 => ?_) (fun c7 => ?_)
              · have hr := hi7.1 c7
                refine lv_iconst (v := 0) hx hb dX0_heapOf_44 rfl ?_
                refine lv_ior hx hb dX0_heapOf_45 ?_
                refine lv_topi (fun v8 hv8 => ?_)
                have hr := br_letv hr hv8
                refine lv_istore_n (lv' := [(2, .int v8), (5, .int x5_4), (4, .int x2_2), (1, .int a1)]) hx hb dX0_heapOf_46 rfl hl (by decide) rfl (fun ls hl => ?_)
                obtain ⟨v9, hv9, hr⟩ := br_let hr
                refine lv_iinc (v := v9) (lv' := [(5, .int v9), (2, .int v8), (4, .int x2_2), (1, .int a1)]) hx hb dX0_heapOf_47 hl (k := 1) rfl (hv9 ▸ rfl) (by decide) rfl (fun ls hl => ?_)
                refine lv_goto (tgt := 16) hx hb dX0_heapOf_50 (by decide) ?_
                exact ih v9 v8 _ hr ls (lv_sub hl [0, 2, 1, 3] rfl) kx
              · have hr := hi7.2 c7
                refine lv_iload hx hb dX0_heapOf_34 (lv_at hl 0 rfl) ?_
                obtain ⟨o10, ho10, hr⟩ := br_bind hr
                refine fwS (As := [.int x5_4]) (rest := [.int x2_4]) hx hb hml hown hts (m_X0_besideBits l x5_4 o10 ho10) (cw_X0_besideBits hts q595 ⟨Nat.le_of_ble_eq_true rfl, Nat.le_of_ble_eq_true rfl⟩) rfl hl.1 rfl (Nat.le_of_ble_eq_true rfl) dX0_heapOf_36 ⟨Nat.zero_le _, Nat.zero_le _⟩ ?_
                refine lv_iload_n hx hb dX0_heapOf_39 rfl (lv_at hl 3 rfl) ?_
                refine lv_iand hx hb dX0_heapOf_40 ?_
                refine lv_goto (tgt := 45) hx hb dX0_heapOf_41 (by decide) ?_
                refine lv_ior hx hb dX0_heapOf_45 ?_
                refine lv_topi (fun v11 hv11 => ?_)
                have hr := br_letv hr hv11
                refine lv_istore_n (lv' := [(2, .int v11), (5, .int x5_4), (4, .int x2_2), (1, .int a1)]) hx hb dX0_heapOf_46 rfl hl (by decide) rfl (fun ls hl => ?_)
                obtain ⟨v12, hv12, hr⟩ := br_let hr
                refine lv_iinc (v := v12) (lv' := [(5, .int v12), (2, .int v11), (4, .int x2_2), (1, .int a1)]) hx hb dX0_heapOf_47 hl (k := 1) rfl (hv12 ▸ rfl) (by decide) rfl (fun ls hl => ?_)
                refine lv_goto (tgt := 16) hx hb dX0_heapOf_50 (by decide) ?_
                exact ih v12 v11 _ hr ls (lv_sub hl [0, 2, 1, 3] rfl) kx
        obtain ⟨o4, ho4, hr⟩ := br_bind hr
        refine L4 1000 0 x2_2 o4 ho4 ls (lv_sub hl [0, 1, 3, 4] rfl) (fun ls hl => ?_)
        refine lv_iload_n hx hb dX0_heapOf_53 rfl (lv_at hl 1 rfl) ?_
        refine lv_iload hx hb dX0_heapOf_54 (lv_at hl 0 rfl) ?_
        have hi13 := br_ite hr
        refine lv_icmp_eq (tgt := 63) hx hb dX0_heapOf_56 (by decide) (fun c13 => ?_) (fun c13 => ?_)
        · have hr := hi13.1 c13
          refine lv_iconst (v := 0) hx hb dX0_heapOf_63 rfl ?_
          refine lv_istore_n (lv' := [(3, .int 0), (4, .int x2_2), (2, .int o4), (1, .int a1)]) hx hb dX0_heapOf_64 rfl hl (by decide) rfl (fun ls hl => ?_)
          refine lv_goto (tgt := 6) hx hb dX0_heapOf_65 (by decide) ?_
          exact ih 0 o4 _ hr ls (lv_sub hl [0, 2, 3] rfl) kx
        · have hr := hi13.2 c13
          refine lv_iconst (v := 1) hx hb dX0_heapOf_59 rfl ?_
          refine lv_goto (tgt := 64) hx hb dX0_heapOf_60 (by decide) ?_
          refine lv_istore_n (lv' := [(3, .int 1), (4, .int x2_2), (2, .int o4), (1, .int a1)]) hx hb dX0_heapOf_64 rfl hl (by decide) rfl (fun ls hl => ?_)
          refine lv_goto (tgt := 6) hx hb dX0_heapOf_65 (by decide) ?_
          exact ih 1 o4 _ hr ls (lv_sub hl [0, 2, 3] rfl) kx
  obtain ⟨o2, ho2, hr⟩ := br_bind hr
  refine L2 1000 1 v1 o2 ho2 ls (lv_sub hl [0, 1, 3] rfl) (fun ls hl => ?_)
  refine lv_iload_n hx hb dX0_heapOf_68 rfl (lv_at hl 0 rfl) ?_
  exact W.iret hx hb hrt (fun t ht _ => ⟨ret_i hr, ht⟩) noB dX0_heapOf_69 hlk
theorem cw_X0_heapOf {R : Room} {s : State} {args : Array Value} {own : String} {index : Nat} (hts : ∀ w ∈ lw_all, w.before args s = true) (hlink : Cond.methodLink own index yX0_heapOf ∈ lw_all) (hR : rm_X0_heapOf.frames + 1 ≤ R.frames ∧ 8 + (6 + 11) + rm_X0_heapOf.locals ≤ R.locals) : CallB R s args own index yX0_heapOf cX0_heapOf 6 (some FieldType.int) (ws_ yX0_heapOf cX0_heapOf 6 (some FieldType.int)) rm_X0_heapOf 0 0 2 ∧ (Cond.static yX0_heapOf).before args s = true :=
  va_cwS 2 hts (lw_S hlink q592 q102 q593) rfl rfl rfl (by decide +kernel) hR
theorem cwn_X0_heapOf {R : Room} {s : State} {args : Array Value} {own host : String} {index : Nat} (hts : ∀ w ∈ lw_all, w.before args s = true) (hlink : va_Nw (.methodLinkNest own index yX0_heapOf host) s) (hR : rm_X0_heapOf.frames + 1 ≤ R.frames ∧ 8 + (6 + 11) + rm_X0_heapOf.locals ≤ R.locals) : va_CN R s args own index yX0_heapOf host cX0_heapOf 6 (some FieldType.int) (ws_ yX0_heapOf cX0_heapOf 6 (some FieldType.int)) rm_X0_heapOf rm_X0_heapOf.cells rm_X0_heapOf.slots 2 ∧ (Cond.static yX0_heapOf).before args s = true ∧ True :=
  ⟨va_cnB 2 hts (lw_meth q593) rfl rfl rfl hlink (hts _ q102) (by decide +kernel) hR, hts _ q592, trivial⟩
def f_X0_cellsOf (a0 : Int32) (a1 : Int32) : Option Int32 := Option.bind (α := Int32) (if a0 = 1 then some 1 else if a0 = 3 then some 1 else some 0) fun o2 => Option.bind (α := Int32) (if a0 = 2 then some 1 else if a0 = 3 then some 1 else some 0) fun o5 => if o2 = 0 then if o5 = 0 then Option.bind (α := Int32) (if o2 = 0 then some 0 else some ((1 : Int32) <<< ((a1 + 1) &&& 31))) fun o10 => Option.bind (α := Int32) (if o5 = 0 then some 0 else some ((1 : Int32) <<< ((a1 + 5) &&& 31))) fun o12 => Option.bind (some (((((1 : Int32) <<< (a1 &&& 31)) ||| o10) ||| o12) : Int32)) fun v13 => if a0 = 3 then some (v13 ||| ((1 : Int32) <<< (((a1 + 5) + 1) &&& 31))) else some v13 else if (a1 / 5) = 4 then some 0 else Option.bind (α := Int32) (if o2 = 0 then some 0 else some ((1 : Int32) <<< ((a1 + 1) &&& 31))) fun o17 => Option.bind (α := Int32) (if o5 = 0 then some 0 else some ((1 : Int32) <<< ((a1 + 5) &&& 31))) fun o19 => Option.bind (some (((((1 : Int32) <<< (a1 &&& 31)) ||| o17) ||| o19) : Int32)) fun v20 => if a0 = 3 then some (v20 ||| ((1 : Int32) <<< (((a1 + 5) + 1) &&& 31))) else some v20 else if (a1 - a1 / 5 * 5) = 4 then some 0 else if o5 = 0 then Option.bind (α := Int32) (if o2 = 0 then some 0 else some ((1 : Int32) <<< ((a1 + 1) &&& 31))) fun o25 => Option.bind (α := Int32) (if o5 = 0 then some 0 else some ((1 : Int32) <<< ((a1 + 5) &&& 31))) fun o27 => Option.bind (some (((((1 : Int32) <<< (a1 &&& 31)) ||| o25) ||| o27) : Int32)) fun v28 => if a0 = 3 then some (v28 ||| ((1 : Int32) <<< (((a1 + 5) + 1) &&& 31))) else some v28 else if (a1 / 5) = 4 then some 0 else Option.bind (α := Int32) (if o2 = 0 then some 0 else some ((1 : Int32) <<< ((a1 + 1) &&& 31))) fun o32 => Option.bind (α := Int32) (if o5 = 0 then some 0 else some ((1 : Int32) <<< ((a1 + 5) &&& 31))) fun o34 => Option.bind (some (((((1 : Int32) <<< (a1 &&& 31)) ||| o32) ||| o34) : Int32)) fun v35 => if a0 = 3 then some (v35 ||| ((1 : Int32) <<< (((a1 + 5) + 1) &&& 31))) else some v35
abbrev rm_X0_cellsOf : Room := ({ frames := 1, cells := 0, slots := 0, locals := 21 })
set_option maxHeartbeats 4000000 in
theorem m_X0_cellsOf (l : Launch) (a0 : Int32) (a1 : Int32) (r0 : Int32) (hr : f_X0_cellsOf a0 a1 = some r0) : PM l yX0_cellsOf cX0_cellsOf 5 (some FieldType.int) rm_X0_cellsOf [.int a0, .int a1] (fun _ => True) (some (.int r0)) := by
  refine fw_of (by decide) (Nat.le_of_ble_eq_true rfl) ?_
  intro p e s m below meth c ls hx hb hrt hts hown hlk hml _ _ hl
  have hl : lv_has ls 5 [(0, .int a0), (1, .int a1)] := hl
  rw [f_X0_cellsOf] at hr
  refine lv_iload_n hx hb dX0_cellsOf_0 rfl (lv_at hl 0 rfl) ?_
  refine lv_iconst (v := 1) hx hb dX0_cellsOf_1 rfl ?_
  obtain ⟨o2, ho2, hr⟩ := br_bind hr
  have J2 : ∀ ls, lv_has ls 5 [(0, .int a0), (1, .int a1)] → WP p l e rm_X0_cellsOf s m [.int a0, .int a1] below meth c (some (.int r0)) 15 ls [.int o2] := by
    intro ls hl
    refine lv_istore_n (lv' := [(2, .int o2), (0, .int a0), (1, .int a1)]) hx hb dX0_cellsOf_15 rfl hl (by decide) rfl (fun ls hl => ?_)
    refine lv_iload_n hx hb dX0_cellsOf_16 rfl (lv_at hl 1 rfl) ?_
    refine lv_iconst (v := 2) hx hb dX0_cellsOf_17 rfl ?_
    obtain ⟨o5, ho5, hr⟩ := br_bind hr
    have J5 : ∀ ls, lv_has ls 5 [(2, .int o2), (0, .int a0), (1, .int a1)] → WP p l e rm_X0_cellsOf s m [.int a0, .int a1] below meth c (some (.int r0)) 31 ls [.int o5] := by
      intro ls hl
      refine lv_istore_n (lv' := [(3, .int o5), (2, .int o2), (0, .int a0), (1, .int a1)]) hx hb dX0_cellsOf_31 rfl hl (by decide) rfl (fun ls hl => ?_)
      refine lv_iload_n hx hb dX0_cellsOf_32 rfl (lv_at hl 1 rfl) ?_
      have hi7 := br_ite hr
      refine lv_if_eq (tgt := 43) hx hb dX0_cellsOf_33 (by decide) (fun c7 => ?_) (fun c7 => ?_)
      · have hr := hi7.1 c7
        refine lv_iload_n hx hb dX0_cellsOf_43 rfl (lv_at hl 0 rfl) ?_
        have hi8 := br_ite hr
        refine lv_if_eq (tgt := 56) hx hb dX0_cellsOf_44 (by decide) (fun c8 => ?_) (fun c8 => ?_)
        · have hr := hi8.1 c8
          refine lv_iconst (v := 1) hx hb dX0_cellsOf_56 rfl ?_
          refine lv_iload_n hx hb dX0_cellsOf_57 rfl (lv_at hl 3 rfl) ?_
          refine lv_ishl hx hb dX0_cellsOf_58 ?_
          refine lv_iload_n hx hb dX0_cellsOf_59 rfl (lv_at hl 1 rfl) ?_
          obtain ⟨o10, ho10, hr⟩ := br_bind hr
          have J10 : ∀ ls, lv_has ls 5 [(3, .int o5), (0, .int a0), (1, .int a1)] → WP p l e rm_X0_cellsOf s m [.int a0, .int a1] below meth c (some (.int r0)) 72 ls [.int o10, .int ((1 : Int32) <<< (a1 &&& 31))] := by
            intro ls hl
            refine lv_ior hx hb dX0_cellsOf_72 ?_
            refine lv_iload_n hx hb dX0_cellsOf_73 rfl (lv_at hl 0 rfl) ?_
            obtain ⟨o12, ho12, hr⟩ := br_bind hr
            have J12 : ∀ ls, lv_has ls 5 [(0, .int a0), (1, .int a1)] → WP p l e rm_X0_cellsOf s m [.int a0, .int a1] below meth c (some (.int r0)) 86 ls [.int o12, .int (((1 : Int32) <<< (a1 &&& 31)) ||| o10)] := by
              intro ls hl
              refine lv_ior hx hb dX0_cellsOf_86 ?_
              refine lv_topi (fun v13 hv13 => ?_)
              have hr := br_letv hr hv13
              refine lv_istore (lv' := [(4, .int v13), (0, .int a0), (1, .int a1)]) hx hb dX0_cellsOf_87 hl (by decide) rfl (fun ls hl => ?_)
              refine lv_iload_n hx hb dX0_cellsOf_89 rfl (lv_at hl 1 rfl) ?_
              refine lv_iconst (v := 3) hx hb dX0_cellsOf_90 rfl ?_
              have hi14 := br_ite hr
              refine lv_icmp_ne (tgt := 107) hx hb dX0_cellsOf_91 (by decide) (fun c14 => ?_) (fun c14 => ?_)
              · have hr := hi14.2 c14
                refine lv_iload hx hb dX0_cellsOf_107 (lv_at hl 0 rfl) ?_
                exact W.iret hx hb hrt (fun t ht _ => ⟨ret_i hr, ht⟩) noB dX0_cellsOf_109 hlk
              · have hr := hi14.1 c14
                refine lv_iload hx hb dX0_cellsOf_94 (lv_at hl 0 rfl) ?_
                refine lv_iconst (v := 1) hx hb dX0_cellsOf_96 rfl ?_
                refine lv_iload_n hx hb dX0_cellsOf_97 rfl (lv_at hl 2 rfl) ?_
                refine lv_iconst (v := 5) hx hb dX0_cellsOf_98 rfl ?_
                refine lv_iadd hx hb dX0_cellsOf_99 ?_
                refine lv_iconst (v := 1) hx hb dX0_cellsOf_100 rfl ?_
                refine lv_iadd hx hb dX0_cellsOf_101 ?_
                refine lv_ishl hx hb dX0_cellsOf_102 ?_
                refine lv_ior hx hb dX0_cellsOf_103 ?_
                refine lv_goto (tgt := 109) hx hb dX0_cellsOf_104 (by decide) ?_
                exact W.iret hx hb hrt (fun t ht _ => ⟨ret_i hr, ht⟩) noB dX0_cellsOf_109 hlk
            have hr := ho12
            have hi11 := br_ite hr
            refine lv_if_eq (tgt := 85) hx hb dX0_cellsOf_74 (by decide) (fun c11 => ?_) (fun c11 => ?_)
            · have hr := hi11.1 c11
              refine lv_iconst (v := 0) hx hb dX0_cellsOf_85 rfl ?_
              obtain rfl := Option.some.inj hr
              exact J12 ls (lv_sub hl [1, 2] rfl)
            · have hr := hi11.2 c11
              refine lv_iconst (v := 1) hx hb dX0_cellsOf_77 rfl ?_
              refine lv_iload_n hx hb dX0_cellsOf_78 rfl (lv_at hl 2 rfl) ?_
              refine lv_iconst (v := 5) hx hb dX0_cellsOf_79 rfl ?_
              refine lv_iadd hx hb dX0_cellsOf_80 ?_
              refine lv_ishl hx hb dX0_cellsOf_81 ?_
              refine lv_goto (tgt := 86) hx hb dX0_cellsOf_82 (by decide) ?_
              obtain rfl := Option.some.inj hr
              exact J12 ls (lv_sub hl [1, 2] rfl)
          have hr := ho10
          have hi9 := br_ite hr
          refine lv_if_eq (tgt := 71) hx hb dX0_cellsOf_60 (by decide) (fun c9 => ?_) (fun c9 => ?_)
          · have hr := hi9.1 c9
            refine lv_iconst (v := 0) hx hb dX0_cellsOf_71 rfl ?_
            obtain rfl := Option.some.inj hr
            exact J10 ls (lv_sub hl [0, 2, 3] rfl)
          · have hr := hi9.2 c9
            refine lv_iconst (v := 1) hx hb dX0_cellsOf_63 rfl ?_
            refine lv_iload_n hx hb dX0_cellsOf_64 rfl (lv_at hl 3 rfl) ?_
            refine lv_iconst (v := 1) hx hb dX0_cellsOf_65 rfl ?_
            refine lv_iadd hx hb dX0_cellsOf_66 ?_
            refine lv_ishl hx hb dX0_cellsOf_67 ?_
            refine lv_goto (tgt := 72) hx hb dX0_cellsOf_68 (by decide) ?_
            obtain rfl := Option.some.inj hr
            exact J10 ls (lv_sub hl [0, 2, 3] rfl)
        · have hr := hi8.2 c8
          refine lv_iload_n hx hb dX0_cellsOf_47 rfl (lv_at hl 3 rfl) ?_
          refine lv_iconst (v := 5) hx hb dX0_cellsOf_48 rfl ?_
          refine lv_idiv hx hb dX0_cellsOf_49 (by decide) ?_
          refine lv_iconst (v := 4) hx hb dX0_cellsOf_50 rfl ?_
          have hi15 := br_ite hr
          refine lv_icmp_ne (tgt := 56) hx hb dX0_cellsOf_51 (by decide) (fun c15 => ?_) (fun c15 => ?_)
          · have hr := hi15.2 c15
            refine lv_iconst (v := 1) hx hb dX0_cellsOf_56 rfl ?_
            refine lv_iload_n hx hb dX0_cellsOf_57 rfl (lv_at hl 3 rfl) ?_
            refine lv_ishl hx hb dX0_cellsOf_58 ?_
            refine lv_iload_n hx hb dX0_cellsOf_59 rfl (lv_at hl 1 rfl) ?_
            obtain ⟨o17, ho17, hr⟩ := br_bind hr
            have J17 : ∀ ls, lv_has ls 5 [(3, .int o5), (0, .int a0), (1, .int a1)] → WP p l e rm_X0_cellsOf s m [.int a0, .int a1] below meth c (some (.int r0)) 72 ls [.int o17, .int ((1 : Int32) <<< (a1 &&& 31))] := by
              intro ls hl
              refine lv_ior hx hb dX0_cellsOf_72 ?_
              refine lv_iload_n hx hb dX0_cellsOf_73 rfl (lv_at hl 0 rfl) ?_
              obtain ⟨o19, ho19, hr⟩ := br_bind hr
              have J19 : ∀ ls, lv_has ls 5 [(0, .int a0), (1, .int a1)] → WP p l e rm_X0_cellsOf s m [.int a0, .int a1] below meth c (some (.int r0)) 86 ls [.int o19, .int (((1 : Int32) <<< (a1 &&& 31)) ||| o17)] := by
                intro ls hl
                refine lv_ior hx hb dX0_cellsOf_86 ?_
                refine lv_topi (fun v20 hv20 => ?_)
                have hr := br_letv hr hv20
                refine lv_istore (lv' := [(4, .int v20), (0, .int a0), (1, .int a1)]) hx hb dX0_cellsOf_87 hl (by decide) rfl (fun ls hl => ?_)
                refine lv_iload_n hx hb dX0_cellsOf_89 rfl (lv_at hl 1 rfl) ?_
                refine lv_iconst (v := 3) hx hb dX0_cellsOf_90 rfl ?_
                have hi21 := br_ite hr
                refine lv_icmp_ne (tgt := 107) hx hb dX0_cellsOf_91 (by decide) (fun c21 => ?_) (fun c21 => ?_)
                · have hr := hi21.2 c21
                  refine lv_iload hx hb dX0_cellsOf_107 (lv_at hl 0 rfl) ?_
                  exact W.iret hx hb hrt (fun t ht _ => ⟨ret_i hr, ht⟩) noB dX0_cellsOf_109 hlk
                · have hr := hi21.1 c21
                  refine lv_iload hx hb dX0_cellsOf_94 (lv_at hl 0 rfl) ?_
                  refine lv_iconst (v := 1) hx hb dX0_cellsOf_96 rfl ?_
                  refine lv_iload_n hx hb dX0_cellsOf_97 rfl (lv_at hl 2 rfl) ?_
                  refine lv_iconst (v := 5) hx hb dX0_cellsOf_98 rfl ?_
                  refine lv_iadd hx hb dX0_cellsOf_99 ?_
                  refine lv_iconst (v := 1) hx hb dX0_cellsOf_100 rfl ?_
                  refine lv_iadd hx hb dX0_cellsOf_101 ?_
                  refine lv_ishl hx hb dX0_cellsOf_102 ?_
                  refine lv_ior hx hb dX0_cellsOf_103 ?_
                  refine lv_goto (tgt := 109) hx hb dX0_cellsOf_104 (by decide) ?_
                  exact W.iret hx hb hrt (fun t ht _ => ⟨ret_i hr, ht⟩) noB dX0_cellsOf_109 hlk
              have hr := ho19
              have hi18 := br_ite hr
              refine lv_if_eq (tgt := 85) hx hb dX0_cellsOf_74 (by decide) (fun c18 => ?_) (fun c18 => ?_)
              · have hr := hi18.1 c18
                refine lv_iconst (v := 0) hx hb dX0_cellsOf_85 rfl ?_
                obtain rfl := Option.some.inj hr
                exact J19 ls (lv_sub hl [1, 2] rfl)
              · have hr := hi18.2 c18
                refine lv_iconst (v := 1) hx hb dX0_cellsOf_77 rfl ?_
                refine lv_iload_n hx hb dX0_cellsOf_78 rfl (lv_at hl 2 rfl) ?_
                refine lv_iconst (v := 5) hx hb dX0_cellsOf_79 rfl ?_
                refine lv_iadd hx hb dX0_cellsOf_80 ?_
                refine lv_ishl hx hb dX0_cellsOf_81 ?_
                refine lv_goto (tgt := 86) hx hb dX0_cellsOf_82 (by decide) ?_
                obtain rfl := Option.some.inj hr
                exact J19 ls (lv_sub hl [1, 2] rfl)
            have hr := ho17
            have hi16 := br_ite hr
            refine lv_if_eq (tgt := 71) hx hb dX0_cellsOf_60 (by decide) (fun c16 => ?_) (fun c16 => ?_)
            · have hr := hi16.1 c16
              refine lv_iconst (v := 0) hx hb dX0_cellsOf_71 rfl ?_
              obtain rfl := Option.some.inj hr
              exact J17 ls (lv_sub hl [0, 2, 3] rfl)
            · have hr := hi16.2 c16
              refine lv_iconst (v := 1) hx hb dX0_cellsOf_63 rfl ?_
              refine lv_iload_n hx hb dX0_cellsOf_64 rfl (lv_at hl 3 rfl) ?_
              refine lv_iconst (v := 1) hx hb dX0_cellsOf_65 rfl ?_
              refine lv_iadd hx hb dX0_cellsOf_66 ?_
              refine lv_ishl hx hb dX0_cellsOf_67 ?_
              refine lv_goto (tgt := 72) hx hb dX0_cellsOf_68 (by decide) ?_
              obtain rfl := Option.some.inj hr
              exact J17 ls (lv_sub hl [0, 2, 3] rfl)
          · have hr := hi15.1 c15
            refine lv_iconst (v := 0) hx hb dX0_cellsOf_54 rfl ?_
            exact W.iret hx hb hrt (fun t ht _ => ⟨ret_i hr, ht⟩) noB dX0_cellsOf_55 hlk
      · have hr := hi7.2 c7
        refine lv_iload_n hx hb dX0_cellsOf_36 rfl (lv_at hl 3 rfl) ?_
        refine lv_iconst (v := 5) hx hb dX0_cellsOf_37 rfl ?_
        refine lv_irem hx hb dX0_cellsOf_38 (by decide) ?_
        refine lv_iconst (v := 4) hx hb dX0_cellsOf_39 rfl ?_
        have hi22 := br_ite hr
        refine lv_icmp_eq (tgt := 54) hx hb dX0_cellsOf_40 (by decide) (fun c22 => ?_) (fun c22 => ?_)
        · have hr := hi22.1 c22
          refine lv_iconst (v := 0) hx hb dX0_cellsOf_54 rfl ?_
          exact W.iret hx hb hrt (fun t ht _ => ⟨ret_i hr, ht⟩) noB dX0_cellsOf_55 hlk
        · have hr := hi22.2 c22
          refine lv_iload_n hx hb dX0_cellsOf_43 rfl (lv_at hl 0 rfl) ?_
          have hi23 := br_ite hr
          refine lv_if_eq (tgt := 56) hx hb dX0_cellsOf_44 (by decide) (fun c23 => ?_) (fun c23 => ?_)
          · have hr := hi23.1 c23
            refine lv_iconst (v := 1) hx hb dX0_cellsOf_56 rfl ?_
            refine lv_iload_n hx hb dX0_cellsOf_57 rfl (lv_at hl 3 rfl) ?_
            refine lv_ishl hx hb dX0_cellsOf_58 ?_
            refine lv_iload_n hx hb dX0_cellsOf_59 rfl (lv_at hl 1 rfl) ?_
            obtain ⟨o25, ho25, hr⟩ := br_bind hr
            have J25 : ∀ ls, lv_has ls 5 [(3, .int o5), (0, .int a0), (1, .int a1)] → WP p l e rm_X0_cellsOf s m [.int a0, .int a1] below meth c (some (.int r0)) 72 ls [.int o25, .int ((1 : Int32) <<< (a1 &&& 31))] := by
              intro ls hl
              refine lv_ior hx hb dX0_cellsOf_72 ?_
              refine lv_iload_n hx hb dX0_cellsOf_73 rfl (lv_at hl 0 rfl) ?_
              obtain ⟨o27, ho27, hr⟩ := br_bind hr
              have J27 : ∀ ls, lv_has ls 5 [(0, .int a0), (1, .int a1)] → WP p l e rm_X0_cellsOf s m [.int a0, .int a1] below meth c (some (.int r0)) 86 ls [.int o27, .int (((1 : Int32) <<< (a1 &&& 31)) ||| o25)] := by
                intro ls hl
                refine lv_ior hx hb dX0_cellsOf_86 ?_
                refine lv_topi (fun v28 hv28 => ?_)
                have hr := br_letv hr hv28
                refine lv_istore (lv' := [(4, .int v28), (0, .int a0), (1, .int a1)]) hx hb dX0_cellsOf_87 hl (by decide) rfl (fun ls hl => ?_)
                refine lv_iload_n hx hb dX0_cellsOf_89 rfl (lv_at hl 1 rfl) ?_
                refine lv_iconst (v := 3) hx hb dX0_cellsOf_90 rfl ?_
                have hi29 := br_ite hr
                refine lv_icmp_ne (tgt := 107) hx hb dX0_cellsOf_91 (by decide) (fun c29 => ?_) (fun c29 => ?_)
                · have hr := hi29.2 c29
                  refine lv_iload hx hb dX0_cellsOf_107 (lv_at hl 0 rfl) ?_
                  exact W.iret hx hb hrt (fun t ht _ => ⟨ret_i hr, ht⟩) noB dX0_cellsOf_109 hlk
                · have hr := hi29.1 c29
                  refine lv_iload hx hb dX0_cellsOf_94 (lv_at hl 0 rfl) ?_
                  refine lv_iconst (v := 1) hx hb dX0_cellsOf_96 rfl ?_
                  refine lv_iload_n hx hb dX0_cellsOf_97 rfl (lv_at hl 2 rfl) ?_
                  refine lv_iconst (v := 5) hx hb dX0_cellsOf_98 rfl ?_
                  refine lv_iadd hx hb dX0_cellsOf_99 ?_
                  refine lv_iconst (v := 1) hx hb dX0_cellsOf_100 rfl ?_
                  refine lv_iadd hx hb dX0_cellsOf_101 ?_
                  refine lv_ishl hx hb dX0_cellsOf_102 ?_
                  refine lv_ior hx hb dX0_cellsOf_103 ?_
                  refine lv_goto (tgt := 109) hx hb dX0_cellsOf_104 (by decide) ?_
                  exact W.iret hx hb hrt (fun t ht _ => ⟨ret_i hr, ht⟩) noB dX0_cellsOf_109 hlk
              have hr := ho27
              have hi26 := br_ite hr
              refine lv_if_eq (tgt := 85) hx hb dX0_cellsOf_74 (by decide) (fun c26 => ?_) (fun c26 => ?_)
              · have hr := hi26.1 c26
                refine lv_iconst (v := 0) hx hb dX0_cellsOf_85 rfl ?_
                obtain rfl := Option.some.inj hr
                exact J27 ls (lv_sub hl [1, 2] rfl)
              · have hr := hi26.2 c26
                refine lv_iconst (v := 1) hx hb dX0_cellsOf_77 rfl ?_
                refine lv_iload_n hx hb dX0_cellsOf_78 rfl (lv_at hl 2 rfl) ?_
                refine lv_iconst (v := 5) hx hb dX0_cellsOf_79 rfl ?_
                refine lv_iadd hx hb dX0_cellsOf_80 ?_
                refine lv_ishl hx hb dX0_cellsOf_81 ?_
                refine lv_goto (tgt := 86) hx hb dX0_cellsOf_82 (by decide) ?_
                obtain rfl := Option.some.inj hr
                exact J27 ls (lv_sub hl [1, 2] rfl)
            have hr := ho25
            have hi24 := br_ite hr
            refine lv_if_eq (tgt := 71) hx hb dX0_cellsOf_60 (by decide) (fun c24 => ?_) (fun c24 => ?_)
            · have hr := hi24.1 c24
              refine lv_iconst (v := 0) hx hb dX0_cellsOf_71 rfl ?_
              obtain rfl := Option.some.inj hr
              exact J25 ls (lv_sub hl [0, 2, 3] rfl)
            · have hr := hi24.2 c24
              refine lv_iconst (v := 1) hx hb dX0_cellsOf_63 rfl ?_
              refine lv_iload_n hx hb dX0_cellsOf_64 rfl (lv_at hl 3 rfl) ?_
              refine lv_iconst (v := 1) hx hb dX0_cellsOf_65 rfl ?_
              refine lv_iadd hx hb dX0_cellsOf_66 ?_
              refine lv_ishl hx hb dX0_cellsOf_67 ?_
              refine lv_goto (tgt := 72) hx hb dX0_cellsOf_68 (by decide) ?_
              obtain rfl := Option.some.inj hr
              exact J25 ls (lv_sub hl [0, 2, 3] rfl)
          · have hr := hi23.2 c23
            refine lv_iload_n hx hb dX0_cellsOf_47 rfl (lv_at hl 3 rfl) ?_
            refine lv_iconst (v := 5) hx hb dX0_cellsOf_48 rfl ?_
            refine lv_idiv hx hb dX0_cellsOf_49 (by decide) ?_
            refine lv_iconst (v := 4) hx hb dX0_cellsOf_50 rfl ?_
            have hi30 := br_ite hr
            refine lv_icmp_ne (tgt := 56) hx hb dX0_cellsOf_51 (by decide) (fun c30 => ?_) (fun c30 => ?_)
            · have hr := hi30.2 c30
              refine lv_iconst (v := 1) hx hb dX0_cellsOf_56 rfl ?_
              refine lv_iload_n hx hb dX0_cellsOf_57 rfl (lv_at hl 3 rfl) ?_
              refine lv_ishl hx hb dX0_cellsOf_58 ?_
              refine lv_iload_n hx hb dX0_cellsOf_59 rfl (lv_at hl 1 rfl) ?_
              obtain ⟨o32, ho32, hr⟩ := br_bind hr
              have J32 : ∀ ls, lv_has ls 5 [(3, .int o5), (0, .int a0), (1, .int a1)] → WP p l e rm_X0_cellsOf s m [.int a0, .int a1] below meth c (some (.int r0)) 72 ls [.int o32, .int ((1 : Int32) <<< (a1 &&& 31))] := by
                intro ls hl
                refine lv_ior hx hb dX0_cellsOf_72 ?_
                refine lv_iload_n hx hb dX0_cellsOf_73 rfl (lv_at hl 0 rfl) ?_
                obtain ⟨o34, ho34, hr⟩ := br_bind hr
                have J34 : ∀ ls, lv_has ls 5 [(0, .int a0), (1, .int a1)] → WP p l e rm_X0_cellsOf s m [.int a0, .int a1] below meth c (some (.int r0)) 86 ls [.int o34, .int (((1 : Int32) <<< (a1 &&& 31)) ||| o32)] := by
                  intro ls hl
                  refine lv_ior hx hb dX0_cellsOf_86 ?_
                  refine lv_topi (fun v35 hv35 => ?_)
                  have hr := br_letv hr hv35
                  refine lv_istore (lv' := [(4, .int v35), (0, .int a0), (1, .int a1)]) hx hb dX0_cellsOf_87 hl (by decide) rfl (fun ls hl => ?_)
                  refine lv_iload_n hx hb dX0_cellsOf_89 rfl (lv_at hl 1 rfl) ?_
                  refine lv_iconst (v := 3) hx hb dX0_cellsOf_90 rfl ?_
                  have hi36 := br_ite hr
                  refine lv_icmp_ne (tgt := 107) hx hb dX0_cellsOf_91 (by decide) (fun c36 => ?_) (fun c36 => ?_)
                  · have hr := hi36.2 c36
                    refine lv_iload hx hb dX0_cellsOf_107 (lv_at hl 0 rfl) ?_
                    exact W.iret hx hb hrt (fun t ht _ => ⟨ret_i hr, ht⟩) noB dX0_cellsOf_109 hlk
                  · have hr := hi36.1 c36
                    refine lv_iload hx hb dX0_cellsOf_94 (lv_at hl 0 rfl) ?_
                    refine lv_iconst (v := 1) hx hb dX0_cellsOf_96 rfl ?_
                    refine lv_iload_n hx hb dX0_cellsOf_97 rfl (lv_at hl 2 rfl) ?_
                    refine lv_iconst (v := 5) hx hb dX0_cellsOf_98 rfl ?_
                    refine lv_iadd hx hb dX0_cellsOf_99 ?_
                    refine lv_iconst (v := 1) hx hb dX0_cellsOf_100 rfl ?_
                    refine lv_iadd hx hb dX0_cellsOf_101 ?_
                    refine lv_ishl hx hb dX0_cellsOf_102 ?_
                    refine lv_ior hx hb dX0_cellsOf_103 ?_
                    refine lv_goto (tgt := 109) hx hb dX0_cellsOf_104 (by decide) ?_
                    exact W.iret hx hb hrt (fun t ht _ => ⟨ret_i hr, ht⟩) noB dX0_cellsOf_109 hlk
                have hr := ho34
                have hi33 := br_ite hr
                refine lv_if_eq (tgt := 85) hx hb dX0_cellsOf_74 (by decide) (fun c33 => ?_) (fun c33 => ?_)
                · have hr := hi33.1 c33
                  refine lv_iconst (v := 0) hx hb dX0_cellsOf_85 rfl ?_
                  obtain rfl := Option.some.inj hr
                  exact J34 ls (lv_sub hl [1, 2] rfl)
                · have hr := hi33.2 c33
                  refine lv_iconst (v := 1) hx hb dX0_cellsOf_77 rfl ?_
                  refine lv_iload_n hx hb dX0_cellsOf_78 rfl (lv_at hl 2 rfl) ?_
                  refine lv_iconst (v := 5) hx hb dX0_cellsOf_79 rfl ?_
                  refine lv_iadd hx hb dX0_cellsOf_80 ?_
                  refine lv_ishl hx hb dX0_cellsOf_81 ?_
                  refine lv_goto (tgt := 86) hx hb dX0_cellsOf_82 (by decide) ?_
                  obtain rfl := Option.some.inj hr
                  exact J34 ls (lv_sub hl [1, 2] rfl)
              have hr := ho32
              have hi31 := br_ite hr
              refine lv_if_eq (tgt := 71) hx hb dX0_cellsOf_60 (by decide) (fun c31 => ?_) (fun c31 => ?_)
              · have hr := hi31.1 c31
                refine lv_iconst (v := 0) hx hb dX0_cellsOf_71 rfl ?_
                obtain rfl := Option.some.inj hr
                exact J32 ls (lv_sub hl [0, 2, 3] rfl)
              · have hr := hi31.2 c31
                refine lv_iconst (v := 1) hx hb dX0_cellsOf_63 rfl ?_
                refine lv_iload_n hx hb dX0_cellsOf_64 rfl (lv_at hl 3 rfl) ?_
                refine lv_iconst (v := 1) hx hb dX0_cellsOf_65 rfl ?_
                refine lv_iadd hx hb dX0_cellsOf_66 ?_
                refine lv_ishl hx hb dX0_cellsOf_67 ?_
                refine lv_goto (tgt := 72) hx hb dX0_cellsOf_68 (by decide) ?_
                obtain rfl := Option.some.inj hr
                exact J32 ls (lv_sub hl [0, 2, 3] rfl)
            · have hr := hi30.1 c30
              refine lv_iconst (v := 0) hx hb dX0_cellsOf_54 rfl ?_
              exact W.iret hx hb hrt (fun t ht _ => ⟨ret_i hr, ht⟩) noB dX0_cellsOf_55 hlk
    have hr := ho5
    have hi4 := br_ite hr
    refine lv_icmp_eq (tgt := 26) hx hb dX0_cellsOf_18 (by decide) (fun c4 => ?_) (fun c4 => ?_)
    · have hr := hi4.1 c4
      refine lv_iconst (v := 1) hx hb dX0_cellsOf_26 rfl ?_
      refine lv_goto (tgt := 31) hx hb dX0_cellsOf_27 (by decide) ?_
      obtain rfl := Option.some.inj hr
      exact J5 ls (lv_sub hl [0, 1, 2] rfl)
    · have hr := hi4.2 c4
      refine lv_iload_n hx hb dX0_cellsOf_21 rfl (lv_at hl 1 rfl) ?_
      refine lv_iconst (v := 3) hx hb dX0_cellsOf_22 rfl ?_
      have hi6 := br_ite hr
      refine lv_icmp_ne (tgt := 30) hx hb dX0_cellsOf_23 (by decide) (fun c6 => ?_) (fun c6 => ?_)
      · have hr := hi6.2 c6
        refine lv_iconst (v := 0) hx hb dX0_cellsOf_30 rfl ?_
        obtain rfl := Option.some.inj hr
        exact J5 ls (lv_sub hl [0, 1, 2] rfl)
      · have hr := hi6.1 c6
        refine lv_iconst (v := 1) hx hb dX0_cellsOf_26 rfl ?_
        refine lv_goto (tgt := 31) hx hb dX0_cellsOf_27 (by decide) ?_
        obtain rfl := Option.some.inj hr
        exact J5 ls (lv_sub hl [0, 1, 2] rfl)
  have hr := ho2
  have hi1 := br_ite hr
  refine lv_icmp_eq (tgt := 10) hx hb dX0_cellsOf_2 (by decide) (fun c1 => ?_) (fun c1 => ?_)
  · have hr := hi1.1 c1
    refine lv_iconst (v := 1) hx hb dX0_cellsOf_10 rfl ?_
    refine lv_goto (tgt := 15) hx hb dX0_cellsOf_11 (by decide) ?_
    obtain rfl := Option.some.inj hr
    exact J2 ls (lv_sub hl [0, 1] rfl)
  · have hr := hi1.2 c1
    refine lv_iload_n hx hb dX0_cellsOf_5 rfl (lv_at hl 0 rfl) ?_
    refine lv_iconst (v := 3) hx hb dX0_cellsOf_6 rfl ?_
    have hi3 := br_ite hr
    refine lv_icmp_ne (tgt := 14) hx hb dX0_cellsOf_7 (by decide) (fun c3 => ?_) (fun c3 => ?_)
    · have hr := hi3.2 c3
      refine lv_iconst (v := 0) hx hb dX0_cellsOf_14 rfl ?_
      obtain rfl := Option.some.inj hr
      exact J2 ls (lv_sub hl [0, 1] rfl)
    · have hr := hi3.1 c3
      refine lv_iconst (v := 1) hx hb dX0_cellsOf_10 rfl ?_
      refine lv_goto (tgt := 15) hx hb dX0_cellsOf_11 (by decide) ?_
      obtain rfl := Option.some.inj hr
      exact J2 ls (lv_sub hl [0, 1] rfl)
theorem cw_X0_cellsOf {R : Room} {s : State} {args : Array Value} {own : String} {index : Nat} (hts : ∀ w ∈ lw_all, w.before args s = true) (hlink : Cond.methodLink own index yX0_cellsOf ∈ lw_all) (hR : rm_X0_cellsOf.frames + 1 ≤ R.frames ∧ 8 + (5 + 11) + rm_X0_cellsOf.locals ≤ R.locals) : CallB R s args own index yX0_cellsOf cX0_cellsOf 5 (some FieldType.int) (ws_ yX0_cellsOf cX0_cellsOf 5 (some FieldType.int)) rm_X0_cellsOf 0 0 2 ∧ (Cond.static yX0_cellsOf).before args s = true :=
  va_cwS 2 hts (lw_S hlink q564 q102 q565) rfl rfl rfl (by decide +kernel) hR
theorem cwn_X0_cellsOf {R : Room} {s : State} {args : Array Value} {own host : String} {index : Nat} (hts : ∀ w ∈ lw_all, w.before args s = true) (hlink : va_Nw (.methodLinkNest own index yX0_cellsOf host) s) (hR : rm_X0_cellsOf.frames + 1 ≤ R.frames ∧ 8 + (5 + 11) + rm_X0_cellsOf.locals ≤ R.locals) : va_CN R s args own index yX0_cellsOf host cX0_cellsOf 5 (some FieldType.int) (ws_ yX0_cellsOf cX0_cellsOf 5 (some FieldType.int)) rm_X0_cellsOf rm_X0_cellsOf.cells rm_X0_cellsOf.slots 2 ∧ (Cond.static yX0_cellsOf).before args s = true ∧ True :=
  ⟨va_cnB 2 hts (lw_meth q565) rfl rfl rfl hlink (hts _ q102) (by decide +kernel) hR, hts _ q564, trivial⟩
def f_X0_rolled_L4 (a0 : Int32) : Nat → Int32 → Int32 → Option (Int32)
  | 0, _, _ => none
  | n + 1, x2_1, x1_1 => if 25 ≤ x2_1 then some x1_1 else Option.bind (some ((((((5 : Int32) * (x2_1 - x2_1 / 5 * 5)) + 5) - 1) - (x2_1 / 5)) : Int32)) fun v3 => Option.bind (f_X0_has a0 x2_1) fun o4 => if o4 = 0 then Option.bind (some ((x1_1 ||| 0) : Int32)) fun v6 => Option.bind (some ((x2_1 + 1) : Int32)) fun v7 => f_X0_rolled_L4 a0 n v7 v6 else Option.bind (some ((x1_1 ||| ((1 : Int32) <<< (v3 &&& 31))) : Int32)) fun v8 => Option.bind (some ((x2_1 + 1) : Int32)) fun v9 => f_X0_rolled_L4 a0 n v9 v8
def f_X0_rolled (a0 : Int32) : Option Int32 := Option.bind (f_X0_rolled_L4 a0 1000 0 0) fun o1 => some o1
abbrev rm_X0_rolled : Room := ({ frames := 2, cells := 0, slots := 0, locals := 39 })
set_option maxHeartbeats 4000000 in
theorem m_X0_rolled (l : Launch) (a0 : Int32) (r0 : Int32) (hr : f_X0_rolled a0 = some r0) : PM l yX0_rolled cX0_rolled 4 (some FieldType.int) rm_X0_rolled [.int a0] (fun _ => True) (some (.int r0)) := by
  refine fw_of (by decide) (Nat.le_of_ble_eq_true rfl) ?_
  intro p e s m below meth c ls hx hb hrt hts hown hlk hml _ _ hl
  have hl : lv_has ls 4 [(0, .int a0)] := hl
  rw [f_X0_rolled] at hr
  refine lv_iconst (v := 0) hx hb dX0_rolled_0 rfl ?_
  refine lv_istore_n (lv' := [(1, .int 0), (0, .int a0)]) hx hb dX0_rolled_1 rfl hl (by decide) rfl (fun ls hl => ?_)
  refine lv_iconst (v := 0) hx hb dX0_rolled_2 rfl ?_
  refine lv_istore_n (lv' := [(2, .int 0), (1, .int 0), (0, .int a0)]) hx hb dX0_rolled_3 rfl hl (by decide) rfl (fun ls hl => ?_)
  have L1 : ∀ (n : Nat) (x2_1 : Int32) (x1_1 : Int32) (o1 : Int32), f_X0_rolled_L4 a0 n x2_1 x1_1 = some o1 → ∀ ls, lv_has ls 4 [(2, .int x2_1), (1, .int x1_1), (0, .int a0)] → (∀ ls, lv_has ls 4 [(1, .int o1)] → WP p l e rm_X0_rolled s m [.int a0] below meth c (some (.int r0)) 48 ls []) → WP p l e rm_X0_rolled s m [.int a0] below meth c (some (.int r0)) 4 ls [] := by
    intro n
    induction n with
    | zero => intro x2_1 x1_1 o1 hr; rw [f_X0_rolled_L4] at hr; cases hr
    | succ n ih =>
      intro x2_1 x1_1 o1 hr ls hl kx
      rw [f_X0_rolled_L4] at hr
      refine lv_iload_n hx hb dX0_rolled_4 rfl (lv_at hl 0 rfl) ?_
      refine lv_bipush (v := 25) hx hb dX0_rolled_5 rfl ?_
      have hi2 := br_ite hr
      refine lv_icmp_ge (tgt := 48) hx hb dX0_rolled_7 (by decide) (fun c2 => ?_) (fun c2 => ?_)
      · have hr := hi2.1 c2
        obtain rfl := Option.some.inj hr
        exact kx ls (lv_sub hl [1] rfl)
      · have hr := hi2.2 c2
        refine lv_iconst (v := 5) hx hb dX0_rolled_10 rfl ?_
        refine lv_iload_n hx hb dX0_rolled_11 rfl (lv_at hl 0 rfl) ?_
        refine lv_iconst (v := 5) hx hb dX0_rolled_12 rfl ?_
        refine lv_irem hx hb dX0_rolled_13 (by decide) ?_
        refine lv_imul hx hb dX0_rolled_14 ?_
        refine lv_iconst (v := 5) hx hb dX0_rolled_15 rfl ?_
        refine lv_iadd hx hb dX0_rolled_16 ?_
        refine lv_iconst (v := 1) hx hb dX0_rolled_17 rfl ?_
        refine lv_isub hx hb dX0_rolled_18 ?_
        refine lv_iload_n hx hb dX0_rolled_19 rfl (lv_at hl 0 rfl) ?_
        refine lv_iconst (v := 5) hx hb dX0_rolled_20 rfl ?_
        refine lv_idiv hx hb dX0_rolled_21 (by decide) ?_
        refine lv_isub hx hb dX0_rolled_22 ?_
        refine lv_topi (fun v3 hv3 => ?_)
        have hr := br_letv hr hv3
        refine lv_istore_n (lv' := [(3, .int v3), (2, .int x2_1), (1, .int x1_1), (0, .int a0)]) hx hb dX0_rolled_23 rfl hl (by decide) rfl (fun ls hl => ?_)
        refine lv_iload_n hx hb dX0_rolled_24 rfl (lv_at hl 2 rfl) ?_
        refine lv_iload_n hx hb dX0_rolled_25 rfl (lv_at hl 3 rfl) ?_
        refine lv_iload_n hx hb dX0_rolled_26 rfl (lv_at hl 1 rfl) ?_
        obtain ⟨o4, ho4, hr⟩ := br_bind hr
        refine fwS (As := [.int a0, .int x2_1]) (rest := [.int x1_1]) hx hb hml hown hts (m_X0_has l a0 x2_1 o4 ho4) (cw_X0_has hts q594 ⟨Nat.le_of_ble_eq_true rfl, Nat.le_of_ble_eq_true rfl⟩) rfl hl.1 rfl (Nat.le_of_ble_eq_true rfl) dX0_rolled_27 ⟨Nat.zero_le _, Nat.zero_le _⟩ ?_
        have hi5 := br_ite hr
        refine lv_if_eq (tgt := 39) hx hb dX0_rolled_30 (by decide) (fun c5 => ?_) (fun c5 => ?_)
        · have hr := hi5.1 c5
          refine lv_iconst (v := 0) hx hb dX0_rolled_39 rfl ?_
          refine lv_ior hx hb dX0_rolled_40 ?_
          refine lv_topi (fun v6 hv6 => ?_)
          have hr := br_letv hr hv6
          refine lv_istore_n (lv' := [(1, .int v6), (3, .int v3), (2, .int x2_1), (0, .int a0)]) hx hb dX0_rolled_41 rfl hl (by decide) rfl (fun ls hl => ?_)
          obtain ⟨v7, hv7, hr⟩ := br_let hr
          refine lv_iinc (v := v7) (lv' := [(2, .int v7), (1, .int v6), (3, .int v3), (0, .int a0)]) hx hb dX0_rolled_42 hl (k := 2) rfl (hv7 ▸ rfl) (by decide) rfl (fun ls hl => ?_)
          refine lv_goto (tgt := 4) hx hb dX0_rolled_45 (by decide) ?_
          exact ih v7 v6 _ hr ls (lv_sub hl [0, 1, 3] rfl) kx
        · have hr := hi5.2 c5
          refine lv_iconst (v := 1) hx hb dX0_rolled_33 rfl ?_
          refine lv_iload_n hx hb dX0_rolled_34 rfl (lv_at hl 0 rfl) ?_
          refine lv_ishl hx hb dX0_rolled_35 ?_
          refine lv_goto (tgt := 40) hx hb dX0_rolled_36 (by decide) ?_
          refine lv_ior hx hb dX0_rolled_40 ?_
          refine lv_topi (fun v8 hv8 => ?_)
          have hr := br_letv hr hv8
          refine lv_istore_n (lv' := [(1, .int v8), (3, .int v3), (2, .int x2_1), (0, .int a0)]) hx hb dX0_rolled_41 rfl hl (by decide) rfl (fun ls hl => ?_)
          obtain ⟨v9, hv9, hr⟩ := br_let hr
          refine lv_iinc (v := v9) (lv' := [(2, .int v9), (1, .int v8), (3, .int v3), (0, .int a0)]) hx hb dX0_rolled_42 hl (k := 2) rfl (hv9 ▸ rfl) (by decide) rfl (fun ls hl => ?_)
          refine lv_goto (tgt := 4) hx hb dX0_rolled_45 (by decide) ?_
          exact ih v9 v8 _ hr ls (lv_sub hl [0, 1, 3] rfl) kx
  obtain ⟨o1, ho1, hr⟩ := br_bind hr
  refine L1 1000 0 0 o1 ho1 ls (lv_sub hl [0, 1, 2] rfl) (fun ls hl => ?_)
  refine lv_iload_n hx hb dX0_rolled_48 rfl (lv_at hl 0 rfl) ?_
  exact W.iret hx hb hrt (fun t ht _ => ⟨ret_i hr, ht⟩) noB dX0_rolled_49 hlk
theorem cw_X0_rolled {R : Room} {s : State} {args : Array Value} {own : String} {index : Nat} (hts : ∀ w ∈ lw_all, w.before args s = true) (hlink : Cond.methodLink own index yX0_rolled ∈ lw_all) (hR : rm_X0_rolled.frames + 1 ≤ R.frames ∧ 8 + (4 + 11) + rm_X0_rolled.locals ≤ R.locals) : CallB R s args own index yX0_rolled cX0_rolled 4 (some FieldType.int) (ws_ yX0_rolled cX0_rolled 4 (some FieldType.int)) rm_X0_rolled 0 0 1 ∧ (Cond.static yX0_rolled).before args s = true :=
  va_cwS 1 hts (lw_S hlink q637 q102 q638) rfl rfl rfl (by decide +kernel) hR
theorem cwn_X0_rolled {R : Room} {s : State} {args : Array Value} {own host : String} {index : Nat} (hts : ∀ w ∈ lw_all, w.before args s = true) (hlink : va_Nw (.methodLinkNest own index yX0_rolled host) s) (hR : rm_X0_rolled.frames + 1 ≤ R.frames ∧ 8 + (4 + 11) + rm_X0_rolled.locals ≤ R.locals) : va_CN R s args own index yX0_rolled host cX0_rolled 4 (some FieldType.int) (ws_ yX0_rolled cX0_rolled 4 (some FieldType.int)) rm_X0_rolled rm_X0_rolled.cells rm_X0_rolled.slots 1 ∧ (Cond.static yX0_rolled).before args s = true ∧ True :=
  ⟨va_cnB 1 hts (lw_meth q638) rfl rfl rfl hlink (hts _ q102) (by decide +kernel) hR, hts _ q637, trivial⟩
def f_X0_in (a0 : Int64) (a2 : Int64) (a4 : Int64) : Option Int32 := if (lg_cmp a0 a2) < 0 then some 0 else if 0 < (lg_cmp a0 a4) then some 0 else some 1
abbrev rm_X0_in : Room := ({ frames := 1, cells := 0, slots := 0, locals := 22 })
set_option maxHeartbeats 4000000 in
theorem m_X0_in (l : Launch) (a0 : Int64) (a2 : Int64) (a4 : Int64) (r0 : Int32) (hr : f_X0_in a0 a2 a4 = some r0) : PM l yX0_in cX0_in 6 (some FieldType.boolean) rm_X0_in [.long a0, .long a2, .long a4] (fun _ => True) (some (.int r0)) := by
  refine fw_of (by decide) (Nat.le_of_ble_eq_true rfl) ?_
  intro p e s m below meth c ls hx hb hrt hts hown hlk hml _ _ hl
  have hl : lv_has ls 6 [(0, .long a0), (2, .long a2), (4, .long a4)] := hl
  rw [f_X0_in] at hr
  refine lv_lload_n hx hb dX0_in_0 rfl (lv_at hl 0 rfl) ?_
  refine lv_lload_n hx hb dX0_in_1 rfl (lv_at hl 1 rfl) ?_
  refine W.lcmp hx hb dX0_in_2 ?_
  have hi1 := br_ite hr
  refine lv_if_lt (tgt := 17) hx hb dX0_in_3 (by decide) (fun c1 => ?_) (fun c1 => ?_)
  · have hr := hi1.1 c1
    refine lv_iconst (v := 0) hx hb dX0_in_17 rfl ?_
    exact W.zret hx hb hrt rfl (fun t ht _ => ⟨ret_i hr, ht⟩) noB dX0_in_18 hlk
  · have hr := hi1.2 c1
    refine lv_lload_n hx hb dX0_in_6 rfl (lv_at hl 0 rfl) ?_
    refine lv_lload hx hb dX0_in_7 (lv_at hl 2 rfl) ?_
    refine W.lcmp hx hb dX0_in_9 ?_
    have hi2 := br_ite hr
    refine lv_if_gt (tgt := 17) hx hb dX0_in_10 (by decide) (fun c2 => ?_) (fun c2 => ?_)
    · have hr := hi2.1 c2
      refine lv_iconst (v := 0) hx hb dX0_in_17 rfl ?_
      exact W.zret hx hb hrt rfl (fun t ht _ => ⟨ret_i hr, ht⟩) noB dX0_in_18 hlk
    · have hr := hi2.2 c2
      refine lv_iconst (v := 1) hx hb dX0_in_13 rfl ?_
      refine lv_goto (tgt := 18) hx hb dX0_in_14 (by decide) ?_
      exact W.zret hx hb hrt rfl (fun t ht _ => ⟨ret_i hr, ht⟩) noB dX0_in_18 hlk
theorem cw_X0_in {R : Room} {s : State} {args : Array Value} {own : String} {index : Nat} (hts : ∀ w ∈ lw_all, w.before args s = true) (hlink : Cond.methodLink own index yX0_in ∈ lw_all) (hR : rm_X0_in.frames + 1 ≤ R.frames ∧ 8 + (6 + 11) + rm_X0_in.locals ≤ R.locals) : CallB R s args own index yX0_in cX0_in 6 (some FieldType.boolean) (ws_ yX0_in cX0_in 6 (some FieldType.boolean)) rm_X0_in 0 0 3 ∧ (Cond.static yX0_in).before args s = true :=
  va_cwS 3 hts (lw_S hlink q472 q102 q473) rfl rfl rfl (by decide +kernel) hR
theorem cwn_X0_in {R : Room} {s : State} {args : Array Value} {own host : String} {index : Nat} (hts : ∀ w ∈ lw_all, w.before args s = true) (hlink : va_Nw (.methodLinkNest own index yX0_in host) s) (hR : rm_X0_in.frames + 1 ≤ R.frames ∧ 8 + (6 + 11) + rm_X0_in.locals ≤ R.locals) : va_CN R s args own index yX0_in host cX0_in 6 (some FieldType.boolean) (ws_ yX0_in cX0_in 6 (some FieldType.boolean)) rm_X0_in rm_X0_in.cells rm_X0_in.slots 3 ∧ (Cond.static yX0_in).before args s = true ∧ True :=
  ⟨va_cnB 3 hts (lw_meth q473) rfl rfl rfl hlink (hts _ q102) (by decide +kernel) hR, hts _ q472, trivial⟩
def f_X0_leastIn_L2 (a0 : Int32) : Nat → Int32 → Option (Int32)
  | 0, _ => none
  | n + 1, x1_1 => Option.bind (f_X0_has a0 x1_1) fun o2 => if o2 = 0 then Option.bind (some ((x1_1 + 1) : Int32)) fun v4 => f_X0_leastIn_L2 a0 n v4 else some x1_1
def f_X0_leastIn (a0 : Int32) : Option Int32 := Option.bind (f_X0_leastIn_L2 a0 1000 0) fun o1 => some o1
abbrev rm_X0_leastIn : Room := ({ frames := 2, cells := 0, slots := 0, locals := 39 })
set_option maxHeartbeats 4000000 in
theorem m_X0_leastIn (l : Launch) (a0 : Int32) (r0 : Int32) (hr : f_X0_leastIn a0 = some r0) : PM l yX0_leastIn cX0_leastIn 2 (some FieldType.int) rm_X0_leastIn [.int a0] (fun _ => True) (some (.int r0)) := by
  refine fw_of (by decide) (Nat.le_of_ble_eq_true rfl) ?_
  intro p e s m below meth c ls hx hb hrt hts hown hlk hml _ _ hl
  have hl : lv_has ls 2 [(0, .int a0)] := hl
  rw [f_X0_leastIn] at hr
  refine lv_iconst (v := 0) hx hb dX0_leastIn_0 rfl ?_
  refine lv_istore_n (lv' := [(1, .int 0), (0, .int a0)]) hx hb dX0_leastIn_1 rfl hl (by decide) rfl (fun ls hl => ?_)
  have L1 : ∀ (n : Nat) (x1_1 : Int32) (o1 : Int32), f_X0_leastIn_L2 a0 n x1_1 = some o1 → ∀ ls, lv_has ls 2 [(1, .int x1_1), (0, .int a0)] → (∀ ls, lv_has ls 2 [(1, .int o1)] → WP p l e rm_X0_leastIn s m [.int a0] below meth c (some (.int r0)) 16 ls []) → WP p l e rm_X0_leastIn s m [.int a0] below meth c (some (.int r0)) 2 ls [] := by
    intro n
    induction n with
    | zero => intro x1_1 o1 hr; rw [f_X0_leastIn_L2] at hr; cases hr
    | succ n ih =>
      intro x1_1 o1 hr ls hl kx
      rw [f_X0_leastIn_L2] at hr
      refine lv_iload_n hx hb dX0_leastIn_2 rfl (lv_at hl 1 rfl) ?_
      refine lv_iload_n hx hb dX0_leastIn_3 rfl (lv_at hl 0 rfl) ?_
      obtain ⟨o2, ho2, hr⟩ := br_bind hr
      refine fwS (As := [.int a0, .int x1_1]) (rest := []) hx hb hml hown hts (m_X0_has l a0 x1_1 o2 ho2) (cw_X0_has hts q594 ⟨Nat.le_of_ble_eq_true rfl, Nat.le_of_ble_eq_true rfl⟩) rfl hl.1 rfl (Nat.le_of_ble_eq_true rfl) dX0_leastIn_4 ⟨Nat.zero_le _, Nat.zero_le _⟩ ?_
      have hi3 := br_ite hr
      refine lv_if_ne (tgt := 16) hx hb dX0_leastIn_7 (by decide) (fun c3 => ?_) (fun c3 => ?_)
      · have hr := hi3.2 c3
        obtain rfl := Option.some.inj hr
        exact kx ls (lv_sub hl [0] rfl)
      · have hr := hi3.1 c3
        obtain ⟨v4, hv4, hr⟩ := br_let hr
        refine lv_iinc (v := v4) (lv' := [(1, .int v4), (0, .int a0)]) hx hb dX0_leastIn_10 hl (k := 0) rfl (hv4 ▸ rfl) (by decide) rfl (fun ls hl => ?_)
        refine lv_goto (tgt := 2) hx hb dX0_leastIn_13 (by decide) ?_
        exact ih v4 _ hr ls (lv_sub hl [0, 1] rfl) kx
  obtain ⟨o1, ho1, hr⟩ := br_bind hr
  refine L1 1000 0 o1 ho1 ls (lv_sub hl [0, 1] rfl) (fun ls hl => ?_)
  refine lv_iload_n hx hb dX0_leastIn_16 rfl (lv_at hl 0 rfl) ?_
  exact W.iret hx hb hrt (fun t ht _ => ⟨ret_i hr, ht⟩) noB dX0_leastIn_17 hlk
theorem cw_X0_leastIn {R : Room} {s : State} {args : Array Value} {own : String} {index : Nat} (hts : ∀ w ∈ lw_all, w.before args s = true) (hlink : Cond.methodLink own index yX0_leastIn ∈ lw_all) (hR : rm_X0_leastIn.frames + 1 ≤ R.frames ∧ 8 + (2 + 11) + rm_X0_leastIn.locals ≤ R.locals) : CallB R s args own index yX0_leastIn cX0_leastIn 2 (some FieldType.int) (ws_ yX0_leastIn cX0_leastIn 2 (some FieldType.int)) rm_X0_leastIn 0 0 1 ∧ (Cond.static yX0_leastIn).before args s = true :=
  va_cwS 1 hts (lw_S hlink q791 q102 q792) rfl rfl rfl (by decide +kernel) hR
def f_X0_isBorder (a0 : Int32) : Option Int32 := Option.bind (f_X0_besideBits a0) fun o1 => Option.bind (f_X0_manyIn o1) fun o2 => if 4 ≤ o2 then some 0 else some 1
abbrev rm_X0_isBorder : Room := ({ frames := 3, cells := 0, slots := 0, locals := 66 })
set_option maxHeartbeats 4000000 in
theorem m_X0_isBorder (l : Launch) (a0 : Int32) (r0 : Int32) (hr : f_X0_isBorder a0 = some r0) : PM l yX0_isBorder cX0_isBorder 1 (some FieldType.boolean) rm_X0_isBorder [.int a0] (fun _ => True) (some (.int r0)) := by
  refine fw_of (by decide) (Nat.le_of_ble_eq_true rfl) ?_
  intro p e s m below meth c ls hx hb hrt hts hown hlk hml _ _ hl
  have hl : lv_has ls 1 [(0, .int a0)] := hl
  rw [f_X0_isBorder] at hr
  refine lv_iload_n hx hb dX0_isBorder_0 rfl (lv_at hl 0 rfl) ?_
  obtain ⟨o1, ho1, hr⟩ := br_bind hr
  refine fwS (As := [.int a0]) (rest := []) hx hb hml hown hts (m_X0_besideBits l a0 o1 ho1) (cw_X0_besideBits hts q595 ⟨Nat.le_of_ble_eq_true rfl, Nat.le_of_ble_eq_true rfl⟩) rfl hl.1 rfl (Nat.le_of_ble_eq_true rfl) dX0_isBorder_1 ⟨Nat.zero_le _, Nat.zero_le _⟩ ?_
  obtain ⟨o2, ho2, hr⟩ := br_bind hr
  refine fwS (As := [.int o1]) (rest := []) hx hb hml hown hts (m_X0_manyIn l o1 o2 ho2) (cw_X0_manyIn hts q654 ⟨Nat.le_of_ble_eq_true rfl, Nat.le_of_ble_eq_true rfl⟩) rfl hl.1 rfl (Nat.le_of_ble_eq_true rfl) dX0_isBorder_4 ⟨Nat.zero_le _, Nat.zero_le _⟩ ?_
  refine lv_iconst (v := 4) hx hb dX0_isBorder_7 rfl ?_
  have hi3 := br_ite hr
  refine lv_icmp_ge (tgt := 15) hx hb dX0_isBorder_8 (by decide) (fun c3 => ?_) (fun c3 => ?_)
  · have hr := hi3.1 c3
    refine lv_iconst (v := 0) hx hb dX0_isBorder_15 rfl ?_
    exact W.zret hx hb hrt rfl (fun t ht _ => ⟨ret_i hr, ht⟩) noB dX0_isBorder_16 hlk
  · have hr := hi3.2 c3
    refine lv_iconst (v := 1) hx hb dX0_isBorder_11 rfl ?_
    refine lv_goto (tgt := 16) hx hb dX0_isBorder_12 (by decide) ?_
    exact W.zret hx hb hrt rfl (fun t ht _ => ⟨ret_i hr, ht⟩) noB dX0_isBorder_16 hlk
theorem cw_X0_isBorder {R : Room} {s : State} {args : Array Value} {own : String} {index : Nat} (hts : ∀ w ∈ lw_all, w.before args s = true) (hlink : Cond.methodLink own index yX0_isBorder ∈ lw_all) (hR : rm_X0_isBorder.frames + 1 ≤ R.frames ∧ 8 + (1 + 11) + rm_X0_isBorder.locals ≤ R.locals) : CallB R s args own index yX0_isBorder cX0_isBorder 1 (some FieldType.boolean) (ws_ yX0_isBorder cX0_isBorder 1 (some FieldType.boolean)) rm_X0_isBorder 0 0 1 ∧ (Cond.static yX0_isBorder).before args s = true :=
  va_cwS 1 hts (lw_S hlink q806 q102 q807) rfl rfl rfl (by decide +kernel) hR
def f_X0_without (a0 : Int32) (a1 : Int32) : Option Int32 := Option.bind (f_X0_cellsOf (a1 / 100) (a1 - a1 / 100 * 100)) fun o1 => some (a0 &&& (o1 ^^^ (-1)))
abbrev rm_X0_without : Room := ({ frames := 2, cells := 0, slots := 0, locals := 45 })
set_option maxHeartbeats 4000000 in
theorem m_X0_without (l : Launch) (a0 : Int32) (a1 : Int32) (r0 : Int32) (hr : f_X0_without a0 a1 = some r0) : PM l yX0_without cX0_without 2 (some FieldType.int) rm_X0_without [.int a0, .int a1] (fun _ => True) (some (.int r0)) := by
  refine fw_of (by decide) (Nat.le_of_ble_eq_true rfl) ?_
  intro p e s m below meth c ls hx hb hrt hts hown hlk hml _ _ hl
  have hl : lv_has ls 2 [(0, .int a0), (1, .int a1)] := hl
  rw [f_X0_without] at hr
  refine lv_iload_n hx hb dX0_without_0 rfl (lv_at hl 0 rfl) ?_
  refine lv_iload_n hx hb dX0_without_1 rfl (lv_at hl 1 rfl) ?_
  refine lv_bipush (v := 100) hx hb dX0_without_2 rfl ?_
  refine lv_idiv hx hb dX0_without_4 (by decide) ?_
  refine lv_iload_n hx hb dX0_without_5 rfl (lv_at hl 1 rfl) ?_
  refine lv_bipush (v := 100) hx hb dX0_without_6 rfl ?_
  refine lv_irem hx hb dX0_without_8 (by decide) ?_
  obtain ⟨o1, ho1, hr⟩ := br_bind hr
  refine fwS (As := [.int (a1 / 100), .int (a1 - a1 / 100 * 100)]) (rest := [.int a0]) hx hb hml hown hts (m_X0_cellsOf l (a1 / 100) (a1 - a1 / 100 * 100) o1 ho1) (cw_X0_cellsOf hts q816 ⟨Nat.le_of_ble_eq_true rfl, Nat.le_of_ble_eq_true rfl⟩) rfl hl.1 rfl (Nat.le_of_ble_eq_true rfl) dX0_without_9 ⟨Nat.zero_le _, Nat.zero_le _⟩ ?_
  refine lv_iconst (v := (-1)) hx hb dX0_without_12 rfl ?_
  refine lv_ixor hx hb dX0_without_13 ?_
  refine lv_iand hx hb dX0_without_14 ?_
  exact W.iret hx hb hrt (fun t ht _ => ⟨ret_i hr, ht⟩) noB dX0_without_15 hlk
theorem cw_X0_without {R : Room} {s : State} {args : Array Value} {own : String} {index : Nat} (hts : ∀ w ∈ lw_all, w.before args s = true) (hlink : Cond.methodLink own index yX0_without ∈ lw_all) (hR : rm_X0_without.frames + 1 ≤ R.frames ∧ 8 + (2 + 11) + rm_X0_without.locals ≤ R.locals) : CallB R s args own index yX0_without cX0_without 2 (some FieldType.int) (ws_ yX0_without cX0_without 2 (some FieldType.int)) rm_X0_without 0 0 2 ∧ (Cond.static yX0_without).before args s = true :=
  va_cwS 2 hts (lw_S hlink q823 q102 q824) rfl rfl rfl (by decide +kernel) hR
def f_X0_divisor_L6 : Nat → Int64 → Int64 → Option (Int64)
  | 0, _, _ => none
  | n + 1, x6_1, x4_1 => if (lg_cmp x6_1 0) = 0 then some x4_1 else if x6_1 = 0 then none else Option.bind (some ((x4_1 - x4_1 / x6_1 * x6_1) : Int64)) fun v4 => f_X0_divisor_L6 n v4 x6_1
def f_X0_divisor (a0 : Int64) (a2 : Int64) : Option Int64 := Option.bind (f_X0_divisor_L6 1000 a2 a0) fun o1 => some o1
abbrev rm_X0_divisor : Room := ({ frames := 1, cells := 0, slots := 0, locals := 26 })
set_option maxHeartbeats 4000000 in
theorem m_X0_divisor (l : Launch) (a0 : Int64) (a2 : Int64) (r0 : Int64) (hr : f_X0_divisor a0 a2 = some r0) : PM l yX0_divisor cX0_divisor 10 (some FieldType.long) rm_X0_divisor [.long a0, .long a2] (fun _ => True) (some (.long r0)) := by
  refine fw_of (by decide) (Nat.le_of_ble_eq_true rfl) ?_
  intro p e s m below meth c ls hx hb hrt hts hown hlk hml _ _ hl
  have hl : lv_has ls 10 [(0, .long a0), (2, .long a2)] := hl
  rw [f_X0_divisor] at hr
  refine lv_lload_n hx hb dX0_divisor_0 rfl (lv_at hl 0 rfl) ?_
  refine lv_lstore (lv' := [(4, .long a0), (0, .long a0), (2, .long a2)]) hx hb dX0_divisor_1 hl (by decide) rfl (fun ls hl => ?_)
  refine lv_lload_n hx hb dX0_divisor_3 rfl (lv_at hl 2 rfl) ?_
  refine lv_lstore (lv' := [(6, .long a2), (4, .long a0), (0, .long a0), (2, .long a2)]) hx hb dX0_divisor_4 hl (by decide) rfl (fun ls hl => ?_)
  have L1 : ∀ (n : Nat) (x6_1 : Int64) (x4_1 : Int64) (o1 : Int64), f_X0_divisor_L6 n x6_1 x4_1 = some o1 → ∀ ls, lv_has ls 10 [(6, .long x6_1), (4, .long x4_1)] → (∀ ls, lv_has ls 10 [(4, .long o1)] → WP p l e rm_X0_divisor s m [.long a0, .long a2] below meth c (some (.long r0)) 31 ls []) → WP p l e rm_X0_divisor s m [.long a0, .long a2] below meth c (some (.long r0)) 6 ls [] := by
    intro n
    induction n with
    | zero => intro x6_1 x4_1 o1 hr; rw [f_X0_divisor_L6] at hr; cases hr
    | succ n ih =>
      intro x6_1 x4_1 o1 hr ls hl kx
      rw [f_X0_divisor_L6] at hr
      refine lv_lload hx hb dX0_divisor_6 (lv_at hl 0 rfl) ?_
      refine lv_lconst (v := 0) hx hb dX0_divisor_8 rfl ?_
      refine W.lcmp hx hb dX0_divisor_9 ?_
      have hi2 := br_ite hr
      refine lv_if_eq (tgt := 31) hx hb dX0_divisor_10 (by decide) (fun c2 => ?_) (fun c2 => ?_)
      · have hr := hi2.1 c2
        obtain rfl := Option.some.inj hr
        exact kx ls (lv_sub hl [1] rfl)
      · have hr := hi2.2 c2
        refine lv_lload hx hb dX0_divisor_13 (lv_at hl 1 rfl) ?_
        refine lv_lload hx hb dX0_divisor_15 (lv_at hl 0 rfl) ?_
        obtain ⟨c3, hr⟩ := br_none hr
        refine lv_lrem hx hb dX0_divisor_17 c3 ?_
        refine lv_topl (fun v4 hv4 => ?_)
        have hr := br_letv hr hv4
        refine lv_lstore (lv' := [(8, .long v4), (6, .long x6_1), (4, .long x4_1)]) hx hb dX0_divisor_18 hl (by decide) rfl (fun ls hl => ?_)
        refine lv_lload hx hb dX0_divisor_20 (lv_at hl 1 rfl) ?_
        refine lv_lstore (lv' := [(4, .long x6_1), (8, .long v4), (6, .long x6_1)]) hx hb dX0_divisor_22 hl (by decide) rfl (fun ls hl => ?_)
        refine lv_lload hx hb dX0_divisor_24 (lv_at hl 1 rfl) ?_
        refine lv_lstore (lv' := [(6, .long v4), (4, .long x6_1), (8, .long v4)]) hx hb dX0_divisor_26 hl (by decide) rfl (fun ls hl => ?_)
        refine lv_goto (tgt := 6) hx hb dX0_divisor_28 (by decide) ?_
        exact ih v4 x6_1 _ hr ls (lv_sub hl [0, 1] rfl) kx
  obtain ⟨o1, ho1, hr⟩ := br_bind hr
  refine L1 1000 a2 a0 o1 ho1 ls (lv_sub hl [0, 1] rfl) (fun ls hl => ?_)
  refine lv_lload hx hb dX0_divisor_31 (lv_at hl 0 rfl) ?_
  exact W.lret hx hb hrt (fun t ht _ => ⟨ret_l hr, ht⟩) noB dX0_divisor_33 hlk
theorem cw_X0_divisor {R : Room} {s : State} {args : Array Value} {own : String} {index : Nat} (hts : ∀ w ∈ lw_all, w.before args s = true) (hlink : Cond.methodLink own index yX0_divisor ∈ lw_all) (hR : rm_X0_divisor.frames + 1 ≤ R.frames ∧ 8 + (10 + 11) + rm_X0_divisor.locals ≤ R.locals) : CallB R s args own index yX0_divisor cX0_divisor 10 (some FieldType.long) (ws_ yX0_divisor cX0_divisor 10 (some FieldType.long)) rm_X0_divisor 0 0 2 ∧ (Cond.static yX0_divisor).before args s = true :=
  va_cwS 2 hts (lw_S hlink q1124 q102 q1125) rfl rfl rfl (by decide +kernel) hR
def f_X0_partOf (a0 : Int64) (a2 : Int64) (a4 : Int32) : Option Int64 := if (lg_cmp a0 0) = 0 then some (Int32.toInt64 a4) else Option.bind (f_X0_divisor a0 a2) fun o2 => if a4 = 0 then if o2 = 0 then none else some (a0 / o2) else if o2 = 0 then none else some (a2 / o2)
abbrev rm_X0_partOf : Room := ({ frames := 2, cells := 0, slots := 0, locals := 55 })
set_option maxHeartbeats 4000000 in
theorem m_X0_partOf (l : Launch) (a0 : Int64) (a2 : Int64) (a4 : Int32) (r0 : Int64) (hr : f_X0_partOf a0 a2 a4 = some r0) : PM l yX0_partOf cX0_partOf 7 (some FieldType.long) rm_X0_partOf [.long a0, .long a2, .int a4] (fun _ => True) (some (.long r0)) := by
  refine fw_of (by decide) (Nat.le_of_ble_eq_true rfl) ?_
  intro p e s m below meth c ls hx hb hrt hts hown hlk hml _ _ hl
  have hl : lv_has ls 7 [(0, .long a0), (2, .long a2), (4, .int a4)] := hl
  rw [f_X0_partOf] at hr
  refine lv_lload_n hx hb dX0_partOf_0 rfl (lv_at hl 0 rfl) ?_
  refine lv_lconst (v := 0) hx hb dX0_partOf_1 rfl ?_
  refine W.lcmp hx hb dX0_partOf_2 ?_
  have hi1 := br_ite hr
  refine lv_if_ne (tgt := 10) hx hb dX0_partOf_3 (by decide) (fun c1 => ?_) (fun c1 => ?_)
  · have hr := hi1.2 c1
    refine lv_lload_n hx hb dX0_partOf_10 rfl (lv_at hl 0 rfl) ?_
    refine lv_lload_n hx hb dX0_partOf_11 rfl (lv_at hl 1 rfl) ?_
    obtain ⟨o2, ho2, hr⟩ := br_bind hr
    refine fwS (As := [.long a0, .long a2]) (rest := []) hx hb hml hown hts (m_X0_divisor l a0 a2 o2 ho2) (cw_X0_divisor hts q1123 ⟨Nat.le_of_ble_eq_true rfl, Nat.le_of_ble_eq_true rfl⟩) rfl hl.1 rfl (Nat.le_of_ble_eq_true rfl) dX0_partOf_12 ⟨Nat.zero_le _, Nat.zero_le _⟩ ?_
    refine lv_lstore (lv' := [(5, .long o2), (0, .long a0), (2, .long a2), (4, .int a4)]) hx hb dX0_partOf_15 hl (by decide) rfl (fun ls hl => ?_)
    refine lv_iload hx hb dX0_partOf_17 (lv_at hl 3 rfl) ?_
    have hi3 := br_ite hr
    refine lv_if_ne (tgt := 29) hx hb dX0_partOf_19 (by decide) (fun c3 => ?_) (fun c3 => ?_)
    · have hr := hi3.2 c3
      refine lv_lload_n hx hb dX0_partOf_29 rfl (lv_at hl 2 rfl) ?_
      refine lv_lload hx hb dX0_partOf_30 (lv_at hl 0 rfl) ?_
      obtain ⟨c4, hr⟩ := br_none hr
      refine lv_ldiv hx hb dX0_partOf_32 c4 ?_
      exact W.lret hx hb hrt (fun t ht _ => ⟨ret_l hr, ht⟩) noB dX0_partOf_33 hlk
    · have hr := hi3.1 c3
      refine lv_lload_n hx hb dX0_partOf_22 rfl (lv_at hl 1 rfl) ?_
      refine lv_lload hx hb dX0_partOf_23 (lv_at hl 0 rfl) ?_
      obtain ⟨c5, hr⟩ := br_none hr
      refine lv_ldiv hx hb dX0_partOf_25 c5 ?_
      refine lv_goto (tgt := 33) hx hb dX0_partOf_26 (by decide) ?_
      exact W.lret hx hb hrt (fun t ht _ => ⟨ret_l hr, ht⟩) noB dX0_partOf_33 hlk
  · have hr := hi1.1 c1
    refine lv_iload hx hb dX0_partOf_6 (lv_at hl 2 rfl) ?_
    refine lv_i2l (v := (Int32.toInt64 a4)) hx hb dX0_partOf_8 rfl ?_
    exact W.lret hx hb hrt (fun t ht _ => ⟨ret_l hr, ht⟩) noB dX0_partOf_9 hlk
theorem cw_X0_partOf {R : Room} {s : State} {args : Array Value} {own : String} {index : Nat} (hts : ∀ w ∈ lw_all, w.before args s = true) (hlink : Cond.methodLink own index yX0_partOf ∈ lw_all) (hR : rm_X0_partOf.frames + 1 ≤ R.frames ∧ 8 + (7 + 11) + rm_X0_partOf.locals ≤ R.locals) : CallB R s args own index yX0_partOf cX0_partOf 7 (some FieldType.long) (ws_ yX0_partOf cX0_partOf 7 (some FieldType.long)) rm_X0_partOf 0 0 3 ∧ (Cond.static yX0_partOf).before args s = true :=
  va_cwS 3 hts (lw_S hlink q1121 q102 q1122) rfl rfl rfl (by decide +kernel) hR