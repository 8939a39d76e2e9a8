def f_X2_kind : Option (Int32) := some 0
abbrev rm_X2_kind : Room := ({ frames := 1, cells := 0, slots := 0, locals := 17 })
set_option maxHeartbeats 4000000 in
theorem m_X2_kind (l : Launch) (th : Nat) (r0 : Int32) (hr : f_X2_kind = some r0) : PM l yX2_kind cX2_kind 1 (some FieldType.int) rm_X2_kind [.ref th] (fun _ => True) (some (.int r0)) := by
  refine fw_of (by decide) (Nat.le_of_ble_eq_true rfl) ?_
  intro p e s m below meth c ls hx hb hrt hts hown hlk hml _ _ hl
  have hl : lv_has ls 1 [(0, .ref th)] := hl
  rw [f_X2_kind] at hr
  refine lv_iconst (v := 0) hx hb dX2_kind_0 rfl ?_
  exact W.iret hx hb hrt (fun t ht _ => ⟨ret_i hr, ht⟩) noB dX2_kind_1 hlk
def f_X3_kind : Option (Int32) := some 1
abbrev rm_X3_kind : Room := ({ frames := 1, cells := 0, slots := 0, locals := 17 })
set_option maxHeartbeats 4000000 in
theorem m_X3_kind (l : Launch) (th : Nat) (r0 : Int32) (hr : f_X3_kind = some r0) : PM l yX3_kind cX3_kind 1 (some FieldType.int) rm_X3_kind [.ref th] (fun _ => True) (some (.int r0)) := by
  refine fw_of (by decide) (Nat.le_of_ble_eq_true rfl) ?_
  intro p e s m below meth c ls hx hb hrt hts hown hlk hml _ _ hl
  have hl : lv_has ls 1 [(0, .ref th)] := hl
  rw [f_X3_kind] at hr
  refine lv_iconst (v := 1) hx hb dX3_kind_0 rfl ?_
  exact W.iret hx hb hrt (fun t ht _ => ⟨ret_i hr, ht⟩) noB dX3_kind_1 hlk
def f_X4_kind : Option (Int32) := some 2
abbrev rm_X4_kind : Room := ({ frames := 1, cells := 0, slots := 0, locals := 17 })
set_option maxHeartbeats 4000000 in
theorem m_X4_kind (l : Launch) (th : Nat) (r0 : Int32) (hr : f_X4_kind = some r0) : PM l yX4_kind cX4_kind 1 (some FieldType.int) rm_X4_kind [.ref th] (fun _ => True) (some (.int r0)) := by
  refine fw_of (by decide) (Nat.le_of_ble_eq_true rfl) ?_
  intro p e s m below meth c ls hx hb hrt hts hown hlk hml _ _ hl
  have hl : lv_has ls 1 [(0, .ref th)] := hl
  rw [f_X4_kind] at hr
  refine lv_iconst (v := 2) hx hb dX4_kind_0 rfl ?_
  exact W.iret hx hb hrt (fun t ht _ => ⟨ret_i hr, ht⟩) noB dX4_kind_1 hlk
def f_X5_kind : Option (Int32) := some 3
abbrev rm_X5_kind : Room := ({ frames := 1, cells := 0, slots := 0, locals := 17 })
set_option maxHeartbeats 4000000 in
theorem m_X5_kind (l : Launch) (th : Nat) (r0 : Int32) (hr : f_X5_kind = some r0) : PM l yX5_kind cX5_kind 1 (some FieldType.int) rm_X5_kind [.ref th] (fun _ => True) (some (.int r0)) := by
  refine fw_of (by decide) (Nat.le_of_ble_eq_true rfl) ?_
  intro p e s m below meth c ls hx hb hrt hts hown hlk hml _ _ hl
  have hl : lv_has ls 1 [(0, .ref th)] := hl
  rw [f_X5_kind] at hr
  refine lv_iconst (v := 3) hx hb dX5_kind_0 rfl ?_
  exact W.iret hx hb hrt (fun t ht _ => ⟨ret_i hr, ht⟩) noB dX5_kind_1 hlk
def f_X6_kind : Option (Int32) := some 4
abbrev rm_X6_kind : Room := ({ frames := 1, cells := 0, slots := 0, locals := 17 })
set_option maxHeartbeats 4000000 in
theorem m_X6_kind (l : Launch) (th : Nat) (r0 : Int32) (hr : f_X6_kind = some r0) : PM l yX6_kind cX6_kind 1 (some FieldType.int) rm_X6_kind [.ref th] (fun _ => True) (some (.int r0)) := by
  refine fw_of (by decide) (Nat.le_of_ble_eq_true rfl) ?_
  intro p e s m below meth c ls hx hb hrt hts hown hlk hml _ _ hl
  have hl : lv_has ls 1 [(0, .ref th)] := hl
  rw [f_X6_kind] at hr
  refine lv_iconst (v := 4) hx hb dX6_kind_0 rfl ?_
  exact W.iret hx hb hrt (fun t ht _ => ⟨ret_i hr, ht⟩) noB dX6_kind_1 hlk
def f_X7_kind : Option (Int32) := some 5
abbrev rm_X7_kind : Room := ({ frames := 1, cells := 0, slots := 0, locals := 17 })
set_option maxHeartbeats 4000000 in
theorem m_X7_kind (l : Launch) (th : Nat) (r0 : Int32) (hr : f_X7_kind = some r0) : PM l yX7_kind cX7_kind 1 (some FieldType.int) rm_X7_kind [.ref th] (fun _ => True) (some (.int r0)) := by
  refine fw_of (by decide) (Nat.le_of_ble_eq_true rfl) ?_
  intro p e s m below meth c ls hx hb hrt hts hown hlk hml _ _ hl
  have hl : lv_has ls 1 [(0, .ref th)] := hl
  rw [f_X7_kind] at hr
  refine lv_iconst (v := 5) hx hb dX7_kind_0 rfl ?_
  exact W.iret hx hb hrt (fun t ht _ => ⟨ret_i hr, ht⟩) noB dX7_kind_1 hlk
def f_X1_inChancery (a1 : Int32) : Option (Int32) := some 0
abbrev rm_X1_inChancery : Room := ({ frames := 1, cells := 0, slots := 0, locals := 18 })
set_option maxHeartbeats 4000000 in
theorem m_X1_inChancery (l : Launch) (th : Nat) (a1 : Int32) (r0 : Int32) (hr : f_X1_inChancery a1 = some r0) : PM l yX1_inChancery cX1_inChancery 2 (some FieldType.int) rm_X1_inChancery [.ref th, .int a1] (fun _ => True) (some (.int r0)) := by
  refine fw_of (by decide) (Nat.le_of_ble_eq_true rfl) ?_
  intro p e s m below meth c ls hx hb hrt hts hown hlk hml _ _ hl
  have hl : lv_has ls 2 [(0, .ref th), (1, .int a1)] := hl
  rw [f_X1_inChancery] at hr
  refine lv_iconst (v := 0) hx hb dX1_inChancery_0 rfl ?_
  exact W.iret hx hb hrt (fun t ht _ => ⟨ret_i hr, ht⟩) noB dX1_inChancery_1 hlk
def f_X2_share_L7 (cv : CV) : Nat → Int32 → Int32 → Option (Int32)
  | 0, _, _ => none
  | n + 1, x4_2, x3_2 => if 25 ≤ x4_2 then some x3_2 else Option.bind (f_X0_has (cG_deed cv) x4_2) fun o4 => if o4 = 0 then Option.bind (some ((x3_2 + 0) : Int32)) fun v6 => Option.bind (some ((x4_2 + 5) : Int32)) fun v7 => f_X2_share_L7 cv n v7 v6 else Option.bind (some ((x3_2 + 1) : Int32)) fun v8 => Option.bind (some ((x4_2 + 5) : Int32)) fun v9 => f_X2_share_L7 cv n v9 v8
def f_X2_share (cv : CV) (a2 : Int32) : Option (Int32) := Option.bind (some ((a2 - a2 / 5 * 5) : Int32)) fun v1 => Option.bind (f_X2_share_L7 cv 1000 v1 0) fun o2 => some o2
abbrev rm_X2_share : Room := ({ frames := 2, cells := 0, slots := 0, locals := 39 })
theorem cwsu_X2_share {R : Room} {s : State} {args : Array Value} {own : String} {index : Nat} (hts : ∀ w ∈ lw_all, w.before args s = true) (hlink : Cond.methodLink own index yX2_share ∈ lw_all) (hsu : Cond.superclass own RX2 ∈ lw_all) (hsm : Cond.sameMethod RX2 RX2 "share" "(LCoresAreWills$Core;I)I" ∈ lw_all) (hR : rm_X2_share.frames + 1 ≤ R.frames ∧ 8 + (5 + 11) + rm_X2_share.locals ≤ R.locals) : va_CS R s args own index yX2_share cX2_share 5 (some FieldType.int) (ws_ yX2_share cX2_share 5 (some FieldType.int)) rm_X2_share 0 0 2 :=
  va_cwSU 2 hts (lw_SU hlink hsm hsu q714 q104 q715) rfl rfl rfl (by decide +kernel) hR
set_option maxHeartbeats 4000000 in
theorem m_X2_share (l : Launch) (D : va_G) (ax : Nat → Nat) (ac : Nat → ClassId) (b kq fq : Nat) (cv : CV) (th ci : Nat) (Cn : String) (hci : clG[ci]? = some (Cn, T0e, 0)) (a2 : Int32) (r0 : Int32) (hr : f_X2_share cv a2 = some r0) : PM l yX2_share cX2_share 5 (some FieldType.int) rm_X2_share [.ref th, .ref b, .int a2] (RP D ac (wC ax b kq fq ac cv ++ [(th, .inr (ci, []))])) (some (.int r0)) := by
  refine fw_of (by decide) (Nat.le_of_ble_eq_true rfl) ?_
  intro p e s m below meth c ls hx hb hrt hts hown hlk hml _ hU hl
  obtain ⟨hP, hG⟩ := hU
  have hl : lv_has ls 5 [(0, .ref th), (1, .ref b), (2, .int a2)] := hl
  rw [f_X2_share] at hr
  refine lv_iconst (v := 0) hx hb dX2_share_0 rfl ?_
  refine lv_istore_n (lv' := [(3, .int 0), (0, .ref th), (1, .ref b), (2, .int a2)]) hx hb dX2_share_1 rfl hl (by decide) rfl (fun ls hl => ?_)
  refine lv_iload_n hx hb dX2_share_2 rfl (lv_at hl 3 rfl) ?_
  refine lv_iconst (v := 5) hx hb dX2_share_3 rfl ?_
  refine lv_irem hx hb dX2_share_4 (by decide) ?_
  refine lv_topi (fun v1 hv1 => ?_)
  have hr := br_letv hr hv1
  refine lv_istore (lv' := [(4, .int v1), (3, .int 0), (0, .ref th), (1, .ref b), (2, .int a2)]) hx hb dX2_share_5 hl (by decide) rfl (fun ls hl => ?_)
  have L2 : ∀ (n : Nat) (x4_2 : Int32) (x3_2 : Int32) (o2 : Int32), f_X2_share_L7 cv n x4_2 x3_2 = some o2 → ∀ ls, lv_has ls 5 [(4, .int x4_2), (3, .int x3_2), (1, .ref b)] → (∀ ls, lv_has ls 5 [(3, .int o2)] → WP p l e rm_X2_share s m [.ref th, .ref b, .int a2] below meth c (some (.int r0)) 40 ls []) → WP p l e rm_X2_share s m [.ref th, .ref b, .int a2] below meth c (some (.int r0)) 7 ls [] := by
    intro n
    induction n with
    | zero => intro x4_2 x3_2 o2 hr; rw [f_X2_share_L7] at hr; cases hr
    | succ n ih =>
      intro x4_2 x3_2 o2 hr ls hl kx
      rw [f_X2_share_L7] at hr
      refine lv_iload hx hb dX2_share_7 (lv_at hl 0 rfl) ?_
      refine lv_bipush (v := 25) hx hb dX2_share_9 rfl ?_
      have hi3 := br_ite hr
      refine lv_icmp_ge (tgt := 40) hx hb dX2_share_11 (by decide) (fun c3 => ?_) (fun c3 => ?_)
      · have hr := hi3.1 c3
        obtain rfl := Option.some.inj hr
        exact kx ls (lv_sub hl [1] rfl)
      · have hr := hi3.2 c3
        refine lv_iload_n hx hb dX2_share_14 rfl (lv_at hl 1 rfl) ?_
        refine lv_aload_n hx hb dX2_share_15 rfl (lv_at hl 2 rfl) ?_
        refine va_getN (D := D) (ci := 7) (v := .int (cG_deed cv)) (C := RX8) (T := TX8) (N := 8) hx hb hts in_X8 hown hG.1 hP 0 rfl rfl 5 (by decide) (va_Nw.use rfl (hG.2.1 _ nq207)) (fun _ h9 => h9) rfl dX2_share_16 ?_
        refine lv_iload hx hb dX2_share_19 (lv_at hl 0 rfl) ?_
        obtain ⟨o4, ho4, hr⟩ := br_bind hr
        refine fwSN (As := [.int (cG_deed cv), .int x4_2]) (rest := [.int x3_2]) hx hb hml hown hts (m_X0_has l (cG_deed cv) x4_2 o4 ho4) (cwn_X0_has hts (hG.2.1 _ nq716) ⟨Nat.le_of_ble_eq_true rfl, Nat.le_of_ble_eq_true rfl⟩) rfl hl.1 rfl (Nat.le_of_ble_eq_true rfl) dX2_share_21 ⟨Nat.le_of_ble_eq_true rfl, Nat.le_of_ble_eq_true rfl⟩ ?_
        have hi5 := br_ite hr
        refine lv_if_eq (tgt := 31) hx hb dX2_share_24 (by decide) (fun c5 => ?_) (fun c5 => ?_)
        · have hr := hi5.1 c5
          refine lv_iconst (v := 0) hx hb dX2_share_31 rfl ?_
          refine lv_iadd hx hb dX2_share_32 ?_
          refine lv_topi (fun v6 hv6 => ?_)
          have hr := br_letv hr hv6
          refine lv_istore_n (lv' := [(3, .int v6), (4, .int x4_2), (1, .ref b)]) hx hb dX2_share_33 rfl hl (by decide) rfl (fun ls hl => ?_)
          obtain ⟨v7, hv7, hr⟩ := br_let hr
          refine lv_iinc (v := v7) (lv' := [(4, .int v7), (3, .int v6), (1, .ref b)]) hx hb dX2_share_34 hl (k := 1) rfl (hv7 ▸ rfl) (by decide) rfl (fun ls hl => ?_)
          refine lv_goto (tgt := 7) hx hb dX2_share_37 (by decide) ?_
          exact ih v7 v6 _ hr ls (lv_sub hl [0, 1, 2] rfl) kx
        · have hr := hi5.2 c5
          refine lv_iconst (v := 1) hx hb dX2_share_27 rfl ?_
          refine lv_goto (tgt := 32) hx hb dX2_share_28 (by decide) ?_
          refine lv_iadd hx hb dX2_share_32 ?_
          refine lv_topi (fun v8 hv8 => ?_)
          have hr := br_letv hr hv8
          refine lv_istore_n (lv' := [(3, .int v8), (4, .int x4_2), (1, .ref b)]) hx hb dX2_share_33 rfl hl (by decide) rfl (fun ls hl => ?_)
          obtain ⟨v9, hv9, hr⟩ := br_let hr
          refine lv_iinc (v := v9) (lv' := [(4, .int v9), (3, .int v8), (1, .ref b)]) hx hb dX2_share_34 hl (k := 1) rfl (hv9 ▸ rfl) (by decide) rfl (fun ls hl => ?_)
          refine lv_goto (tgt := 7) hx hb dX2_share_37 (by decide) ?_
          exact ih v9 v8 _ hr ls (lv_sub hl [0, 1, 2] rfl) kx
  obtain ⟨o2, ho2, hr⟩ := br_bind hr
  refine L2 1000 v1 0 o2 ho2 ls (lv_sub hl [0, 1, 3] rfl) (fun ls hl => ?_)
  refine lv_iload_n hx hb dX2_share_40 rfl (lv_at hl 0 rfl) ?_
  exact W.iret hx hb hrt (fun t ht _ => ⟨ret_i hr, ht⟩) noB dX2_share_41 hlk
def f_X6_share (cv : CV) (a2 : Int32) : Option (Int32) := Option.bind (f_X0_manyIn (cG_left cv)) fun o1 => some (if (0 : Int32) < (((25 : Int32) - o1) - a2) then (((25 : Int32) - o1) - a2) else (0 : Int32))
abbrev rm_X6_share : Room := ({ frames := 2, cells := 0, slots := 0, locals := 41 })
set_option maxHeartbeats 4000000 in
theorem m_X6_share (l : Launch) (D : va_G) (ax : Nat → Nat) (ac : Nat → ClassId) (b kq fq : Nat) (cv : CV) (th ci : Nat) (Cn : String) (hci : clG[ci]? = some (Cn, T0e, 0)) (a2 : Int32) (r0 : Int32) (hr : f_X6_share cv a2 = some r0) : PM l yX6_share cX6_share 3 (some FieldType.int) rm_X6_share [.ref th, .ref b, .int a2] (RP D ac (wC ax b kq fq ac cv ++ [(th, .inr (ci, []))])) (some (.int r0)) := by
  refine fw_of (by decide) (Nat.le_of_ble_eq_true rfl) ?_
  intro p e s m below meth c ls hx hb hrt hts hown hlk hml _ hU hl
  obtain ⟨hP, hG⟩ := hU
  have hl : lv_has ls 3 [(0, .ref th), (1, .ref b), (2, .int a2)] := hl
  rw [f_X6_share] at hr
  refine lv_iconst (v := 0) hx hb dX6_share_0 rfl ?_
  refine lv_bipush (v := 25) hx hb dX6_share_1 rfl ?_
  refine lv_aload_n hx hb dX6_share_3 rfl (lv_at hl 1 rfl) ?_
  refine va_getN (D := D) (ci := 7) (v := .int (cG_left cv)) (C := RX8) (T := TX8) (N := 8) hx hb hts in_X8 hown hG.1 hP 0 rfl rfl 0 (by decide) (va_Nw.use rfl (hG.2.1 _ nq192)) (fun _ h9 => h9) rfl dX6_share_4 ?_
  obtain ⟨o1, ho1, hr⟩ := br_bind hr
  refine fwSN (As := [.int (cG_left cv)]) (rest := [.int 25, .int 0]) hx hb hml hown hts (m_X0_manyIn l (cG_left cv) o1 ho1) (cwn_X0_manyIn hts (hG.2.1 _ nq734) ⟨Nat.le_of_ble_eq_true rfl, Nat.le_of_ble_eq_true rfl⟩) rfl hl.1 rfl (Nat.le_of_ble_eq_true rfl) dX6_share_7 ⟨Nat.le_of_ble_eq_true rfl, Nat.le_of_ble_eq_true rfl⟩ ?_
  refine lv_isub hx hb dX6_share_10 ?_
  refine lv_iload_n hx hb dX6_share_11 rfl (lv_at hl 2 rfl) ?_
  refine lv_isub hx hb dX6_share_12 ?_
  refine va_mmax hx hb (hml.trans hl.1.symm) hown (hts _ q735) (hts _ q608) (hts _ q126) (hts _ q609) (Nat.le_of_ble_eq_true rfl) (Nat.le_of_ble_eq_true rfl) (Nat.le_of_ble_eq_true rfl) (Nat.le_of_ble_eq_true rfl) dX6_share_13 ?_
  exact W.iret hx hb hrt (fun t ht _ => ⟨ret_i hr, ht⟩) noB dX6_share_16 hlk
def f_X3_share (cv : CV) (a2 : Int32) : Option (Int32) := Option.bind (f_X2_share cv a2) fun o1 => Option.bind (f_X0_has (cG_deed cv) (2 : Int32)) fun o2 => if o2 = 0 then some (o1 + 0) else some (o1 + 5)
abbrev rm_X3_share : Room := ({ frames := 3, cells := 0, slots := 0, locals := 63 })
theorem cwsu_X3_share {R : Room} {s : State} {args : Array Value} {own : String} {index : Nat} (hts : ∀ w ∈ lw_all, w.before args s = true) (hlink : Cond.methodLink own index yX3_share ∈ lw_all) (hsu : Cond.superclass own RX3 ∈ lw_all) (hsm : Cond.sameMethod RX3 RX3 "share" "(LCoresAreWills$Core;I)I" ∈ lw_all) (hR : rm_X3_share.frames + 1 ≤ R.frames ∧ 8 + (3 + 11) + rm_X3_share.locals ≤ R.locals) : va_CS R s args own index yX3_share cX3_share 3 (some FieldType.int) (ws_ yX3_share cX3_share 3 (some FieldType.int)) rm_X3_share 0 0 2 :=
  va_cwSU 2 hts (lw_SU hlink hsm hsu q711 q105 q712) rfl rfl rfl (by decide +kernel) hR
set_option maxHeartbeats 4000000 in
theorem m_X3_share (l : Launch) (D : va_G) (ax : Nat → Nat) (ac : Nat → ClassId) (b kq fq : Nat) (cv : CV) (th ci : Nat) (Cn : String) (hci : clG[ci]? = some (Cn, T0e, 0)) (a2 : Int32) (r0 : Int32) (hr : f_X3_share cv a2 = some r0) : PM l yX3_share cX3_share 3 (some FieldType.int) rm_X3_share [.ref th, .ref b, .int a2] (RP D ac (wC ax b kq fq ac cv ++ [(th, .inr (ci, []))])) (some (.int r0)) := by
  refine fw_of (by decide) (Nat.le_of_ble_eq_true rfl) ?_
  intro p e s m below meth c ls hx hb hrt hts hown hlk hml _ hU hl
  obtain ⟨hP, hG⟩ := hU
  have hl : lv_has ls 3 [(0, .ref th), (1, .ref b), (2, .int a2)] := hl
  rw [f_X3_share] at hr
  refine lv_aload_n hx hb dX3_share_0 rfl (lv_at hl 0 rfl) ?_
  refine lv_aload_n hx hb dX3_share_1 rfl (lv_at hl 1 rfl) ?_
  refine lv_iload_n hx hb dX3_share_2 rfl (lv_at hl 2 rfl) ?_
  obtain ⟨o1, ho1, hr⟩ := br_bind hr
  refine fwRSU (As := [.ref b, .int a2]) (rest := []) hx hb hml hown hts (m_X2_share l D ax ac b kq fq cv th ci Cn hci a2 o1 ho1) (cwsu_X2_share hts q713 q153 q1583 ⟨Nat.le_of_ble_eq_true rfl, Nat.le_of_ble_eq_true rfl⟩) hG hP hP 3 ci hci rfl rfl hl.1 rfl (Nat.le_of_ble_eq_true rfl) dX3_share_3 ⟨Nat.le_of_ble_eq_true rfl, Nat.le_of_ble_eq_true rfl⟩ ?_
  refine lv_aload_n hx hb dX3_share_6 rfl (lv_at hl 1 rfl) ?_
  refine va_getN (D := D) (ci := 7) (v := .int (cG_deed cv)) (C := RX8) (T := TX8) (N := 8) hx hb hts in_X8 hown hG.1 hP 0 rfl rfl 5 (by decide) (va_Nw.use rfl (hG.2.1 _ nq205)) (fun _ h9 => h9) rfl dX3_share_7 ?_
  refine lv_iconst (v := 2) hx hb dX3_share_10 rfl ?_
  obtain ⟨o2, ho2, hr⟩ := br_bind hr
  refine fwSN (As := [.int (cG_deed cv), .int 2]) (rest := [.int o1]) hx hb hml hown hts (m_X0_has l (cG_deed cv) (2 : Int32) o2 ho2) (cwn_X0_has hts (hG.2.1 _ nq717) ⟨Nat.le_of_ble_eq_true rfl, Nat.le_of_ble_eq_true rfl⟩) rfl hl.1 rfl (Nat.le_of_ble_eq_true rfl) dX3_share_11 ⟨Nat.le_of_ble_eq_true rfl, Nat.le_of_ble_eq_true rfl⟩ ?_
  have hi3 := br_ite hr
  refine lv_if_eq (tgt := 21) hx hb dX3_share_14 (by decide) (fun c3 => ?_) (fun c3 => ?_)
  · have hr := hi3.1 c3
    refine lv_iconst (v := 0) hx hb dX3_share_21 rfl ?_
    refine lv_iadd hx hb dX3_share_22 ?_
    exact W.iret hx hb hrt (fun t ht _ => ⟨ret_i hr, ht⟩) noB dX3_share_23 hlk
  · have hr := hi3.2 c3
    refine lv_iconst (v := 5) hx hb dX3_share_17 rfl ?_
    refine lv_goto (tgt := 22) hx hb dX3_share_18 (by decide) ?_
    refine lv_iadd hx hb dX3_share_22 ?_
    exact W.iret hx hb hrt (fun t ht _ => ⟨ret_i hr, ht⟩) noB dX3_share_23 hlk
def f_X4_share (cv : CV) (a2 : Int32) : Option (Int32) := Option.bind (f_X2_share cv a2) fun o1 => Option.bind (f_X0_manyIn ((cG_deed cv) &&& 14336)) fun o2 => some ((o1 / 2) + ((2 : Int32) * o2))
abbrev rm_X4_share : Room := ({ frames := 3, cells := 0, slots := 0, locals := 63 })
theorem cwsu_X4_share {R : Room} {s : State} {args : Array Value} {own : String} {index : Nat} (hts : ∀ w ∈ lw_all, w.before args s = true) (hlink : Cond.methodLink own index yX4_share ∈ lw_all) (hsu : Cond.superclass own RX4 ∈ lw_all) (hsm : Cond.sameMethod RX4 RX4 "share" "(LCoresAreWills$Core;I)I" ∈ lw_all) (hR : rm_X4_share.frames + 1 ≤ R.frames ∧ 8 + (3 + 11) + rm_X4_share.locals ≤ R.locals) : va_CS R s args own index yX4_share cX4_share 3 (some FieldType.int) (ws_ yX4_share cX4_share 3 (some FieldType.int)) rm_X4_share 0 0 2 :=
  va_cwSU 2 hts (lw_SU hlink hsm hsu q722 q106 q723) rfl rfl rfl (by decide +kernel) hR
set_option maxHeartbeats 4000000 in
theorem m_X4_share (l : Launch) (D : va_G) (ax : Nat → Nat) (ac : Nat → ClassId) (b kq fq : Nat) (cv : CV) (th ci : Nat) (Cn : String) (hci : clG[ci]? = some (Cn, T0e, 0)) (a2 : Int32) (r0 : Int32) (hr : f_X4_share cv a2 = some r0) : PM l yX4_share cX4_share 3 (some FieldType.int) rm_X4_share [.ref th, .ref b, .int a2] (RP D ac (wC ax b kq fq ac cv ++ [(th, .inr (ci, []))])) (some (.int r0)) := by
  refine fw_of (by decide) (Nat.le_of_ble_eq_true rfl) ?_
  intro p e s m below meth c ls hx hb hrt hts hown hlk hml _ hU hl
  obtain ⟨hP, hG⟩ := hU
  have hl : lv_has ls 3 [(0, .ref th), (1, .ref b), (2, .int a2)] := hl
  rw [f_X4_share] at hr
  refine lv_aload_n hx hb dX4_share_0 rfl (lv_at hl 0 rfl) ?_
  refine lv_aload_n hx hb dX4_share_1 rfl (lv_at hl 1 rfl) ?_
  refine lv_iload_n hx hb dX4_share_2 rfl (lv_at hl 2 rfl) ?_
  obtain ⟨o1, ho1, hr⟩ := br_bind hr
  refine fwRSU (As := [.ref b, .int a2]) (rest := []) hx hb hml hown hts (m_X2_share l D ax ac b kq fq cv th ci Cn hci a2 o1 ho1) (cwsu_X2_share hts q724 q160 q1583 ⟨Nat.le_of_ble_eq_true rfl, Nat.le_of_ble_eq_true rfl⟩) hG hP hP 3 ci hci rfl rfl hl.1 rfl (Nat.le_of_ble_eq_true rfl) dX4_share_3 ⟨Nat.le_of_ble_eq_true rfl, Nat.le_of_ble_eq_true rfl⟩ ?_
  refine lv_iconst (v := 2) hx hb dX4_share_6 rfl ?_
  refine lv_idiv hx hb dX4_share_7 (by decide) ?_
  refine lv_iconst (v := 2) hx hb dX4_share_8 rfl ?_
  refine lv_aload_n hx hb dX4_share_9 rfl (lv_at hl 1 rfl) ?_
  refine va_getN (D := D) (ci := 7) (v := .int (cG_deed cv)) (C := RX8) (T := TX8) (N := 8) hx hb hts in_X8 hown hG.1 hP 0 rfl rfl 5 (by decide) (va_Nw.use rfl (hG.2.1 _ nq206)) (fun _ h9 => h9) rfl dX4_share_10 ?_
  refine lv_sipush (v := 14336) hx hb dX4_share_13 rfl ?_
  refine lv_iand hx hb dX4_share_16 ?_
  obtain ⟨o2, ho2, hr⟩ := br_bind hr
  refine fwSN (As := [.int ((cG_deed cv) &&& 14336)]) (rest := [.int 2, .int (o1 / 2)]) hx hb hml hown hts (m_X0_manyIn l ((cG_deed cv) &&& 14336) o2 ho2) (cwn_X0_manyIn hts (hG.2.1 _ nq725) ⟨Nat.le_of_ble_eq_true rfl, Nat.le_of_ble_eq_true rfl⟩) rfl hl.1 rfl (Nat.le_of_ble_eq_true rfl) dX4_share_17 ⟨Nat.le_of_ble_eq_true rfl, Nat.le_of_ble_eq_true rfl⟩ ?_
  refine lv_imul hx hb dX4_share_20 ?_
  refine lv_iadd hx hb dX4_share_21 ?_
  exact W.iret hx hb hrt (fun t ht _ => ⟨ret_i hr, ht⟩) noB dX4_share_22 hlk
def f_X5_share (cv : CV) (a2 : Int32) : Option (Int32) := Option.bind (f_X3_share cv a2) fun o1 => some (o1 / 3)
abbrev rm_X5_share : Room := ({ frames := 4, cells := 0, slots := 0, locals := 85 })
set_option maxHeartbeats 4000000 in
theorem m_X5_share (l : Launch) (D : va_G) (ax : Nat → Nat) (ac : Nat → ClassId) (b kq fq : Nat) (cv : CV) (th ci : Nat) (Cn : String) (hci : clG[ci]? = some (Cn, T0e, 0)) (a2 : Int32) (r0 : Int32) (hr : f_X5_share cv a2 = some r0) : PM l yX5_share cX5_share 3 (some FieldType.int) rm_X5_share [.ref th, .ref b, .int a2] (RP D ac (wC ax b kq fq ac cv ++ [(th, .inr (ci, []))])) (some (.int r0)) := by
  refine fw_of (by decide) (Nat.le_of_ble_eq_true rfl) ?_
  intro p e s m below meth c ls hx hb hrt hts hown hlk hml _ hU hl
  obtain ⟨hP, hG⟩ := hU
  have hl : lv_has ls 3 [(0, .ref th), (1, .ref b), (2, .int a2)] := hl
  rw [f_X5_share] at hr
  refine lv_aload_n hx hb dX5_share_0 rfl (lv_at hl 0 rfl) ?_
  refine lv_aload_n hx hb dX5_share_1 rfl (lv_at hl 1 rfl) ?_
  refine lv_iload_n hx hb dX5_share_2 rfl (lv_at hl 2 rfl) ?_
  obtain ⟨o1, ho1, hr⟩ := br_bind hr
  refine fwRSU (As := [.ref b, .int a2]) (rest := []) hx hb hml hown hts (m_X3_share l D ax ac b kq fq cv th ci Cn hci a2 o1 ho1) (cwsu_X3_share hts q729 q167 q1585 ⟨Nat.le_of_ble_eq_true rfl, Nat.le_of_ble_eq_true rfl⟩) hG hP hP 3 ci hci rfl rfl hl.1 rfl (Nat.le_of_ble_eq_true rfl) dX5_share_3 ⟨Nat.le_of_ble_eq_true rfl, Nat.le_of_ble_eq_true rfl⟩ ?_
  refine lv_iconst (v := 3) hx hb dX5_share_6 rfl ?_
  refine lv_idiv hx hb dX5_share_7 (by decide) ?_
  exact W.iret hx hb hrt (fun t ht _ => ⟨ret_i hr, ht⟩) noB dX5_share_8 hlk
def f_X7_share (cv : CV) (a2 : Int32) : Option (Int32) := Option.bind (f_X4_share cv a2) fun o1 => some ((o1 + (cG_pieceMany cv)) - 1)
abbrev rm_X7_share : Room := ({ frames := 4, cells := 0, slots := 0, locals := 85 })
set_option maxHeartbeats 4000000 in
theorem m_X7_share (l : Launch) (D : va_G) (ax : Nat → Nat) (ac : Nat → ClassId) (b kq fq : Nat) (cv : CV) (th ci : Nat) (Cn : String) (hci : clG[ci]? = some (Cn, T0e, 0)) (a2 : Int32) (r0 : Int32) (hr : f_X7_share cv a2 = some r0) : PM l yX7_share cX7_share 3 (some FieldType.int) rm_X7_share [.ref th, .ref b, .int a2] (RP D ac (wC ax b kq fq ac cv ++ [(th, .inr (ci, []))])) (some (.int r0)) := by
  refine fw_of (by decide) (Nat.le_of_ble_eq_true rfl) ?_
  intro p e s m below meth c ls hx hb hrt hts hown hlk hml _ hU hl
  obtain ⟨hP, hG⟩ := hU
  have hl : lv_has ls 3 [(0, .ref th), (1, .ref b), (2, .int a2)] := hl
  rw [f_X7_share] at hr
  refine lv_aload_n hx hb dX7_share_0 rfl (lv_at hl 0 rfl) ?_
  refine lv_aload_n hx hb dX7_share_1 rfl (lv_at hl 1 rfl) ?_
  refine lv_iload_n hx hb dX7_share_2 rfl (lv_at hl 2 rfl) ?_
  obtain ⟨o1, ho1, hr⟩ := br_bind hr
  refine fwRSU (As := [.ref b, .int a2]) (rest := []) hx hb hml hown hts (m_X4_share l D ax ac b kq fq cv th ci Cn hci a2 o1 ho1) (cwsu_X4_share hts q721 q181 q1584 ⟨Nat.le_of_ble_eq_true rfl, Nat.le_of_ble_eq_true rfl⟩) hG hP hP 3 ci hci rfl rfl hl.1 rfl (Nat.le_of_ble_eq_true rfl) dX7_share_3 ⟨Nat.le_of_ble_eq_true rfl, Nat.le_of_ble_eq_true rfl⟩ ?_
  refine lv_aload_n hx hb dX7_share_6 rfl (lv_at hl 1 rfl) ?_
  refine va_getN (D := D) (ci := 7) (v := .int (cG_pieceMany cv)) (C := RX8) (T := TX8) (N := 8) hx hb hts in_X8 hown hG.1 hP 0 rfl rfl 6 (by decide) (va_Nw.use rfl (hG.2.1 _ nq210)) (fun _ h9 => h9) rfl dX7_share_7 ?_
  refine lv_iadd hx hb dX7_share_10 ?_
  refine lv_iconst (v := 1) hx hb dX7_share_11 rfl ?_
  refine lv_isub hx hb dX7_share_12 ?_
  exact W.iret hx hb hrt (fun t ht _ => ⟨ret_i hr, ht⟩) noB dX7_share_13 hlk