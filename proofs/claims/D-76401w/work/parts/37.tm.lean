def f_X15_isGood (cv : CV) (u0 : Int32) : Option (Int32) := some 1
abbrev rm_X15_isGood : Room := ({ frames := 1, cells := 0, slots := 0, locals := 18 })
set_option maxHeartbeats 4000000 in
theorem m_X15_isGood (l : Launch) (D : va_G) (ax : Nat → Nat) (ac : Nat → ClassId) (tq : Nat) (b kq fq : Nat) (cv : CV) (u0 : Int32) (r0 : Int32) (hr : f_X15_isGood cv u0 = some r0) : PM l yX15_isGood cX15_isGood 2 (some FieldType.boolean) rm_X15_isGood [.ref tq, .ref b] (RP D ac ([(tq, wT ax (TL.t15 u0))] ++ wC ax b kq fq ac cv)) (some (.int r0)) := by
  refine fw_of (by decide) (Nat.le_of_ble_eq_true rfl) ?_
  intro p e s m below meth c ls hx hb hrt hts hown hlk hml _ hU hl
  obtain ⟨hP, hG⟩ := hU
  have hl : lv_has ls 2 [(0, .ref tq), (1, .ref b)] := hl
  rw [f_X15_isGood] at hr
  refine lv_iconst (v := 1) hx hb dX15_isGood_0 rfl ?_
  exact W.zret hx hb hrt rfl (fun t ht _ => ⟨ret_i hr, ht⟩) noB dX15_isGood_1 hlk
def f_X15_become (cv : CV) (u0 : Int32) : Option (CV) := Option.bind (some (cS_bitten cv (0 : Int32))) fun cv1 => Option.bind (f_X8_leave cv1 (33554431 : Int32)) fun o2 => some o2
abbrev rm_X15_become : Room := ({ frames := 5, cells := 0, slots := 0, locals := 117 })
set_option maxHeartbeats 4000000 in
theorem m_X15_become (l : Launch) (D : va_G) (ax : Nat → Nat) (ac : Nat → ClassId) (tq : Nat) (b kq fq : Nat) (cv : CV) (u0 : Int32) (sz : Nat) (r0 : CV) (hr : f_X15_become cv u0 = some r0) : WM l yX15_become cX15_become 2 none rm_X15_become [.ref tq, .ref b] D ac ([(tq, wT ax (TL.t15 u0))] ++ wC ax b kq fq ac cv ++ wK ax) ([(tq, wT ax (TL.t15 u0))] ++ wC ax b kq fq ac r0 ++ wK ax) sz none := by
  refine fw_of (by decide) (Nat.le_of_ble_eq_true rfl) ?_
  intro p e s m below meth c ls hx hb hrt hts hown hlk hml _ hU hl
  obtain ⟨rfl, hP, hG, hD⟩ := hU
  have hA : ∀ q : Nat, s.heap.size ≤ q → (va_A ([(tq, wT ax (TL.t15 u0))] ++ wC ax b kq fq ac cv ++ wK ax) s.heap.size) q := fun q h => Or.inr h
  have hS := Stt.start hP hD
  show WW p l e rm_X15_become s m [.ref tq, .ref b] below meth c D ([(tq, wT ax (TL.t15 u0))] ++ wC ax b kq fq ac r0 ++ wK ax) (va_A ([(tq, wT ax (TL.t15 u0))] ++ wC ax b kq fq ac cv ++ wK ax) s.heap.size) none s.heap [] 0 0 0 ls []
  have hl : lv_has ls 2 [(0, .ref tq), (1, .ref b)] := hl
  rw [f_X15_become] at hr
  refine lv_aload_n hx hb dX15_become_0 rfl (lv_at hl 1 rfl) ?_
  refine lv_iconst (v := 0) hx hb dX15_become_1 rfl ?_
  obtain ⟨cv1, hcv1, hr⟩ := br_let hr
  refine fw_putN (D := D) (ci := 7) (x := .int 0) (C := RX8) (T := TX8) (N := 8) hx hb hts in_X8 tyX8 tyX8_ok nmX8 hown hG hS 1 rfl rfl 4 (by decide) (va_Nw.use rfl (hG.2.1 _ nq202)) (fun _ h9 => h9) rfl (tyX8_ok 4 (by decide)) rfl rfl (Nat.le_of_ble_eq_true rfl) dX15_become_2 (wn := [(tq, wT ax (TL.t15 u0))] ++ wC ax b kq fq ac cv1 ++ wK ax) (by rw [hcv1]; rfl) (fun H locs hS => ?_)
  have hP := hS.1
  refine lv_aload_n hx hb dX15_become_5 rfl (lv_at hl 1 rfl) ?_
  refine lv_ldc (v := 33554431) hx hb hown (hts _ q583) dX15_become_6 ?_
  obtain ⟨o2, ho2, hr⟩ := br_bind hr
  refine fwWV (As := [.int 33554431]) (rest := []) (C := RX8) hx hb hml hown hts (m_X8_leave l D ax ac b kq fq cv1 (33554431 : Int32) _ o2 ho2) (cw_X8_leave hts q584 ⟨Nat.le_of_ble_eq_true rfl, Nat.le_of_ble_eq_true rfl⟩) hG hS hA [1, 2, 3] rfl rfl rfl 1 7 rfl rfl rfl hl.1 rfl (Nat.le_of_ble_eq_true rfl) dX15_become_8 ⟨Nat.le_of_ble_eq_true rfl, Nat.le_of_ble_eq_true rfl⟩ (wn := [(tq, wT ax (TL.t15 u0))] ++ wC ax b kq fq ac o2 ++ wK ax) (rfl) (fun H locs hS => ?_)
  have hP := hS.1
  refine lv_pop hx hb dX15_become_11 rfl ?_
  obtain rfl := Option.some.inj hr
  refine W.widen (k := rm_X15_become.cells) (n := rm_X15_become.slots) (Nat.le_of_ble_eq_true rfl) (Nat.le_of_ble_eq_true rfl) ?_
  exact W.vret hx hb hrt (fun t ht _ => hS.q ht rfl) hS.2.2.2.2 dX15_become_12 hlk
def f_X16_isGood (cv : CV) (u0 : Int32) (u1 : Fin 6) (u2 : Int32) : Option (Int32) := if 5 ≤ (cG_heirs cv) then some 0 else some 1
abbrev rm_X16_isGood : Room := ({ frames := 1, cells := 0, slots := 0, locals := 18 })
set_option maxHeartbeats 4000000 in
theorem m_X16_isGood (l : Launch) (D : va_G) (ax : Nat → Nat) (ac : Nat → ClassId) (tq : Nat) (b kq fq : Nat) (cv : CV) (u0 : Int32) (u1 : Fin 6) (u2 : Int32) (r0 : Int32) (hr : f_X16_isGood cv u0 u1 u2 = some r0) : PM l yX16_isGood cX16_isGood 2 (some FieldType.boolean) rm_X16_isGood [.ref tq, .ref b] (RP D ac ([(tq, wT ax (TL.t16 u0 u1 u2))] ++ wC ax b kq fq ac cv)) (some (.int r0)) := by
  refine fw_of (by decide) (Nat.le_of_ble_eq_true rfl) ?_
  intro p e s m below meth c ls hx hb hrt hts hown hlk hml _ hU hl
  obtain ⟨hP, hG⟩ := hU
  have hl : lv_has ls 2 [(0, .ref tq), (1, .ref b)] := hl
  rw [f_X16_isGood] at hr
  refine lv_aload_n hx hb dX16_isGood_0 rfl (lv_at hl 1 rfl) ?_
  refine va_getN (D := D) (ci := 7) (v := .int (cG_heirs cv)) (C := RX8) (T := TX8) (N := 8) hx hb hts in_X8 hown hG.1 hP 1 rfl rfl 1 (by decide) (va_Nw.use rfl (hG.2.1 _ nq194)) (fun _ h9 => h9) rfl dX16_isGood_1 ?_
  refine lv_iconst (v := 5) hx hb dX16_isGood_4 rfl ?_
  have hi1 := br_ite hr
  refine lv_icmp_ge (tgt := 12) hx hb dX16_isGood_5 (by decide) (fun c1 => ?_) (fun c1 => ?_)
  · have hr := hi1.1 c1
    refine lv_iconst (v := 0) hx hb dX16_isGood_12 rfl ?_
    exact W.zret hx hb hrt rfl (fun t ht _ => ⟨ret_i hr, ht⟩) noB dX16_isGood_13 hlk
  · have hr := hi1.2 c1
    refine lv_iconst (v := 1) hx hb dX16_isGood_8 rfl ?_
    refine lv_goto (tgt := 13) hx hb dX16_isGood_9 (by decide) ?_
    exact W.zret hx hb hrt rfl (fun t ht _ => ⟨ret_i hr, ht⟩) noB dX16_isGood_13 hlk
def f_X16_become (cv : CV) (u0 : Int32) (u1 : Fin 6) (u2 : Int32) : Option (CV) := Option.bind (f_X8_comes cv u1 u2) fun o1 => some o1
abbrev rm_X16_become : Room := ({ frames := 2, cells := 0, slots := 0, locals := 41 })
set_option maxHeartbeats 4000000 in
theorem m_X16_become (l : Launch) (D : va_G) (ax : Nat → Nat) (ac : Nat → ClassId) (tq : Nat) (b kq fq : Nat) (cv : CV) (u0 : Int32) (u1 : Fin 6) (u2 : Int32) (sz : Nat) (r0 : CV) (hr : f_X16_become cv u0 u1 u2 = some r0) : WM l yX16_become cX16_become 2 none rm_X16_become [.ref tq, .ref b] D ac ([(tq, wT ax (TL.t16 u0 u1 u2))] ++ wC ax b kq fq ac cv ++ wK ax) ([(tq, wT ax (TL.t16 u0 u1 u2))] ++ wC ax b kq fq ac r0 ++ wK ax) sz none := by
  refine fw_of (by decide) (Nat.le_of_ble_eq_true rfl) ?_
  intro p e s m below meth c ls hx hb hrt hts hown hlk hml _ hU hl
  obtain ⟨rfl, hP, hG, hD⟩ := hU
  have hA : ∀ q : Nat, s.heap.size ≤ q → (va_A ([(tq, wT ax (TL.t16 u0 u1 u2))] ++ wC ax b kq fq ac cv ++ wK ax) s.heap.size) q := fun q h => Or.inr h
  have hS := Stt.start hP hD
  show WW p l e rm_X16_become s m [.ref tq, .ref b] below meth c D ([(tq, wT ax (TL.t16 u0 u1 u2))] ++ wC ax b kq fq ac r0 ++ wK ax) (va_A ([(tq, wT ax (TL.t16 u0 u1 u2))] ++ wC ax b kq fq ac cv ++ wK ax) s.heap.size) none s.heap [] 0 0 0 ls []
  have hl : lv_has ls 2 [(0, .ref tq), (1, .ref b)] := hl
  rw [f_X16_become] at hr
  refine lv_aload_n hx hb dX16_become_0 rfl (lv_at hl 1 rfl) ?_
  refine lv_aload_n hx hb dX16_become_1 rfl (lv_at hl 0 rfl) ?_
  refine va_get (D := D) (ci := 13) (v := .ref (ax (11 + u1.val))) (C := RX16) (T := TX16) (N := 3) hx hb hts in_X16 hown hG.1 hP 0 rfl rfl 1 (by decide) (hts _ q478) (fun _ h9 => h9) rfl dX16_become_2 ?_
  refine lv_aload_n hx hb dX16_become_5 rfl (lv_at hl 0 rfl) ?_
  refine va_get (D := D) (ci := 13) (v := .int u2) (C := RX16) (T := TX16) (N := 3) hx hb hts in_X16 hown hG.1 hP 0 rfl rfl 2 (by decide) (hts _ q479) (fun _ h9 => h9) rfl dX16_become_6 ?_
  obtain ⟨o1, ho1, hr⟩ := br_bind hr
  refine fwWV (As := [.ref (ax (11 + u1.val)), .int u2]) (rest := []) (C := RX8) hx hb hml hown hts (m_X8_comes l D ax ac b kq fq cv u1 u2 _ o1 ho1) (cw_X8_comes hts q625 ⟨Nat.le_of_ble_eq_true rfl, Nat.le_of_ble_eq_true rfl⟩) hG hS hA [1, 2, 3, 4, 5, 6, 7, 8, 9] rfl rfl rfl 1 7 rfl rfl rfl hl.1 rfl (Nat.le_of_ble_eq_true rfl) dX16_become_9 ⟨Nat.le_of_ble_eq_true rfl, Nat.le_of_ble_eq_true rfl⟩ (wn := [(tq, wT ax (TL.t16 u0 u1 u2))] ++ wC ax b kq fq ac o1 ++ wK ax) (rfl) (fun H locs hS => ?_)
  have hP := hS.1
  obtain rfl := Option.some.inj hr
  refine W.widen (k := rm_X16_become.cells) (n := rm_X16_become.slots) (Nat.le_of_ble_eq_true rfl) (Nat.le_of_ble_eq_true rfl) ?_
  exact W.vret hx hb hrt (fun t ht _ => hS.q ht rfl) hS.2.2.2.2 dX16_become_12 hlk
def f_X17_isGood (cv : CV) (u0 : Int32) (u1 : Int32) : Option (Int32) := if 25 ≤ u1 then some 0 else some 1
abbrev rm_X17_isGood : Room := ({ frames := 1, cells := 0, slots := 0, locals := 18 })
set_option maxHeartbeats 4000000 in
theorem m_X17_isGood (l : Launch) (D : va_G) (ax : Nat → Nat) (ac : Nat → ClassId) (tq : Nat) (b kq fq : Nat) (cv : CV) (u0 : Int32) (u1 : Int32) (r0 : Int32) (hr : f_X17_isGood cv u0 u1 = some r0) : PM l yX17_isGood cX17_isGood 2 (some FieldType.boolean) rm_X17_isGood [.ref tq, .ref b] (RP D ac ([(tq, wT ax (TL.t17 u0 u1))] ++ wC ax b kq fq ac cv)) (some (.int r0)) := by
  refine fw_of (by decide) (Nat.le_of_ble_eq_true rfl) ?_
  intro p e s m below meth c ls hx hb hrt hts hown hlk hml _ hU hl
  obtain ⟨hP, hG⟩ := hU
  have hl : lv_has ls 2 [(0, .ref tq), (1, .ref b)] := hl
  rw [f_X17_isGood] at hr
  refine lv_aload_n hx hb dX17_isGood_0 rfl (lv_at hl 0 rfl) ?_
  refine va_get (D := D) (ci := 14) (v := .int u1) (C := RX17) (T := TX17) (N := 2) hx hb hts in_X17 hown hG.1 hP 0 rfl rfl 1 (by decide) (hts _ q500) (fun _ h9 => h9) rfl dX17_isGood_1 ?_
  refine lv_bipush (v := 25) hx hb dX17_isGood_4 rfl ?_
  have hi1 := br_ite hr
  refine lv_icmp_ge (tgt := 13) hx hb dX17_isGood_6 (by decide) (fun c1 => ?_) (fun c1 => ?_)
  · have hr := hi1.1 c1
    refine lv_iconst (v := 0) hx hb dX17_isGood_13 rfl ?_
    exact W.zret hx hb hrt rfl (fun t ht _ => ⟨ret_i hr, ht⟩) noB dX17_isGood_14 hlk
  · have hr := hi1.2 c1
    refine lv_iconst (v := 1) hx hb dX17_isGood_9 rfl ?_
    refine lv_goto (tgt := 14) hx hb dX17_isGood_10 (by decide) ?_
    exact W.zret hx hb hrt rfl (fun t ht _ => ⟨ret_i hr, ht⟩) noB dX17_isGood_14 hlk
def f_X17_become (cv : CV) (u0 : Int32) (u1 : Int32) : Option (CV) := Option.bind (f_X8_leave cv ((cG_left cv) ||| ((1 : Int32) <<< (u1 &&& 31)))) fun o1 => some o1
abbrev rm_X17_become : Room := ({ frames := 5, cells := 0, slots := 0, locals := 117 })
set_option maxHeartbeats 4000000 in
theorem m_X17_become (l : Launch) (D : va_G) (ax : Nat → Nat) (ac : Nat → ClassId) (tq : Nat) (b kq fq : Nat) (cv : CV) (u0 : Int32) (u1 : Int32) (sz : Nat) (r0 : CV) (hr : f_X17_become cv u0 u1 = some r0) : WM l yX17_become cX17_become 2 none rm_X17_become [.ref tq, .ref b] D ac ([(tq, wT ax (TL.t17 u0 u1))] ++ wC ax b kq fq ac cv ++ wK ax) ([(tq, wT ax (TL.t17 u0 u1))] ++ wC ax b kq fq ac r0 ++ wK ax) sz none := by
  refine fw_of (by decide) (Nat.le_of_ble_eq_true rfl) ?_
  intro p e s m below meth c ls hx hb hrt hts hown hlk hml _ hU hl
  obtain ⟨rfl, hP, hG, hD⟩ := hU
  have hA : ∀ q : Nat, s.heap.size ≤ q → (va_A ([(tq, wT ax (TL.t17 u0 u1))] ++ wC ax b kq fq ac cv ++ wK ax) s.heap.size) q := fun q h => Or.inr h
  have hS := Stt.start hP hD
  show WW p l e rm_X17_become s m [.ref tq, .ref b] below meth c D ([(tq, wT ax (TL.t17 u0 u1))] ++ wC ax b kq fq ac r0 ++ wK ax) (va_A ([(tq, wT ax (TL.t17 u0 u1))] ++ wC ax b kq fq ac cv ++ wK ax) s.heap.size) none s.heap [] 0 0 0 ls []
  have hl : lv_has ls 2 [(0, .ref tq), (1, .ref b)] := hl
  rw [f_X17_become] at hr
  refine lv_aload_n hx hb dX17_become_0 rfl (lv_at hl 1 rfl) ?_
  refine lv_aload_n hx hb dX17_become_1 rfl (lv_at hl 1 rfl) ?_
  refine va_getN (D := D) (ci := 7) (v := .int (cG_left cv)) (C := RX8) (T := TX8) (N := 8) hx hb hts in_X8 hown hG.1 hP 1 rfl rfl 0 (by decide) (va_Nw.use rfl (hG.2.1 _ nq191)) (fun _ h9 => h9) rfl dX17_become_2 ?_
  refine lv_iconst (v := 1) hx hb dX17_become_5 rfl ?_
  refine lv_aload_n hx hb dX17_become_6 rfl (lv_at hl 0 rfl) ?_
  refine va_get (D := D) (ci := 14) (v := .int u1) (C := RX17) (T := TX17) (N := 2) hx hb hts in_X17 hown hG.1 hP 0 rfl rfl 1 (by decide) (hts _ q500) (fun _ h9 => h9) rfl dX17_become_7 ?_
  refine lv_ishl hx hb dX17_become_10 ?_
  refine lv_ior hx hb dX17_become_11 ?_
  obtain ⟨o1, ho1, hr⟩ := br_bind hr
  refine fwWV (As := [.int ((cG_left cv) ||| ((1 : Int32) <<< (u1 &&& 31)))]) (rest := []) (C := RX8) hx hb hml hown hts (m_X8_leave l D ax ac b kq fq cv ((cG_left cv) ||| ((1 : Int32) <<< (u1 &&& 31))) _ o1 ho1) (cw_X8_leave hts q621 ⟨Nat.le_of_ble_eq_true rfl, Nat.le_of_ble_eq_true rfl⟩) hG hS hA [1, 2, 3] rfl rfl rfl 1 7 rfl rfl rfl hl.1 rfl (Nat.le_of_ble_eq_true rfl) dX17_become_12 ⟨Nat.le_of_ble_eq_true rfl, Nat.le_of_ble_eq_true rfl⟩ (wn := [(tq, wT ax (TL.t17 u0 u1))] ++ wC ax b kq fq ac o1 ++ wK ax) (rfl) (fun H locs hS => ?_)
  have hP := hS.1
  refine lv_pop hx hb dX17_become_15 rfl ?_
  obtain rfl := Option.some.inj hr
  refine W.widen (k := rm_X17_become.cells) (n := rm_X17_become.slots) (Nat.le_of_ble_eq_true rfl) (Nat.le_of_ble_eq_true rfl) ?_
  exact W.vret hx hb hrt (fun t ht _ => hS.q ht rfl) hS.2.2.2.2 dX17_become_16 hlk
def f_X18_isGood (cv : CV) (u0 : Int32) (u1 : Int32) : Option (Int32) := Option.bind (f_X0_in (Int32.toInt64 u1) (1 : Int64) (3 : Int64)) fun o1 => rz o1
abbrev rm_X18_isGood : Room := ({ frames := 2, cells := 0, slots := 0, locals := 47 })
set_option maxHeartbeats 4000000 in
theorem m_X18_isGood (l : Launch) (D : va_G) (ax : Nat → Nat) (ac : Nat → ClassId) (tq : Nat) (b kq fq : Nat) (cv : CV) (u0 : Int32) (u1 : Int32) (r0 : Int32) (hr : f_X18_isGood cv u0 u1 = some r0) : PM l yX18_isGood cX18_isGood 2 (some FieldType.boolean) rm_X18_isGood [.ref tq, .ref b] (RP D ac ([(tq, wT ax (TL.t18 u0 u1))] ++ wC ax b kq fq ac cv)) (some (.int r0)) := by
  refine fw_of (by decide) (Nat.le_of_ble_eq_true rfl) ?_
  intro p e s m below meth c ls hx hb hrt hts hown hlk hml _ hU hl
  obtain ⟨hP, hG⟩ := hU
  have hl : lv_has ls 2 [(0, .ref tq), (1, .ref b)] := hl
  rw [f_X18_isGood] at hr
  refine lv_aload_n hx hb dX18_isGood_0 rfl (lv_at hl 0 rfl) ?_
  refine va_get (D := D) (ci := 15) (v := .int u1) (C := RX18) (T := TX18) (N := 2) hx hb hts in_X18 hown hG.1 hP 0 rfl rfl 1 (by decide) (hts _ q511) (fun _ h9 => h9) rfl dX18_isGood_1 ?_
  refine lv_i2l (v := (Int32.toInt64 u1)) hx hb dX18_isGood_4 rfl ?_
  refine lv_lconst (v := 1) hx hb dX18_isGood_5 rfl ?_
  refine lv_ldc2 (v := 3) hx hb hown (hts _ q575) dX18_isGood_6 ?_
  obtain ⟨o1, ho1, hr⟩ := br_bind hr
  refine fwSN (As := [.long (Int32.toInt64 u1), .long 1, .long 3]) (rest := []) hx hb hml hown hts (m_X0_in l (Int32.toInt64 u1) (1 : Int64) (3 : Int64) o1 ho1) (cwn_X0_in hts (hG.2.1 _ nq576) ⟨Nat.le_of_ble_eq_true rfl, Nat.le_of_ble_eq_true rfl⟩) rfl hl.1 rfl (Nat.le_of_ble_eq_true rfl) dX18_isGood_9 ⟨Nat.le_of_ble_eq_true rfl, Nat.le_of_ble_eq_true rfl⟩ ?_
  obtain ⟨hz, hr⟩ := rz_n hr
  exact W.zret hx hb hrt hz (fun t ht _ => ⟨ret_i hr, ht⟩) noB dX18_isGood_12 hlk
def f_X18_become (cv : CV) (u0 : Int32) (u1 : Int32) : Option (CV) := Option.bind (f_X8_roll cv u1) fun o1 => some o1
abbrev rm_X18_become : Room := ({ frames := 6, cells := 0, slots := 0, locals := 140 })
set_option maxHeartbeats 4000000 in
theorem m_X18_become (l : Launch) (D : va_G) (ax : Nat → Nat) (ac : Nat → ClassId) (tq : Nat) (b kq fq : Nat) (cv : CV) (u0 : Int32) (u1 : Int32) (sz : Nat) (r0 : CV) (hr : f_X18_become cv u0 u1 = some r0) : WM l yX18_become cX18_become 2 none rm_X18_become [.ref tq, .ref b] D ac ([(tq, wT ax (TL.t18 u0 u1))] ++ wC ax b kq fq ac cv ++ wK ax) ([(tq, wT ax (TL.t18 u0 u1))] ++ wC ax b kq fq ac r0 ++ wK ax) sz none := by
  refine fw_of (by decide) (Nat.le_of_ble_eq_true rfl) ?_
  intro p e s m below meth c ls hx hb hrt hts hown hlk hml _ hU hl
  obtain ⟨rfl, hP, hG, hD⟩ := hU
  have hA : ∀ q : Nat, s.heap.size ≤ q → (va_A ([(tq, wT ax (TL.t18 u0 u1))] ++ wC ax b kq fq ac cv ++ wK ax) s.heap.size) q := fun q h => Or.inr h
  have hS := Stt.start hP hD
  show WW p l e rm_X18_become s m [.ref tq, .ref b] below meth c D ([(tq, wT ax (TL.t18 u0 u1))] ++ wC ax b kq fq ac r0 ++ wK ax) (va_A ([(tq, wT ax (TL.t18 u0 u1))] ++ wC ax b kq fq ac cv ++ wK ax) s.heap.size) none s.heap [] 0 0 0 ls []
  have hl : lv_has ls 2 [(0, .ref tq), (1, .ref b)] := hl
  rw [f_X18_become] at hr
  refine lv_aload_n hx hb dX18_become_0 rfl (lv_at hl 1 rfl) ?_
  refine lv_aload_n hx hb dX18_become_1 rfl (lv_at hl 0 rfl) ?_
  refine va_get (D := D) (ci := 15) (v := .int u1) (C := RX18) (T := TX18) (N := 2) hx hb hts in_X18 hown hG.1 hP 0 rfl rfl 1 (by decide) (hts _ q511) (fun _ h9 => h9) rfl dX18_become_2 ?_
  obtain ⟨o1, ho1, hr⟩ := br_bind hr
  refine fwWV (As := [.int u1]) (rest := []) (C := RX8) hx hb hml hown hts (m_X8_roll l D ax ac b kq fq cv u1 _ o1 ho1) (cw_X8_roll hts q632 ⟨Nat.le_of_ble_eq_true rfl, Nat.le_of_ble_eq_true rfl⟩) hG hS hA [1, 2, 3] rfl rfl rfl 1 7 rfl rfl rfl hl.1 rfl (Nat.le_of_ble_eq_true rfl) dX18_become_5 ⟨Nat.le_of_ble_eq_true rfl, Nat.le_of_ble_eq_true rfl⟩ (wn := [(tq, wT ax (TL.t18 u0 u1))] ++ wC ax b kq fq ac o1 ++ wK ax) (rfl) (fun H locs hS => ?_)
  have hP := hS.1
  obtain rfl := Option.some.inj hr
  refine W.widen (k := rm_X18_become.cells) (n := rm_X18_become.slots) (Nat.le_of_ble_eq_true rfl) (Nat.le_of_ble_eq_true rfl) ?_
  exact W.vret hx hb hrt (fun t ht _ => hS.q ht rfl) hS.2.2.2.2 dX18_become_8 hlk
def f_X19_isGood (cv : CV) (u0 : Int32) (u1 : Int32) (u2 : Int32) : Option (Int32) := if 4 ≤ u1 then some 0 else if 25 ≤ u2 then some 0 else Option.bind (f_X8_canBite cv u1 u2) fun o3 => if o3 = 0 then some 0 else some 1
abbrev rm_X19_isGood : Room := ({ frames := 3, cells := 0, slots := 0, locals := 68 })
set_option maxHeartbeats 4000000 in
theorem m_X19_isGood (l : Launch) (D : va_G) (ax : Nat → Nat) (ac : Nat → ClassId) (tq : Nat) (b kq fq : Nat) (cv : CV) (u0 : Int32) (u1 : Int32) (u2 : Int32) (r0 : Int32) (hr : f_X19_isGood cv u0 u1 u2 = some r0) : PM l yX19_isGood cX19_isGood 2 (some FieldType.boolean) rm_X19_isGood [.ref tq, .ref b] (RP D ac ([(tq, wT ax (TL.t19 u0 u1 u2))] ++ wC ax b kq fq ac cv)) (some (.int r0)) := by
  refine fw_of (by decide) (Nat.le_of_ble_eq_true rfl) ?_
  intro p e s m below meth c ls hx hb hrt hts hown hlk hml _ hU hl
  obtain ⟨hP, hG⟩ := hU
  have hl : lv_has ls 2 [(0, .ref tq), (1, .ref b)] := hl
  rw [f_X19_isGood] at hr
  refine lv_aload_n hx hb dX19_isGood_0 rfl (lv_at hl 0 rfl) ?_
  refine va_get (D := D) (ci := 16) (v := .int u1) (C := RX19) (T := TX19) (N := 3) hx hb hts in_X19 hown hG.1 hP 0 rfl rfl 1 (by decide) (hts _ q522) (fun _ h9 => h9) rfl dX19_isGood_1 ?_
  refine lv_iconst (v := 4) hx hb dX19_isGood_4 rfl ?_
  have hi1 := br_ite hr
  refine lv_icmp_ge (tgt := 36) hx hb dX19_isGood_5 (by decide) (fun c1 => ?_) (fun c1 => ?_)
  · have hr := hi1.1 c1
    refine lv_iconst (v := 0) hx hb dX19_isGood_36 rfl ?_
    exact W.zret hx hb hrt rfl (fun t ht _ => ⟨ret_i hr, ht⟩) noB dX19_isGood_37 hlk
  · have hr := hi1.2 c1
    refine lv_aload_n hx hb dX19_isGood_8 rfl (lv_at hl 0 rfl) ?_
    refine va_get (D := D) (ci := 16) (v := .int u2) (C := RX19) (T := TX19) (N := 3) hx hb hts in_X19 hown hG.1 hP 0 rfl rfl 2 (by decide) (hts _ q523) (fun _ h9 => h9) rfl dX19_isGood_9 ?_
    refine lv_bipush (v := 25) hx hb dX19_isGood_12 rfl ?_
    have hi2 := br_ite hr
    refine lv_icmp_ge (tgt := 36) hx hb dX19_isGood_14 (by decide) (fun c2 => ?_) (fun c2 => ?_)
    · have hr := hi2.1 c2
      refine lv_iconst (v := 0) hx hb dX19_isGood_36 rfl ?_
      exact W.zret hx hb hrt rfl (fun t ht _ => ⟨ret_i hr, ht⟩) noB dX19_isGood_37 hlk
    · have hr := hi2.2 c2
      refine lv_aload_n hx hb dX19_isGood_17 rfl (lv_at hl 1 rfl) ?_
      refine lv_aload_n hx hb dX19_isGood_18 rfl (lv_at hl 0 rfl) ?_
      refine va_get (D := D) (ci := 16) (v := .int u1) (C := RX19) (T := TX19) (N := 3) hx hb hts in_X19 hown hG.1 hP 0 rfl rfl 1 (by decide) (hts _ q522) (fun _ h9 => h9) rfl dX19_isGood_19 ?_
      refine lv_aload_n hx hb dX19_isGood_22 rfl (lv_at hl 0 rfl) ?_
      refine va_get (D := D) (ci := 16) (v := .int u2) (C := RX19) (T := TX19) (N := 3) hx hb hts in_X19 hown hG.1 hP 0 rfl rfl 2 (by decide) (hts _ q523) (fun _ h9 => h9) rfl dX19_isGood_23 ?_
      obtain ⟨o3, ho3, hr⟩ := br_bind hr
      refine fwRV (As := [.int u1, .int u2]) (rest := []) (C := RX8) hx hb hml hown hts (m_X8_canBite l D ax ac b kq fq cv u1 u2 o3 ho3) (cw_X8_canBite hts q559 ⟨Nat.le_of_ble_eq_true rfl, Nat.le_of_ble_eq_true rfl⟩) hG hP (hP.pick [1, 2, 3] rfl) 1 7 rfl rfl rfl hl.1 rfl (Nat.le_of_ble_eq_true rfl) dX19_isGood_26 ⟨Nat.le_of_ble_eq_true rfl, Nat.le_of_ble_eq_true rfl⟩ ?_
      have hi4 := br_ite hr
      refine lv_if_eq (tgt := 36) hx hb dX19_isGood_29 (by decide) (fun c4 => ?_) (fun c4 => ?_)
      · have hr := hi4.1 c4
        refine lv_iconst (v := 0) hx hb dX19_isGood_36 rfl ?_
        exact W.zret hx hb hrt rfl (fun t ht _ => ⟨ret_i hr, ht⟩) noB dX19_isGood_37 hlk
      · have hr := hi4.2 c4
        refine lv_iconst (v := 1) hx hb dX19_isGood_32 rfl ?_
        refine lv_goto (tgt := 37) hx hb dX19_isGood_33 (by decide) ?_
        exact W.zret hx hb hrt rfl (fun t ht _ => ⟨ret_i hr, ht⟩) noB dX19_isGood_37 hlk
def f_X19_become (cv : CV) (u0 : Int32) (u1 : Int32) (u2 : Int32) : Option (CV) := Option.bind (f_X8_bite cv u1 u2) fun o1 => some o1
abbrev rm_X19_become : Room := ({ frames := 6, cells := 0, slots := 0, locals := 139 })
set_option maxHeartbeats 4000000 in
theorem m_X19_become (l : Launch) (D : va_G) (ax : Nat → Nat) (ac : Nat → ClassId) (tq : Nat) (b kq fq : Nat) (cv : CV) (u0 : Int32) (u1 : Int32) (u2 : Int32) (sz : Nat) (r0 : CV) (hr : f_X19_become cv u0 u1 u2 = some r0) : WM l yX19_become cX19_become 2 none rm_X19_become [.ref tq, .ref b] D ac ([(tq, wT ax (TL.t19 u0 u1 u2))] ++ wC ax b kq fq ac cv ++ wK ax) ([(tq, wT ax (TL.t19 u0 u1 u2))] ++ wC ax b kq fq ac r0 ++ wK ax) sz none := by
  refine fw_of (by decide) (Nat.le_of_ble_eq_true rfl) ?_
  intro p e s m below meth c ls hx hb hrt hts hown hlk hml _ hU hl
  obtain ⟨rfl, hP, hG, hD⟩ := hU
  have hA : ∀ q : Nat, s.heap.size ≤ q → (va_A ([(tq, wT ax (TL.t19 u0 u1 u2))] ++ wC ax b kq fq ac cv ++ wK ax) s.heap.size) q := fun q h => Or.inr h
  have hS := Stt.start hP hD
  show WW p l e rm_X19_become s m [.ref tq, .ref b] below meth c D ([(tq, wT ax (TL.t19 u0 u1 u2))] ++ wC ax b kq fq ac r0 ++ wK ax) (va_A ([(tq, wT ax (TL.t19 u0 u1 u2))] ++ wC ax b kq fq ac cv ++ wK ax) s.heap.size) none s.heap [] 0 0 0 ls []
  have hl : lv_has ls 2 [(0, .ref tq), (1, .ref b)] := hl
  rw [f_X19_become] at hr
  refine lv_aload_n hx hb dX19_become_0 rfl (lv_at hl 1 rfl) ?_
  refine lv_aload_n hx hb dX19_become_1 rfl (lv_at hl 0 rfl) ?_
  refine va_get (D := D) (ci := 16) (v := .int u1) (C := RX19) (T := TX19) (N := 3) hx hb hts in_X19 hown hG.1 hP 0 rfl rfl 1 (by decide) (hts _ q522) (fun _ h9 => h9) rfl dX19_become_2 ?_
  refine lv_aload_n hx hb dX19_become_5 rfl (lv_at hl 0 rfl) ?_
  refine va_get (D := D) (ci := 16) (v := .int u2) (C := RX19) (T := TX19) (N := 3) hx hb hts in_X19 hown hG.1 hP 0 rfl rfl 2 (by decide) (hts _ q523) (fun _ h9 => h9) rfl dX19_become_6 ?_
  obtain ⟨o1, ho1, hr⟩ := br_bind hr
  refine fwWV (As := [.int u1, .int u2]) (rest := []) (C := RX8) hx hb hml hown hts (m_X8_bite l D ax ac b kq fq cv u1 u2 _ o1 ho1) (cw_X8_bite hts q613 ⟨Nat.le_of_ble_eq_true rfl, Nat.le_of_ble_eq_true rfl⟩) hG hS hA [1, 2, 3] rfl rfl rfl 1 7 rfl rfl rfl hl.1 rfl (Nat.le_of_ble_eq_true rfl) dX19_become_9 ⟨Nat.le_of_ble_eq_true rfl, Nat.le_of_ble_eq_true rfl⟩ (wn := [(tq, wT ax (TL.t19 u0 u1 u2))] ++ wC ax b kq fq ac o1 ++ wK ax) (rfl) (fun H locs hS => ?_)
  have hP := hS.1
  obtain rfl := Option.some.inj hr
  refine W.widen (k := rm_X19_become.cells) (n := rm_X19_become.slots) (Nat.le_of_ble_eq_true rfl) (Nat.le_of_ble_eq_true rfl) ?_
  exact W.vret hx hb hrt (fun t ht _ => hS.q ht rfl) hS.2.2.2.2 dX19_become_12 hlk
def f_T_isGood (tl : TL) (cv : CV) : Option (Int32) := match tl with
  | (0, u0, _, _, _) => f_X15_isGood cv u0
  | (1, u0, u1, u2, _) => f_X16_isGood cv u0 u1 u2
  | (2, u0, _, u1, _) => f_X17_isGood cv u0 u1
  | (3, u0, _, u1, _) => f_X18_isGood cv u0 u1
  | (4, u0, _, u1, u2) => f_X19_isGood cv u0 u1 u2
def f_T_become (tl : TL) (cv : CV) : Option (CV) := match tl with
  | (0, u0, _, _, _) => f_X15_become cv u0
  | (1, u0, u1, u2, _) => f_X16_become cv u0 u1 u2
  | (2, u0, _, u1, _) => f_X17_become cv u0 u1
  | (3, u0, _, u1, _) => f_X18_become cv u0 u1
  | (4, u0, _, u1, u2) => f_X19_become cv u0 u1 u2
theorem fw_isGood {p : Program} {l : Launch} {e : Env} {R : Room} {s : State} {m : MethodId} {args : Array Value} {below : List Frame} {meth : Method} {c : Code} {H : Heap} {locs : List Loc} {cells slots : Nat} {Q : State → Prop} {ls : Array Slot} {cc : ByteArray} {nL index pc : Nat} {own : String} {D : va_G} {ac : Nat → ClassId} {ax : Nat → Nat} {rest : List Value} {b kq fq tq : Nat} {cv : CV} {tl : TL} (hx : p.tables.exec = Jvm.exec) (hb : c.code = cc) (hml : c.maxLocals = nL) (hown : s.vm.findClass own = some m.cls) (hts : ∀ w ∈ lw_all, w.before args s = true) (hlink : Cond.methodLink own index ⟨"CoresAreWills$Told", "isGood", "(LCoresAreWills$Core;)Z"⟩ ∈ lw_all) (hG : GK D ac s) (hPt : va_P D clG [(tq, wT ax tl)] H) (hPc : va_P D clG (wC ax b kq fq ac cv) H) {r : Int32} (hr : f_T_isGood tl cv = some r) (hsize : ls.size = nL) (hW : (rest.map fun v => v.category).sum ≤ 8) (hF : 12 ≤ R.frames) (hL : 500 ≤ R.locals) (hdg : decode cc pc = .ok (.invokevirtual index, 3)) (hf : cells ≤ R.cells ∧ slots ≤ R.slots)
    (kk : W p l e R s m args below meth c H locs cells slots Q (F0 m (pc + 3) ls (.int r :: rest))) : W p l e R s m args below meth c H locs cells slots Q (F0 m pc ls (.ref b :: .ref tq :: rest)) := by
  match tl, hPt, hr with
  | (0, u0, _, _, _), hPt, hr => exact fwRU (As := [.ref b]) (rest := rest) (C := RX15) hx hb hml hown hts (m_X15_isGood l D ax ac tq b kq fq cv u0 r hr) (va_cwA 1 hts (lw_U hlink q552 q553 q554 q120 q555) rfl rfl rfl (hG.2.1 _ nq551) (by decide +kernel) ⟨Nat.le_trans (Nat.le_of_ble_eq_true rfl) hF, Nat.le_trans (Nat.le_of_ble_eq_true rfl) hL⟩) hG hPt (hPt.app hPc) 0 12 rfl rfl rfl hsize rfl hW hdg hf kk
  | (1, u0, u1, u2, _), hPt, hr => exact fwRU (As := [.ref b]) (rest := rest) (C := RX16) hx hb hml hown hts (m_X16_isGood l D ax ac tq b kq fq cv u0 u1 u2 r hr) (va_cwA 1 hts (lw_U hlink q552 q569 q570 q121 q571) rfl rfl rfl (hG.2.1 _ nq551) (by decide +kernel) ⟨Nat.le_trans (Nat.le_of_ble_eq_true rfl) hF, Nat.le_trans (Nat.le_of_ble_eq_true rfl) hL⟩) hG hPt (hPt.app hPc) 0 13 rfl rfl rfl hsize rfl hW hdg hf kk
  | (2, u0, _, u1, _), hPt, hr => exact fwRU (As := [.ref b]) (rest := rest) (C := RX17) hx hb hml hown hts (m_X17_isGood l D ax ac tq b kq fq cv u0 u1 r hr) (va_cwA 1 hts (lw_U hlink q552 q566 q567 q122 q568) rfl rfl rfl (hG.2.1 _ nq551) (by decide +kernel) ⟨Nat.le_trans (Nat.le_of_ble_eq_true rfl) hF, Nat.le_trans (Nat.le_of_ble_eq_true rfl) hL⟩) hG hPt (hPt.app hPc) 0 14 rfl rfl rfl hsize rfl hW hdg hf kk
  | (3, u0, _, u1, _), hPt, hr => exact fwRU (As := [.ref b]) (rest := rest) (C := RX18) hx hb hml hown hts (m_X18_isGood l D ax ac tq b kq fq cv u0 u1 r hr) (va_cwA 1 hts (lw_U hlink q552 q572 q573 q123 q574) rfl rfl rfl (hG.2.1 _ nq551) (by decide +kernel) ⟨Nat.le_trans (Nat.le_of_ble_eq_true rfl) hF, Nat.le_trans (Nat.le_of_ble_eq_true rfl) hL⟩) hG hPt (hPt.app hPc) 0 15 rfl rfl rfl hsize rfl hW hdg hf kk
  | (4, u0, _, u1, u2), hPt, hr => exact fwRU (As := [.ref b]) (rest := rest) (C := RX19) hx hb hml hown hts (m_X19_isGood l D ax ac tq b kq fq cv u0 u1 u2 r hr) (va_cwA 1 hts (lw_U hlink q552 q556 q557 q124 q558) rfl rfl rfl (hG.2.1 _ nq551) (by decide +kernel) ⟨Nat.le_trans (Nat.le_of_ble_eq_true rfl) hF, Nat.le_trans (Nat.le_of_ble_eq_true rfl) hL⟩) hG hPt (hPt.app hPc) 0 16 rfl rfl rfl hsize rfl hW hdg hf kk
theorem fw_become {A0 : Nat → Prop} {H0 : Heap} {p : Program} {l : Launch} {e : Env} {R : Room} {s : State} {m : MethodId} {args : Array Value} {below : List Frame} {meth : Method} {c : Code} {H : Heap} {locs : List Loc} {cells slots : Nat} {Q : State → Prop} {ls : Array Slot} {cc : ByteArray} {nL index pc : Nat} {own : String} {D : va_G} {ac : Nat → ClassId} {ax : Nat → Nat} {rest : List Value} {b kq fq tq : Nat} {cv : CV} {tl : TL} (hx : p.tables.exec = Jvm.exec) (hb : c.code = cc) (hml : c.maxLocals = nL) (hown : s.vm.findClass own = some m.cls) (hts : ∀ w ∈ lw_all, w.before args s = true) (hlink : Cond.methodLink own index ⟨"CoresAreWills$Told", "become", "(LCoresAreWills$Core;)V"⟩ ∈ lw_all) (hG : GK D ac s) (hS : Stt D A0 H0 ([(tq, wT ax tl)] ++ wC ax b kq fq ac cv ++ wK ax) H locs) (hA : ∀ q, H0.size ≤ q → A0 q) {r : CV} (hr : f_T_become tl cv = some r) (hsize : ls.size = nL) (hW : (rest.map fun v => v.category).sum ≤ 8) (hF : 12 ≤ R.frames) (hL : 500 ≤ R.locals) (hdg : decode cc pc = .ok (.invokevirtual index, 3)) (hf : cells ≤ R.cells ∧ slots ≤ R.slots)
    (kk : ∀ (H1 : Heap) (locs1 : List Loc), Stt D A0 H0 ([(tq, wT ax tl)] ++ wC ax b kq fq ac r ++ wK ax) H1 locs1 → W p l e R s m args below meth c H1 locs1 cells slots Q (F0 m (pc + 3) ls rest)) : W p l e R s m args below meth c H locs cells slots Q (F0 m pc ls (.ref b :: .ref tq :: rest)) := by
  match tl, hS, kk, hr with
  | (0, u0, _, _, _), hS, kk, hr => exact fwWU (As := [.ref b]) (rest := rest) (C := RX15) hx hb hml hown hts (m_X15_become l D ax ac tq b kq fq cv u0 _ r hr) (va_cwA 1 hts (lw_U hlink q579 q580 q581 q120 q582) rfl rfl rfl (hG.2.1 _ nq578) (by decide +kernel) ⟨Nat.le_trans (Nat.le_of_ble_eq_true rfl) hF, Nat.le_trans (Nat.le_of_ble_eq_true rfl) hL⟩) hG hS hA (List.range' 0 10) rfl (pk_all _) rfl 0 12 rfl rfl rfl hsize rfl hW hdg hf (rep_all ([(tq, wT ax (TL.t15 u0))] ++ wC ax b kq fq ac r ++ wK ax) _ (by rfl)) kk
  | (1, u0, u1, u2, _), hS, kk, hr => exact fwWU (As := [.ref b]) (rest := rest) (C := RX16) hx hb hml hown hts (m_X16_become l D ax ac tq b kq fq cv u0 u1 u2 _ r hr) (va_cwA 1 hts (lw_U hlink q579 q622 q623 q121 q624) rfl rfl rfl (hG.2.1 _ nq578) (by decide +kernel) ⟨Nat.le_trans (Nat.le_of_ble_eq_true rfl) hF, Nat.le_trans (Nat.le_of_ble_eq_true rfl) hL⟩) hG hS hA (List.range' 0 10) rfl (pk_all _) rfl 0 13 rfl rfl rfl hsize rfl hW hdg hf (rep_all ([(tq, wT ax (TL.t16 u0 u1 u2))] ++ wC ax b kq fq ac r ++ wK ax) _ (by rfl)) kk
  | (2, u0, _, u1, _), hS, kk, hr => exact fwWU (As := [.ref b]) (rest := rest) (C := RX17) hx hb hml hown hts (m_X17_become l D ax ac tq b kq fq cv u0 u1 _ r hr) (va_cwA 1 hts (lw_U hlink q579 q618 q619 q122 q620) rfl rfl rfl (hG.2.1 _ nq578) (by decide +kernel) ⟨Nat.le_trans (Nat.le_of_ble_eq_true rfl) hF, Nat.le_trans (Nat.le_of_ble_eq_true rfl) hL⟩) hG hS hA (List.range' 0 10) rfl (pk_all _) rfl 0 14 rfl rfl rfl hsize rfl hW hdg hf (rep_all ([(tq, wT ax (TL.t17 u0 u1))] ++ wC ax b kq fq ac r ++ wK ax) _ (by rfl)) kk
  | (3, u0, _, u1, _), hS, kk, hr => exact fwWU (As := [.ref b]) (rest := rest) (C := RX18) hx hb hml hown hts (m_X18_become l D ax ac tq b kq fq cv u0 u1 _ r hr) (va_cwA 1 hts (lw_U hlink q579 q629 q630 q123 q631) rfl rfl rfl (hG.2.1 _ nq578) (by decide +kernel) ⟨Nat.le_trans (Nat.le_of_ble_eq_true rfl) hF, Nat.le_trans (Nat.le_of_ble_eq_true rfl) hL⟩) hG hS hA (List.range' 0 10) rfl (pk_all _) rfl 0 15 rfl rfl rfl hsize rfl hW hdg hf (rep_all ([(tq, wT ax (TL.t18 u0 u1))] ++ wC ax b kq fq ac r ++ wK ax) _ (by rfl)) kk
  | (4, u0, _, u1, u2), hS, kk, hr => exact fwWU (As := [.ref b]) (rest := rest) (C := RX19) hx hb hml hown hts (m_X19_become l D ax ac tq b kq fq cv u0 u1 u2 _ r hr) (va_cwA 1 hts (lw_U hlink q579 q610 q611 q124 q612) rfl rfl rfl (hG.2.1 _ nq578) (by decide +kernel) ⟨Nat.le_trans (Nat.le_of_ble_eq_true rfl) hF, Nat.le_trans (Nat.le_of_ble_eq_true rfl) hL⟩) hG hS hA (List.range' 0 10) rfl (pk_all _) rfl 0 16 rfl rfl rfl hsize rfl hW hdg hf (rep_all ([(tq, wT ax (TL.t19 u0 u1 u2))] ++ wC ax b kq fq ac r ++ wK ax) _ (by rfl)) kk
def f_X14_comes (cv : CV) (tl : TL) : Option (Int32 × CV) := Option.bind (f_T_isGood tl cv) fun o1 => if o1 = 0 then Option.bind (rz o1) fun z3 => some (z3, cv) else Option.bind (f_T_become tl cv) fun o4 => Option.bind (rz o1) fun z5 => some (z5, o4)
abbrev rm_X14_comes : Room := ({ frames := 12, cells := 0, slots := 0, locals := 500 })
set_option maxHeartbeats 4000000 in
theorem m_X14_comes (l : Launch) (D : va_G) (ax : Nat → Nat) (ac : Nat → ClassId) (tq : Nat) (b kq fq : Nat) (cv : CV) (tl : TL) (sz : Nat) (r0 : Int32 × CV) (hr : f_X14_comes cv tl = some r0) : WM l yX14_comes cX14_comes 3 (some FieldType.boolean) rm_X14_comes [.ref tq, .ref b] D ac ([(tq, wT ax tl)] ++ wC ax b kq fq ac cv ++ wK ax) ([(tq, wT ax tl)] ++ wC ax b kq fq ac r0.2 ++ wK ax) sz (some (.int r0.1)) := by
  refine fw_of (by decide) (Nat.le_of_ble_eq_true rfl) ?_
  intro p e s m below meth c ls hx hb hrt hts hown hlk hml _ hU hl
  obtain ⟨rfl, hP, hG, hD⟩ := hU
  have hA : ∀ q : Nat, s.heap.size ≤ q → (va_A ([(tq, wT ax tl)] ++ wC ax b kq fq ac cv ++ wK ax) s.heap.size) q := fun q h => Or.inr h
  have hS := Stt.start hP hD
  show WW p l e rm_X14_comes s m [.ref tq, .ref b] below meth c D ([(tq, wT ax tl)] ++ wC ax b kq fq ac r0.2 ++ wK ax) (va_A ([(tq, wT ax tl)] ++ wC ax b kq fq ac cv ++ wK ax) s.heap.size) (some (.int r0.1)) s.heap [] 0 0 0 ls []
  have hl : lv_has ls 3 [(0, .ref tq), (1, .ref b)] := hl
  rw [f_X14_comes] at hr
  refine lv_aload_n hx hb dX14_comes_0 rfl (lv_at hl 0 rfl) ?_
  refine lv_aload_n hx hb dX14_comes_1 rfl (lv_at hl 1 rfl) ?_
  obtain ⟨o1, ho1, hr⟩ := br_bind hr
  refine fw_isGood hx hb hml hown hts q550 hG (hP.pick [0] rfl) (hP.pick [1, 2, 3] rfl) ho1 hl.1 (Nat.le_of_ble_eq_true rfl) (Nat.le_of_ble_eq_true rfl) (Nat.le_of_ble_eq_true rfl) dX14_comes_2 ⟨Nat.le_of_ble_eq_true rfl, Nat.le_of_ble_eq_true rfl⟩ ?_
  refine lv_istore_n (lv' := [(2, .int o1), (0, .ref tq), (1, .ref b)]) hx hb dX14_comes_5 rfl hl (by decide) rfl (fun ls hl => ?_)
  refine lv_iload_n hx hb dX14_comes_6 rfl (lv_at hl 0 rfl) ?_
  have hi2 := br_ite hr
  refine lv_if_eq (tgt := 15) hx hb dX14_comes_7 (by decide) (fun c2 => ?_) (fun c2 => ?_)
  · have hr := hi2.1 c2
    refine lv_iload_n hx hb dX14_comes_15 rfl (lv_at hl 0 rfl) ?_
    obtain ⟨z3, hz3, hr⟩ := br_bind hr
    obtain ⟨hz, hz3⟩ := rz_n hz3
    obtain rfl := Option.some.inj hz3
    obtain rfl := Option.some.inj hr
    refine W.widen (k := rm_X14_comes.cells) (n := rm_X14_comes.slots) (Nat.le_of_ble_eq_true rfl) (Nat.le_of_ble_eq_true rfl) ?_
    exact W.zret (v := o1) (ty := .boolean) hx hb hrt hz (fun t ht _ => hS.q ht rfl) hS.2.2.2.2 dX14_comes_16 hlk
  · have hr := hi2.2 c2
    refine lv_aload_n hx hb dX14_comes_10 rfl (lv_at hl 1 rfl) ?_
    refine lv_aload_n hx hb dX14_comes_11 rfl (lv_at hl 2 rfl) ?_
    obtain ⟨o4, ho4, hr⟩ := br_bind hr
    refine fw_become hx hb hml hown hts q577 hG hS hA ho4 hl.1 (Nat.le_of_ble_eq_true rfl) (Nat.le_of_ble_eq_true rfl) (Nat.le_of_ble_eq_true rfl) dX14_comes_12 ⟨Nat.le_of_ble_eq_true rfl, Nat.le_of_ble_eq_true rfl⟩ (fun H locs hS => ?_)
    have hP := hS.1
    refine lv_iload_n hx hb dX14_comes_15 rfl (lv_at hl 0 rfl) ?_
    obtain ⟨z5, hz5, hr⟩ := br_bind hr
    obtain ⟨hz, hz5⟩ := rz_n hz5
    obtain rfl := Option.some.inj hz5
    obtain rfl := Option.some.inj hr
    refine W.widen (k := rm_X14_comes.cells) (n := rm_X14_comes.slots) (Nat.le_of_ble_eq_true rfl) (Nat.le_of_ble_eq_true rfl) ?_
    exact W.zret (v := o1) (ty := .boolean) hx hb hrt hz (fun t ht _ => hS.q ht rfl) hS.2.2.2.2 dX14_comes_16 hlk
theorem fw_comes {A0 : Nat → Prop} {H0 : Heap} {ws wn : va_W} {p : Program} {l : Launch} {e : Env} {R : Room} {s : State} {m : MethodId} {args : Array Value} {below : List Frame} {meth : Method} {c : Code} {H : Heap} {locs : List Loc} {cells slots : Nat} {Q : State → Prop} {ls : Array Slot} {cc : ByteArray} {nL index pc : Nat} {own : String} {D : va_G} {ac : Nat → ClassId} {ax : Nat → Nat} {rest : List Value} {b kq fq tq : Nat} {cv : CV} {tl : TL} (hx : p.tables.exec = Jvm.exec) (hb : c.code = cc) (hml : c.maxLocals = nL) (hown : s.vm.findClass own = some m.cls) (hts : ∀ w ∈ lw_all, w.before args s = true) (hlink : Cond.methodLink own index yX14_comes ∈ lw_all) (hG : GK D ac s) (hS : Stt D A0 H0 ws H locs) (hA : ∀ q, H0.size ≤ q → A0 q) (is : List Nat) (hnd : va_nd is = true) (hC : is.map (fun i => ws[i]?) = ([(tq, wT ax tl)] ++ wC ax b kq fq ac cv ++ wK ax).map some) {q0 : Nat} (he : ws[q0]? = some (tq, wT ax tl)) {r : Int32 × CV} (hr : f_X14_comes cv tl = some r) (hsize : ls.size = nL) (hW : (rest.map fun v => v.category).sum ≤ 8) (hF : 16 ≤ R.frames) (hL : 560 ≤ R.locals) (hdg : decode cc pc = .ok (.invokevirtual index, 3)) (hf : cells ≤ R.cells ∧ slots ≤ R.slots) (hwn : rep is ([(tq, wT ax tl)] ++ wC ax b kq fq ac r.2 ++ wK ax) ws = wn)
    (kk : ∀ (H1 : Heap) (locs1 : List Loc), Stt D A0 H0 wn H1 locs1 → W p l e R s m args below meth c H1 locs1 cells slots Q (F0 m (pc + 3) ls (.int r.1 :: rest))) : W p l e R s m args below meth c H locs cells slots Q (F0 m pc ls (.ref b :: .ref tq :: rest)) := by
  have hM := m_X14_comes l D ax ac tq b kq fq cv tl H.size r hr
  match tl, hM, hC, he, hwn, hr with
  | (0, u0, _, _, _), hM, hC, he, hwn, hr => exact fwWU (As := [.ref b]) (rest := rest) (C := RX15) hx hb hml hown hts hM (va_cwU 1 hts (lw_U hlink q543 q544 q542 q119 q549) rfl rfl rfl rfl (by decide +kernel) ⟨Nat.le_trans (Nat.le_of_ble_eq_true rfl) hF, Nat.le_trans (Nat.le_of_ble_eq_true rfl) hL⟩) hG hS hA is hnd hC rfl q0 12 rfl he rfl hsize rfl hW hdg hf hwn kk
  | (1, u0, u1, u2, _), hM, hC, he, hwn, hr => exact fwWU (As := [.ref b]) (rest := rest) (C := RX16) hx hb hml hown hts hM (va_cwU 1 hts (lw_U hlink q543 q547 q542 q119 q549) rfl rfl rfl rfl (by decide +kernel) ⟨Nat.le_trans (Nat.le_of_ble_eq_true rfl) hF, Nat.le_trans (Nat.le_of_ble_eq_true rfl) hL⟩) hG hS hA is hnd hC rfl q0 13 rfl he rfl hsize rfl hW hdg hf hwn kk
  | (2, u0, _, u1, _), hM, hC, he, hwn, hr => exact fwWU (As := [.ref b]) (rest := rest) (C := RX17) hx hb hml hown hts hM (va_cwU 1 hts (lw_U hlink q543 q546 q542 q119 q549) rfl rfl rfl rfl (by decide +kernel) ⟨Nat.le_trans (Nat.le_of_ble_eq_true rfl) hF, Nat.le_trans (Nat.le_of_ble_eq_true rfl) hL⟩) hG hS hA is hnd hC rfl q0 14 rfl he rfl hsize rfl hW hdg hf hwn kk
  | (3, u0, _, u1, _), hM, hC, he, hwn, hr => exact fwWU (As := [.ref b]) (rest := rest) (C := RX18) hx hb hml hown hts hM (va_cwU 1 hts (lw_U hlink q543 q548 q542 q119 q549) rfl rfl rfl rfl (by decide +kernel) ⟨Nat.le_trans (Nat.le_of_ble_eq_true rfl) hF, Nat.le_trans (Nat.le_of_ble_eq_true rfl) hL⟩) hG hS hA is hnd hC rfl q0 15 rfl he rfl hsize rfl hW hdg hf hwn kk
  | (4, u0, _, u1, u2), hM, hC, he, hwn, hr => exact fwWU (As := [.ref b]) (rest := rest) (C := RX19) hx hb hml hown hts hM (va_cwU 1 hts (lw_U hlink q543 q545 q542 q119 q549) rfl rfl rfl rfl (by decide +kernel) ⟨Nat.le_trans (Nat.le_of_ble_eq_true rfl) hF, Nat.le_trans (Nat.le_of_ble_eq_true rfl) hL⟩) hG hS hA is hnd hC rfl q0 16 rfl he rfl hsize rfl hW hdg hf hwn kk
