def f_X0_openMind (g : XS) : Option (XS) := Option.bind (f_X8_set (xG_mind g) (xG_core0 g)) fun o1 => Option.bind (some (xS_mind g o1)) fun g2 => some g2
abbrev rm_X0_openMind : Room := ({ frames := 3, cells := 0, slots := 0, locals := 81 })
theorem cw_X0_openMind {R : Room} {s : State} {args : Array Value} {own : String} {index : Nat} (hts : ∀ w ∈ lw_all, w.before args s = true) (hlink : Cond.methodLink own index yX0_openMind ∈ lw_all) (hR : rm_X0_openMind.frames + 1 ≤ R.frames ∧ 8 + (1 + 11) + rm_X0_openMind.locals ≤ R.locals) : CallW R s args own RX0 index yX0_openMind cX0_openMind 1 (some (FieldType.object "CoresAreWills$Core")) (ws_ yX0_openMind cX0_openMind 1 (some (FieldType.object "CoresAreWills$Core"))) rm_X0_openMind rm_X0_openMind.cells rm_X0_openMind.slots 0 :=
  cwV 0 hts (lw_V hlink q820 qs31 q102 q821) rfl rfl rfl (by decide +kernel) hR
set_option maxHeartbeats 4000000 in
theorem m_X0_openMind (l : Launch) (D : va_G) (ax : Nat → Nat) (ac : Nat → ClassId) (g : XS) (sz : Nat) (r0 : XS) (hr : f_X0_openMind g = some r0) : WM l yX0_openMind cX0_openMind 1 (some (FieldType.object "CoresAreWills$Core")) rm_X0_openMind [.ref (ax 0)] D ac (wX ax ac g) (wX ax ac r0) sz (some (.ref (ax 4))) := by
  refine fw_of (by decide) (Nat.le_of_ble_eq_true rfl) ?_
  intro p e s m below meth c ls hx hb hrt hts hown hlk hml _ hU hl
  obtain ⟨rfl, hP, hG, hD⟩ := hU
  have hA : ∀ q : Nat, s.heap.size ≤ q → (va_A (wX ax ac g) s.heap.size) q := fun q h => Or.inr h
  have hS := Stt.start hP hD
  show WW p l e rm_X0_openMind s m [.ref (ax 0)] below meth c D (wX ax ac r0) (va_A (wX ax ac g) s.heap.size) (some (.ref (ax 4))) s.heap [] 0 0 0 ls []
  have hl : lv_has ls 1 [(0, .ref (ax 0))] := hl
  rw [f_X0_openMind] at hr
  refine lv_aload_n hx hb dX0_openMind_0 rfl (lv_at hl 0 rfl) ?_
  refine va_get (D := D) (ci := 0) (v := .ref (ax 4)) (C := RX0) (T := TX0) (N := 17) hx hb hts in_X0 hown hG.1 hP 0 rfl rfl 2 (by decide) (hts _ q235) (fun _ h9 => h9) rfl dX0_openMind_1 ?_
  refine lv_aload_n hx hb dX0_openMind_4 rfl (lv_at hl 0 rfl) ?_
  refine va_get (D := D) (ci := 0) (v := .ref (ax 1)) (C := RX0) (T := TX0) (N := 17) hx hb hts in_X0 hown hG.1 hP 0 rfl rfl 1 (by decide) (hts _ q234) (fun _ h9 => h9) rfl dX0_openMind_5 ?_
  obtain ⟨o1, ho1, hr⟩ := br_bind hr
  obtain ⟨g2, hg2, hr⟩ := br_let hr
  refine fwWV (As := [.ref (ax 1)]) (rest := []) (C := RX8) hx hb hml hown hts (m_X8_set l D ax ac (ax 4) (ax 5) (ax 6) (xG_mind g) (ax 1) (ax 2) (ax 3) (xG_core0 g) _ o1 ho1) (cw_X8_set hts q534 ⟨Nat.le_of_ble_eq_true rfl, Nat.le_of_ble_eq_true rfl⟩) hG hS hA [4, 5, 6, 1, 2, 3, 11, 12, 13, 14, 15, 16] rfl rfl rfl 4 7 rfl rfl rfl hl.1 rfl (Nat.le_of_ble_eq_true rfl) dX0_openMind_8 ⟨Nat.le_of_ble_eq_true rfl, Nat.le_of_ble_eq_true rfl⟩ (wn := wX ax ac g2) (by rw [hg2]; rfl) (fun H locs hS => ?_)
  have hP := hS.1
  refine lv_pop hx hb dX0_openMind_11 rfl ?_
  refine lv_aload_n hx hb dX0_openMind_12 rfl (lv_at hl 0 rfl) ?_
  refine va_get (D := D) (ci := 0) (v := .ref (ax 4)) (C := RX0) (T := TX0) (N := 17) hx hb hts in_X0 hown hG.1 hP 0 rfl rfl 2 (by decide) (hts _ q235) (fun _ h9 => h9) rfl dX0_openMind_13 ?_
  obtain rfl := Option.some.inj hr
  refine W.widen (k := rm_X0_openMind.cells) (n := rm_X0_openMind.slots) (Nat.le_of_ble_eq_true rfl) (Nat.le_of_ble_eq_true rfl) ?_
  exact W.aret hx hb hrt (Or.inl ⟨_, rfl⟩) (Or.inr ⟨_, rfl⟩) (fun t ht _ => hS.q ht rfl) hS.2.2.2.2 dX0_openMind_16 hlk
def f_X0_richestOne_L5 (g : XS) : Nat → Int32 → Int32 → Option (Int32)
  | 0, _, _ => none
  | n + 1, x2_1, x1_1 => if (cG_heirs (xG_core0 g)) ≤ x2_1 then some x1_1 else if x1_1 = (-9) then Option.bind (some ((x2_1 + 1) : Int32)) fun v4 => f_X0_richestOne_L5 g n v4 x2_1 else Option.bind (f_X8_shareOf (xG_core0 g) x2_1) fun o5 => Option.bind (f_X8_shareOf (xG_core0 g) x1_1) fun o6 => if o5 ≤ o6 then Option.bind (some ((x2_1 + 1) : Int32)) fun v8 => f_X0_richestOne_L5 g n v8 x1_1 else Option.bind (some ((x2_1 + 1) : Int32)) fun v9 => f_X0_richestOne_L5 g n v9 x2_1
def f_X0_richestOne (g : XS) : Option (Int32) := Option.bind (f_X0_richestOne_L5 g 1000 0 (-9)) fun o1 => some o1
abbrev rm_X0_richestOne : Room := ({ frames := 9, cells := 0, slots := 0, locals := 421 })
theorem cw_X0_richestOne {R : Room} {s : State} {args : Array Value} {own : String} {index : Nat} (hts : ∀ w ∈ lw_all, w.before args s = true) (hlink : Cond.methodLink own index yX0_richestOne ∈ lw_all) (hR : rm_X0_richestOne.frames + 1 ≤ R.frames ∧ 8 + (3 + 11) + rm_X0_richestOne.locals ≤ R.locals) : CallW R s args own RX0 index yX0_richestOne cX0_richestOne 3 (some FieldType.int) (ws_ yX0_richestOne cX0_richestOne 3 (some FieldType.int)) rm_X0_richestOne rm_X0_richestOne.cells rm_X0_richestOne.slots 0 :=
  cwV 0 hts (lw_V hlink q783 qs24 q102 q784) rfl rfl rfl (by decide +kernel) hR
set_option maxHeartbeats 4000000 in
theorem m_X0_richestOne (l : Launch) (D : va_G) (ax : Nat → Nat) (ac : Nat → ClassId) (g : XS) (r0 : Int32) (hr : f_X0_richestOne g = some r0) : PM l yX0_richestOne cX0_richestOne 3 (some FieldType.int) rm_X0_richestOne [.ref (ax 0)] (RP D ac (wX ax ac g)) (some (.int r0)) := by
  refine fw_of (by decide) (Nat.le_of_ble_eq_true rfl) ?_
  intro p e s m below meth c ls hx hb hrt hts hown hlk hml _ hU hl
  obtain ⟨hP, hG⟩ := hU
  have hl : lv_has ls 3 [(0, .ref (ax 0))] := hl
  rw [f_X0_richestOne] at hr
  refine lv_bipush (v := (-9)) hx hb dX0_richestOne_0 rfl ?_
  refine lv_istore_n (lv' := [(1, .int (-9)), (0, .ref (ax 0))]) hx hb dX0_richestOne_2 rfl hl (by decide) rfl (fun ls hl => ?_)
  refine lv_iconst (v := 0) hx hb dX0_richestOne_3 rfl ?_
  refine lv_istore_n (lv' := [(2, .int 0), (1, .int (-9)), (0, .ref (ax 0))]) hx hb dX0_richestOne_4 rfl hl (by decide) rfl (fun ls hl => ?_)
  have L1 : ∀ (n : Nat) (x2_1 : Int32) (x1_1 : Int32) (o1 : Int32), f_X0_richestOne_L5 g n x2_1 x1_1 = some o1 → ∀ ls, lv_has ls 3 [(2, .int x2_1), (1, .int x1_1), (0, .ref (ax 0))] → (∀ ls, lv_has ls 3 [(1, .int o1)] → WP p l e rm_X0_richestOne s m [.ref (ax 0)] below meth c (some (.int r0)) 53 ls []) → WP p l e rm_X0_richestOne s m [.ref (ax 0)] below meth c (some (.int r0)) 5 ls [] := by
    intro n
    induction n with
    | zero => intro x2_1 x1_1 o1 hr; rw [f_X0_richestOne_L5] at hr; cases hr
    | succ n ih =>
      intro x2_1 x1_1 o1 hr ls hl kx
      rw [f_X0_richestOne_L5] at hr
      refine lv_iload_n hx hb dX0_richestOne_5 rfl (lv_at hl 0 rfl) ?_
      refine lv_aload_n hx hb dX0_richestOne_6 rfl (lv_at hl 2 rfl) ?_
      refine va_get (D := D) (ci := 0) (v := .ref (ax 1)) (C := RX0) (T := TX0) (N := 17) hx hb hts in_X0 hown hG.1 hP 0 rfl rfl 1 (by decide) (hts _ q234) (fun _ h9 => h9) rfl dX0_richestOne_7 ?_
      refine va_getN (D := D) (ci := 7) (v := .int (cG_heirs (xG_core0 g))) (C := RX8) (T := TX8) (N := 8) hx hb hts in_X8 hown hG.1 hP 1 rfl rfl 1 (by decide) (va_Nw.use rfl (hG.2.1 _ nq196)) (fun _ h9 => h9) rfl dX0_richestOne_10 ?_
      have hi2 := br_ite hr
      refine lv_icmp_ge (tgt := 53) hx hb dX0_richestOne_13 (by decide) (fun c2 => ?_) (fun c2 => ?_)
      · have hr := hi2.1 c2
        obtain rfl := Option.some.inj hr
        exact kx ls (lv_sub hl [1] rfl)
      · have hr := hi2.2 c2
        refine lv_iload_n hx hb dX0_richestOne_16 rfl (lv_at hl 1 rfl) ?_
        refine lv_bipush (v := (-9)) hx hb dX0_richestOne_17 rfl ?_
        have hi3 := br_ite hr
        refine lv_icmp_eq (tgt := 41) hx hb dX0_richestOne_19 (by decide) (fun c3 => ?_) (fun c3 => ?_)
        · have hr := hi3.1 c3
          refine lv_iload_n hx hb dX0_richestOne_41 rfl (lv_at hl 0 rfl) ?_
          refine lv_goto (tgt := 46) hx hb dX0_richestOne_42 (by decide) ?_
          refine lv_istore_n (lv' := [(1, .int x2_1), (2, .int x2_1), (0, .ref (ax 0))]) hx hb dX0_richestOne_46 rfl hl (by decide) rfl (fun ls hl => ?_)
          obtain ⟨v4, hv4, hr⟩ := br_let hr
          refine lv_iinc (v := v4) (lv' := [(2, .int v4), (1, .int x2_1), (0, .ref (ax 0))]) hx hb dX0_richestOne_47 hl (k := 1) rfl (hv4 ▸ rfl) (by decide) rfl (fun ls hl => ?_)
          refine lv_goto (tgt := 5) hx hb dX0_richestOne_50 (by decide) ?_
          exact ih v4 x2_1 _ hr ls (lv_sub hl [0, 1, 2] rfl) kx
        · have hr := hi3.2 c3
          refine lv_aload_n hx hb dX0_richestOne_22 rfl (lv_at hl 2 rfl) ?_
          refine va_get (D := D) (ci := 0) (v := .ref (ax 1)) (C := RX0) (T := TX0) (N := 17) hx hb hts in_X0 hown hG.1 hP 0 rfl rfl 1 (by decide) (hts _ q234) (fun _ h9 => h9) rfl dX0_richestOne_23 ?_
          refine lv_iload_n hx hb dX0_richestOne_26 rfl (lv_at hl 0 rfl) ?_
          obtain ⟨o5, ho5, hr⟩ := br_bind hr
          refine fwRV (As := [.int x2_1]) (rest := []) (C := RX8) hx hb hml hown hts (m_X8_shareOf l D ax ac (ax 1) (ax 2) (ax 3) (xG_core0 g) x2_1 o5 ho5) (cw_X8_shareOf hts q684 ⟨Nat.le_of_ble_eq_true rfl, Nat.le_of_ble_eq_true rfl⟩) hG hP (hP.pick [1, 2, 3, 11, 12, 13, 14, 15, 16] rfl) 1 7 rfl rfl rfl hl.1 rfl (Nat.le_of_ble_eq_true rfl) dX0_richestOne_27 ⟨Nat.le_of_ble_eq_true rfl, Nat.le_of_ble_eq_true rfl⟩ ?_
          refine lv_aload_n hx hb dX0_richestOne_30 rfl (lv_at hl 2 rfl) ?_
          refine va_get (D := D) (ci := 0) (v := .ref (ax 1)) (C := RX0) (T := TX0) (N := 17) hx hb hts in_X0 hown hG.1 hP 0 rfl rfl 1 (by decide) (hts _ q234) (fun _ h9 => h9) rfl dX0_richestOne_31 ?_
          refine lv_iload_n hx hb dX0_richestOne_34 rfl (lv_at hl 1 rfl) ?_
          obtain ⟨o6, ho6, hr⟩ := br_bind hr
          refine fwRV (As := [.int x1_1]) (rest := [.int o5]) (C := RX8) hx hb hml hown hts (m_X8_shareOf l D ax ac (ax 1) (ax 2) (ax 3) (xG_core0 g) x1_1 o6 ho6) (cw_X8_shareOf hts q684 ⟨Nat.le_of_ble_eq_true rfl, Nat.le_of_ble_eq_true rfl⟩) hG hP (hP.pick [1, 2, 3, 11, 12, 13, 14, 15, 16] rfl) 1 7 rfl rfl rfl hl.1 rfl (Nat.le_of_ble_eq_true rfl) dX0_richestOne_35 ⟨Nat.le_of_ble_eq_true rfl, Nat.le_of_ble_eq_true rfl⟩ ?_
          have hi7 := br_ite hr
          refine lv_icmp_le (tgt := 45) hx hb dX0_richestOne_38 (by decide) (fun c7 => ?_) (fun c7 => ?_)
          · have hr := hi7.1 c7
            refine lv_iload_n hx hb dX0_richestOne_45 rfl (lv_at hl 1 rfl) ?_
            refine lv_istore_n (lv' := [(1, .int x1_1), (2, .int x2_1), (0, .ref (ax 0))]) hx hb dX0_richestOne_46 rfl hl (by decide) rfl (fun ls hl => ?_)
            obtain ⟨v8, hv8, hr⟩ := br_let hr
            refine lv_iinc (v := v8) (lv' := [(2, .int v8), (1, .int x1_1), (0, .ref (ax 0))]) hx hb dX0_richestOne_47 hl (k := 1) rfl (hv8 ▸ rfl) (by decide) rfl (fun ls hl => ?_)
            refine lv_goto (tgt := 5) hx hb dX0_richestOne_50 (by decide) ?_
            exact ih v8 x1_1 _ hr ls (lv_sub hl [0, 1, 2] rfl) kx
          · have hr := hi7.2 c7
            refine lv_iload_n hx hb dX0_richestOne_41 rfl (lv_at hl 0 rfl) ?_
            refine lv_goto (tgt := 46) hx hb dX0_richestOne_42 (by decide) ?_
            refine lv_istore_n (lv' := [(1, .int x2_1), (2, .int x2_1), (0, .ref (ax 0))]) hx hb dX0_richestOne_46 rfl hl (by decide) rfl (fun ls hl => ?_)
            obtain ⟨v9, hv9, hr⟩ := br_let hr
            refine lv_iinc (v := v9) (lv' := [(2, .int v9), (1, .int x2_1), (0, .ref (ax 0))]) hx hb dX0_richestOne_47 hl (k := 1) rfl (hv9 ▸ rfl) (by decide) rfl (fun ls hl => ?_)
            refine lv_goto (tgt := 5) hx hb dX0_richestOne_50 (by decide) ?_
            exact ih v9 x2_1 _ hr ls (lv_sub hl [0, 1, 2] rfl) kx
  obtain ⟨o1, ho1, hr⟩ := br_bind hr
  refine L1 1000 0 (-9) o1 ho1 ls (lv_sub hl [0, 1, 2] rfl) (fun ls hl => ?_)
  refine lv_iload_n hx hb dX0_richestOne_53 rfl (lv_at hl 0 rfl) ?_
  exact W.iret hx hb hrt (fun t ht _ => ⟨ret_i hr, ht⟩) noB dX0_richestOne_54 hlk
def f_X0_sides_L12 (g : XS) (x2_1 : Int32) : Nat → Int32 → Int32 → Option (Int32)
  | 0, _, _ => none
  | n + 1, x3_3, x1_3 => if 4 ≤ x3_3 then some x1_3 else Option.bind (f_X0_has (cG_left (xG_core0 g)) x2_1) fun o5 => if o5 = 0 then some x1_3 else Option.bind (f_X0_beside x2_1 x3_3) fun o7 => if o7 = (-9) then Option.bind (some ((x1_3 + 1) : Int32)) fun v9 => Option.bind (some ((x3_3 + 1) : Int32)) fun v10 => f_X0_sides_L12 g x2_1 n v10 v9 else Option.bind (f_X0_has (cG_left (xG_core0 g)) o7) fun o11 => if o11 = 0 then Option.bind (some ((x1_3 + 1) : Int32)) fun v15 => Option.bind (some ((x3_3 + 1) : Int32)) fun v16 => f_X0_sides_L12 g x2_1 n v16 v15 else Option.bind (some ((x1_3 + 0) : Int32)) fun v13 => Option.bind (some ((x3_3 + 1) : Int32)) fun v14 => f_X0_sides_L12 g x2_1 n v14 v13
def f_X0_sides_L4 (g : XS) : Nat → Int32 → Int32 → Option (Int32)
  | 0, _, _ => none
  | n + 1, x2_1, x1_1 => if 25 ≤ x2_1 then some x1_1 else Option.bind (f_X0_sides_L12 g x2_1 1000 0 x1_1) fun o3 => Option.bind (some ((x2_1 + 1) : Int32)) fun v17 => f_X0_sides_L4 g n v17 o3
def f_X0_sides (g : XS) : Option (Int32) := Option.bind (f_X0_sides_L4 g 1000 0 0) fun o1 => some o1
abbrev rm_X0_sides : Room := ({ frames := 2, cells := 0, slots := 0, locals := 43 })
theorem cw_X0_sides {R : Room} {s : State} {args : Array Value} {own : String} {index : Nat} (hts : ∀ w ∈ lw_all, w.before args s = true) (hlink : Cond.methodLink own index yX0_sides ∈ lw_all) (hR : rm_X0_sides.frames + 1 ≤ R.frames ∧ 8 + (5 + 11) + rm_X0_sides.locals ≤ R.locals) : CallW R s args own RX0 index yX0_sides cX0_sides 5 (some FieldType.int) (ws_ yX0_sides cX0_sides 5 (some FieldType.int)) rm_X0_sides rm_X0_sides.cells rm_X0_sides.slots 0 :=
  cwV 0 hts (lw_V hlink q799 qs27 q102 q800) rfl rfl rfl (by decide +kernel) hR
set_option maxHeartbeats 4000000 in
theorem m_X0_sides (l : Launch) (D : va_G) (ax : Nat → Nat) (ac : Nat → ClassId) (g : XS) (r0 : Int32) (hr : f_X0_sides g = some r0) : PM l yX0_sides cX0_sides 5 (some FieldType.int) rm_X0_sides [.ref (ax 0)] (RP D ac (wX ax ac g)) (some (.int r0)) := by
  refine fw_of (by decide) (Nat.le_of_ble_eq_true rfl) ?_
  intro p e s m below meth c ls hx hb hrt hts hown hlk hml _ hU hl
  obtain ⟨hP, hG⟩ := hU
  have hl : lv_has ls 5 [(0, .ref (ax 0))] := hl
  rw [f_X0_sides] at hr
  refine lv_iconst (v := 0) hx hb dX0_sides_0 rfl ?_
  refine lv_istore_n (lv' := [(1, .int 0), (0, .ref (ax 0))]) hx hb dX0_sides_1 rfl hl (by decide) rfl (fun ls hl => ?_)
  refine lv_iconst (v := 0) hx hb dX0_sides_2 rfl ?_
  refine lv_istore_n (lv' := [(2, .int 0), (1, .int 0), (0, .ref (ax 0))]) hx hb dX0_sides_3 rfl hl (by decide) rfl (fun ls hl => ?_)
  have L1 : ∀ (n : Nat) (x2_1 : Int32) (x1_1 : Int32) (o1 : Int32), f_X0_sides_L4 g n x2_1 x1_1 = some o1 → ∀ ls, lv_has ls 5 [(2, .int x2_1), (1, .int x1_1), (0, .ref (ax 0))] → (∀ ls, lv_has ls 5 [(1, .int o1)] → WP p l e rm_X0_sides s m [.ref (ax 0)] below meth c (some (.int r0)) 80 ls []) → WP p l e rm_X0_sides s m [.ref (ax 0)] below meth c (some (.int r0)) 4 ls [] := by
    intro n
    induction n with
    | zero => intro x2_1 x1_1 o1 hr; rw [f_X0_sides_L4] at hr; cases hr
    | succ n ih =>
      intro x2_1 x1_1 o1 hr ls hl kx
      rw [f_X0_sides_L4] at hr
      refine lv_iload_n hx hb dX0_sides_4 rfl (lv_at hl 0 rfl) ?_
      refine lv_bipush (v := 25) hx hb dX0_sides_5 rfl ?_
      have hi2 := br_ite hr
      refine lv_icmp_ge (tgt := 80) hx hb dX0_sides_7 (by decide) (fun c2 => ?_) (fun c2 => ?_)
      · have hr := hi2.1 c2
        obtain rfl := Option.some.inj hr
        exact kx ls (lv_sub hl [1] rfl)
      · have hr := hi2.2 c2
        refine lv_iconst (v := 0) hx hb dX0_sides_10 rfl ?_
        refine lv_istore_n (lv' := [(3, .int 0), (2, .int x2_1), (1, .int x1_1), (0, .ref (ax 0))]) hx hb dX0_sides_11 rfl hl (by decide) rfl (fun ls hl => ?_)
        have L3 : ∀ (n : Nat) (x3_3 : Int32) (x1_3 : Int32) (o3 : Int32), f_X0_sides_L12 g x2_1 n x3_3 x1_3 = some o3 → ∀ ls, lv_has ls 5 [(3, .int x3_3), (2, .int x2_1), (1, .int x1_3), (0, .ref (ax 0))] → (∀ ls, lv_has ls 5 [(2, .int x2_1), (1, .int o3), (0, .ref (ax 0))] → WP p l e rm_X0_sides s m [.ref (ax 0)] below meth c (some (.int r0)) 74 ls []) → WP p l e rm_X0_sides s m [.ref (ax 0)] below meth c (some (.int r0)) 12 ls [] := by
          intro n
          induction n with
          | zero => intro x3_3 x1_3 o3 hr; rw [f_X0_sides_L12] at hr; cases hr
          | succ n ih =>
            intro x3_3 x1_3 o3 hr ls hl kx
            rw [f_X0_sides_L12] at hr
            refine lv_iload_n hx hb dX0_sides_12 rfl (lv_at hl 0 rfl) ?_
            refine lv_iconst (v := 4) hx hb dX0_sides_13 rfl ?_
            have hi4 := br_ite hr
            refine lv_icmp_ge (tgt := 74) hx hb dX0_sides_14 (by decide) (fun c4 => ?_) (fun c4 => ?_)
            · have hr := hi4.1 c4
              obtain rfl := Option.some.inj hr
              exact kx ls (lv_sub hl [1, 2, 3] rfl)
            · have hr := hi4.2 c4
              refine lv_aload_n hx hb dX0_sides_17 rfl (lv_at hl 3 rfl) ?_
              refine va_get (D := D) (ci := 0) (v := .ref (ax 1)) (C := RX0) (T := TX0) (N := 17) hx hb hts in_X0 hown hG.1 hP 0 rfl rfl 1 (by decide) (hts _ q234) (fun _ h9 => h9) rfl dX0_sides_18 ?_
              refine va_getN (D := D) (ci := 7) (v := .int (cG_left (xG_core0 g))) (C := RX8) (T := TX8) (N := 8) hx hb hts in_X8 hown hG.1 hP 1 rfl rfl 0 (by decide) (va_Nw.use rfl (hG.2.1 _ nq193)) (fun _ h9 => h9) rfl dX0_sides_21 ?_
              refine lv_iload_n hx hb dX0_sides_24 rfl (lv_at hl 1 rfl) ?_
              obtain ⟨o5, ho5, hr⟩ := br_bind hr
              refine fwS (As := [.int (cG_left (xG_core0 g)), .int x2_1]) (rest := []) hx hb hml hown hts (m_X0_has l (cG_left (xG_core0 g)) x2_1 o5 ho5) (cw_X0_has hts q594 ⟨Nat.le_of_ble_eq_true rfl, Nat.le_of_ble_eq_true rfl⟩) rfl hl.1 rfl (Nat.le_of_ble_eq_true rfl) dX0_sides_25 ⟨Nat.le_of_ble_eq_true rfl, Nat.le_of_ble_eq_true rfl⟩ ?_
              have hi6 := br_ite hr
              refine lv_if_eq (tgt := 74) hx hb dX0_sides_28 (by decide) (fun c6 => ?_) (fun c6 => ?_)
              · have hr := hi6.1 c6
                obtain rfl := Option.some.inj hr
                exact kx ls (lv_sub hl [1, 2, 3] rfl)
              · have hr := hi6.2 c6
                refine lv_iload_n hx hb dX0_sides_31 rfl (lv_at hl 1 rfl) ?_
                refine lv_iload_n hx hb dX0_sides_32 rfl (lv_at hl 0 rfl) ?_
                obtain ⟨o7, ho7, hr⟩ := br_bind hr
                refine fwS (As := [.int x2_1, .int x3_3]) (rest := []) hx hb hml hown hts (m_X0_beside l x2_1 x3_3 o7 ho7) (cw_X0_beside hts q598 ⟨Nat.le_of_ble_eq_true rfl, Nat.le_of_ble_eq_true rfl⟩) rfl hl.1 rfl (Nat.le_of_ble_eq_true rfl) dX0_sides_33 ⟨Nat.le_of_ble_eq_true rfl, Nat.le_of_ble_eq_true rfl⟩ ?_
                refine lv_istore (lv' := [(4, .int o7), (3, .int x3_3), (2, .int x2_1), (1, .int x1_3), (0, .ref (ax 0))]) hx hb dX0_sides_36 hl (by decide) rfl (fun ls hl => ?_)
                refine lv_iload_n hx hb dX0_sides_38 rfl (lv_at hl 3 rfl) ?_
                refine lv_iload hx hb dX0_sides_39 (lv_at hl 0 rfl) ?_
                refine lv_bipush (v := (-9)) hx hb dX0_sides_41 rfl ?_
                have hi8 := br_ite hr
                refine lv_icmp_eq (tgt := 61) hx hb dX0_sides_43 (by decide) (fun c8 => ?_) (fun c8 => ?_)
                · have hr := hi8.1 c8
                  refine lv_iconst (v := 1) hx hb dX0_sides_61 rfl ?_
                  refine lv_goto (tgt := 66) hx hb dX0_sides_62 (by decide) ?_
                  refine lv_iadd hx hb dX0_sides_66 ?_
                  refine lv_topi (fun v9 hv9 => ?_)
                  have hr := br_letv hr hv9
                  refine lv_istore_n (lv' := [(1, .int v9), (4, .int o7), (3, .int x3_3), (2, .int x2_1), (0, .ref (ax 0))]) hx hb dX0_sides_67 rfl hl (by decide) rfl (fun ls hl => ?_)
                  obtain ⟨v10, hv10, hr⟩ := br_let hr
                  refine lv_iinc (v := v10) (lv' := [(3, .int v10), (1, .int v9), (4, .int o7), (2, .int x2_1), (0, .ref (ax 0))]) hx hb dX0_sides_68 hl (k := 2) rfl (hv10 ▸ rfl) (by decide) rfl (fun ls hl => ?_)
                  refine lv_goto (tgt := 12) hx hb dX0_sides_71 (by decide) ?_
                  exact ih v10 v9 _ hr ls (lv_sub hl [0, 3, 1, 4] rfl) kx
                · have hr := hi8.2 c8
                  refine lv_aload_n hx hb dX0_sides_46 rfl (lv_at hl 4 rfl) ?_
                  refine va_get (D := D) (ci := 0) (v := .ref (ax 1)) (C := RX0) (T := TX0) (N := 17) hx hb hts in_X0 hown hG.1 hP 0 rfl rfl 1 (by decide) (hts _ q234) (fun _ h9 => h9) rfl dX0_sides_47 ?_
                  refine va_getN (D := D) (ci := 7) (v := .int (cG_left (xG_core0 g))) (C := RX8) (T := TX8) (N := 8) hx hb hts in_X8 hown hG.1 hP 1 rfl rfl 0 (by decide) (va_Nw.use rfl (hG.2.1 _ nq193)) (fun _ h9 => h9) rfl dX0_sides_50 ?_
                  refine lv_iload hx hb dX0_sides_53 (lv_at hl 0 rfl) ?_
                  obtain ⟨o11, ho11, hr⟩ := br_bind hr
                  refine fwS (As := [.int (cG_left (xG_core0 g)), .int o7]) (rest := [.int x1_3]) hx hb hml hown hts (m_X0_has l (cG_left (xG_core0 g)) o7 o11 ho11) (cw_X0_has hts q594 ⟨Nat.le_of_ble_eq_true rfl, Nat.le_of_ble_eq_true rfl⟩) rfl hl.1 rfl (Nat.le_of_ble_eq_true rfl) dX0_sides_55 ⟨Nat.le_of_ble_eq_true rfl, Nat.le_of_ble_eq_true rfl⟩ ?_
                  have hi12 := br_ite hr
                  refine lv_if_ne (tgt := 65) hx hb dX0_sides_58 (by decide) (fun c12 => ?_) (fun c12 => ?_)
                  · have hr := hi12.2 c12
                    refine lv_iconst (v := 0) hx hb dX0_sides_65 rfl ?_
                    refine lv_iadd hx hb dX0_sides_66 ?_
                    refine lv_topi (fun v13 hv13 => ?_)
                    have hr := br_letv hr hv13
                    refine lv_istore_n (lv' := [(1, .int v13), (4, .int o7), (3, .int x3_3), (2, .int x2_1), (0, .ref (ax 0))]) hx hb dX0_sides_67 rfl hl (by decide) rfl (fun ls hl => ?_)
                    obtain ⟨v14, hv14, hr⟩ := br_let hr
                    refine lv_iinc (v := v14) (lv' := [(3, .int v14), (1, .int v13), (4, .int o7), (2, .int x2_1), (0, .ref (ax 0))]) hx hb dX0_sides_68 hl (k := 2) rfl (hv14 ▸ rfl) (by decide) rfl (fun ls hl => ?_)
                    refine lv_goto (tgt := 12) hx hb dX0_sides_71 (by decide) ?_
                    exact ih v14 v13 _ hr ls (lv_sub hl [0, 3, 1, 4] rfl) kx
                  · have hr := hi12.1 c12
                    refine lv_iconst (v := 1) hx hb dX0_sides_61 rfl ?_
                    refine lv_goto (tgt := 66) hx hb dX0_sides_62 (by decide) ?_
                    refine lv_iadd hx hb dX0_sides_66 ?_
                    refine lv_topi (fun v15 hv15 => ?_)
                    have hr := br_letv hr hv15
                    refine lv_istore_n (lv' := [(1, .int v15), (4, .int o7), (3, .int x3_3), (2, .int x2_1), (0, .ref (ax 0))]) hx hb dX0_sides_67 rfl hl (by decide) rfl (fun ls hl => ?_)
                    obtain ⟨v16, hv16, hr⟩ := br_let hr
                    refine lv_iinc (v := v16) (lv' := [(3, .int v16), (1, .int v15), (4, .int o7), (2, .int x2_1), (0, .ref (ax 0))]) hx hb dX0_sides_68 hl (k := 2) rfl (hv16 ▸ rfl) (by decide) rfl (fun ls hl => ?_)
                    refine lv_goto (tgt := 12) hx hb dX0_sides_71 (by decide) ?_
                    exact ih v16 v15 _ hr ls (lv_sub hl [0, 3, 1, 4] rfl) kx
        obtain ⟨o3, ho3, hr⟩ := br_bind hr
        refine L3 1000 0 x1_1 o3 ho3 ls (lv_sub hl [0, 1, 2, 3] rfl) (fun ls hl => ?_)
        obtain ⟨v17, hv17, hr⟩ := br_let hr
        refine lv_iinc (v := v17) (lv' := [(2, .int v17), (1, .int o3), (0, .ref (ax 0))]) hx hb dX0_sides_74 hl (k := 0) rfl (hv17 ▸ rfl) (by decide) rfl (fun ls hl => ?_)
        refine lv_goto (tgt := 4) hx hb dX0_sides_77 (by decide) ?_
        exact ih v17 o3 _ hr ls (lv_sub hl [0, 1, 2] rfl) kx
  obtain ⟨o1, ho1, hr⟩ := br_bind hr
  refine L1 1000 0 0 o1 ho1 ls (lv_sub hl [0, 1, 2] rfl) (fun ls hl => ?_)
  refine lv_iload_n hx hb dX0_sides_80 rfl (lv_at hl 0 rfl) ?_
  exact W.iret hx hb hrt (fun t ht _ => ⟨ret_i hr, ht⟩) noB dX0_sides_81 hlk
def f_X0_holes_L55 (o7 : Int32) : Nat → Int32 → Int32 → Option (Int32)
  | 0, _, _ => none
  | n + 1, x6_8, x5_8 => if 25 ≤ x6_8 then some x5_8 else Option.bind (f_X0_has o7 x6_8) fun o10 => if o10 = 0 then Option.bind (some ((x5_8 &&& 1) : Int32)) fun v12 => Option.bind (some ((x6_8 + 1) : Int32)) fun v13 => f_X0_holes_L55 o7 n v13 v12 else Option.bind (f_X0_isBorder x6_8) fun o14 => if o14 = 0 then Option.bind (some ((x5_8 &&& 1) : Int32)) fun v18 => Option.bind (some ((x6_8 + 1) : Int32)) fun v19 => f_X0_holes_L55 o7 n v19 v18 else Option.bind (some ((x5_8 &&& 0) : Int32)) fun v16 => Option.bind (some ((x6_8 + 1) : Int32)) fun v17 => f_X0_holes_L55 o7 n v17 v16
def f_X0_holes_L17 (g : XS) : Nat → Int32 → Int32 → Int32 → Option (Int32)
  | 0, _, _, _ => none
  | n + 1, x3_2, x2_2, x1_2 => if 25 ≤ x3_2 then some x2_2 else Option.bind (f_X0_has x1_2 x3_2) fun o4 => if o4 = 0 then Option.bind (some ((x3_2 + 1) : Int32)) fun v6 => f_X0_holes_L17 g n v6 x2_2 x1_2 else Option.bind (f_X0_heapOf x3_2 ((33554431 : Int32) &&& ((cG_left (xG_core0 g)) ^^^ (-1)))) fun o7 => Option.bind (f_X0_holes_L55 o7 1000 0 1) fun o8 => Option.bind (some ((x1_2 &&& (o7 ^^^ (-1))) : Int32)) fun v20 => if o8 = 0 then Option.bind (some ((x2_2 + 0) : Int32)) fun v22 => Option.bind (some ((x3_2 + 1) : Int32)) fun v23 => f_X0_holes_L17 g n v23 v22 v20 else Option.bind (some ((x2_2 + 1) : Int32)) fun v24 => Option.bind (some ((x3_2 + 1) : Int32)) fun v25 => f_X0_holes_L17 g n v25 v24 v20
def f_X0_holes (g : XS) : Option (Int32) := Option.bind (some (((33554431 : Int32) &&& ((cG_left (xG_core0 g)) ^^^ (-1))) : Int32)) fun v1 => Option.bind (f_X0_holes_L17 g 1000 0 0 v1) fun o2 => some o2
abbrev rm_X0_holes : Room := ({ frames := 4, cells := 0, slots := 0, locals := 91 })
theorem cw_X0_holes {R : Room} {s : State} {args : Array Value} {own : String} {index : Nat} (hts : ∀ w ∈ lw_all, w.before args s = true) (hlink : Cond.methodLink own index yX0_holes ∈ lw_all) (hR : rm_X0_holes.frames + 1 ≤ R.frames ∧ 8 + (7 + 11) + rm_X0_holes.locals ≤ R.locals) : CallW R s args own RX0 index yX0_holes cX0_holes 7 (some FieldType.int) (ws_ yX0_holes cX0_holes 7 (some FieldType.int)) rm_X0_holes rm_X0_holes.cells rm_X0_holes.slots 0 :=
  cwV 0 hts (lw_V hlink q803 qs28 q102 q804) rfl rfl rfl (by decide +kernel) hR
set_option maxHeartbeats 4000000 in
theorem m_X0_holes (l : Launch) (D : va_G) (ax : Nat → Nat) (ac : Nat → ClassId) (g : XS) (r0 : Int32) (hr : f_X0_holes g = some r0) : PM l yX0_holes cX0_holes 7 (some FieldType.int) rm_X0_holes [.ref (ax 0)] (RP D ac (wX ax ac g)) (some (.int r0)) := by
  refine fw_of (by decide) (Nat.le_of_ble_eq_true rfl) ?_
  intro p e s m below meth c ls hx hb hrt hts hown hlk hml _ hU hl
  obtain ⟨hP, hG⟩ := hU
  have hl : lv_has ls 7 [(0, .ref (ax 0))] := hl
  rw [f_X0_holes] at hr
  refine lv_ldc (v := 33554431) hx hb hown (hts _ q764) dX0_holes_0 ?_
  refine lv_aload_n hx hb dX0_holes_2 rfl (lv_at hl 0 rfl) ?_
  refine va_get (D := D) (ci := 0) (v := .ref (ax 1)) (C := RX0) (T := TX0) (N := 17) hx hb hts in_X0 hown hG.1 hP 0 rfl rfl 1 (by decide) (hts _ q234) (fun _ h9 => h9) rfl dX0_holes_3 ?_
  refine va_getN (D := D) (ci := 7) (v := .int (cG_left (xG_core0 g))) (C := RX8) (T := TX8) (N := 8) hx hb hts in_X8 hown hG.1 hP 1 rfl rfl 0 (by decide) (va_Nw.use rfl (hG.2.1 _ nq193)) (fun _ h9 => h9) rfl dX0_holes_6 ?_
  refine lv_iconst (v := (-1)) hx hb dX0_holes_9 rfl ?_
  refine lv_ixor hx hb dX0_holes_10 ?_
  refine lv_iand hx hb dX0_holes_11 ?_
  refine lv_topi (fun v1 hv1 => ?_)
  have hr := br_letv hr hv1
  refine lv_istore_n (lv' := [(1, .int v1), (0, .ref (ax 0))]) hx hb dX0_holes_12 rfl hl (by decide) rfl (fun ls hl => ?_)
  refine lv_iconst (v := 0) hx hb dX0_holes_13 rfl ?_
  refine lv_istore_n (lv' := [(2, .int 0), (1, .int v1), (0, .ref (ax 0))]) hx hb dX0_holes_14 rfl hl (by decide) rfl (fun ls hl => ?_)
  refine lv_iconst (v := 0) hx hb dX0_holes_15 rfl ?_
  refine lv_istore_n (lv' := [(3, .int 0), (2, .int 0), (1, .int v1), (0, .ref (ax 0))]) hx hb dX0_holes_16 rfl hl (by decide) rfl (fun ls hl => ?_)
  have L2 : ∀ (n : Nat) (x3_2 : Int32) (x2_2 : Int32) (x1_2 : Int32) (o2 : Int32), f_X0_holes_L17 g n x3_2 x2_2 x1_2 = some o2 → ∀ ls, lv_has ls 7 [(3, .int x3_2), (2, .int x2_2), (1, .int x1_2), (0, .ref (ax 0))] → (∀ ls, lv_has ls 7 [(2, .int o2)] → WP p l e rm_X0_holes s m [.ref (ax 0)] below meth c (some (.int r0)) 122 ls []) → WP p l e rm_X0_holes s m [.ref (ax 0)] below meth c (some (.int r0)) 17 ls [] := by
    intro n
    induction n with
    | zero => intro x3_2 x2_2 x1_2 o2 hr; rw [f_X0_holes_L17] at hr; cases hr
    | succ n ih =>
      intro x3_2 x2_2 x1_2 o2 hr ls hl kx
      rw [f_X0_holes_L17] at hr
      refine lv_iload_n hx hb dX0_holes_17 rfl (lv_at hl 0 rfl) ?_
      refine lv_bipush (v := 25) hx hb dX0_holes_18 rfl ?_
      have hi3 := br_ite hr
      refine lv_icmp_ge (tgt := 122) hx hb dX0_holes_20 (by decide) (fun c3 => ?_) (fun c3 => ?_)
      · have hr := hi3.1 c3
        obtain rfl := Option.some.inj hr
        exact kx ls (lv_sub hl [1] rfl)
      · have hr := hi3.2 c3
        refine lv_iload_n hx hb dX0_holes_23 rfl (lv_at hl 2 rfl) ?_
        refine lv_iload_n hx hb dX0_holes_24 rfl (lv_at hl 0 rfl) ?_
        obtain ⟨o4, ho4, hr⟩ := br_bind hr
        refine fwS (As := [.int x1_2, .int x3_2]) (rest := []) hx hb hml hown hts (m_X0_has l x1_2 x3_2 o4 ho4) (cw_X0_has hts q594 ⟨Nat.le_of_ble_eq_true rfl, Nat.le_of_ble_eq_true rfl⟩) rfl hl.1 rfl (Nat.le_of_ble_eq_true rfl) dX0_holes_25 ⟨Nat.le_of_ble_eq_true rfl, Nat.le_of_ble_eq_true rfl⟩ ?_
        have hi5 := br_ite hr
        refine lv_if_eq (tgt := 116) hx hb dX0_holes_28 (by decide) (fun c5 => ?_) (fun c5 => ?_)
        · have hr := hi5.1 c5
          obtain ⟨v6, hv6, hr⟩ := br_let hr
          refine lv_iinc (v := v6) (lv' := [(3, .int v6), (2, .int x2_2), (1, .int x1_2), (0, .ref (ax 0))]) hx hb dX0_holes_116 hl (k := 0) rfl (hv6 ▸ rfl) (by decide) rfl (fun ls hl => ?_)
          refine lv_goto (tgt := 17) hx hb dX0_holes_119 (by decide) ?_
          exact ih v6 x2_2 x1_2 _ hr ls (lv_sub hl [0, 1, 2, 3] rfl) kx
        · have hr := hi5.2 c5
          refine lv_iload_n hx hb dX0_holes_31 rfl (lv_at hl 0 rfl) ?_
          refine lv_ldc (v := 33554431) hx hb hown (hts _ q764) dX0_holes_32 ?_
          refine lv_aload_n hx hb dX0_holes_34 rfl (lv_at hl 3 rfl) ?_
          refine va_get (D := D) (ci := 0) (v := .ref (ax 1)) (C := RX0) (T := TX0) (N := 17) hx hb hts in_X0 hown hG.1 hP 0 rfl rfl 1 (by decide) (hts _ q234) (fun _ h9 => h9) rfl dX0_holes_35 ?_
          refine va_getN (D := D) (ci := 7) (v := .int (cG_left (xG_core0 g))) (C := RX8) (T := TX8) (N := 8) hx hb hts in_X8 hown hG.1 hP 1 rfl rfl 0 (by decide) (va_Nw.use rfl (hG.2.1 _ nq193)) (fun _ h9 => h9) rfl dX0_holes_38 ?_
          refine lv_iconst (v := (-1)) hx hb dX0_holes_41 rfl ?_
          refine lv_ixor hx hb dX0_holes_42 ?_
          refine lv_iand hx hb dX0_holes_43 ?_
          obtain ⟨o7, ho7, hr⟩ := br_bind hr
          refine fwS (As := [.int x3_2, .int ((33554431 : Int32) &&& ((cG_left (xG_core0 g)) ^^^ (-1)))]) (rest := []) hx hb hml hown hts (m_X0_heapOf l x3_2 ((33554431 : Int32) &&& ((cG_left (xG_core0 g)) ^^^ (-1))) o7 ho7) (cw_X0_heapOf hts q653 ⟨Nat.le_of_ble_eq_true rfl, Nat.le_of_ble_eq_true rfl⟩) rfl hl.1 rfl (Nat.le_of_ble_eq_true rfl) dX0_holes_44 ⟨Nat.le_of_ble_eq_true rfl, Nat.le_of_ble_eq_true rfl⟩ ?_
          refine lv_istore (lv' := [(4, .int o7), (3, .int x3_2), (2, .int x2_2), (1, .int x1_2), (0, .ref (ax 0))]) hx hb dX0_holes_47 hl (by decide) rfl (fun ls hl => ?_)
          refine lv_iconst (v := 1) hx hb dX0_holes_49 rfl ?_
          refine lv_istore (lv' := [(5, .int 1), (4, .int o7), (3, .int x3_2), (2, .int x2_2), (1, .int x1_2), (0, .ref (ax 0))]) hx hb dX0_holes_50 hl (by decide) rfl (fun ls hl => ?_)
          refine lv_iconst (v := 0) hx hb dX0_holes_52 rfl ?_
          refine lv_istore (lv' := [(6, .int 0), (5, .int 1), (4, .int o7), (3, .int x3_2), (2, .int x2_2), (1, .int x1_2), (0, .ref (ax 0))]) hx hb dX0_holes_53 hl (by decide) rfl (fun ls hl => ?_)
          have L8 : ∀ (n : Nat) (x6_8 : Int32) (x5_8 : Int32) (o8 : Int32), f_X0_holes_L55 o7 n x6_8 x5_8 = some o8 → ∀ ls, lv_has ls 7 [(6, .int x6_8), (5, .int x5_8), (4, .int o7), (3, .int x3_2), (2, .int x2_2), (1, .int x1_2), (0, .ref (ax 0))] → (∀ ls, lv_has ls 7 [(5, .int o8), (4, .int o7), (3, .int x3_2), (2, .int x2_2), (1, .int x1_2), (0, .ref (ax 0))] → WP p l e rm_X0_holes s m [.ref (ax 0)] below meth c (some (.int r0)) 96 ls []) → WP p l e rm_X0_holes s m [.ref (ax 0)] below meth c (some (.int r0)) 55 ls [] := by
            intro n
            induction n with
            | zero => intro x6_8 x5_8 o8 hr; rw [f_X0_holes_L55] at hr; cases hr
            | succ n ih =>
              intro x6_8 x5_8 o8 hr ls hl kx
              rw [f_X0_holes_L55] at hr
              refine lv_iload hx hb dX0_holes_55 (lv_at hl 0 rfl) ?_
              refine lv_bipush (v := 25) hx hb dX0_holes_57 rfl ?_
              have hi9 := br_ite hr
              refine lv_icmp_ge (tgt := 96) hx hb dX0_holes_59 (by decide) (fun c9 => ?_) (fun c9 => ?_)
              · have hr := hi9.1 c9
                obtain rfl := Option.some.inj hr
                exact kx ls (lv_sub hl [1, 2, 3, 4, 5, 6] rfl)
              · have hr := hi9.2 c9
                refine lv_iload hx hb dX0_holes_62 (lv_at hl 1 rfl) ?_
                refine lv_iload hx hb dX0_holes_64 (lv_at hl 2 rfl) ?_
                refine lv_iload hx hb dX0_holes_66 (lv_at hl 0 rfl) ?_
                obtain ⟨o10, ho10, hr⟩ := br_bind hr
                refine fwS (As := [.int o7, .int x6_8]) (rest := [.int x5_8]) hx hb hml hown hts (m_X0_has l o7 x6_8 o10 ho10) (cw_X0_has hts q594 ⟨Nat.le_of_ble_eq_true rfl, Nat.le_of_ble_eq_true rfl⟩) rfl hl.1 rfl (Nat.le_of_ble_eq_true rfl) dX0_holes_68 ⟨Nat.le_of_ble_eq_true rfl, Nat.le_of_ble_eq_true rfl⟩ ?_
                have hi11 := br_ite hr
                refine lv_if_eq (tgt := 82) hx hb dX0_holes_71 (by decide) (fun c11 => ?_) (fun c11 => ?_)
                · have hr := hi11.1 c11
                  refine lv_iconst (v := 1) hx hb dX0_holes_82 rfl ?_
                  refine lv_goto (tgt := 87) hx hb dX0_holes_83 (by decide) ?_
                  refine lv_iand hx hb dX0_holes_87 ?_
                  refine lv_topi (fun v12 hv12 => ?_)
                  have hr := br_letv hr hv12
                  refine lv_istore (lv' := [(5, .int v12), (6, .int x6_8), (4, .int o7), (3, .int x3_2), (2, .int x2_2), (1, .int x1_2), (0, .ref (ax 0))]) hx hb dX0_holes_88 hl (by decide) rfl (fun ls hl => ?_)
                  obtain ⟨v13, hv13, hr⟩ := br_let hr
                  refine lv_iinc (v := v13) (lv' := [(6, .int v13), (5, .int v12), (4, .int o7), (3, .int x3_2), (2, .int x2_2), (1, .int x1_2), (0, .ref (ax 0))]) hx hb dX0_holes_90 hl (k := 1) rfl (hv13 ▸ rfl) (by decide) rfl (fun ls hl => ?_)
                  refine lv_goto (tgt := 55) hx hb dX0_holes_93 (by decide) ?_
                  exact ih v13 v12 _ hr ls (lv_sub hl [0, 1, 2, 3, 4, 5, 6] rfl) kx
                · have hr := hi11.2 c11
                  refine lv_iload hx hb dX0_holes_74 (lv_at hl 0 rfl) ?_
                  obtain ⟨o14, ho14, hr⟩ := br_bind hr
                  refine fwS (As := [.int x6_8]) (rest := [.int x5_8]) hx hb hml hown hts (m_X0_isBorder l x6_8 o14 ho14) (cw_X0_isBorder hts q805 ⟨Nat.le_of_ble_eq_true rfl, Nat.le_of_ble_eq_true rfl⟩) rfl hl.1 rfl (Nat.le_of_ble_eq_true rfl) dX0_holes_76 ⟨Nat.le_of_ble_eq_true rfl, Nat.le_of_ble_eq_true rfl⟩ ?_
                  have hi15 := br_ite hr
                  refine lv_if_ne (tgt := 86) hx hb dX0_holes_79 (by decide) (fun c15 => ?_) (fun c15 => ?_)
                  · have hr := hi15.2 c15
                    refine lv_iconst (v := 0) hx hb dX0_holes_86 rfl ?_
                    refine lv_iand hx hb dX0_holes_87 ?_
                    refine lv_topi (fun v16 hv16 => ?_)
                    have hr := br_letv hr hv16
                    refine lv_istore (lv' := [(5, .int v16), (6, .int x6_8), (4, .int o7), (3, .int x3_2), (2, .int x2_2), (1, .int x1_2), (0, .ref (ax 0))]) hx hb dX0_holes_88 hl (by decide) rfl (fun ls hl => ?_)
                    obtain ⟨v17, hv17, hr⟩ := br_let hr
                    refine lv_iinc (v := v17) (lv' := [(6, .int v17), (5, .int v16), (4, .int o7), (3, .int x3_2), (2, .int x2_2), (1, .int x1_2), (0, .ref (ax 0))]) hx hb dX0_holes_90 hl (k := 1) rfl (hv17 ▸ rfl) (by decide) rfl (fun ls hl => ?_)
                    refine lv_goto (tgt := 55) hx hb dX0_holes_93 (by decide) ?_
                    exact ih v17 v16 _ hr ls (lv_sub hl [0, 1, 2, 3, 4, 5, 6] rfl) kx
                  · have hr := hi15.1 c15
                    refine lv_iconst (v := 1) hx hb dX0_holes_82 rfl ?_
                    refine lv_goto (tgt := 87) hx hb dX0_holes_83 (by decide) ?_
                    refine lv_iand hx hb dX0_holes_87 ?_
                    refine lv_topi (fun v18 hv18 => ?_)
                    have hr := br_letv hr hv18
                    refine lv_istore (lv' := [(5, .int v18), (6, .int x6_8), (4, .int o7), (3, .int x3_2), (2, .int x2_2), (1, .int x1_2), (0, .ref (ax 0))]) hx hb dX0_holes_88 hl (by decide) rfl (fun ls hl => ?_)
                    obtain ⟨v19, hv19, hr⟩ := br_let hr
                    refine lv_iinc (v := v19) (lv' := [(6, .int v19), (5, .int v18), (4, .int o7), (3, .int x3_2), (2, .int x2_2), (1, .int x1_2), (0, .ref (ax 0))]) hx hb dX0_holes_90 hl (k := 1) rfl (hv19 ▸ rfl) (by decide) rfl (fun ls hl => ?_)
                    refine lv_goto (tgt := 55) hx hb dX0_holes_93 (by decide) ?_
                    exact ih v19 v18 _ hr ls (lv_sub hl [0, 1, 2, 3, 4, 5, 6] rfl) kx
          obtain ⟨o8, ho8, hr⟩ := br_bind hr
          refine L8 1000 0 1 o8 ho8 ls (lv_sub hl [0, 1, 2, 3, 4, 5, 6] rfl) (fun ls hl => ?_)
          refine lv_iload_n hx hb dX0_holes_96 rfl (lv_at hl 4 rfl) ?_
          refine lv_iload hx hb dX0_holes_97 (lv_at hl 1 rfl) ?_
          refine lv_iconst (v := (-1)) hx hb dX0_holes_99 rfl ?_
          refine lv_ixor hx hb dX0_holes_100 ?_
          refine lv_iand hx hb dX0_holes_101 ?_
          refine lv_topi (fun v20 hv20 => ?_)
          have hr := br_letv hr hv20
          refine lv_istore_n (lv' := [(1, .int v20), (5, .int o8), (4, .int o7), (3, .int x3_2), (2, .int x2_2), (0, .ref (ax 0))]) hx hb dX0_holes_102 rfl hl (by decide) rfl (fun ls hl => ?_)
          refine lv_iload_n hx hb dX0_holes_103 rfl (lv_at hl 4 rfl) ?_
          refine lv_iload hx hb dX0_holes_104 (lv_at hl 1 rfl) ?_
          have hi21 := br_ite hr
          refine lv_if_eq (tgt := 113) hx hb dX0_holes_106 (by decide) (fun c21 => ?_) (fun c21 => ?_)
          · have hr := hi21.1 c21
            refine lv_iconst (v := 0) hx hb dX0_holes_113 rfl ?_
            refine lv_iadd hx hb dX0_holes_114 ?_
            refine lv_topi (fun v22 hv22 => ?_)
            have hr := br_letv hr hv22
            refine lv_istore_n (lv' := [(2, .int v22), (1, .int v20), (5, .int o8), (4, .int o7), (3, .int x3_2), (0, .ref (ax 0))]) hx hb dX0_holes_115 rfl hl (by decide) rfl (fun ls hl => ?_)
            obtain ⟨v23, hv23, hr⟩ := br_let hr
            refine lv_iinc (v := v23) (lv' := [(3, .int v23), (2, .int v22), (1, .int v20), (5, .int o8), (4, .int o7), (0, .ref (ax 0))]) hx hb dX0_holes_116 hl (k := 4) rfl (hv23 ▸ rfl) (by decide) rfl (fun ls hl => ?_)
            refine lv_goto (tgt := 17) hx hb dX0_holes_119 (by decide) ?_
            exact ih v23 v22 v20 _ hr ls (lv_sub hl [0, 1, 2, 5] rfl) kx
          · have hr := hi21.2 c21
            refine lv_iconst (v := 1) hx hb dX0_holes_109 rfl ?_
            refine lv_goto (tgt := 114) hx hb dX0_holes_110 (by decide) ?_
            refine lv_iadd hx hb dX0_holes_114 ?_
            refine lv_topi (fun v24 hv24 => ?_)
            have hr := br_letv hr hv24
            refine lv_istore_n (lv' := [(2, .int v24), (1, .int v20), (5, .int o8), (4, .int o7), (3, .int x3_2), (0, .ref (ax 0))]) hx hb dX0_holes_115 rfl hl (by decide) rfl (fun ls hl => ?_)
            obtain ⟨v25, hv25, hr⟩ := br_let hr
            refine lv_iinc (v := v25) (lv' := [(3, .int v25), (2, .int v24), (1, .int v20), (5, .int o8), (4, .int o7), (0, .ref (ax 0))]) hx hb dX0_holes_116 hl (k := 4) rfl (hv25 ▸ rfl) (by decide) rfl (fun ls hl => ?_)
            refine lv_goto (tgt := 17) hx hb dX0_holes_119 (by decide) ?_
            exact ih v25 v24 v20 _ hr ls (lv_sub hl [0, 1, 2, 5] rfl) kx
  obtain ⟨o2, ho2, hr⟩ := br_bind hr
  refine L2 1000 0 0 v1 o2 ho2 ls (lv_sub hl [0, 1, 2, 3] rfl) (fun ls hl => ?_)
  refine lv_iload_n hx hb dX0_holes_122 rfl (lv_at hl 0 rfl) ?_
  exact W.iret hx hb hrt (fun t ht _ => ⟨ret_i hr, ht⟩) noB dX0_holes_123 hlk
def f_X0_bestFor_L29 (cv : CV) (a2 : Int32) (a3 : Int32) : Nat → Int32 → Int32 → Int32 → CV → Option (Int32 × CV)
  | 0, _, _, _, _ => none
  | n + 1, x7_5, x5_5, x4_5, tc_5 => if 100 ≤ x7_5 then some (x4_5, tc_5) else Option.bind (some ((x7_5 / 25) : Int32)) fun v7 => Option.bind (f_X8_canBite cv v7 (x7_5 - x7_5 / 25 * 25)) fun o8 => if o8 = 0 then Option.bind (some ((x7_5 + 1) : Int32)) fun v10 => f_X0_bestFor_L29 cv a2 a3 n v10 x5_5 x4_5 tc_5 else Option.bind (f_X0_cellsOf v7 (x7_5 - x7_5 / 25 * 25)) fun o11 => Option.bind (f_X8_leave tc_5 ((cG_left cv) &&& (o11 ^^^ (-1)))) fun o12 => Option.bind (f_X8_shareOf o12 a2) fun o13 => Option.bind (some ((a3 * o13) : Int32)) fun v14 => Option.bind (α := Int32) (if v14 ≤ x5_5 then some x4_5 else some (((100 : Int32) * v7) + (x7_5 - x7_5 / 25 * 25))) fun o16 => Option.bind (some ((if x5_5 < v14 then v14 else x5_5) : Int32)) fun v17 => Option.bind (some ((x7_5 + 1) : Int32)) fun v18 => f_X0_bestFor_L29 cv a2 a3 n v18 v17 o16 o12
def f_X0_bestFor (cv : CV) (a2 : Int32) (a3 : Int32) : Option (Int32) := Option.bind (f_X8_shareOf cv a2) fun o1 => Option.bind (some ((a3 * o1) : Int32)) fun v2 => Option.bind (f_X8_set cv0 cv) fun o4 => Option.bind (f_X0_bestFor_L29 cv a2 a3 1000 0 v2 (-9) o4) fun o5 => some o5.1
abbrev rm_X0_bestFor : Room := ({ frames := 9, cells := 3, slots := 18, locals := 421 })
theorem cw_X0_bestFor {R : Room} {s : State} {args : Array Value} {own : String} {index : Nat} (hts : ∀ w ∈ lw_all, w.before args s = true) (hlink : Cond.methodLink own index yX0_bestFor ∈ lw_all) (hR : rm_X0_bestFor.frames + 1 ≤ R.frames ∧ 8 + (10 + 11) + rm_X0_bestFor.locals ≤ R.locals) : CallW R s args own RX0 index yX0_bestFor cX0_bestFor 10 (some FieldType.int) (ws_ yX0_bestFor cX0_bestFor 10 (some FieldType.int)) rm_X0_bestFor rm_X0_bestFor.cells rm_X0_bestFor.slots 3 :=
  cwV 3 hts (lw_V hlink q814 qs30 q102 q815) rfl rfl rfl (by decide +kernel) hR
set_option maxHeartbeats 4000000 in
theorem m_X0_bestFor (l : Launch) (D : va_G) (ax : Nat → Nat) (ac : Nat → ClassId) (b kq fq : Nat) (cv : CV) (a2 : Int32) (a3 : Int32) (sz : Nat) (r0 : Int32) (hr : f_X0_bestFor cv a2 a3 = some r0) : WM l yX0_bestFor cX0_bestFor 10 (some FieldType.int) rm_X0_bestFor [.ref (ax 0), .ref b, .int a2, .int a3] D ac (wC ax b kq fq ac cv ++ wK ax) (wC ax b kq fq ac cv ++ wK ax) sz (some (.int r0)) := by
  refine fw_of (by decide) (Nat.le_of_ble_eq_true rfl) ?_
  intro p e s m below meth c ls hx hb hrt hts hown hlk hml _ hU hl
  obtain ⟨rfl, hP, hG, hD⟩ := hU
  have hA : ∀ q : Nat, s.heap.size ≤ q → (va_A (wC ax b kq fq ac cv ++ wK ax) s.heap.size) q := fun q h => Or.inr h
  have hS := Stt.start hP hD
  show WW p l e rm_X0_bestFor s m [.ref (ax 0), .ref b, .int a2, .int a3] below meth c D (wC ax b kq fq ac cv ++ wK ax) (va_A (wC ax b kq fq ac cv ++ wK ax) s.heap.size) (some (.int r0)) s.heap [] 0 0 0 ls []
  have hl : lv_has ls 10 [(0, .ref (ax 0)), (1, .ref b), (2, .int a2), (3, .int a3)] := hl
  rw [f_X0_bestFor] at hr
  refine lv_bipush (v := (-9)) hx hb dX0_bestFor_0 rfl ?_
  refine lv_istore (lv' := [(4, .int (-9)), (0, .ref (ax 0)), (1, .ref b), (2, .int a2), (3, .int a3)]) hx hb dX0_bestFor_2 hl (by decide) rfl (fun ls hl => ?_)
  refine lv_iload_n hx hb dX0_bestFor_4 rfl (lv_at hl 4 rfl) ?_
  refine lv_aload_n hx hb dX0_bestFor_5 rfl (lv_at hl 2 rfl) ?_
  refine lv_iload_n hx hb dX0_bestFor_6 rfl (lv_at hl 3 rfl) ?_
  obtain ⟨o1, ho1, hr⟩ := br_bind hr
  refine fwRV (As := [.int a2]) (rest := [.int a3]) (C := RX8) hx hb hml hown hts (m_X8_shareOf l D ax ac b kq fq cv a2 o1 ho1) (cw_X8_shareOf hts q684 ⟨Nat.le_of_ble_eq_true rfl, Nat.le_of_ble_eq_true rfl⟩) hG hP hP 0 7 rfl rfl rfl hl.1 rfl (Nat.le_of_ble_eq_true rfl) dX0_bestFor_7 ⟨Nat.le_of_ble_eq_true rfl, Nat.le_of_ble_eq_true rfl⟩ ?_
  refine lv_imul hx hb dX0_bestFor_10 ?_
  refine lv_topi (fun v2 hv2 => ?_)
  have hr := br_letv hr hv2
  refine lv_istore (lv' := [(5, .int v2), (4, .int (-9)), (0, .ref (ax 0)), (1, .ref b), (2, .int a2), (3, .int a3)]) hx hb dX0_bestFor_11 hl (by decide) rfl (fun ls hl => ?_)
  refine fw_new (D := D) (ac := ac) (C := RX8) (T := TX8) (N := 8) (ci := 7) (fs := f0_X8) hx hb hts in_X8 tyX8 tyX8_ok hown (hts _ q182) (hts _ q183) (hts _ q110) hG hS hA rfl (fun j hj => by rcases (show j = 0 ∨ j = 1 ∨ j = 2 ∨ j = 3 ∨ j = 4 ∨ j = 5 ∨ j = 6 ∨ j = 7 by omega) with rfl | rfl | rfl | rfl | rfl | rfl | rfl | rfl <;> rfl) (Nat.le_of_ble_eq_true rfl) (Nat.le_of_ble_eq_true rfl) dX0_bestFor_13 (fun tc H hS => ?_)
  refine lv_dup hx hb dX0_bestFor_16 rfl ?_
  refine fwNIN (As := []) (rest := [.ref tc]) hx hb hml hown hts (m_X8_init l D ax ac tc H.size) (cwin_X8_init hts (hG.2.1 _ nq184) ⟨Nat.le_of_ble_eq_true rfl, Nat.le_of_ble_eq_true rfl⟩) hG hS hA rfl hl.1 rfl (Nat.le_of_ble_eq_true rfl) dX0_bestFor_17 ⟨Nat.le_of_ble_eq_true rfl, Nat.le_of_ble_eq_true rfl⟩ (fun u H locs hS => ?_)
  obtain ⟨tck, tcf⟩ := u
  have hS : Stt D (va_A (wC ax b kq fq ac cv ++ wK ax) s.heap.size) s.heap (wC ax b kq fq ac cv ++ wK ax ++ wC ax tc tck tcf ac cv0) H locs := hS
  have hP := hS.1
  refine W.widen (k := 3) (n := 18) (Nat.le_of_ble_eq_true rfl) (Nat.le_of_ble_eq_true rfl) ?_
  refine lv_aload_n hx hb dX0_bestFor_20 rfl (lv_at hl 3 rfl) ?_
  obtain ⟨o4, ho4, hr⟩ := br_bind hr
  refine fwWV (As := [.ref b]) (rest := []) (C := RX8) hx hb hml hown hts (m_X8_set l D ax ac tc tck tcf cv0 b kq fq cv _ o4 ho4) (cw_X8_set hts q534 ⟨Nat.le_of_ble_eq_true rfl, Nat.le_of_ble_eq_true rfl⟩) hG hS hA [9, 10, 11, 0, 1, 2, 3, 4, 5, 6, 7, 8] rfl rfl rfl 9 7 rfl rfl rfl hl.1 rfl (Nat.le_of_ble_eq_true rfl) dX0_bestFor_21 ⟨Nat.le_of_ble_eq_true rfl, Nat.le_of_ble_eq_true rfl⟩ (wn := wC ax b kq fq ac cv ++ wK ax ++ wC ax tc tck tcf ac o4) (rfl) (fun H locs hS => ?_)
  have hP := hS.1
  refine lv_astore (lv' := [(6, .ref tc), (5, .int v2), (4, .int (-9)), (0, .ref (ax 0)), (1, .ref b), (2, .int a2), (3, .int a3)]) hx hb dX0_bestFor_24 hl (by decide) rfl (fun ls hl => ?_)
  refine lv_iconst (v := 0) hx hb dX0_bestFor_26 rfl ?_
  refine lv_istore (lv' := [(7, .int 0), (6, .ref tc), (5, .int v2), (4, .int (-9)), (0, .ref (ax 0)), (1, .ref b), (2, .int a2), (3, .int a3)]) hx hb dX0_bestFor_27 hl (by decide) rfl (fun ls hl => ?_)
  have L5 : ∀ (n : Nat) (x7_5 : Int32) (x5_5 : Int32) (x4_5 : Int32) (tc_5 : CV) (o5 : Int32 × CV), f_X0_bestFor_L29 cv a2 a3 n x7_5 x5_5 x4_5 tc_5 = some o5 → ∀ (H : Heap) (locs : List Loc) ls, lv_has ls 10 [(7, .int x7_5), (6, .ref tc), (5, .int x5_5), (4, .int x4_5), (1, .ref b), (2, .int a2), (3, .int a3)] → Stt D (va_A (wC ax b kq fq ac cv ++ wK ax) s.heap.size) s.heap (wC ax b kq fq ac cv ++ wK ax ++ wC ax tc tck tcf ac tc_5) H locs → (∀ (H : Heap) (locs : List Loc) ls, lv_has ls 10 [(4, .int o5.1)] → Stt D (va_A (wC ax b kq fq ac cv ++ wK ax) s.heap.size) s.heap (wC ax b kq fq ac cv ++ wK ax ++ wC ax tc tck tcf ac o5.2) H locs → WW p l e rm_X0_bestFor s m [.ref (ax 0), .ref b, .int a2, .int a3] below meth c D (wC ax b kq fq ac cv ++ wK ax) (va_A (wC ax b kq fq ac cv ++ wK ax) s.heap.size) (some (.int r0)) H locs 3 18 130 ls []) → WW p l e rm_X0_bestFor s m [.ref (ax 0), .ref b, .int a2, .int a3] below meth c D (wC ax b kq fq ac cv ++ wK ax) (va_A (wC ax b kq fq ac cv ++ wK ax) s.heap.size) (some (.int r0)) H locs 3 18 29 ls [] := by
    intro n
    induction n with
    | zero => intro x7_5 x5_5 x4_5 tc_5 o5 hr; rw [f_X0_bestFor_L29] at hr; cases hr
    | succ n ih =>
      intro x7_5 x5_5 x4_5 tc_5 o5 hr H locs ls hl hS kx
      have hP := hS.1
      rw [f_X0_bestFor_L29] at hr
      refine lv_iload hx hb dX0_bestFor_29 (lv_at hl 0 rfl) ?_
      refine lv_bipush (v := 100) hx hb dX0_bestFor_31 rfl ?_
      have hi6 := br_ite hr
      refine lv_icmp_ge (tgt := 130) hx hb dX0_bestFor_33 (by decide) (fun c6 => ?_) (fun c6 => ?_)
      · have hr := hi6.1 c6
        obtain rfl := Option.some.inj hr
        exact kx _ _ ls (lv_sub hl [3] rfl) hS
      · have hr := hi6.2 c6
        refine lv_iload hx hb dX0_bestFor_36 (lv_at hl 0 rfl) ?_
        refine lv_bipush (v := 25) hx hb dX0_bestFor_38 rfl ?_
        refine lv_idiv hx hb dX0_bestFor_40 (by decide) ?_
        refine lv_topi (fun v7 hv7 => ?_)
        have hr := br_letv hr hv7
        refine lv_istore (lv' := [(8, .int v7), (7, .int x7_5), (6, .ref tc), (5, .int x5_5), (4, .int x4_5), (1, .ref b), (2, .int a2), (3, .int a3)]) hx hb dX0_bestFor_41 hl (by decide) rfl (fun ls hl => ?_)
        refine lv_aload_n hx hb dX0_bestFor_43 rfl (lv_at hl 5 rfl) ?_
        refine lv_iload hx hb dX0_bestFor_44 (lv_at hl 0 rfl) ?_
        refine lv_iload hx hb dX0_bestFor_46 (lv_at hl 1 rfl) ?_
        refine lv_bipush (v := 25) hx hb dX0_bestFor_48 rfl ?_
        refine lv_irem hx hb dX0_bestFor_50 (by decide) ?_
        obtain ⟨o8, ho8, hr⟩ := br_bind hr
        refine fwRV (As := [.int v7, .int (x7_5 - x7_5 / 25 * 25)]) (rest := []) (C := RX8) hx hb hml hown hts (m_X8_canBite l D ax ac b kq fq cv v7 (x7_5 - x7_5 / 25 * 25) o8 ho8) (cw_X8_canBite hts q742 ⟨Nat.le_of_ble_eq_true rfl, Nat.le_of_ble_eq_true rfl⟩) hG hP (hP.pick [0, 1, 2] rfl) 0 7 rfl rfl rfl hl.1 rfl (Nat.le_of_ble_eq_true rfl) dX0_bestFor_51 ⟨Nat.le_of_ble_eq_true rfl, Nat.le_of_ble_eq_true rfl⟩ ?_
        have hi9 := br_ite hr
        refine lv_if_eq (tgt := 124) hx hb dX0_bestFor_54 (by decide) (fun c9 => ?_) (fun c9 => ?_)
        · have hr := hi9.1 c9
          obtain ⟨v10, hv10, hr⟩ := br_let hr
          refine lv_iinc (v := v10) (lv' := [(7, .int v10), (8, .int v7), (6, .ref tc), (5, .int x5_5), (4, .int x4_5), (1, .ref b), (2, .int a2), (3, .int a3)]) hx hb dX0_bestFor_124 hl (k := 1) rfl (hv10 ▸ rfl) (by decide) rfl (fun ls hl => ?_)
          refine lv_goto (tgt := 29) hx hb dX0_bestFor_127 (by decide) ?_
          exact ih v10 x5_5 x4_5 tc_5 _ hr _ _ ls (lv_sub hl [0, 2, 3, 4, 5, 6, 7] rfl) hS kx
        · have hr := hi9.2 c9
          refine lv_aload hx hb dX0_bestFor_57 (lv_at hl 2 rfl) ?_
          refine lv_aload_n hx hb dX0_bestFor_59 rfl (lv_at hl 5 rfl) ?_
          refine va_getN (D := D) (ci := 7) (v := .int (cG_left cv)) (C := RX8) (T := TX8) (N := 8) hx hb hts in_X8 hown hG.1 hP 0 rfl rfl 0 (by decide) (va_Nw.use rfl (hG.2.1 _ nq193)) (fun _ h9 => h9) rfl dX0_bestFor_60 ?_
          refine lv_iload hx hb dX0_bestFor_63 (lv_at hl 0 rfl) ?_
          refine lv_iload hx hb dX0_bestFor_65 (lv_at hl 1 rfl) ?_
          refine lv_bipush (v := 25) hx hb dX0_bestFor_67 rfl ?_
          refine lv_irem hx hb dX0_bestFor_69 (by decide) ?_
          obtain ⟨o11, ho11, hr⟩ := br_bind hr
          refine fwS (As := [.int v7, .int (x7_5 - x7_5 / 25 * 25)]) (rest := [.int (cG_left cv), .ref tc]) hx hb hml hown hts (m_X0_cellsOf l v7 (x7_5 - x7_5 / 25 * 25) o11 ho11) (cw_X0_cellsOf hts q816 ⟨Nat.le_of_ble_eq_true rfl, Nat.le_of_ble_eq_true rfl⟩) rfl hl.1 rfl (Nat.le_of_ble_eq_true rfl) dX0_bestFor_70 ⟨Nat.le_of_ble_eq_true rfl, Nat.le_of_ble_eq_true rfl⟩ ?_
          refine lv_iconst (v := (-1)) hx hb dX0_bestFor_73 rfl ?_
          refine lv_ixor hx hb dX0_bestFor_74 ?_
          refine lv_iand hx hb dX0_bestFor_75 ?_
          obtain ⟨o12, ho12, hr⟩ := br_bind hr
          refine fwWV (As := [.int ((cG_left cv) &&& (o11 ^^^ (-1)))]) (rest := []) (C := RX8) hx hb hml hown hts (m_X8_leave l D ax ac tc tck tcf tc_5 ((cG_left cv) &&& (o11 ^^^ (-1))) _ o12 ho12) (cw_X8_leave hts q748 ⟨Nat.le_of_ble_eq_true rfl, Nat.le_of_ble_eq_true rfl⟩) hG hS hA [9, 10, 11] rfl rfl rfl 9 7 rfl rfl rfl hl.1 rfl (Nat.le_of_ble_eq_true rfl) dX0_bestFor_76 ⟨Nat.le_of_ble_eq_true rfl, Nat.le_of_ble_eq_true rfl⟩ (wn := wC ax b kq fq ac cv ++ wK ax ++ wC ax tc tck tcf ac o12) (rfl) (fun H locs hS => ?_)
          have hP := hS.1
          refine lv_pop hx hb dX0_bestFor_79 rfl ?_
          refine lv_iload_n hx hb dX0_bestFor_80 rfl (lv_at hl 7 rfl) ?_
          refine lv_aload hx hb dX0_bestFor_81 (lv_at hl 2 rfl) ?_
          refine lv_iload_n hx hb dX0_bestFor_83 rfl (lv_at hl 6 rfl) ?_
          obtain ⟨o13, ho13, hr⟩ := br_bind hr
          refine fwRV (As := [.int a2]) (rest := [.int a3]) (C := RX8) hx hb hml hown hts (m_X8_shareOf l D ax ac tc tck tcf o12 a2 o13 ho13) (cw_X8_shareOf hts q684 ⟨Nat.le_of_ble_eq_true rfl, Nat.le_of_ble_eq_true rfl⟩) hG hP (hP.pick [9, 10, 11, 3, 4, 5, 6, 7, 8] rfl) 9 7 rfl rfl rfl hl.1 rfl (Nat.le_of_ble_eq_true rfl) dX0_bestFor_84 ⟨Nat.le_of_ble_eq_true rfl, Nat.le_of_ble_eq_true rfl⟩ ?_
          refine lv_imul hx hb dX0_bestFor_87 ?_
          refine lv_topi (fun v14 hv14 => ?_)
          have hr := br_letv hr hv14
          refine lv_istore (lv' := [(9, .int v14), (8, .int v7), (7, .int x7_5), (6, .ref tc), (5, .int x5_5), (4, .int x4_5), (1, .ref b), (2, .int a2), (3, .int a3)]) hx hb dX0_bestFor_88 hl (by decide) rfl (fun ls hl => ?_)
          refine lv_iload hx hb dX0_bestFor_90 (lv_at hl 0 rfl) ?_
          refine lv_iload hx hb dX0_bestFor_92 (lv_at hl 4 rfl) ?_
          obtain ⟨o16, ho16, hr⟩ := br_bind hr
          have J16 : ∀ (H : Heap) (locs : List Loc) ls, lv_has ls 10 [(9, .int v14), (7, .int x7_5), (6, .ref tc), (5, .int x5_5), (1, .ref b), (2, .int a2), (3, .int a3)] → Stt D (va_A (wC ax b kq fq ac cv ++ wK ax) s.heap.size) s.heap (wC ax b kq fq ac cv ++ wK ax ++ wC ax tc tck tcf ac o12) H locs → WW p l e rm_X0_bestFor s m [.ref (ax 0), .ref b, .int a2, .int a3] below meth c D (wC ax b kq fq ac cv ++ wK ax) (va_A (wC ax b kq fq ac cv ++ wK ax) s.heap.size) (some (.int r0)) H locs 3 18 113 ls [.int o16] := by
            intro H locs ls hl hS
            have hP := hS.1
            refine lv_istore (lv' := [(4, .int o16), (9, .int v14), (7, .int x7_5), (6, .ref tc), (5, .int x5_5), (1, .ref b), (2, .int a2), (3, .int a3)]) hx hb dX0_bestFor_113 hl (by decide) rfl (fun ls hl => ?_)
            refine lv_iload hx hb dX0_bestFor_115 (lv_at hl 4 rfl) ?_
            refine lv_iload hx hb dX0_bestFor_117 (lv_at hl 1 rfl) ?_
            refine va_mmax hx hb (hml.trans hl.1.symm) hown (hts _ q817) (hts _ q608) (hts _ q126) (hts _ q609) (Nat.le_of_ble_eq_true rfl) (Nat.le_of_ble_eq_true rfl) (Nat.le_of_ble_eq_true rfl) (Nat.le_of_ble_eq_true rfl) dX0_bestFor_119 ?_
            refine lv_topi (fun v17 hv17 => ?_)
            have hr := br_letv hr hv17
            refine lv_istore (lv' := [(5, .int v17), (4, .int o16), (9, .int v14), (7, .int x7_5), (6, .ref tc), (1, .ref b), (2, .int a2), (3, .int a3)]) hx hb dX0_bestFor_122 hl (by decide) rfl (fun ls hl => ?_)
            obtain ⟨v18, hv18, hr⟩ := br_let hr
            refine lv_iinc (v := v18) (lv' := [(7, .int v18), (5, .int v17), (4, .int o16), (9, .int v14), (6, .ref tc), (1, .ref b), (2, .int a2), (3, .int a3)]) hx hb dX0_bestFor_124 hl (k := 3) rfl (hv18 ▸ rfl) (by decide) rfl (fun ls hl => ?_)
            refine lv_goto (tgt := 29) hx hb dX0_bestFor_127 (by decide) ?_
            exact ih v18 v17 o16 o12 _ hr _ _ ls (lv_sub hl [0, 4, 1, 2, 5, 6, 7] rfl) hS kx
          have hr := ho16
          have hi15 := br_ite hr
          refine lv_icmp_le (tgt := 111) hx hb dX0_bestFor_94 (by decide) (fun c15 => ?_) (fun c15 => ?_)
          · have hr := hi15.1 c15
            refine lv_iload hx hb dX0_bestFor_111 (lv_at hl 5 rfl) ?_
            obtain rfl := Option.some.inj hr
            exact J16 _ _ ls (lv_sub hl [0, 2, 3, 4, 6, 7, 8] rfl) hS
          · have hr := hi15.2 c15
            refine lv_bipush (v := 100) hx hb dX0_bestFor_97 rfl ?_
            refine lv_iload hx hb dX0_bestFor_99 (lv_at hl 1 rfl) ?_
            refine lv_imul hx hb dX0_bestFor_101 ?_
            refine lv_iload hx hb dX0_bestFor_102 (lv_at hl 2 rfl) ?_
            refine lv_bipush (v := 25) hx hb dX0_bestFor_104 rfl ?_
            refine lv_irem hx hb dX0_bestFor_106 (by decide) ?_
            refine lv_iadd hx hb dX0_bestFor_107 ?_
            refine lv_goto (tgt := 113) hx hb dX0_bestFor_108 (by decide) ?_
            obtain rfl := Option.some.inj hr
            exact J16 _ _ ls (lv_sub hl [0, 2, 3, 4, 6, 7, 8] rfl) hS
  obtain ⟨o5, ho5, hr⟩ := br_bind hr
  refine L5 1000 0 v2 (-9) o4 o5 ho5 _ _ ls (lv_sub hl [0, 1, 2, 3, 5, 6, 7] rfl) hS (fun H locs ls hl hS => ?_)
  have hP := hS.1
  refine lv_iload hx hb dX0_bestFor_130 (lv_at hl 0 rfl) ?_
  obtain rfl := Option.some.inj hr
  have hS := hS.perm (ws' := wC ax b kq fq ac cv ++ wK ax) [0, 1, 2, 3, 4, 5, 6, 7, 8] (by decide) rfl
  refine W.widen (k := rm_X0_bestFor.cells) (n := rm_X0_bestFor.slots) (Nat.le_of_ble_eq_true rfl) (Nat.le_of_ble_eq_true rfl) ?_
  exact W.iret hx hb hrt (fun t ht _ => hS.q ht rfl) hS.2.2.2.2 dX0_bestFor_132 hlk
def f_X0_hasBehindOne_L3 (a2 : Int32) (a3 : Int32) (a4 : Int32) : Nat → Int32 → XS → Option ((Int32 × XS) ⊕ (XS))
  | 0, _, _ => none
  | n + 1, x5_1, g_1 => if 100 ≤ x5_1 then some (Sum.inr g_1) else Option.bind (f_X0_cellsOf (x5_1 / 25) (x5_1 - x5_1 / 25 * 25)) fun o3 => if o3 = 0 then Option.bind (some ((x5_1 + 1) : Int32)) fun v5 => f_X0_hasBehindOne_L3 a2 a3 a4 n v5 g_1 else if (o3 &&& (a2 ^^^ (-1))) = 0 then Option.bind (f_X8_leave (xG_mind g_1) (a2 &&& (o3 ^^^ (-1)))) fun o8 => Option.bind (some (xS_mind g_1 o8)) fun g9 => Option.bind (f_X8_shareOf (xG_mind g9) a3) fun o10 => if o10 < a4 then Option.bind (some ((x5_1 + 1) : Int32)) fun v12 => f_X0_hasBehindOne_L3 a2 a3 a4 n v12 g9 else some (Sum.inl (1, g9)) else Option.bind (some ((x5_1 + 1) : Int32)) fun v7 => f_X0_hasBehindOne_L3 a2 a3 a4 n v7 g_1
def f_X0_hasBehindOne (g : XS) (a2 : Int32) (a3 : Int32) (a4 : Int32) : Option (Int32 × XS) := bsR (f_X0_hasBehindOne_L3 a2 a3 a4 1000 0 g) fun t1 => some (0, t1)
abbrev rm_X0_hasBehindOne : Room := ({ frames := 9, cells := 0, slots := 0, locals := 421 })
theorem cw_X0_hasBehindOne {R : Room} {s : State} {args : Array Value} {own : String} {index : Nat} (hts : ∀ w ∈ lw_all, w.before args s = true) (hlink : Cond.methodLink own index yX0_hasBehindOne ∈ lw_all) (hR : rm_X0_hasBehindOne.frames + 1 ≤ R.frames ∧ 8 + (7 + 11) + rm_X0_hasBehindOne.locals ≤ R.locals) : CallW R s args own RX0 index yX0_hasBehindOne cX0_hasBehindOne 7 (some FieldType.boolean) (ws_ yX0_hasBehindOne cX0_hasBehindOne 7 (some FieldType.boolean)) rm_X0_hasBehindOne rm_X0_hasBehindOne.cells rm_X0_hasBehindOne.slots 4 :=
  cwV 4 hts (lw_V hlink q836 qs34 q102 q837) rfl rfl rfl (by decide +kernel) hR
set_option maxHeartbeats 4000000 in
theorem m_X0_hasBehindOne (l : Launch) (D : va_G) (ax : Nat → Nat) (ac : Nat → ClassId) (g : XS) (a2 : Int32) (a3 : Int32) (a4 : Int32) (sz : Nat) (r0 : Int32 × XS) (hr : f_X0_hasBehindOne g a2 a3 a4 = some r0) : WM l yX0_hasBehindOne cX0_hasBehindOne 7 (some FieldType.boolean) rm_X0_hasBehindOne [.ref (ax 0), .ref (ax 4), .int a2, .int a3, .int a4] D ac (wX ax ac g) (wX ax ac r0.2) sz (some (.int r0.1)) := by
  refine fw_of (by decide) (Nat.le_of_ble_eq_true rfl) ?_
  intro p e s m below meth c ls hx hb hrt hts hown hlk hml _ hU hl
  obtain ⟨rfl, hP, hG, hD⟩ := hU
  have hA : ∀ q : Nat, s.heap.size ≤ q → (va_A (wX ax ac g) s.heap.size) q := fun q h => Or.inr h
  have hS := Stt.start hP hD
  show WW p l e rm_X0_hasBehindOne s m [.ref (ax 0), .ref (ax 4), .int a2, .int a3, .int a4] below meth c D (wX ax ac r0.2) (va_A (wX ax ac g) s.heap.size) (some (.int r0.1)) s.heap [] 0 0 0 ls []
  have hl : lv_has ls 7 [(0, .ref (ax 0)), (1, .ref (ax 4)), (2, .int a2), (3, .int a3), (4, .int a4)] := hl
  rw [f_X0_hasBehindOne] at hr
  refine lv_iconst (v := 0) hx hb dX0_hasBehindOne_0 rfl ?_
  refine lv_istore (lv' := [(5, .int 0), (0, .ref (ax 0)), (1, .ref (ax 4)), (2, .int a2), (3, .int a3), (4, .int a4)]) hx hb dX0_hasBehindOne_1 hl (by decide) rfl (fun ls hl => ?_)
  have L1 : ∀ (n : Nat) (x5_1 : Int32) (g_1 : XS) (o1 : (Int32 × XS) ⊕ (XS)), f_X0_hasBehindOne_L3 a2 a3 a4 n x5_1 g_1 = some o1 → (∀ r, o1 = Sum.inl r → some r = some r0) → ∀ (H : Heap) (locs : List Loc) ls, lv_has ls 7 [(5, .int x5_1), (1, .ref (ax 4)), (2, .int a2), (3, .int a3), (4, .int a4)] → Stt D (va_A (wX ax ac g) s.heap.size) s.heap (wX ax ac g_1) H locs → (∀ t1, o1 = Sum.inr t1 → ∀ (H : Heap) (locs : List Loc) ls, lv_has ls 7 [] → Stt D (va_A (wX ax ac g) s.heap.size) s.heap (wX ax ac t1) H locs → WW p l e rm_X0_hasBehindOne s m [.ref (ax 0), .ref (ax 4), .int a2, .int a3, .int a4] below meth c D (wX ax ac r0.2) (va_A (wX ax ac g) s.heap.size) (some (.int r0.1)) H locs 0 0 66 ls []) → WW p l e rm_X0_hasBehindOne s m [.ref (ax 0), .ref (ax 4), .int a2, .int a3, .int a4] below meth c D (wX ax ac r0.2) (va_A (wX ax ac g) s.heap.size) (some (.int r0.1)) H locs 0 0 3 ls [] := by
    intro n
    induction n with
    | zero => intro x5_1 g_1 o1 hr; rw [f_X0_hasBehindOne_L3] at hr; cases hr
    | succ n ih =>
      intro x5_1 g_1 o1 hr hret H locs ls hl hS kx
      have hP := hS.1
      rw [f_X0_hasBehindOne_L3] at hr
      refine lv_iload hx hb dX0_hasBehindOne_3 (lv_at hl 0 rfl) ?_
      refine lv_bipush (v := 100) hx hb dX0_hasBehindOne_5 rfl ?_
      have hi2 := br_ite hr
      refine lv_icmp_ge (tgt := 66) hx hb dX0_hasBehindOne_7 (by decide) (fun c2 => ?_) (fun c2 => ?_)
      · have hr := hi2.1 c2
        exact kx _ (Option.some.inj hr).symm _ _ ls (lv_sub hl [] rfl) hS
      · have hr := hi2.2 c2
        refine lv_iload hx hb dX0_hasBehindOne_10 (lv_at hl 0 rfl) ?_
        refine lv_bipush (v := 25) hx hb dX0_hasBehindOne_12 rfl ?_
        refine lv_idiv hx hb dX0_hasBehindOne_14 (by decide) ?_
        refine lv_iload hx hb dX0_hasBehindOne_15 (lv_at hl 0 rfl) ?_
        refine lv_bipush (v := 25) hx hb dX0_hasBehindOne_17 rfl ?_
        refine lv_irem hx hb dX0_hasBehindOne_19 (by decide) ?_
        obtain ⟨o3, ho3, hr⟩ := br_bind hr
        refine fwS (As := [.int (x5_1 / 25), .int (x5_1 - x5_1 / 25 * 25)]) (rest := []) hx hb hml hown hts (m_X0_cellsOf l (x5_1 / 25) (x5_1 - x5_1 / 25 * 25) o3 ho3) (cw_X0_cellsOf hts q816 ⟨Nat.le_of_ble_eq_true rfl, Nat.le_of_ble_eq_true rfl⟩) rfl hl.1 rfl (Nat.le_of_ble_eq_true rfl) dX0_hasBehindOne_20 ⟨Nat.le_of_ble_eq_true rfl, Nat.le_of_ble_eq_true rfl⟩ ?_
        refine lv_istore (lv' := [(6, .int o3), (5, .int x5_1), (1, .ref (ax 4)), (2, .int a2), (3, .int a3), (4, .int a4)]) hx hb dX0_hasBehindOne_23 hl (by decide) rfl (fun ls hl => ?_)
        refine lv_iload hx hb dX0_hasBehindOne_25 (lv_at hl 0 rfl) ?_
        have hi4 := br_ite hr
        refine lv_if_eq (tgt := 60) hx hb dX0_hasBehindOne_27 (by decide) (fun c4 => ?_) (fun c4 => ?_)
        · have hr := hi4.1 c4
          obtain ⟨v5, hv5, hr⟩ := br_let hr
          refine lv_iinc (v := v5) (lv' := [(5, .int v5), (6, .int o3), (1, .ref (ax 4)), (2, .int a2), (3, .int a3), (4, .int a4)]) hx hb dX0_hasBehindOne_60 hl (k := 1) rfl (hv5 ▸ rfl) (by decide) rfl (fun ls hl => ?_)
          refine lv_goto (tgt := 3) hx hb dX0_hasBehindOne_63 (by decide) ?_
          exact ih v5 g_1 _ hr hret _ _ ls (lv_sub hl [0, 2, 3, 4, 5] rfl) hS kx
        · have hr := hi4.2 c4
          refine lv_iload hx hb dX0_hasBehindOne_30 (lv_at hl 0 rfl) ?_
          refine lv_iload_n hx hb dX0_hasBehindOne_32 rfl (lv_at hl 3 rfl) ?_
          refine lv_iconst (v := (-1)) hx hb dX0_hasBehindOne_33 rfl ?_
          refine lv_ixor hx hb dX0_hasBehindOne_34 ?_
          refine lv_iand hx hb dX0_hasBehindOne_35 ?_
          have hi6 := br_ite hr
          refine lv_if_ne (tgt := 60) hx hb dX0_hasBehindOne_36 (by decide) (fun c6 => ?_) (fun c6 => ?_)
          · have hr := hi6.2 c6
            obtain ⟨v7, hv7, hr⟩ := br_let hr
            refine lv_iinc (v := v7) (lv' := [(5, .int v7), (6, .int o3), (1, .ref (ax 4)), (2, .int a2), (3, .int a3), (4, .int a4)]) hx hb dX0_hasBehindOne_60 hl (k := 1) rfl (hv7 ▸ rfl) (by decide) rfl (fun ls hl => ?_)
            refine lv_goto (tgt := 3) hx hb dX0_hasBehindOne_63 (by decide) ?_
            exact ih v7 g_1 _ hr hret _ _ ls (lv_sub hl [0, 2, 3, 4, 5] rfl) hS kx
          · have hr := hi6.1 c6
            refine lv_aload_n hx hb dX0_hasBehindOne_39 rfl (lv_at hl 2 rfl) ?_
            refine lv_iload_n hx hb dX0_hasBehindOne_40 rfl (lv_at hl 3 rfl) ?_
            refine lv_iload hx hb dX0_hasBehindOne_41 (lv_at hl 0 rfl) ?_
            refine lv_iconst (v := (-1)) hx hb dX0_hasBehindOne_43 rfl ?_
            refine lv_ixor hx hb dX0_hasBehindOne_44 ?_
            refine lv_iand hx hb dX0_hasBehindOne_45 ?_
            obtain ⟨o8, ho8, hr⟩ := br_bind hr
            obtain ⟨g9, hg9, hr⟩ := br_let hr
            refine fwWV (As := [.int (a2 &&& (o3 ^^^ (-1)))]) (rest := []) (C := RX8) hx hb hml hown hts (m_X8_leave l D ax ac (ax 4) (ax 5) (ax 6) (xG_mind g_1) (a2 &&& (o3 ^^^ (-1))) _ o8 ho8) (cw_X8_leave hts q748 ⟨Nat.le_of_ble_eq_true rfl, Nat.le_of_ble_eq_true rfl⟩) hG hS hA [4, 5, 6] rfl rfl rfl 4 7 rfl rfl rfl hl.1 rfl (Nat.le_of_ble_eq_true rfl) dX0_hasBehindOne_46 ⟨Nat.le_of_ble_eq_true rfl, Nat.le_of_ble_eq_true rfl⟩ (wn := wX ax ac g9) (by rw [hg9]; rfl) (fun H locs hS => ?_)
            have hP := hS.1
            refine lv_iload_n hx hb dX0_hasBehindOne_49 rfl (lv_at hl 4 rfl) ?_
            obtain ⟨o10, ho10, hr⟩ := br_bind hr
            refine fwRV (As := [.int a3]) (rest := []) (C := RX8) hx hb hml hown hts (m_X8_shareOf l D ax ac (ax 4) (ax 5) (ax 6) (xG_mind g9) a3 o10 ho10) (cw_X8_shareOf hts q684 ⟨Nat.le_of_ble_eq_true rfl, Nat.le_of_ble_eq_true rfl⟩) hG hP (hP.pick [4, 5, 6, 11, 12, 13, 14, 15, 16] rfl) 4 7 rfl rfl rfl hl.1 rfl (Nat.le_of_ble_eq_true rfl) dX0_hasBehindOne_50 ⟨Nat.le_of_ble_eq_true rfl, Nat.le_of_ble_eq_true rfl⟩ ?_
            refine lv_iload hx hb dX0_hasBehindOne_53 (lv_at hl 5 rfl) ?_
            have hi11 := br_ite hr
            refine lv_icmp_lt (tgt := 60) hx hb dX0_hasBehindOne_55 (by decide) (fun c11 => ?_) (fun c11 => ?_)
            · have hr := hi11.1 c11
              obtain ⟨v12, hv12, hr⟩ := br_let hr
              refine lv_iinc (v := v12) (lv' := [(5, .int v12), (6, .int o3), (1, .ref (ax 4)), (2, .int a2), (3, .int a3), (4, .int a4)]) hx hb dX0_hasBehindOne_60 hl (k := 1) rfl (hv12 ▸ rfl) (by decide) rfl (fun ls hl => ?_)
              refine lv_goto (tgt := 3) hx hb dX0_hasBehindOne_63 (by decide) ?_
              exact ih v12 g9 _ hr hret _ _ ls (lv_sub hl [0, 2, 3, 4, 5] rfl) hS kx
            · have hr := hi11.2 c11
              refine lv_iconst (v := 1) hx hb dX0_hasBehindOne_58 rfl ?_
              have hr := hret _ (Option.some.inj hr).symm
              obtain rfl := Option.some.inj hr
              refine W.widen (k := rm_X0_hasBehindOne.cells) (n := rm_X0_hasBehindOne.slots) (Nat.le_of_ble_eq_true rfl) (Nat.le_of_ble_eq_true rfl) ?_
              exact W.zret (v := 1) (ty := .boolean) hx hb hrt rfl (fun t ht _ => hS.q ht rfl) hS.2.2.2.2 dX0_hasBehindOne_59 hlk
  obtain ⟨o1, ho1, hl1, hk1⟩ := br_bsR hr
  refine L1 1000 0 g o1 ho1 (fun r hq => hl1 r hq) _ _ ls (lv_sub hl [0, 2, 3, 4, 5] rfl) hS (fun t1 hq1 H locs ls hl hS => ?_)
  have hP := hS.1
  have hr := hk1 t1 hq1
  refine lv_iconst (v := 0) hx hb dX0_hasBehindOne_66 rfl ?_
  obtain rfl := Option.some.inj hr
  refine W.widen (k := rm_X0_hasBehindOne.cells) (n := rm_X0_hasBehindOne.slots) (Nat.le_of_ble_eq_true rfl) (Nat.le_of_ble_eq_true rfl) ?_
  exact W.zret (v := 0) (ty := .boolean) hx hb hrt rfl (fun t ht _ => hS.q ht rfl) hS.2.2.2.2 dX0_hasBehindOne_67 hlk
def f_X0_fewestFor_L41 (a1 : Int32) (a2 : Int32) (a3 : Int32) (x5_4 : Int32) : Nat → Int32 → XS → Option ((Int32 × XS) ⊕ (XS))
  | 0, _, _ => none
  | n + 1, x6_6, g_6 => if 100 ≤ x6_6 then some (Sum.inr g_6) else Option.bind (f_X8_canBite (xG_core0 g_6) (x6_6 / 25) (x6_6 - x6_6 / 25 * 25)) fun o8 => if o8 = 0 then Option.bind (some ((x6_6 + 1) : Int32)) fun v10 => f_X0_fewestFor_L41 a1 a2 a3 x5_4 n v10 g_6 else Option.bind (f_X0_cellsOf (x6_6 / 25) (x6_6 - x6_6 / 25 * 25)) fun o11 => Option.bind (some (((cG_left (xG_core0 g_6)) &&& (o11 ^^^ (-1))) : Int32)) fun v12 => Option.bind (α := Int32 × XS) (if x5_4 = 1 then Option.bind (f_X8_leave (xG_mind g_6) v12) fun o16 => Option.bind (some (xS_mind g_6 o16)) fun g17 => Option.bind (f_X8_shareOf (xG_mind g17) a1) fun o18 => if o18 < a2 then some (0, g17) else some (1, g17) else Option.bind (f_X0_hasBehindOne g_6 v12 a1 a2) fun o15 => some (o15.1, o15.2)) fun o14 => if o14.1 = 0 then Option.bind (some ((x6_6 + 1) : Int32)) fun v21 => f_X0_fewestFor_L41 a1 a2 a3 x5_4 n v21 o14.2 else if a3 = 0 then some (Sum.inl (x5_4, o14.2)) else some (Sum.inl ((((100 : Int32) * (x6_6 / 25)) + (x6_6 - x6_6 / 25 * 25)), o14.2))
def f_X0_fewestFor_L32 (a1 : Int32) (a2 : Int32) (a3 : Int32) : Nat → Int32 → XS → Option ((Int32 × XS) ⊕ (XS))
  | 0, _, _ => none
  | n + 1, x5_4, g_4 => if 2 < x5_4 then some (Sum.inr g_4) else bsO (f_X0_fewestFor_L41 a1 a2 a3 x5_4 1000 0 g_4) fun t6 => Option.bind (some ((x5_4 + 1) : Int32)) fun v23 => f_X0_fewestFor_L32 a1 a2 a3 n v23 t6
def f_X0_fewestFor (g : XS) (a1 : Int32) (a2 : Int32) (a3 : Int32) : Option (Int32 × XS) := Option.bind (f_X8_shareOf (xG_core0 g) a1) fun o1 => if o1 < a2 then Option.bind (f_X0_openMind g) fun o3 => bsR (f_X0_fewestFor_L32 a1 a2 a3 1000 1 o3) fun t4 => some ((-9), t4) else if a3 = 0 then some (0, g) else some ((-9), g)
abbrev rm_X0_fewestFor : Room := ({ frames := 10, cells := 0, slots := 0, locals := 447 })
theorem cw_X0_fewestFor {R : Room} {s : State} {args : Array Value} {own : String} {index : Nat} (hts : ∀ w ∈ lw_all, w.before args s = true) (hlink : Cond.methodLink own index yX0_fewestFor ∈ lw_all) (hR : rm_X0_fewestFor.frames + 1 ≤ R.frames ∧ 8 + (9 + 11) + rm_X0_fewestFor.locals ≤ R.locals) : CallW R s args own RX0 index yX0_fewestFor cX0_fewestFor 9 (some FieldType.int) (ws_ yX0_fewestFor cX0_fewestFor 9 (some FieldType.int)) rm_X0_fewestFor rm_X0_fewestFor.cells rm_X0_fewestFor.slots 3 :=
  cwV 3 hts (lw_V hlink q832 qs33 q102 q833) rfl rfl rfl (by decide +kernel) hR
set_option maxHeartbeats 4000000 in
theorem m_X0_fewestFor (l : Launch) (D : va_G) (ax : Nat → Nat) (ac : Nat → ClassId) (g : XS) (a1 : Int32) (a2 : Int32) (a3 : Int32) (sz : Nat) (r0 : Int32 × XS) (hr : f_X0_fewestFor g a1 a2 a3 = some r0) : WM l yX0_fewestFor cX0_fewestFor 9 (some FieldType.int) rm_X0_fewestFor [.ref (ax 0), .int a1, .int a2, .int a3] D ac (wX ax ac g) (wX ax ac r0.2) sz (some (.int r0.1)) := by
  refine fw_of (by decide) (Nat.le_of_ble_eq_true rfl) ?_
  intro p e s m below meth c ls hx hb hrt hts hown hlk hml _ hU hl
  obtain ⟨rfl, hP, hG, hD⟩ := hU
  have hA : ∀ q : Nat, s.heap.size ≤ q → (va_A (wX ax ac g) s.heap.size) q := fun q h => Or.inr h
  have hS := Stt.start hP hD
  show WW p l e rm_X0_fewestFor s m [.ref (ax 0), .int a1, .int a2, .int a3] below meth c D (wX ax ac r0.2) (va_A (wX ax ac g) s.heap.size) (some (.int r0.1)) s.heap [] 0 0 0 ls []
  have hl : lv_has ls 9 [(0, .ref (ax 0)), (1, .int a1), (2, .int a2), (3, .int a3)] := hl
  rw [f_X0_fewestFor] at hr
  refine lv_aload_n hx hb dX0_fewestFor_0 rfl (lv_at hl 0 rfl) ?_
  refine va_get (D := D) (ci := 0) (v := .ref (ax 1)) (C := RX0) (T := TX0) (N := 17) hx hb hts in_X0 hown hG.1 hP 0 rfl rfl 1 (by decide) (hts _ q234) (fun _ h9 => h9) rfl dX0_fewestFor_1 ?_
  refine lv_iload_n hx hb dX0_fewestFor_4 rfl (lv_at hl 1 rfl) ?_
  obtain ⟨o1, ho1, hr⟩ := br_bind hr
  refine fwRV (As := [.int a1]) (rest := []) (C := RX8) hx hb hml hown hts (m_X8_shareOf l D ax ac (ax 1) (ax 2) (ax 3) (xG_core0 g) a1 o1 ho1) (cw_X8_shareOf hts q684 ⟨Nat.le_of_ble_eq_true rfl, Nat.le_of_ble_eq_true rfl⟩) hG hP (hP.pick [1, 2, 3, 11, 12, 13, 14, 15, 16] rfl) 1 7 rfl rfl rfl hl.1 rfl (Nat.le_of_ble_eq_true rfl) dX0_fewestFor_5 ⟨Nat.le_of_ble_eq_true rfl, Nat.le_of_ble_eq_true rfl⟩ ?_
  refine lv_iload_n hx hb dX0_fewestFor_8 rfl (lv_at hl 2 rfl) ?_
  have hi2 := br_ite hr
  refine lv_icmp_lt (tgt := 23) hx hb dX0_fewestFor_9 (by decide) (fun c2 => ?_) (fun c2 => ?_)
  · have hr := hi2.1 c2
    refine lv_aload_n hx hb dX0_fewestFor_23 rfl (lv_at hl 0 rfl) ?_
    obtain ⟨o3, ho3, hr⟩ := br_bind hr
    refine fwWVs (As := []) (rest := []) (C := RX0) hx hb hml hown hts (m_X0_openMind l D ax ac g _ o3 ho3) (cw_X0_openMind hts q818 ⟨Nat.le_of_ble_eq_true rfl, Nat.le_of_ble_eq_true rfl⟩) hG hS hA rfl 0 0 rfl rfl rfl hl.1 rfl (Nat.le_of_ble_eq_true rfl) dX0_fewestFor_24 ⟨Nat.le_of_ble_eq_true rfl, Nat.le_of_ble_eq_true rfl⟩ (fun H locs hS => ?_)
    have hP := hS.1
    refine lv_astore (lv' := [(4, .ref (ax 4)), (0, .ref (ax 0)), (1, .int a1), (2, .int a2), (3, .int a3)]) hx hb dX0_fewestFor_27 hl (by decide) rfl (fun ls hl => ?_)
    refine lv_iconst (v := 1) hx hb dX0_fewestFor_29 rfl ?_
    refine lv_istore (lv' := [(5, .int 1), (4, .ref (ax 4)), (0, .ref (ax 0)), (1, .int a1), (2, .int a2), (3, .int a3)]) hx hb dX0_fewestFor_30 hl (by decide) rfl (fun ls hl => ?_)
    have L4 : ∀ (n : Nat) (x5_4 : Int32) (g_4 : XS) (o4 : (Int32 × XS) ⊕ (XS)), f_X0_fewestFor_L32 a1 a2 a3 n x5_4 g_4 = some o4 → (∀ r, o4 = Sum.inl r → some r = some r0) → ∀ (H : Heap) (locs : List Loc) ls, lv_has ls 9 [(5, .int x5_4), (4, .ref (ax 4)), (0, .ref (ax 0)), (1, .int a1), (2, .int a2), (3, .int a3)] → Stt D (va_A (wX ax ac g) s.heap.size) s.heap (wX ax ac g_4) H locs → (∀ t4, o4 = Sum.inr t4 → ∀ (H : Heap) (locs : List Loc) ls, lv_has ls 9 [] → Stt D (va_A (wX ax ac g) s.heap.size) s.heap (wX ax ac t4) H locs → WW p l e rm_X0_fewestFor s m [.ref (ax 0), .int a1, .int a2, .int a3] below meth c D (wX ax ac r0.2) (va_A (wX ax ac g) s.heap.size) (some (.int r0.1)) H locs 0 0 175 ls []) → WW p l e rm_X0_fewestFor s m [.ref (ax 0), .int a1, .int a2, .int a3] below meth c D (wX ax ac r0.2) (va_A (wX ax ac g) s.heap.size) (some (.int r0.1)) H locs 0 0 32 ls [] := by
      intro n
      induction n with
      | zero => intro x5_4 g_4 o4 hr; rw [f_X0_fewestFor_L32] at hr; cases hr
      | succ n ih =>
        intro x5_4 g_4 o4 hr hret H locs ls hl hS kx
        have hP := hS.1
        rw [f_X0_fewestFor_L32] at hr
        refine lv_iload hx hb dX0_fewestFor_32 (lv_at hl 0 rfl) ?_
        refine lv_iconst (v := 2) hx hb dX0_fewestFor_34 rfl ?_
        have hi5 := br_ite hr
        refine lv_icmp_gt (tgt := 175) hx hb dX0_fewestFor_35 (by decide) (fun c5 => ?_) (fun c5 => ?_)
        · have hr := hi5.1 c5
          exact kx _ (Option.some.inj hr).symm _ _ ls (lv_sub hl [] rfl) hS
        · have hr := hi5.2 c5
          refine lv_iconst (v := 0) hx hb dX0_fewestFor_38 rfl ?_
          refine lv_istore (lv' := [(6, .int 0), (5, .int x5_4), (4, .ref (ax 4)), (0, .ref (ax 0)), (1, .int a1), (2, .int a2), (3, .int a3)]) hx hb dX0_fewestFor_39 hl (by decide) rfl (fun ls hl => ?_)
          have L6 : ∀ (n : Nat) (x6_6 : Int32) (g_6 : XS) (o6 : (Int32 × XS) ⊕ (XS)), f_X0_fewestFor_L41 a1 a2 a3 x5_4 n x6_6 g_6 = some o6 → (∀ r, o6 = Sum.inl r → some r = some r0) → ∀ (H : Heap) (locs : List Loc) ls, lv_has ls 9 [(6, .int x6_6), (5, .int x5_4), (4, .ref (ax 4)), (0, .ref (ax 0)), (1, .int a1), (2, .int a2), (3, .int a3)] → Stt D (va_A (wX ax ac g) s.heap.size) s.heap (wX ax ac g_6) H locs → (∀ t6, o6 = Sum.inr t6 → ∀ (H : Heap) (locs : List Loc) ls, lv_has ls 9 [(5, .int x5_4), (4, .ref (ax 4)), (0, .ref (ax 0)), (1, .int a1), (2, .int a2), (3, .int a3)] → Stt D (va_A (wX ax ac g) s.heap.size) s.heap (wX ax ac t6) H locs → WW p l e rm_X0_fewestFor s m [.ref (ax 0), .int a1, .int a2, .int a3] below meth c D (wX ax ac r0.2) (va_A (wX ax ac g) s.heap.size) (some (.int r0.1)) H locs 0 0 169 ls []) → WW p l e rm_X0_fewestFor s m [.ref (ax 0), .int a1, .int a2, .int a3] below meth c D (wX ax ac r0.2) (va_A (wX ax ac g) s.heap.size) (some (.int r0.1)) H locs 0 0 41 ls [] := by
            intro n
            induction n with
            | zero => intro x6_6 g_6 o6 hr; rw [f_X0_fewestFor_L41] at hr; cases hr
            | succ n ih =>
              intro x6_6 g_6 o6 hr hret H locs ls hl hS kx
              have hP := hS.1
              rw [f_X0_fewestFor_L41] at hr
              refine lv_iload hx hb dX0_fewestFor_41 (lv_at hl 0 rfl) ?_
              refine lv_bipush (v := 100) hx hb dX0_fewestFor_43 rfl ?_
              have hi7 := br_ite hr
              refine lv_icmp_ge (tgt := 169) hx hb dX0_fewestFor_45 (by decide) (fun c7 => ?_) (fun c7 => ?_)
              · have hr := hi7.1 c7
                exact kx _ (Option.some.inj hr).symm _ _ ls (lv_sub hl [1, 2, 3, 4, 5, 6] rfl) hS
              · have hr := hi7.2 c7
                refine lv_aload_n hx hb dX0_fewestFor_48 rfl (lv_at hl 3 rfl) ?_
                refine va_get (D := D) (ci := 0) (v := .ref (ax 1)) (C := RX0) (T := TX0) (N := 17) hx hb hts in_X0 hown hG.1 hP 0 rfl rfl 1 (by decide) (hts _ q234) (fun _ h9 => h9) rfl dX0_fewestFor_49 ?_
                refine lv_iload hx hb dX0_fewestFor_52 (lv_at hl 0 rfl) ?_
                refine lv_bipush (v := 25) hx hb dX0_fewestFor_54 rfl ?_
                refine lv_idiv hx hb dX0_fewestFor_56 (by decide) ?_
                refine lv_iload hx hb dX0_fewestFor_57 (lv_at hl 0 rfl) ?_
                refine lv_bipush (v := 25) hx hb dX0_fewestFor_59 rfl ?_
                refine lv_irem hx hb dX0_fewestFor_61 (by decide) ?_
                obtain ⟨o8, ho8, hr⟩ := br_bind hr
                refine fwRV (As := [.int (x6_6 / 25), .int (x6_6 - x6_6 / 25 * 25)]) (rest := []) (C := RX8) hx hb hml hown hts (m_X8_canBite l D ax ac (ax 1) (ax 2) (ax 3) (xG_core0 g_6) (x6_6 / 25) (x6_6 - x6_6 / 25 * 25) o8 ho8) (cw_X8_canBite hts q742 ⟨Nat.le_of_ble_eq_true rfl, Nat.le_of_ble_eq_true rfl⟩) hG hP (hP.pick [1, 2, 3] rfl) 1 7 rfl rfl rfl hl.1 rfl (Nat.le_of_ble_eq_true rfl) dX0_fewestFor_62 ⟨Nat.le_of_ble_eq_true rfl, Nat.le_of_ble_eq_true rfl⟩ ?_
                have hi9 := br_ite hr
                refine lv_if_eq (tgt := 163) hx hb dX0_fewestFor_65 (by decide) (fun c9 => ?_) (fun c9 => ?_)
                · have hr := hi9.1 c9
                  obtain ⟨v10, hv10, hr⟩ := br_let hr
                  refine lv_iinc (v := v10) (lv' := [(6, .int v10), (5, .int x5_4), (4, .ref (ax 4)), (0, .ref (ax 0)), (1, .int a1), (2, .int a2), (3, .int a3)]) hx hb dX0_fewestFor_163 hl (k := 0) rfl (hv10 ▸ rfl) (by decide) rfl (fun ls hl => ?_)
                  refine lv_goto (tgt := 41) hx hb dX0_fewestFor_166 (by decide) ?_
                  exact ih v10 g_6 _ hr hret _ _ ls (lv_sub hl [0, 1, 2, 3, 4, 5, 6] rfl) hS kx
                · have hr := hi9.2 c9
                  refine lv_aload_n hx hb dX0_fewestFor_68 rfl (lv_at hl 3 rfl) ?_
                  refine va_get (D := D) (ci := 0) (v := .ref (ax 1)) (C := RX0) (T := TX0) (N := 17) hx hb hts in_X0 hown hG.1 hP 0 rfl rfl 1 (by decide) (hts _ q234) (fun _ h9 => h9) rfl dX0_fewestFor_69 ?_
                  refine va_getN (D := D) (ci := 7) (v := .int (cG_left (xG_core0 g_6))) (C := RX8) (T := TX8) (N := 8) hx hb hts in_X8 hown hG.1 hP 1 rfl rfl 0 (by decide) (va_Nw.use rfl (hG.2.1 _ nq193)) (fun _ h9 => h9) rfl dX0_fewestFor_72 ?_
                  refine lv_iload hx hb dX0_fewestFor_75 (lv_at hl 0 rfl) ?_
                  refine lv_bipush (v := 25) hx hb dX0_fewestFor_77 rfl ?_
                  refine lv_idiv hx hb dX0_fewestFor_79 (by decide) ?_
                  refine lv_iload hx hb dX0_fewestFor_80 (lv_at hl 0 rfl) ?_
                  refine lv_bipush (v := 25) hx hb dX0_fewestFor_82 rfl ?_
                  refine lv_irem hx hb dX0_fewestFor_84 (by decide) ?_
                  obtain ⟨o11, ho11, hr⟩ := br_bind hr
                  refine fwS (As := [.int (x6_6 / 25), .int (x6_6 - x6_6 / 25 * 25)]) (rest := [.int (cG_left (xG_core0 g_6))]) hx hb hml hown hts (m_X0_cellsOf l (x6_6 / 25) (x6_6 - x6_6 / 25 * 25) o11 ho11) (cw_X0_cellsOf hts q816 ⟨Nat.le_of_ble_eq_true rfl, Nat.le_of_ble_eq_true rfl⟩) rfl hl.1 rfl (Nat.le_of_ble_eq_true rfl) dX0_fewestFor_85 ⟨Nat.le_of_ble_eq_true rfl, Nat.le_of_ble_eq_true rfl⟩ ?_
                  refine lv_iconst (v := (-1)) hx hb dX0_fewestFor_88 rfl ?_
                  refine lv_ixor hx hb dX0_fewestFor_89 ?_
                  refine lv_iand hx hb dX0_fewestFor_90 ?_
                  refine lv_topi (fun v12 hv12 => ?_)
                  have hr := br_letv hr hv12
                  refine lv_istore (lv' := [(7, .int v12), (6, .int x6_6), (5, .int x5_4), (4, .ref (ax 4)), (0, .ref (ax 0)), (1, .int a1), (2, .int a2), (3, .int a3)]) hx hb dX0_fewestFor_91 hl (by decide) rfl (fun ls hl => ?_)
                  refine lv_iload hx hb dX0_fewestFor_93 (lv_at hl 2 rfl) ?_
                  refine lv_iconst (v := 1) hx hb dX0_fewestFor_95 rfl ?_
                  obtain ⟨o14, ho14, hr⟩ := br_bind hr
                  have J14 : ∀ (H : Heap) (locs : List Loc) ls, lv_has ls 9 [(6, .int x6_6), (5, .int x5_4), (4, .ref (ax 4)), (0, .ref (ax 0)), (1, .int a1), (2, .int a2), (3, .int a3)] → Stt D (va_A (wX ax ac g) s.heap.size) s.heap (wX ax ac o14.2) H locs → WW p l e rm_X0_fewestFor s m [.ref (ax 0), .int a1, .int a2, .int a3] below meth c D (wX ax ac r0.2) (va_A (wX ax ac g) s.heap.size) (some (.int r0.1)) H locs 0 0 132 ls [.int o14.1] := by
                    intro H locs ls hl hS
                    have hP := hS.1
                    refine lv_istore (lv' := [(8, .int o14.1), (6, .int x6_6), (5, .int x5_4), (4, .ref (ax 4)), (0, .ref (ax 0)), (1, .int a1), (2, .int a2), (3, .int a3)]) hx hb dX0_fewestFor_132 hl (by decide) rfl (fun ls hl => ?_)
                    refine lv_iload hx hb dX0_fewestFor_134 (lv_at hl 0 rfl) ?_
                    have hi20 := br_ite hr
                    refine lv_if_eq (tgt := 163) hx hb dX0_fewestFor_136 (by decide) (fun c20 => ?_) (fun c20 => ?_)
                    · have hr := hi20.1 c20
                      obtain ⟨v21, hv21, hr⟩ := br_let hr
                      refine lv_iinc (v := v21) (lv' := [(6, .int v21), (8, .int o14.1), (5, .int x5_4), (4, .ref (ax 4)), (0, .ref (ax 0)), (1, .int a1), (2, .int a2), (3, .int a3)]) hx hb dX0_fewestFor_163 hl (k := 1) rfl (hv21 ▸ rfl) (by decide) rfl (fun ls hl => ?_)
                      refine lv_goto (tgt := 41) hx hb dX0_fewestFor_166 (by decide) ?_
                      exact ih v21 o14.2 _ hr hret _ _ ls (lv_sub hl [0, 2, 3, 4, 5, 6, 7] rfl) hS kx
                    · have hr := hi20.2 c20
                      refine lv_iload_n hx hb dX0_fewestFor_139 rfl (lv_at hl 7 rfl) ?_
                      have hi22 := br_ite hr
                      refine lv_if_ne (tgt := 148) hx hb dX0_fewestFor_140 (by decide) (fun c22 => ?_) (fun c22 => ?_)
                      · have hr := hi22.2 c22
                        refine lv_bipush (v := 100) hx hb dX0_fewestFor_148 rfl ?_
                        refine lv_iload hx hb dX0_fewestFor_150 (lv_at hl 1 rfl) ?_
                        refine lv_bipush (v := 25) hx hb dX0_fewestFor_152 rfl ?_
                        refine lv_idiv hx hb dX0_fewestFor_154 (by decide) ?_
                        refine lv_imul hx hb dX0_fewestFor_155 ?_
                        refine lv_iload hx hb dX0_fewestFor_156 (lv_at hl 1 rfl) ?_
                        refine lv_bipush (v := 25) hx hb dX0_fewestFor_158 rfl ?_
                        refine lv_irem hx hb dX0_fewestFor_160 (by decide) ?_
                        refine lv_iadd hx hb dX0_fewestFor_161 ?_
                        have hr := hret _ (Option.some.inj hr).symm
                        obtain rfl := Option.some.inj hr
                        refine W.widen (k := rm_X0_fewestFor.cells) (n := rm_X0_fewestFor.slots) (Nat.le_of_ble_eq_true rfl) (Nat.le_of_ble_eq_true rfl) ?_
                        exact W.iret hx hb hrt (fun t ht _ => hS.q ht rfl) hS.2.2.2.2 dX0_fewestFor_162 hlk
                      · have hr := hi22.1 c22
                        refine lv_iload hx hb dX0_fewestFor_143 (lv_at hl 2 rfl) ?_
                        refine lv_goto (tgt := 162) hx hb dX0_fewestFor_145 (by decide) ?_
                        have hr := hret _ (Option.some.inj hr).symm
                        obtain rfl := Option.some.inj hr
                        refine W.widen (k := rm_X0_fewestFor.cells) (n := rm_X0_fewestFor.slots) (Nat.le_of_ble_eq_true rfl) (Nat.le_of_ble_eq_true rfl) ?_
                        exact W.iret hx hb hrt (fun t ht _ => hS.q ht rfl) hS.2.2.2.2 dX0_fewestFor_162 hlk
                  have hr := ho14
                  have hi13 := br_ite hr
                  refine lv_icmp_ne (tgt := 122) hx hb dX0_fewestFor_96 (by decide) (fun c13 => ?_) (fun c13 => ?_)
                  · have hr := hi13.2 c13
                    refine lv_aload_n hx hb dX0_fewestFor_122 rfl (lv_at hl 4 rfl) ?_
                    refine lv_aload hx hb dX0_fewestFor_123 (lv_at hl 3 rfl) ?_
                    refine lv_iload hx hb dX0_fewestFor_125 (lv_at hl 0 rfl) ?_
                    refine lv_iload_n hx hb dX0_fewestFor_127 rfl (lv_at hl 5 rfl) ?_
                    refine lv_iload_n hx hb dX0_fewestFor_128 rfl (lv_at hl 6 rfl) ?_
                    obtain ⟨o15, ho15, hr⟩ := br_bind hr
                    refine fwWVs (As := [.ref (ax 4), .int v12, .int a1, .int a2]) (rest := []) (C := RX0) hx hb hml hown hts (m_X0_hasBehindOne l D ax ac g_6 v12 a1 a2 _ o15 ho15) (cw_X0_hasBehindOne hts q834 ⟨Nat.le_of_ble_eq_true rfl, Nat.le_of_ble_eq_true rfl⟩) hG hS hA rfl 0 0 rfl rfl rfl hl.1 rfl (Nat.le_of_ble_eq_true rfl) dX0_fewestFor_129 ⟨Nat.le_of_ble_eq_true rfl, Nat.le_of_ble_eq_true rfl⟩ (fun H locs hS => ?_)
                    have hP := hS.1
                    obtain rfl := Option.some.inj hr
                    exact J14 _ _ ls (lv_sub hl [1, 2, 3, 4, 5, 6, 7] rfl) hS
                  · have hr := hi13.1 c13
                    refine lv_aload hx hb dX0_fewestFor_99 (lv_at hl 3 rfl) ?_
                    refine lv_iload hx hb dX0_fewestFor_101 (lv_at hl 0 rfl) ?_
                    obtain ⟨o16, ho16, hr⟩ := br_bind hr
                    obtain ⟨g17, hg17, hr⟩ := br_let hr
                    refine fwWV (As := [.int v12]) (rest := []) (C := RX8) hx hb hml hown hts (m_X8_leave l D ax ac (ax 4) (ax 5) (ax 6) (xG_mind g_6) v12 _ o16 ho16) (cw_X8_leave hts q748 ⟨Nat.le_of_ble_eq_true rfl, Nat.le_of_ble_eq_true rfl⟩) hG hS hA [4, 5, 6] rfl rfl rfl 4 7 rfl rfl rfl hl.1 rfl (Nat.le_of_ble_eq_true rfl) dX0_fewestFor_103 ⟨Nat.le_of_ble_eq_true rfl, Nat.le_of_ble_eq_true rfl⟩ (wn := wX ax ac g17) (by rw [hg17]; rfl) (fun H locs hS => ?_)
                    have hP := hS.1
                    refine lv_iload_n hx hb dX0_fewestFor_106 rfl (lv_at hl 5 rfl) ?_
                    obtain ⟨o18, ho18, hr⟩ := br_bind hr
                    refine fwRV (As := [.int a1]) (rest := []) (C := RX8) hx hb hml hown hts (m_X8_shareOf l D ax ac (ax 4) (ax 5) (ax 6) (xG_mind g17) a1 o18 ho18) (cw_X8_shareOf hts q684 ⟨Nat.le_of_ble_eq_true rfl, Nat.le_of_ble_eq_true rfl⟩) hG hP (hP.pick [4, 5, 6, 11, 12, 13, 14, 15, 16] rfl) 4 7 rfl rfl rfl hl.1 rfl (Nat.le_of_ble_eq_true rfl) dX0_fewestFor_107 ⟨Nat.le_of_ble_eq_true rfl, Nat.le_of_ble_eq_true rfl⟩ ?_
                    refine lv_iload_n hx hb dX0_fewestFor_110 rfl (lv_at hl 6 rfl) ?_
                    have hi19 := br_ite hr
                    refine lv_icmp_lt (tgt := 118) hx hb dX0_fewestFor_111 (by decide) (fun c19 => ?_) (fun c19 => ?_)
                    · have hr := hi19.1 c19
                      refine lv_iconst (v := 0) hx hb dX0_fewestFor_118 rfl ?_
                      refine lv_goto (tgt := 132) hx hb dX0_fewestFor_119 (by decide) ?_
                      obtain rfl := Option.some.inj hr
                      exact J14 _ _ ls (lv_sub hl [1, 2, 3, 4, 5, 6, 7] rfl) hS
                    · have hr := hi19.2 c19
                      refine lv_iconst (v := 1) hx hb dX0_fewestFor_114 rfl ?_
                      refine lv_goto (tgt := 132) hx hb dX0_fewestFor_115 (by decide) ?_
                      obtain rfl := Option.some.inj hr
                      exact J14 _ _ ls (lv_sub hl [1, 2, 3, 4, 5, 6, 7] rfl) hS
          obtain ⟨o6, ho6, hl6, hk6⟩ := br_bsO hr
          refine L6 1000 0 g_4 o6 ho6 (fun r hq => hret _ (Option.some.inj (hl6 r hq)).symm) _ _ ls (lv_sub hl [0, 1, 2, 3, 4, 5, 6] rfl) hS (fun t6 hq6 H locs ls hl hS => ?_)
          have hP := hS.1
          have hr := hk6 t6 hq6
          obtain ⟨v23, hv23, hr⟩ := br_let hr
          refine lv_iinc (v := v23) (lv' := [(5, .int v23), (4, .ref (ax 4)), (0, .ref (ax 0)), (1, .int a1), (2, .int a2), (3, .int a3)]) hx hb dX0_fewestFor_169 hl (k := 0) rfl (hv23 ▸ rfl) (by decide) rfl (fun ls hl => ?_)
          refine lv_goto (tgt := 32) hx hb dX0_fewestFor_172 (by decide) ?_
          exact ih v23 t6 _ hr hret _ _ ls (lv_sub hl [0, 1, 2, 3, 4, 5] rfl) hS kx
    obtain ⟨o4, ho4, hl4, hk4⟩ := br_bsR hr
    refine L4 1000 1 o3 o4 ho4 (fun r hq => hl4 r hq) _ _ ls (lv_sub hl [0, 1, 2, 3, 4, 5] rfl) hS (fun t4 hq4 H locs ls hl hS => ?_)
    have hP := hS.1
    have hr := hk4 t4 hq4
    refine lv_bipush (v := (-9)) hx hb dX0_fewestFor_175 rfl ?_
    obtain rfl := Option.some.inj hr
    refine W.widen (k := rm_X0_fewestFor.cells) (n := rm_X0_fewestFor.slots) (Nat.le_of_ble_eq_true rfl) (Nat.le_of_ble_eq_true rfl) ?_
    exact W.iret hx hb hrt (fun t ht _ => hS.q ht rfl) hS.2.2.2.2 dX0_fewestFor_177 hlk
  · have hr := hi2.2 c2
    refine lv_iload_n hx hb dX0_fewestFor_12 rfl (lv_at hl 3 rfl) ?_
    have hi24 := br_ite hr
    refine lv_if_ne (tgt := 20) hx hb dX0_fewestFor_13 (by decide) (fun c24 => ?_) (fun c24 => ?_)
    · have hr := hi24.2 c24
      refine lv_bipush (v := (-9)) hx hb dX0_fewestFor_20 rfl ?_
      obtain rfl := Option.some.inj hr
      refine W.widen (k := rm_X0_fewestFor.cells) (n := rm_X0_fewestFor.slots) (Nat.le_of_ble_eq_true rfl) (Nat.le_of_ble_eq_true rfl) ?_
      exact W.iret hx hb hrt (fun t ht _ => hS.q ht rfl) hS.2.2.2.2 dX0_fewestFor_22 hlk
    · have hr := hi24.1 c24
      refine lv_iconst (v := 0) hx hb dX0_fewestFor_16 rfl ?_
      refine lv_goto (tgt := 22) hx hb dX0_fewestFor_17 (by decide) ?_
      obtain rfl := Option.some.inj hr
      refine W.widen (k := rm_X0_fewestFor.cells) (n := rm_X0_fewestFor.slots) (Nat.le_of_ble_eq_true rfl) (Nat.le_of_ble_eq_true rfl) ?_
      exact W.iret hx hb hrt (fun t ht _ => hS.q ht rfl) hS.2.2.2.2 dX0_fewestFor_22 hlk
def f_X0_isSafe_L4 (g : XS) : Nat → Int32 → Int32 → Option (Int32)
  | 0, _, _ => none
  | n + 1, x3_1, x2_1 => if (cG_heirs (xG_core0 g)) ≤ x3_1 then some x2_1 else Option.bind (f_X8_shareOf (xG_mind g) x3_1) fun o3 => Option.bind (f_X8_shareOf (xG_core0 g) x3_1) fun o4 => if o3 = o4 then Option.bind (some ((x2_1 &&& 1) : Int32)) fun v8 => Option.bind (some ((x3_1 + 1) : Int32)) fun v9 => f_X0_isSafe_L4 g n v9 v8 else Option.bind (some ((x2_1 &&& 0) : Int32)) fun v6 => Option.bind (some ((x3_1 + 1) : Int32)) fun v7 => f_X0_isSafe_L4 g n v7 v6
def f_X0_isSafe (g : XS) : Option (Int32) := Option.bind (f_X0_isSafe_L4 g 1000 0 1) fun o1 => rz o1
abbrev rm_X0_isSafe : Room := ({ frames := 9, cells := 0, slots := 0, locals := 421 })
theorem cw_X0_isSafe {R : Room} {s : State} {args : Array Value} {own : String} {index : Nat} (hts : ∀ w ∈ lw_all, w.before args s = true) (hlink : Cond.methodLink own index yX0_isSafe ∈ lw_all) (hR : rm_X0_isSafe.frames + 1 ≤ R.frames ∧ 8 + (4 + 11) + rm_X0_isSafe.locals ≤ R.locals) : CallW R s args own RX0 index yX0_isSafe cX0_isSafe 4 (some FieldType.boolean) (ws_ yX0_isSafe cX0_isSafe 4 (some FieldType.boolean)) rm_X0_isSafe rm_X0_isSafe.cells rm_X0_isSafe.slots 1 :=
  cwV 1 hts (lw_V hlink q844 qs36 q102 q845) rfl rfl rfl (by decide +kernel) hR
set_option maxHeartbeats 4000000 in
theorem m_X0_isSafe (l : Launch) (D : va_G) (ax : Nat → Nat) (ac : Nat → ClassId) (g : XS) (r0 : Int32) (hr : f_X0_isSafe g = some r0) : PM l yX0_isSafe cX0_isSafe 4 (some FieldType.boolean) rm_X0_isSafe [.ref (ax 0), .ref (ax 4)] (RP D ac (wX ax ac g)) (some (.int r0)) := by
  refine fw_of (by decide) (Nat.le_of_ble_eq_true rfl) ?_
  intro p e s m below meth c ls hx hb hrt hts hown hlk hml _ hU hl
  obtain ⟨hP, hG⟩ := hU
  have hl : lv_has ls 4 [(0, .ref (ax 0)), (1, .ref (ax 4))] := hl
  rw [f_X0_isSafe] at hr
  refine lv_iconst (v := 1) hx hb dX0_isSafe_0 rfl ?_
  refine lv_istore_n (lv' := [(2, .int 1), (0, .ref (ax 0)), (1, .ref (ax 4))]) hx hb dX0_isSafe_1 rfl hl (by decide) rfl (fun ls hl => ?_)
  refine lv_iconst (v := 0) hx hb dX0_isSafe_2 rfl ?_
  refine lv_istore_n (lv' := [(3, .int 0), (2, .int 1), (0, .ref (ax 0)), (1, .ref (ax 4))]) hx hb dX0_isSafe_3 rfl hl (by decide) rfl (fun ls hl => ?_)
  have L1 : ∀ (n : Nat) (x3_1 : Int32) (x2_1 : Int32) (o1 : Int32), f_X0_isSafe_L4 g n x3_1 x2_1 = some o1 → ∀ ls, lv_has ls 4 [(3, .int x3_1), (2, .int x2_1), (0, .ref (ax 0)), (1, .ref (ax 4))] → (∀ ls, lv_has ls 4 [(2, .int o1)] → WP p l e rm_X0_isSafe s m [.ref (ax 0), .ref (ax 4)] below meth c (some (.int r0)) 45 ls []) → WP p l e rm_X0_isSafe s m [.ref (ax 0), .ref (ax 4)] below meth c (some (.int r0)) 4 ls [] := by
    intro n
    induction n with
    | zero => intro x3_1 x2_1 o1 hr; rw [f_X0_isSafe_L4] at hr; cases hr
    | succ n ih =>
      intro x3_1 x2_1 o1 hr ls hl kx
      rw [f_X0_isSafe_L4] at hr
      refine lv_iload_n hx hb dX0_isSafe_4 rfl (lv_at hl 0 rfl) ?_
      refine lv_aload_n hx hb dX0_isSafe_5 rfl (lv_at hl 2 rfl) ?_
      refine va_get (D := D) (ci := 0) (v := .ref (ax 1)) (C := RX0) (T := TX0) (N := 17) hx hb hts in_X0 hown hG.1 hP 0 rfl rfl 1 (by decide) (hts _ q234) (fun _ h9 => h9) rfl dX0_isSafe_6 ?_
      refine va_getN (D := D) (ci := 7) (v := .int (cG_heirs (xG_core0 g))) (C := RX8) (T := TX8) (N := 8) hx hb hts in_X8 hown hG.1 hP 1 rfl rfl 1 (by decide) (va_Nw.use rfl (hG.2.1 _ nq196)) (fun _ h9 => h9) rfl dX0_isSafe_9 ?_
      have hi2 := br_ite hr
      refine lv_icmp_ge (tgt := 45) hx hb dX0_isSafe_12 (by decide) (fun c2 => ?_) (fun c2 => ?_)
      · have hr := hi2.1 c2
        obtain rfl := Option.some.inj hr
        exact kx ls (lv_sub hl [1] rfl)
      · have hr := hi2.2 c2
        refine lv_iload_n hx hb dX0_isSafe_15 rfl (lv_at hl 1 rfl) ?_
        refine lv_aload_n hx hb dX0_isSafe_16 rfl (lv_at hl 3 rfl) ?_
        refine lv_iload_n hx hb dX0_isSafe_17 rfl (lv_at hl 0 rfl) ?_
        obtain ⟨o3, ho3, hr⟩ := br_bind hr
        refine fwRV (As := [.int x3_1]) (rest := [.int x2_1]) (C := RX8) hx hb hml hown hts (m_X8_shareOf l D ax ac (ax 4) (ax 5) (ax 6) (xG_mind g) x3_1 o3 ho3) (cw_X8_shareOf hts q684 ⟨Nat.le_of_ble_eq_true rfl, Nat.le_of_ble_eq_true rfl⟩) hG hP (hP.pick [4, 5, 6, 11, 12, 13, 14, 15, 16] rfl) 4 7 rfl rfl rfl hl.1 rfl (Nat.le_of_ble_eq_true rfl) dX0_isSafe_18 ⟨Nat.le_of_ble_eq_true rfl, Nat.le_of_ble_eq_true rfl⟩ ?_
        refine lv_aload_n hx hb dX0_isSafe_21 rfl (lv_at hl 2 rfl) ?_
        refine va_get (D := D) (ci := 0) (v := .ref (ax 1)) (C := RX0) (T := TX0) (N := 17) hx hb hts in_X0 hown hG.1 hP 0 rfl rfl 1 (by decide) (hts _ q234) (fun _ h9 => h9) rfl dX0_isSafe_22 ?_
        refine lv_iload_n hx hb dX0_isSafe_25 rfl (lv_at hl 0 rfl) ?_
        obtain ⟨o4, ho4, hr⟩ := br_bind hr
        refine fwRV (As := [.int x3_1]) (rest := [.int o3, .int x2_1]) (C := RX8) hx hb hml hown hts (m_X8_shareOf l D ax ac (ax 1) (ax 2) (ax 3) (xG_core0 g) x3_1 o4 ho4) (cw_X8_shareOf hts q684 ⟨Nat.le_of_ble_eq_true rfl, Nat.le_of_ble_eq_true rfl⟩) hG hP (hP.pick [1, 2, 3, 11, 12, 13, 14, 15, 16] rfl) 1 7 rfl rfl rfl hl.1 rfl (Nat.le_of_ble_eq_true rfl) dX0_isSafe_26 ⟨Nat.le_of_ble_eq_true rfl, Nat.le_of_ble_eq_true rfl⟩ ?_
        have hi5 := br_ite hr
        refine lv_icmp_ne (tgt := 36) hx hb dX0_isSafe_29 (by decide) (fun c5 => ?_) (fun c5 => ?_)
        · have hr := hi5.2 c5
          refine lv_iconst (v := 0) hx hb dX0_isSafe_36 rfl ?_
          refine lv_iand hx hb dX0_isSafe_37 ?_
          refine lv_topi (fun v6 hv6 => ?_)
          have hr := br_letv hr hv6
          refine lv_istore_n (lv' := [(2, .int v6), (3, .int x3_1), (0, .ref (ax 0)), (1, .ref (ax 4))]) hx hb dX0_isSafe_38 rfl hl (by decide) rfl (fun ls hl => ?_)
          obtain ⟨v7, hv7, hr⟩ := br_let hr
          refine lv_iinc (v := v7) (lv' := [(3, .int v7), (2, .int v6), (0, .ref (ax 0)), (1, .ref (ax 4))]) hx hb dX0_isSafe_39 hl (k := 1) rfl (hv7 ▸ rfl) (by decide) rfl (fun ls hl => ?_)
          refine lv_goto (tgt := 4) hx hb dX0_isSafe_42 (by decide) ?_
          exact ih v7 v6 _ hr ls (lv_sub hl [0, 1, 2, 3] rfl) kx
        · have hr := hi5.1 c5
          refine lv_iconst (v := 1) hx hb dX0_isSafe_32 rfl ?_
          refine lv_goto (tgt := 37) hx hb dX0_isSafe_33 (by decide) ?_
          refine lv_iand hx hb dX0_isSafe_37 ?_
          refine lv_topi (fun v8 hv8 => ?_)
          have hr := br_letv hr hv8
          refine lv_istore_n (lv' := [(2, .int v8), (3, .int x3_1), (0, .ref (ax 0)), (1, .ref (ax 4))]) hx hb dX0_isSafe_38 rfl hl (by decide) rfl (fun ls hl => ?_)
          obtain ⟨v9, hv9, hr⟩ := br_let hr
          refine lv_iinc (v := v9) (lv' := [(3, .int v9), (2, .int v8), (0, .ref (ax 0)), (1, .ref (ax 4))]) hx hb dX0_isSafe_39 hl (k := 1) rfl (hv9 ▸ rfl) (by decide) rfl (fun ls hl => ?_)
          refine lv_goto (tgt := 4) hx hb dX0_isSafe_42 (by decide) ?_
          exact ih v9 v8 _ hr ls (lv_sub hl [0, 1, 2, 3] rfl) kx
  obtain ⟨o1, ho1, hr⟩ := br_bind hr
  refine L1 1000 0 1 o1 ho1 ls (lv_sub hl [0, 1, 2, 3] rfl) (fun ls hl => ?_)
  refine lv_iload_n hx hb dX0_isSafe_45 rfl (lv_at hl 0 rfl) ?_
  obtain ⟨hz, hr⟩ := rz_n hr
  exact W.zret hx hb hrt hz (fun t ht _ => ⟨ret_i hr, ht⟩) noB dX0_isSafe_46 hlk
def f_X0_manyThatCan_L11 (a1 : Int32) (a2 : Int32) : Nat → Int32 → Int32 → XS → Option (Int32 × XS)
  | 0, _, _, _ => none
  | n + 1, x5_2, x3_2, g_2 => if 100 ≤ x5_2 then some (x3_2, g_2) else Option.bind (α := Int32) (if a1 < 0 then some 1 else if a1 = (x5_2 / 25) then some 1 else some 0) fun o5 => if o5 = 0 then Option.bind (some ((x5_2 + 1) : Int32)) fun v8 => f_X0_manyThatCan_L11 a1 a2 n v8 x3_2 g_2 else Option.bind (f_X8_canBite (xG_core0 g_2) (x5_2 / 25) (x5_2 - x5_2 / 25 * 25)) fun o9 => if o9 = 0 then Option.bind (some ((x5_2 + 1) : Int32)) fun v11 => f_X0_manyThatCan_L11 a1 a2 n v11 x3_2 g_2 else if a2 = 0 then Option.bind (some ((x3_2 + 1) : Int32)) fun v13 => Option.bind (some ((x5_2 + 1) : Int32)) fun v14 => f_X0_manyThatCan_L11 a1 a2 n v14 v13 g_2 else Option.bind (f_X0_cellsOf (x5_2 / 25) (x5_2 - x5_2 / 25 * 25)) fun o15 => Option.bind (f_X8_leave (xG_mind g_2) ((cG_left (xG_core0 g_2)) &&& (o15 ^^^ (-1)))) fun o16 => Option.bind (some (xS_mind g_2 o16)) fun g17 => Option.bind (f_X0_isSafe g17) fun o18 => if o18 = 0 then Option.bind (some ((x3_2 + 0) : Int32)) fun v20 => Option.bind (some ((x5_2 + 1) : Int32)) fun v21 => f_X0_manyThatCan_L11 a1 a2 n v21 v20 g17 else Option.bind (some ((x3_2 + 1) : Int32)) fun v22 => Option.bind (some ((x5_2 + 1) : Int32)) fun v23 => f_X0_manyThatCan_L11 a1 a2 n v23 v22 g17
def f_X0_manyThatCan (g : XS) (a1 : Int32) (a2 : Int32) : Option (Int32 × XS) := Option.bind (f_X0_openMind g) fun o1 => Option.bind (f_X0_manyThatCan_L11 a1 a2 1000 0 0 o1) fun o2 => some (o2.1, o2.2)
abbrev rm_X0_manyThatCan : Room := ({ frames := 10, cells := 0, slots := 0, locals := 444 })
theorem cw_X0_manyThatCan {R : Room} {s : State} {args : Array Value} {own : String} {index : Nat} (hts : ∀ w ∈ lw_all, w.before args s = true) (hlink : Cond.methodLink own index yX0_manyThatCan ∈ lw_all) (hR : rm_X0_manyThatCan.frames + 1 ≤ R.frames ∧ 8 + (7 + 11) + rm_X0_manyThatCan.locals ≤ R.locals) : CallW R s args own RX0 index yX0_manyThatCan cX0_manyThatCan 7 (some FieldType.int) (ws_ yX0_manyThatCan cX0_manyThatCan 7 (some FieldType.int)) rm_X0_manyThatCan rm_X0_manyThatCan.cells rm_X0_manyThatCan.slots 2 :=
  cwV 2 hts (lw_V hlink q840 qs35 q102 q841) rfl rfl rfl (by decide +kernel) hR
set_option maxHeartbeats 4000000 in
theorem m_X0_manyThatCan (l : Launch) (D : va_G) (ax : Nat → Nat) (ac : Nat → ClassId) (g : XS) (a1 : Int32) (a2 : Int32) (sz : Nat) (r0 : Int32 × XS) (hr : f_X0_manyThatCan g a1 a2 = some r0) : WM l yX0_manyThatCan cX0_manyThatCan 7 (some FieldType.int) rm_X0_manyThatCan [.ref (ax 0), .int a1, .int a2] D ac (wX ax ac g) (wX ax ac r0.2) sz (some (.int r0.1)) := by
  refine fw_of (by decide) (Nat.le_of_ble_eq_true rfl) ?_
  intro p e s m below meth c ls hx hb hrt hts hown hlk hml _ hU hl
  obtain ⟨rfl, hP, hG, hD⟩ := hU
  have hA : ∀ q : Nat, s.heap.size ≤ q → (va_A (wX ax ac g) s.heap.size) q := fun q h => Or.inr h
  have hS := Stt.start hP hD
  show WW p l e rm_X0_manyThatCan s m [.ref (ax 0), .int a1, .int a2] below meth c D (wX ax ac r0.2) (va_A (wX ax ac g) s.heap.size) (some (.int r0.1)) s.heap [] 0 0 0 ls []
  have hl : lv_has ls 7 [(0, .ref (ax 0)), (1, .int a1), (2, .int a2)] := hl
  rw [f_X0_manyThatCan] at hr
  refine lv_iconst (v := 0) hx hb dX0_manyThatCan_0 rfl ?_
  refine lv_istore_n (lv' := [(3, .int 0), (0, .ref (ax 0)), (1, .int a1), (2, .int a2)]) hx hb dX0_manyThatCan_1 rfl hl (by decide) rfl (fun ls hl => ?_)
  refine lv_aload_n hx hb dX0_manyThatCan_2 rfl (lv_at hl 1 rfl) ?_
  obtain ⟨o1, ho1, hr⟩ := br_bind hr
  refine fwWVs (As := []) (rest := []) (C := RX0) hx hb hml hown hts (m_X0_openMind l D ax ac g _ o1 ho1) (cw_X0_openMind hts q818 ⟨Nat.le_of_ble_eq_true rfl, Nat.le_of_ble_eq_true rfl⟩) hG hS hA rfl 0 0 rfl rfl rfl hl.1 rfl (Nat.le_of_ble_eq_true rfl) dX0_manyThatCan_3 ⟨Nat.le_of_ble_eq_true rfl, Nat.le_of_ble_eq_true rfl⟩ (fun H locs hS => ?_)
  have hP := hS.1
  refine lv_astore (lv' := [(4, .ref (ax 4)), (3, .int 0), (0, .ref (ax 0)), (1, .int a1), (2, .int a2)]) hx hb dX0_manyThatCan_6 hl (by decide) rfl (fun ls hl => ?_)
  refine lv_iconst (v := 0) hx hb dX0_manyThatCan_8 rfl ?_
  refine lv_istore (lv' := [(5, .int 0), (4, .ref (ax 4)), (3, .int 0), (0, .ref (ax 0)), (1, .int a1), (2, .int a2)]) hx hb dX0_manyThatCan_9 hl (by decide) rfl (fun ls hl => ?_)
  have L2 : ∀ (n : Nat) (x5_2 : Int32) (x3_2 : Int32) (g_2 : XS) (o2 : Int32 × XS), f_X0_manyThatCan_L11 a1 a2 n x5_2 x3_2 g_2 = some o2 → ∀ (H : Heap) (locs : List Loc) ls, lv_has ls 7 [(5, .int x5_2), (4, .ref (ax 4)), (3, .int x3_2), (0, .ref (ax 0)), (1, .int a1), (2, .int a2)] → Stt D (va_A (wX ax ac g) s.heap.size) s.heap (wX ax ac g_2) H locs → (∀ (H : Heap) (locs : List Loc) ls, lv_has ls 7 [(3, .int o2.1)] → Stt D (va_A (wX ax ac g) s.heap.size) s.heap (wX ax ac o2.2) H locs → WW p l e rm_X0_manyThatCan s m [.ref (ax 0), .int a1, .int a2] below meth c D (wX ax ac r0.2) (va_A (wX ax ac g) s.heap.size) (some (.int r0.1)) H locs 0 0 116 ls []) → WW p l e rm_X0_manyThatCan s m [.ref (ax 0), .int a1, .int a2] below meth c D (wX ax ac r0.2) (va_A (wX ax ac g) s.heap.size) (some (.int r0.1)) H locs 0 0 11 ls [] := by
    intro n
    induction n with
    | zero => intro x5_2 x3_2 g_2 o2 hr; rw [f_X0_manyThatCan_L11] at hr; cases hr
    | succ n ih =>
      intro x5_2 x3_2 g_2 o2 hr H locs ls hl hS kx
      have hP := hS.1
      rw [f_X0_manyThatCan_L11] at hr
      refine lv_iload hx hb dX0_manyThatCan_11 (lv_at hl 0 rfl) ?_
      refine lv_bipush (v := 100) hx hb dX0_manyThatCan_13 rfl ?_
      have hi3 := br_ite hr
      refine lv_icmp_ge (tgt := 116) hx hb dX0_manyThatCan_15 (by decide) (fun c3 => ?_) (fun c3 => ?_)
      · have hr := hi3.1 c3
        obtain rfl := Option.some.inj hr
        exact kx _ _ ls (lv_sub hl [2] rfl) hS
      · have hr := hi3.2 c3
        refine lv_iload_n hx hb dX0_manyThatCan_18 rfl (lv_at hl 4 rfl) ?_
        obtain ⟨o5, ho5, hr⟩ := br_bind hr
        have J5 : ∀ (H : Heap) (locs : List Loc) ls, lv_has ls 7 [(5, .int x5_2), (4, .ref (ax 4)), (3, .int x3_2), (0, .ref (ax 0)), (1, .int a1), (2, .int a2)] → Stt D (va_A (wX ax ac g) s.heap.size) s.heap (wX ax ac g_2) H locs → WW p l e rm_X0_manyThatCan s m [.ref (ax 0), .int a1, .int a2] below meth c D (wX ax ac r0.2) (va_A (wX ax ac g) s.heap.size) (some (.int r0.1)) H locs 0 0 36 ls [.int o5] := by
          intro H locs ls hl hS
          have hP := hS.1
          refine lv_istore (lv' := [(6, .int o5), (5, .int x5_2), (4, .ref (ax 4)), (3, .int x3_2), (0, .ref (ax 0)), (1, .int a1), (2, .int a2)]) hx hb dX0_manyThatCan_36 hl (by decide) rfl (fun ls hl => ?_)
          refine lv_iload hx hb dX0_manyThatCan_38 (lv_at hl 0 rfl) ?_
          have hi7 := br_ite hr
          refine lv_if_eq (tgt := 110) hx hb dX0_manyThatCan_40 (by decide) (fun c7 => ?_) (fun c7 => ?_)
          · have hr := hi7.1 c7
            obtain ⟨v8, hv8, hr⟩ := br_let hr
            refine lv_iinc (v := v8) (lv' := [(5, .int v8), (6, .int o5), (4, .ref (ax 4)), (3, .int x3_2), (0, .ref (ax 0)), (1, .int a1), (2, .int a2)]) hx hb dX0_manyThatCan_110 hl (k := 1) rfl (hv8 ▸ rfl) (by decide) rfl (fun ls hl => ?_)
            refine lv_goto (tgt := 11) hx hb dX0_manyThatCan_113 (by decide) ?_
            exact ih v8 x3_2 g_2 _ hr _ _ ls (lv_sub hl [0, 2, 3, 4, 5, 6] rfl) hS kx
          · have hr := hi7.2 c7
            refine lv_aload_n hx hb dX0_manyThatCan_43 rfl (lv_at hl 4 rfl) ?_
            refine va_get (D := D) (ci := 0) (v := .ref (ax 1)) (C := RX0) (T := TX0) (N := 17) hx hb hts in_X0 hown hG.1 hP 0 rfl rfl 1 (by decide) (hts _ q234) (fun _ h9 => h9) rfl dX0_manyThatCan_44 ?_
            refine lv_iload hx hb dX0_manyThatCan_47 (lv_at hl 1 rfl) ?_
            refine lv_bipush (v := 25) hx hb dX0_manyThatCan_49 rfl ?_
            refine lv_idiv hx hb dX0_manyThatCan_51 (by decide) ?_
            refine lv_iload hx hb dX0_manyThatCan_52 (lv_at hl 1 rfl) ?_
            refine lv_bipush (v := 25) hx hb dX0_manyThatCan_54 rfl ?_
            refine lv_irem hx hb dX0_manyThatCan_56 (by decide) ?_
            obtain ⟨o9, ho9, hr⟩ := br_bind hr
            refine fwRV (As := [.int (x5_2 / 25), .int (x5_2 - x5_2 / 25 * 25)]) (rest := []) (C := RX8) hx hb hml hown hts (m_X8_canBite l D ax ac (ax 1) (ax 2) (ax 3) (xG_core0 g_2) (x5_2 / 25) (x5_2 - x5_2 / 25 * 25) o9 ho9) (cw_X8_canBite hts q742 ⟨Nat.le_of_ble_eq_true rfl, Nat.le_of_ble_eq_true rfl⟩) hG hP (hP.pick [1, 2, 3] rfl) 1 7 rfl rfl rfl hl.1 rfl (Nat.le_of_ble_eq_true rfl) dX0_manyThatCan_57 ⟨Nat.le_of_ble_eq_true rfl, Nat.le_of_ble_eq_true rfl⟩ ?_
            have hi10 := br_ite hr
            refine lv_if_eq (tgt := 110) hx hb dX0_manyThatCan_60 (by decide) (fun c10 => ?_) (fun c10 => ?_)
            · have hr := hi10.1 c10
              obtain ⟨v11, hv11, hr⟩ := br_let hr
              refine lv_iinc (v := v11) (lv' := [(5, .int v11), (6, .int o5), (4, .ref (ax 4)), (3, .int x3_2), (0, .ref (ax 0)), (1, .int a1), (2, .int a2)]) hx hb dX0_manyThatCan_110 hl (k := 1) rfl (hv11 ▸ rfl) (by decide) rfl (fun ls hl => ?_)
              refine lv_goto (tgt := 11) hx hb dX0_manyThatCan_113 (by decide) ?_
              exact ih v11 x3_2 g_2 _ hr _ _ ls (lv_sub hl [0, 2, 3, 4, 5, 6] rfl) hS kx
            · have hr := hi10.2 c10
              refine lv_iload_n hx hb dX0_manyThatCan_63 rfl (lv_at hl 3 rfl) ?_
              refine lv_iload_n hx hb dX0_manyThatCan_64 rfl (lv_at hl 6 rfl) ?_
              have hi12 := br_ite hr
              refine lv_if_eq (tgt := 103) hx hb dX0_manyThatCan_65 (by decide) (fun c12 => ?_) (fun c12 => ?_)
              · have hr := hi12.1 c12
                refine lv_iconst (v := 1) hx hb dX0_manyThatCan_103 rfl ?_
                refine lv_goto (tgt := 108) hx hb dX0_manyThatCan_104 (by decide) ?_
                refine lv_iadd hx hb dX0_manyThatCan_108 ?_
                refine lv_topi (fun v13 hv13 => ?_)
                have hr := br_letv hr hv13
                refine lv_istore_n (lv' := [(3, .int v13), (6, .int o5), (5, .int x5_2), (4, .ref (ax 4)), (0, .ref (ax 0)), (1, .int a1), (2, .int a2)]) hx hb dX0_manyThatCan_109 rfl hl (by decide) rfl (fun ls hl => ?_)
                obtain ⟨v14, hv14, hr⟩ := br_let hr
                refine lv_iinc (v := v14) (lv' := [(5, .int v14), (3, .int v13), (6, .int o5), (4, .ref (ax 4)), (0, .ref (ax 0)), (1, .int a1), (2, .int a2)]) hx hb dX0_manyThatCan_110 hl (k := 2) rfl (hv14 ▸ rfl) (by decide) rfl (fun ls hl => ?_)
                refine lv_goto (tgt := 11) hx hb dX0_manyThatCan_113 (by decide) ?_
                exact ih v14 v13 g_2 _ hr _ _ ls (lv_sub hl [0, 3, 1, 4, 5, 6] rfl) hS kx
              · have hr := hi12.2 c12
                refine lv_aload_n hx hb dX0_manyThatCan_68 rfl (lv_at hl 4 rfl) ?_
                refine lv_aload hx hb dX0_manyThatCan_69 (lv_at hl 2 rfl) ?_
                refine lv_aload_n hx hb dX0_manyThatCan_71 rfl (lv_at hl 4 rfl) ?_
                refine va_get (D := D) (ci := 0) (v := .ref (ax 1)) (C := RX0) (T := TX0) (N := 17) hx hb hts in_X0 hown hG.1 hP 0 rfl rfl 1 (by decide) (hts _ q234) (fun _ h9 => h9) rfl dX0_manyThatCan_72 ?_
                refine va_getN (D := D) (ci := 7) (v := .int (cG_left (xG_core0 g_2))) (C := RX8) (T := TX8) (N := 8) hx hb hts in_X8 hown hG.1 hP 1 rfl rfl 0 (by decide) (va_Nw.use rfl (hG.2.1 _ nq193)) (fun _ h9 => h9) rfl dX0_manyThatCan_75 ?_
                refine lv_iload hx hb dX0_manyThatCan_78 (lv_at hl 1 rfl) ?_
                refine lv_bipush (v := 25) hx hb dX0_manyThatCan_80 rfl ?_
                refine lv_idiv hx hb dX0_manyThatCan_82 (by decide) ?_
                refine lv_iload hx hb dX0_manyThatCan_83 (lv_at hl 1 rfl) ?_
                refine lv_bipush (v := 25) hx hb dX0_manyThatCan_85 rfl ?_
                refine lv_irem hx hb dX0_manyThatCan_87 (by decide) ?_
                obtain ⟨o15, ho15, hr⟩ := br_bind hr
                refine fwS (As := [.int (x5_2 / 25), .int (x5_2 - x5_2 / 25 * 25)]) (rest := [.int (cG_left (xG_core0 g_2)), .ref (ax 4), .ref (ax 0), .int x3_2]) hx hb hml hown hts (m_X0_cellsOf l (x5_2 / 25) (x5_2 - x5_2 / 25 * 25) o15 ho15) (cw_X0_cellsOf hts q816 ⟨Nat.le_of_ble_eq_true rfl, Nat.le_of_ble_eq_true rfl⟩) rfl hl.1 rfl (Nat.le_of_ble_eq_true rfl) dX0_manyThatCan_88 ⟨Nat.le_of_ble_eq_true rfl, Nat.le_of_ble_eq_true rfl⟩ ?_
                refine lv_iconst (v := (-1)) hx hb dX0_manyThatCan_91 rfl ?_
                refine lv_ixor hx hb dX0_manyThatCan_92 ?_
                refine lv_iand hx hb dX0_manyThatCan_93 ?_
                obtain ⟨o16, ho16, hr⟩ := br_bind hr
                obtain ⟨g17, hg17, hr⟩ := br_let hr
                refine fwWV (As := [.int ((cG_left (xG_core0 g_2)) &&& (o15 ^^^ (-1)))]) (rest := [.ref (ax 0), .int x3_2]) (C := RX8) hx hb hml hown hts (m_X8_leave l D ax ac (ax 4) (ax 5) (ax 6) (xG_mind g_2) ((cG_left (xG_core0 g_2)) &&& (o15 ^^^ (-1))) _ o16 ho16) (cw_X8_leave hts q748 ⟨Nat.le_of_ble_eq_true rfl, Nat.le_of_ble_eq_true rfl⟩) hG hS hA [4, 5, 6] rfl rfl rfl 4 7 rfl rfl rfl hl.1 rfl (Nat.le_of_ble_eq_true rfl) dX0_manyThatCan_94 ⟨Nat.le_of_ble_eq_true rfl, Nat.le_of_ble_eq_true rfl⟩ (wn := wX ax ac g17) (by rw [hg17]; rfl) (fun H locs hS => ?_)
                have hP := hS.1
                obtain ⟨o18, ho18, hr⟩ := br_bind hr
                refine fwRV (As := [.ref (ax 4)]) (rest := [.int x3_2]) (C := RX0) hx hb hml hown hts (m_X0_isSafe l D ax ac g17 o18 ho18) (cw_X0_isSafe hts q842 ⟨Nat.le_of_ble_eq_true rfl, Nat.le_of_ble_eq_true rfl⟩) hG hP hP 0 0 rfl rfl rfl hl.1 rfl (Nat.le_of_ble_eq_true rfl) dX0_manyThatCan_97 ⟨Nat.le_of_ble_eq_true rfl, Nat.le_of_ble_eq_true rfl⟩ ?_
                have hi19 := br_ite hr
                refine lv_if_eq (tgt := 107) hx hb dX0_manyThatCan_100 (by decide) (fun c19 => ?_) (fun c19 => ?_)
                · have hr := hi19.1 c19
                  refine lv_iconst (v := 0) hx hb dX0_manyThatCan_107 rfl ?_
                  refine lv_iadd hx hb dX0_manyThatCan_108 ?_
                  refine lv_topi (fun v20 hv20 => ?_)
                  have hr := br_letv hr hv20
                  refine lv_istore_n (lv' := [(3, .int v20), (6, .int o5), (5, .int x5_2), (4, .ref (ax 4)), (0, .ref (ax 0)), (1, .int a1), (2, .int a2)]) hx hb dX0_manyThatCan_109 rfl hl (by decide) rfl (fun ls hl => ?_)
                  obtain ⟨v21, hv21, hr⟩ := br_let hr
                  refine lv_iinc (v := v21) (lv' := [(5, .int v21), (3, .int v20), (6, .int o5), (4, .ref (ax 4)), (0, .ref (ax 0)), (1, .int a1), (2, .int a2)]) hx hb dX0_manyThatCan_110 hl (k := 2) rfl (hv21 ▸ rfl) (by decide) rfl (fun ls hl => ?_)
                  refine lv_goto (tgt := 11) hx hb dX0_manyThatCan_113 (by decide) ?_
                  exact ih v21 v20 g17 _ hr _ _ ls (lv_sub hl [0, 3, 1, 4, 5, 6] rfl) hS kx
                · have hr := hi19.2 c19
                  refine lv_iconst (v := 1) hx hb dX0_manyThatCan_103 rfl ?_
                  refine lv_goto (tgt := 108) hx hb dX0_manyThatCan_104 (by decide) ?_
                  refine lv_iadd hx hb dX0_manyThatCan_108 ?_
                  refine lv_topi (fun v22 hv22 => ?_)
                  have hr := br_letv hr hv22
                  refine lv_istore_n (lv' := [(3, .int v22), (6, .int o5), (5, .int x5_2), (4, .ref (ax 4)), (0, .ref (ax 0)), (1, .int a1), (2, .int a2)]) hx hb dX0_manyThatCan_109 rfl hl (by decide) rfl (fun ls hl => ?_)
                  obtain ⟨v23, hv23, hr⟩ := br_let hr
                  refine lv_iinc (v := v23) (lv' := [(5, .int v23), (3, .int v22), (6, .int o5), (4, .ref (ax 4)), (0, .ref (ax 0)), (1, .int a1), (2, .int a2)]) hx hb dX0_manyThatCan_110 hl (k := 2) rfl (hv23 ▸ rfl) (by decide) rfl (fun ls hl => ?_)
                  refine lv_goto (tgt := 11) hx hb dX0_manyThatCan_113 (by decide) ?_
                  exact ih v23 v22 g17 _ hr _ _ ls (lv_sub hl [0, 3, 1, 4, 5, 6] rfl) hS kx
        have hr := ho5
        have hi4 := br_ite hr
        refine lv_if_lt (tgt := 31) hx hb dX0_manyThatCan_19 (by decide) (fun c4 => ?_) (fun c4 => ?_)
        · have hr := hi4.1 c4
          refine lv_iconst (v := 1) hx hb dX0_manyThatCan_31 rfl ?_
          refine lv_goto (tgt := 36) hx hb dX0_manyThatCan_32 (by decide) ?_
          obtain rfl := Option.some.inj hr
          exact J5 _ _ ls (lv_sub hl [0, 1, 2, 3, 4, 5] rfl) hS
        · have hr := hi4.2 c4
          refine lv_iload_n hx hb dX0_manyThatCan_22 rfl (lv_at hl 4 rfl) ?_
          refine lv_iload hx hb dX0_manyThatCan_23 (lv_at hl 0 rfl) ?_
          refine lv_bipush (v := 25) hx hb dX0_manyThatCan_25 rfl ?_
          refine lv_idiv hx hb dX0_manyThatCan_27 (by decide) ?_
          have hi6 := br_ite hr
          refine lv_icmp_ne (tgt := 35) hx hb dX0_manyThatCan_28 (by decide) (fun c6 => ?_) (fun c6 => ?_)
          · have hr := hi6.2 c6
            refine lv_iconst (v := 0) hx hb dX0_manyThatCan_35 rfl ?_
            obtain rfl := Option.some.inj hr
            exact J5 _ _ ls (lv_sub hl [0, 1, 2, 3, 4, 5] rfl) hS
          · have hr := hi6.1 c6
            refine lv_iconst (v := 1) hx hb dX0_manyThatCan_31 rfl ?_
            refine lv_goto (tgt := 36) hx hb dX0_manyThatCan_32 (by decide) ?_
            obtain rfl := Option.some.inj hr
            exact J5 _ _ ls (lv_sub hl [0, 1, 2, 3, 4, 5] rfl) hS
  obtain ⟨o2, ho2, hr⟩ := br_bind hr
  refine L2 1000 0 0 o1 o2 ho2 _ _ ls (lv_sub hl [0, 1, 2, 3, 4, 5] rfl) hS (fun H locs ls hl hS => ?_)
  have hP := hS.1
  refine lv_iload_n hx hb dX0_manyThatCan_116 rfl (lv_at hl 0 rfl) ?_
  obtain rfl := Option.some.inj hr
  refine W.widen (k := rm_X0_manyThatCan.cells) (n := rm_X0_manyThatCan.slots) (Nat.le_of_ble_eq_true rfl) (Nat.le_of_ble_eq_true rfl) ?_
  exact W.iret hx hb hrt (fun t ht _ => hS.q ht rfl) hS.2.2.2.2 dX0_manyThatCan_117 hlk
def f_X0_clearThen_L2 : Nat → Int32 → XS → Option (XS)
  | 0, _, _ => none
  | n + 1, x1_1, g_1 => if 128 ≤ x1_1 then some g_1 else if x1_1 < 0 ∨ 128 ≤ Int32.toNatClampNeg x1_1 then none else Option.bind (some (xS_waysThen g_1 (vp_updL (xG_waysThen g_1) (Int32.toNatClampNeg x1_1) (0 : Int64)))) fun g4 => if x1_1 < 0 ∨ 128 ≤ Int32.toNatClampNeg x1_1 then none else Option.bind (some (xS_fewThen g4 (upd (xG_fewThen g4) (Int32.toNatClampNeg x1_1) (999 : Int32)))) fun g6 => Option.bind (some ((x1_1 + 1) : Int32)) fun v7 => f_X0_clearThen_L2 n v7 g6
def f_X0_clearThen (g : XS) : Option (XS) := Option.bind (f_X0_clearThen_L2 1000 0 g) fun o1 => some o1
abbrev rm_X0_clearThen : Room := ({ frames := 1, cells := 0, slots := 0, locals := 18 })
theorem cw_X0_clearThen {R : Room} {s : State} {args : Array Value} {own : String} {index : Nat} (hts : ∀ w ∈ lw_all, w.before args s = true) (hlink : Cond.methodLink own index yX0_clearThen ∈ lw_all) (hR : rm_X0_clearThen.frames + 1 ≤ R.frames ∧ 8 + (2 + 11) + rm_X0_clearThen.locals ≤ R.locals) : CallW R s args own RX0 index yX0_clearThen cX0_clearThen 2 none (ws_ yX0_clearThen cX0_clearThen 2 none) rm_X0_clearThen rm_X0_clearThen.cells rm_X0_clearThen.slots 0 :=
  cwV 0 hts (lw_V hlink q857 qs39 q102 q858) rfl rfl rfl (by decide +kernel) hR
set_option maxHeartbeats 4000000 in
theorem m_X0_clearThen (l : Launch) (D : va_G) (ax : Nat → Nat) (ac : Nat → ClassId) (g : XS) (sz : Nat) (r0 : XS) (hr : f_X0_clearThen g = some r0) : WM l yX0_clearThen cX0_clearThen 2 none rm_X0_clearThen [.ref (ax 0)] D ac (wX ax ac g) (wX ax ac r0) sz none := by
  refine fw_of (by decide) (Nat.le_of_ble_eq_true rfl) ?_
  intro p e s m below meth c ls hx hb hrt hts hown hlk hml _ hU hl
  obtain ⟨rfl, hP, hG, hD⟩ := hU
  have hA : ∀ q : Nat, s.heap.size ≤ q → (va_A (wX ax ac g) s.heap.size) q := fun q h => Or.inr h
  have hS := Stt.start hP hD
  show WW p l e rm_X0_clearThen s m [.ref (ax 0)] below meth c D (wX ax ac r0) (va_A (wX ax ac g) s.heap.size) none s.heap [] 0 0 0 ls []
  have hl : lv_has ls 2 [(0, .ref (ax 0))] := hl
  rw [f_X0_clearThen] at hr
  refine lv_iconst (v := 0) hx hb dX0_clearThen_0 rfl ?_
  refine lv_istore_n (lv' := [(1, .int 0), (0, .ref (ax 0))]) hx hb dX0_clearThen_1 rfl hl (by decide) rfl (fun ls hl => ?_)
  have L1 : ∀ (n : Nat) (x1_1 : Int32) (g_1 : XS) (o1 : XS), f_X0_clearThen_L2 n x1_1 g_1 = some o1 → ∀ (H : Heap) (locs : List Loc) ls, lv_has ls 2 [(1, .int x1_1), (0, .ref (ax 0))] → Stt D (va_A (wX ax ac g) s.heap.size) s.heap (wX ax ac g_1) H locs → (∀ (H : Heap) (locs : List Loc) ls, lv_has ls 2 [] → Stt D (va_A (wX ax ac g) s.heap.size) s.heap (wX ax ac o1) H locs → WW p l e rm_X0_clearThen s m [.ref (ax 0)] below meth c D (wX ax ac r0) (va_A (wX ax ac g) s.heap.size) none H locs 0 0 31 ls []) → WW p l e rm_X0_clearThen s m [.ref (ax 0)] below meth c D (wX ax ac r0) (va_A (wX ax ac g) s.heap.size) none H locs 0 0 2 ls [] := by
    intro n
    induction n with
    | zero => intro x1_1 g_1 o1 hr; rw [f_X0_clearThen_L2] at hr; cases hr
    | succ n ih =>
      intro x1_1 g_1 o1 hr H locs ls hl hS kx
      have hP := hS.1
      rw [f_X0_clearThen_L2] at hr
      refine lv_iload_n hx hb dX0_clearThen_2 rfl (lv_at hl 0 rfl) ?_
      refine lv_sipush (v := 128) hx hb dX0_clearThen_3 rfl ?_
      have hi2 := br_ite hr
      refine lv_icmp_ge (tgt := 31) hx hb dX0_clearThen_6 (by decide) (fun c2 => ?_) (fun c2 => ?_)
      · have hr := hi2.1 c2
        obtain rfl := Option.some.inj hr
        exact kx _ _ ls (lv_sub hl [] rfl) hS
      · have hr := hi2.2 c2
        refine lv_aload_n hx hb dX0_clearThen_9 rfl (lv_at hl 1 rfl) ?_
        refine va_get (D := D) (ci := 0) (v := .ref (ax 21)) (C := RX0) (T := TX0) (N := 17) hx hb hts in_X0 hown hG.1 hP 0 rfl rfl 11 (by decide) (hts _ q246) (fun _ h9 => h9) rfl dX0_clearThen_10 ?_
        refine lv_iload_n hx hb dX0_clearThen_13 rfl (lv_at hl 0 rfl) ?_
        refine lv_lconst (v := 0) hx hb dX0_clearThen_14 rfl ?_
        obtain ⟨c3, hr⟩ := br_none hr
        obtain ⟨g4, hg4, hr⟩ := br_let hr
        refine fw_last hx hb hG hS 21 rfl c3 dX0_clearThen_15 (wn := wX ax ac g4) (by rw [hg4]; rfl) (fun H locs hS => ?_)
        have hP := hS.1
        refine lv_aload_n hx hb dX0_clearThen_16 rfl (lv_at hl 1 rfl) ?_
        refine va_get (D := D) (ci := 0) (v := .ref (ax 23)) (C := RX0) (T := TX0) (N := 17) hx hb hts in_X0 hown hG.1 hP 0 rfl rfl 13 (by decide) (hts _ q248) (fun _ h9 => h9) rfl dX0_clearThen_17 ?_
        refine lv_iload_n hx hb dX0_clearThen_20 rfl (lv_at hl 0 rfl) ?_
        refine lv_sipush (v := 999) hx hb dX0_clearThen_21 rfl ?_
        obtain ⟨c5, hr⟩ := br_none hr
        obtain ⟨g6, hg6, hr⟩ := br_let hr
        refine fw_iast hx hb hG hS 23 rfl c5 dX0_clearThen_24 (wn := wX ax ac g6) (by rw [hg6]; rfl) (fun H locs hS => ?_)
        have hP := hS.1
        obtain ⟨v7, hv7, hr⟩ := br_let hr
        refine lv_iinc (v := v7) (lv' := [(1, .int v7), (0, .ref (ax 0))]) hx hb dX0_clearThen_25 hl (k := 0) rfl (hv7 ▸ rfl) (by decide) rfl (fun ls hl => ?_)
        refine lv_goto (tgt := 2) hx hb dX0_clearThen_28 (by decide) ?_
        exact ih v7 g6 _ hr _ _ ls (lv_sub hl [0, 1] rfl) hS kx
  obtain ⟨o1, ho1, hr⟩ := br_bind hr
  refine L1 1000 0 g o1 ho1 _ _ ls (lv_sub hl [0, 1] rfl) hS (fun H locs ls hl hS => ?_)
  have hP := hS.1
  obtain rfl := Option.some.inj hr
  refine W.widen (k := rm_X0_clearThen.cells) (n := rm_X0_clearThen.slots) (Nat.le_of_ble_eq_true rfl) (Nat.le_of_ble_eq_true rfl) ?_
  exact W.vret hx hb hrt (fun t ht _ => hS.q ht rfl) hS.2.2.2.2 dX0_clearThen_31 hlk
def f_X0_goTo (g : XS) (a1 : Int32) (a2 : Int32) (a3 : Int32) : Option (XS) := Option.bind (some ((a1 >>> ((1 : Int32) &&& 31)) : Int32)) fun v1 => if v1 < 0 ∨ 128 ≤ Int32.toNatClampNeg v1 then none else if a2 < 0 ∨ 128 ≤ Int32.toNatClampNeg a2 then none else Option.bind (some (((((xG_waysThen g) (Int32.toNatClampNeg v1)) + ((xG_waysBy g) (Int32.toNatClampNeg a2))) - (((xG_waysThen g) (Int32.toNatClampNeg v1)) + ((xG_waysBy g) (Int32.toNatClampNeg a2))) / 1000003 * 1000003) : Int64)) fun v4 => if v1 < 0 ∨ 128 ≤ Int32.toNatClampNeg v1 then none else Option.bind (some (xS_waysThen g (vp_updL (xG_waysThen g) (Int32.toNatClampNeg v1) v4))) fun g6 => if v1 < 0 ∨ 128 ≤ Int32.toNatClampNeg v1 then none else if a2 < 0 ∨ 128 ≤ Int32.toNatClampNeg a2 then none else Option.bind (some ((if (((xG_fewBy g6) (Int32.toNatClampNeg a2)) + a3) < ((xG_fewThen g6) (Int32.toNatClampNeg v1)) then (((xG_fewBy g6) (Int32.toNatClampNeg a2)) + a3) else ((xG_fewThen g6) (Int32.toNatClampNeg v1))) : Int32)) fun v9 => if v1 < 0 ∨ 128 ≤ Int32.toNatClampNeg v1 then none else Option.bind (some (xS_fewThen g6 (upd (xG_fewThen g6) (Int32.toNatClampNeg v1) v9))) fun g11 => some g11
abbrev rm_X0_goTo : Room := ({ frames := 2, cells := 0, slots := 0, locals := 40 })
theorem cw_X0_goTo {R : Room} {s : State} {args : Array Value} {own : String} {index : Nat} (hts : ∀ w ∈ lw_all, w.before args s = true) (hlink : Cond.methodLink own index yX0_goTo ∈ lw_all) (hR : rm_X0_goTo.frames + 1 ≤ R.frames ∧ 8 + (5 + 11) + rm_X0_goTo.locals ≤ R.locals) : CallW R s args own RX0 index yX0_goTo cX0_goTo 5 none (ws_ yX0_goTo cX0_goTo 5 none) rm_X0_goTo rm_X0_goTo.cells rm_X0_goTo.slots 3 :=
  cwV 3 hts (lw_V hlink q866 qs41 q102 q867) rfl rfl rfl (by decide +kernel) hR
set_option maxHeartbeats 4000000 in
theorem m_X0_goTo (l : Launch) (D : va_G) (ax : Nat → Nat) (ac : Nat → ClassId) (g : XS) (a1 : Int32) (a2 : Int32) (a3 : Int32) (sz : Nat) (r0 : XS) (hr : f_X0_goTo g a1 a2 a3 = some r0) : WM l yX0_goTo cX0_goTo 5 none rm_X0_goTo [.ref (ax 0), .int a1, .int a2, .int a3] D ac (wX ax ac g) (wX ax ac r0) sz none := by
  refine fw_of (by decide) (Nat.le_of_ble_eq_true rfl) ?_
  intro p e s m below meth c ls hx hb hrt hts hown hlk hml _ hU hl
  obtain ⟨rfl, hP, hG, hD⟩ := hU
  have hA : ∀ q : Nat, s.heap.size ≤ q → (va_A (wX ax ac g) s.heap.size) q := fun q h => Or.inr h
  have hS := Stt.start hP hD
  show WW p l e rm_X0_goTo s m [.ref (ax 0), .int a1, .int a2, .int a3] below meth c D (wX ax ac r0) (va_A (wX ax ac g) s.heap.size) none s.heap [] 0 0 0 ls []
  have hl : lv_has ls 5 [(0, .ref (ax 0)), (1, .int a1), (2, .int a2), (3, .int a3)] := hl
  rw [f_X0_goTo] at hr
  refine lv_iload_n hx hb dX0_goTo_0 rfl (lv_at hl 1 rfl) ?_
  refine lv_iconst (v := 1) hx hb dX0_goTo_1 rfl ?_
  refine lv_ishr hx hb dX0_goTo_2 ?_
  refine lv_topi (fun v1 hv1 => ?_)
  have hr := br_letv hr hv1
  refine lv_istore (lv' := [(4, .int v1), (0, .ref (ax 0)), (1, .int a1), (2, .int a2), (3, .int a3)]) hx hb dX0_goTo_3 hl (by decide) rfl (fun ls hl => ?_)
  refine lv_aload_n hx hb dX0_goTo_5 rfl (lv_at hl 1 rfl) ?_
  refine va_get (D := D) (ci := 0) (v := .ref (ax 21)) (C := RX0) (T := TX0) (N := 17) hx hb hts in_X0 hown hG.1 hP 0 rfl rfl 11 (by decide) (hts _ q246) (fun _ h9 => h9) rfl dX0_goTo_6 ?_
  refine lv_iload hx hb dX0_goTo_9 (lv_at hl 0 rfl) ?_
  refine lv_aload_n hx hb dX0_goTo_11 rfl (lv_at hl 1 rfl) ?_
  refine va_get (D := D) (ci := 0) (v := .ref (ax 21)) (C := RX0) (T := TX0) (N := 17) hx hb hts in_X0 hown hG.1 hP 0 rfl rfl 11 (by decide) (hts _ q246) (fun _ h9 => h9) rfl dX0_goTo_12 ?_
  refine lv_iload hx hb dX0_goTo_15 (lv_at hl 0 rfl) ?_
  obtain ⟨c2, hr⟩ := br_none hr
  refine va_lald hx hb hG.1 hP 21 3 rfl rfl c2 dX0_goTo_17 ?_
  refine lv_aload_n hx hb dX0_goTo_18 rfl (lv_at hl 1 rfl) ?_
  refine va_get (D := D) (ci := 0) (v := .ref (ax 20)) (C := RX0) (T := TX0) (N := 17) hx hb hts in_X0 hown hG.1 hP 0 rfl rfl 10 (by decide) (hts _ q245) (fun _ h9 => h9) rfl dX0_goTo_19 ?_
  refine lv_iload_n hx hb dX0_goTo_22 rfl (lv_at hl 3 rfl) ?_
  obtain ⟨c3, hr⟩ := br_none hr
  refine va_lald hx hb hG.1 hP 20 3 rfl rfl c3 dX0_goTo_23 ?_
  refine lv_ladd hx hb dX0_goTo_24 ?_
  refine lv_ldc2 (v := 1000003) hx hb hown (hts _ q868) dX0_goTo_25 ?_
  refine lv_lrem hx hb dX0_goTo_28 (by decide) ?_
  refine lv_topl (fun v4 hv4 => ?_)
  have hr := br_letv hr hv4
  obtain ⟨c5, hr⟩ := br_none hr
  obtain ⟨g6, hg6, hr⟩ := br_let hr
  refine fw_last hx hb hG hS 21 rfl c5 dX0_goTo_29 (wn := wX ax ac g6) (by rw [hg6]; rfl) (fun H locs hS => ?_)
  have hP := hS.1
  refine lv_aload_n hx hb dX0_goTo_30 rfl (lv_at hl 1 rfl) ?_
  refine va_get (D := D) (ci := 0) (v := .ref (ax 23)) (C := RX0) (T := TX0) (N := 17) hx hb hts in_X0 hown hG.1 hP 0 rfl rfl 13 (by decide) (hts _ q248) (fun _ h9 => h9) rfl dX0_goTo_31 ?_
  refine lv_iload hx hb dX0_goTo_34 (lv_at hl 0 rfl) ?_
  refine lv_aload_n hx hb dX0_goTo_36 rfl (lv_at hl 1 rfl) ?_
  refine va_get (D := D) (ci := 0) (v := .ref (ax 23)) (C := RX0) (T := TX0) (N := 17) hx hb hts in_X0 hown hG.1 hP 0 rfl rfl 13 (by decide) (hts _ q248) (fun _ h9 => h9) rfl dX0_goTo_37 ?_
  refine lv_iload hx hb dX0_goTo_40 (lv_at hl 0 rfl) ?_
  obtain ⟨c7, hr⟩ := br_none hr
  refine va_iald hx hb hG.1 hP 23 0 rfl rfl c7 dX0_goTo_42 ?_
  refine lv_aload_n hx hb dX0_goTo_43 rfl (lv_at hl 1 rfl) ?_
  refine va_get (D := D) (ci := 0) (v := .ref (ax 22)) (C := RX0) (T := TX0) (N := 17) hx hb hts in_X0 hown hG.1 hP 0 rfl rfl 12 (by decide) (hts _ q247) (fun _ h9 => h9) rfl dX0_goTo_44 ?_
  refine lv_iload_n hx hb dX0_goTo_47 rfl (lv_at hl 3 rfl) ?_
  obtain ⟨c8, hr⟩ := br_none hr
  refine va_iald hx hb hG.1 hP 22 0 rfl rfl c8 dX0_goTo_48 ?_
  refine lv_iload_n hx hb dX0_goTo_49 rfl (lv_at hl 4 rfl) ?_
  refine lv_iadd hx hb dX0_goTo_50 ?_
  refine va_mmin hx hb (hml.trans hl.1.symm) hown (hts _ q869) (hts _ q605) (hts _ q126) (hts _ q606) (Nat.le_of_ble_eq_true rfl) (Nat.le_of_ble_eq_true rfl) (Nat.le_of_ble_eq_true rfl) (Nat.le_of_ble_eq_true rfl) dX0_goTo_51 ?_
  refine lv_topi (fun v9 hv9 => ?_)
  have hr := br_letv hr hv9
  obtain ⟨c10, hr⟩ := br_none hr
  obtain ⟨g11, hg11, hr⟩ := br_let hr
  refine fw_iast hx hb hG hS 23 rfl c10 dX0_goTo_54 (wn := wX ax ac g11) (by rw [hg11]; rfl) (fun H locs hS => ?_)
  have hP := hS.1
  obtain rfl := Option.some.inj hr
  refine W.widen (k := rm_X0_goTo.cells) (n := rm_X0_goTo.slots) (Nat.le_of_ble_eq_true rfl) (Nat.le_of_ble_eq_true rfl) ?_
  exact W.vret hx hb hrt (fun t ht _ => hS.q ht rfl) hS.2.2.2.2 dX0_goTo_55 hlk
def f_X0_coverFrom_L32 (a1 : Int32) (a2 : Int32) : Nat → Int32 → XS → Option (XS)
  | 0, _, _ => none
  | n + 1, x3_6, g_6 => if 4 ≤ x3_6 then some g_6 else Option.bind (f_X0_cellsOf x3_6 a1) fun o8 => Option.bind (some ((o8 >>> (a1 &&& 31)) : Int32)) fun v9 => if o8 = 0 then Option.bind (some ((x3_6 + 1) : Int32)) fun v11 => f_X0_coverFrom_L32 a1 a2 n v11 g_6 else if (o8 &&& (cG_left (xG_core0 g_6))) = 0 then if (v9 &&& a2) = 0 then Option.bind (f_X0_goTo g_6 (a2 ||| v9) a2 (1 : Int32)) fun o16 => Option.bind (some ((x3_6 + 1) : Int32)) fun v17 => f_X0_coverFrom_L32 a1 a2 n v17 o16 else Option.bind (some ((x3_6 + 1) : Int32)) fun v15 => f_X0_coverFrom_L32 a1 a2 n v15 g_6 else Option.bind (some ((x3_6 + 1) : Int32)) fun v13 => f_X0_coverFrom_L32 a1 a2 n v13 g_6
def f_X0_coverFrom (g : XS) (a1 : Int32) (a2 : Int32) : Option (XS) := Option.bind (f_X0_has (cG_left (xG_core0 g)) a1) fun o1 => if o1 = 0 then Option.bind (f_X0_has a2 (0 : Int32)) fun o4 => if o4 = 0 then Option.bind (f_X0_coverFrom_L32 a1 a2 1000 0 g) fun o6 => some o6 else Option.bind (f_X0_goTo g a2 a2 (0 : Int32)) fun o18 => some o18 else Option.bind (f_X0_goTo g a2 a2 (0 : Int32)) fun o3 => some o3
abbrev rm_X0_coverFrom : Room := ({ frames := 3, cells := 0, slots := 0, locals := 64 })
theorem cw_X0_coverFrom {R : Room} {s : State} {args : Array Value} {own : String} {index : Nat} (hts : ∀ w ∈ lw_all, w.before args s = true) (hlink : Cond.methodLink own index yX0_coverFrom ∈ lw_all) (hR : rm_X0_coverFrom.frames + 1 ≤ R.frames ∧ 8 + (6 + 11) + rm_X0_coverFrom.locals ≤ R.locals) : CallW R s args own RX0 index yX0_coverFrom cX0_coverFrom 6 none (ws_ yX0_coverFrom cX0_coverFrom 6 none) rm_X0_coverFrom rm_X0_coverFrom.cells rm_X0_coverFrom.slots 2 :=
  cwV 2 hts (lw_V hlink q862 qs40 q102 q863) rfl rfl rfl (by decide +kernel) hR
set_option maxHeartbeats 4000000 in
theorem m_X0_coverFrom (l : Launch) (D : va_G) (ax : Nat → Nat) (ac : Nat → ClassId) (g : XS) (a1 : Int32) (a2 : Int32) (sz : Nat) (r0 : XS) (hr : f_X0_coverFrom g a1 a2 = some r0) : WM l yX0_coverFrom cX0_coverFrom 6 none rm_X0_coverFrom [.ref (ax 0), .int a1, .int a2] D ac (wX ax ac g) (wX ax ac r0) sz none := by
  refine fw_of (by decide) (Nat.le_of_ble_eq_true rfl) ?_
  intro p e s m below meth c ls hx hb hrt hts hown hlk hml _ hU hl
  obtain ⟨rfl, hP, hG, hD⟩ := hU
  have hA : ∀ q : Nat, s.heap.size ≤ q → (va_A (wX ax ac g) s.heap.size) q := fun q h => Or.inr h
  have hS := Stt.start hP hD
  show WW p l e rm_X0_coverFrom s m [.ref (ax 0), .int a1, .int a2] below meth c D (wX ax ac r0) (va_A (wX ax ac g) s.heap.size) none s.heap [] 0 0 0 ls []
  have hl : lv_has ls 6 [(0, .ref (ax 0)), (1, .int a1), (2, .int a2)] := hl
  rw [f_X0_coverFrom] at hr
  refine lv_aload_n hx hb dX0_coverFrom_0 rfl (lv_at hl 0 rfl) ?_
  refine va_get (D := D) (ci := 0) (v := .ref (ax 1)) (C := RX0) (T := TX0) (N := 17) hx hb hts in_X0 hown hG.1 hP 0 rfl rfl 1 (by decide) (hts _ q234) (fun _ h9 => h9) rfl dX0_coverFrom_1 ?_
  refine va_getN (D := D) (ci := 7) (v := .int (cG_left (xG_core0 g))) (C := RX8) (T := TX8) (N := 8) hx hb hts in_X8 hown hG.1 hP 1 rfl rfl 0 (by decide) (va_Nw.use rfl (hG.2.1 _ nq193)) (fun _ h9 => h9) rfl dX0_coverFrom_4 ?_
  refine lv_iload_n hx hb dX0_coverFrom_7 rfl (lv_at hl 1 rfl) ?_
  obtain ⟨o1, ho1, hr⟩ := br_bind hr
  refine fwS (As := [.int (cG_left (xG_core0 g)), .int a1]) (rest := []) hx hb hml hown hts (m_X0_has l (cG_left (xG_core0 g)) a1 o1 ho1) (cw_X0_has hts q594 ⟨Nat.le_of_ble_eq_true rfl, Nat.le_of_ble_eq_true rfl⟩) rfl hl.1 rfl (Nat.le_of_ble_eq_true rfl) dX0_coverFrom_8 ⟨Nat.le_of_ble_eq_true rfl, Nat.le_of_ble_eq_true rfl⟩ ?_
  have hi2 := br_ite hr
  refine lv_if_ne (tgt := 22) hx hb dX0_coverFrom_11 (by decide) (fun c2 => ?_) (fun c2 => ?_)
  · have hr := hi2.2 c2
    refine lv_aload_n hx hb dX0_coverFrom_22 rfl (lv_at hl 0 rfl) ?_
    refine lv_iload_n hx hb dX0_coverFrom_23 rfl (lv_at hl 2 rfl) ?_
    refine lv_iload_n hx hb dX0_coverFrom_24 rfl (lv_at hl 2 rfl) ?_
    refine lv_iconst (v := 0) hx hb dX0_coverFrom_25 rfl ?_
    obtain ⟨o3, ho3, hr⟩ := br_bind hr
    refine fwWVs (As := [.int a2, .int a2, .int 0]) (rest := []) (C := RX0) hx hb hml hown hts (m_X0_goTo l D ax ac g a2 a2 (0 : Int32) _ o3 ho3) (cw_X0_goTo hts q864 ⟨Nat.le_of_ble_eq_true rfl, Nat.le_of_ble_eq_true rfl⟩) hG hS hA rfl 0 0 rfl rfl rfl hl.1 rfl (Nat.le_of_ble_eq_true rfl) dX0_coverFrom_26 ⟨Nat.le_of_ble_eq_true rfl, Nat.le_of_ble_eq_true rfl⟩ (fun H locs hS => ?_)
    have hP := hS.1
    obtain rfl := Option.some.inj hr
    refine W.widen (k := rm_X0_coverFrom.cells) (n := rm_X0_coverFrom.slots) (Nat.le_of_ble_eq_true rfl) (Nat.le_of_ble_eq_true rfl) ?_
    exact W.vret hx hb hrt (fun t ht _ => hS.q ht rfl) hS.2.2.2.2 dX0_coverFrom_29 hlk
  · have hr := hi2.1 c2
    refine lv_iload_n hx hb dX0_coverFrom_14 rfl (lv_at hl 2 rfl) ?_
    refine lv_iconst (v := 0) hx hb dX0_coverFrom_15 rfl ?_
    obtain ⟨o4, ho4, hr⟩ := br_bind hr
    refine fwS (As := [.int a2, .int 0]) (rest := []) hx hb hml hown hts (m_X0_has l a2 (0 : Int32) o4 ho4) (cw_X0_has hts q594 ⟨Nat.le_of_ble_eq_true rfl, Nat.le_of_ble_eq_true rfl⟩) rfl hl.1 rfl (Nat.le_of_ble_eq_true rfl) dX0_coverFrom_16 ⟨Nat.le_of_ble_eq_true rfl, Nat.le_of_ble_eq_true rfl⟩ ?_
    have hi5 := br_ite hr
    refine lv_if_eq (tgt := 30) hx hb dX0_coverFrom_19 (by decide) (fun c5 => ?_) (fun c5 => ?_)
    · have hr := hi5.1 c5
      refine lv_iconst (v := 0) hx hb dX0_coverFrom_30 rfl ?_
      refine lv_istore_n (lv' := [(3, .int 0), (0, .ref (ax 0)), (1, .int a1), (2, .int a2)]) hx hb dX0_coverFrom_31 rfl hl (by decide) rfl (fun ls hl => ?_)
      have L6 : ∀ (n : Nat) (x3_6 : Int32) (g_6 : XS) (o6 : XS), f_X0_coverFrom_L32 a1 a2 n x3_6 g_6 = some o6 → ∀ (H : Heap) (locs : List Loc) ls, lv_has ls 6 [(3, .int x3_6), (0, .ref (ax 0)), (1, .int a1), (2, .int a2)] → Stt D (va_A (wX ax ac g) s.heap.size) s.heap (wX ax ac g_6) H locs → (∀ (H : Heap) (locs : List Loc) ls, lv_has ls 6 [] → Stt D (va_A (wX ax ac g) s.heap.size) s.heap (wX ax ac o6) H locs → WW p l e rm_X0_coverFrom s m [.ref (ax 0), .int a1, .int a2] below meth c D (wX ax ac r0) (va_A (wX ax ac g) s.heap.size) none H locs 0 0 91 ls []) → WW p l e rm_X0_coverFrom s m [.ref (ax 0), .int a1, .int a2] below meth c D (wX ax ac r0) (va_A (wX ax ac g) s.heap.size) none H locs 0 0 32 ls [] := by
        intro n
        induction n with
        | zero => intro x3_6 g_6 o6 hr; rw [f_X0_coverFrom_L32] at hr; cases hr
        | succ n ih =>
          intro x3_6 g_6 o6 hr H locs ls hl hS kx
          have hP := hS.1
          rw [f_X0_coverFrom_L32] at hr
          refine lv_iload_n hx hb dX0_coverFrom_32 rfl (lv_at hl 0 rfl) ?_
          refine lv_iconst (v := 4) hx hb dX0_coverFrom_33 rfl ?_
          have hi7 := br_ite hr
          refine lv_icmp_ge (tgt := 91) hx hb dX0_coverFrom_34 (by decide) (fun c7 => ?_) (fun c7 => ?_)
          · have hr := hi7.1 c7
            obtain rfl := Option.some.inj hr
            exact kx _ _ ls (lv_sub hl [] rfl) hS
          · have hr := hi7.2 c7
            refine lv_iload_n hx hb dX0_coverFrom_37 rfl (lv_at hl 0 rfl) ?_
            refine lv_iload_n hx hb dX0_coverFrom_38 rfl (lv_at hl 2 rfl) ?_
            obtain ⟨o8, ho8, hr⟩ := br_bind hr
            refine fwS (As := [.int x3_6, .int a1]) (rest := []) hx hb hml hown hts (m_X0_cellsOf l x3_6 a1 o8 ho8) (cw_X0_cellsOf hts q816 ⟨Nat.le_of_ble_eq_true rfl, Nat.le_of_ble_eq_true rfl⟩) rfl hl.1 rfl (Nat.le_of_ble_eq_true rfl) dX0_coverFrom_39 ⟨Nat.le_of_ble_eq_true rfl, Nat.le_of_ble_eq_true rfl⟩ ?_
            refine lv_istore (lv' := [(4, .int o8), (3, .int x3_6), (0, .ref (ax 0)), (1, .int a1), (2, .int a2)]) hx hb dX0_coverFrom_42 hl (by decide) rfl (fun ls hl => ?_)
            refine lv_iload hx hb dX0_coverFrom_44 (lv_at hl 0 rfl) ?_
            refine lv_iload_n hx hb dX0_coverFrom_46 rfl (lv_at hl 3 rfl) ?_
            refine lv_ishr hx hb dX0_coverFrom_47 ?_
            refine lv_topi (fun v9 hv9 => ?_)
            have hr := br_letv hr hv9
            refine lv_istore (lv' := [(5, .int v9), (4, .int o8), (3, .int x3_6), (0, .ref (ax 0)), (1, .int a1), (2, .int a2)]) hx hb dX0_coverFrom_48 hl (by decide) rfl (fun ls hl => ?_)
            refine lv_iload hx hb dX0_coverFrom_50 (lv_at hl 1 rfl) ?_
            have hi10 := br_ite hr
            refine lv_if_eq (tgt := 85) hx hb dX0_coverFrom_52 (by decide) (fun c10 => ?_) (fun c10 => ?_)
            · have hr := hi10.1 c10
              obtain ⟨v11, hv11, hr⟩ := br_let hr
              refine lv_iinc (v := v11) (lv' := [(3, .int v11), (5, .int v9), (4, .int o8), (0, .ref (ax 0)), (1, .int a1), (2, .int a2)]) hx hb dX0_coverFrom_85 hl (k := 2) rfl (hv11 ▸ rfl) (by decide) rfl (fun ls hl => ?_)
              refine lv_goto (tgt := 32) hx hb dX0_coverFrom_88 (by decide) ?_
              exact ih v11 g_6 _ hr _ _ ls (lv_sub hl [0, 3, 4, 5] rfl) hS kx
            · have hr := hi10.2 c10
              refine lv_iload hx hb dX0_coverFrom_55 (lv_at hl 1 rfl) ?_
              refine lv_aload_n hx hb dX0_coverFrom_57 rfl (lv_at hl 3 rfl) ?_
              refine va_get (D := D) (ci := 0) (v := .ref (ax 1)) (C := RX0) (T := TX0) (N := 17) hx hb hts in_X0 hown hG.1 hP 0 rfl rfl 1 (by decide) (hts _ q234) (fun _ h9 => h9) rfl dX0_coverFrom_58 ?_
              refine va_getN (D := D) (ci := 7) (v := .int (cG_left (xG_core0 g_6))) (C := RX8) (T := TX8) (N := 8) hx hb hts in_X8 hown hG.1 hP 1 rfl rfl 0 (by decide) (va_Nw.use rfl (hG.2.1 _ nq193)) (fun _ h9 => h9) rfl dX0_coverFrom_61 ?_
              refine lv_iand hx hb dX0_coverFrom_64 ?_
              have hi12 := br_ite hr
              refine lv_if_ne (tgt := 85) hx hb dX0_coverFrom_65 (by decide) (fun c12 => ?_) (fun c12 => ?_)
              · have hr := hi12.2 c12
                obtain ⟨v13, hv13, hr⟩ := br_let hr
                refine lv_iinc (v := v13) (lv' := [(3, .int v13), (5, .int v9), (4, .int o8), (0, .ref (ax 0)), (1, .int a1), (2, .int a2)]) hx hb dX0_coverFrom_85 hl (k := 2) rfl (hv13 ▸ rfl) (by decide) rfl (fun ls hl => ?_)
                refine lv_goto (tgt := 32) hx hb dX0_coverFrom_88 (by decide) ?_
                exact ih v13 g_6 _ hr _ _ ls (lv_sub hl [0, 3, 4, 5] rfl) hS kx
              · have hr := hi12.1 c12
                refine lv_iload hx hb dX0_coverFrom_68 (lv_at hl 0 rfl) ?_
                refine lv_iload_n hx hb dX0_coverFrom_70 rfl (lv_at hl 5 rfl) ?_
                refine lv_iand hx hb dX0_coverFrom_71 ?_
                have hi14 := br_ite hr
                refine lv_if_ne (tgt := 85) hx hb dX0_coverFrom_72 (by decide) (fun c14 => ?_) (fun c14 => ?_)
                · have hr := hi14.2 c14
                  obtain ⟨v15, hv15, hr⟩ := br_let hr
                  refine lv_iinc (v := v15) (lv' := [(3, .int v15), (5, .int v9), (4, .int o8), (0, .ref (ax 0)), (1, .int a1), (2, .int a2)]) hx hb dX0_coverFrom_85 hl (k := 2) rfl (hv15 ▸ rfl) (by decide) rfl (fun ls hl => ?_)
                  refine lv_goto (tgt := 32) hx hb dX0_coverFrom_88 (by decide) ?_
                  exact ih v15 g_6 _ hr _ _ ls (lv_sub hl [0, 3, 4, 5] rfl) hS kx
                · have hr := hi14.1 c14
                  refine lv_aload_n hx hb dX0_coverFrom_75 rfl (lv_at hl 3 rfl) ?_
                  refine lv_iload_n hx hb dX0_coverFrom_76 rfl (lv_at hl 5 rfl) ?_
                  refine lv_iload hx hb dX0_coverFrom_77 (lv_at hl 0 rfl) ?_
                  refine lv_ior hx hb dX0_coverFrom_79 ?_
                  refine lv_iload_n hx hb dX0_coverFrom_80 rfl (lv_at hl 5 rfl) ?_
                  refine lv_iconst (v := 1) hx hb dX0_coverFrom_81 rfl ?_
                  obtain ⟨o16, ho16, hr⟩ := br_bind hr
                  refine fwWVs (As := [.int (a2 ||| v9), .int a2, .int 1]) (rest := []) (C := RX0) hx hb hml hown hts (m_X0_goTo l D ax ac g_6 (a2 ||| v9) a2 (1 : Int32) _ o16 ho16) (cw_X0_goTo hts q864 ⟨Nat.le_of_ble_eq_true rfl, Nat.le_of_ble_eq_true rfl⟩) hG hS hA rfl 0 0 rfl rfl rfl hl.1 rfl (Nat.le_of_ble_eq_true rfl) dX0_coverFrom_82 ⟨Nat.le_of_ble_eq_true rfl, Nat.le_of_ble_eq_true rfl⟩ (fun H locs hS => ?_)
                  have hP := hS.1
                  obtain ⟨v17, hv17, hr⟩ := br_let hr
                  refine lv_iinc (v := v17) (lv' := [(3, .int v17), (5, .int v9), (4, .int o8), (0, .ref (ax 0)), (1, .int a1), (2, .int a2)]) hx hb dX0_coverFrom_85 hl (k := 2) rfl (hv17 ▸ rfl) (by decide) rfl (fun ls hl => ?_)
                  refine lv_goto (tgt := 32) hx hb dX0_coverFrom_88 (by decide) ?_
                  exact ih v17 o16 _ hr _ _ ls (lv_sub hl [0, 3, 4, 5] rfl) hS kx
      obtain ⟨o6, ho6, hr⟩ := br_bind hr
      refine L6 1000 0 g o6 ho6 _ _ ls (lv_sub hl [0, 1, 2, 3] rfl) hS (fun H locs ls hl hS => ?_)
      have hP := hS.1
      obtain rfl := Option.some.inj hr
      refine W.widen (k := rm_X0_coverFrom.cells) (n := rm_X0_coverFrom.slots) (Nat.le_of_ble_eq_true rfl) (Nat.le_of_ble_eq_true rfl) ?_
      exact W.vret hx hb hrt (fun t ht _ => hS.q ht rfl) hS.2.2.2.2 dX0_coverFrom_91 hlk
    · have hr := hi5.2 c5
      refine lv_aload_n hx hb dX0_coverFrom_22 rfl (lv_at hl 0 rfl) ?_
      refine lv_iload_n hx hb dX0_coverFrom_23 rfl (lv_at hl 2 rfl) ?_
      refine lv_iload_n hx hb dX0_coverFrom_24 rfl (lv_at hl 2 rfl) ?_
      refine lv_iconst (v := 0) hx hb dX0_coverFrom_25 rfl ?_
      obtain ⟨o18, ho18, hr⟩ := br_bind hr
      refine fwWVs (As := [.int a2, .int a2, .int 0]) (rest := []) (C := RX0) hx hb hml hown hts (m_X0_goTo l D ax ac g a2 a2 (0 : Int32) _ o18 ho18) (cw_X0_goTo hts q864 ⟨Nat.le_of_ble_eq_true rfl, Nat.le_of_ble_eq_true rfl⟩) hG hS hA rfl 0 0 rfl rfl rfl hl.1 rfl (Nat.le_of_ble_eq_true rfl) dX0_coverFrom_26 ⟨Nat.le_of_ble_eq_true rfl, Nat.le_of_ble_eq_true rfl⟩ (fun H locs hS => ?_)
      have hP := hS.1
      obtain rfl := Option.some.inj hr
      refine W.widen (k := rm_X0_coverFrom.cells) (n := rm_X0_coverFrom.slots) (Nat.le_of_ble_eq_true rfl) (Nat.le_of_ble_eq_true rfl) ?_
      exact W.vret hx hb hrt (fun t ht _ => hS.q ht rfl) hS.2.2.2.2 dX0_coverFrom_29 hlk
def f_X0_settledBy_L28 (a1 : Int32) : Nat → Int32 → XS → Option ((Int32 × XS) ⊕ (XS))
  | 0, _, _ => none
  | n + 1, x3_4, g_4 => if 25 ≤ x3_4 then some (Sum.inr g_4) else Option.bind (f_X0_has (cG_left (xG_core0 g_4)) x3_4) fun o6 => if o6 = 0 then Option.bind (some ((x3_4 + 1) : Int32)) fun v8 => f_X0_settledBy_L28 a1 n v8 g_4 else Option.bind (f_X8_leave (xG_mind g_4) ((cG_left (xG_core0 g_4)) &&& (((1 : Int32) <<< (x3_4 &&& 31)) ^^^ (-1)))) fun o9 => Option.bind (some (xS_mind g_4 o9)) fun g10 => Option.bind (f_X8_isInChancery (xG_mind g10)) fun o11 => if o11 = 0 then if a1 = 0 then some (Sum.inl (1, g10)) else some (Sum.inl (x3_4, g10)) else Option.bind (some ((x3_4 + 1) : Int32)) fun v13 => f_X0_settledBy_L28 a1 n v13 g10
def f_X0_settledBy_L89 (a1 : Int32) : Nat → Int32 → XS → Option ((Int32 × XS) ⊕ (XS))
  | 0, _, _ => none
  | n + 1, x3_15, g_15 => if 625 ≤ x3_15 then some (Sum.inr g_15) else Option.bind (some ((x3_15 / 25) : Int32)) fun v17 => Option.bind (some ((x3_15 - x3_15 / 25 * 25) : Int32)) fun v18 => Option.bind (α := Int32) (if v18 ≤ v17 then some 0 else Option.bind (f_X0_has (cG_left (xG_core0 g_15)) v17) fun o21 => if o21 = 0 then some 0 else Option.bind (f_X0_has (cG_left (xG_core0 g_15)) v18) fun o23 => if o23 = 0 then some 0 else some 1) fun o20 => if o20 = 0 then Option.bind (some ((x3_15 + 1) : Int32)) fun v26 => f_X0_settledBy_L89 a1 n v26 g_15 else Option.bind (f_X8_leave (xG_mind g_15) ((cG_left (xG_core0 g_15)) &&& ((((1 : Int32) <<< (v17 &&& 31)) ||| ((1 : Int32) <<< (v18 &&& 31))) ^^^ (-1)))) fun o27 => Option.bind (some (xS_mind g_15 o27)) fun g28 => Option.bind (f_X8_isInChancery (xG_mind g28)) fun o29 => if o29 = 0 then if a1 = 0 then some (Sum.inl (2, g28)) else some (Sum.inl (v17, g28)) else Option.bind (some ((x3_15 + 1) : Int32)) fun v31 => f_X0_settledBy_L89 a1 n v31 g28
def f_X0_settledBy (g : XS) (a1 : Int32) : Option (Int32 × XS) := Option.bind (f_X8_isInChancery (xG_core0 g)) fun o1 => if o1 = 0 then if a1 = 0 then some (0, g) else some ((-9), g) else Option.bind (f_X0_openMind g) fun o3 => bsR (f_X0_settledBy_L28 a1 1000 0 o3) fun t4 => bsR (f_X0_settledBy_L89 a1 1000 0 t4) fun t15 => some ((-9), t15)
abbrev rm_X0_settledBy : Room := ({ frames := 5, cells := 0, slots := 0, locals := 117 })
theorem cw_X0_settledBy {R : Room} {s : State} {args : Array Value} {own : String} {index : Nat} (hts : ∀ w ∈ lw_all, w.before args s = true) (hlink : Cond.methodLink own index yX0_settledBy ∈ lw_all) (hR : rm_X0_settledBy.frames + 1 ≤ R.frames ∧ 8 + (7 + 11) + rm_X0_settledBy.locals ≤ R.locals) : CallW R s args own RX0 index yX0_settledBy cX0_settledBy 7 (some FieldType.int) (ws_ yX0_settledBy cX0_settledBy 7 (some FieldType.int)) rm_X0_settledBy rm_X0_settledBy.cells rm_X0_settledBy.slots 1 :=
  cwV 1 hts (lw_V hlink q885 qs45 q102 q886) rfl rfl rfl (by decide +kernel) hR
set_option maxHeartbeats 4000000 in
theorem m_X0_settledBy (l : Launch) (D : va_G) (ax : Nat → Nat) (ac : Nat → ClassId) (g : XS) (a1 : Int32) (sz : Nat) (r0 : Int32 × XS) (hr : f_X0_settledBy g a1 = some r0) : WM l yX0_settledBy cX0_settledBy 7 (some FieldType.int) rm_X0_settledBy [.ref (ax 0), .int a1] D ac (wX ax ac g) (wX ax ac r0.2) sz (some (.int r0.1)) := by
  refine fw_of (by decide) (Nat.le_of_ble_eq_true rfl) ?_
  intro p e s m below meth c ls hx hb hrt hts hown hlk hml _ hU hl
  obtain ⟨rfl, hP, hG, hD⟩ := hU
  have hA : ∀ q : Nat, s.heap.size ≤ q → (va_A (wX ax ac g) s.heap.size) q := fun q h => Or.inr h
  have hS := Stt.start hP hD
  show WW p l e rm_X0_settledBy s m [.ref (ax 0), .int a1] below meth c D (wX ax ac r0.2) (va_A (wX ax ac g) s.heap.size) (some (.int r0.1)) s.heap [] 0 0 0 ls []
  have hl : lv_has ls 7 [(0, .ref (ax 0)), (1, .int a1)] := hl
  rw [f_X0_settledBy] at hr
  refine lv_aload_n hx hb dX0_settledBy_0 rfl (lv_at hl 0 rfl) ?_
  refine va_get (D := D) (ci := 0) (v := .ref (ax 1)) (C := RX0) (T := TX0) (N := 17) hx hb hts in_X0 hown hG.1 hP 0 rfl rfl 1 (by decide) (hts _ q234) (fun _ h9 => h9) rfl dX0_settledBy_1 ?_
  obtain ⟨o1, ho1, hr⟩ := br_bind hr
  refine fwRV (As := []) (rest := []) (C := RX8) hx hb hml hown hts (m_X8_isInChancery l D ax ac (ax 1) (ax 2) (ax 3) (xG_core0 g) o1 ho1) (cw_X8_isInChancery hts q789 ⟨Nat.le_of_ble_eq_true rfl, Nat.le_of_ble_eq_true rfl⟩) hG hP (hP.pick [1, 2, 3] rfl) 1 7 rfl rfl rfl hl.1 rfl (Nat.le_of_ble_eq_true rfl) dX0_settledBy_4 ⟨Nat.le_of_ble_eq_true rfl, Nat.le_of_ble_eq_true rfl⟩ ?_
  have hi2 := br_ite hr
  refine lv_if_ne (tgt := 21) hx hb dX0_settledBy_7 (by decide) (fun c2 => ?_) (fun c2 => ?_)
  · have hr := hi2.2 c2
    refine lv_aload_n hx hb dX0_settledBy_21 rfl (lv_at hl 0 rfl) ?_
    obtain ⟨o3, ho3, hr⟩ := br_bind hr
    refine fwWVs (As := []) (rest := []) (C := RX0) hx hb hml hown hts (m_X0_openMind l D ax ac g _ o3 ho3) (cw_X0_openMind hts q818 ⟨Nat.le_of_ble_eq_true rfl, Nat.le_of_ble_eq_true rfl⟩) hG hS hA rfl 0 0 rfl rfl rfl hl.1 rfl (Nat.le_of_ble_eq_true rfl) dX0_settledBy_22 ⟨Nat.le_of_ble_eq_true rfl, Nat.le_of_ble_eq_true rfl⟩ (fun H locs hS => ?_)
    have hP := hS.1
    refine lv_astore_n (lv' := [(2, .ref (ax 4)), (0, .ref (ax 0)), (1, .int a1)]) hx hb dX0_settledBy_25 rfl hl (by decide) rfl (fun ls hl => ?_)
    refine lv_iconst (v := 0) hx hb dX0_settledBy_26 rfl ?_
    refine lv_istore_n (lv' := [(3, .int 0), (2, .ref (ax 4)), (0, .ref (ax 0)), (1, .int a1)]) hx hb dX0_settledBy_27 rfl hl (by decide) rfl (fun ls hl => ?_)
    have L4 : ∀ (n : Nat) (x3_4 : Int32) (g_4 : XS) (o4 : (Int32 × XS) ⊕ (XS)), f_X0_settledBy_L28 a1 n x3_4 g_4 = some o4 → (∀ r, o4 = Sum.inl r → some r = some r0) → ∀ (H : Heap) (locs : List Loc) ls, lv_has ls 7 [(3, .int x3_4), (2, .ref (ax 4)), (0, .ref (ax 0)), (1, .int a1)] → Stt D (va_A (wX ax ac g) s.heap.size) s.heap (wX ax ac g_4) H locs → (∀ t4, o4 = Sum.inr t4 → ∀ (H : Heap) (locs : List Loc) ls, lv_has ls 7 [(2, .ref (ax 4)), (0, .ref (ax 0)), (1, .int a1)] → Stt D (va_A (wX ax ac g) s.heap.size) s.heap (wX ax ac t4) H locs → WW p l e rm_X0_settledBy s m [.ref (ax 0), .int a1] below meth c D (wX ax ac r0.2) (va_A (wX ax ac g) s.heap.size) (some (.int r0.1)) H locs 0 0 87 ls []) → WW p l e rm_X0_settledBy s m [.ref (ax 0), .int a1] below meth c D (wX ax ac r0.2) (va_A (wX ax ac g) s.heap.size) (some (.int r0.1)) H locs 0 0 28 ls [] := by
      intro n
      induction n with
      | zero => intro x3_4 g_4 o4 hr; rw [f_X0_settledBy_L28] at hr; cases hr
      | succ n ih =>
        intro x3_4 g_4 o4 hr hret H locs ls hl hS kx
        have hP := hS.1
        rw [f_X0_settledBy_L28] at hr
        refine lv_iload_n hx hb dX0_settledBy_28 rfl (lv_at hl 0 rfl) ?_
        refine lv_bipush (v := 25) hx hb dX0_settledBy_29 rfl ?_
        have hi5 := br_ite hr
        refine lv_icmp_ge (tgt := 87) hx hb dX0_settledBy_31 (by decide) (fun c5 => ?_) (fun c5 => ?_)
        · have hr := hi5.1 c5
          exact kx _ (Option.some.inj hr).symm _ _ ls (lv_sub hl [1, 2, 3] rfl) hS
        · have hr := hi5.2 c5
          refine lv_aload_n hx hb dX0_settledBy_34 rfl (lv_at hl 2 rfl) ?_
          refine va_get (D := D) (ci := 0) (v := .ref (ax 1)) (C := RX0) (T := TX0) (N := 17) hx hb hts in_X0 hown hG.1 hP 0 rfl rfl 1 (by decide) (hts _ q234) (fun _ h9 => h9) rfl dX0_settledBy_35 ?_
          refine va_getN (D := D) (ci := 7) (v := .int (cG_left (xG_core0 g_4))) (C := RX8) (T := TX8) (N := 8) hx hb hts in_X8 hown hG.1 hP 1 rfl rfl 0 (by decide) (va_Nw.use rfl (hG.2.1 _ nq193)) (fun _ h9 => h9) rfl dX0_settledBy_38 ?_
          refine lv_iload_n hx hb dX0_settledBy_41 rfl (lv_at hl 0 rfl) ?_
          obtain ⟨o6, ho6, hr⟩ := br_bind hr
          refine fwS (As := [.int (cG_left (xG_core0 g_4)), .int x3_4]) (rest := []) hx hb hml hown hts (m_X0_has l (cG_left (xG_core0 g_4)) x3_4 o6 ho6) (cw_X0_has hts q594 ⟨Nat.le_of_ble_eq_true rfl, Nat.le_of_ble_eq_true rfl⟩) rfl hl.1 rfl (Nat.le_of_ble_eq_true rfl) dX0_settledBy_42 ⟨Nat.le_of_ble_eq_true rfl, Nat.le_of_ble_eq_true rfl⟩ ?_
          have hi7 := br_ite hr
          refine lv_if_eq (tgt := 81) hx hb dX0_settledBy_45 (by decide) (fun c7 => ?_) (fun c7 => ?_)
          · have hr := hi7.1 c7
            obtain ⟨v8, hv8, hr⟩ := br_let hr
            refine lv_iinc (v := v8) (lv' := [(3, .int v8), (2, .ref (ax 4)), (0, .ref (ax 0)), (1, .int a1)]) hx hb dX0_settledBy_81 hl (k := 0) rfl (hv8 ▸ rfl) (by decide) rfl (fun ls hl => ?_)
            refine lv_goto (tgt := 28) hx hb dX0_settledBy_84 (by decide) ?_
            exact ih v8 g_4 _ hr hret _ _ ls (lv_sub hl [0, 1, 2, 3] rfl) hS kx
          · have hr := hi7.2 c7
            refine lv_aload_n hx hb dX0_settledBy_48 rfl (lv_at hl 1 rfl) ?_
            refine lv_aload_n hx hb dX0_settledBy_49 rfl (lv_at hl 2 rfl) ?_
            refine va_get (D := D) (ci := 0) (v := .ref (ax 1)) (C := RX0) (T := TX0) (N := 17) hx hb hts in_X0 hown hG.1 hP 0 rfl rfl 1 (by decide) (hts _ q234) (fun _ h9 => h9) rfl dX0_settledBy_50 ?_
            refine va_getN (D := D) (ci := 7) (v := .int (cG_left (xG_core0 g_4))) (C := RX8) (T := TX8) (N := 8) hx hb hts in_X8 hown hG.1 hP 1 rfl rfl 0 (by decide) (va_Nw.use rfl (hG.2.1 _ nq193)) (fun _ h9 => h9) rfl dX0_settledBy_53 ?_
            refine lv_iconst (v := 1) hx hb dX0_settledBy_56 rfl ?_
            refine lv_iload_n hx hb dX0_settledBy_57 rfl (lv_at hl 0 rfl) ?_
            refine lv_ishl hx hb dX0_settledBy_58 ?_
            refine lv_iconst (v := (-1)) hx hb dX0_settledBy_59 rfl ?_
            refine lv_ixor hx hb dX0_settledBy_60 ?_
            refine lv_iand hx hb dX0_settledBy_61 ?_
            obtain ⟨o9, ho9, hr⟩ := br_bind hr
            obtain ⟨g10, hg10, hr⟩ := br_let hr
            refine fwWV (As := [.int ((cG_left (xG_core0 g_4)) &&& (((1 : Int32) <<< (x3_4 &&& 31)) ^^^ (-1)))]) (rest := []) (C := RX8) hx hb hml hown hts (m_X8_leave l D ax ac (ax 4) (ax 5) (ax 6) (xG_mind g_4) ((cG_left (xG_core0 g_4)) &&& (((1 : Int32) <<< (x3_4 &&& 31)) ^^^ (-1))) _ o9 ho9) (cw_X8_leave hts q748 ⟨Nat.le_of_ble_eq_true rfl, Nat.le_of_ble_eq_true rfl⟩) hG hS hA [4, 5, 6] rfl rfl rfl 4 7 rfl rfl rfl hl.1 rfl (Nat.le_of_ble_eq_true rfl) dX0_settledBy_62 ⟨Nat.le_of_ble_eq_true rfl, Nat.le_of_ble_eq_true rfl⟩ (wn := wX ax ac g10) (by rw [hg10]; rfl) (fun H locs hS => ?_)
            have hP := hS.1
            obtain ⟨o11, ho11, hr⟩ := br_bind hr
            refine fwRV (As := []) (rest := []) (C := RX8) hx hb hml hown hts (m_X8_isInChancery l D ax ac (ax 4) (ax 5) (ax 6) (xG_mind g10) o11 ho11) (cw_X8_isInChancery hts q789 ⟨Nat.le_of_ble_eq_true rfl, Nat.le_of_ble_eq_true rfl⟩) hG hP (hP.pick [4, 5, 6] rfl) 4 7 rfl rfl rfl hl.1 rfl (Nat.le_of_ble_eq_true rfl) dX0_settledBy_65 ⟨Nat.le_of_ble_eq_true rfl, Nat.le_of_ble_eq_true rfl⟩ ?_
            have hi12 := br_ite hr
            refine lv_if_ne (tgt := 81) hx hb dX0_settledBy_68 (by decide) (fun c12 => ?_) (fun c12 => ?_)
            · have hr := hi12.2 c12
              obtain ⟨v13, hv13, hr⟩ := br_let hr
              refine lv_iinc (v := v13) (lv' := [(3, .int v13), (2, .ref (ax 4)), (0, .ref (ax 0)), (1, .int a1)]) hx hb dX0_settledBy_81 hl (k := 0) rfl (hv13 ▸ rfl) (by decide) rfl (fun ls hl => ?_)
              refine lv_goto (tgt := 28) hx hb dX0_settledBy_84 (by decide) ?_
              exact ih v13 g10 _ hr hret _ _ ls (lv_sub hl [0, 1, 2, 3] rfl) hS kx
            · have hr := hi12.1 c12
              refine lv_iload_n hx hb dX0_settledBy_71 rfl (lv_at hl 3 rfl) ?_
              have hi14 := br_ite hr
              refine lv_if_ne (tgt := 79) hx hb dX0_settledBy_72 (by decide) (fun c14 => ?_) (fun c14 => ?_)
              · have hr := hi14.2 c14
                refine lv_iload_n hx hb dX0_settledBy_79 rfl (lv_at hl 0 rfl) ?_
                have hr := hret _ (Option.some.inj hr).symm
                obtain rfl := Option.some.inj hr
                refine W.widen (k := rm_X0_settledBy.cells) (n := rm_X0_settledBy.slots) (Nat.le_of_ble_eq_true rfl) (Nat.le_of_ble_eq_true rfl) ?_
                exact W.iret hx hb hrt (fun t ht _ => hS.q ht rfl) hS.2.2.2.2 dX0_settledBy_80 hlk
              · have hr := hi14.1 c14
                refine lv_iconst (v := 1) hx hb dX0_settledBy_75 rfl ?_
                refine lv_goto (tgt := 80) hx hb dX0_settledBy_76 (by decide) ?_
                have hr := hret _ (Option.some.inj hr).symm
                obtain rfl := Option.some.inj hr
                refine W.widen (k := rm_X0_settledBy.cells) (n := rm_X0_settledBy.slots) (Nat.le_of_ble_eq_true rfl) (Nat.le_of_ble_eq_true rfl) ?_
                exact W.iret hx hb hrt (fun t ht _ => hS.q ht rfl) hS.2.2.2.2 dX0_settledBy_80 hlk
    obtain ⟨o4, ho4, hl4, hk4⟩ := br_bsR hr
    refine L4 1000 0 o3 o4 ho4 (fun r hq => hl4 r hq) _ _ ls (lv_sub hl [0, 1, 2, 3] rfl) hS (fun t4 hq4 H locs ls hl hS => ?_)
    have hP := hS.1
    have hr := hk4 t4 hq4
    refine lv_iconst (v := 0) hx hb dX0_settledBy_87 rfl ?_
    refine lv_istore_n (lv' := [(3, .int 0), (2, .ref (ax 4)), (0, .ref (ax 0)), (1, .int a1)]) hx hb dX0_settledBy_88 rfl hl (by decide) rfl (fun ls hl => ?_)
    have L15 : ∀ (n : Nat) (x3_15 : Int32) (g_15 : XS) (o15 : (Int32 × XS) ⊕ (XS)), f_X0_settledBy_L89 a1 n x3_15 g_15 = some o15 → (∀ r, o15 = Sum.inl r → some r = some r0) → ∀ (H : Heap) (locs : List Loc) ls, lv_has ls 7 [(3, .int x3_15), (2, .ref (ax 4)), (0, .ref (ax 0)), (1, .int a1)] → Stt D (va_A (wX ax ac g) s.heap.size) s.heap (wX ax ac g_15) H locs → (∀ t15, o15 = Sum.inr t15 → ∀ (H : Heap) (locs : List Loc) ls, lv_has ls 7 [] → Stt D (va_A (wX ax ac g) s.heap.size) s.heap (wX ax ac t15) H locs → WW p l e rm_X0_settledBy s m [.ref (ax 0), .int a1] below meth c D (wX ax ac r0.2) (va_A (wX ax ac g) s.heap.size) (some (.int r0.1)) H locs 0 0 203 ls []) → WW p l e rm_X0_settledBy s m [.ref (ax 0), .int a1] below meth c D (wX ax ac r0.2) (va_A (wX ax ac g) s.heap.size) (some (.int r0.1)) H locs 0 0 89 ls [] := by
      intro n
      induction n with
      | zero => intro x3_15 g_15 o15 hr; rw [f_X0_settledBy_L89] at hr; cases hr
      | succ n ih =>
        intro x3_15 g_15 o15 hr hret H locs ls hl hS kx
        have hP := hS.1
        rw [f_X0_settledBy_L89] at hr
        refine lv_iload_n hx hb dX0_settledBy_89 rfl (lv_at hl 0 rfl) ?_
        refine lv_sipush (v := 625) hx hb dX0_settledBy_90 rfl ?_
        have hi16 := br_ite hr
        refine lv_icmp_ge (tgt := 203) hx hb dX0_settledBy_93 (by decide) (fun c16 => ?_) (fun c16 => ?_)
        · have hr := hi16.1 c16
          exact kx _ (Option.some.inj hr).symm _ _ ls (lv_sub hl [] rfl) hS
        · have hr := hi16.2 c16
          refine lv_iload_n hx hb dX0_settledBy_96 rfl (lv_at hl 0 rfl) ?_
          refine lv_bipush (v := 25) hx hb dX0_settledBy_97 rfl ?_
          refine lv_idiv hx hb dX0_settledBy_99 (by decide) ?_
          refine lv_topi (fun v17 hv17 => ?_)
          have hr := br_letv hr hv17
          refine lv_istore (lv' := [(4, .int v17), (3, .int x3_15), (2, .ref (ax 4)), (0, .ref (ax 0)), (1, .int a1)]) hx hb dX0_settledBy_100 hl (by decide) rfl (fun ls hl => ?_)
          refine lv_iload_n hx hb dX0_settledBy_102 rfl (lv_at hl 1 rfl) ?_
          refine lv_bipush (v := 25) hx hb dX0_settledBy_103 rfl ?_
          refine lv_irem hx hb dX0_settledBy_105 (by decide) ?_
          refine lv_topi (fun v18 hv18 => ?_)
          have hr := br_letv hr hv18
          refine lv_istore (lv' := [(5, .int v18), (4, .int v17), (3, .int x3_15), (2, .ref (ax 4)), (0, .ref (ax 0)), (1, .int a1)]) hx hb dX0_settledBy_106 hl (by decide) rfl (fun ls hl => ?_)
          refine lv_iload hx hb dX0_settledBy_108 (lv_at hl 1 rfl) ?_
          refine lv_iload hx hb dX0_settledBy_110 (lv_at hl 0 rfl) ?_
          obtain ⟨o20, ho20, hr⟩ := br_bind hr
          have J20 : ∀ (H : Heap) (locs : List Loc) ls, lv_has ls 7 [(5, .int v18), (4, .int v17), (3, .int x3_15), (2, .ref (ax 4)), (0, .ref (ax 0)), (1, .int a1)] → Stt D (va_A (wX ax ac g) s.heap.size) s.heap (wX ax ac g_15) H locs → WW p l e rm_X0_settledBy s m [.ref (ax 0), .int a1] below meth c D (wX ax ac r0.2) (va_A (wX ax ac g) s.heap.size) (some (.int r0.1)) H locs 0 0 150 ls [.int o20] := by
            intro H locs ls hl hS
            have hP := hS.1
            refine lv_istore (lv' := [(6, .int o20), (5, .int v18), (4, .int v17), (3, .int x3_15), (2, .ref (ax 4)), (0, .ref (ax 0)), (1, .int a1)]) hx hb dX0_settledBy_150 hl (by decide) rfl (fun ls hl => ?_)
            refine lv_iload hx hb dX0_settledBy_152 (lv_at hl 0 rfl) ?_
            have hi25 := br_ite hr
            refine lv_if_eq (tgt := 197) hx hb dX0_settledBy_154 (by decide) (fun c25 => ?_) (fun c25 => ?_)
            · have hr := hi25.1 c25
              obtain ⟨v26, hv26, hr⟩ := br_let hr
              refine lv_iinc (v := v26) (lv' := [(3, .int v26), (6, .int o20), (5, .int v18), (4, .int v17), (2, .ref (ax 4)), (0, .ref (ax 0)), (1, .int a1)]) hx hb dX0_settledBy_197 hl (k := 3) rfl (hv26 ▸ rfl) (by decide) rfl (fun ls hl => ?_)
              refine lv_goto (tgt := 89) hx hb dX0_settledBy_200 (by decide) ?_
              exact ih v26 g_15 _ hr hret _ _ ls (lv_sub hl [0, 4, 5, 6] rfl) hS kx
            · have hr := hi25.2 c25
              refine lv_aload_n hx hb dX0_settledBy_157 rfl (lv_at hl 4 rfl) ?_
              refine lv_aload_n hx hb dX0_settledBy_158 rfl (lv_at hl 5 rfl) ?_
              refine va_get (D := D) (ci := 0) (v := .ref (ax 1)) (C := RX0) (T := TX0) (N := 17) hx hb hts in_X0 hown hG.1 hP 0 rfl rfl 1 (by decide) (hts _ q234) (fun _ h9 => h9) rfl dX0_settledBy_159 ?_
              refine va_getN (D := D) (ci := 7) (v := .int (cG_left (xG_core0 g_15))) (C := RX8) (T := TX8) (N := 8) hx hb hts in_X8 hown hG.1 hP 1 rfl rfl 0 (by decide) (va_Nw.use rfl (hG.2.1 _ nq193)) (fun _ h9 => h9) rfl dX0_settledBy_162 ?_
              refine lv_iconst (v := 1) hx hb dX0_settledBy_165 rfl ?_
              refine lv_iload hx hb dX0_settledBy_166 (lv_at hl 2 rfl) ?_
              refine lv_ishl hx hb dX0_settledBy_168 ?_
              refine lv_iconst (v := 1) hx hb dX0_settledBy_169 rfl ?_
              refine lv_iload hx hb dX0_settledBy_170 (lv_at hl 1 rfl) ?_
              refine lv_ishl hx hb dX0_settledBy_172 ?_
              refine lv_ior hx hb dX0_settledBy_173 ?_
              refine lv_iconst (v := (-1)) hx hb dX0_settledBy_174 rfl ?_
              refine lv_ixor hx hb dX0_settledBy_175 ?_
              refine lv_iand hx hb dX0_settledBy_176 ?_
              obtain ⟨o27, ho27, hr⟩ := br_bind hr
              obtain ⟨g28, hg28, hr⟩ := br_let hr
              refine fwWV (As := [.int ((cG_left (xG_core0 g_15)) &&& ((((1 : Int32) <<< (v17 &&& 31)) ||| ((1 : Int32) <<< (v18 &&& 31))) ^^^ (-1)))]) (rest := []) (C := RX8) hx hb hml hown hts (m_X8_leave l D ax ac (ax 4) (ax 5) (ax 6) (xG_mind g_15) ((cG_left (xG_core0 g_15)) &&& ((((1 : Int32) <<< (v17 &&& 31)) ||| ((1 : Int32) <<< (v18 &&& 31))) ^^^ (-1))) _ o27 ho27) (cw_X8_leave hts q748 ⟨Nat.le_of_ble_eq_true rfl, Nat.le_of_ble_eq_true rfl⟩) hG hS hA [4, 5, 6] rfl rfl rfl 4 7 rfl rfl rfl hl.1 rfl (Nat.le_of_ble_eq_true rfl) dX0_settledBy_177 ⟨Nat.le_of_ble_eq_true rfl, Nat.le_of_ble_eq_true rfl⟩ (wn := wX ax ac g28) (by rw [hg28]; rfl) (fun H locs hS => ?_)
              have hP := hS.1
              obtain ⟨o29, ho29, hr⟩ := br_bind hr
              refine fwRV (As := []) (rest := []) (C := RX8) hx hb hml hown hts (m_X8_isInChancery l D ax ac (ax 4) (ax 5) (ax 6) (xG_mind g28) o29 ho29) (cw_X8_isInChancery hts q789 ⟨Nat.le_of_ble_eq_true rfl, Nat.le_of_ble_eq_true rfl⟩) hG hP (hP.pick [4, 5, 6] rfl) 4 7 rfl rfl rfl hl.1 rfl (Nat.le_of_ble_eq_true rfl) dX0_settledBy_180 ⟨Nat.le_of_ble_eq_true rfl, Nat.le_of_ble_eq_true rfl⟩ ?_
              have hi30 := br_ite hr
              refine lv_if_ne (tgt := 197) hx hb dX0_settledBy_183 (by decide) (fun c30 => ?_) (fun c30 => ?_)
              · have hr := hi30.2 c30
                obtain ⟨v31, hv31, hr⟩ := br_let hr
                refine lv_iinc (v := v31) (lv' := [(3, .int v31), (6, .int o20), (5, .int v18), (4, .int v17), (2, .ref (ax 4)), (0, .ref (ax 0)), (1, .int a1)]) hx hb dX0_settledBy_197 hl (k := 3) rfl (hv31 ▸ rfl) (by decide) rfl (fun ls hl => ?_)
                refine lv_goto (tgt := 89) hx hb dX0_settledBy_200 (by decide) ?_
                exact ih v31 g28 _ hr hret _ _ ls (lv_sub hl [0, 4, 5, 6] rfl) hS kx
              · have hr := hi30.1 c30
                refine lv_iload_n hx hb dX0_settledBy_186 rfl (lv_at hl 6 rfl) ?_
                have hi32 := br_ite hr
                refine lv_if_ne (tgt := 194) hx hb dX0_settledBy_187 (by decide) (fun c32 => ?_) (fun c32 => ?_)
                · have hr := hi32.2 c32
                  refine lv_iload hx hb dX0_settledBy_194 (lv_at hl 2 rfl) ?_
                  have hr := hret _ (Option.some.inj hr).symm
                  obtain rfl := Option.some.inj hr
                  refine W.widen (k := rm_X0_settledBy.cells) (n := rm_X0_settledBy.slots) (Nat.le_of_ble_eq_true rfl) (Nat.le_of_ble_eq_true rfl) ?_
                  exact W.iret hx hb hrt (fun t ht _ => hS.q ht rfl) hS.2.2.2.2 dX0_settledBy_196 hlk
                · have hr := hi32.1 c32
                  refine lv_iconst (v := 2) hx hb dX0_settledBy_190 rfl ?_
                  refine lv_goto (tgt := 196) hx hb dX0_settledBy_191 (by decide) ?_
                  have hr := hret _ (Option.some.inj hr).symm
                  obtain rfl := Option.some.inj hr
                  refine W.widen (k := rm_X0_settledBy.cells) (n := rm_X0_settledBy.slots) (Nat.le_of_ble_eq_true rfl) (Nat.le_of_ble_eq_true rfl) ?_
                  exact W.iret hx hb hrt (fun t ht _ => hS.q ht rfl) hS.2.2.2.2 dX0_settledBy_196 hlk
          have hr := ho20
          have hi19 := br_ite hr
          refine lv_icmp_ge (tgt := 149) hx hb dX0_settledBy_112 (by decide) (fun c19 => ?_) (fun c19 => ?_)
          · have hr := hi19.1 c19
            refine lv_iconst (v := 0) hx hb dX0_settledBy_149 rfl ?_
            obtain rfl := Option.some.inj hr
            exact J20 _ _ ls (lv_sub hl [0, 1, 2, 3, 4, 5] rfl) hS
          · have hr := hi19.2 c19
            refine lv_aload_n hx hb dX0_settledBy_115 rfl (lv_at hl 4 rfl) ?_
            refine va_get (D := D) (ci := 0) (v := .ref (ax 1)) (C := RX0) (T := TX0) (N := 17) hx hb hts in_X0 hown hG.1 hP 0 rfl rfl 1 (by decide) (hts _ q234) (fun _ h9 => h9) rfl dX0_settledBy_116 ?_
            refine va_getN (D := D) (ci := 7) (v := .int (cG_left (xG_core0 g_15))) (C := RX8) (T := TX8) (N := 8) hx hb hts in_X8 hown hG.1 hP 1 rfl rfl 0 (by decide) (va_Nw.use rfl (hG.2.1 _ nq193)) (fun _ h9 => h9) rfl dX0_settledBy_119 ?_
            refine lv_iload hx hb dX0_settledBy_122 (lv_at hl 1 rfl) ?_
            obtain ⟨o21, ho21, hr⟩ := br_bind hr
            refine fwS (As := [.int (cG_left (xG_core0 g_15)), .int v17]) (rest := []) hx hb hml hown hts (m_X0_has l (cG_left (xG_core0 g_15)) v17 o21 ho21) (cw_X0_has hts q594 ⟨Nat.le_of_ble_eq_true rfl, Nat.le_of_ble_eq_true rfl⟩) rfl hl.1 rfl (Nat.le_of_ble_eq_true rfl) dX0_settledBy_124 ⟨Nat.le_of_ble_eq_true rfl, Nat.le_of_ble_eq_true rfl⟩ ?_
            have hi22 := br_ite hr
            refine lv_if_eq (tgt := 149) hx hb dX0_settledBy_127 (by decide) (fun c22 => ?_) (fun c22 => ?_)
            · have hr := hi22.1 c22
              refine lv_iconst (v := 0) hx hb dX0_settledBy_149 rfl ?_
              obtain rfl := Option.some.inj hr
              exact J20 _ _ ls (lv_sub hl [0, 1, 2, 3, 4, 5] rfl) hS
            · have hr := hi22.2 c22
              refine lv_aload_n hx hb dX0_settledBy_130 rfl (lv_at hl 4 rfl) ?_
              refine va_get (D := D) (ci := 0) (v := .ref (ax 1)) (C := RX0) (T := TX0) (N := 17) hx hb hts in_X0 hown hG.1 hP 0 rfl rfl 1 (by decide) (hts _ q234) (fun _ h9 => h9) rfl dX0_settledBy_131 ?_
              refine va_getN (D := D) (ci := 7) (v := .int (cG_left (xG_core0 g_15))) (C := RX8) (T := TX8) (N := 8) hx hb hts in_X8 hown hG.1 hP 1 rfl rfl 0 (by decide) (va_Nw.use rfl (hG.2.1 _ nq193)) (fun _ h9 => h9) rfl dX0_settledBy_134 ?_
              refine lv_iload hx hb dX0_settledBy_137 (lv_at hl 0 rfl) ?_
              obtain ⟨o23, ho23, hr⟩ := br_bind hr
              refine fwS (As := [.int (cG_left (xG_core0 g_15)), .int v18]) (rest := []) hx hb hml hown hts (m_X0_has l (cG_left (xG_core0 g_15)) v18 o23 ho23) (cw_X0_has hts q594 ⟨Nat.le_of_ble_eq_true rfl, Nat.le_of_ble_eq_true rfl⟩) rfl hl.1 rfl (Nat.le_of_ble_eq_true rfl) dX0_settledBy_139 ⟨Nat.le_of_ble_eq_true rfl, Nat.le_of_ble_eq_true rfl⟩ ?_
              have hi24 := br_ite hr
              refine lv_if_eq (tgt := 149) hx hb dX0_settledBy_142 (by decide) (fun c24 => ?_) (fun c24 => ?_)
              · have hr := hi24.1 c24
                refine lv_iconst (v := 0) hx hb dX0_settledBy_149 rfl ?_
                obtain rfl := Option.some.inj hr
                exact J20 _ _ ls (lv_sub hl [0, 1, 2, 3, 4, 5] rfl) hS
              · have hr := hi24.2 c24
                refine lv_iconst (v := 1) hx hb dX0_settledBy_145 rfl ?_
                refine lv_goto (tgt := 150) hx hb dX0_settledBy_146 (by decide) ?_
                obtain rfl := Option.some.inj hr
                exact J20 _ _ ls (lv_sub hl [0, 1, 2, 3, 4, 5] rfl) hS
    obtain ⟨o15, ho15, hl15, hk15⟩ := br_bsR hr
    refine L15 1000 0 t4 o15 ho15 (fun r hq => hl15 r hq) _ _ ls (lv_sub hl [0, 1, 2, 3] rfl) hS (fun t15 hq15 H locs ls hl hS => ?_)
    have hP := hS.1
    have hr := hk15 t15 hq15
    refine lv_bipush (v := (-9)) hx hb dX0_settledBy_203 rfl ?_
    obtain rfl := Option.some.inj hr
    refine W.widen (k := rm_X0_settledBy.cells) (n := rm_X0_settledBy.slots) (Nat.le_of_ble_eq_true rfl) (Nat.le_of_ble_eq_true rfl) ?_
    exact W.iret hx hb hrt (fun t ht _ => hS.q ht rfl) hS.2.2.2.2 dX0_settledBy_205 hlk
  · have hr := hi2.1 c2
    refine lv_iload_n hx hb dX0_settledBy_10 rfl (lv_at hl 1 rfl) ?_
    have hi33 := br_ite hr
    refine lv_if_ne (tgt := 18) hx hb dX0_settledBy_11 (by decide) (fun c33 => ?_) (fun c33 => ?_)
    · have hr := hi33.2 c33
      refine lv_bipush (v := (-9)) hx hb dX0_settledBy_18 rfl ?_
      obtain rfl := Option.some.inj hr
      refine W.widen (k := rm_X0_settledBy.cells) (n := rm_X0_settledBy.slots) (Nat.le_of_ble_eq_true rfl) (Nat.le_of_ble_eq_true rfl) ?_
      exact W.iret hx hb hrt (fun t ht _ => hS.q ht rfl) hS.2.2.2.2 dX0_settledBy_20 hlk
    · have hr := hi33.1 c33
      refine lv_iconst (v := 0) hx hb dX0_settledBy_14 rfl ?_
      refine lv_goto (tgt := 20) hx hb dX0_settledBy_15 (by decide) ?_
      obtain rfl := Option.some.inj hr
      refine W.widen (k := rm_X0_settledBy.cells) (n := rm_X0_settledBy.slots) (Nat.le_of_ble_eq_true rfl) (Nat.le_of_ble_eq_true rfl) ?_
      exact W.iret hx hb hrt (fun t ht _ => hS.q ht rfl) hS.2.2.2.2 dX0_settledBy_20 hlk
def f_X0_shareBy (g : XS) (a1 : Int32) (a2 : Int32) : Option (Int32 × XS) := Option.bind (f_X0_bestFor (xG_core0 g) a1 (1 : Int32)) fun o1 => if o1 = (-9) then some ((-9), g) else Option.bind (f_X0_openMind g) fun o3 => Option.bind (f_X0_without (cG_left (xG_core0 o3)) o1) fun o4 => Option.bind (f_X8_leave (xG_mind o3) o4) fun o5 => Option.bind (some (xS_mind o3 o5)) fun g6 => Option.bind (f_X8_shareOf (xG_mind g6) a2) fun o7 => some (o7, g6)
abbrev rm_X0_shareBy : Room := ({ frames := 10, cells := 3, slots := 18, locals := 450 })
theorem cw_X0_shareBy {R : Room} {s : State} {args : Array Value} {own : String} {index : Nat} (hts : ∀ w ∈ lw_all, w.before args s = true) (hlink : Cond.methodLink own index yX0_shareBy ∈ lw_all) (hR : rm_X0_shareBy.frames + 1 ≤ R.frames ∧ 8 + (4 + 11) + rm_X0_shareBy.locals ≤ R.locals) : CallW R s args own RX0 index yX0_shareBy cX0_shareBy 4 (some FieldType.int) (ws_ yX0_shareBy cX0_shareBy 4 (some FieldType.int)) rm_X0_shareBy rm_X0_shareBy.cells rm_X0_shareBy.slots 2 :=
  cwV 2 hts (lw_V hlink q898 qs48 q102 q899) rfl rfl rfl (by decide +kernel) hR
set_option maxHeartbeats 4000000 in
theorem m_X0_shareBy (l : Launch) (D : va_G) (ax : Nat → Nat) (ac : Nat → ClassId) (g : XS) (a1 : Int32) (a2 : Int32) (sz : Nat) (r0 : Int32 × XS) (hr : f_X0_shareBy g a1 a2 = some r0) : WM l yX0_shareBy cX0_shareBy 4 (some FieldType.int) rm_X0_shareBy [.ref (ax 0), .int a1, .int a2] D ac (wX ax ac g) (wX ax ac r0.2) sz (some (.int r0.1)) := by
  refine fw_of (by decide) (Nat.le_of_ble_eq_true rfl) ?_
  intro p e s m below meth c ls hx hb hrt hts hown hlk hml _ hU hl
  obtain ⟨rfl, hP, hG, hD⟩ := hU
  have hA : ∀ q : Nat, s.heap.size ≤ q → (va_A (wX ax ac g) s.heap.size) q := fun q h => Or.inr h
  have hS := Stt.start hP hD
  show WW p l e rm_X0_shareBy s m [.ref (ax 0), .int a1, .int a2] below meth c D (wX ax ac r0.2) (va_A (wX ax ac g) s.heap.size) (some (.int r0.1)) s.heap [] 0 0 0 ls []
  have hl : lv_has ls 4 [(0, .ref (ax 0)), (1, .int a1), (2, .int a2)] := hl
  rw [f_X0_shareBy] at hr
  refine lv_aload_n hx hb dX0_shareBy_0 rfl (lv_at hl 0 rfl) ?_
  refine lv_aload_n hx hb dX0_shareBy_1 rfl (lv_at hl 0 rfl) ?_
  refine va_get (D := D) (ci := 0) (v := .ref (ax 1)) (C := RX0) (T := TX0) (N := 17) hx hb hts in_X0 hown hG.1 hP 0 rfl rfl 1 (by decide) (hts _ q234) (fun _ h9 => h9) rfl dX0_shareBy_2 ?_
  refine lv_iload_n hx hb dX0_shareBy_5 rfl (lv_at hl 1 rfl) ?_
  refine lv_iconst (v := 1) hx hb dX0_shareBy_6 rfl ?_
  obtain ⟨o1, ho1, hr⟩ := br_bind hr
  refine fwWV (As := [.ref (ax 1), .int a1, .int 1]) (rest := []) (C := RX0) hx hb hml hown hts (m_X0_bestFor l D ax ac (ax 1) (ax 2) (ax 3) (xG_core0 g) a1 (1 : Int32) _ o1 ho1) (cw_X0_bestFor hts q812 ⟨Nat.le_of_ble_eq_true rfl, Nat.le_of_ble_eq_true rfl⟩) hG hS hA [1, 2, 3, 11, 12, 13, 14, 15, 16] rfl rfl rfl 0 0 rfl rfl rfl hl.1 rfl (Nat.le_of_ble_eq_true rfl) dX0_shareBy_7 ⟨Nat.le_of_ble_eq_true rfl, Nat.le_of_ble_eq_true rfl⟩ (wn := wX ax ac g) (rfl) (fun H locs hS => ?_)
  have hP := hS.1
  refine W.widen (k := 3) (n := 18) (by first | exact Nat.le_refl _ | (dsimp only [rm_X0_bestFor]; omega)) (by first | exact Nat.le_refl _ | (dsimp only [rm_X0_bestFor]; omega)) ?_
  refine lv_istore_n (lv' := [(3, .int o1), (0, .ref (ax 0)), (1, .int a1), (2, .int a2)]) hx hb dX0_shareBy_10 rfl hl (by decide) rfl (fun ls hl => ?_)
  refine lv_iload_n hx hb dX0_shareBy_11 rfl (lv_at hl 0 rfl) ?_
  refine lv_bipush (v := (-9)) hx hb dX0_shareBy_12 rfl ?_
  have hi2 := br_ite hr
  refine lv_icmp_ne (tgt := 22) hx hb dX0_shareBy_14 (by decide) (fun c2 => ?_) (fun c2 => ?_)
  · have hr := hi2.2 c2
    refine lv_aload_n hx hb dX0_shareBy_22 rfl (lv_at hl 1 rfl) ?_
    obtain ⟨o3, ho3, hr⟩ := br_bind hr
    refine fwWVs (As := []) (rest := []) (C := RX0) hx hb hml hown hts (m_X0_openMind l D ax ac g _ o3 ho3) (cw_X0_openMind hts q818 ⟨Nat.le_of_ble_eq_true rfl, Nat.le_of_ble_eq_true rfl⟩) hG hS hA rfl 0 0 rfl rfl rfl hl.1 rfl (Nat.le_of_ble_eq_true rfl) dX0_shareBy_23 ⟨Nat.le_of_ble_eq_true rfl, Nat.le_of_ble_eq_true rfl⟩ (fun H locs hS => ?_)
    have hP := hS.1
    refine lv_aload_n hx hb dX0_shareBy_26 rfl (lv_at hl 1 rfl) ?_
    refine va_get (D := D) (ci := 0) (v := .ref (ax 1)) (C := RX0) (T := TX0) (N := 17) hx hb hts in_X0 hown hG.1 hP 0 rfl rfl 1 (by decide) (hts _ q234) (fun _ h9 => h9) rfl dX0_shareBy_27 ?_
    refine va_getN (D := D) (ci := 7) (v := .int (cG_left (xG_core0 o3))) (C := RX8) (T := TX8) (N := 8) hx hb hts in_X8 hown hG.1 hP 1 rfl rfl 0 (by decide) (va_Nw.use rfl (hG.2.1 _ nq193)) (fun _ h9 => h9) rfl dX0_shareBy_30 ?_
    refine lv_iload_n hx hb dX0_shareBy_33 rfl (lv_at hl 0 rfl) ?_
    obtain ⟨o4, ho4, hr⟩ := br_bind hr
    refine fwS (As := [.int (cG_left (xG_core0 o3)), .int o1]) (rest := [.ref (ax 4)]) hx hb hml hown hts (m_X0_without l (cG_left (xG_core0 o3)) o1 o4 ho4) (cw_X0_without hts q822 ⟨Nat.le_of_ble_eq_true rfl, Nat.le_of_ble_eq_true rfl⟩) rfl hl.1 rfl (Nat.le_of_ble_eq_true rfl) dX0_shareBy_34 ⟨Nat.le_of_ble_eq_true rfl, Nat.le_of_ble_eq_true rfl⟩ ?_
    obtain ⟨o5, ho5, hr⟩ := br_bind hr
    obtain ⟨g6, hg6, hr⟩ := br_let hr
    refine fwWV (As := [.int o4]) (rest := []) (C := RX8) hx hb hml hown hts (m_X8_leave l D ax ac (ax 4) (ax 5) (ax 6) (xG_mind o3) o4 _ o5 ho5) (cw_X8_leave hts q748 ⟨Nat.le_of_ble_eq_true rfl, Nat.le_of_ble_eq_true rfl⟩) hG hS hA [4, 5, 6] rfl rfl rfl 4 7 rfl rfl rfl hl.1 rfl (Nat.le_of_ble_eq_true rfl) dX0_shareBy_37 ⟨Nat.le_of_ble_eq_true rfl, Nat.le_of_ble_eq_true rfl⟩ (wn := wX ax ac g6) (by rw [hg6]; rfl) (fun H locs hS => ?_)
    have hP := hS.1
    refine lv_iload_n hx hb dX0_shareBy_40 rfl (lv_at hl 3 rfl) ?_
    obtain ⟨o7, ho7, hr⟩ := br_bind hr
    refine fwRV (As := [.int a2]) (rest := []) (C := RX8) hx hb hml hown hts (m_X8_shareOf l D ax ac (ax 4) (ax 5) (ax 6) (xG_mind g6) a2 o7 ho7) (cw_X8_shareOf hts q684 ⟨Nat.le_of_ble_eq_true rfl, Nat.le_of_ble_eq_true rfl⟩) hG hP (hP.pick [4, 5, 6, 11, 12, 13, 14, 15, 16] rfl) 4 7 rfl rfl rfl hl.1 rfl (Nat.le_of_ble_eq_true rfl) dX0_shareBy_41 ⟨Nat.le_of_ble_eq_true rfl, Nat.le_of_ble_eq_true rfl⟩ ?_
    obtain rfl := Option.some.inj hr
    refine W.widen (k := rm_X0_shareBy.cells) (n := rm_X0_shareBy.slots) (Nat.le_of_ble_eq_true rfl) (Nat.le_of_ble_eq_true rfl) ?_
    exact W.iret hx hb hrt (fun t ht _ => hS.q ht rfl) hS.2.2.2.2 dX0_shareBy_44 hlk
  · have hr := hi2.1 c2
    refine lv_bipush (v := (-9)) hx hb dX0_shareBy_17 rfl ?_
    refine lv_goto (tgt := 44) hx hb dX0_shareBy_19 (by decide) ?_
    obtain rfl := Option.some.inj hr
    refine W.widen (k := rm_X0_shareBy.cells) (n := rm_X0_shareBy.slots) (Nat.le_of_ble_eq_true rfl) (Nat.le_of_ble_eq_true rfl) ?_
    exact W.iret hx hb hrt (fun t ht _ => hS.q ht rfl) hS.2.2.2.2 dX0_shareBy_44 hlk
def f_X0_worstGrudge_L9 (a1 : Int32) : Nat → Int32 → Int32 → Int32 → XS → Option (Int32 × XS)
  | 0, _, _, _, _ => none
  | n + 1, x4_1, x3_1, x2_1, g_1 => if (cG_heirs (xG_core0 g_1)) ≤ x4_1 then some (x2_1, g_1) else Option.bind (α := Int32 × XS) (if x4_1 = a1 then some ((-9), g_1) else Option.bind (f_X0_shareBy g_1 x4_1 a1) fun o5 => some (o5.1, o5.2)) fun o4 => Option.bind (α := Int32) (if o4.1 = (-9) then some 0 else if x3_1 ≤ o4.1 then some 0 else some 1) fun o7 => Option.bind (α := Int32) (if o7 = 0 then some x2_1 else some x4_1) fun o10 => if o7 = 0 then Option.bind (some ((x4_1 + 1) : Int32)) fun v12 => f_X0_worstGrudge_L9 a1 n v12 x3_1 o10 o4.2 else Option.bind (some ((x4_1 + 1) : Int32)) fun v13 => f_X0_worstGrudge_L9 a1 n v13 o4.1 o10 o4.2
def f_X0_worstGrudge (g : XS) (a1 : Int32) : Option (Int32 × XS) := Option.bind (f_X0_worstGrudge_L9 a1 20 0 1000000000 (-9) g) fun o1 => some (o1.1, o1.2)
abbrev rm_X0_worstGrudge : Room := ({ frames := 11, cells := 60, slots := 360, locals := 473 })
theorem cw_X0_worstGrudge {R : Room} {s : State} {args : Array Value} {own : String} {index : Nat} (hts : ∀ w ∈ lw_all, w.before args s = true) (hlink : Cond.methodLink own index yX0_worstGrudge ∈ lw_all) (hR : rm_X0_worstGrudge.frames + 1 ≤ R.frames ∧ 8 + (7 + 11) + rm_X0_worstGrudge.locals ≤ R.locals) : CallW R s args own RX0 index yX0_worstGrudge cX0_worstGrudge 7 (some FieldType.int) (ws_ yX0_worstGrudge cX0_worstGrudge 7 (some FieldType.int)) rm_X0_worstGrudge rm_X0_worstGrudge.cells rm_X0_worstGrudge.slots 1 :=
  cwV 1 hts (lw_V hlink q893 qs47 q102 q894) rfl rfl rfl (by decide +kernel) hR
set_option maxHeartbeats 4000000 in
theorem m_X0_worstGrudge (l : Launch) (D : va_G) (ax : Nat → Nat) (ac : Nat → ClassId) (g : XS) (a1 : Int32) (sz : Nat) (r0 : Int32 × XS) (hr : f_X0_worstGrudge g a1 = some r0) : WM l yX0_worstGrudge cX0_worstGrudge 7 (some FieldType.int) rm_X0_worstGrudge [.ref (ax 0), .int a1] D ac (wX ax ac g) (wX ax ac r0.2) sz (some (.int r0.1)) := by
  refine fw_of (by decide) (Nat.le_of_ble_eq_true rfl) ?_
  intro p e s m below meth c ls hx hb hrt hts hown hlk hml _ hU hl
  obtain ⟨rfl, hP, hG, hD⟩ := hU
  have hA : ∀ q : Nat, s.heap.size ≤ q → (va_A (wX ax ac g) s.heap.size) q := fun q h => Or.inr h
  have hS := Stt.start hP hD
  show WW p l e rm_X0_worstGrudge s m [.ref (ax 0), .int a1] below meth c D (wX ax ac r0.2) (va_A (wX ax ac g) s.heap.size) (some (.int r0.1)) s.heap [] 0 0 0 ls []
  have hl : lv_has ls 7 [(0, .ref (ax 0)), (1, .int a1)] := hl
  rw [f_X0_worstGrudge] at hr
  refine lv_bipush (v := (-9)) hx hb dX0_worstGrudge_0 rfl ?_
  refine lv_istore_n (lv' := [(2, .int (-9)), (0, .ref (ax 0)), (1, .int a1)]) hx hb dX0_worstGrudge_2 rfl hl (by decide) rfl (fun ls hl => ?_)
  refine lv_ldc (v := 1000000000) hx hb hown (hts _ q895) dX0_worstGrudge_3 ?_
  refine lv_istore_n (lv' := [(3, .int 1000000000), (2, .int (-9)), (0, .ref (ax 0)), (1, .int a1)]) hx hb dX0_worstGrudge_5 rfl hl (by decide) rfl (fun ls hl => ?_)
  refine lv_iconst (v := 0) hx hb dX0_worstGrudge_6 rfl ?_
  refine lv_istore (lv' := [(4, .int 0), (3, .int 1000000000), (2, .int (-9)), (0, .ref (ax 0)), (1, .int a1)]) hx hb dX0_worstGrudge_7 hl (by decide) rfl (fun ls hl => ?_)
  have L1 : ∀ (n : Nat) (x4_1 : Int32) (x3_1 : Int32) (x2_1 : Int32) (g_1 : XS) (o1 : Int32 × XS), f_X0_worstGrudge_L9 a1 n x4_1 x3_1 x2_1 g_1 = some o1 → n ≤ 20 → ∀ (H : Heap) (locs : List Loc) ls, lv_has ls 7 [(4, .int x4_1), (3, .int x3_1), (2, .int x2_1), (0, .ref (ax 0)), (1, .int a1)] → Stt D (va_A (wX ax ac g) s.heap.size) s.heap (wX ax ac g_1) H locs → (∀ (H : Heap) (locs : List Loc) ls, lv_has ls 7 [(2, .int o1.1)] → Stt D (va_A (wX ax ac g) s.heap.size) s.heap (wX ax ac o1.2) H locs → WW p l e rm_X0_worstGrudge s m [.ref (ax 0), .int a1] below meth c D (wX ax ac r0.2) (va_A (wX ax ac g) s.heap.size) (some (.int r0.1)) H locs 60 360 91 ls []) → WW p l e rm_X0_worstGrudge s m [.ref (ax 0), .int a1] below meth c D (wX ax ac r0.2) (va_A (wX ax ac g) s.heap.size) (some (.int r0.1)) H locs ((60 - n * 3) + 0) ((360 - n * 18) + 0) 9 ls [] := by
    intro n
    induction n with
    | zero => intro x4_1 x3_1 x2_1 g_1 o1 hr; rw [f_X0_worstGrudge_L9] at hr; cases hr
    | succ n ih =>
      intro x4_1 x3_1 x2_1 g_1 o1 hr hn_ H locs ls hl hS kx
      have hP := hS.1
      rw [f_X0_worstGrudge_L9] at hr
      refine lv_iload hx hb dX0_worstGrudge_9 (lv_at hl 0 rfl) ?_
      refine lv_aload_n hx hb dX0_worstGrudge_11 rfl (lv_at hl 3 rfl) ?_
      refine va_get (D := D) (ci := 0) (v := .ref (ax 1)) (C := RX0) (T := TX0) (N := 17) hx hb hts in_X0 hown hG.1 hP 0 rfl rfl 1 (by decide) (hts _ q234) (fun _ h9 => h9) rfl dX0_worstGrudge_12 ?_
      refine va_getN (D := D) (ci := 7) (v := .int (cG_heirs (xG_core0 g_1))) (C := RX8) (T := TX8) (N := 8) hx hb hts in_X8 hown hG.1 hP 1 rfl rfl 1 (by decide) (va_Nw.use rfl (hG.2.1 _ nq196)) (fun _ h9 => h9) rfl dX0_worstGrudge_15 ?_
      have hi2 := br_ite hr
      refine lv_icmp_ge (tgt := 91) hx hb dX0_worstGrudge_18 (by decide) (fun c2 => ?_) (fun c2 => ?_)
      · have hr := hi2.1 c2
        refine W.widen (k := 60) (n := 360) (by first | exact Nat.le_of_ble_eq_true rfl | omega) (by first | exact Nat.le_of_ble_eq_true rfl | omega) ?_
        obtain rfl := Option.some.inj hr
        exact kx _ _ ls (lv_sub hl [2] rfl) hS
      · have hr := hi2.2 c2
        refine lv_iload hx hb dX0_worstGrudge_21 (lv_at hl 0 rfl) ?_
        refine lv_iload_n hx hb dX0_worstGrudge_23 rfl (lv_at hl 4 rfl) ?_
        obtain ⟨o4, ho4, hr⟩ := br_bind hr
        have J4 : ∀ (H : Heap) (locs : List Loc) ls, lv_has ls 7 [(4, .int x4_1), (3, .int x3_1), (2, .int x2_1), (0, .ref (ax 0)), (1, .int a1)] → Stt D (va_A (wX ax ac g) s.heap.size) s.heap (wX ax ac o4.2) H locs → WW p l e rm_X0_worstGrudge s m [.ref (ax 0), .int a1] below meth c D (wX ax ac r0.2) (va_A (wX ax ac g) s.heap.size) (some (.int r0.1)) H locs ((60 - (n + 1) * 3) + 3) ((360 - (n + 1) * 18) + 18) 39 ls [.int o4.1] := by
          intro H locs ls hl hS
          have hP := hS.1
          refine lv_istore (lv' := [(5, .int o4.1), (4, .int x4_1), (3, .int x3_1), (2, .int x2_1), (0, .ref (ax 0)), (1, .int a1)]) hx hb dX0_worstGrudge_39 hl (by decide) rfl (fun ls hl => ?_)
          refine lv_iload hx hb dX0_worstGrudge_41 (lv_at hl 0 rfl) ?_
          refine lv_bipush (v := (-9)) hx hb dX0_worstGrudge_43 rfl ?_
          obtain ⟨o7, ho7, hr⟩ := br_bind hr
          have J7 : ∀ (H : Heap) (locs : List Loc) ls, lv_has ls 7 [(5, .int o4.1), (4, .int x4_1), (3, .int x3_1), (2, .int x2_1), (0, .ref (ax 0)), (1, .int a1)] → Stt D (va_A (wX ax ac g) s.heap.size) s.heap (wX ax ac o4.2) H locs → WW p l e rm_X0_worstGrudge s m [.ref (ax 0), .int a1] below meth c D (wX ax ac r0.2) (va_A (wX ax ac g) s.heap.size) (some (.int r0.1)) H locs ((60 - (n + 1) * 3) + 3) ((360 - (n + 1) * 18) + 18) 59 ls [.int o7] := by
            intro H locs ls hl hS
            have hP := hS.1
            refine lv_istore (lv' := [(6, .int o7), (5, .int o4.1), (4, .int x4_1), (3, .int x3_1), (2, .int x2_1), (0, .ref (ax 0)), (1, .int a1)]) hx hb dX0_worstGrudge_59 hl (by decide) rfl (fun ls hl => ?_)
            refine lv_iload hx hb dX0_worstGrudge_61 (lv_at hl 0 rfl) ?_
            obtain ⟨o10, ho10, hr⟩ := br_bind hr
            have J10 : ∀ (H : Heap) (locs : List Loc) ls, lv_has ls 7 [(6, .int o7), (5, .int o4.1), (4, .int x4_1), (3, .int x3_1), (0, .ref (ax 0)), (1, .int a1)] → Stt D (va_A (wX ax ac g) s.heap.size) s.heap (wX ax ac o4.2) H locs → WW p l e rm_X0_worstGrudge s m [.ref (ax 0), .int a1] below meth c D (wX ax ac r0.2) (va_A (wX ax ac g) s.heap.size) (some (.int r0.1)) H locs ((60 - (n + 1) * 3) + 3) ((360 - (n + 1) * 18) + 18) 72 ls [.int o10] := by
              intro H locs ls hl hS
              have hP := hS.1
              refine lv_istore_n (lv' := [(2, .int o10), (6, .int o7), (5, .int o4.1), (4, .int x4_1), (3, .int x3_1), (0, .ref (ax 0)), (1, .int a1)]) hx hb dX0_worstGrudge_72 rfl hl (by decide) rfl (fun ls hl => ?_)
              refine lv_iload hx hb dX0_worstGrudge_73 (lv_at hl 1 rfl) ?_
              have hi11 := br_ite hr
              refine lv_if_eq (tgt := 83) hx hb dX0_worstGrudge_75 (by decide) (fun c11 => ?_) (fun c11 => ?_)
              · have hr := hi11.1 c11
                refine lv_iload_n hx hb dX0_worstGrudge_83 rfl (lv_at hl 4 rfl) ?_
                refine lv_istore_n (lv' := [(3, .int x3_1), (2, .int o10), (6, .int o7), (5, .int o4.1), (4, .int x4_1), (0, .ref (ax 0)), (1, .int a1)]) hx hb dX0_worstGrudge_84 rfl hl (by decide) rfl (fun ls hl => ?_)
                obtain ⟨v12, hv12, hr⟩ := br_let hr
                refine lv_iinc (v := v12) (lv' := [(4, .int v12), (3, .int x3_1), (2, .int o10), (6, .int o7), (5, .int o4.1), (0, .ref (ax 0)), (1, .int a1)]) hx hb dX0_worstGrudge_85 hl (k := 4) rfl (hv12 ▸ rfl) (by decide) rfl (fun ls hl => ?_)
                refine lv_goto (tgt := 9) hx hb dX0_worstGrudge_88 (by decide) ?_
                refine W.widen (k := ((60 - n * 3) + 0)) (n := ((360 - n * 18) + 0)) (by first | exact Nat.le_of_ble_eq_true rfl | omega) (by first | exact Nat.le_of_ble_eq_true rfl | omega) ?_
                exact ih v12 x3_1 o10 o4.2 _ hr (by omega) _ _ ls (lv_sub hl [0, 1, 2, 5, 6] rfl) hS kx
              · have hr := hi11.2 c11
                refine lv_iload hx hb dX0_worstGrudge_78 (lv_at hl 2 rfl) ?_
                refine lv_goto (tgt := 84) hx hb dX0_worstGrudge_80 (by decide) ?_
                refine lv_istore_n (lv' := [(3, .int o4.1), (2, .int o10), (6, .int o7), (5, .int o4.1), (4, .int x4_1), (0, .ref (ax 0)), (1, .int a1)]) hx hb dX0_worstGrudge_84 rfl hl (by decide) rfl (fun ls hl => ?_)
                obtain ⟨v13, hv13, hr⟩ := br_let hr
                refine lv_iinc (v := v13) (lv' := [(4, .int v13), (3, .int o4.1), (2, .int o10), (6, .int o7), (5, .int o4.1), (0, .ref (ax 0)), (1, .int a1)]) hx hb dX0_worstGrudge_85 hl (k := 4) rfl (hv13 ▸ rfl) (by decide) rfl (fun ls hl => ?_)
                refine lv_goto (tgt := 9) hx hb dX0_worstGrudge_88 (by decide) ?_
                refine W.widen (k := ((60 - n * 3) + 0)) (n := ((360 - n * 18) + 0)) (by first | exact Nat.le_of_ble_eq_true rfl | omega) (by first | exact Nat.le_of_ble_eq_true rfl | omega) ?_
                exact ih v13 o4.1 o10 o4.2 _ hr (by omega) _ _ ls (lv_sub hl [0, 1, 2, 5, 6] rfl) hS kx
            have hr := ho10
            have hi9 := br_ite hr
            refine lv_if_eq (tgt := 71) hx hb dX0_worstGrudge_63 (by decide) (fun c9 => ?_) (fun c9 => ?_)
            · have hr := hi9.1 c9
              refine lv_iload_n hx hb dX0_worstGrudge_71 rfl (lv_at hl 4 rfl) ?_
              obtain rfl := Option.some.inj hr
              exact J10 _ _ ls (lv_sub hl [0, 1, 2, 3, 5, 6] rfl) hS
            · have hr := hi9.2 c9
              refine lv_iload hx hb dX0_worstGrudge_66 (lv_at hl 2 rfl) ?_
              refine lv_goto (tgt := 72) hx hb dX0_worstGrudge_68 (by decide) ?_
              obtain rfl := Option.some.inj hr
              exact J10 _ _ ls (lv_sub hl [0, 1, 2, 3, 5, 6] rfl) hS
          have hr := ho7
          have hi6 := br_ite hr
          refine lv_icmp_eq (tgt := 58) hx hb dX0_worstGrudge_45 (by decide) (fun c6 => ?_) (fun c6 => ?_)
          · have hr := hi6.1 c6
            refine lv_iconst (v := 0) hx hb dX0_worstGrudge_58 rfl ?_
            obtain rfl := Option.some.inj hr
            exact J7 _ _ ls (lv_sub hl [0, 1, 2, 3, 4, 5] rfl) hS
          · have hr := hi6.2 c6
            refine lv_iload hx hb dX0_worstGrudge_48 (lv_at hl 0 rfl) ?_
            refine lv_iload_n hx hb dX0_worstGrudge_50 rfl (lv_at hl 2 rfl) ?_
            have hi8 := br_ite hr
            refine lv_icmp_ge (tgt := 58) hx hb dX0_worstGrudge_51 (by decide) (fun c8 => ?_) (fun c8 => ?_)
            · have hr := hi8.1 c8
              refine lv_iconst (v := 0) hx hb dX0_worstGrudge_58 rfl ?_
              obtain rfl := Option.some.inj hr
              exact J7 _ _ ls (lv_sub hl [0, 1, 2, 3, 4, 5] rfl) hS
            · have hr := hi8.2 c8
              refine lv_iconst (v := 1) hx hb dX0_worstGrudge_54 rfl ?_
              refine lv_goto (tgt := 59) hx hb dX0_worstGrudge_55 (by decide) ?_
              obtain rfl := Option.some.inj hr
              exact J7 _ _ ls (lv_sub hl [0, 1, 2, 3, 4, 5] rfl) hS
        have hr := ho4
        have hi3 := br_ite hr
        refine lv_icmp_ne (tgt := 32) hx hb dX0_worstGrudge_24 (by decide) (fun c3 => ?_) (fun c3 => ?_)
        · have hr := hi3.2 c3
          refine lv_aload_n hx hb dX0_worstGrudge_32 rfl (lv_at hl 3 rfl) ?_
          refine lv_iload hx hb dX0_worstGrudge_33 (lv_at hl 0 rfl) ?_
          refine lv_iload_n hx hb dX0_worstGrudge_35 rfl (lv_at hl 4 rfl) ?_
          obtain ⟨o5, ho5, hr⟩ := br_bind hr
          refine fwWVs (As := [.int x4_1, .int a1]) (rest := []) (C := RX0) hx hb hml hown hts (m_X0_shareBy l D ax ac g_1 x4_1 a1 _ o5 ho5) (cw_X0_shareBy hts q896 ⟨Nat.le_of_ble_eq_true rfl, Nat.le_of_ble_eq_true rfl⟩) hG hS hA rfl 0 0 rfl rfl rfl hl.1 rfl (Nat.le_of_ble_eq_true rfl) dX0_worstGrudge_36 ⟨by dsimp only [rm_X0_worstGrudge, rm_X0_shareBy]; omega, by dsimp only [rm_X0_worstGrudge, rm_X0_shareBy]; omega⟩ (fun H locs hS => ?_)
          have hP := hS.1
          refine W.widen (k := ((60 - (n + 1) * 3) + 3)) (n := ((360 - (n + 1) * 18) + 18)) (by first | exact Nat.le_refl _ | (dsimp only [rm_X0_shareBy]; omega)) (by first | exact Nat.le_refl _ | (dsimp only [rm_X0_shareBy]; omega)) ?_
          obtain rfl := Option.some.inj hr
          exact J4 _ _ ls (lv_sub hl [0, 1, 2, 3, 4] rfl) hS
        · have hr := hi3.1 c3
          refine lv_bipush (v := (-9)) hx hb dX0_worstGrudge_27 rfl ?_
          refine lv_goto (tgt := 39) hx hb dX0_worstGrudge_29 (by decide) ?_
          obtain rfl := Option.some.inj hr
          refine W.widen (k := ((60 - (n + 1) * 3) + 3)) (n := ((360 - (n + 1) * 18) + 18)) (by first | exact Nat.le_of_ble_eq_true rfl | omega) (by first | exact Nat.le_of_ble_eq_true rfl | omega) ?_
          exact J4 _ _ ls (lv_sub hl [0, 1, 2, 3, 4] rfl) hS
  obtain ⟨o1, ho1, hr⟩ := br_bind hr
  refine L1 20 0 1000000000 (-9) g o1 ho1 (Nat.le_refl _) _ _ ls (lv_sub hl [0, 1, 2, 3, 4] rfl) hS (fun H locs ls hl hS => ?_)
  have hP := hS.1
  refine lv_iload_n hx hb dX0_worstGrudge_91 rfl (lv_at hl 0 rfl) ?_
  obtain rfl := Option.some.inj hr
  refine W.widen (k := rm_X0_worstGrudge.cells) (n := rm_X0_worstGrudge.slots) (Nat.le_of_ble_eq_true rfl) (Nat.le_of_ble_eq_true rfl) ?_
  exact W.iret hx hb hrt (fun t ht _ => hS.q ht rfl) hS.2.2.2.2 dX0_worstGrudge_92 hlk
def f_X0_gainOf (g : XS) (a1 : Int32) (a2 : Int32) : Option (Int32 × XS) := Option.bind (f_X0_shareBy g a1 a2) fun o1 => if o1.1 = (-9) then some (0, o1.2) else Option.bind (f_X8_shareOf (xG_core0 o1.2) a2) fun o3 => some ((o1.1 - o3), o1.2)
abbrev rm_X0_gainOf : Room := ({ frames := 11, cells := 3, slots := 18, locals := 473 })
theorem cw_X0_gainOf {R : Room} {s : State} {args : Array Value} {own : String} {index : Nat} (hts : ∀ w ∈ lw_all, w.before args s = true) (hlink : Cond.methodLink own index yX0_gainOf ∈ lw_all) (hR : rm_X0_gainOf.frames + 1 ≤ R.frames ∧ 8 + (4 + 11) + rm_X0_gainOf.locals ≤ R.locals) : CallW R s args own RX0 index yX0_gainOf cX0_gainOf 4 (some FieldType.int) (ws_ yX0_gainOf cX0_gainOf 4 (some FieldType.int)) rm_X0_gainOf rm_X0_gainOf.cells rm_X0_gainOf.slots 2 :=
  cwV 2 hts (lw_V hlink q910 qs51 q102 q911) rfl rfl rfl (by decide +kernel) hR
set_option maxHeartbeats 4000000 in
theorem m_X0_gainOf (l : Launch) (D : va_G) (ax : Nat → Nat) (ac : Nat → ClassId) (g : XS) (a1 : Int32) (a2 : Int32) (sz : Nat) (r0 : Int32 × XS) (hr : f_X0_gainOf g a1 a2 = some r0) : WM l yX0_gainOf cX0_gainOf 4 (some FieldType.int) rm_X0_gainOf [.ref (ax 0), .int a1, .int a2] D ac (wX ax ac g) (wX ax ac r0.2) sz (some (.int r0.1)) := by
  refine fw_of (by decide) (Nat.le_of_ble_eq_true rfl) ?_
  intro p e s m below meth c ls hx hb hrt hts hown hlk hml _ hU hl
  obtain ⟨rfl, hP, hG, hD⟩ := hU
  have hA : ∀ q : Nat, s.heap.size ≤ q → (va_A (wX ax ac g) s.heap.size) q := fun q h => Or.inr h
  have hS := Stt.start hP hD
  show WW p l e rm_X0_gainOf s m [.ref (ax 0), .int a1, .int a2] below meth c D (wX ax ac r0.2) (va_A (wX ax ac g) s.heap.size) (some (.int r0.1)) s.heap [] 0 0 0 ls []
  have hl : lv_has ls 4 [(0, .ref (ax 0)), (1, .int a1), (2, .int a2)] := hl
  rw [f_X0_gainOf] at hr
  refine lv_aload_n hx hb dX0_gainOf_0 rfl (lv_at hl 0 rfl) ?_
  refine lv_iload_n hx hb dX0_gainOf_1 rfl (lv_at hl 1 rfl) ?_
  refine lv_iload_n hx hb dX0_gainOf_2 rfl (lv_at hl 2 rfl) ?_
  obtain ⟨o1, ho1, hr⟩ := br_bind hr
  refine fwWVs (As := [.int a1, .int a2]) (rest := []) (C := RX0) hx hb hml hown hts (m_X0_shareBy l D ax ac g a1 a2 _ o1 ho1) (cw_X0_shareBy hts q896 ⟨Nat.le_of_ble_eq_true rfl, Nat.le_of_ble_eq_true rfl⟩) hG hS hA rfl 0 0 rfl rfl rfl hl.1 rfl (Nat.le_of_ble_eq_true rfl) dX0_gainOf_3 ⟨Nat.le_of_ble_eq_true rfl, Nat.le_of_ble_eq_true rfl⟩ (fun H locs hS => ?_)
  have hP := hS.1
  refine W.widen (k := 3) (n := 18) (by first | exact Nat.le_refl _ | (dsimp only [rm_X0_shareBy]; omega)) (by first | exact Nat.le_refl _ | (dsimp only [rm_X0_shareBy]; omega)) ?_
  refine lv_istore_n (lv' := [(3, .int o1.1), (0, .ref (ax 0)), (1, .int a1), (2, .int a2)]) hx hb dX0_gainOf_6 rfl hl (by decide) rfl (fun ls hl => ?_)
  refine lv_iload_n hx hb dX0_gainOf_7 rfl (lv_at hl 0 rfl) ?_
  refine lv_bipush (v := (-9)) hx hb dX0_gainOf_8 rfl ?_
  have hi2 := br_ite hr
  refine lv_icmp_ne (tgt := 17) hx hb dX0_gainOf_10 (by decide) (fun c2 => ?_) (fun c2 => ?_)
  · have hr := hi2.2 c2
    refine lv_iload_n hx hb dX0_gainOf_17 rfl (lv_at hl 0 rfl) ?_
    refine lv_aload_n hx hb dX0_gainOf_18 rfl (lv_at hl 1 rfl) ?_
    refine va_get (D := D) (ci := 0) (v := .ref (ax 1)) (C := RX0) (T := TX0) (N := 17) hx hb hts in_X0 hown hG.1 hP 0 rfl rfl 1 (by decide) (hts _ q234) (fun _ h9 => h9) rfl dX0_gainOf_19 ?_
    refine lv_iload_n hx hb dX0_gainOf_22 rfl (lv_at hl 3 rfl) ?_
    obtain ⟨o3, ho3, hr⟩ := br_bind hr
    refine fwRV (As := [.int a2]) (rest := [.int o1.1]) (C := RX8) hx hb hml hown hts (m_X8_shareOf l D ax ac (ax 1) (ax 2) (ax 3) (xG_core0 o1.2) a2 o3 ho3) (cw_X8_shareOf hts q684 ⟨Nat.le_of_ble_eq_true rfl, Nat.le_of_ble_eq_true rfl⟩) hG hP (hP.pick [1, 2, 3, 11, 12, 13, 14, 15, 16] rfl) 1 7 rfl rfl rfl hl.1 rfl (Nat.le_of_ble_eq_true rfl) dX0_gainOf_23 ⟨Nat.le_of_ble_eq_true rfl, Nat.le_of_ble_eq_true rfl⟩ ?_
    refine lv_isub hx hb dX0_gainOf_26 ?_
    obtain rfl := Option.some.inj hr
    refine W.widen (k := rm_X0_gainOf.cells) (n := rm_X0_gainOf.slots) (Nat.le_of_ble_eq_true rfl) (Nat.le_of_ble_eq_true rfl) ?_
    exact W.iret hx hb hrt (fun t ht _ => hS.q ht rfl) hS.2.2.2.2 dX0_gainOf_27 hlk
  · have hr := hi2.1 c2
    refine lv_iconst (v := 0) hx hb dX0_gainOf_13 rfl ?_
    refine lv_goto (tgt := 27) hx hb dX0_gainOf_14 (by decide) ?_
    obtain rfl := Option.some.inj hr
    refine W.widen (k := rm_X0_gainOf.cells) (n := rm_X0_gainOf.slots) (Nat.le_of_ble_eq_true rfl) (Nat.le_of_ble_eq_true rfl) ?_
    exact W.iret hx hb hrt (fun t ht _ => hS.q ht rfl) hS.2.2.2.2 dX0_gainOf_27 hlk
def f_X0_bridgeBits_L9 : Nat → Int32 → Int32 → XS → Option (Int32 × XS)
  | 0, _, _, _ => none
  | n + 1, x3_2, x1_2, g_2 => if 25 ≤ x3_2 then some (x1_2, g_2) else Option.bind (f_X0_has (cG_left (xG_core0 g_2)) x3_2) fun o4 => Option.bind (α := Int32 × XS) (if o4 = 0 then some (0, g_2) else Option.bind (f_X8_leave (xG_mind g_2) ((cG_left (xG_core0 g_2)) &&& (((1 : Int32) <<< (x3_2 &&& 31)) ^^^ (-1)))) fun o7 => Option.bind (some (xS_mind g_2 o7)) fun g8 => if (cG_pieceMany (xG_mind g8)) ≤ (cG_pieceMany (xG_core0 g8)) then some (0, g8) else some (1, g8)) fun o6 => if o6.1 = 0 then Option.bind (some ((x1_2 ||| 0) : Int32)) fun v11 => Option.bind (some ((x3_2 + 1) : Int32)) fun v12 => f_X0_bridgeBits_L9 n v12 v11 o6.2 else Option.bind (some ((x1_2 ||| ((1 : Int32) <<< (x3_2 &&& 31))) : Int32)) fun v13 => Option.bind (some ((x3_2 + 1) : Int32)) fun v14 => f_X0_bridgeBits_L9 n v14 v13 o6.2
def f_X0_bridgeBits (g : XS) : Option (Int32 × XS) := Option.bind (f_X0_openMind g) fun o1 => Option.bind (f_X0_bridgeBits_L9 1000 0 0 o1) fun o2 => some (o2.1, o2.2)
abbrev rm_X0_bridgeBits : Room := ({ frames := 5, cells := 0, slots := 0, locals := 117 })
theorem cw_X0_bridgeBits {R : Room} {s : State} {args : Array Value} {own : String} {index : Nat} (hts : ∀ w ∈ lw_all, w.before args s = true) (hlink : Cond.methodLink own index yX0_bridgeBits ∈ lw_all) (hR : rm_X0_bridgeBits.frames + 1 ≤ R.frames ∧ 8 + (5 + 11) + rm_X0_bridgeBits.locals ≤ R.locals) : CallW R s args own RX0 index yX0_bridgeBits cX0_bridgeBits 5 (some FieldType.int) (ws_ yX0_bridgeBits cX0_bridgeBits 5 (some FieldType.int)) rm_X0_bridgeBits rm_X0_bridgeBits.cells rm_X0_bridgeBits.slots 0 :=
  cwV 0 hts (lw_V hlink q933 qs56 q102 q934) rfl rfl rfl (by decide +kernel) hR
set_option maxHeartbeats 4000000 in
theorem m_X0_bridgeBits (l : Launch) (D : va_G) (ax : Nat → Nat) (ac : Nat → ClassId) (g : XS) (sz : Nat) (r0 : Int32 × XS) (hr : f_X0_bridgeBits g = some r0) : WM l yX0_bridgeBits cX0_bridgeBits 5 (some FieldType.int) rm_X0_bridgeBits [.ref (ax 0)] D ac (wX ax ac g) (wX ax ac r0.2) sz (some (.int r0.1)) := by
  refine fw_of (by decide) (Nat.le_of_ble_eq_true rfl) ?_
  intro p e s m below meth c ls hx hb hrt hts hown hlk hml _ hU hl
  obtain ⟨rfl, hP, hG, hD⟩ := hU
  have hA : ∀ q : Nat, s.heap.size ≤ q → (va_A (wX ax ac g) s.heap.size) q := fun q h => Or.inr h
  have hS := Stt.start hP hD
  show WW p l e rm_X0_bridgeBits s m [.ref (ax 0)] below meth c D (wX ax ac r0.2) (va_A (wX ax ac g) s.heap.size) (some (.int r0.1)) s.heap [] 0 0 0 ls []
  have hl : lv_has ls 5 [(0, .ref (ax 0))] := hl
  rw [f_X0_bridgeBits] at hr
  refine lv_iconst (v := 0) hx hb dX0_bridgeBits_0 rfl ?_
  refine lv_istore_n (lv' := [(1, .int 0), (0, .ref (ax 0))]) hx hb dX0_bridgeBits_1 rfl hl (by decide) rfl (fun ls hl => ?_)
  refine lv_aload_n hx hb dX0_bridgeBits_2 rfl (lv_at hl 1 rfl) ?_
  obtain ⟨o1, ho1, hr⟩ := br_bind hr
  refine fwWVs (As := []) (rest := []) (C := RX0) hx hb hml hown hts (m_X0_openMind l D ax ac g _ o1 ho1) (cw_X0_openMind hts q818 ⟨Nat.le_of_ble_eq_true rfl, Nat.le_of_ble_eq_true rfl⟩) hG hS hA rfl 0 0 rfl rfl rfl hl.1 rfl (Nat.le_of_ble_eq_true rfl) dX0_bridgeBits_3 ⟨Nat.le_of_ble_eq_true rfl, Nat.le_of_ble_eq_true rfl⟩ (fun H locs hS => ?_)
  have hP := hS.1
  refine lv_astore_n (lv' := [(2, .ref (ax 4)), (1, .int 0), (0, .ref (ax 0))]) hx hb dX0_bridgeBits_6 rfl hl (by decide) rfl (fun ls hl => ?_)
  refine lv_iconst (v := 0) hx hb dX0_bridgeBits_7 rfl ?_
  refine lv_istore_n (lv' := [(3, .int 0), (2, .ref (ax 4)), (1, .int 0), (0, .ref (ax 0))]) hx hb dX0_bridgeBits_8 rfl hl (by decide) rfl (fun ls hl => ?_)
  have L2 : ∀ (n : Nat) (x3_2 : Int32) (x1_2 : Int32) (g_2 : XS) (o2 : Int32 × XS), f_X0_bridgeBits_L9 n x3_2 x1_2 g_2 = some o2 → ∀ (H : Heap) (locs : List Loc) ls, lv_has ls 5 [(3, .int x3_2), (2, .ref (ax 4)), (1, .int x1_2), (0, .ref (ax 0))] → Stt D (va_A (wX ax ac g) s.heap.size) s.heap (wX ax ac g_2) H locs → (∀ (H : Heap) (locs : List Loc) ls, lv_has ls 5 [(1, .int o2.1)] → Stt D (va_A (wX ax ac g) s.heap.size) s.heap (wX ax ac o2.2) H locs → WW p l e rm_X0_bridgeBits s m [.ref (ax 0)] below meth c D (wX ax ac r0.2) (va_A (wX ax ac g) s.heap.size) (some (.int r0.1)) H locs 0 0 87 ls []) → WW p l e rm_X0_bridgeBits s m [.ref (ax 0)] below meth c D (wX ax ac r0.2) (va_A (wX ax ac g) s.heap.size) (some (.int r0.1)) H locs 0 0 9 ls [] := by
    intro n
    induction n with
    | zero => intro x3_2 x1_2 g_2 o2 hr; rw [f_X0_bridgeBits_L9] at hr; cases hr
    | succ n ih =>
      intro x3_2 x1_2 g_2 o2 hr H locs ls hl hS kx
      have hP := hS.1
      rw [f_X0_bridgeBits_L9] at hr
      refine lv_iload_n hx hb dX0_bridgeBits_9 rfl (lv_at hl 0 rfl) ?_
      refine lv_bipush (v := 25) hx hb dX0_bridgeBits_10 rfl ?_
      have hi3 := br_ite hr
      refine lv_icmp_ge (tgt := 87) hx hb dX0_bridgeBits_12 (by decide) (fun c3 => ?_) (fun c3 => ?_)
      · have hr := hi3.1 c3
        obtain rfl := Option.some.inj hr
        exact kx _ _ ls (lv_sub hl [2] rfl) hS
      · have hr := hi3.2 c3
        refine lv_aload_n hx hb dX0_bridgeBits_15 rfl (lv_at hl 3 rfl) ?_
        refine va_get (D := D) (ci := 0) (v := .ref (ax 1)) (C := RX0) (T := TX0) (N := 17) hx hb hts in_X0 hown hG.1 hP 0 rfl rfl 1 (by decide) (hts _ q234) (fun _ h9 => h9) rfl dX0_bridgeBits_16 ?_
        refine va_getN (D := D) (ci := 7) (v := .int (cG_left (xG_core0 g_2))) (C := RX8) (T := TX8) (N := 8) hx hb hts in_X8 hown hG.1 hP 1 rfl rfl 0 (by decide) (va_Nw.use rfl (hG.2.1 _ nq193)) (fun _ h9 => h9) rfl dX0_bridgeBits_19 ?_
        refine lv_iload_n hx hb dX0_bridgeBits_22 rfl (lv_at hl 0 rfl) ?_
        obtain ⟨o4, ho4, hr⟩ := br_bind hr
        refine fwS (As := [.int (cG_left (xG_core0 g_2)), .int x3_2]) (rest := []) hx hb hml hown hts (m_X0_has l (cG_left (xG_core0 g_2)) x3_2 o4 ho4) (cw_X0_has hts q594 ⟨Nat.le_of_ble_eq_true rfl, Nat.le_of_ble_eq_true rfl⟩) rfl hl.1 rfl (Nat.le_of_ble_eq_true rfl) dX0_bridgeBits_23 ⟨Nat.le_of_ble_eq_true rfl, Nat.le_of_ble_eq_true rfl⟩ ?_
        obtain ⟨o6, ho6, hr⟩ := br_bind hr
        have J6 : ∀ (H : Heap) (locs : List Loc) ls, lv_has ls 5 [(3, .int x3_2), (2, .ref (ax 4)), (1, .int x1_2), (0, .ref (ax 0))] → Stt D (va_A (wX ax ac g) s.heap.size) s.heap (wX ax ac o6.2) H locs → WW p l e rm_X0_bridgeBits s m [.ref (ax 0)] below meth c D (wX ax ac r0.2) (va_A (wX ax ac g) s.heap.size) (some (.int r0.1)) H locs 0 0 64 ls [.int o6.1] := by
          intro H locs ls hl hS
          have hP := hS.1
          refine lv_istore (lv' := [(4, .int o6.1), (3, .int x3_2), (2, .ref (ax 4)), (1, .int x1_2), (0, .ref (ax 0))]) hx hb dX0_bridgeBits_64 hl (by decide) rfl (fun ls hl => ?_)
          refine lv_iload_n hx hb dX0_bridgeBits_66 rfl (lv_at hl 3 rfl) ?_
          refine lv_iload hx hb dX0_bridgeBits_67 (lv_at hl 0 rfl) ?_
          have hi10 := br_ite hr
          refine lv_if_eq (tgt := 78) hx hb dX0_bridgeBits_69 (by decide) (fun c10 => ?_) (fun c10 => ?_)
          · have hr := hi10.1 c10
            refine lv_iconst (v := 0) hx hb dX0_bridgeBits_78 rfl ?_
            refine lv_ior hx hb dX0_bridgeBits_79 ?_
            refine lv_topi (fun v11 hv11 => ?_)
            have hr := br_letv hr hv11
            refine lv_istore_n (lv' := [(1, .int v11), (4, .int o6.1), (3, .int x3_2), (2, .ref (ax 4)), (0, .ref (ax 0))]) hx hb dX0_bridgeBits_80 rfl hl (by decide) rfl (fun ls hl => ?_)
            obtain ⟨v12, hv12, hr⟩ := br_let hr
            refine lv_iinc (v := v12) (lv' := [(3, .int v12), (1, .int v11), (4, .int o6.1), (2, .ref (ax 4)), (0, .ref (ax 0))]) hx hb dX0_bridgeBits_81 hl (k := 2) rfl (hv12 ▸ rfl) (by decide) rfl (fun ls hl => ?_)
            refine lv_goto (tgt := 9) hx hb dX0_bridgeBits_84 (by decide) ?_
            exact ih v12 v11 o6.2 _ hr _ _ ls (lv_sub hl [0, 3, 1, 4] rfl) hS kx
          · have hr := hi10.2 c10
            refine lv_iconst (v := 1) hx hb dX0_bridgeBits_72 rfl ?_
            refine lv_iload_n hx hb dX0_bridgeBits_73 rfl (lv_at hl 1 rfl) ?_
            refine lv_ishl hx hb dX0_bridgeBits_74 ?_
            refine lv_goto (tgt := 79) hx hb dX0_bridgeBits_75 (by decide) ?_
            refine lv_ior hx hb dX0_bridgeBits_79 ?_
            refine lv_topi (fun v13 hv13 => ?_)
            have hr := br_letv hr hv13
            refine lv_istore_n (lv' := [(1, .int v13), (4, .int o6.1), (3, .int x3_2), (2, .ref (ax 4)), (0, .ref (ax 0))]) hx hb dX0_bridgeBits_80 rfl hl (by decide) rfl (fun ls hl => ?_)
            obtain ⟨v14, hv14, hr⟩ := br_let hr
            refine lv_iinc (v := v14) (lv' := [(3, .int v14), (1, .int v13), (4, .int o6.1), (2, .ref (ax 4)), (0, .ref (ax 0))]) hx hb dX0_bridgeBits_81 hl (k := 2) rfl (hv14 ▸ rfl) (by decide) rfl (fun ls hl => ?_)
            refine lv_goto (tgt := 9) hx hb dX0_bridgeBits_84 (by decide) ?_
            exact ih v14 v13 o6.2 _ hr _ _ ls (lv_sub hl [0, 3, 1, 4] rfl) hS kx
        have hr := ho6
        have hi5 := br_ite hr
        refine lv_if_eq (tgt := 63) hx hb dX0_bridgeBits_26 (by decide) (fun c5 => ?_) (fun c5 => ?_)
        · have hr := hi5.1 c5
          refine lv_iconst (v := 0) hx hb dX0_bridgeBits_63 rfl ?_
          obtain rfl := Option.some.inj hr
          exact J6 _ _ ls (lv_sub hl [0, 1, 2, 3] rfl) hS
        · have hr := hi5.2 c5
          refine lv_aload_n hx hb dX0_bridgeBits_29 rfl (lv_at hl 1 rfl) ?_
          refine lv_aload_n hx hb dX0_bridgeBits_30 rfl (lv_at hl 3 rfl) ?_
          refine va_get (D := D) (ci := 0) (v := .ref (ax 1)) (C := RX0) (T := TX0) (N := 17) hx hb hts in_X0 hown hG.1 hP 0 rfl rfl 1 (by decide) (hts _ q234) (fun _ h9 => h9) rfl dX0_bridgeBits_31 ?_
          refine va_getN (D := D) (ci := 7) (v := .int (cG_left (xG_core0 g_2))) (C := RX8) (T := TX8) (N := 8) hx hb hts in_X8 hown hG.1 hP 1 rfl rfl 0 (by decide) (va_Nw.use rfl (hG.2.1 _ nq193)) (fun _ h9 => h9) rfl dX0_bridgeBits_34 ?_
          refine lv_iconst (v := 1) hx hb dX0_bridgeBits_37 rfl ?_
          refine lv_iload_n hx hb dX0_bridgeBits_38 rfl (lv_at hl 0 rfl) ?_
          refine lv_ishl hx hb dX0_bridgeBits_39 ?_
          refine lv_iconst (v := (-1)) hx hb dX0_bridgeBits_40 rfl ?_
          refine lv_ixor hx hb dX0_bridgeBits_41 ?_
          refine lv_iand hx hb dX0_bridgeBits_42 ?_
          obtain ⟨o7, ho7, hr⟩ := br_bind hr
          obtain ⟨g8, hg8, hr⟩ := br_let hr
          refine fwWV (As := [.int ((cG_left (xG_core0 g_2)) &&& (((1 : Int32) <<< (x3_2 &&& 31)) ^^^ (-1)))]) (rest := []) (C := RX8) hx hb hml hown hts (m_X8_leave l D ax ac (ax 4) (ax 5) (ax 6) (xG_mind g_2) ((cG_left (xG_core0 g_2)) &&& (((1 : Int32) <<< (x3_2 &&& 31)) ^^^ (-1))) _ o7 ho7) (cw_X8_leave hts q748 ⟨Nat.le_of_ble_eq_true rfl, Nat.le_of_ble_eq_true rfl⟩) hG hS hA [4, 5, 6] rfl rfl rfl 4 7 rfl rfl rfl hl.1 rfl (Nat.le_of_ble_eq_true rfl) dX0_bridgeBits_43 ⟨Nat.le_of_ble_eq_true rfl, Nat.le_of_ble_eq_true rfl⟩ (wn := wX ax ac g8) (by rw [hg8]; rfl) (fun H locs hS => ?_)
          have hP := hS.1
          refine va_getN (D := D) (ci := 7) (v := .int (cG_pieceMany (xG_mind g8))) (C := RX8) (T := TX8) (N := 8) hx hb hts in_X8 hown hG.1 hP 4 rfl rfl 6 (by decide) (va_Nw.use rfl (hG.2.1 _ nq211)) (fun _ h9 => h9) rfl dX0_bridgeBits_46 ?_
          refine lv_aload_n hx hb dX0_bridgeBits_49 rfl (lv_at hl 3 rfl) ?_
          refine va_get (D := D) (ci := 0) (v := .ref (ax 1)) (C := RX0) (T := TX0) (N := 17) hx hb hts in_X0 hown hG.1 hP 0 rfl rfl 1 (by decide) (hts _ q234) (fun _ h9 => h9) rfl dX0_bridgeBits_50 ?_
          refine va_getN (D := D) (ci := 7) (v := .int (cG_pieceMany (xG_core0 g8))) (C := RX8) (T := TX8) (N := 8) hx hb hts in_X8 hown hG.1 hP 1 rfl rfl 6 (by decide) (va_Nw.use rfl (hG.2.1 _ nq211)) (fun _ h9 => h9) rfl dX0_bridgeBits_53 ?_
          have hi9 := br_ite hr
          refine lv_icmp_le (tgt := 63) hx hb dX0_bridgeBits_56 (by decide) (fun c9 => ?_) (fun c9 => ?_)
          · have hr := hi9.1 c9
            refine lv_iconst (v := 0) hx hb dX0_bridgeBits_63 rfl ?_
            obtain rfl := Option.some.inj hr
            exact J6 _ _ ls (lv_sub hl [0, 1, 2, 3] rfl) hS
          · have hr := hi9.2 c9
            refine lv_iconst (v := 1) hx hb dX0_bridgeBits_59 rfl ?_
            refine lv_goto (tgt := 64) hx hb dX0_bridgeBits_60 (by decide) ?_
            obtain rfl := Option.some.inj hr
            exact J6 _ _ ls (lv_sub hl [0, 1, 2, 3] rfl) hS
  obtain ⟨o2, ho2, hr⟩ := br_bind hr
  refine L2 1000 0 0 o1 o2 ho2 _ _ ls (lv_sub hl [0, 1, 2, 3] rfl) hS (fun H locs ls hl hS => ?_)
  have hP := hS.1
  refine lv_iload_n hx hb dX0_bridgeBits_87 rfl (lv_at hl 0 rfl) ?_
  obtain rfl := Option.some.inj hr
  refine W.widen (k := rm_X0_bridgeBits.cells) (n := rm_X0_bridgeBits.slots) (Nat.le_of_ble_eq_true rfl) (Nat.le_of_ble_eq_true rfl) ?_
  exact W.iret hx hb hrt (fun t ht _ => hS.q ht rfl) hS.2.2.2.2 dX0_bridgeBits_88 hlk
def f_X0_stepsFrom_L4 (g : XS) (a1 : Int32) : Nat → Int32 → Int32 → Option (Int32)
  | 0, _, _ => none
  | n + 1, x3_1, x2_1 => if 25 ≤ x3_1 then some x2_1 else Option.bind (some (((if 0 ≤ ((x3_1 / 5) - (a1 / 5)) then ((x3_1 / 5) - (a1 / 5)) else 0 - ((x3_1 / 5) - (a1 / 5))) + (if 0 ≤ ((x3_1 - x3_1 / 5 * 5) - (a1 - a1 / 5 * 5)) then ((x3_1 - x3_1 / 5 * 5) - (a1 - a1 / 5 * 5)) else 0 - ((x3_1 - x3_1 / 5 * 5) - (a1 - a1 / 5 * 5)))) : Int32)) fun v3 => Option.bind (f_X0_has (cG_left (xG_core0 g)) x3_1) fun o4 => if o4 = 0 then Option.bind (some ((x2_1 + 0) : Int32)) fun v6 => Option.bind (some ((x3_1 + 1) : Int32)) fun v7 => f_X0_stepsFrom_L4 g a1 n v7 v6 else Option.bind (some ((x2_1 + v3) : Int32)) fun v8 => Option.bind (some ((x3_1 + 1) : Int32)) fun v9 => f_X0_stepsFrom_L4 g a1 n v9 v8
def f_X0_stepsFrom (g : XS) (a1 : Int32) : Option (Int32) := Option.bind (f_X0_stepsFrom_L4 g a1 1000 0 0) fun o1 => some o1
abbrev rm_X0_stepsFrom : Room := ({ frames := 2, cells := 0, slots := 0, locals := 40 })
theorem cw_X0_stepsFrom {R : Room} {s : State} {args : Array Value} {own : String} {index : Nat} (hts : ∀ w ∈ lw_all, w.before args s = true) (hlink : Cond.methodLink own index yX0_stepsFrom ∈ lw_all) (hR : rm_X0_stepsFrom.frames + 1 ≤ R.frames ∧ 8 + (5 + 11) + rm_X0_stepsFrom.locals ≤ R.locals) : CallW R s args own RX0 index yX0_stepsFrom cX0_stepsFrom 5 (some FieldType.int) (ws_ yX0_stepsFrom cX0_stepsFrom 5 (some FieldType.int)) rm_X0_stepsFrom rm_X0_stepsFrom.cells rm_X0_stepsFrom.slots 1 :=
  cwV 1 hts (lw_V hlink q926 qs55 q102 q927) rfl rfl rfl (by decide +kernel) hR
set_option maxHeartbeats 4000000 in
theorem m_X0_stepsFrom (l : Launch) (D : va_G) (ax : Nat → Nat) (ac : Nat → ClassId) (g : XS) (a1 : Int32) (r0 : Int32) (hr : f_X0_stepsFrom g a1 = some r0) : PM l yX0_stepsFrom cX0_stepsFrom 5 (some FieldType.int) rm_X0_stepsFrom [.ref (ax 0), .int a1] (RP D ac (wX ax ac g)) (some (.int r0)) := by
  refine fw_of (by decide) (Nat.le_of_ble_eq_true rfl) ?_
  intro p e s m below meth c ls hx hb hrt hts hown hlk hml _ hU hl
  obtain ⟨hP, hG⟩ := hU
  have hl : lv_has ls 5 [(0, .ref (ax 0)), (1, .int a1)] := hl
  rw [f_X0_stepsFrom] at hr
  refine lv_iconst (v := 0) hx hb dX0_stepsFrom_0 rfl ?_
  refine lv_istore_n (lv' := [(2, .int 0), (0, .ref (ax 0)), (1, .int a1)]) hx hb dX0_stepsFrom_1 rfl hl (by decide) rfl (fun ls hl => ?_)
  refine lv_iconst (v := 0) hx hb dX0_stepsFrom_2 rfl ?_
  refine lv_istore_n (lv' := [(3, .int 0), (2, .int 0), (0, .ref (ax 0)), (1, .int a1)]) hx hb dX0_stepsFrom_3 rfl hl (by decide) rfl (fun ls hl => ?_)
  have L1 : ∀ (n : Nat) (x3_1 : Int32) (x2_1 : Int32) (o1 : Int32), f_X0_stepsFrom_L4 g a1 n x3_1 x2_1 = some o1 → ∀ ls, lv_has ls 5 [(3, .int x3_1), (2, .int x2_1), (0, .ref (ax 0)), (1, .int a1)] → (∀ ls, lv_has ls 5 [(2, .int o1)] → WP p l e rm_X0_stepsFrom s m [.ref (ax 0), .int a1] below meth c (some (.int r0)) 62 ls []) → WP p l e rm_X0_stepsFrom s m [.ref (ax 0), .int a1] below meth c (some (.int r0)) 4 ls [] := by
    intro n
    induction n with
    | zero => intro x3_1 x2_1 o1 hr; rw [f_X0_stepsFrom_L4] at hr; cases hr
    | succ n ih =>
      intro x3_1 x2_1 o1 hr ls hl kx
      rw [f_X0_stepsFrom_L4] at hr
      refine lv_iload_n hx hb dX0_stepsFrom_4 rfl (lv_at hl 0 rfl) ?_
      refine lv_bipush (v := 25) hx hb dX0_stepsFrom_5 rfl ?_
      have hi2 := br_ite hr
      refine lv_icmp_ge (tgt := 62) hx hb dX0_stepsFrom_7 (by decide) (fun c2 => ?_) (fun c2 => ?_)
      · have hr := hi2.1 c2
        obtain rfl := Option.some.inj hr
        exact kx ls (lv_sub hl [1] rfl)
      · have hr := hi2.2 c2
        refine lv_iload_n hx hb dX0_stepsFrom_10 rfl (lv_at hl 0 rfl) ?_
        refine lv_iconst (v := 5) hx hb dX0_stepsFrom_11 rfl ?_
        refine lv_idiv hx hb dX0_stepsFrom_12 (by decide) ?_
        refine lv_iload_n hx hb dX0_stepsFrom_13 rfl (lv_at hl 3 rfl) ?_
        refine lv_iconst (v := 5) hx hb dX0_stepsFrom_14 rfl ?_
        refine lv_idiv hx hb dX0_stepsFrom_15 (by decide) ?_
        refine lv_isub hx hb dX0_stepsFrom_16 ?_
        refine va_mabs hx hb (hml.trans hl.1.symm) hown (hts _ q928) (hts _ q929) (hts _ q126) (hts _ q930) (Nat.le_of_ble_eq_true rfl) (Nat.le_of_ble_eq_true rfl) (Nat.le_of_ble_eq_true rfl) (Nat.le_of_ble_eq_true rfl) dX0_stepsFrom_17 ?_
        refine lv_iload_n hx hb dX0_stepsFrom_20 rfl (lv_at hl 0 rfl) ?_
        refine lv_iconst (v := 5) hx hb dX0_stepsFrom_21 rfl ?_
        refine lv_irem hx hb dX0_stepsFrom_22 (by decide) ?_
        refine lv_iload_n hx hb dX0_stepsFrom_23 rfl (lv_at hl 3 rfl) ?_
        refine lv_iconst (v := 5) hx hb dX0_stepsFrom_24 rfl ?_
        refine lv_irem hx hb dX0_stepsFrom_25 (by decide) ?_
        refine lv_isub hx hb dX0_stepsFrom_26 ?_
        refine va_mabs hx hb (hml.trans hl.1.symm) hown (hts _ q928) (hts _ q929) (hts _ q126) (hts _ q930) (Nat.le_of_ble_eq_true rfl) (Nat.le_of_ble_eq_true rfl) (Nat.le_of_ble_eq_true rfl) (Nat.le_of_ble_eq_true rfl) dX0_stepsFrom_27 ?_
        refine lv_iadd hx hb dX0_stepsFrom_30 ?_
        refine lv_topi (fun v3 hv3 => ?_)
        have hr := br_letv hr hv3
        refine lv_istore (lv' := [(4, .int v3), (3, .int x3_1), (2, .int x2_1), (0, .ref (ax 0)), (1, .int a1)]) hx hb dX0_stepsFrom_31 hl (by decide) rfl (fun ls hl => ?_)
        refine lv_iload_n hx hb dX0_stepsFrom_33 rfl (lv_at hl 2 rfl) ?_
        refine lv_aload_n hx hb dX0_stepsFrom_34 rfl (lv_at hl 3 rfl) ?_
        refine va_get (D := D) (ci := 0) (v := .ref (ax 1)) (C := RX0) (T := TX0) (N := 17) hx hb hts in_X0 hown hG.1 hP 0 rfl rfl 1 (by decide) (hts _ q234) (fun _ h9 => h9) rfl dX0_stepsFrom_35 ?_
        refine va_getN (D := D) (ci := 7) (v := .int (cG_left (xG_core0 g))) (C := RX8) (T := TX8) (N := 8) hx hb hts in_X8 hown hG.1 hP 1 rfl rfl 0 (by decide) (va_Nw.use rfl (hG.2.1 _ nq193)) (fun _ h9 => h9) rfl dX0_stepsFrom_38 ?_
        refine lv_iload_n hx hb dX0_stepsFrom_41 rfl (lv_at hl 1 rfl) ?_
        obtain ⟨o4, ho4, hr⟩ := br_bind hr
        refine fwS (As := [.int (cG_left (xG_core0 g)), .int x3_1]) (rest := [.int x2_1]) hx hb hml hown hts (m_X0_has l (cG_left (xG_core0 g)) x3_1 o4 ho4) (cw_X0_has hts q594 ⟨Nat.le_of_ble_eq_true rfl, Nat.le_of_ble_eq_true rfl⟩) rfl hl.1 rfl (Nat.le_of_ble_eq_true rfl) dX0_stepsFrom_42 ⟨Nat.le_of_ble_eq_true rfl, Nat.le_of_ble_eq_true rfl⟩ ?_
        have hi5 := br_ite hr
        refine lv_if_eq (tgt := 53) hx hb dX0_stepsFrom_45 (by decide) (fun c5 => ?_) (fun c5 => ?_)
        · have hr := hi5.1 c5
          refine lv_iconst (v := 0) hx hb dX0_stepsFrom_53 rfl ?_
          refine lv_iadd hx hb dX0_stepsFrom_54 ?_
          refine lv_topi (fun v6 hv6 => ?_)
          have hr := br_letv hr hv6
          refine lv_istore_n (lv' := [(2, .int v6), (4, .int v3), (3, .int x3_1), (0, .ref (ax 0)), (1, .int a1)]) hx hb dX0_stepsFrom_55 rfl hl (by decide) rfl (fun ls hl => ?_)
          obtain ⟨v7, hv7, hr⟩ := br_let hr
          refine lv_iinc (v := v7) (lv' := [(3, .int v7), (2, .int v6), (4, .int v3), (0, .ref (ax 0)), (1, .int a1)]) hx hb dX0_stepsFrom_56 hl (k := 2) rfl (hv7 ▸ rfl) (by decide) rfl (fun ls hl => ?_)
          refine lv_goto (tgt := 4) hx hb dX0_stepsFrom_59 (by decide) ?_
          exact ih v7 v6 _ hr ls (lv_sub hl [0, 1, 3, 4] rfl) kx
        · have hr := hi5.2 c5
          refine lv_iload hx hb dX0_stepsFrom_48 (lv_at hl 0 rfl) ?_
          refine lv_goto (tgt := 54) hx hb dX0_stepsFrom_50 (by decide) ?_
          refine lv_iadd hx hb dX0_stepsFrom_54 ?_
          refine lv_topi (fun v8 hv8 => ?_)
          have hr := br_letv hr hv8
          refine lv_istore_n (lv' := [(2, .int v8), (4, .int v3), (3, .int x3_1), (0, .ref (ax 0)), (1, .int a1)]) hx hb dX0_stepsFrom_55 rfl hl (by decide) rfl (fun ls hl => ?_)
          obtain ⟨v9, hv9, hr⟩ := br_let hr
          refine lv_iinc (v := v9) (lv' := [(3, .int v9), (2, .int v8), (4, .int v3), (0, .ref (ax 0)), (1, .int a1)]) hx hb dX0_stepsFrom_56 hl (k := 2) rfl (hv9 ▸ rfl) (by decide) rfl (fun ls hl => ?_)
          refine lv_goto (tgt := 4) hx hb dX0_stepsFrom_59 (by decide) ?_
          exact ih v9 v8 _ hr ls (lv_sub hl [0, 1, 3, 4] rfl) kx
  obtain ⟨o1, ho1, hr⟩ := br_bind hr
  refine L1 1000 0 0 o1 ho1 ls (lv_sub hl [0, 1, 2, 3] rfl) (fun ls hl => ?_)
  refine lv_iload_n hx hb dX0_stepsFrom_62 rfl (lv_at hl 0 rfl) ?_
  exact W.iret hx hb hrt (fun t ht _ => ⟨ret_i hr, ht⟩) noB dX0_stepsFrom_63 hlk
def f_X0_middleCell_L5 (g : XS) : Nat → Int32 → Int32 → Option (Int32)
  | 0, _, _ => none
  | n + 1, x2_1, x1_1 => if 25 ≤ x2_1 then some x1_1 else Option.bind (α := Int32) (if x1_1 = (-9) then some 1 else Option.bind (f_X0_stepsFrom g x2_1) fun o5 => Option.bind (f_X0_stepsFrom g x1_1) fun o6 => if o6 ≤ o5 then some 0 else some 1) fun o4 => Option.bind (f_X0_has (cG_left (xG_core0 g)) x2_1) fun o8 => if o8 = 0 then Option.bind (some ((x2_1 + 1) : Int32)) fun v10 => f_X0_middleCell_L5 g n v10 x1_1 else if o4 = 0 then Option.bind (some ((x2_1 + 1) : Int32)) fun v12 => f_X0_middleCell_L5 g n v12 x1_1 else Option.bind (some ((x2_1 + 1) : Int32)) fun v13 => f_X0_middleCell_L5 g n v13 x2_1
def f_X0_middleCell (g : XS) : Option (Int32) := Option.bind (f_X0_middleCell_L5 g 1000 0 (-9)) fun o1 => some o1
abbrev rm_X0_middleCell : Room := ({ frames := 3, cells := 0, slots := 0, locals := 64 })
theorem cw_X0_middleCell {R : Room} {s : State} {args : Array Value} {own : String} {index : Nat} (hts : ∀ w ∈ lw_all, w.before args s = true) (hlink : Cond.methodLink own index yX0_middleCell ∈ lw_all) (hR : rm_X0_middleCell.frames + 1 ≤ R.frames ∧ 8 + (4 + 11) + rm_X0_middleCell.locals ≤ R.locals) : CallW R s args own RX0 index yX0_middleCell cX0_middleCell 4 (some FieldType.int) (ws_ yX0_middleCell cX0_middleCell 4 (some FieldType.int)) rm_X0_middleCell rm_X0_middleCell.cells rm_X0_middleCell.slots 0 :=
  cwV 0 hts (lw_V hlink q922 qs54 q102 q923) rfl rfl rfl (by decide +kernel) hR
set_option maxHeartbeats 4000000 in
theorem m_X0_middleCell (l : Launch) (D : va_G) (ax : Nat → Nat) (ac : Nat → ClassId) (g : XS) (r0 : Int32) (hr : f_X0_middleCell g = some r0) : PM l yX0_middleCell cX0_middleCell 4 (some FieldType.int) rm_X0_middleCell [.ref (ax 0)] (RP D ac (wX ax ac g)) (some (.int r0)) := by
  refine fw_of (by decide) (Nat.le_of_ble_eq_true rfl) ?_
  intro p e s m below meth c ls hx hb hrt hts hown hlk hml _ hU hl
  obtain ⟨hP, hG⟩ := hU
  have hl : lv_has ls 4 [(0, .ref (ax 0))] := hl
  rw [f_X0_middleCell] at hr
  refine lv_bipush (v := (-9)) hx hb dX0_middleCell_0 rfl ?_
  refine lv_istore_n (lv' := [(1, .int (-9)), (0, .ref (ax 0))]) hx hb dX0_middleCell_2 rfl hl (by decide) rfl (fun ls hl => ?_)
  refine lv_iconst (v := 0) hx hb dX0_middleCell_3 rfl ?_
  refine lv_istore_n (lv' := [(2, .int 0), (1, .int (-9)), (0, .ref (ax 0))]) hx hb dX0_middleCell_4 rfl hl (by decide) rfl (fun ls hl => ?_)
  have L1 : ∀ (n : Nat) (x2_1 : Int32) (x1_1 : Int32) (o1 : Int32), f_X0_middleCell_L5 g n x2_1 x1_1 = some o1 → ∀ ls, lv_has ls 4 [(2, .int x2_1), (1, .int x1_1), (0, .ref (ax 0))] → (∀ ls, lv_has ls 4 [(1, .int o1)] → WP p l e rm_X0_middleCell s m [.ref (ax 0)] below meth c (some (.int r0)) 66 ls []) → WP p l e rm_X0_middleCell s m [.ref (ax 0)] below meth c (some (.int r0)) 5 ls [] := by
    intro n
    induction n with
    | zero => intro x2_1 x1_1 o1 hr; rw [f_X0_middleCell_L5] at hr; cases hr
    | succ n ih =>
      intro x2_1 x1_1 o1 hr ls hl kx
      rw [f_X0_middleCell_L5] at hr
      refine lv_iload_n hx hb dX0_middleCell_5 rfl (lv_at hl 0 rfl) ?_
      refine lv_bipush (v := 25) hx hb dX0_middleCell_6 rfl ?_
      have hi2 := br_ite hr
      refine lv_icmp_ge (tgt := 66) hx hb dX0_middleCell_8 (by decide) (fun c2 => ?_) (fun c2 => ?_)
      · have hr := hi2.1 c2
        obtain rfl := Option.some.inj hr
        exact kx ls (lv_sub hl [1] rfl)
      · have hr := hi2.2 c2
        refine lv_iload_n hx hb dX0_middleCell_11 rfl (lv_at hl 1 rfl) ?_
        refine lv_bipush (v := (-9)) hx hb dX0_middleCell_12 rfl ?_
        obtain ⟨o4, ho4, hr⟩ := br_bind hr
        have J4 : ∀ ls, lv_has ls 4 [(2, .int x2_1), (1, .int x1_1), (0, .ref (ax 0))] → WP p l e rm_X0_middleCell s m [.ref (ax 0)] below meth c (some (.int r0)) 35 ls [.int o4] := by
          intro ls hl
          refine lv_istore_n (lv' := [(3, .int o4), (2, .int x2_1), (1, .int x1_1), (0, .ref (ax 0))]) hx hb dX0_middleCell_35 rfl hl (by decide) rfl (fun ls hl => ?_)
          refine lv_aload_n hx hb dX0_middleCell_36 rfl (lv_at hl 3 rfl) ?_
          refine va_get (D := D) (ci := 0) (v := .ref (ax 1)) (C := RX0) (T := TX0) (N := 17) hx hb hts in_X0 hown hG.1 hP 0 rfl rfl 1 (by decide) (hts _ q234) (fun _ h9 => h9) rfl dX0_middleCell_37 ?_
          refine va_getN (D := D) (ci := 7) (v := .int (cG_left (xG_core0 g))) (C := RX8) (T := TX8) (N := 8) hx hb hts in_X8 hown hG.1 hP 1 rfl rfl 0 (by decide) (va_Nw.use rfl (hG.2.1 _ nq193)) (fun _ h9 => h9) rfl dX0_middleCell_40 ?_
          refine lv_iload_n hx hb dX0_middleCell_43 rfl (lv_at hl 1 rfl) ?_
          obtain ⟨o8, ho8, hr⟩ := br_bind hr
          refine fwS (As := [.int (cG_left (xG_core0 g)), .int x2_1]) (rest := []) hx hb hml hown hts (m_X0_has l (cG_left (xG_core0 g)) x2_1 o8 ho8) (cw_X0_has hts q594 ⟨Nat.le_of_ble_eq_true rfl, Nat.le_of_ble_eq_true rfl⟩) rfl hl.1 rfl (Nat.le_of_ble_eq_true rfl) dX0_middleCell_44 ⟨Nat.le_of_ble_eq_true rfl, Nat.le_of_ble_eq_true rfl⟩ ?_
          have hi9 := br_ite hr
          refine lv_if_eq (tgt := 58) hx hb dX0_middleCell_47 (by decide) (fun c9 => ?_) (fun c9 => ?_)
          · have hr := hi9.1 c9
            refine lv_iload_n hx hb dX0_middleCell_58 rfl (lv_at hl 2 rfl) ?_
            refine lv_istore_n (lv' := [(1, .int x1_1), (3, .int o4), (2, .int x2_1), (0, .ref (ax 0))]) hx hb dX0_middleCell_59 rfl hl (by decide) rfl (fun ls hl => ?_)
            obtain ⟨v10, hv10, hr⟩ := br_let hr
            refine lv_iinc (v := v10) (lv' := [(2, .int v10), (1, .int x1_1), (3, .int o4), (0, .ref (ax 0))]) hx hb dX0_middleCell_60 hl (k := 2) rfl (hv10 ▸ rfl) (by decide) rfl (fun ls hl => ?_)
            refine lv_goto (tgt := 5) hx hb dX0_middleCell_63 (by decide) ?_
            exact ih v10 x1_1 _ hr ls (lv_sub hl [0, 1, 3] rfl) kx
          · have hr := hi9.2 c9
            refine lv_iload_n hx hb dX0_middleCell_50 rfl (lv_at hl 0 rfl) ?_
            have hi11 := br_ite hr
            refine lv_if_eq (tgt := 58) hx hb dX0_middleCell_51 (by decide) (fun c11 => ?_) (fun c11 => ?_)
            · have hr := hi11.1 c11
              refine lv_iload_n hx hb dX0_middleCell_58 rfl (lv_at hl 2 rfl) ?_
              refine lv_istore_n (lv' := [(1, .int x1_1), (3, .int o4), (2, .int x2_1), (0, .ref (ax 0))]) hx hb dX0_middleCell_59 rfl hl (by decide) rfl (fun ls hl => ?_)
              obtain ⟨v12, hv12, hr⟩ := br_let hr
              refine lv_iinc (v := v12) (lv' := [(2, .int v12), (1, .int x1_1), (3, .int o4), (0, .ref (ax 0))]) hx hb dX0_middleCell_60 hl (k := 2) rfl (hv12 ▸ rfl) (by decide) rfl (fun ls hl => ?_)
              refine lv_goto (tgt := 5) hx hb dX0_middleCell_63 (by decide) ?_
              exact ih v12 x1_1 _ hr ls (lv_sub hl [0, 1, 3] rfl) kx
            · have hr := hi11.2 c11
              refine lv_iload_n hx hb dX0_middleCell_54 rfl (lv_at hl 1 rfl) ?_
              refine lv_goto (tgt := 59) hx hb dX0_middleCell_55 (by decide) ?_
              refine lv_istore_n (lv' := [(1, .int x2_1), (3, .int o4), (2, .int x2_1), (0, .ref (ax 0))]) hx hb dX0_middleCell_59 rfl hl (by decide) rfl (fun ls hl => ?_)
              obtain ⟨v13, hv13, hr⟩ := br_let hr
              refine lv_iinc (v := v13) (lv' := [(2, .int v13), (1, .int x2_1), (3, .int o4), (0, .ref (ax 0))]) hx hb dX0_middleCell_60 hl (k := 2) rfl (hv13 ▸ rfl) (by decide) rfl (fun ls hl => ?_)
              refine lv_goto (tgt := 5) hx hb dX0_middleCell_63 (by decide) ?_
              exact ih v13 x2_1 _ hr ls (lv_sub hl [0, 1, 3] rfl) kx
        have hr := ho4
        have hi3 := br_ite hr
        refine lv_icmp_eq (tgt := 30) hx hb dX0_middleCell_14 (by decide) (fun c3 => ?_) (fun c3 => ?_)
        · have hr := hi3.1 c3
          refine lv_iconst (v := 1) hx hb dX0_middleCell_30 rfl ?_
          refine lv_goto (tgt := 35) hx hb dX0_middleCell_31 (by decide) ?_
          obtain rfl := Option.some.inj hr
          exact J4 ls (lv_sub hl [0, 1, 2] rfl)
        · have hr := hi3.2 c3
          refine lv_aload_n hx hb dX0_middleCell_17 rfl (lv_at hl 2 rfl) ?_
          refine lv_iload_n hx hb dX0_middleCell_18 rfl (lv_at hl 0 rfl) ?_
          obtain ⟨o5, ho5, hr⟩ := br_bind hr
          refine fwRV (As := [.int x2_1]) (rest := []) (C := RX0) hx hb hml hown hts (m_X0_stepsFrom l D ax ac g x2_1 o5 ho5) (cw_X0_stepsFrom hts q924 ⟨Nat.le_of_ble_eq_true rfl, Nat.le_of_ble_eq_true rfl⟩) hG hP hP 0 0 rfl rfl rfl hl.1 rfl (Nat.le_of_ble_eq_true rfl) dX0_middleCell_19 ⟨Nat.le_of_ble_eq_true rfl, Nat.le_of_ble_eq_true rfl⟩ ?_
          refine lv_aload_n hx hb dX0_middleCell_22 rfl (lv_at hl 2 rfl) ?_
          refine lv_iload_n hx hb dX0_middleCell_23 rfl (lv_at hl 1 rfl) ?_
          obtain ⟨o6, ho6, hr⟩ := br_bind hr
          refine fwRV (As := [.int x1_1]) (rest := [.int o5]) (C := RX0) hx hb hml hown hts (m_X0_stepsFrom l D ax ac g x1_1 o6 ho6) (cw_X0_stepsFrom hts q924 ⟨Nat.le_of_ble_eq_true rfl, Nat.le_of_ble_eq_true rfl⟩) hG hP hP 0 0 rfl rfl rfl hl.1 rfl (Nat.le_of_ble_eq_true rfl) dX0_middleCell_24 ⟨Nat.le_of_ble_eq_true rfl, Nat.le_of_ble_eq_true rfl⟩ ?_
          have hi7 := br_ite hr
          refine lv_icmp_ge (tgt := 34) hx hb dX0_middleCell_27 (by decide) (fun c7 => ?_) (fun c7 => ?_)
          · have hr := hi7.1 c7
            refine lv_iconst (v := 0) hx hb dX0_middleCell_34 rfl ?_
            obtain rfl := Option.some.inj hr
            exact J4 ls (lv_sub hl [0, 1, 2] rfl)
          · have hr := hi7.2 c7
            refine lv_iconst (v := 1) hx hb dX0_middleCell_30 rfl ?_
            refine lv_goto (tgt := 35) hx hb dX0_middleCell_31 (by decide) ?_
            obtain rfl := Option.some.inj hr
            exact J4 ls (lv_sub hl [0, 1, 2] rfl)
  obtain ⟨o1, ho1, hr⟩ := br_bind hr
  refine L1 1000 0 (-9) o1 ho1 ls (lv_sub hl [0, 1, 2] rfl) (fun ls hl => ?_)
  refine lv_iload_n hx hb dX0_middleCell_66 rfl (lv_at hl 0 rfl) ?_
  exact W.iret hx hb hrt (fun t ht _ => ⟨ret_i hr, ht⟩) noB dX0_middleCell_67 hlk
def f_X0_firstThatCan_L2 (cv : CV) : Nat → Int32 → Option ((Int32) ⊕ (Unit))
  | 0, _ => none
  | n + 1, x1_1 => if 25 ≤ x1_1 then some (Sum.inr ()) else Option.bind (f_X8_canBite cv (0 : Int32) x1_1) fun o3 => if o3 = 0 then Option.bind (some ((x1_1 + 1) : Int32)) fun v5 => f_X0_firstThatCan_L2 cv n v5 else some (Sum.inl x1_1)
def f_X0_firstThatCan (cv : CV) : Option (Int32) := bsR (f_X0_firstThatCan_L2 cv 1000 0) fun t1 => some (-9)
abbrev rm_X0_firstThatCan : Room := ({ frames := 3, cells := 0, slots := 0, locals := 68 })
theorem cw_X0_firstThatCan {R : Room} {s : State} {args : Array Value} {own : String} {index : Nat} (hts : ∀ w ∈ lw_all, w.before args s = true) (hlink : Cond.methodLink own index yX0_firstThatCan ∈ lw_all) (hR : rm_X0_firstThatCan.frames + 1 ≤ R.frames ∧ 8 + (2 + 11) + rm_X0_firstThatCan.locals ≤ R.locals) : CallB R s args own index yX0_firstThatCan cX0_firstThatCan 2 (some FieldType.int) (ws_ yX0_firstThatCan cX0_firstThatCan 2 (some FieldType.int)) rm_X0_firstThatCan rm_X0_firstThatCan.cells rm_X0_firstThatCan.slots 1 ∧ (Cond.static yX0_firstThatCan).before args s = true :=
  va_cwS 1 hts (lw_S hlink q948 q102 q949) rfl rfl rfl (by decide +kernel) hR
set_option maxHeartbeats 4000000 in
theorem m_X0_firstThatCan (l : Launch) (D : va_G) (ax : Nat → Nat) (ac : Nat → ClassId) (b kq fq : Nat) (cv : CV) (r0 : Int32) (hr : f_X0_firstThatCan cv = some r0) : PM l yX0_firstThatCan cX0_firstThatCan 2 (some FieldType.int) rm_X0_firstThatCan [.ref b] (RP D ac (wC ax b kq fq ac cv)) (some (.int r0)) := by
  refine fw_of (by decide) (Nat.le_of_ble_eq_true rfl) ?_
  intro p e s m below meth c ls hx hb hrt hts hown hlk hml _ hU hl
  obtain ⟨hP, hG⟩ := hU
  have hl : lv_has ls 2 [(0, .ref b)] := hl
  rw [f_X0_firstThatCan] at hr
  refine lv_iconst (v := 0) hx hb dX0_firstThatCan_0 rfl ?_
  refine lv_istore_n (lv' := [(1, .int 0), (0, .ref b)]) hx hb dX0_firstThatCan_1 rfl hl (by decide) rfl (fun ls hl => ?_)
  have L1 : ∀ (n : Nat) (x1_1 : Int32) (o1 : (Int32) ⊕ (Unit)), f_X0_firstThatCan_L2 cv n x1_1 = some o1 → (∀ r, o1 = Sum.inl r → some r = some r0) → ∀ ls, lv_has ls 2 [(1, .int x1_1), (0, .ref b)] → (∀ t1, o1 = Sum.inr t1 → ∀ ls, lv_has ls 2 [] → WP p l e rm_X0_firstThatCan s m [.ref b] below meth c (some (.int r0)) 25 ls []) → WP p l e rm_X0_firstThatCan s m [.ref b] below meth c (some (.int r0)) 2 ls [] := by
    intro n
    induction n with
    | zero => intro x1_1 o1 hr; rw [f_X0_firstThatCan_L2] at hr; cases hr
    | succ n ih =>
      intro x1_1 o1 hr hret ls hl kx
      rw [f_X0_firstThatCan_L2] at hr
      refine lv_iload_n hx hb dX0_firstThatCan_2 rfl (lv_at hl 0 rfl) ?_
      refine lv_bipush (v := 25) hx hb dX0_firstThatCan_3 rfl ?_
      have hi2 := br_ite hr
      refine lv_icmp_ge (tgt := 25) hx hb dX0_firstThatCan_5 (by decide) (fun c2 => ?_) (fun c2 => ?_)
      · have hr := hi2.1 c2
        exact kx _ (Option.some.inj hr).symm ls (lv_sub hl [] rfl)
      · have hr := hi2.2 c2
        refine lv_aload_n hx hb dX0_firstThatCan_8 rfl (lv_at hl 1 rfl) ?_
        refine lv_iconst (v := 0) hx hb dX0_firstThatCan_9 rfl ?_
        refine lv_iload_n hx hb dX0_firstThatCan_10 rfl (lv_at hl 0 rfl) ?_
        obtain ⟨o3, ho3, hr⟩ := br_bind hr
        refine fwRV (As := [.int 0, .int x1_1]) (rest := []) (C := RX8) hx hb hml hown hts (m_X8_canBite l D ax ac b kq fq cv (0 : Int32) x1_1 o3 ho3) (cw_X8_canBite hts q742 ⟨Nat.le_of_ble_eq_true rfl, Nat.le_of_ble_eq_true rfl⟩) hG hP hP 0 7 rfl rfl rfl hl.1 rfl (Nat.le_of_ble_eq_true rfl) dX0_firstThatCan_11 ⟨Nat.le_of_ble_eq_true rfl, Nat.le_of_ble_eq_true rfl⟩ ?_
        have hi4 := br_ite hr
        refine lv_if_eq (tgt := 19) hx hb dX0_firstThatCan_14 (by decide) (fun c4 => ?_) (fun c4 => ?_)
        · have hr := hi4.1 c4
          obtain ⟨v5, hv5, hr⟩ := br_let hr
          refine lv_iinc (v := v5) (lv' := [(1, .int v5), (0, .ref b)]) hx hb dX0_firstThatCan_19 hl (k := 0) rfl (hv5 ▸ rfl) (by decide) rfl (fun ls hl => ?_)
          refine lv_goto (tgt := 2) hx hb dX0_firstThatCan_22 (by decide) ?_
          exact ih v5 _ hr hret ls (lv_sub hl [0, 1] rfl) kx
        · have hr := hi4.2 c4
          refine lv_iload_n hx hb dX0_firstThatCan_17 rfl (lv_at hl 0 rfl) ?_
          have hr := hret _ (Option.some.inj hr).symm
          exact W.iret hx hb hrt (fun t ht _ => ⟨ret_i hr, ht⟩) noB dX0_firstThatCan_18 hlk
  obtain ⟨o1, ho1, hl1, hk1⟩ := br_bsR hr
  refine L1 1000 0 o1 ho1 (fun r hq => hl1 r hq) ls (lv_sub hl [0, 1] rfl) (fun t1 hq1 ls hl => ?_)
  have hr := hk1 t1 hq1
  refine lv_bipush (v := (-9)) hx hb dX0_firstThatCan_25 rfl ?_
  exact W.iret hx hb hrt (fun t ht _ => ⟨ret_i hr, ht⟩) noB dX0_firstThatCan_27 hlk
def f_X0_biteAs (g : XS) (a2 : Int32) (a3 : Int32) : Option (XS) := Option.bind (α := Int32) (if a3 = 0 then Option.bind (f_X0_bestFor (xG_mind g) a2 (1 : Int32)) fun o4 => some o4 else Option.bind (f_X0_firstThatCan (xG_mind g)) fun o3 => some o3) fun o2 => if o2 = (-9) then some g else Option.bind (f_X8_bite (xG_mind g) (o2 / 100) (o2 - o2 / 100 * 100)) fun o6 => Option.bind (some (xS_mind g o6)) fun g7 => some g7
abbrev rm_X0_biteAs : Room := ({ frames := 10, cells := 3, slots := 18, locals := 450 })
theorem cw_X0_biteAs {R : Room} {s : State} {args : Array Value} {own : String} {index : Nat} (hts : ∀ w ∈ lw_all, w.before args s = true) (hlink : Cond.methodLink own index yX0_biteAs ∈ lw_all) (hR : rm_X0_biteAs.frames + 1 ≤ R.frames ∧ 8 + (5 + 11) + rm_X0_biteAs.locals ≤ R.locals) : CallW R s args own RX0 index yX0_biteAs cX0_biteAs 5 none (ws_ yX0_biteAs cX0_biteAs 5 none) rm_X0_biteAs rm_X0_biteAs.cells rm_X0_biteAs.slots 3 :=
  cwV 3 hts (lw_V hlink q945 qs59 q102 q946) rfl rfl rfl (by decide +kernel) hR
set_option maxHeartbeats 4000000 in
theorem m_X0_biteAs (l : Launch) (D : va_G) (ax : Nat → Nat) (ac : Nat → ClassId) (g : XS) (a2 : Int32) (a3 : Int32) (sz : Nat) (r0 : XS) (hr : f_X0_biteAs g a2 a3 = some r0) : WM l yX0_biteAs cX0_biteAs 5 none rm_X0_biteAs [.ref (ax 0), .ref (ax 4), .int a2, .int a3] D ac (wX ax ac g) (wX ax ac r0) sz none := by
  refine fw_of (by decide) (Nat.le_of_ble_eq_true rfl) ?_
  intro p e s m below meth c ls hx hb hrt hts hown hlk hml _ hU hl
  obtain ⟨rfl, hP, hG, hD⟩ := hU
  have hA : ∀ q : Nat, s.heap.size ≤ q → (va_A (wX ax ac g) s.heap.size) q := fun q h => Or.inr h
  have hS := Stt.start hP hD
  show WW p l e rm_X0_biteAs s m [.ref (ax 0), .ref (ax 4), .int a2, .int a3] below meth c D (wX ax ac r0) (va_A (wX ax ac g) s.heap.size) none s.heap [] 0 0 0 ls []
  have hl : lv_has ls 5 [(0, .ref (ax 0)), (1, .ref (ax 4)), (2, .int a2), (3, .int a3)] := hl
  rw [f_X0_biteAs] at hr
  refine lv_iload_n hx hb dX0_biteAs_0 rfl (lv_at hl 3 rfl) ?_
  obtain ⟨o2, ho2, hr⟩ := br_bind hr
  have J2 : ∀ (H : Heap) (locs : List Loc) ls, lv_has ls 5 [(1, .ref (ax 4))] → Stt D (va_A (wX ax ac g) s.heap.size) s.heap (wX ax ac g) H locs → WW p l e rm_X0_biteAs s m [.ref (ax 0), .ref (ax 4), .int a2, .int a3] below meth c D (wX ax ac r0) (va_A (wX ax ac g) s.heap.size) none H locs 3 18 18 ls [.int o2] := by
    intro H locs ls hl hS
    have hP := hS.1
    refine lv_istore (lv' := [(4, .int o2), (1, .ref (ax 4))]) hx hb dX0_biteAs_18 hl (by decide) rfl (fun ls hl => ?_)
    refine lv_iload hx hb dX0_biteAs_20 (lv_at hl 0 rfl) ?_
    refine lv_bipush (v := (-9)) hx hb dX0_biteAs_22 rfl ?_
    have hi5 := br_ite hr
    refine lv_icmp_eq (tgt := 41) hx hb dX0_biteAs_24 (by decide) (fun c5 => ?_) (fun c5 => ?_)
    · have hr := hi5.1 c5
      obtain rfl := Option.some.inj hr
      refine W.widen (k := rm_X0_biteAs.cells) (n := rm_X0_biteAs.slots) (Nat.le_of_ble_eq_true rfl) (Nat.le_of_ble_eq_true rfl) ?_
      exact W.vret hx hb hrt (fun t ht _ => hS.q ht rfl) hS.2.2.2.2 dX0_biteAs_41 hlk
    · have hr := hi5.2 c5
      refine lv_aload_n hx hb dX0_biteAs_27 rfl (lv_at hl 1 rfl) ?_
      refine lv_iload hx hb dX0_biteAs_28 (lv_at hl 0 rfl) ?_
      refine lv_bipush (v := 100) hx hb dX0_biteAs_30 rfl ?_
      refine lv_idiv hx hb dX0_biteAs_32 (by decide) ?_
      refine lv_iload hx hb dX0_biteAs_33 (lv_at hl 0 rfl) ?_
      refine lv_bipush (v := 100) hx hb dX0_biteAs_35 rfl ?_
      refine lv_irem hx hb dX0_biteAs_37 (by decide) ?_
      obtain ⟨o6, ho6, hr⟩ := br_bind hr
      obtain ⟨g7, hg7, hr⟩ := br_let hr
      refine fwWV (As := [.int (o2 / 100), .int (o2 - o2 / 100 * 100)]) (rest := []) (C := RX8) hx hb hml hown hts (m_X8_bite l D ax ac (ax 4) (ax 5) (ax 6) (xG_mind g) (o2 / 100) (o2 - o2 / 100 * 100) _ o6 ho6) (cw_X8_bite hts q743 ⟨Nat.le_of_ble_eq_true rfl, Nat.le_of_ble_eq_true rfl⟩) hG hS hA [4, 5, 6] rfl rfl rfl 4 7 rfl rfl rfl hl.1 rfl (Nat.le_of_ble_eq_true rfl) dX0_biteAs_38 ⟨Nat.le_of_ble_eq_true rfl, Nat.le_of_ble_eq_true rfl⟩ (wn := wX ax ac g7) (by rw [hg7]; rfl) (fun H locs hS => ?_)
      have hP := hS.1
      obtain rfl := Option.some.inj hr
      refine W.widen (k := rm_X0_biteAs.cells) (n := rm_X0_biteAs.slots) (Nat.le_of_ble_eq_true rfl) (Nat.le_of_ble_eq_true rfl) ?_
      exact W.vret hx hb hrt (fun t ht _ => hS.q ht rfl) hS.2.2.2.2 dX0_biteAs_41 hlk
  have hr := ho2
  have hi1 := br_ite hr
  refine lv_if_ne (tgt := 14) hx hb dX0_biteAs_1 (by decide) (fun c1 => ?_) (fun c1 => ?_)
  · have hr := hi1.2 c1
    refine lv_aload_n hx hb dX0_biteAs_14 rfl (lv_at hl 1 rfl) ?_
    obtain ⟨o3, ho3, hr⟩ := br_bind hr
    refine fwRS (As := [.ref (ax 4)]) (rest := []) hx hb hml hown hts (m_X0_firstThatCan l D ax ac (ax 4) (ax 5) (ax 6) (xG_mind g) o3 ho3) (cw_X0_firstThatCan hts q947 ⟨Nat.le_of_ble_eq_true rfl, Nat.le_of_ble_eq_true rfl⟩) hG (hP.pick [4, 5, 6] rfl) rfl hl.1 rfl (Nat.le_of_ble_eq_true rfl) dX0_biteAs_15 ⟨Nat.le_of_ble_eq_true rfl, Nat.le_of_ble_eq_true rfl⟩ ?_
    obtain rfl := Option.some.inj hr
    refine W.widen (k := 3) (n := 18) (by first | exact Nat.le_of_ble_eq_true rfl | omega) (by first | exact Nat.le_of_ble_eq_true rfl | omega) ?_
    exact J2 _ _ ls (lv_sub hl [1] rfl) hS
  · have hr := hi1.1 c1
    refine lv_aload_n hx hb dX0_biteAs_4 rfl (lv_at hl 0 rfl) ?_
    refine lv_aload_n hx hb dX0_biteAs_5 rfl (lv_at hl 1 rfl) ?_
    refine lv_iload_n hx hb dX0_biteAs_6 rfl (lv_at hl 2 rfl) ?_
    refine lv_iconst (v := 1) hx hb dX0_biteAs_7 rfl ?_
    obtain ⟨o4, ho4, hr⟩ := br_bind hr
    refine fwWV (As := [.ref (ax 4), .int a2, .int 1]) (rest := []) (C := RX0) hx hb hml hown hts (m_X0_bestFor l D ax ac (ax 4) (ax 5) (ax 6) (xG_mind g) a2 (1 : Int32) _ o4 ho4) (cw_X0_bestFor hts q812 ⟨Nat.le_of_ble_eq_true rfl, Nat.le_of_ble_eq_true rfl⟩) hG hS hA [4, 5, 6, 11, 12, 13, 14, 15, 16] rfl rfl rfl 0 0 rfl rfl rfl hl.1 rfl (Nat.le_of_ble_eq_true rfl) dX0_biteAs_8 ⟨Nat.le_of_ble_eq_true rfl, Nat.le_of_ble_eq_true rfl⟩ (wn := wX ax ac g) (rfl) (fun H locs hS => ?_)
    have hP := hS.1
    refine W.widen (k := 3) (n := 18) (by first | exact Nat.le_refl _ | (dsimp only [rm_X0_bestFor]; omega)) (by first | exact Nat.le_refl _ | (dsimp only [rm_X0_bestFor]; omega)) ?_
    refine lv_goto (tgt := 18) hx hb dX0_biteAs_11 (by decide) ?_
    obtain rfl := Option.some.inj hr
    exact J2 _ _ ls (lv_sub hl [1] rfl) hS
def f_X0_restingBites_L2 (a1 : Int32) (a2 : Int32) : Nat → Int32 → XS → Option (XS)
  | 0, _, _ => none
  | n + 1, x3_1, g_1 => if 4 ≤ x3_1 then some g_1 else Option.bind (f_X0_openMind g_1) fun o3 => Option.bind (f_X0_biteAs o3 a1 (x3_1 / 2)) fun o4 => Option.bind (f_X0_biteAs o4 a2 (x3_1 - x3_1 / 2 * 2)) fun o5 => Option.bind (f_X8_shareOf (xG_mind o5) a1) fun o6 => if x3_1 < 0 ∨ 4 ≤ Int32.toNatClampNeg x3_1 then none else Option.bind (some (xS_oneHas o5 (upd (xG_oneHas o5) (Int32.toNatClampNeg x3_1) o6))) fun g8 => Option.bind (f_X8_shareOf (xG_mind g8) a2) fun o9 => if x3_1 < 0 ∨ 4 ≤ Int32.toNatClampNeg x3_1 then none else Option.bind (some (xS_otherHas g8 (upd (xG_otherHas g8) (Int32.toNatClampNeg x3_1) o9))) fun g11 => Option.bind (some ((x3_1 + 1) : Int32)) fun v12 => f_X0_restingBites_L2 a1 a2 n v12 g11
def f_X0_restingBites_L65 (o1 : XS) : Nat → Int32 → Option ((Int32 × XS) ⊕ (Unit))
  | 0, _ => none
  | n + 1, x3_13 => if 4 ≤ x3_13 then some (Sum.inr ()) else if x3_13 < 0 ∨ 4 ≤ Int32.toNatClampNeg x3_13 then none else if (x3_13 ^^^ 2) < 0 ∨ 4 ≤ Int32.toNatClampNeg (x3_13 ^^^ 2) then none else if ((xG_oneHas o1) (Int32.toNatClampNeg x3_13)) < ((xG_oneHas o1) (Int32.toNatClampNeg (x3_13 ^^^ 2))) then Option.bind (some ((x3_13 + 1) : Int32)) fun v18 => f_X0_restingBites_L65 o1 n v18 else if x3_13 < 0 ∨ 4 ≤ Int32.toNatClampNeg x3_13 then none else if (x3_13 ^^^ 1) < 0 ∨ 4 ≤ Int32.toNatClampNeg (x3_13 ^^^ 1) then none else if ((xG_otherHas o1) (Int32.toNatClampNeg x3_13)) < ((xG_otherHas o1) (Int32.toNatClampNeg (x3_13 ^^^ 1))) then Option.bind (some ((x3_13 + 1) : Int32)) fun v22 => f_X0_restingBites_L65 o1 n v22 else some (Sum.inl ((((10 : Int32) * (x3_13 / 2)) + (x3_13 - x3_13 / 2 * 2)), o1))
def f_X0_restingBites (g : XS) (a1 : Int32) (a2 : Int32) : Option (Int32 × XS) := Option.bind (f_X0_restingBites_L2 a1 a2 20 0 g) fun o1 => bsR (f_X0_restingBites_L65 o1 20 0) fun t13 => some ((-9), o1)
abbrev rm_X0_restingBites : Room := ({ frames := 11, cells := 120, slots := 720, locals := 474 })
theorem cw_X0_restingBites {R : Room} {s : State} {args : Array Value} {own : String} {index : Nat} (hts : ∀ w ∈ lw_all, w.before args s = true) (hlink : Cond.methodLink own index yX0_restingBites ∈ lw_all) (hR : rm_X0_restingBites.frames + 1 ≤ R.frames ∧ 8 + (5 + 11) + rm_X0_restingBites.locals ≤ R.locals) : CallW R s args own RX0 index yX0_restingBites cX0_restingBites 5 (some FieldType.int) (ws_ yX0_restingBites cX0_restingBites 5 (some FieldType.int)) rm_X0_restingBites rm_X0_restingBites.cells rm_X0_restingBites.slots 2 :=
  cwV 2 hts (lw_V hlink q941 qs58 q102 q942) rfl rfl rfl (by decide +kernel) hR
set_option maxHeartbeats 4000000 in
theorem m_X0_restingBites (l : Launch) (D : va_G) (ax : Nat → Nat) (ac : Nat → ClassId) (g : XS) (a1 : Int32) (a2 : Int32) (sz : Nat) (r0 : Int32 × XS) (hr : f_X0_restingBites g a1 a2 = some r0) : WM l yX0_restingBites cX0_restingBites 5 (some FieldType.int) rm_X0_restingBites [.ref (ax 0), .int a1, .int a2] D ac (wX ax ac g) (wX ax ac r0.2) sz (some (.int r0.1)) := by
  refine fw_of (by decide) (Nat.le_of_ble_eq_true rfl) ?_
  intro p e s m below meth c ls hx hb hrt hts hown hlk hml _ hU hl
  obtain ⟨rfl, hP, hG, hD⟩ := hU
  have hA : ∀ q : Nat, s.heap.size ≤ q → (va_A (wX ax ac g) s.heap.size) q := fun q h => Or.inr h
  have hS := Stt.start hP hD
  show WW p l e rm_X0_restingBites s m [.ref (ax 0), .int a1, .int a2] below meth c D (wX ax ac r0.2) (va_A (wX ax ac g) s.heap.size) (some (.int r0.1)) s.heap [] 0 0 0 ls []
  have hl : lv_has ls 5 [(0, .ref (ax 0)), (1, .int a1), (2, .int a2)] := hl
  rw [f_X0_restingBites] at hr
  refine lv_iconst (v := 0) hx hb dX0_restingBites_0 rfl ?_
  refine lv_istore_n (lv' := [(3, .int 0), (0, .ref (ax 0)), (1, .int a1), (2, .int a2)]) hx hb dX0_restingBites_1 rfl hl (by decide) rfl (fun ls hl => ?_)
  have L1 : ∀ (n : Nat) (x3_1 : Int32) (g_1 : XS) (o1 : XS), f_X0_restingBites_L2 a1 a2 n x3_1 g_1 = some o1 → n ≤ 20 → ∀ (H : Heap) (locs : List Loc) ls, lv_has ls 5 [(3, .int x3_1), (0, .ref (ax 0)), (1, .int a1), (2, .int a2)] → Stt D (va_A (wX ax ac g) s.heap.size) s.heap (wX ax ac g_1) H locs → (∀ (H : Heap) (locs : List Loc) ls, lv_has ls 5 [(0, .ref (ax 0))] → Stt D (va_A (wX ax ac g) s.heap.size) s.heap (wX ax ac o1) H locs → WW p l e rm_X0_restingBites s m [.ref (ax 0), .int a1, .int a2] below meth c D (wX ax ac r0.2) (va_A (wX ax ac g) s.heap.size) (some (.int r0.1)) H locs 120 720 63 ls []) → WW p l e rm_X0_restingBites s m [.ref (ax 0), .int a1, .int a2] below meth c D (wX ax ac r0.2) (va_A (wX ax ac g) s.heap.size) (some (.int r0.1)) H locs ((120 - n * 6) + 0) ((720 - n * 36) + 0) 2 ls [] := by
    intro n
    induction n with
    | zero => intro x3_1 g_1 o1 hr; rw [f_X0_restingBites_L2] at hr; cases hr
    | succ n ih =>
      intro x3_1 g_1 o1 hr hn_ H locs ls hl hS kx
      have hP := hS.1
      rw [f_X0_restingBites_L2] at hr
      refine lv_iload_n hx hb dX0_restingBites_2 rfl (lv_at hl 0 rfl) ?_
      refine lv_iconst (v := 4) hx hb dX0_restingBites_3 rfl ?_
      have hi2 := br_ite hr
      refine lv_icmp_ge (tgt := 63) hx hb dX0_restingBites_4 (by decide) (fun c2 => ?_) (fun c2 => ?_)
      · have hr := hi2.1 c2
        refine W.widen (k := 120) (n := 720) (by first | exact Nat.le_of_ble_eq_true rfl | omega) (by first | exact Nat.le_of_ble_eq_true rfl | omega) ?_
        obtain rfl := Option.some.inj hr
        exact kx _ _ ls (lv_sub hl [1] rfl) hS
      · have hr := hi2.2 c2
        refine lv_aload_n hx hb dX0_restingBites_7 rfl (lv_at hl 1 rfl) ?_
        obtain ⟨o3, ho3, hr⟩ := br_bind hr
        refine fwWVs (As := []) (rest := []) (C := RX0) hx hb hml hown hts (m_X0_openMind l D ax ac g_1 _ o3 ho3) (cw_X0_openMind hts q818 ⟨Nat.le_of_ble_eq_true rfl, Nat.le_of_ble_eq_true rfl⟩) hG hS hA rfl 0 0 rfl rfl rfl hl.1 rfl (Nat.le_of_ble_eq_true rfl) dX0_restingBites_8 ⟨by dsimp only [rm_X0_restingBites, rm_X0_biteAs, rm_X0_openMind, rm_X8_shareOf]; omega, by dsimp only [rm_X0_restingBites, rm_X0_biteAs, rm_X0_openMind, rm_X8_shareOf]; omega⟩ (fun H locs hS => ?_)
        have hP := hS.1
        refine lv_astore (lv' := [(4, .ref (ax 4)), (3, .int x3_1), (0, .ref (ax 0)), (1, .int a1), (2, .int a2)]) hx hb dX0_restingBites_11 hl (by decide) rfl (fun ls hl => ?_)
        refine lv_aload_n hx hb dX0_restingBites_13 rfl (lv_at hl 2 rfl) ?_
        refine lv_aload hx hb dX0_restingBites_14 (lv_at hl 0 rfl) ?_
        refine lv_iload_n hx hb dX0_restingBites_16 rfl (lv_at hl 3 rfl) ?_
        refine lv_iload_n hx hb dX0_restingBites_17 rfl (lv_at hl 1 rfl) ?_
        refine lv_iconst (v := 2) hx hb dX0_restingBites_18 rfl ?_
        refine lv_idiv hx hb dX0_restingBites_19 (by decide) ?_
        obtain ⟨o4, ho4, hr⟩ := br_bind hr
        refine fwWVs (As := [.ref (ax 4), .int a1, .int (x3_1 / 2)]) (rest := []) (C := RX0) hx hb hml hown hts (m_X0_biteAs l D ax ac o3 a1 (x3_1 / 2) _ o4 ho4) (cw_X0_biteAs hts q943 ⟨Nat.le_of_ble_eq_true rfl, Nat.le_of_ble_eq_true rfl⟩) hG hS hA rfl 0 0 rfl rfl rfl hl.1 rfl (Nat.le_of_ble_eq_true rfl) dX0_restingBites_20 ⟨by dsimp only [rm_X0_restingBites, rm_X0_biteAs, rm_X0_openMind, rm_X8_shareOf]; omega, by dsimp only [rm_X0_restingBites, rm_X0_biteAs, rm_X0_openMind, rm_X8_shareOf]; omega⟩ (fun H locs hS => ?_)
        have hP := hS.1
        refine W.widen (k := ((120 - (n + 1) * 6) + 3)) (n := ((720 - (n + 1) * 36) + 18)) (by first | exact Nat.le_refl _ | (dsimp only [rm_X0_biteAs]; omega)) (by first | exact Nat.le_refl _ | (dsimp only [rm_X0_biteAs]; omega)) ?_
        refine lv_aload_n hx hb dX0_restingBites_23 rfl (lv_at hl 2 rfl) ?_
        refine lv_aload hx hb dX0_restingBites_24 (lv_at hl 0 rfl) ?_
        refine lv_iload_n hx hb dX0_restingBites_26 rfl (lv_at hl 4 rfl) ?_
        refine lv_iload_n hx hb dX0_restingBites_27 rfl (lv_at hl 1 rfl) ?_
        refine lv_iconst (v := 2) hx hb dX0_restingBites_28 rfl ?_
        refine lv_irem hx hb dX0_restingBites_29 (by decide) ?_
        obtain ⟨o5, ho5, hr⟩ := br_bind hr
        refine fwWVs (As := [.ref (ax 4), .int a2, .int (x3_1 - x3_1 / 2 * 2)]) (rest := []) (C := RX0) hx hb hml hown hts (m_X0_biteAs l D ax ac o4 a2 (x3_1 - x3_1 / 2 * 2) _ o5 ho5) (cw_X0_biteAs hts q943 ⟨Nat.le_of_ble_eq_true rfl, Nat.le_of_ble_eq_true rfl⟩) hG hS hA rfl 0 0 rfl rfl rfl hl.1 rfl (Nat.le_of_ble_eq_true rfl) dX0_restingBites_30 ⟨by dsimp only [rm_X0_restingBites, rm_X0_biteAs, rm_X0_openMind, rm_X8_shareOf]; omega, by dsimp only [rm_X0_restingBites, rm_X0_biteAs, rm_X0_openMind, rm_X8_shareOf]; omega⟩ (fun H locs hS => ?_)
        have hP := hS.1
        refine W.widen (k := ((120 - (n + 1) * 6) + 6)) (n := ((720 - (n + 1) * 36) + 36)) (by first | exact Nat.le_refl _ | (dsimp only [rm_X0_biteAs]; omega)) (by first | exact Nat.le_refl _ | (dsimp only [rm_X0_biteAs]; omega)) ?_
        refine lv_aload_n hx hb dX0_restingBites_33 rfl (lv_at hl 2 rfl) ?_
        refine va_get (D := D) (ci := 0) (v := .ref (ax 24)) (C := RX0) (T := TX0) (N := 17) hx hb hts in_X0 hown hG.1 hP 0 rfl rfl 14 (by decide) (hts _ q249) (fun _ h9 => h9) rfl dX0_restingBites_34 ?_
        refine lv_iload_n hx hb dX0_restingBites_37 rfl (lv_at hl 1 rfl) ?_
        refine lv_aload hx hb dX0_restingBites_38 (lv_at hl 0 rfl) ?_
        refine lv_iload_n hx hb dX0_restingBites_40 rfl (lv_at hl 3 rfl) ?_
        obtain ⟨o6, ho6, hr⟩ := br_bind hr
        refine fwRV (As := [.int a1]) (rest := [.int x3_1, .ref (ax 24)]) (C := RX8) hx hb hml hown hts (m_X8_shareOf l D ax ac (ax 4) (ax 5) (ax 6) (xG_mind o5) a1 o6 ho6) (cw_X8_shareOf hts q684 ⟨Nat.le_of_ble_eq_true rfl, Nat.le_of_ble_eq_true rfl⟩) hG hP (hP.pick [4, 5, 6, 11, 12, 13, 14, 15, 16] rfl) 4 7 rfl rfl rfl hl.1 rfl (Nat.le_of_ble_eq_true rfl) dX0_restingBites_41 ⟨by dsimp only [rm_X0_restingBites, rm_X0_biteAs, rm_X0_openMind, rm_X8_shareOf]; omega, by dsimp only [rm_X0_restingBites, rm_X0_biteAs, rm_X0_openMind, rm_X8_shareOf]; omega⟩ ?_
        obtain ⟨c7, hr⟩ := br_none hr
        obtain ⟨g8, hg8, hr⟩ := br_let hr
        refine fw_iast hx hb hG hS 24 rfl c7 dX0_restingBites_44 (wn := wX ax ac g8) (by rw [hg8]; rfl) (fun H locs hS => ?_)
        have hP := hS.1
        refine lv_aload_n hx hb dX0_restingBites_45 rfl (lv_at hl 2 rfl) ?_
        refine va_get (D := D) (ci := 0) (v := .ref (ax 25)) (C := RX0) (T := TX0) (N := 17) hx hb hts in_X0 hown hG.1 hP 0 rfl rfl 15 (by decide) (hts _ q250) (fun _ h9 => h9) rfl dX0_restingBites_46 ?_
        refine lv_iload_n hx hb dX0_restingBites_49 rfl (lv_at hl 1 rfl) ?_
        refine lv_aload hx hb dX0_restingBites_50 (lv_at hl 0 rfl) ?_
        refine lv_iload_n hx hb dX0_restingBites_52 rfl (lv_at hl 4 rfl) ?_
        obtain ⟨o9, ho9, hr⟩ := br_bind hr
        refine fwRV (As := [.int a2]) (rest := [.int x3_1, .ref (ax 25)]) (C := RX8) hx hb hml hown hts (m_X8_shareOf l D ax ac (ax 4) (ax 5) (ax 6) (xG_mind g8) a2 o9 ho9) (cw_X8_shareOf hts q684 ⟨Nat.le_of_ble_eq_true rfl, Nat.le_of_ble_eq_true rfl⟩) hG hP (hP.pick [4, 5, 6, 11, 12, 13, 14, 15, 16] rfl) 4 7 rfl rfl rfl hl.1 rfl (Nat.le_of_ble_eq_true rfl) dX0_restingBites_53 ⟨by dsimp only [rm_X0_restingBites, rm_X0_biteAs, rm_X0_openMind, rm_X8_shareOf]; omega, by dsimp only [rm_X0_restingBites, rm_X0_biteAs, rm_X0_openMind, rm_X8_shareOf]; omega⟩ ?_
        obtain ⟨c10, hr⟩ := br_none hr
        obtain ⟨g11, hg11, hr⟩ := br_let hr
        refine fw_iast hx hb hG hS 25 rfl c10 dX0_restingBites_56 (wn := wX ax ac g11) (by rw [hg11]; rfl) (fun H locs hS => ?_)
        have hP := hS.1
        obtain ⟨v12, hv12, hr⟩ := br_let hr
        refine lv_iinc (v := v12) (lv' := [(3, .int v12), (4, .ref (ax 4)), (0, .ref (ax 0)), (1, .int a1), (2, .int a2)]) hx hb dX0_restingBites_57 hl (k := 1) rfl (hv12 ▸ rfl) (by decide) rfl (fun ls hl => ?_)
        refine lv_goto (tgt := 2) hx hb dX0_restingBites_60 (by decide) ?_
        refine W.widen (k := ((120 - n * 6) + 0)) (n := ((720 - n * 36) + 0)) (by first | exact Nat.le_of_ble_eq_true rfl | omega) (by first | exact Nat.le_of_ble_eq_true rfl | omega) ?_
        exact ih v12 g11 _ hr (by omega) _ _ ls (lv_sub hl [0, 2, 3, 4] rfl) hS kx
  obtain ⟨o1, ho1, hr⟩ := br_bind hr
  refine L1 20 0 g o1 ho1 (Nat.le_refl _) _ _ ls (lv_sub hl [0, 1, 2, 3] rfl) hS (fun H locs ls hl hS => ?_)
  have hP := hS.1
  refine lv_iconst (v := 0) hx hb dX0_restingBites_63 rfl ?_
  refine lv_istore_n (lv' := [(3, .int 0), (0, .ref (ax 0))]) hx hb dX0_restingBites_64 rfl hl (by decide) rfl (fun ls hl => ?_)
  have L13 : ∀ (n : Nat) (x3_13 : Int32) (o13 : (Int32 × XS) ⊕ (Unit)), f_X0_restingBites_L65 o1 n x3_13 = some o13 → (∀ r, o13 = Sum.inl r → some r = some r0) → ∀ (H : Heap) (locs : List Loc) ls, lv_has ls 5 [(3, .int x3_13), (0, .ref (ax 0))] → Stt D (va_A (wX ax ac g) s.heap.size) s.heap (wX ax ac o1) H locs → (∀ t13, o13 = Sum.inr t13 → ∀ (H : Heap) (locs : List Loc) ls, lv_has ls 5 [] → Stt D (va_A (wX ax ac g) s.heap.size) s.heap (wX ax ac o1) H locs → WW p l e rm_X0_restingBites s m [.ref (ax 0), .int a1, .int a2] below meth c D (wX ax ac r0.2) (va_A (wX ax ac g) s.heap.size) (some (.int r0.1)) H locs 120 720 121 ls []) → WW p l e rm_X0_restingBites s m [.ref (ax 0), .int a1, .int a2] below meth c D (wX ax ac r0.2) (va_A (wX ax ac g) s.heap.size) (some (.int r0.1)) H locs 120 720 65 ls [] := by
    intro n
    induction n with
    | zero => intro x3_13 o13 hr; rw [f_X0_restingBites_L65] at hr; cases hr
    | succ n ih =>
      intro x3_13 o13 hr hret H locs ls hl hS kx
      have hP := hS.1
      rw [f_X0_restingBites_L65] at hr
      refine lv_iload_n hx hb dX0_restingBites_65 rfl (lv_at hl 0 rfl) ?_
      refine lv_iconst (v := 4) hx hb dX0_restingBites_66 rfl ?_
      have hi14 := br_ite hr
      refine lv_icmp_ge (tgt := 121) hx hb dX0_restingBites_67 (by decide) (fun c14 => ?_) (fun c14 => ?_)
      · have hr := hi14.1 c14
        exact kx _ (Option.some.inj hr).symm _ _ ls (lv_sub hl [] rfl) hS
      · have hr := hi14.2 c14
        refine lv_aload_n hx hb dX0_restingBites_70 rfl (lv_at hl 1 rfl) ?_
        refine va_get (D := D) (ci := 0) (v := .ref (ax 24)) (C := RX0) (T := TX0) (N := 17) hx hb hts in_X0 hown hG.1 hP 0 rfl rfl 14 (by decide) (hts _ q249) (fun _ h9 => h9) rfl dX0_restingBites_71 ?_
        refine lv_iload_n hx hb dX0_restingBites_74 rfl (lv_at hl 0 rfl) ?_
        obtain ⟨c15, hr⟩ := br_none hr
        refine va_iald hx hb hG.1 hP 24 0 rfl rfl c15 dX0_restingBites_75 ?_
        refine lv_aload_n hx hb dX0_restingBites_76 rfl (lv_at hl 1 rfl) ?_
        refine va_get (D := D) (ci := 0) (v := .ref (ax 24)) (C := RX0) (T := TX0) (N := 17) hx hb hts in_X0 hown hG.1 hP 0 rfl rfl 14 (by decide) (hts _ q249) (fun _ h9 => h9) rfl dX0_restingBites_77 ?_
        refine lv_iload_n hx hb dX0_restingBites_80 rfl (lv_at hl 0 rfl) ?_
        refine lv_iconst (v := 2) hx hb dX0_restingBites_81 rfl ?_
        refine lv_ixor hx hb dX0_restingBites_82 ?_
        obtain ⟨c16, hr⟩ := br_none hr
        refine va_iald hx hb hG.1 hP 24 0 rfl rfl c16 dX0_restingBites_83 ?_
        have hi17 := br_ite hr
        refine lv_icmp_lt (tgt := 115) hx hb dX0_restingBites_84 (by decide) (fun c17 => ?_) (fun c17 => ?_)
        · have hr := hi17.1 c17
          obtain ⟨v18, hv18, hr⟩ := br_let hr
          refine lv_iinc (v := v18) (lv' := [(3, .int v18), (0, .ref (ax 0))]) hx hb dX0_restingBites_115 hl (k := 0) rfl (hv18 ▸ rfl) (by decide) rfl (fun ls hl => ?_)
          refine lv_goto (tgt := 65) hx hb dX0_restingBites_118 (by decide) ?_
          exact ih v18 _ hr hret _ _ ls (lv_sub hl [0, 1] rfl) hS kx
        · have hr := hi17.2 c17
          refine lv_aload_n hx hb dX0_restingBites_87 rfl (lv_at hl 1 rfl) ?_
          refine va_get (D := D) (ci := 0) (v := .ref (ax 25)) (C := RX0) (T := TX0) (N := 17) hx hb hts in_X0 hown hG.1 hP 0 rfl rfl 15 (by decide) (hts _ q250) (fun _ h9 => h9) rfl dX0_restingBites_88 ?_
          refine lv_iload_n hx hb dX0_restingBites_91 rfl (lv_at hl 0 rfl) ?_
          obtain ⟨c19, hr⟩ := br_none hr
          refine va_iald hx hb hG.1 hP 25 0 rfl rfl c19 dX0_restingBites_92 ?_
          refine lv_aload_n hx hb dX0_restingBites_93 rfl (lv_at hl 1 rfl) ?_
          refine va_get (D := D) (ci := 0) (v := .ref (ax 25)) (C := RX0) (T := TX0) (N := 17) hx hb hts in_X0 hown hG.1 hP 0 rfl rfl 15 (by decide) (hts _ q250) (fun _ h9 => h9) rfl dX0_restingBites_94 ?_
          refine lv_iload_n hx hb dX0_restingBites_97 rfl (lv_at hl 0 rfl) ?_
          refine lv_iconst (v := 1) hx hb dX0_restingBites_98 rfl ?_
          refine lv_ixor hx hb dX0_restingBites_99 ?_
          obtain ⟨c20, hr⟩ := br_none hr
          refine va_iald hx hb hG.1 hP 25 0 rfl rfl c20 dX0_restingBites_100 ?_
          have hi21 := br_ite hr
          refine lv_icmp_lt (tgt := 115) hx hb dX0_restingBites_101 (by decide) (fun c21 => ?_) (fun c21 => ?_)
          · have hr := hi21.1 c21
            obtain ⟨v22, hv22, hr⟩ := br_let hr
            refine lv_iinc (v := v22) (lv' := [(3, .int v22), (0, .ref (ax 0))]) hx hb dX0_restingBites_115 hl (k := 0) rfl (hv22 ▸ rfl) (by decide) rfl (fun ls hl => ?_)
            refine lv_goto (tgt := 65) hx hb dX0_restingBites_118 (by decide) ?_
            exact ih v22 _ hr hret _ _ ls (lv_sub hl [0, 1] rfl) hS kx
          · have hr := hi21.2 c21
            refine lv_bipush (v := 10) hx hb dX0_restingBites_104 rfl ?_
            refine lv_iload_n hx hb dX0_restingBites_106 rfl (lv_at hl 0 rfl) ?_
            refine lv_iconst (v := 2) hx hb dX0_restingBites_107 rfl ?_
            refine lv_idiv hx hb dX0_restingBites_108 (by decide) ?_
            refine lv_imul hx hb dX0_restingBites_109 ?_
            refine lv_iload_n hx hb dX0_restingBites_110 rfl (lv_at hl 0 rfl) ?_
            refine lv_iconst (v := 2) hx hb dX0_restingBites_111 rfl ?_
            refine lv_irem hx hb dX0_restingBites_112 (by decide) ?_
            refine lv_iadd hx hb dX0_restingBites_113 ?_
            have hr := hret _ (Option.some.inj hr).symm
            obtain rfl := Option.some.inj hr
            refine W.widen (k := rm_X0_restingBites.cells) (n := rm_X0_restingBites.slots) (Nat.le_of_ble_eq_true rfl) (Nat.le_of_ble_eq_true rfl) ?_
            exact W.iret hx hb hrt (fun t ht _ => hS.q ht rfl) hS.2.2.2.2 dX0_restingBites_114 hlk
  obtain ⟨o13, ho13, hl13, hk13⟩ := br_bsR hr
  refine L13 20 0 o13 ho13 (fun r hq => hl13 r hq) _ _ ls (lv_sub hl [0, 1] rfl) hS (fun t13 hq13 H locs ls hl hS => ?_)
  have hP := hS.1
  have hr := hk13 t13 hq13
  refine lv_bipush (v := (-9)) hx hb dX0_restingBites_121 rfl ?_
  obtain rfl := Option.some.inj hr
  refine W.widen (k := rm_X0_restingBites.cells) (n := rm_X0_restingBites.slots) (Nat.le_of_ble_eq_true rfl) (Nat.le_of_ble_eq_true rfl) ?_
  exact W.iret hx hb hrt (fun t ht _ => hS.q ht rfl) hS.2.2.2.2 dX0_restingBites_123 hlk
def f_X0_manyWays_L35 (a2 : Int32) (a3 : Int32) (a4 : Int32) (a5 : Int32) (rec_ : XS → Int32 → Int32 → Int32 → Int32 → Option (Int64 × XS)) : Nat → Int32 → Int64 → XS → Option (Int64 × XS)
  | 0, _, _, _ => none
  | n + 1, x8_7, x6_7, g_7 => if 25 ≤ x8_7 then some (x6_7, g_7) else Option.bind (f_X0_has a2 x8_7) fun o9 => if o9 = 0 then Option.bind (some ((x6_7 + 0) : Int64)) fun v11 => Option.bind (some ((x8_7 + 1) : Int32)) fun v12 => f_X0_manyWays_L35 a2 a3 a4 a5 rec_ n v12 v11 g_7 else Option.bind (rec_ g_7 (a2 &&& (((1 : Int32) <<< (x8_7 &&& 31)) ^^^ (-1))) (a3 - 1) a4 a5) fun o13 => Option.bind (some ((x6_7 + o13.1) : Int64)) fun v14 => Option.bind (some ((x8_7 + 1) : Int32)) fun v15 => f_X0_manyWays_L35 a2 a3 a4 a5 rec_ n v15 v14 o13.2
def f_X0_manyWays : Nat → XS → Int32 → Int32 → Int32 → Int32 → Option (Int64 × XS)
  | 0, _, _, _, _, _ => none
  | d_ + 1, g, a2, a3, a4, a5 => if a3 = 0 then Option.bind (f_X8_leave (xG_mind g) a2) fun o2 => Option.bind (some (xS_mind g o2)) fun g3 => Option.bind (f_X8_shareOf (xG_mind g3) a4) fun o4 => if o4 < a5 then some (0, g3) else some (1, g3) else if a2 = 0 then Option.bind (f_X8_leave (xG_mind g) a2) fun o16 => Option.bind (some (xS_mind g o16)) fun g17 => Option.bind (f_X8_shareOf (xG_mind g17) a4) fun o18 => if o18 < a5 then some (0, g17) else some (1, g17) else Option.bind (f_X0_manyWays_L35 a2 a3 a4 a5 (f_X0_manyWays d_) 1000 0 0 g) fun o7 => some (o7.1, o7.2)
abbrev rm_X0_manyWays (d : Nat) : Room := ({ frames := 9 + d, cells := 0, slots := 0, locals := 421 + d * 28 })
theorem cw_X0_manyWays (d : Nat) {R : Room} {s : State} {args : Array Value} {own : String} {index : Nat} (hts : ∀ w ∈ lw_all, w.before args s = true) (hlink : Cond.methodLink own index yX0_manyWays ∈ lw_all) (hR : (rm_X0_manyWays d).frames + 1 ≤ R.frames ∧ 8 + (9 + 11) + (rm_X0_manyWays d).locals ≤ R.locals) : CallW R s args own RX0 index yX0_manyWays cX0_manyWays 9 (some FieldType.long) (ws_ yX0_manyWays cX0_manyWays 9 (some FieldType.long)) (rm_X0_manyWays d) (rm_X0_manyWays d).cells (rm_X0_manyWays d).slots 5 :=
  cwV 5 hts (lw_V hlink q1118 qs72 q102 q1119) rfl rfl rfl (by decide +kernel) hR
set_option maxHeartbeats 4000000 in
theorem m_X0_manyWays (l : Launch) (D : va_G) (ax : Nat → Nat) (ac : Nat → ClassId) : ∀ (d_ : Nat) (g : XS) (a2 : Int32) (a3 : Int32) (a4 : Int32) (a5 : Int32) (sz : Nat) (r0 : Int64 × XS) (hr : f_X0_manyWays d_ g a2 a3 a4 a5 = some r0),  WM l yX0_manyWays cX0_manyWays 9 (some FieldType.long) (rm_X0_manyWays d_) [.ref (ax 0), .ref (ax 4), .int a2, .int a3, .int a4, .int a5] D ac (wX ax ac g) (wX ax ac r0.2) sz (some (.long r0.1)) := by
  intro d_
  induction d_ with
  | zero => intro g a2 a3 a4 a5 sz r0 hr; rw [f_X0_manyWays] at hr; cases hr
  | succ d_ ihr =>
  intro g a2 a3 a4 a5 sz r0 hr
  refine fw_of (by decide) (Nat.le_of_ble_eq_true rfl) ?_
  intro p e s m below meth c ls hx hb hrt hts hown hlk hml _ hU hl
  obtain ⟨rfl, hP, hG, hD⟩ := hU
  have hA : ∀ q : Nat, s.heap.size ≤ q → (va_A (wX ax ac g) s.heap.size) q := fun q h => Or.inr h
  have hS := Stt.start hP hD
  show WW p l e (rm_X0_manyWays (d_ + 1)) s m [.ref (ax 0), .ref (ax 4), .int a2, .int a3, .int a4, .int a5] below meth c D (wX ax ac r0.2) (va_A (wX ax ac g) s.heap.size) (some (.long r0.1)) s.heap [] 0 0 0 ls []
  have hl : lv_has ls 9 [(0, .ref (ax 0)), (1, .ref (ax 4)), (2, .int a2), (3, .int a3), (4, .int a4), (5, .int a5)] := hl
  rw [f_X0_manyWays] at hr
  refine lv_iload_n hx hb dX0_manyWays_0 rfl (lv_at hl 3 rfl) ?_
  have hi1 := br_ite hr
  refine lv_if_eq (tgt := 8) hx hb dX0_manyWays_1 (by decide) (fun c1 => ?_) (fun c1 => ?_)
  · have hr := hi1.1 c1
    refine lv_aload_n hx hb dX0_manyWays_8 rfl (lv_at hl 1 rfl) ?_
    refine lv_iload_n hx hb dX0_manyWays_9 rfl (lv_at hl 2 rfl) ?_
    obtain ⟨o2, ho2, hr⟩ := br_bind hr
    obtain ⟨g3, hg3, hr⟩ := br_let hr
    refine fwWV (As := [.int a2]) (rest := []) (C := RX8) hx hb hml hown hts (m_X8_leave l D ax ac (ax 4) (ax 5) (ax 6) (xG_mind g) a2 _ o2 ho2) (cw_X8_leave hts q748 ⟨by dsimp only [rm_X0_manyWays, rm_X0_has, rm_X8_leave, rm_X8_shareOf]; omega, by dsimp only [rm_X0_manyWays, rm_X0_has, rm_X8_leave, rm_X8_shareOf]; omega⟩) hG hS hA [4, 5, 6] rfl rfl rfl 4 7 rfl rfl rfl hl.1 rfl (Nat.le_of_ble_eq_true rfl) dX0_manyWays_10 ⟨Nat.zero_le _, Nat.zero_le _⟩ (wn := wX ax ac g3) (by rw [hg3]; rfl) (fun H locs hS => ?_)
    have hP := hS.1
    refine lv_iload hx hb dX0_manyWays_13 (lv_at hl 4 rfl) ?_
    obtain ⟨o4, ho4, hr⟩ := br_bind hr
    refine fwRV (As := [.int a4]) (rest := []) (C := RX8) hx hb hml hown hts (m_X8_shareOf l D ax ac (ax 4) (ax 5) (ax 6) (xG_mind g3) a4 o4 ho4) (cw_X8_shareOf hts q684 ⟨by dsimp only [rm_X0_manyWays, rm_X0_has, rm_X8_leave, rm_X8_shareOf]; omega, by dsimp only [rm_X0_manyWays, rm_X0_has, rm_X8_leave, rm_X8_shareOf]; omega⟩) hG hP (hP.pick [4, 5, 6, 11, 12, 13, 14, 15, 16] rfl) 4 7 rfl rfl rfl hl.1 rfl (Nat.le_of_ble_eq_true rfl) dX0_manyWays_15 ⟨Nat.zero_le _, Nat.zero_le _⟩ ?_
    refine lv_iload hx hb dX0_manyWays_18 (lv_at hl 5 rfl) ?_
    have hi5 := br_ite hr
    refine lv_icmp_lt (tgt := 27) hx hb dX0_manyWays_20 (by decide) (fun c5 => ?_) (fun c5 => ?_)
    · have hr := hi5.1 c5
      refine lv_lconst (v := 0) hx hb dX0_manyWays_27 rfl ?_
      obtain rfl := Option.some.inj hr
      refine W.widen (k := (rm_X0_manyWays (d_ + 1)).cells) (n := (rm_X0_manyWays (d_ + 1)).slots) (Nat.le_of_ble_eq_true rfl) (Nat.le_of_ble_eq_true rfl) ?_
      exact W.lret hx hb hrt (fun t ht _ => hS.q ht rfl) hS.2.2.2.2 dX0_manyWays_28 hlk
    · have hr := hi5.2 c5
      refine lv_lconst (v := 1) hx hb dX0_manyWays_23 rfl ?_
      refine lv_goto (tgt := 28) hx hb dX0_manyWays_24 (by decide) ?_
      obtain rfl := Option.some.inj hr
      refine W.widen (k := (rm_X0_manyWays (d_ + 1)).cells) (n := (rm_X0_manyWays (d_ + 1)).slots) (Nat.le_of_ble_eq_true rfl) (Nat.le_of_ble_eq_true rfl) ?_
      exact W.lret hx hb hrt (fun t ht _ => hS.q ht rfl) hS.2.2.2.2 dX0_manyWays_28 hlk
  · have hr := hi1.2 c1
    refine lv_iload_n hx hb dX0_manyWays_4 rfl (lv_at hl 2 rfl) ?_
    have hi6 := br_ite hr
    refine lv_if_ne (tgt := 29) hx hb dX0_manyWays_5 (by decide) (fun c6 => ?_) (fun c6 => ?_)
    · have hr := hi6.2 c6
      refine lv_lconst (v := 0) hx hb dX0_manyWays_29 rfl ?_
      refine lv_lstore (lv' := [(6, .long 0), (0, .ref (ax 0)), (1, .ref (ax 4)), (2, .int a2), (3, .int a3), (4, .int a4), (5, .int a5)]) hx hb dX0_manyWays_30 hl (by decide) rfl (fun ls hl => ?_)
      refine lv_iconst (v := 0) hx hb dX0_manyWays_32 rfl ?_
      refine lv_istore (lv' := [(8, .int 0), (6, .long 0), (0, .ref (ax 0)), (1, .ref (ax 4)), (2, .int a2), (3, .int a3), (4, .int a4), (5, .int a5)]) hx hb dX0_manyWays_33 hl (by decide) rfl (fun ls hl => ?_)
      have L7 : ∀ (n : Nat) (x8_7 : Int32) (x6_7 : Int64) (g_7 : XS) (o7 : Int64 × XS), f_X0_manyWays_L35 a2 a3 a4 a5 (f_X0_manyWays d_) n x8_7 x6_7 g_7 = some o7 → ∀ (H : Heap) (locs : List Loc) ls, lv_has ls 9 [(8, .int x8_7), (6, .long x6_7), (0, .ref (ax 0)), (1, .ref (ax 4)), (2, .int a2), (3, .int a3), (4, .int a4), (5, .int a5)] → Stt D (va_A (wX ax ac g) s.heap.size) s.heap (wX ax ac g_7) H locs → (∀ (H : Heap) (locs : List Loc) ls, lv_has ls 9 [(6, .long o7.1)] → Stt D (va_A (wX ax ac g) s.heap.size) s.heap (wX ax ac o7.2) H locs → WW p l e (rm_X0_manyWays (d_ + 1)) s m [.ref (ax 0), .ref (ax 4), .int a2, .int a3, .int a4, .int a5] below meth c D (wX ax ac r0.2) (va_A (wX ax ac g) s.heap.size) (some (.long r0.1)) H locs 0 0 86 ls []) → WW p l e (rm_X0_manyWays (d_ + 1)) s m [.ref (ax 0), .ref (ax 4), .int a2, .int a3, .int a4, .int a5] below meth c D (wX ax ac r0.2) (va_A (wX ax ac g) s.heap.size) (some (.long r0.1)) H locs 0 0 35 ls [] := by
        intro n
        induction n with
        | zero => intro x8_7 x6_7 g_7 o7 hr; rw [f_X0_manyWays_L35] at hr; cases hr
        | succ n ih =>
          intro x8_7 x6_7 g_7 o7 hr H locs ls hl hS kx
          have hP := hS.1
          rw [f_X0_manyWays_L35] at hr
          refine lv_iload hx hb dX0_manyWays_35 (lv_at hl 0 rfl) ?_
          refine lv_bipush (v := 25) hx hb dX0_manyWays_37 rfl ?_
          have hi8 := br_ite hr
          refine lv_icmp_ge (tgt := 86) hx hb dX0_manyWays_39 (by decide) (fun c8 => ?_) (fun c8 => ?_)
          · have hr := hi8.1 c8
            obtain rfl := Option.some.inj hr
            exact kx _ _ ls (lv_sub hl [1] rfl) hS
          · have hr := hi8.2 c8
            refine lv_lload hx hb dX0_manyWays_42 (lv_at hl 1 rfl) ?_
            refine lv_iload_n hx hb dX0_manyWays_44 rfl (lv_at hl 4 rfl) ?_
            refine lv_iload hx hb dX0_manyWays_45 (lv_at hl 0 rfl) ?_
            obtain ⟨o9, ho9, hr⟩ := br_bind hr
            refine fwS (As := [.int a2, .int x8_7]) (rest := [.long x6_7]) hx hb hml hown hts (m_X0_has l a2 x8_7 o9 ho9) (cw_X0_has hts q594 ⟨by dsimp only [rm_X0_manyWays, rm_X0_has, rm_X8_leave, rm_X8_shareOf]; omega, by dsimp only [rm_X0_manyWays, rm_X0_has, rm_X8_leave, rm_X8_shareOf]; omega⟩) rfl hl.1 rfl (Nat.le_of_ble_eq_true rfl) dX0_manyWays_47 ⟨Nat.zero_le _, Nat.zero_le _⟩ ?_
            have hi10 := br_ite hr
            refine lv_if_eq (tgt := 76) hx hb dX0_manyWays_50 (by decide) (fun c10 => ?_) (fun c10 => ?_)
            · have hr := hi10.1 c10
              refine lv_lconst (v := 0) hx hb dX0_manyWays_76 rfl ?_
              refine lv_ladd hx hb dX0_manyWays_77 ?_
              refine lv_topl (fun v11 hv11 => ?_)
              have hr := br_letv hr hv11
              refine lv_lstore (lv' := [(6, .long v11), (8, .int x8_7), (0, .ref (ax 0)), (1, .ref (ax 4)), (2, .int a2), (3, .int a3), (4, .int a4), (5, .int a5)]) hx hb dX0_manyWays_78 hl (by decide) rfl (fun ls hl => ?_)
              obtain ⟨v12, hv12, hr⟩ := br_let hr
              refine lv_iinc (v := v12) (lv' := [(8, .int v12), (6, .long v11), (0, .ref (ax 0)), (1, .ref (ax 4)), (2, .int a2), (3, .int a3), (4, .int a4), (5, .int a5)]) hx hb dX0_manyWays_80 hl (k := 1) rfl (hv12 ▸ rfl) (by decide) rfl (fun ls hl => ?_)
              refine lv_goto (tgt := 35) hx hb dX0_manyWays_83 (by decide) ?_
              exact ih v12 v11 g_7 _ hr _ _ ls (lv_sub hl [0, 1, 2, 3, 4, 5, 6, 7] rfl) hS kx
            · have hr := hi10.2 c10
              refine lv_aload_n hx hb dX0_manyWays_53 rfl (lv_at hl 2 rfl) ?_
              refine lv_aload_n hx hb dX0_manyWays_54 rfl (lv_at hl 3 rfl) ?_
              refine lv_iload_n hx hb dX0_manyWays_55 rfl (lv_at hl 4 rfl) ?_
              refine lv_iconst (v := 1) hx hb dX0_manyWays_56 rfl ?_
              refine lv_iload hx hb dX0_manyWays_57 (lv_at hl 0 rfl) ?_
              refine lv_ishl hx hb dX0_manyWays_59 ?_
              refine lv_iconst (v := (-1)) hx hb dX0_manyWays_60 rfl ?_
              refine lv_ixor hx hb dX0_manyWays_61 ?_
              refine lv_iand hx hb dX0_manyWays_62 ?_
              refine lv_iload_n hx hb dX0_manyWays_63 rfl (lv_at hl 5 rfl) ?_
              refine lv_iconst (v := 1) hx hb dX0_manyWays_64 rfl ?_
              refine lv_isub hx hb dX0_manyWays_65 ?_
              refine lv_iload hx hb dX0_manyWays_66 (lv_at hl 6 rfl) ?_
              refine lv_iload hx hb dX0_manyWays_68 (lv_at hl 7 rfl) ?_
              obtain ⟨o13, ho13, hr⟩ := br_bind hr
              refine fwWVs (As := [.ref (ax 4), .int (a2 &&& (((1 : Int32) <<< (x8_7 &&& 31)) ^^^ (-1))), .int (a3 - 1), .int a4, .int a5]) (rest := [.long x6_7]) (C := RX0) hx hb hml hown hts (ihr g_7 (a2 &&& (((1 : Int32) <<< (x8_7 &&& 31)) ^^^ (-1))) (a3 - 1) a4 a5 _ o13 ho13) (cw_X0_manyWays d_ hts q1116 ⟨by dsimp only [rm_X0_manyWays, rm_X0_has, rm_X8_leave, rm_X8_shareOf]; omega, by dsimp only [rm_X0_manyWays, rm_X0_has, rm_X8_leave, rm_X8_shareOf]; omega⟩) hG hS hA rfl 0 0 rfl rfl rfl hl.1 rfl (Nat.le_of_ble_eq_true rfl) dX0_manyWays_70 ⟨Nat.zero_le _, Nat.zero_le _⟩ (fun H locs hS => ?_)
              have hP := hS.1
              refine lv_goto (tgt := 77) hx hb dX0_manyWays_73 (by decide) ?_
              refine lv_ladd hx hb dX0_manyWays_77 ?_
              refine lv_topl (fun v14 hv14 => ?_)
              have hr := br_letv hr hv14
              refine lv_lstore (lv' := [(6, .long v14), (8, .int x8_7), (0, .ref (ax 0)), (1, .ref (ax 4)), (2, .int a2), (3, .int a3), (4, .int a4), (5, .int a5)]) hx hb dX0_manyWays_78 hl (by decide) rfl (fun ls hl => ?_)
              obtain ⟨v15, hv15, hr⟩ := br_let hr
              refine lv_iinc (v := v15) (lv' := [(8, .int v15), (6, .long v14), (0, .ref (ax 0)), (1, .ref (ax 4)), (2, .int a2), (3, .int a3), (4, .int a4), (5, .int a5)]) hx hb dX0_manyWays_80 hl (k := 1) rfl (hv15 ▸ rfl) (by decide) rfl (fun ls hl => ?_)
              refine lv_goto (tgt := 35) hx hb dX0_manyWays_83 (by decide) ?_
              exact ih v15 v14 o13.2 _ hr _ _ ls (lv_sub hl [0, 1, 2, 3, 4, 5, 6, 7] rfl) hS kx
      obtain ⟨o7, ho7, hr⟩ := br_bind hr
      refine L7 1000 0 0 g o7 ho7 _ _ ls (lv_sub hl [0, 1, 2, 3, 4, 5, 6, 7] rfl) hS (fun H locs ls hl hS => ?_)
      have hP := hS.1
      refine lv_lload hx hb dX0_manyWays_86 (lv_at hl 0 rfl) ?_
      obtain rfl := Option.some.inj hr
      refine W.widen (k := (rm_X0_manyWays (d_ + 1)).cells) (n := (rm_X0_manyWays (d_ + 1)).slots) (Nat.le_of_ble_eq_true rfl) (Nat.le_of_ble_eq_true rfl) ?_
      exact W.lret hx hb hrt (fun t ht _ => hS.q ht rfl) hS.2.2.2.2 dX0_manyWays_88 hlk
    · have hr := hi6.1 c6
      refine lv_aload_n hx hb dX0_manyWays_8 rfl (lv_at hl 1 rfl) ?_
      refine lv_iload_n hx hb dX0_manyWays_9 rfl (lv_at hl 2 rfl) ?_
      obtain ⟨o16, ho16, hr⟩ := br_bind hr
      obtain ⟨g17, hg17, hr⟩ := br_let hr
      refine fwWV (As := [.int a2]) (rest := []) (C := RX8) hx hb hml hown hts (m_X8_leave l D ax ac (ax 4) (ax 5) (ax 6) (xG_mind g) a2 _ o16 ho16) (cw_X8_leave hts q748 ⟨by dsimp only [rm_X0_manyWays, rm_X0_has, rm_X8_leave, rm_X8_shareOf]; omega, by dsimp only [rm_X0_manyWays, rm_X0_has, rm_X8_leave, rm_X8_shareOf]; omega⟩) hG hS hA [4, 5, 6] rfl rfl rfl 4 7 rfl rfl rfl hl.1 rfl (Nat.le_of_ble_eq_true rfl) dX0_manyWays_10 ⟨Nat.zero_le _, Nat.zero_le _⟩ (wn := wX ax ac g17) (by rw [hg17]; rfl) (fun H locs hS => ?_)
      have hP := hS.1
      refine lv_iload hx hb dX0_manyWays_13 (lv_at hl 4 rfl) ?_
      obtain ⟨o18, ho18, hr⟩ := br_bind hr
      refine fwRV (As := [.int a4]) (rest := []) (C := RX8) hx hb hml hown hts (m_X8_shareOf l D ax ac (ax 4) (ax 5) (ax 6) (xG_mind g17) a4 o18 ho18) (cw_X8_shareOf hts q684 ⟨by dsimp only [rm_X0_manyWays, rm_X0_has, rm_X8_leave, rm_X8_shareOf]; omega, by dsimp only [rm_X0_manyWays, rm_X0_has, rm_X8_leave, rm_X8_shareOf]; omega⟩) hG hP (hP.pick [4, 5, 6, 11, 12, 13, 14, 15, 16] rfl) 4 7 rfl rfl rfl hl.1 rfl (Nat.le_of_ble_eq_true rfl) dX0_manyWays_15 ⟨Nat.zero_le _, Nat.zero_le _⟩ ?_
      refine lv_iload hx hb dX0_manyWays_18 (lv_at hl 5 rfl) ?_
      have hi19 := br_ite hr
      refine lv_icmp_lt (tgt := 27) hx hb dX0_manyWays_20 (by decide) (fun c19 => ?_) (fun c19 => ?_)
      · have hr := hi19.1 c19
        refine lv_lconst (v := 0) hx hb dX0_manyWays_27 rfl ?_
        obtain rfl := Option.some.inj hr
        refine W.widen (k := (rm_X0_manyWays (d_ + 1)).cells) (n := (rm_X0_manyWays (d_ + 1)).slots) (Nat.le_of_ble_eq_true rfl) (Nat.le_of_ble_eq_true rfl) ?_
        exact W.lret hx hb hrt (fun t ht _ => hS.q ht rfl) hS.2.2.2.2 dX0_manyWays_28 hlk
      · have hr := hi19.2 c19
        refine lv_lconst (v := 1) hx hb dX0_manyWays_23 rfl ?_
        refine lv_goto (tgt := 28) hx hb dX0_manyWays_24 (by decide) ?_
        obtain rfl := Option.some.inj hr
        refine W.widen (k := (rm_X0_manyWays (d_ + 1)).cells) (n := (rm_X0_manyWays (d_ + 1)).slots) (Nat.le_of_ble_eq_true rfl) (Nat.le_of_ble_eq_true rfl) ?_
        exact W.lret hx hb hrt (fun t ht _ => hS.q ht rfl) hS.2.2.2.2 dX0_manyWays_28 hlk
def f_X0_chancePart_L18 (a2 : Int32) : Nat → Int32 → Int32 → Int64 → Option (Int64)
  | 0, _, _, _ => none
  | n + 1, x8_2, x7_2, x5_2 => if a2 ≤ x8_2 then some x5_2 else if x7_2 ≤ 0 then some x5_2 else Option.bind (some ((x5_2 * (Int32.toInt64 x7_2)) : Int64)) fun v5 => Option.bind (some ((x7_2 + (-1)) : Int32)) fun v6 => Option.bind (some ((x8_2 + 1) : Int32)) fun v7 => f_X0_chancePart_L18 a2 n v7 v6 v5
def f_X0_chancePart (g : XS) (a1 : Int32) (a2 : Int32) (a3 : Int32) (a4 : Int32) : Option (Int64 × XS) := Option.bind (f_X0_manyIn (cG_left (xG_core0 g))) fun o1 => Option.bind (f_X0_chancePart_L18 a2 1000 0 o1 1) fun o2 => Option.bind (f_X0_openMind g) fun o8 => Option.bind (f_X0_manyWays 4 o8 (cG_left (xG_core0 o8)) a2 a1 a3) fun o9 => Option.bind (f_X0_partOf o9.1 o2 a4) fun o10 => some (o10, o9.2)
abbrev rm_X0_chancePart : Room := ({ frames := 14, cells := 0, slots := 0, locals := 561 })
theorem cw_X0_chancePart {R : Room} {s : State} {args : Array Value} {own : String} {index : Nat} (hts : ∀ w ∈ lw_all, w.before args s = true) (hlink : Cond.methodLink own index yX0_chancePart ∈ lw_all) (hR : rm_X0_chancePart.frames + 1 ≤ R.frames ∧ 8 + (9 + 11) + rm_X0_chancePart.locals ≤ R.locals) : CallW R s args own RX0 index yX0_chancePart cX0_chancePart 9 (some FieldType.long) (ws_ yX0_chancePart cX0_chancePart 9 (some FieldType.long)) rm_X0_chancePart rm_X0_chancePart.cells rm_X0_chancePart.slots 4 :=
  cwV 4 hts (lw_V hlink q1114 qs71 q102 q1115) rfl rfl rfl (by decide +kernel) hR
set_option maxHeartbeats 4000000 in
theorem m_X0_chancePart (l : Launch) (D : va_G) (ax : Nat → Nat) (ac : Nat → ClassId) (g : XS) (a1 : Int32) (a2 : Int32) (a3 : Int32) (a4 : Int32) (sz : Nat) (r0 : Int64 × XS) (hr : f_X0_chancePart g a1 a2 a3 a4 = some r0) : WM l yX0_chancePart cX0_chancePart 9 (some FieldType.long) rm_X0_chancePart [.ref (ax 0), .int a1, .int a2, .int a3, .int a4] D ac (wX ax ac g) (wX ax ac r0.2) sz (some (.long r0.1)) := by
  refine fw_of (by decide) (Nat.le_of_ble_eq_true rfl) ?_
  intro p e s m below meth c ls hx hb hrt hts hown hlk hml _ hU hl
  obtain ⟨rfl, hP, hG, hD⟩ := hU
  have hA : ∀ q : Nat, s.heap.size ≤ q → (va_A (wX ax ac g) s.heap.size) q := fun q h => Or.inr h
  have hS := Stt.start hP hD
  show WW p l e rm_X0_chancePart s m [.ref (ax 0), .int a1, .int a2, .int a3, .int a4] below meth c D (wX ax ac r0.2) (va_A (wX ax ac g) s.heap.size) (some (.long r0.1)) s.heap [] 0 0 0 ls []
  have hl : lv_has ls 9 [(0, .ref (ax 0)), (1, .int a1), (2, .int a2), (3, .int a3), (4, .int a4)] := hl
  rw [f_X0_chancePart] at hr
  refine lv_lconst (v := 1) hx hb dX0_chancePart_0 rfl ?_
  refine lv_lstore (lv' := [(5, .long 1), (0, .ref (ax 0)), (1, .int a1), (2, .int a2), (3, .int a3), (4, .int a4)]) hx hb dX0_chancePart_1 hl (by decide) rfl (fun ls hl => ?_)
  refine lv_aload_n hx hb dX0_chancePart_3 rfl (lv_at hl 1 rfl) ?_
  refine va_get (D := D) (ci := 0) (v := .ref (ax 1)) (C := RX0) (T := TX0) (N := 17) hx hb hts in_X0 hown hG.1 hP 0 rfl rfl 1 (by decide) (hts _ q234) (fun _ h9 => h9) rfl dX0_chancePart_4 ?_
  refine va_getN (D := D) (ci := 7) (v := .int (cG_left (xG_core0 g))) (C := RX8) (T := TX8) (N := 8) hx hb hts in_X8 hown hG.1 hP 1 rfl rfl 0 (by decide) (va_Nw.use rfl (hG.2.1 _ nq193)) (fun _ h9 => h9) rfl dX0_chancePart_7 ?_
  obtain ⟨o1, ho1, hr⟩ := br_bind hr
  refine fwS (As := [.int (cG_left (xG_core0 g))]) (rest := []) hx hb hml hown hts (m_X0_manyIn l (cG_left (xG_core0 g)) o1 ho1) (cw_X0_manyIn hts q654 ⟨Nat.le_of_ble_eq_true rfl, Nat.le_of_ble_eq_true rfl⟩) rfl hl.1 rfl (Nat.le_of_ble_eq_true rfl) dX0_chancePart_10 ⟨Nat.le_of_ble_eq_true rfl, Nat.le_of_ble_eq_true rfl⟩ ?_
  refine lv_istore (lv' := [(7, .int o1), (5, .long 1), (0, .ref (ax 0)), (1, .int a1), (2, .int a2), (3, .int a3), (4, .int a4)]) hx hb dX0_chancePart_13 hl (by decide) rfl (fun ls hl => ?_)
  refine lv_iconst (v := 0) hx hb dX0_chancePart_15 rfl ?_
  refine lv_istore (lv' := [(8, .int 0), (7, .int o1), (5, .long 1), (0, .ref (ax 0)), (1, .int a1), (2, .int a2), (3, .int a3), (4, .int a4)]) hx hb dX0_chancePart_16 hl (by decide) rfl (fun ls hl => ?_)
  have L2 : ∀ (n : Nat) (x8_2 : Int32) (x7_2 : Int32) (x5_2 : Int64) (o2 : Int64), f_X0_chancePart_L18 a2 n x8_2 x7_2 x5_2 = some o2 → ∀ (H : Heap) (locs : List Loc) ls, lv_has ls 9 [(8, .int x8_2), (7, .int x7_2), (5, .long x5_2), (0, .ref (ax 0)), (1, .int a1), (2, .int a2), (3, .int a3), (4, .int a4)] → Stt D (va_A (wX ax ac g) s.heap.size) s.heap (wX ax ac g) H locs → (∀ (H : Heap) (locs : List Loc) ls, lv_has ls 9 [(5, .long o2), (0, .ref (ax 0)), (1, .int a1), (2, .int a2), (3, .int a3), (4, .int a4)] → Stt D (va_A (wX ax ac g) s.heap.size) s.heap (wX ax ac g) H locs → WW p l e rm_X0_chancePart s m [.ref (ax 0), .int a1, .int a2, .int a3, .int a4] below meth c D (wX ax ac r0.2) (va_A (wX ax ac g) s.heap.size) (some (.long r0.1)) H locs 0 0 46 ls []) → WW p l e rm_X0_chancePart s m [.ref (ax 0), .int a1, .int a2, .int a3, .int a4] below meth c D (wX ax ac r0.2) (va_A (wX ax ac g) s.heap.size) (some (.long r0.1)) H locs 0 0 18 ls [] := by
    intro n
    induction n with
    | zero => intro x8_2 x7_2 x5_2 o2 hr; rw [f_X0_chancePart_L18] at hr; cases hr
    | succ n ih =>
      intro x8_2 x7_2 x5_2 o2 hr H locs ls hl hS kx
      have hP := hS.1
      rw [f_X0_chancePart_L18] at hr
      refine lv_iload hx hb dX0_chancePart_18 (lv_at hl 0 rfl) ?_
      refine lv_iload_n hx hb dX0_chancePart_20 rfl (lv_at hl 5 rfl) ?_
      have hi3 := br_ite hr
      refine lv_icmp_ge (tgt := 46) hx hb dX0_chancePart_21 (by decide) (fun c3 => ?_) (fun c3 => ?_)
      · have hr := hi3.1 c3
        obtain rfl := Option.some.inj hr
        exact kx _ _ ls (lv_sub hl [2, 3, 4, 5, 6, 7] rfl) hS
      · have hr := hi3.2 c3
        refine lv_iload hx hb dX0_chancePart_24 (lv_at hl 1 rfl) ?_
        have hi4 := br_ite hr
        refine lv_if_le (tgt := 46) hx hb dX0_chancePart_26 (by decide) (fun c4 => ?_) (fun c4 => ?_)
        · have hr := hi4.1 c4
          obtain rfl := Option.some.inj hr
          exact kx _ _ ls (lv_sub hl [2, 3, 4, 5, 6, 7] rfl) hS
        · have hr := hi4.2 c4
          refine lv_lload hx hb dX0_chancePart_29 (lv_at hl 2 rfl) ?_
          refine lv_iload hx hb dX0_chancePart_31 (lv_at hl 1 rfl) ?_
          refine lv_i2l (v := (Int32.toInt64 x7_2)) hx hb dX0_chancePart_33 rfl ?_
          refine lv_lmul hx hb dX0_chancePart_34 ?_
          refine lv_topl (fun v5 hv5 => ?_)
          have hr := br_letv hr hv5
          refine lv_lstore (lv' := [(5, .long v5), (8, .int x8_2), (7, .int x7_2), (0, .ref (ax 0)), (1, .int a1), (2, .int a2), (3, .int a3), (4, .int a4)]) hx hb dX0_chancePart_35 hl (by decide) rfl (fun ls hl => ?_)
          obtain ⟨v6, hv6, hr⟩ := br_let hr
          refine lv_iinc (v := v6) (lv' := [(7, .int v6), (5, .long v5), (8, .int x8_2), (0, .ref (ax 0)), (1, .int a1), (2, .int a2), (3, .int a3), (4, .int a4)]) hx hb dX0_chancePart_37 hl (k := 2) rfl (hv6 ▸ rfl) (by decide) rfl (fun ls hl => ?_)
          obtain ⟨v7, hv7, hr⟩ := br_let hr
          refine lv_iinc (v := v7) (lv' := [(8, .int v7), (7, .int v6), (5, .long v5), (0, .ref (ax 0)), (1, .int a1), (2, .int a2), (3, .int a3), (4, .int a4)]) hx hb dX0_chancePart_40 hl (k := 2) rfl (hv7 ▸ rfl) (by decide) rfl (fun ls hl => ?_)
          refine lv_goto (tgt := 18) hx hb dX0_chancePart_43 (by decide) ?_
          exact ih v7 v6 v5 _ hr _ _ ls (lv_sub hl [0, 1, 2, 3, 4, 5, 6, 7] rfl) hS kx
  obtain ⟨o2, ho2, hr⟩ := br_bind hr
  refine L2 1000 0 o1 1 o2 ho2 _ _ ls (lv_sub hl [0, 1, 2, 3, 4, 5, 6, 7] rfl) hS (fun H locs ls hl hS => ?_)
  have hP := hS.1
  refine lv_aload_n hx hb dX0_chancePart_46 rfl (lv_at hl 1 rfl) ?_
  refine lv_aload_n hx hb dX0_chancePart_47 rfl (lv_at hl 1 rfl) ?_
  obtain ⟨o8, ho8, hr⟩ := br_bind hr
  refine fwWVs (As := []) (rest := [.ref (ax 0)]) (C := RX0) hx hb hml hown hts (m_X0_openMind l D ax ac g _ o8 ho8) (cw_X0_openMind hts q818 ⟨Nat.le_of_ble_eq_true rfl, Nat.le_of_ble_eq_true rfl⟩) hG hS hA rfl 0 0 rfl rfl rfl hl.1 rfl (Nat.le_of_ble_eq_true rfl) dX0_chancePart_48 ⟨Nat.le_of_ble_eq_true rfl, Nat.le_of_ble_eq_true rfl⟩ (fun H locs hS => ?_)
  have hP := hS.1
  refine lv_aload_n hx hb dX0_chancePart_51 rfl (lv_at hl 1 rfl) ?_
  refine va_get (D := D) (ci := 0) (v := .ref (ax 1)) (C := RX0) (T := TX0) (N := 17) hx hb hts in_X0 hown hG.1 hP 0 rfl rfl 1 (by decide) (hts _ q234) (fun _ h9 => h9) rfl dX0_chancePart_52 ?_
  refine va_getN (D := D) (ci := 7) (v := .int (cG_left (xG_core0 o8))) (C := RX8) (T := TX8) (N := 8) hx hb hts in_X8 hown hG.1 hP 1 rfl rfl 0 (by decide) (va_Nw.use rfl (hG.2.1 _ nq193)) (fun _ h9 => h9) rfl dX0_chancePart_55 ?_
  refine lv_iload_n hx hb dX0_chancePart_58 rfl (lv_at hl 3 rfl) ?_
  refine lv_iload_n hx hb dX0_chancePart_59 rfl (lv_at hl 2 rfl) ?_
  refine lv_iload_n hx hb dX0_chancePart_60 rfl (lv_at hl 4 rfl) ?_
  obtain ⟨o9, ho9, hr⟩ := br_bind hr
  refine fwWVs (As := [.ref (ax 4), .int (cG_left (xG_core0 o8)), .int a2, .int a1, .int a3]) (rest := []) (C := RX0) hx hb hml hown hts (m_X0_manyWays l D ax ac 4 o8 (cG_left (xG_core0 o8)) a2 a1 a3 _ o9 ho9) (cw_X0_manyWays 4 hts q1116 ⟨Nat.le_of_ble_eq_true rfl, Nat.le_of_ble_eq_true rfl⟩) hG hS hA rfl 0 0 rfl rfl rfl hl.1 rfl (Nat.le_of_ble_eq_true rfl) dX0_chancePart_61 ⟨Nat.le_of_ble_eq_true rfl, Nat.le_of_ble_eq_true rfl⟩ (fun H locs hS => ?_)
  have hP := hS.1
  refine lv_lload hx hb dX0_chancePart_64 (lv_at hl 0 rfl) ?_
  refine lv_iload hx hb dX0_chancePart_66 (lv_at hl 5 rfl) ?_
  obtain ⟨o10, ho10, hr⟩ := br_bind hr
  refine fwS (As := [.long o9.1, .long o2, .int a4]) (rest := []) hx hb hml hown hts (m_X0_partOf l o9.1 o2 a4 o10 ho10) (cw_X0_partOf hts q1120 ⟨Nat.le_of_ble_eq_true rfl, Nat.le_of_ble_eq_true rfl⟩) rfl hl.1 rfl (Nat.le_of_ble_eq_true rfl) dX0_chancePart_68 ⟨Nat.le_of_ble_eq_true rfl, Nat.le_of_ble_eq_true rfl⟩ ?_
  obtain rfl := Option.some.inj hr
  refine W.widen (k := rm_X0_chancePart.cells) (n := rm_X0_chancePart.slots) (Nat.le_of_ble_eq_true rfl) (Nat.le_of_ble_eq_true rfl) ?_
  exact W.lret hx hb hrt (fun t ht _ => hS.q ht rfl) hS.2.2.2.2 dX0_chancePart_71 hlk
def f_X0_isRow_L11 (a2 : Int32) (v1 : Int32) : Nat → Int32 → XS → Option ((Int32 × XS) ⊕ (XS))
  | 0, _, _ => none
  | n + 1, x4_2, g_2 => if (xG_rowMany g_2) ≤ x4_2 then some (Sum.inr g_2) else if x4_2 < 0 ∨ 16 ≤ Int32.toNatClampNeg x4_2 then none else Option.bind (α := Int32) (if x4_2 = 0 then some v1 else some (v1 &&& (((1 : Int32) <<< ((x4_2 - 1) &&& 31)) ^^^ (-1)))) fun o6 => Option.bind (f_X8_leave (xG_mind g_2) o6) fun o7 => Option.bind (some (xS_mind g_2 o7)) fun g8 => Option.bind (f_X8_shareOf (xG_mind g8) a2) fun o9 => if ((xG_row g_2) (Int32.toNatClampNeg x4_2)) = o9 then Option.bind (some ((x4_2 + 1) : Int32)) fun v11 => f_X0_isRow_L11 a2 v1 n v11 g8 else some (Sum.inl (0, g8))
def f_X0_isRow (g : XS) (a2 : Int32) : Option (Int32 × XS) := Option.bind (some ((cG_left (xG_core0 g)) : Int32)) fun v1 => bsR (f_X0_isRow_L11 a2 v1 1000 0 g) fun t2 => some (1, t2)
abbrev rm_X0_isRow : Room := ({ frames := 9, cells := 0, slots := 0, locals := 421 })
theorem cw_X0_isRow {R : Room} {s : State} {args : Array Value} {own : String} {index : Nat} (hts : ∀ w ∈ lw_all, w.before args s = true) (hlink : Cond.methodLink own index yX0_isRow ∈ lw_all) (hR : rm_X0_isRow.frames + 1 ≤ R.frames ∧ 8 + (5 + 11) + rm_X0_isRow.locals ≤ R.locals) : CallW R s args own RX0 index yX0_isRow cX0_isRow 5 (some FieldType.boolean) (ws_ yX0_isRow cX0_isRow 5 (some FieldType.boolean)) rm_X0_isRow rm_X0_isRow.cells rm_X0_isRow.slots 2 :=
  cwV 2 hts (lw_V hlink q964 qs63 q102 q965) rfl rfl rfl (by decide +kernel) hR
set_option maxHeartbeats 4000000 in
theorem m_X0_isRow (l : Launch) (D : va_G) (ax : Nat → Nat) (ac : Nat → ClassId) (g : XS) (a2 : Int32) (sz : Nat) (r0 : Int32 × XS) (hr : f_X0_isRow g a2 = some r0) : WM l yX0_isRow cX0_isRow 5 (some FieldType.boolean) rm_X0_isRow [.ref (ax 0), .ref (ax 4), .int a2] D ac (wX ax ac g) (wX ax ac r0.2) sz (some (.int r0.1)) := by
  refine fw_of (by decide) (Nat.le_of_ble_eq_true rfl) ?_
  intro p e s m below meth c ls hx hb hrt hts hown hlk hml _ hU hl
  obtain ⟨rfl, hP, hG, hD⟩ := hU
  have hA : ∀ q : Nat, s.heap.size ≤ q → (va_A (wX ax ac g) s.heap.size) q := fun q h => Or.inr h
  have hS := Stt.start hP hD
  show WW p l e rm_X0_isRow s m [.ref (ax 0), .ref (ax 4), .int a2] below meth c D (wX ax ac r0.2) (va_A (wX ax ac g) s.heap.size) (some (.int r0.1)) s.heap [] 0 0 0 ls []
  have hl : lv_has ls 5 [(0, .ref (ax 0)), (1, .ref (ax 4)), (2, .int a2)] := hl
  rw [f_X0_isRow] at hr
  refine lv_aload_n hx hb dX0_isRow_0 rfl (lv_at hl 0 rfl) ?_
  refine va_get (D := D) (ci := 0) (v := .ref (ax 1)) (C := RX0) (T := TX0) (N := 17) hx hb hts in_X0 hown hG.1 hP 0 rfl rfl 1 (by decide) (hts _ q234) (fun _ h9 => h9) rfl dX0_isRow_1 ?_
  refine va_getN (D := D) (ci := 7) (v := .int (cG_left (xG_core0 g))) (C := RX8) (T := TX8) (N := 8) hx hb hts in_X8 hown hG.1 hP 1 rfl rfl 0 (by decide) (va_Nw.use rfl (hG.2.1 _ nq193)) (fun _ h9 => h9) rfl dX0_isRow_4 ?_
  refine lv_topi (fun v1 hv1 => ?_)
  have hr := br_letv hr hv1
  refine lv_istore_n (lv' := [(3, .int v1), (0, .ref (ax 0)), (1, .ref (ax 4)), (2, .int a2)]) hx hb dX0_isRow_7 rfl hl (by decide) rfl (fun ls hl => ?_)
  refine lv_iconst (v := 0) hx hb dX0_isRow_8 rfl ?_
  refine lv_istore (lv' := [(4, .int 0), (3, .int v1), (0, .ref (ax 0)), (1, .ref (ax 4)), (2, .int a2)]) hx hb dX0_isRow_9 hl (by decide) rfl (fun ls hl => ?_)
  have L2 : ∀ (n : Nat) (x4_2 : Int32) (g_2 : XS) (o2 : (Int32 × XS) ⊕ (XS)), f_X0_isRow_L11 a2 v1 n x4_2 g_2 = some o2 → (∀ r, o2 = Sum.inl r → some r = some r0) → ∀ (H : Heap) (locs : List Loc) ls, lv_has ls 5 [(4, .int x4_2), (3, .int v1), (0, .ref (ax 0)), (1, .ref (ax 4)), (2, .int a2)] → Stt D (va_A (wX ax ac g) s.heap.size) s.heap (wX ax ac g_2) H locs → (∀ t2, o2 = Sum.inr t2 → ∀ (H : Heap) (locs : List Loc) ls, lv_has ls 5 [] → Stt D (va_A (wX ax ac g) s.heap.size) s.heap (wX ax ac t2) H locs → WW p l e rm_X0_isRow s m [.ref (ax 0), .ref (ax 4), .int a2] below meth c D (wX ax ac r0.2) (va_A (wX ax ac g) s.heap.size) (some (.int r0.1)) H locs 0 0 65 ls []) → WW p l e rm_X0_isRow s m [.ref (ax 0), .ref (ax 4), .int a2] below meth c D (wX ax ac r0.2) (va_A (wX ax ac g) s.heap.size) (some (.int r0.1)) H locs 0 0 11 ls [] := by
    intro n
    induction n with
    | zero => intro x4_2 g_2 o2 hr; rw [f_X0_isRow_L11] at hr; cases hr
    | succ n ih =>
      intro x4_2 g_2 o2 hr hret H locs ls hl hS kx
      have hP := hS.1
      rw [f_X0_isRow_L11] at hr
      refine lv_iload hx hb dX0_isRow_11 (lv_at hl 0 rfl) ?_
      refine lv_aload_n hx hb dX0_isRow_13 rfl (lv_at hl 2 rfl) ?_
      refine va_get (D := D) (ci := 0) (v := .int (xG_rowMany g_2)) (C := RX0) (T := TX0) (N := 17) hx hb hts in_X0 hown hG.1 hP 0 rfl rfl 6 (by decide) (hts _ q239) (fun _ h9 => h9) rfl dX0_isRow_14 ?_
      have hi3 := br_ite hr
      refine lv_icmp_ge (tgt := 65) hx hb dX0_isRow_17 (by decide) (fun c3 => ?_) (fun c3 => ?_)
      · have hr := hi3.1 c3
        exact kx _ (Option.some.inj hr).symm _ _ ls (lv_sub hl [] rfl) hS
      · have hr := hi3.2 c3
        refine lv_aload_n hx hb dX0_isRow_20 rfl (lv_at hl 2 rfl) ?_
        refine va_get (D := D) (ci := 0) (v := .ref (ax 17)) (C := RX0) (T := TX0) (N := 17) hx hb hts in_X0 hown hG.1 hP 0 rfl rfl 5 (by decide) (hts _ q238) (fun _ h9 => h9) rfl dX0_isRow_21 ?_
        refine lv_iload hx hb dX0_isRow_24 (lv_at hl 0 rfl) ?_
        obtain ⟨c4, hr⟩ := br_none hr
        refine va_bald hx hb hG.1 hP 17 1 rfl rfl c4 dX0_isRow_26 ?_
        refine lv_aload_n hx hb dX0_isRow_27 rfl (lv_at hl 3 rfl) ?_
        refine lv_iload hx hb dX0_isRow_28 (lv_at hl 0 rfl) ?_
        obtain ⟨o6, ho6, hr⟩ := br_bind hr
        have J6 : ∀ (H : Heap) (locs : List Loc) ls, lv_has ls 5 [(4, .int x4_2), (3, .int v1), (0, .ref (ax 0)), (1, .ref (ax 4)), (2, .int a2)] → Stt D (va_A (wX ax ac g) s.heap.size) s.heap (wX ax ac g_2) H locs → WW p l e rm_X0_isRow s m [.ref (ax 0), .ref (ax 4), .int a2] below meth c D (wX ax ac r0.2) (va_A (wX ax ac g) s.heap.size) (some (.int r0.1)) H locs 0 0 47 ls [.int o6, .ref (ax 4), .int ((xG_row g_2) (Int32.toNatClampNeg x4_2))] := by
          intro H locs ls hl hS
          have hP := hS.1
          obtain ⟨o7, ho7, hr⟩ := br_bind hr
          obtain ⟨g8, hg8, hr⟩ := br_let hr
          refine fwWV (As := [.int o6]) (rest := [.int ((xG_row g_2) (Int32.toNatClampNeg x4_2))]) (C := RX8) hx hb hml hown hts (m_X8_leave l D ax ac (ax 4) (ax 5) (ax 6) (xG_mind g_2) o6 _ o7 ho7) (cw_X8_leave hts q748 ⟨Nat.le_of_ble_eq_true rfl, Nat.le_of_ble_eq_true rfl⟩) hG hS hA [4, 5, 6] rfl rfl rfl 4 7 rfl rfl rfl hl.1 rfl (Nat.le_of_ble_eq_true rfl) dX0_isRow_47 ⟨Nat.le_of_ble_eq_true rfl, Nat.le_of_ble_eq_true rfl⟩ (wn := wX ax ac g8) (by rw [hg8]; rfl) (fun H locs hS => ?_)
          have hP := hS.1
          refine lv_iload_n hx hb dX0_isRow_50 rfl (lv_at hl 4 rfl) ?_
          obtain ⟨o9, ho9, hr⟩ := br_bind hr
          refine fwRV (As := [.int a2]) (rest := [.int ((xG_row g_2) (Int32.toNatClampNeg x4_2))]) (C := RX8) hx hb hml hown hts (m_X8_shareOf l D ax ac (ax 4) (ax 5) (ax 6) (xG_mind g8) a2 o9 ho9) (cw_X8_shareOf hts q684 ⟨Nat.le_of_ble_eq_true rfl, Nat.le_of_ble_eq_true rfl⟩) hG hP (hP.pick [4, 5, 6, 11, 12, 13, 14, 15, 16] rfl) 4 7 rfl rfl rfl hl.1 rfl (Nat.le_of_ble_eq_true rfl) dX0_isRow_51 ⟨Nat.le_of_ble_eq_true rfl, Nat.le_of_ble_eq_true rfl⟩ ?_
          have hi10 := br_ite hr
          refine lv_icmp_eq (tgt := 59) hx hb dX0_isRow_54 (by decide) (fun c10 => ?_) (fun c10 => ?_)
          · have hr := hi10.1 c10
            obtain ⟨v11, hv11, hr⟩ := br_let hr
            refine lv_iinc (v := v11) (lv' := [(4, .int v11), (3, .int v1), (0, .ref (ax 0)), (1, .ref (ax 4)), (2, .int a2)]) hx hb dX0_isRow_59 hl (k := 0) rfl (hv11 ▸ rfl) (by decide) rfl (fun ls hl => ?_)
            refine lv_goto (tgt := 11) hx hb dX0_isRow_62 (by decide) ?_
            exact ih v11 g8 _ hr hret _ _ ls (lv_sub hl [0, 1, 2, 3, 4] rfl) hS kx
          · have hr := hi10.2 c10
            refine lv_iconst (v := 0) hx hb dX0_isRow_57 rfl ?_
            have hr := hret _ (Option.some.inj hr).symm
            obtain rfl := Option.some.inj hr
            refine W.widen (k := rm_X0_isRow.cells) (n := rm_X0_isRow.slots) (Nat.le_of_ble_eq_true rfl) (Nat.le_of_ble_eq_true rfl) ?_
            exact W.zret (v := 0) (ty := .boolean) hx hb hrt rfl (fun t ht _ => hS.q ht rfl) hS.2.2.2.2 dX0_isRow_58 hlk
        have hr := ho6
        have hi5 := br_ite hr
        refine lv_if_ne (tgt := 37) hx hb dX0_isRow_30 (by decide) (fun c5 => ?_) (fun c5 => ?_)
        · have hr := hi5.2 c5
          refine lv_iload_n hx hb dX0_isRow_37 rfl (lv_at hl 1 rfl) ?_
          refine lv_iconst (v := 1) hx hb dX0_isRow_38 rfl ?_
          refine lv_iload hx hb dX0_isRow_39 (lv_at hl 0 rfl) ?_
          refine lv_iconst (v := 1) hx hb dX0_isRow_41 rfl ?_
          refine lv_isub hx hb dX0_isRow_42 ?_
          refine lv_ishl hx hb dX0_isRow_43 ?_
          refine lv_iconst (v := (-1)) hx hb dX0_isRow_44 rfl ?_
          refine lv_ixor hx hb dX0_isRow_45 ?_
          refine lv_iand hx hb dX0_isRow_46 ?_
          obtain rfl := Option.some.inj hr
          exact J6 _ _ ls (lv_sub hl [0, 1, 2, 3, 4] rfl) hS
        · have hr := hi5.1 c5
          refine lv_iload_n hx hb dX0_isRow_33 rfl (lv_at hl 1 rfl) ?_
          refine lv_goto (tgt := 47) hx hb dX0_isRow_34 (by decide) ?_
          obtain rfl := Option.some.inj hr
          exact J6 _ _ ls (lv_sub hl [0, 1, 2, 3, 4] rfl) hS
  obtain ⟨o2, ho2, hl2, hk2⟩ := br_bsR hr
  refine L2 1000 0 g o2 ho2 (fun r hq => hl2 r hq) _ _ ls (lv_sub hl [0, 1, 2, 3, 4] rfl) hS (fun t2 hq2 H locs ls hl hS => ?_)
  have hP := hS.1
  have hr := hk2 t2 hq2
  refine lv_iconst (v := 1) hx hb dX0_isRow_65 rfl ?_
  obtain rfl := Option.some.inj hr
  refine W.widen (k := rm_X0_isRow.cells) (n := rm_X0_isRow.slots) (Nat.le_of_ble_eq_true rfl) (Nat.le_of_ble_eq_true rfl) ?_
  exact W.zret (v := 1) (ty := .boolean) hx hb hrt rfl (fun t ht _ => hS.q ht rfl) hS.2.2.2.2 dX0_isRow_66 hlk
def f_X0_fitting_L5 (a1 : Int32) (a2 : Int32) : Nat → Int32 → Int32 → XS → Option (Int32 × XS)
  | 0, _, _, _ => none
  | n + 1, x4_1, x3_1, g_1 => Option.bind (α := Int32) (if a2 = 0 then some 6 else some 10) fun o3 => if o3 ≤ x4_1 then some (x3_1, g_1) else Option.bind (f_X0_openMind g_1) fun o5 => Option.bind (α := Fin 6) (if a2 = 0 then if x4_1 < 0 ∨ 6 ≤ Int32.toNatClampNeg x4_1 then none else Option.bind (kd0 (Int32.toNatClampNeg x4_1)) fun k11 => some k11 else if a1 < 0 ∨ 5 ≤ Int32.toNatClampNeg a1 then none else Option.bind ((cG_kind (xG_mind o5)) (Int32.toNatClampNeg a1)) fun k9 => some k9) fun o7 => if a1 < 0 ∨ 5 ≤ Int32.toNatClampNeg a1 then none else Option.bind (some (xS_mind o5 (cS_kind (xG_mind o5) (va_up (cG_kind (xG_mind o5)) (Int32.toNatClampNeg a1) (some o7))))) fun g13 => Option.bind (α := Int32) (if a2 = 1 then some x4_1 else if a1 < 0 ∨ 5 ≤ Int32.toNatClampNeg a1 then none else some ((cG_figures (xG_mind g13)) (Int32.toNatClampNeg a1))) fun o15 => if a1 < 0 ∨ 5 ≤ Int32.toNatClampNeg a1 then none else Option.bind (some (xS_mind g13 (cS_figures (xG_mind g13) (upd (cG_figures (xG_mind g13)) (Int32.toNatClampNeg a1) o15)))) fun g18 => Option.bind (f_X0_isRow g18 a1) fun o19 => if o19.1 = 0 then Option.bind (some ((x3_1 ||| 0) : Int32)) fun v21 => Option.bind (some ((x4_1 + 1) : Int32)) fun v22 => f_X0_fitting_L5 a1 a2 n v22 v21 o19.2 else Option.bind (some ((x3_1 ||| ((1 : Int32) <<< (x4_1 &&& 31))) : Int32)) fun v23 => Option.bind (some ((x4_1 + 1) : Int32)) fun v24 => f_X0_fitting_L5 a1 a2 n v24 v23 o19.2
def f_X0_fitting (g : XS) (a1 : Int32) (a2 : Int32) : Option (Int32 × XS) := Option.bind (f_X0_fitting_L5 a1 a2 1000 0 0 g) fun o1 => some (o1.1, o1.2)
abbrev rm_X0_fitting : Room := ({ frames := 10, cells := 0, slots := 0, locals := 445 })
theorem cw_X0_fitting {R : Room} {s : State} {args : Array Value} {own : String} {index : Nat} (hts : ∀ w ∈ lw_all, w.before args s = true) (hlink : Cond.methodLink own index yX0_fitting ∈ lw_all) (hR : rm_X0_fitting.frames + 1 ≤ R.frames ∧ 8 + (6 + 11) + rm_X0_fitting.locals ≤ R.locals) : CallW R s args own RX0 index yX0_fitting cX0_fitting 6 (some FieldType.int) (ws_ yX0_fitting cX0_fitting 6 (some FieldType.int)) rm_X0_fitting rm_X0_fitting.cells rm_X0_fitting.slots 2 :=
  cwV 2 hts (lw_V hlink q960 qs62 q102 q961) rfl rfl rfl (by decide +kernel) hR
set_option maxHeartbeats 4000000 in
theorem m_X0_fitting (l : Launch) (D : va_G) (ax : Nat → Nat) (ac : Nat → ClassId) (g : XS) (a1 : Int32) (a2 : Int32) (sz : Nat) (r0 : Int32 × XS) (hr : f_X0_fitting g a1 a2 = some r0) : WM l yX0_fitting cX0_fitting 6 (some FieldType.int) rm_X0_fitting [.ref (ax 0), .int a1, .int a2] D ac (wX ax ac g) (wX ax ac r0.2) sz (some (.int r0.1)) := by
  refine fw_of (by decide) (Nat.le_of_ble_eq_true rfl) ?_
  intro p e s m below meth c ls hx hb hrt hts hown hlk hml _ hU hl
  obtain ⟨rfl, hP, hG, hD⟩ := hU
  have hA : ∀ q : Nat, s.heap.size ≤ q → (va_A (wX ax ac g) s.heap.size) q := fun q h => Or.inr h
  have hS := Stt.start hP hD
  show WW p l e rm_X0_fitting s m [.ref (ax 0), .int a1, .int a2] below meth c D (wX ax ac r0.2) (va_A (wX ax ac g) s.heap.size) (some (.int r0.1)) s.heap [] 0 0 0 ls []
  have hl : lv_has ls 6 [(0, .ref (ax 0)), (1, .int a1), (2, .int a2)] := hl
  rw [f_X0_fitting] at hr
  refine lv_iconst (v := 0) hx hb dX0_fitting_0 rfl ?_
  refine lv_istore_n (lv' := [(3, .int 0), (0, .ref (ax 0)), (1, .int a1), (2, .int a2)]) hx hb dX0_fitting_1 rfl hl (by decide) rfl (fun ls hl => ?_)
  refine lv_iconst (v := 0) hx hb dX0_fitting_2 rfl ?_
  refine lv_istore (lv' := [(4, .int 0), (3, .int 0), (0, .ref (ax 0)), (1, .int a1), (2, .int a2)]) hx hb dX0_fitting_3 hl (by decide) rfl (fun ls hl => ?_)
  have L1 : ∀ (n : Nat) (x4_1 : Int32) (x3_1 : Int32) (g_1 : XS) (o1 : Int32 × XS), f_X0_fitting_L5 a1 a2 n x4_1 x3_1 g_1 = some o1 → ∀ (H : Heap) (locs : List Loc) ls, lv_has ls 6 [(4, .int x4_1), (3, .int x3_1), (0, .ref (ax 0)), (1, .int a1), (2, .int a2)] → Stt D (va_A (wX ax ac g) s.heap.size) s.heap (wX ax ac g_1) H locs → (∀ (H : Heap) (locs : List Loc) ls, lv_has ls 6 [(3, .int o1.1)] → Stt D (va_A (wX ax ac g) s.heap.size) s.heap (wX ax ac o1.2) H locs → WW p l e rm_X0_fitting s m [.ref (ax 0), .int a1, .int a2] below meth c D (wX ax ac r0.2) (va_A (wX ax ac g) s.heap.size) (some (.int r0.1)) H locs 0 0 106 ls []) → WW p l e rm_X0_fitting s m [.ref (ax 0), .int a1, .int a2] below meth c D (wX ax ac r0.2) (va_A (wX ax ac g) s.heap.size) (some (.int r0.1)) H locs 0 0 5 ls [] := by
    intro n
    induction n with
    | zero => intro x4_1 x3_1 g_1 o1 hr; rw [f_X0_fitting_L5] at hr; cases hr
    | succ n ih =>
      intro x4_1 x3_1 g_1 o1 hr H locs ls hl hS kx
      have hP := hS.1
      rw [f_X0_fitting_L5] at hr
      refine lv_iload hx hb dX0_fitting_5 (lv_at hl 0 rfl) ?_
      refine lv_iload_n hx hb dX0_fitting_7 rfl (lv_at hl 4 rfl) ?_
      obtain ⟨o3, ho3, hr⟩ := br_bind hr
      have J3 : ∀ (H : Heap) (locs : List Loc) ls, lv_has ls 6 [(4, .int x4_1), (3, .int x3_1), (0, .ref (ax 0)), (1, .int a1), (2, .int a2)] → Stt D (va_A (wX ax ac g) s.heap.size) s.heap (wX ax ac g_1) H locs → WW p l e rm_X0_fitting s m [.ref (ax 0), .int a1, .int a2] below meth c D (wX ax ac r0.2) (va_A (wX ax ac g) s.heap.size) (some (.int r0.1)) H locs 0 0 18 ls [.int o3, .int x4_1] := by
        intro H locs ls hl hS
        have hP := hS.1
        have hi4 := br_ite hr
        refine lv_icmp_ge (tgt := 106) hx hb dX0_fitting_18 (by decide) (fun c4 => ?_) (fun c4 => ?_)
        · have hr := hi4.1 c4
          obtain rfl := Option.some.inj hr
          exact kx _ _ ls (lv_sub hl [1] rfl) hS
        · have hr := hi4.2 c4
          refine lv_aload_n hx hb dX0_fitting_21 rfl (lv_at hl 2 rfl) ?_
          obtain ⟨o5, ho5, hr⟩ := br_bind hr
          refine fwWVs (As := []) (rest := []) (C := RX0) hx hb hml hown hts (m_X0_openMind l D ax ac g_1 _ o5 ho5) (cw_X0_openMind hts q818 ⟨Nat.le_of_ble_eq_true rfl, Nat.le_of_ble_eq_true rfl⟩) hG hS hA rfl 0 0 rfl rfl rfl hl.1 rfl (Nat.le_of_ble_eq_true rfl) dX0_fitting_22 ⟨Nat.le_of_ble_eq_true rfl, Nat.le_of_ble_eq_true rfl⟩ (fun H locs hS => ?_)
          have hP := hS.1
          refine lv_astore (lv' := [(5, .ref (ax 4)), (4, .int x4_1), (3, .int x3_1), (0, .ref (ax 0)), (1, .int a1), (2, .int a2)]) hx hb dX0_fitting_25 hl (by decide) rfl (fun ls hl => ?_)
          refine lv_aload hx hb dX0_fitting_27 (lv_at hl 0 rfl) ?_
          refine va_getN (D := D) (ci := 7) (v := .ref (ax 5)) (C := RX8) (T := TX8) (N := 8) hx hb hts in_X8 hown hG.1 hP 4 rfl rfl 2 (by decide) (va_Nw.use rfl (hG.2.1 _ nq198)) (fun _ h9 => h9) rfl dX0_fitting_29 ?_
          refine lv_iload_n hx hb dX0_fitting_32 rfl (lv_at hl 4 rfl) ?_
          refine lv_iload_n hx hb dX0_fitting_33 rfl (lv_at hl 5 rfl) ?_
          obtain ⟨o7, ho7, hr⟩ := br_bind hr
          have J7 : ∀ (H : Heap) (locs : List Loc) ls, lv_has ls 6 [(5, .ref (ax 4)), (4, .int x4_1), (3, .int x3_1), (0, .ref (ax 0)), (1, .int a1), (2, .int a2)] → Stt D (va_A (wX ax ac g) s.heap.size) s.heap (wX ax ac o5) H locs → WW p l e rm_X0_fitting s m [.ref (ax 0), .int a1, .int a2] below meth c D (wX ax ac r0.2) (va_A (wX ax ac g) s.heap.size) (some (.int r0.1)) H locs 0 0 54 ls [.ref (ax (11 + o7.val)), .int a1, .ref (ax 5)] := by
            intro H locs ls hl hS
            have hP := hS.1
            obtain ⟨c12, hr⟩ := br_none hr
            obtain ⟨g13, hg13, hr⟩ := br_let hr
            refine fw_kast hx hb hG hS (hP.pick [11, 12, 13, 14, 15, 16] rfl) 5 rfl c12 dX0_fitting_54 (wn := wX ax ac g13) (by rw [hg13]; rfl) (fun H locs hS => ?_)
            have hP := hS.1
            refine lv_aload hx hb dX0_fitting_55 (lv_at hl 0 rfl) ?_
            refine va_getN (D := D) (ci := 7) (v := .ref (ax 6)) (C := RX8) (T := TX8) (N := 8) hx hb hts in_X8 hown hG.1 hP 4 rfl rfl 3 (by decide) (va_Nw.use rfl (hG.2.1 _ nq200)) (fun _ h9 => h9) rfl dX0_fitting_57 ?_
            refine lv_iload_n hx hb dX0_fitting_60 rfl (lv_at hl 4 rfl) ?_
            refine lv_iload_n hx hb dX0_fitting_61 rfl (lv_at hl 5 rfl) ?_
            refine lv_iconst (v := 1) hx hb dX0_fitting_62 rfl ?_
            obtain ⟨o15, ho15, hr⟩ := br_bind hr
            have J15 : ∀ (H : Heap) (locs : List Loc) ls, lv_has ls 6 [(5, .ref (ax 4)), (4, .int x4_1), (3, .int x3_1), (0, .ref (ax 0)), (1, .int a1), (2, .int a2)] → Stt D (va_A (wX ax ac g) s.heap.size) s.heap (wX ax ac g13) H locs → WW p l e rm_X0_fitting s m [.ref (ax 0), .int a1, .int a2] below meth c D (wX ax ac r0.2) (va_A (wX ax ac g) s.heap.size) (some (.int r0.1)) H locs 0 0 78 ls [.int o15, .int a1, .ref (ax 6)] := by
              intro H locs ls hl hS
              have hP := hS.1
              obtain ⟨c17, hr⟩ := br_none hr
              obtain ⟨g18, hg18, hr⟩ := br_let hr
              refine fw_iast hx hb hG hS 6 rfl c17 dX0_fitting_78 (wn := wX ax ac g18) (by rw [hg18]; rfl) (fun H locs hS => ?_)
              have hP := hS.1
              refine lv_iload_n hx hb dX0_fitting_79 rfl (lv_at hl 2 rfl) ?_
              refine lv_aload_n hx hb dX0_fitting_80 rfl (lv_at hl 3 rfl) ?_
              refine lv_aload hx hb dX0_fitting_81 (lv_at hl 0 rfl) ?_
              refine lv_iload_n hx hb dX0_fitting_83 rfl (lv_at hl 4 rfl) ?_
              obtain ⟨o19, ho19, hr⟩ := br_bind hr
              refine fwWVs (As := [.ref (ax 4), .int a1]) (rest := [.int x3_1]) (C := RX0) hx hb hml hown hts (m_X0_isRow l D ax ac g18 a1 _ o19 ho19) (cw_X0_isRow hts q962 ⟨Nat.le_of_ble_eq_true rfl, Nat.le_of_ble_eq_true rfl⟩) hG hS hA rfl 0 0 rfl rfl rfl hl.1 rfl (Nat.le_of_ble_eq_true rfl) dX0_fitting_84 ⟨Nat.le_of_ble_eq_true rfl, Nat.le_of_ble_eq_true rfl⟩ (fun H locs hS => ?_)
              have hP := hS.1
              have hi20 := br_ite hr
              refine lv_if_eq (tgt := 97) hx hb dX0_fitting_87 (by decide) (fun c20 => ?_) (fun c20 => ?_)
              · have hr := hi20.1 c20
                refine lv_iconst (v := 0) hx hb dX0_fitting_97 rfl ?_
                refine lv_ior hx hb dX0_fitting_98 ?_
                refine lv_topi (fun v21 hv21 => ?_)
                have hr := br_letv hr hv21
                refine lv_istore_n (lv' := [(3, .int v21), (5, .ref (ax 4)), (4, .int x4_1), (0, .ref (ax 0)), (1, .int a1), (2, .int a2)]) hx hb dX0_fitting_99 rfl hl (by decide) rfl (fun ls hl => ?_)
                obtain ⟨v22, hv22, hr⟩ := br_let hr
                refine lv_iinc (v := v22) (lv' := [(4, .int v22), (3, .int v21), (5, .ref (ax 4)), (0, .ref (ax 0)), (1, .int a1), (2, .int a2)]) hx hb dX0_fitting_100 hl (k := 2) rfl (hv22 ▸ rfl) (by decide) rfl (fun ls hl => ?_)
                refine lv_goto (tgt := 5) hx hb dX0_fitting_103 (by decide) ?_
                exact ih v22 v21 o19.2 _ hr _ _ ls (lv_sub hl [0, 1, 3, 4, 5] rfl) hS kx
              · have hr := hi20.2 c20
                refine lv_iconst (v := 1) hx hb dX0_fitting_90 rfl ?_
                refine lv_iload hx hb dX0_fitting_91 (lv_at hl 1 rfl) ?_
                refine lv_ishl hx hb dX0_fitting_93 ?_
                refine lv_goto (tgt := 98) hx hb dX0_fitting_94 (by decide) ?_
                refine lv_ior hx hb dX0_fitting_98 ?_
                refine lv_topi (fun v23 hv23 => ?_)
                have hr := br_letv hr hv23
                refine lv_istore_n (lv' := [(3, .int v23), (5, .ref (ax 4)), (4, .int x4_1), (0, .ref (ax 0)), (1, .int a1), (2, .int a2)]) hx hb dX0_fitting_99 rfl hl (by decide) rfl (fun ls hl => ?_)
                obtain ⟨v24, hv24, hr⟩ := br_let hr
                refine lv_iinc (v := v24) (lv' := [(4, .int v24), (3, .int v23), (5, .ref (ax 4)), (0, .ref (ax 0)), (1, .int a1), (2, .int a2)]) hx hb dX0_fitting_100 hl (k := 2) rfl (hv24 ▸ rfl) (by decide) rfl (fun ls hl => ?_)
                refine lv_goto (tgt := 5) hx hb dX0_fitting_103 (by decide) ?_
                exact ih v24 v23 o19.2 _ hr _ _ ls (lv_sub hl [0, 1, 3, 4, 5] rfl) hS kx
            have hr := ho15
            have hi14 := br_ite hr
            refine lv_icmp_ne (tgt := 71) hx hb dX0_fitting_63 (by decide) (fun c14 => ?_) (fun c14 => ?_)
            · have hr := hi14.2 c14
              refine lv_aload hx hb dX0_fitting_71 (lv_at hl 0 rfl) ?_
              refine va_getN (D := D) (ci := 7) (v := .ref (ax 6)) (C := RX8) (T := TX8) (N := 8) hx hb hts in_X8 hown hG.1 hP 4 rfl rfl 3 (by decide) (va_Nw.use rfl (hG.2.1 _ nq200)) (fun _ h9 => h9) rfl dX0_fitting_73 ?_
              refine lv_iload_n hx hb dX0_fitting_76 rfl (lv_at hl 4 rfl) ?_
              obtain ⟨c16, hr⟩ := br_none hr
              refine va_iald hx hb hG.1 hP 6 0 rfl rfl c16 dX0_fitting_77 ?_
              obtain rfl := Option.some.inj hr
              exact J15 _ _ ls (lv_sub hl [0, 1, 2, 3, 4, 5] rfl) hS
            · have hr := hi14.1 c14
              refine lv_iload hx hb dX0_fitting_66 (lv_at hl 1 rfl) ?_
              refine lv_goto (tgt := 78) hx hb dX0_fitting_68 (by decide) ?_
              obtain rfl := Option.some.inj hr
              exact J15 _ _ ls (lv_sub hl [0, 1, 2, 3, 4, 5] rfl) hS
          have hr := ho7
          have hi6 := br_ite hr
          refine lv_if_ne (tgt := 47) hx hb dX0_fitting_34 (by decide) (fun c6 => ?_) (fun c6 => ?_)
          · have hr := hi6.2 c6
            refine lv_aload hx hb dX0_fitting_47 (lv_at hl 0 rfl) ?_
            refine va_getN (D := D) (ci := 7) (v := .ref (ax 5)) (C := RX8) (T := TX8) (N := 8) hx hb hts in_X8 hown hG.1 hP 4 rfl rfl 2 (by decide) (va_Nw.use rfl (hG.2.1 _ nq198)) (fun _ h9 => h9) rfl dX0_fitting_49 ?_
            refine lv_iload_n hx hb dX0_fitting_52 rfl (lv_at hl 4 rfl) ?_
            obtain ⟨c8, hr⟩ := br_none hr
            obtain ⟨k9, hk9, hr⟩ := br_bind hr
            refine fw_kald hx hb hG hP 5 rfl c8 hk9 dX0_fitting_53 ?_
            obtain rfl := Option.some.inj hr
            exact J7 _ _ ls (lv_sub hl [0, 1, 2, 3, 4, 5] rfl) hS
          · have hr := hi6.1 c6
            refine lv_aload_n hx hb dX0_fitting_37 rfl (lv_at hl 3 rfl) ?_
            refine va_get (D := D) (ci := 0) (v := .ref (ax 10)) (C := RX0) (T := TX0) (N := 17) hx hb hts in_X0 hown hG.1 hP 0 rfl rfl 0 (by decide) (hts _ q233) (fun _ h9 => h9) rfl dX0_fitting_38 ?_
            refine lv_iload hx hb dX0_fitting_41 (lv_at hl 1 rfl) ?_
            obtain ⟨c10, hr⟩ := br_none hr
            obtain ⟨k11, hk11, hr⟩ := br_bind hr
            refine fw_kald hx hb hG hP 10 rfl c10 hk11 dX0_fitting_43 ?_
            refine lv_goto (tgt := 54) hx hb dX0_fitting_44 (by decide) ?_
            obtain rfl := Option.some.inj hr
            exact J7 _ _ ls (lv_sub hl [0, 1, 2, 3, 4, 5] rfl) hS
      have hr := ho3
      have hi2 := br_ite hr
      refine lv_if_ne (tgt := 16) hx hb dX0_fitting_8 (by decide) (fun c2 => ?_) (fun c2 => ?_)
      · have hr := hi2.2 c2
        refine lv_bipush (v := 10) hx hb dX0_fitting_16 rfl ?_
        obtain rfl := Option.some.inj hr
        exact J3 _ _ ls (lv_sub hl [0, 1, 2, 3, 4] rfl) hS
      · have hr := hi2.1 c2
        refine lv_bipush (v := 6) hx hb dX0_fitting_11 rfl ?_
        refine lv_goto (tgt := 18) hx hb dX0_fitting_13 (by decide) ?_
        obtain rfl := Option.some.inj hr
        exact J3 _ _ ls (lv_sub hl [0, 1, 2, 3, 4] rfl) hS
  obtain ⟨o1, ho1, hr⟩ := br_bind hr
  refine L1 1000 0 0 g o1 ho1 _ _ ls (lv_sub hl [0, 1, 2, 3, 4] rfl) hS (fun H locs ls hl hS => ?_)
  have hP := hS.1
  refine lv_iload_n hx hb dX0_fitting_106 rfl (lv_at hl 0 rfl) ?_
  obtain rfl := Option.some.inj hr
  refine W.widen (k := rm_X0_fitting.cells) (n := rm_X0_fitting.slots) (Nat.le_of_ble_eq_true rfl) (Nat.le_of_ble_eq_true rfl) ?_
  exact W.iret hx hb hrt (fun t ht _ => hS.q ht rfl) hS.2.2.2.2 dX0_fitting_107 hlk
def f_X0_judgeRow_L12 (v1 : Int32) (g2 : XS) : Nat → Int32 → Option ((Int32 × XS) ⊕ (Unit))
  | 0, _ => none
  | n + 1, x2_3 => if v1 ≤ x2_3 then some (Sum.inr ()) else if (cG_heirs (xG_core0 g2)) ≤ x2_3 then some (Sum.inl (x2_3, g2)) else Option.bind (f_X8_shareOf (xG_core0 g2) x2_3) fun o6 => if x2_3 < 0 ∨ 16 ≤ Int32.toNatClampNeg x2_3 then none else if o6 = ((xG_row g2) (Int32.toNatClampNeg x2_3)) then Option.bind (some ((x2_3 + 1) : Int32)) fun v9 => f_X0_judgeRow_L12 v1 g2 n v9 else some (Sum.inl (x2_3, g2))
def f_X0_judgeRow (g : XS) : Option (Int32 × XS) := Option.bind (some ((xG_rowMany g) : Int32)) fun v1 => Option.bind (some (xS_rowMany g (0 : Int32))) fun g2 => bsR (f_X0_judgeRow_L12 v1 g2 1000 0) fun t3 => some ((-9), g2)
abbrev rm_X0_judgeRow : Room := ({ frames := 9, cells := 0, slots := 0, locals := 421 })
theorem cw_X0_judgeRow {R : Room} {s : State} {args : Array Value} {own : String} {index : Nat} (hts : ∀ w ∈ lw_all, w.before args s = true) (hlink : Cond.methodLink own index yX0_judgeRow ∈ lw_all) (hR : rm_X0_judgeRow.frames + 1 ≤ R.frames ∧ 8 + (3 + 11) + rm_X0_judgeRow.locals ≤ R.locals) : CallW R s args own RX0 index yX0_judgeRow cX0_judgeRow 3 (some FieldType.int) (ws_ yX0_judgeRow cX0_judgeRow 3 (some FieldType.int)) rm_X0_judgeRow rm_X0_judgeRow.cells rm_X0_judgeRow.slots 0 :=
  cwV 0 hts (lw_V hlink q969 qs64 q102 q970) rfl rfl rfl (by decide +kernel) hR
set_option maxHeartbeats 4000000 in
theorem m_X0_judgeRow (l : Launch) (D : va_G) (ax : Nat → Nat) (ac : Nat → ClassId) (g : XS) (sz : Nat) (r0 : Int32 × XS) (hr : f_X0_judgeRow g = some r0) : WM l yX0_judgeRow cX0_judgeRow 3 (some FieldType.int) rm_X0_judgeRow [.ref (ax 0)] D ac (wX ax ac g) (wX ax ac r0.2) sz (some (.int r0.1)) := by
  refine fw_of (by decide) (Nat.le_of_ble_eq_true rfl) ?_
  intro p e s m below meth c ls hx hb hrt hts hown hlk hml _ hU hl
  obtain ⟨rfl, hP, hG, hD⟩ := hU
  have hA : ∀ q : Nat, s.heap.size ≤ q → (va_A (wX ax ac g) s.heap.size) q := fun q h => Or.inr h
  have hS := Stt.start hP hD
  show WW p l e rm_X0_judgeRow s m [.ref (ax 0)] below meth c D (wX ax ac r0.2) (va_A (wX ax ac g) s.heap.size) (some (.int r0.1)) s.heap [] 0 0 0 ls []
  have hl : lv_has ls 3 [(0, .ref (ax 0))] := hl
  rw [f_X0_judgeRow] at hr
  refine lv_aload_n hx hb dX0_judgeRow_0 rfl (lv_at hl 0 rfl) ?_
  refine va_get (D := D) (ci := 0) (v := .int (xG_rowMany g)) (C := RX0) (T := TX0) (N := 17) hx hb hts in_X0 hown hG.1 hP 0 rfl rfl 6 (by decide) (hts _ q239) (fun _ h9 => h9) rfl dX0_judgeRow_1 ?_
  refine lv_topi (fun v1 hv1 => ?_)
  have hr := br_letv hr hv1
  refine lv_istore_n (lv' := [(1, .int v1), (0, .ref (ax 0))]) hx hb dX0_judgeRow_4 rfl hl (by decide) rfl (fun ls hl => ?_)
  refine lv_aload_n hx hb dX0_judgeRow_5 rfl (lv_at hl 1 rfl) ?_
  refine lv_iconst (v := 0) hx hb dX0_judgeRow_6 rfl ?_
  obtain ⟨g2, hg2, hr⟩ := br_let hr
  refine fw_put (D := D) (ci := 0) (x := .int 0) (C := RX0) (T := TX0) (N := 17) hx hb hts in_X0 tyX0 tyX0_ok nmX0 hown hG hS 0 rfl rfl 6 (by decide) (hts _ q239) (fun _ h9 => h9) rfl (tyX0_ok 6 (by decide)) rfl rfl (Nat.le_of_ble_eq_true rfl) dX0_judgeRow_7 (wn := wX ax ac g2) (by rw [hg2]; rfl) (fun H locs hS => ?_)
  have hP := hS.1
  refine lv_iconst (v := 0) hx hb dX0_judgeRow_10 rfl ?_
  refine lv_istore_n (lv' := [(2, .int 0), (1, .int v1), (0, .ref (ax 0))]) hx hb dX0_judgeRow_11 rfl hl (by decide) rfl (fun ls hl => ?_)
  have L3 : ∀ (n : Nat) (x2_3 : Int32) (o3 : (Int32 × XS) ⊕ (Unit)), f_X0_judgeRow_L12 v1 g2 n x2_3 = some o3 → (∀ r, o3 = Sum.inl r → some r = some r0) → ∀ (H : Heap) (locs : List Loc) ls, lv_has ls 3 [(2, .int x2_3), (1, .int v1), (0, .ref (ax 0))] → Stt D (va_A (wX ax ac g) s.heap.size) s.heap (wX ax ac g2) H locs → (∀ t3, o3 = Sum.inr t3 → ∀ (H : Heap) (locs : List Loc) ls, lv_has ls 3 [] → Stt D (va_A (wX ax ac g) s.heap.size) s.heap (wX ax ac g2) H locs → WW p l e rm_X0_judgeRow s m [.ref (ax 0)] below meth c D (wX ax ac r0.2) (va_A (wX ax ac g) s.heap.size) (some (.int r0.1)) H locs 0 0 53 ls []) → WW p l e rm_X0_judgeRow s m [.ref (ax 0)] below meth c D (wX ax ac r0.2) (va_A (wX ax ac g) s.heap.size) (some (.int r0.1)) H locs 0 0 12 ls [] := by
    intro n
    induction n with
    | zero => intro x2_3 o3 hr; rw [f_X0_judgeRow_L12] at hr; cases hr
    | succ n ih =>
      intro x2_3 o3 hr hret H locs ls hl hS kx
      have hP := hS.1
      rw [f_X0_judgeRow_L12] at hr
      refine lv_iload_n hx hb dX0_judgeRow_12 rfl (lv_at hl 0 rfl) ?_
      refine lv_iload_n hx hb dX0_judgeRow_13 rfl (lv_at hl 1 rfl) ?_
      have hi4 := br_ite hr
      refine lv_icmp_ge (tgt := 53) hx hb dX0_judgeRow_14 (by decide) (fun c4 => ?_) (fun c4 => ?_)
      · have hr := hi4.1 c4
        exact kx _ (Option.some.inj hr).symm _ _ ls (lv_sub hl [] rfl) hS
      · have hr := hi4.2 c4
        refine lv_iload_n hx hb dX0_judgeRow_17 rfl (lv_at hl 0 rfl) ?_
        refine lv_aload_n hx hb dX0_judgeRow_18 rfl (lv_at hl 2 rfl) ?_
        refine va_get (D := D) (ci := 0) (v := .ref (ax 1)) (C := RX0) (T := TX0) (N := 17) hx hb hts in_X0 hown hG.1 hP 0 rfl rfl 1 (by decide) (hts _ q234) (fun _ h9 => h9) rfl dX0_judgeRow_19 ?_
        refine va_getN (D := D) (ci := 7) (v := .int (cG_heirs (xG_core0 g2))) (C := RX8) (T := TX8) (N := 8) hx hb hts in_X8 hown hG.1 hP 1 rfl rfl 1 (by decide) (va_Nw.use rfl (hG.2.1 _ nq196)) (fun _ h9 => h9) rfl dX0_judgeRow_22 ?_
        have hi5 := br_ite hr
        refine lv_icmp_ge (tgt := 45) hx hb dX0_judgeRow_25 (by decide) (fun c5 => ?_) (fun c5 => ?_)
        · have hr := hi5.1 c5
          refine lv_iload_n hx hb dX0_judgeRow_45 rfl (lv_at hl 0 rfl) ?_
          have hr := hret _ (Option.some.inj hr).symm
          obtain rfl := Option.some.inj hr
          refine W.widen (k := rm_X0_judgeRow.cells) (n := rm_X0_judgeRow.slots) (Nat.le_of_ble_eq_true rfl) (Nat.le_of_ble_eq_true rfl) ?_
          exact W.iret hx hb hrt (fun t ht _ => hS.q ht rfl) hS.2.2.2.2 dX0_judgeRow_46 hlk
        · have hr := hi5.2 c5
          refine lv_aload_n hx hb dX0_judgeRow_28 rfl (lv_at hl 2 rfl) ?_
          refine va_get (D := D) (ci := 0) (v := .ref (ax 1)) (C := RX0) (T := TX0) (N := 17) hx hb hts in_X0 hown hG.1 hP 0 rfl rfl 1 (by decide) (hts _ q234) (fun _ h9 => h9) rfl dX0_judgeRow_29 ?_
          refine lv_iload_n hx hb dX0_judgeRow_32 rfl (lv_at hl 0 rfl) ?_
          obtain ⟨o6, ho6, hr⟩ := br_bind hr
          refine fwRV (As := [.int x2_3]) (rest := []) (C := RX8) hx hb hml hown hts (m_X8_shareOf l D ax ac (ax 1) (ax 2) (ax 3) (xG_core0 g2) x2_3 o6 ho6) (cw_X8_shareOf hts q684 ⟨Nat.le_of_ble_eq_true rfl, Nat.le_of_ble_eq_true rfl⟩) hG hP (hP.pick [1, 2, 3, 11, 12, 13, 14, 15, 16] rfl) 1 7 rfl rfl rfl hl.1 rfl (Nat.le_of_ble_eq_true rfl) dX0_judgeRow_33 ⟨Nat.le_of_ble_eq_true rfl, Nat.le_of_ble_eq_true rfl⟩ ?_
          refine lv_aload_n hx hb dX0_judgeRow_36 rfl (lv_at hl 2 rfl) ?_
          refine va_get (D := D) (ci := 0) (v := .ref (ax 17)) (C := RX0) (T := TX0) (N := 17) hx hb hts in_X0 hown hG.1 hP 0 rfl rfl 5 (by decide) (hts _ q238) (fun _ h9 => h9) rfl dX0_judgeRow_37 ?_
          refine lv_iload_n hx hb dX0_judgeRow_40 rfl (lv_at hl 0 rfl) ?_
          obtain ⟨c7, hr⟩ := br_none hr
          refine va_bald hx hb hG.1 hP 17 1 rfl rfl c7 dX0_judgeRow_41 ?_
          have hi8 := br_ite hr
          refine lv_icmp_eq (tgt := 47) hx hb dX0_judgeRow_42 (by decide) (fun c8 => ?_) (fun c8 => ?_)
          · have hr := hi8.1 c8
            obtain ⟨v9, hv9, hr⟩ := br_let hr
            refine lv_iinc (v := v9) (lv' := [(2, .int v9), (1, .int v1), (0, .ref (ax 0))]) hx hb dX0_judgeRow_47 hl (k := 0) rfl (hv9 ▸ rfl) (by decide) rfl (fun ls hl => ?_)
            refine lv_goto (tgt := 12) hx hb dX0_judgeRow_50 (by decide) ?_
            exact ih v9 _ hr hret _ _ ls (lv_sub hl [0, 1, 2] rfl) hS kx
          · have hr := hi8.2 c8
            refine lv_iload_n hx hb dX0_judgeRow_45 rfl (lv_at hl 0 rfl) ?_
            have hr := hret _ (Option.some.inj hr).symm
            obtain rfl := Option.some.inj hr
            refine W.widen (k := rm_X0_judgeRow.cells) (n := rm_X0_judgeRow.slots) (Nat.le_of_ble_eq_true rfl) (Nat.le_of_ble_eq_true rfl) ?_
            exact W.iret hx hb hrt (fun t ht _ => hS.q ht rfl) hS.2.2.2.2 dX0_judgeRow_46 hlk
  obtain ⟨o3, ho3, hl3, hk3⟩ := br_bsR hr
  refine L3 1000 0 o3 ho3 (fun r hq => hl3 r hq) _ _ ls (lv_sub hl [0, 1, 2] rfl) hS (fun t3 hq3 H locs ls hl hS => ?_)
  have hP := hS.1
  have hr := hk3 t3 hq3
  refine lv_bipush (v := (-9)) hx hb dX0_judgeRow_53 rfl ?_
  obtain rfl := Option.some.inj hr
  refine W.widen (k := rm_X0_judgeRow.cells) (n := rm_X0_judgeRow.slots) (Nat.le_of_ble_eq_true rfl) (Nat.le_of_ble_eq_true rfl) ?_
  exact W.iret hx hb hrt (fun t ht _ => hS.q ht rfl) hS.2.2.2.2 dX0_judgeRow_55 hlk
def f_X0_drawBelow (g : XS) (a1 : Int32) : Option (Int32 × XS) := Option.bind (some ((((xG_lotSeed g) * 1664525) + 1013904223) : Int32)) fun v1 => Option.bind (some (xS_lotSeed g v1)) fun g2 => if a1 = 0 then none else some (((((xG_lotSeed g2) &&& 2147483647) / 256) - (((xG_lotSeed g2) &&& 2147483647) / 256) / a1 * a1), g2)
abbrev rm_X0_drawBelow : Room := ({ frames := 1, cells := 0, slots := 0, locals := 18 })
theorem cw_X0_drawBelow {R : Room} {s : State} {args : Array Value} {own : String} {index : Nat} (hts : ∀ w ∈ lw_all, w.before args s = true) (hlink : Cond.methodLink own index yX0_drawBelow ∈ lw_all) (hR : rm_X0_drawBelow.frames + 1 ≤ R.frames ∧ 8 + (2 + 11) + rm_X0_drawBelow.locals ≤ R.locals) : CallW R s args own RX0 index yX0_drawBelow cX0_drawBelow 2 (some FieldType.int) (ws_ yX0_drawBelow cX0_drawBelow 2 (some FieldType.int)) rm_X0_drawBelow rm_X0_drawBelow.cells rm_X0_drawBelow.slots 1 :=
  cwV 1 hts (lw_V hlink q982 qs67 q102 q983) rfl rfl rfl (by decide +kernel) hR
set_option maxHeartbeats 4000000 in
theorem m_X0_drawBelow (l : Launch) (D : va_G) (ax : Nat → Nat) (ac : Nat → ClassId) (g : XS) (a1 : Int32) (sz : Nat) (r0 : Int32 × XS) (hr : f_X0_drawBelow g a1 = some r0) : WM l yX0_drawBelow cX0_drawBelow 2 (some FieldType.int) rm_X0_drawBelow [.ref (ax 0), .int a1] D ac (wX ax ac g) (wX ax ac r0.2) sz (some (.int r0.1)) := by
  refine fw_of (by decide) (Nat.le_of_ble_eq_true rfl) ?_
  intro p e s m below meth c ls hx hb hrt hts hown hlk hml _ hU hl
  obtain ⟨rfl, hP, hG, hD⟩ := hU
  have hA : ∀ q : Nat, s.heap.size ≤ q → (va_A (wX ax ac g) s.heap.size) q := fun q h => Or.inr h
  have hS := Stt.start hP hD
  show WW p l e rm_X0_drawBelow s m [.ref (ax 0), .int a1] below meth c D (wX ax ac r0.2) (va_A (wX ax ac g) s.heap.size) (some (.int r0.1)) s.heap [] 0 0 0 ls []
  have hl : lv_has ls 2 [(0, .ref (ax 0)), (1, .int a1)] := hl
  rw [f_X0_drawBelow] at hr
  refine lv_aload_n hx hb dX0_drawBelow_0 rfl (lv_at hl 0 rfl) ?_
  refine lv_aload_n hx hb dX0_drawBelow_1 rfl (lv_at hl 0 rfl) ?_
  refine va_get (D := D) (ci := 0) (v := .int (xG_lotSeed g)) (C := RX0) (T := TX0) (N := 17) hx hb hts in_X0 hown hG.1 hP 0 rfl rfl 16 (by decide) (hts _ q251) (fun _ h9 => h9) rfl dX0_drawBelow_2 ?_
  refine lv_ldcw (v := 1664525) hx hb hown (hts _ q984) dX0_drawBelow_5 ?_
  refine lv_imul hx hb dX0_drawBelow_8 ?_
  refine lv_ldcw (v := 1013904223) hx hb hown (hts _ q985) dX0_drawBelow_9 ?_
  refine lv_iadd hx hb dX0_drawBelow_12 ?_
  refine lv_topi (fun v1 hv1 => ?_)
  have hr := br_letv hr hv1
  obtain ⟨g2, hg2, hr⟩ := br_let hr
  refine fw_put (D := D) (ci := 0) (x := .int v1) (C := RX0) (T := TX0) (N := 17) hx hb hts in_X0 tyX0 tyX0_ok nmX0 hown hG hS 0 rfl rfl 16 (by decide) (hts _ q251) (fun _ h9 => h9) rfl (tyX0_ok 16 (by decide)) rfl rfl (Nat.le_of_ble_eq_true rfl) dX0_drawBelow_13 (wn := wX ax ac g2) (by rw [hg2]; rfl) (fun H locs hS => ?_)
  have hP := hS.1
  refine lv_aload_n hx hb dX0_drawBelow_16 rfl (lv_at hl 0 rfl) ?_
  refine va_get (D := D) (ci := 0) (v := .int (xG_lotSeed g2)) (C := RX0) (T := TX0) (N := 17) hx hb hts in_X0 hown hG.1 hP 0 rfl rfl 16 (by decide) (hts _ q251) (fun _ h9 => h9) rfl dX0_drawBelow_17 ?_
  refine lv_ldcw (v := 2147483647) hx hb hown (hts _ q986) dX0_drawBelow_20 ?_
  refine lv_iand hx hb dX0_drawBelow_23 ?_
  refine lv_sipush (v := 256) hx hb dX0_drawBelow_24 rfl ?_
  refine lv_idiv hx hb dX0_drawBelow_27 (by decide) ?_
  refine lv_iload_n hx hb dX0_drawBelow_28 rfl (lv_at hl 1 rfl) ?_
  obtain ⟨c3, hr⟩ := br_none hr
  refine lv_irem hx hb dX0_drawBelow_29 c3 ?_
  obtain rfl := Option.some.inj hr
  refine W.widen (k := rm_X0_drawBelow.cells) (n := rm_X0_drawBelow.slots) (Nat.le_of_ble_eq_true rfl) (Nat.le_of_ble_eq_true rfl) ?_
  exact W.iret hx hb hrt (fun t ht _ => hS.q ht rfl) hS.2.2.2.2 dX0_drawBelow_30 hlk
def f_X0_byLots_L26 : Nat → Int32 → XS → Option (XS)
  | 0, _, _ => none
  | n + 1, x7_5, g_5 => if 6 ≤ x7_5 then some g_5 else Option.bind (f_X0_drawBelow g_5 (4 : Int32)) fun o7 => Option.bind (f_X0_drawBelow o7.2 (25 : Int32)) fun o8 => Option.bind (f_X8_canBite (xG_mind o8.2) o7.1 o8.1) fun o9 => if o9 = 0 then Option.bind (some ((x7_5 + 1) : Int32)) fun v11 => f_X0_byLots_L26 n v11 o8.2 else Option.bind (f_X8_bite (xG_mind o8.2) o7.1 o8.1) fun o12 => Option.bind (some (xS_mind o8.2 o12)) fun g13 => Option.bind (some ((x7_5 + 1) : Int32)) fun v14 => f_X0_byLots_L26 n v14 g13
def f_X0_byLots_L11 (a1 : Int32) (a3 : Int32) : Nat → Int32 → Int32 → XS → Option (Int32 × XS)
  | 0, _, _, _ => none
  | n + 1, x5_2, x4_2, g_2 => if a1 ≤ x5_2 then some (x4_2, g_2) else Option.bind (f_X0_openMind g_2) fun o4 => Option.bind (f_X0_byLots_L26 1000 0 o4) fun o5 => if a3 = 0 then Option.bind (f_X8_allShares (xG_mind o5)) fun o22 => Option.bind (some ((x4_2 + o22) : Int32)) fun v23 => Option.bind (some ((x5_2 + 1) : Int32)) fun v24 => f_X0_byLots_L11 a1 a3 n v24 v23 o5 else Option.bind (f_X8_isInChancery (xG_mind o5)) fun o16 => if o16 = 0 then Option.bind (some ((x4_2 + 0) : Int32)) fun v18 => Option.bind (some ((x5_2 + 1) : Int32)) fun v19 => f_X0_byLots_L11 a1 a3 n v19 v18 o5 else Option.bind (some ((x4_2 + 1) : Int32)) fun v20 => Option.bind (some ((x5_2 + 1) : Int32)) fun v21 => f_X0_byLots_L11 a1 a3 n v21 v20 o5
def f_X0_byLots (g : XS) (a1 : Int32) (a2 : Int32) (a3 : Int32) : Option (Int32 × XS) := Option.bind (some (xS_lotSeed g a2)) fun g1 => Option.bind (f_X0_byLots_L11 a1 a3 1000 0 0 g1) fun o2 => some (o2.1, o2.2)
abbrev rm_X0_byLots : Room := ({ frames := 10, cells := 0, slots := 0, locals := 443 })
theorem cw_X0_byLots {R : Room} {s : State} {args : Array Value} {own : String} {index : Nat} (hts : ∀ w ∈ lw_all, w.before args s = true) (hlink : Cond.methodLink own index yX0_byLots ∈ lw_all) (hR : rm_X0_byLots.frames + 1 ≤ R.frames ∧ 8 + (10 + 11) + rm_X0_byLots.locals ≤ R.locals) : CallW R s args own RX0 index yX0_byLots cX0_byLots 10 (some FieldType.int) (ws_ yX0_byLots cX0_byLots 10 (some FieldType.int)) rm_X0_byLots rm_X0_byLots.cells rm_X0_byLots.slots 3 :=
  cwV 3 hts (lw_V hlink q978 qs66 q102 q979) rfl rfl rfl (by decide +kernel) hR
set_option maxHeartbeats 4000000 in
theorem m_X0_byLots (l : Launch) (D : va_G) (ax : Nat → Nat) (ac : Nat → ClassId) (g : XS) (a1 : Int32) (a2 : Int32) (a3 : Int32) (sz : Nat) (r0 : Int32 × XS) (hr : f_X0_byLots g a1 a2 a3 = some r0) : WM l yX0_byLots cX0_byLots 10 (some FieldType.int) rm_X0_byLots [.ref (ax 0), .int a1, .int a2, .int a3] D ac (wX ax ac g) (wX ax ac r0.2) sz (some (.int r0.1)) := by
  refine fw_of (by decide) (Nat.le_of_ble_eq_true rfl) ?_
  intro p e s m below meth c ls hx hb hrt hts hown hlk hml _ hU hl
  obtain ⟨rfl, hP, hG, hD⟩ := hU
  have hA : ∀ q : Nat, s.heap.size ≤ q → (va_A (wX ax ac g) s.heap.size) q := fun q h => Or.inr h
  have hS := Stt.start hP hD
  show WW p l e rm_X0_byLots s m [.ref (ax 0), .int a1, .int a2, .int a3] below meth c D (wX ax ac r0.2) (va_A (wX ax ac g) s.heap.size) (some (.int r0.1)) s.heap [] 0 0 0 ls []
  have hl : lv_has ls 10 [(0, .ref (ax 0)), (1, .int a1), (2, .int a2), (3, .int a3)] := hl
  rw [f_X0_byLots] at hr
  refine lv_aload_n hx hb dX0_byLots_0 rfl (lv_at hl 0 rfl) ?_
  refine lv_iload_n hx hb dX0_byLots_1 rfl (lv_at hl 2 rfl) ?_
  obtain ⟨g1, hg1, hr⟩ := br_let hr
  refine fw_put (D := D) (ci := 0) (x := .int a2) (C := RX0) (T := TX0) (N := 17) hx hb hts in_X0 tyX0 tyX0_ok nmX0 hown hG hS 0 rfl rfl 16 (by decide) (hts _ q251) (fun _ h9 => h9) rfl (tyX0_ok 16 (by decide)) rfl rfl (Nat.le_of_ble_eq_true rfl) dX0_byLots_2 (wn := wX ax ac g1) (by rw [hg1]; rfl) (fun H locs hS => ?_)
  have hP := hS.1
  refine lv_iconst (v := 0) hx hb dX0_byLots_5 rfl ?_
  refine lv_istore (lv' := [(4, .int 0), (0, .ref (ax 0)), (1, .int a1), (2, .int a2), (3, .int a3)]) hx hb dX0_byLots_6 hl (by decide) rfl (fun ls hl => ?_)
  refine lv_iconst (v := 0) hx hb dX0_byLots_8 rfl ?_
  refine lv_istore (lv' := [(5, .int 0), (4, .int 0), (0, .ref (ax 0)), (1, .int a1), (2, .int a2), (3, .int a3)]) hx hb dX0_byLots_9 hl (by decide) rfl (fun ls hl => ?_)
  have L2 : ∀ (n : Nat) (x5_2 : Int32) (x4_2 : Int32) (g_2 : XS) (o2 : Int32 × XS), f_X0_byLots_L11 a1 a3 n x5_2 x4_2 g_2 = some o2 → ∀ (H : Heap) (locs : List Loc) ls, lv_has ls 10 [(5, .int x5_2), (4, .int x4_2), (0, .ref (ax 0)), (1, .int a1), (3, .int a3)] → Stt D (va_A (wX ax ac g) s.heap.size) s.heap (wX ax ac g_2) H locs → (∀ (H : Heap) (locs : List Loc) ls, lv_has ls 10 [(4, .int o2.1)] → Stt D (va_A (wX ax ac g) s.heap.size) s.heap (wX ax ac o2.2) H locs → WW p l e rm_X0_byLots s m [.ref (ax 0), .int a1, .int a2, .int a3] below meth c D (wX ax ac r0.2) (va_A (wX ax ac g) s.heap.size) (some (.int r0.1)) H locs 0 0 111 ls []) → WW p l e rm_X0_byLots s m [.ref (ax 0), .int a1, .int a2, .int a3] below meth c D (wX ax ac r0.2) (va_A (wX ax ac g) s.heap.size) (some (.int r0.1)) H locs 0 0 11 ls [] := by
    intro n
    induction n with
    | zero => intro x5_2 x4_2 g_2 o2 hr; rw [f_X0_byLots_L11] at hr; cases hr
    | succ n ih =>
      intro x5_2 x4_2 g_2 o2 hr H locs ls hl hS kx
      have hP := hS.1
      rw [f_X0_byLots_L11] at hr
      refine lv_iload hx hb dX0_byLots_11 (lv_at hl 0 rfl) ?_
      refine lv_iload_n hx hb dX0_byLots_13 rfl (lv_at hl 3 rfl) ?_
      have hi3 := br_ite hr
      refine lv_icmp_ge (tgt := 111) hx hb dX0_byLots_14 (by decide) (fun c3 => ?_) (fun c3 => ?_)
      · have hr := hi3.1 c3
        obtain rfl := Option.some.inj hr
        exact kx _ _ ls (lv_sub hl [1] rfl) hS
      · have hr := hi3.2 c3
        refine lv_aload_n hx hb dX0_byLots_17 rfl (lv_at hl 2 rfl) ?_
        obtain ⟨o4, ho4, hr⟩ := br_bind hr
        refine fwWVs (As := []) (rest := []) (C := RX0) hx hb hml hown hts (m_X0_openMind l D ax ac g_2 _ o4 ho4) (cw_X0_openMind hts q818 ⟨Nat.le_of_ble_eq_true rfl, Nat.le_of_ble_eq_true rfl⟩) hG hS hA rfl 0 0 rfl rfl rfl hl.1 rfl (Nat.le_of_ble_eq_true rfl) dX0_byLots_18 ⟨Nat.le_of_ble_eq_true rfl, Nat.le_of_ble_eq_true rfl⟩ (fun H locs hS => ?_)
        have hP := hS.1
        refine lv_astore (lv' := [(6, .ref (ax 4)), (5, .int x5_2), (4, .int x4_2), (0, .ref (ax 0)), (1, .int a1), (3, .int a3)]) hx hb dX0_byLots_21 hl (by decide) rfl (fun ls hl => ?_)
        refine lv_iconst (v := 0) hx hb dX0_byLots_23 rfl ?_
        refine lv_istore (lv' := [(7, .int 0), (6, .ref (ax 4)), (5, .int x5_2), (4, .int x4_2), (0, .ref (ax 0)), (1, .int a1), (3, .int a3)]) hx hb dX0_byLots_24 hl (by decide) rfl (fun ls hl => ?_)
        have L5 : ∀ (n : Nat) (x7_5 : Int32) (g_5 : XS) (o5 : XS), f_X0_byLots_L26 n x7_5 g_5 = some o5 → ∀ (H : Heap) (locs : List Loc) ls, lv_has ls 10 [(7, .int x7_5), (6, .ref (ax 4)), (5, .int x5_2), (4, .int x4_2), (0, .ref (ax 0)), (1, .int a1), (3, .int a3)] → Stt D (va_A (wX ax ac g) s.heap.size) s.heap (wX ax ac g_5) H locs → (∀ (H : Heap) (locs : List Loc) ls, lv_has ls 10 [(6, .ref (ax 4)), (5, .int x5_2), (4, .int x4_2), (0, .ref (ax 0)), (1, .int a1), (3, .int a3)] → Stt D (va_A (wX ax ac g) s.heap.size) s.heap (wX ax ac o5) H locs → WW p l e rm_X0_byLots s m [.ref (ax 0), .int a1, .int a2, .int a3] below meth c D (wX ax ac r0.2) (va_A (wX ax ac g) s.heap.size) (some (.int r0.1)) H locs 0 0 75 ls []) → WW p l e rm_X0_byLots s m [.ref (ax 0), .int a1, .int a2, .int a3] below meth c D (wX ax ac r0.2) (va_A (wX ax ac g) s.heap.size) (some (.int r0.1)) H locs 0 0 26 ls [] := by
          intro n
          induction n with
          | zero => intro x7_5 g_5 o5 hr; rw [f_X0_byLots_L26] at hr; cases hr
          | succ n ih =>
            intro x7_5 g_5 o5 hr H locs ls hl hS kx
            have hP := hS.1
            rw [f_X0_byLots_L26] at hr
            refine lv_iload hx hb dX0_byLots_26 (lv_at hl 0 rfl) ?_
            refine lv_bipush (v := 6) hx hb dX0_byLots_28 rfl ?_
            have hi6 := br_ite hr
            refine lv_icmp_ge (tgt := 75) hx hb dX0_byLots_30 (by decide) (fun c6 => ?_) (fun c6 => ?_)
            · have hr := hi6.1 c6
              obtain rfl := Option.some.inj hr
              exact kx _ _ ls (lv_sub hl [1, 2, 3, 4, 5, 6] rfl) hS
            · have hr := hi6.2 c6
              refine lv_aload_n hx hb dX0_byLots_33 rfl (lv_at hl 4 rfl) ?_
              refine lv_iconst (v := 4) hx hb dX0_byLots_34 rfl ?_
              obtain ⟨o7, ho7, hr⟩ := br_bind hr
              refine fwWVs (As := [.int 4]) (rest := []) (C := RX0) hx hb hml hown hts (m_X0_drawBelow l D ax ac g_5 (4 : Int32) _ o7 ho7) (cw_X0_drawBelow hts q980 ⟨Nat.le_of_ble_eq_true rfl, Nat.le_of_ble_eq_true rfl⟩) hG hS hA rfl 0 0 rfl rfl rfl hl.1 rfl (Nat.le_of_ble_eq_true rfl) dX0_byLots_35 ⟨Nat.le_of_ble_eq_true rfl, Nat.le_of_ble_eq_true rfl⟩ (fun H locs hS => ?_)
              have hP := hS.1
              refine lv_istore (lv' := [(8, .int o7.1), (7, .int x7_5), (6, .ref (ax 4)), (5, .int x5_2), (4, .int x4_2), (0, .ref (ax 0)), (1, .int a1), (3, .int a3)]) hx hb dX0_byLots_38 hl (by decide) rfl (fun ls hl => ?_)
              refine lv_aload_n hx hb dX0_byLots_40 rfl (lv_at hl 5 rfl) ?_
              refine lv_bipush (v := 25) hx hb dX0_byLots_41 rfl ?_
              obtain ⟨o8, ho8, hr⟩ := br_bind hr
              refine fwWVs (As := [.int 25]) (rest := []) (C := RX0) hx hb hml hown hts (m_X0_drawBelow l D ax ac o7.2 (25 : Int32) _ o8 ho8) (cw_X0_drawBelow hts q980 ⟨Nat.le_of_ble_eq_true rfl, Nat.le_of_ble_eq_true rfl⟩) hG hS hA rfl 0 0 rfl rfl rfl hl.1 rfl (Nat.le_of_ble_eq_true rfl) dX0_byLots_43 ⟨Nat.le_of_ble_eq_true rfl, Nat.le_of_ble_eq_true rfl⟩ (fun H locs hS => ?_)
              have hP := hS.1
              refine lv_istore (lv' := [(9, .int o8.1), (8, .int o7.1), (7, .int x7_5), (6, .ref (ax 4)), (5, .int x5_2), (4, .int x4_2), (0, .ref (ax 0)), (1, .int a1), (3, .int a3)]) hx hb dX0_byLots_46 hl (by decide) rfl (fun ls hl => ?_)
              refine lv_aload hx hb dX0_byLots_48 (lv_at hl 3 rfl) ?_
              refine lv_iload hx hb dX0_byLots_50 (lv_at hl 1 rfl) ?_
              refine lv_iload hx hb dX0_byLots_52 (lv_at hl 0 rfl) ?_
              obtain ⟨o9, ho9, hr⟩ := br_bind hr
              refine fwRV (As := [.int o7.1, .int o8.1]) (rest := []) (C := RX8) hx hb hml hown hts (m_X8_canBite l D ax ac (ax 4) (ax 5) (ax 6) (xG_mind o8.2) o7.1 o8.1 o9 ho9) (cw_X8_canBite hts q742 ⟨Nat.le_of_ble_eq_true rfl, Nat.le_of_ble_eq_true rfl⟩) hG hP (hP.pick [4, 5, 6] rfl) 4 7 rfl rfl rfl hl.1 rfl (Nat.le_of_ble_eq_true rfl) dX0_byLots_54 ⟨Nat.le_of_ble_eq_true rfl, Nat.le_of_ble_eq_true rfl⟩ ?_
              have hi10 := br_ite hr
              refine lv_if_eq (tgt := 69) hx hb dX0_byLots_57 (by decide) (fun c10 => ?_) (fun c10 => ?_)
              · have hr := hi10.1 c10
                obtain ⟨v11, hv11, hr⟩ := br_let hr
                refine lv_iinc (v := v11) (lv' := [(7, .int v11), (9, .int o8.1), (8, .int o7.1), (6, .ref (ax 4)), (5, .int x5_2), (4, .int x4_2), (0, .ref (ax 0)), (1, .int a1), (3, .int a3)]) hx hb dX0_byLots_69 hl (k := 2) rfl (hv11 ▸ rfl) (by decide) rfl (fun ls hl => ?_)
                refine lv_goto (tgt := 26) hx hb dX0_byLots_72 (by decide) ?_
                exact ih v11 o8.2 _ hr _ _ ls (lv_sub hl [0, 3, 4, 5, 6, 7, 8] rfl) hS kx
              · have hr := hi10.2 c10
                refine lv_aload hx hb dX0_byLots_60 (lv_at hl 3 rfl) ?_
                refine lv_iload hx hb dX0_byLots_62 (lv_at hl 1 rfl) ?_
                refine lv_iload hx hb dX0_byLots_64 (lv_at hl 0 rfl) ?_
                obtain ⟨o12, ho12, hr⟩ := br_bind hr
                obtain ⟨g13, hg13, hr⟩ := br_let hr
                refine fwWV (As := [.int o7.1, .int o8.1]) (rest := []) (C := RX8) hx hb hml hown hts (m_X8_bite l D ax ac (ax 4) (ax 5) (ax 6) (xG_mind o8.2) o7.1 o8.1 _ o12 ho12) (cw_X8_bite hts q743 ⟨Nat.le_of_ble_eq_true rfl, Nat.le_of_ble_eq_true rfl⟩) hG hS hA [4, 5, 6] rfl rfl rfl 4 7 rfl rfl rfl hl.1 rfl (Nat.le_of_ble_eq_true rfl) dX0_byLots_66 ⟨Nat.le_of_ble_eq_true rfl, Nat.le_of_ble_eq_true rfl⟩ (wn := wX ax ac g13) (by rw [hg13]; rfl) (fun H locs hS => ?_)
                have hP := hS.1
                obtain ⟨v14, hv14, hr⟩ := br_let hr
                refine lv_iinc (v := v14) (lv' := [(7, .int v14), (9, .int o8.1), (8, .int o7.1), (6, .ref (ax 4)), (5, .int x5_2), (4, .int x4_2), (0, .ref (ax 0)), (1, .int a1), (3, .int a3)]) hx hb dX0_byLots_69 hl (k := 2) rfl (hv14 ▸ rfl) (by decide) rfl (fun ls hl => ?_)
                refine lv_goto (tgt := 26) hx hb dX0_byLots_72 (by decide) ?_
                exact ih v14 g13 _ hr _ _ ls (lv_sub hl [0, 3, 4, 5, 6, 7, 8] rfl) hS kx
        obtain ⟨o5, ho5, hr⟩ := br_bind hr
        refine L5 1000 0 o4 o5 ho5 _ _ ls (lv_sub hl [0, 1, 2, 3, 4, 5, 6] rfl) hS (fun H locs ls hl hS => ?_)
        have hP := hS.1
        refine lv_iload hx hb dX0_byLots_75 (lv_at hl 2 rfl) ?_
        refine lv_iload_n hx hb dX0_byLots_77 rfl (lv_at hl 5 rfl) ?_
        have hi15 := br_ite hr
        refine lv_if_ne (tgt := 89) hx hb dX0_byLots_78 (by decide) (fun c15 => ?_) (fun c15 => ?_)
        · have hr := hi15.2 c15
          refine lv_aload hx hb dX0_byLots_89 (lv_at hl 0 rfl) ?_
          obtain ⟨o16, ho16, hr⟩ := br_bind hr
          refine fwRV (As := []) (rest := [.int x4_2]) (C := RX8) hx hb hml hown hts (m_X8_isInChancery l D ax ac (ax 4) (ax 5) (ax 6) (xG_mind o5) o16 ho16) (cw_X8_isInChancery hts q789 ⟨Nat.le_of_ble_eq_true rfl, Nat.le_of_ble_eq_true rfl⟩) hG hP (hP.pick [4, 5, 6] rfl) 4 7 rfl rfl rfl hl.1 rfl (Nat.le_of_ble_eq_true rfl) dX0_byLots_91 ⟨Nat.le_of_ble_eq_true rfl, Nat.le_of_ble_eq_true rfl⟩ ?_
          have hi17 := br_ite hr
          refine lv_if_eq (tgt := 101) hx hb dX0_byLots_94 (by decide) (fun c17 => ?_) (fun c17 => ?_)
          · have hr := hi17.1 c17
            refine lv_iconst (v := 0) hx hb dX0_byLots_101 rfl ?_
            refine lv_iadd hx hb dX0_byLots_102 ?_
            refine lv_topi (fun v18 hv18 => ?_)
            have hr := br_letv hr hv18
            refine lv_istore (lv' := [(4, .int v18), (6, .ref (ax 4)), (5, .int x5_2), (0, .ref (ax 0)), (1, .int a1), (3, .int a3)]) hx hb dX0_byLots_103 hl (by decide) rfl (fun ls hl => ?_)
            obtain ⟨v19, hv19, hr⟩ := br_let hr
            refine lv_iinc (v := v19) (lv' := [(5, .int v19), (4, .int v18), (6, .ref (ax 4)), (0, .ref (ax 0)), (1, .int a1), (3, .int a3)]) hx hb dX0_byLots_105 hl (k := 2) rfl (hv19 ▸ rfl) (by decide) rfl (fun ls hl => ?_)
            refine lv_goto (tgt := 11) hx hb dX0_byLots_108 (by decide) ?_
            exact ih v19 v18 o5 _ hr _ _ ls (lv_sub hl [0, 1, 3, 4, 5] rfl) hS kx
          · have hr := hi17.2 c17
            refine lv_iconst (v := 1) hx hb dX0_byLots_97 rfl ?_
            refine lv_goto (tgt := 102) hx hb dX0_byLots_98 (by decide) ?_
            refine lv_iadd hx hb dX0_byLots_102 ?_
            refine lv_topi (fun v20 hv20 => ?_)
            have hr := br_letv hr hv20
            refine lv_istore (lv' := [(4, .int v20), (6, .ref (ax 4)), (5, .int x5_2), (0, .ref (ax 0)), (1, .int a1), (3, .int a3)]) hx hb dX0_byLots_103 hl (by decide) rfl (fun ls hl => ?_)
            obtain ⟨v21, hv21, hr⟩ := br_let hr
            refine lv_iinc (v := v21) (lv' := [(5, .int v21), (4, .int v20), (6, .ref (ax 4)), (0, .ref (ax 0)), (1, .int a1), (3, .int a3)]) hx hb dX0_byLots_105 hl (k := 2) rfl (hv21 ▸ rfl) (by decide) rfl (fun ls hl => ?_)
            refine lv_goto (tgt := 11) hx hb dX0_byLots_108 (by decide) ?_
            exact ih v21 v20 o5 _ hr _ _ ls (lv_sub hl [0, 1, 3, 4, 5] rfl) hS kx
        · have hr := hi15.1 c15
          refine lv_aload hx hb dX0_byLots_81 (lv_at hl 0 rfl) ?_
          obtain ⟨o22, ho22, hr⟩ := br_bind hr
          refine fwRV (As := []) (rest := [.int x4_2]) (C := RX8) hx hb hml hown hts (m_X8_allShares l D ax ac (ax 4) (ax 5) (ax 6) (xG_mind o5) o22 ho22) (cw_X8_allShares hts q776 ⟨Nat.le_of_ble_eq_true rfl, Nat.le_of_ble_eq_true rfl⟩) hG hP (hP.pick [4, 5, 6, 11, 12, 13, 14, 15, 16] rfl) 4 7 rfl rfl rfl hl.1 rfl (Nat.le_of_ble_eq_true rfl) dX0_byLots_83 ⟨Nat.le_of_ble_eq_true rfl, Nat.le_of_ble_eq_true rfl⟩ ?_
          refine lv_goto (tgt := 102) hx hb dX0_byLots_86 (by decide) ?_
          refine lv_iadd hx hb dX0_byLots_102 ?_
          refine lv_topi (fun v23 hv23 => ?_)
          have hr := br_letv hr hv23
          refine lv_istore (lv' := [(4, .int v23), (6, .ref (ax 4)), (5, .int x5_2), (0, .ref (ax 0)), (1, .int a1), (3, .int a3)]) hx hb dX0_byLots_103 hl (by decide) rfl (fun ls hl => ?_)
          obtain ⟨v24, hv24, hr⟩ := br_let hr
          refine lv_iinc (v := v24) (lv' := [(5, .int v24), (4, .int v23), (6, .ref (ax 4)), (0, .ref (ax 0)), (1, .int a1), (3, .int a3)]) hx hb dX0_byLots_105 hl (k := 2) rfl (hv24 ▸ rfl) (by decide) rfl (fun ls hl => ?_)
          refine lv_goto (tgt := 11) hx hb dX0_byLots_108 (by decide) ?_
          exact ih v24 v23 o5 _ hr _ _ ls (lv_sub hl [0, 1, 3, 4, 5] rfl) hS kx
  obtain ⟨o2, ho2, hr⟩ := br_bind hr
  refine L2 1000 0 0 g1 o2 ho2 _ _ ls (lv_sub hl [0, 1, 2, 3, 5] rfl) hS (fun H locs ls hl hS => ?_)
  have hP := hS.1
  refine lv_iload hx hb dX0_byLots_111 (lv_at hl 0 rfl) ?_
  obtain rfl := Option.some.inj hr
  refine W.widen (k := rm_X0_byLots.cells) (n := rm_X0_byLots.slots) (Nat.le_of_ble_eq_true rfl) (Nat.le_of_ble_eq_true rfl) ?_
  exact W.iret hx hb hrt (fun t ht _ => hS.q ht rfl) hS.2.2.2.2 dX0_byLots_113 hlk
def f_X0_refuse (g : XS) (a1 : Int32) : Option (Int32 × XS) := if a1 ≤ (-20) then some (a1, g) else Option.bind (some ((-a1) : Int32)) fun v2 => if v2 < 0 ∨ 7 ≤ Int32.toNatClampNeg v2 then none else Option.bind (some ((((xG_refused g) (Int32.toNatClampNeg v2)) + 1) : Int32)) fun v4 => if v2 < 0 ∨ 7 ≤ Int32.toNatClampNeg v2 then none else Option.bind (some (xS_refused g (upd (xG_refused g) (Int32.toNatClampNeg v2) v4))) fun g6 => some (a1, g6)
abbrev rm_X0_refuse : Room := ({ frames := 1, cells := 0, slots := 0, locals := 18 })
theorem cw_X0_refuse {R : Room} {s : State} {args : Array Value} {own : String} {index : Nat} (hts : ∀ w ∈ lw_all, w.before args s = true) (hlink : Cond.methodLink own index yX0_refuse ∈ lw_all) (hR : rm_X0_refuse.frames + 1 ≤ R.frames ∧ 8 + (2 + 11) + rm_X0_refuse.locals ≤ R.locals) : CallW R s args own RX0 index yX0_refuse cX0_refuse 2 (some FieldType.int) (ws_ yX0_refuse cX0_refuse 2 (some FieldType.int)) rm_X0_refuse rm_X0_refuse.cells rm_X0_refuse.slots 1 :=
  cwV 1 hts (lw_V hlink q998 qs68 q102 q999) rfl rfl rfl (by decide +kernel) hR
set_option maxHeartbeats 4000000 in
theorem m_X0_refuse (l : Launch) (D : va_G) (ax : Nat → Nat) (ac : Nat → ClassId) (g : XS) (a1 : Int32) (sz : Nat) (r0 : Int32 × XS) (hr : f_X0_refuse g a1 = some r0) : WM l yX0_refuse cX0_refuse 2 (some FieldType.int) rm_X0_refuse [.ref (ax 0), .int a1] D ac (wX ax ac g) (wX ax ac r0.2) sz (some (.int r0.1)) := by
  refine fw_of (by decide) (Nat.le_of_ble_eq_true rfl) ?_
  intro p e s m below meth c ls hx hb hrt hts hown hlk hml _ hU hl
  obtain ⟨rfl, hP, hG, hD⟩ := hU
  have hA : ∀ q : Nat, s.heap.size ≤ q → (va_A (wX ax ac g) s.heap.size) q := fun q h => Or.inr h
  have hS := Stt.start hP hD
  show WW p l e rm_X0_refuse s m [.ref (ax 0), .int a1] below meth c D (wX ax ac r0.2) (va_A (wX ax ac g) s.heap.size) (some (.int r0.1)) s.heap [] 0 0 0 ls []
  have hl : lv_has ls 2 [(0, .ref (ax 0)), (1, .int a1)] := hl
  rw [f_X0_refuse] at hr
  refine lv_iload_n hx hb dX0_refuse_0 rfl (lv_at hl 1 rfl) ?_
  refine lv_bipush (v := (-20)) hx hb dX0_refuse_1 rfl ?_
  have hi1 := br_ite hr
  refine lv_icmp_le (tgt := 17) hx hb dX0_refuse_3 (by decide) (fun c1 => ?_) (fun c1 => ?_)
  · have hr := hi1.1 c1
    refine lv_iload_n hx hb dX0_refuse_17 rfl (lv_at hl 1 rfl) ?_
    obtain rfl := Option.some.inj hr
    refine W.widen (k := rm_X0_refuse.cells) (n := rm_X0_refuse.slots) (Nat.le_of_ble_eq_true rfl) (Nat.le_of_ble_eq_true rfl) ?_
    exact W.iret hx hb hrt (fun t ht _ => hS.q ht rfl) hS.2.2.2.2 dX0_refuse_18 hlk
  · have hr := hi1.2 c1
    refine lv_aload_n hx hb dX0_refuse_6 rfl (lv_at hl 0 rfl) ?_
    refine va_get (D := D) (ci := 0) (v := .ref (ax 19)) (C := RX0) (T := TX0) (N := 17) hx hb hts in_X0 hown hG.1 hP 0 rfl rfl 9 (by decide) (hts _ q244) (fun _ h9 => h9) rfl dX0_refuse_7 ?_
    refine lv_iload_n hx hb dX0_refuse_10 rfl (lv_at hl 1 rfl) ?_
    refine lv_ineg hx hb dX0_refuse_11 ?_
    refine lv_topi (fun v2 hv2 => ?_)
    have hr := br_letv hr hv2
    refine lv_dup2_11 hx hb dX0_refuse_12 rfl rfl ?_
    obtain ⟨c3, hr⟩ := br_none hr
    refine va_iald hx hb hG.1 hP 19 0 rfl rfl c3 dX0_refuse_13 ?_
    refine lv_iconst (v := 1) hx hb dX0_refuse_14 rfl ?_
    refine lv_iadd hx hb dX0_refuse_15 ?_
    refine lv_topi (fun v4 hv4 => ?_)
    have hr := br_letv hr hv4
    obtain ⟨c5, hr⟩ := br_none hr
    obtain ⟨g6, hg6, hr⟩ := br_let hr
    refine fw_iast hx hb hG hS 19 rfl c5 dX0_refuse_16 (wn := wX ax ac g6) (by rw [hg6]; rfl) (fun H locs hS => ?_)
    have hP := hS.1
    refine lv_iload_n hx hb dX0_refuse_17 rfl (lv_at hl 1 rfl) ?_
    obtain rfl := Option.some.inj hr
    refine W.widen (k := rm_X0_refuse.cells) (n := rm_X0_refuse.slots) (Nat.le_of_ble_eq_true rfl) (Nat.le_of_ble_eq_true rfl) ?_
    exact W.iret hx hb hrt (fun t ht _ => hS.q ht rfl) hS.2.2.2.2 dX0_refuse_18 hlk
def f_X0_allAnew (g : XS) : Option (Int32 × XS) := Option.bind (some ((cG_bitten (xG_core0 g)) : Int32)) fun v1 => Option.bind (some (xS_core0 g (cS_bitten (xG_core0 g) (0 : Int32)))) fun g2 => Option.bind (f_X8_leave (xG_core0 g2) (33554431 : Int32)) fun o3 => Option.bind (some (xS_core0 g2 o3)) fun g4 => some (v1, g4)
abbrev rm_X0_allAnew : Room := ({ frames := 5, cells := 0, slots := 0, locals := 117 })
theorem cw_X0_allAnew {R : Room} {s : State} {args : Array Value} {own : String} {index : Nat} (hts : ∀ w ∈ lw_all, w.before args s = true) (hlink : Cond.methodLink own index yX0_allAnew ∈ lw_all) (hR : rm_X0_allAnew.frames + 1 ≤ R.frames ∧ 8 + (2 + 11) + rm_X0_allAnew.locals ≤ R.locals) : CallW R s args own RX0 index yX0_allAnew cX0_allAnew 2 (some FieldType.int) (ws_ yX0_allAnew cX0_allAnew 2 (some FieldType.int)) rm_X0_allAnew rm_X0_allAnew.cells rm_X0_allAnew.slots 0 :=
  cwV 0 hts (lw_V hlink q762 qs21 q102 q763) rfl rfl rfl (by decide +kernel) hR
set_option maxHeartbeats 4000000 in
theorem m_X0_allAnew (l : Launch) (D : va_G) (ax : Nat → Nat) (ac : Nat → ClassId) (g : XS) (sz : Nat) (r0 : Int32 × XS) (hr : f_X0_allAnew g = some r0) : WM l yX0_allAnew cX0_allAnew 2 (some FieldType.int) rm_X0_allAnew [.ref (ax 0)] D ac (wX ax ac g) (wX ax ac r0.2) sz (some (.int r0.1)) := by
  refine fw_of (by decide) (Nat.le_of_ble_eq_true rfl) ?_
  intro p e s m below meth c ls hx hb hrt hts hown hlk hml _ hU hl
  obtain ⟨rfl, hP, hG, hD⟩ := hU
  have hA : ∀ q : Nat, s.heap.size ≤ q → (va_A (wX ax ac g) s.heap.size) q := fun q h => Or.inr h
  have hS := Stt.start hP hD
  show WW p l e rm_X0_allAnew s m [.ref (ax 0)] below meth c D (wX ax ac r0.2) (va_A (wX ax ac g) s.heap.size) (some (.int r0.1)) s.heap [] 0 0 0 ls []
  have hl : lv_has ls 2 [(0, .ref (ax 0))] := hl
  rw [f_X0_allAnew] at hr
  refine lv_aload_n hx hb dX0_allAnew_0 rfl (lv_at hl 0 rfl) ?_
  refine va_get (D := D) (ci := 0) (v := .ref (ax 1)) (C := RX0) (T := TX0) (N := 17) hx hb hts in_X0 hown hG.1 hP 0 rfl rfl 1 (by decide) (hts _ q234) (fun _ h9 => h9) rfl dX0_allAnew_1 ?_
  refine va_getN (D := D) (ci := 7) (v := .int (cG_bitten (xG_core0 g))) (C := RX8) (T := TX8) (N := 8) hx hb hts in_X8 hown hG.1 hP 1 rfl rfl 4 (by decide) (va_Nw.use rfl (hG.2.1 _ nq203)) (fun _ h9 => h9) rfl dX0_allAnew_4 ?_
  refine lv_topi (fun v1 hv1 => ?_)
  have hr := br_letv hr hv1
  refine lv_istore_n (lv' := [(1, .int v1), (0, .ref (ax 0))]) hx hb dX0_allAnew_7 rfl hl (by decide) rfl (fun ls hl => ?_)
  refine lv_aload_n hx hb dX0_allAnew_8 rfl (lv_at hl 1 rfl) ?_
  refine va_get (D := D) (ci := 0) (v := .ref (ax 1)) (C := RX0) (T := TX0) (N := 17) hx hb hts in_X0 hown hG.1 hP 0 rfl rfl 1 (by decide) (hts _ q234) (fun _ h9 => h9) rfl dX0_allAnew_9 ?_
  refine lv_iconst (v := 0) hx hb dX0_allAnew_12 rfl ?_
  obtain ⟨g2, hg2, hr⟩ := br_let hr
  refine fw_putN (D := D) (ci := 7) (x := .int 0) (C := RX8) (T := TX8) (N := 8) hx hb hts in_X8 tyX8 tyX8_ok nmX8 hown hG hS 1 rfl rfl 4 (by decide) (va_Nw.use rfl (hG.2.1 _ nq203)) (fun _ h9 => h9) rfl (tyX8_ok 4 (by decide)) rfl rfl (Nat.le_of_ble_eq_true rfl) dX0_allAnew_13 (wn := wX ax ac g2) (by rw [hg2]; rfl) (fun H locs hS => ?_)
  have hP := hS.1
  refine lv_aload_n hx hb dX0_allAnew_16 rfl (lv_at hl 1 rfl) ?_
  refine va_get (D := D) (ci := 0) (v := .ref (ax 1)) (C := RX0) (T := TX0) (N := 17) hx hb hts in_X0 hown hG.1 hP 0 rfl rfl 1 (by decide) (hts _ q234) (fun _ h9 => h9) rfl dX0_allAnew_17 ?_
  refine lv_ldc (v := 33554431) hx hb hown (hts _ q764) dX0_allAnew_20 ?_
  obtain ⟨o3, ho3, hr⟩ := br_bind hr
  obtain ⟨g4, hg4, hr⟩ := br_let hr
  refine fwWV (As := [.int 33554431]) (rest := []) (C := RX8) hx hb hml hown hts (m_X8_leave l D ax ac (ax 1) (ax 2) (ax 3) (xG_core0 g2) (33554431 : Int32) _ o3 ho3) (cw_X8_leave hts q748 ⟨Nat.le_of_ble_eq_true rfl, Nat.le_of_ble_eq_true rfl⟩) hG hS hA [1, 2, 3] rfl rfl rfl 1 7 rfl rfl rfl hl.1 rfl (Nat.le_of_ble_eq_true rfl) dX0_allAnew_22 ⟨Nat.le_of_ble_eq_true rfl, Nat.le_of_ble_eq_true rfl⟩ (wn := wX ax ac g4) (by rw [hg4]; rfl) (fun H locs hS => ?_)
  have hP := hS.1
  refine lv_pop hx hb dX0_allAnew_25 rfl ?_
  refine lv_iload_n hx hb dX0_allAnew_26 rfl (lv_at hl 0 rfl) ?_
  obtain rfl := Option.some.inj hr
  refine W.widen (k := rm_X0_allAnew.cells) (n := rm_X0_allAnew.slots) (Nat.le_of_ble_eq_true rfl) (Nat.le_of_ble_eq_true rfl) ?_
  exact W.iret hx hb hrt (fun t ht _ => hS.q ht rfl) hS.2.2.2.2 dX0_allAnew_27 hlk
def f_X0_count (g : XS) (a1 : Int32) : Option (Int32) := if a1 = 0 then some (cG_heirs (xG_core0 g)) else if a1 = 1 then some (cG_bitten (xG_core0 g)) else if a1 = 2 then some (cG_left (xG_core0 g)) else if a1 = 3 then Option.bind (f_X0_manyIn (cG_left (xG_core0 g))) fun o9 => some o9 else if a1 = 4 then Option.bind (f_X8_allShares (xG_core0 g)) fun o10 => some o10 else if a1 = 5 then Option.bind (f_X8_isInChancery (xG_core0 g)) fun o11 => if o11 = 0 then some 0 else some 1 else if a1 = 6 then some (xG_rowMany g) else if a1 = 7 then some (xG_letterMany g) else Option.bind (f_X0_in (Int32.toInt64 a1) (11 : Int64) (16 : Int64)) fun o13 => if o13 = 0 then some (-9) else if (a1 - 10) < 0 ∨ 7 ≤ Int32.toNatClampNeg (a1 - 10) then none else some ((xG_refused g) (Int32.toNatClampNeg (a1 - 10)))
abbrev rm_X0_count : Room := ({ frames := 10, cells := 0, slots := 0, locals := 443 })
theorem cw_X0_count {R : Room} {s : State} {args : Array Value} {own : String} {index : Nat} (hts : ∀ w ∈ lw_all, w.before args s = true) (hlink : Cond.methodLink own index yX0_count ∈ lw_all) (hR : rm_X0_count.frames + 1 ≤ R.frames ∧ 8 + (2 + 11) + rm_X0_count.locals ≤ R.locals) : CallW R s args own RX0 index yX0_count cX0_count 2 (some FieldType.int) (ws_ yX0_count cX0_count 2 (some FieldType.int)) rm_X0_count rm_X0_count.cells rm_X0_count.slots 1 :=
  cwV 1 hts (lw_V hlink q1168 q1169 q102 q1170) rfl rfl rfl (by decide +kernel) hR
set_option maxHeartbeats 4000000 in
theorem m_X0_count (l : Launch) (D : va_G) (ax : Nat → Nat) (ac : Nat → ClassId) (g : XS) (a1 : Int32) (r0 : Int32) (hr : f_X0_count g a1 = some r0) : PM l yX0_count cX0_count 2 (some FieldType.int) rm_X0_count [.ref (ax 0), .int a1] (RP D ac (wX ax ac g)) (some (.int r0)) := by
  refine fw_of (by decide) (Nat.le_of_ble_eq_true rfl) ?_
  intro p e s m below meth c ls hx hb hrt hts hown hlk hml _ hU hl
  obtain ⟨hP, hG⟩ := hU
  have hl : lv_has ls 2 [(0, .ref (ax 0)), (1, .int a1)] := hl
  rw [f_X0_count] at hr
  refine lv_iload_n hx hb dX0_count_0 rfl (lv_at hl 1 rfl) ?_
  have hi1 := br_ite hr
  by_cases c1 : a1 = 0
  · have hr := hi1.1 c1
    refine lv_tableIn (tgt := 48) hx hb dX0_count_1 (by rw [c1]; decide) (by rw [c1]; decide) (by rw [c1]; rfl) (by decide) ?_
    refine lv_aload_n hx hb dX0_count_48 rfl (lv_at hl 0 rfl) ?_
    refine va_get (D := D) (ci := 0) (v := .ref (ax 1)) (C := RX0) (T := TX0) (N := 17) hx hb hts in_X0 hown hG.1 hP 0 rfl rfl 1 (by decide) (hts _ q234) (fun _ h9 => h9) rfl dX0_count_49 ?_
    refine va_getN (D := D) (ci := 7) (v := .int (cG_heirs (xG_core0 g))) (C := RX8) (T := TX8) (N := 8) hx hb hts in_X8 hown hG.1 hP 1 rfl rfl 1 (by decide) (va_Nw.use rfl (hG.2.1 _ nq196)) (fun _ h9 => h9) rfl dX0_count_52 ?_
    exact W.iret hx hb hrt (fun t ht _ => ⟨ret_i hr, ht⟩) noB dX0_count_55 hlk
  have hr := hi1.2 c1
  have hi2 := br_ite hr
  by_cases c2 : a1 = 1
  · have hr := hi2.1 c2
    refine lv_tableIn (tgt := 56) hx hb dX0_count_1 (by rw [c2]; decide) (by rw [c2]; decide) (by rw [c2]; rfl) (by decide) ?_
    refine lv_aload_n hx hb dX0_count_56 rfl (lv_at hl 0 rfl) ?_
    refine va_get (D := D) (ci := 0) (v := .ref (ax 1)) (C := RX0) (T := TX0) (N := 17) hx hb hts in_X0 hown hG.1 hP 0 rfl rfl 1 (by decide) (hts _ q234) (fun _ h9 => h9) rfl dX0_count_57 ?_
    refine va_getN (D := D) (ci := 7) (v := .int (cG_bitten (xG_core0 g))) (C := RX8) (T := TX8) (N := 8) hx hb hts in_X8 hown hG.1 hP 1 rfl rfl 4 (by decide) (va_Nw.use rfl (hG.2.1 _ nq203)) (fun _ h9 => h9) rfl dX0_count_60 ?_
    exact W.iret hx hb hrt (fun t ht _ => ⟨ret_i hr, ht⟩) noB dX0_count_63 hlk
  have hr := hi2.2 c2
  have hi3 := br_ite hr
  by_cases c3 : a1 = 2
  · have hr := hi3.1 c3
    refine lv_tableIn (tgt := 64) hx hb dX0_count_1 (by rw [c3]; decide) (by rw [c3]; decide) (by rw [c3]; rfl) (by decide) ?_
    refine lv_aload_n hx hb dX0_count_64 rfl (lv_at hl 0 rfl) ?_
    refine va_get (D := D) (ci := 0) (v := .ref (ax 1)) (C := RX0) (T := TX0) (N := 17) hx hb hts in_X0 hown hG.1 hP 0 rfl rfl 1 (by decide) (hts _ q234) (fun _ h9 => h9) rfl dX0_count_65 ?_
    refine va_getN (D := D) (ci := 7) (v := .int (cG_left (xG_core0 g))) (C := RX8) (T := TX8) (N := 8) hx hb hts in_X8 hown hG.1 hP 1 rfl rfl 0 (by decide) (va_Nw.use rfl (hG.2.1 _ nq193)) (fun _ h9 => h9) rfl dX0_count_68 ?_
    exact W.iret hx hb hrt (fun t ht _ => ⟨ret_i hr, ht⟩) noB dX0_count_71 hlk
  have hr := hi3.2 c3
  have hi4 := br_ite hr
  by_cases c4 : a1 = 3
  · have hr := hi4.1 c4
    refine lv_tableIn (tgt := 72) hx hb dX0_count_1 (by rw [c4]; decide) (by rw [c4]; decide) (by rw [c4]; rfl) (by decide) ?_
    refine lv_aload_n hx hb dX0_count_72 rfl (lv_at hl 0 rfl) ?_
    refine va_get (D := D) (ci := 0) (v := .ref (ax 1)) (C := RX0) (T := TX0) (N := 17) hx hb hts in_X0 hown hG.1 hP 0 rfl rfl 1 (by decide) (hts _ q234) (fun _ h9 => h9) rfl dX0_count_73 ?_
    refine va_getN (D := D) (ci := 7) (v := .int (cG_left (xG_core0 g))) (C := RX8) (T := TX8) (N := 8) hx hb hts in_X8 hown hG.1 hP 1 rfl rfl 0 (by decide) (va_Nw.use rfl (hG.2.1 _ nq193)) (fun _ h9 => h9) rfl dX0_count_76 ?_
    obtain ⟨o9, ho9, hr⟩ := br_bind hr
    refine fwS (As := [.int (cG_left (xG_core0 g))]) (rest := []) hx hb hml hown hts (m_X0_manyIn l (cG_left (xG_core0 g)) o9 ho9) (cw_X0_manyIn hts q654 ⟨Nat.le_of_ble_eq_true rfl, Nat.le_of_ble_eq_true rfl⟩) rfl hl.1 rfl (Nat.le_of_ble_eq_true rfl) dX0_count_79 ⟨Nat.le_of_ble_eq_true rfl, Nat.le_of_ble_eq_true rfl⟩ ?_
    exact W.iret hx hb hrt (fun t ht _ => ⟨ret_i hr, ht⟩) noB dX0_count_82 hlk
  have hr := hi4.2 c4
  have hi5 := br_ite hr
  by_cases c5 : a1 = 4
  · have hr := hi5.1 c5
    refine lv_tableIn (tgt := 83) hx hb dX0_count_1 (by rw [c5]; decide) (by rw [c5]; decide) (by rw [c5]; rfl) (by decide) ?_
    refine lv_aload_n hx hb dX0_count_83 rfl (lv_at hl 0 rfl) ?_
    refine va_get (D := D) (ci := 0) (v := .ref (ax 1)) (C := RX0) (T := TX0) (N := 17) hx hb hts in_X0 hown hG.1 hP 0 rfl rfl 1 (by decide) (hts _ q234) (fun _ h9 => h9) rfl dX0_count_84 ?_
    obtain ⟨o10, ho10, hr⟩ := br_bind hr
    refine fwRV (As := []) (rest := []) (C := RX8) hx hb hml hown hts (m_X8_allShares l D ax ac (ax 1) (ax 2) (ax 3) (xG_core0 g) o10 ho10) (cw_X8_allShares hts q776 ⟨Nat.le_of_ble_eq_true rfl, Nat.le_of_ble_eq_true rfl⟩) hG hP (hP.pick [1, 2, 3, 11, 12, 13, 14, 15, 16] rfl) 1 7 rfl rfl rfl hl.1 rfl (Nat.le_of_ble_eq_true rfl) dX0_count_87 ⟨Nat.le_of_ble_eq_true rfl, Nat.le_of_ble_eq_true rfl⟩ ?_
    exact W.iret hx hb hrt (fun t ht _ => ⟨ret_i hr, ht⟩) noB dX0_count_90 hlk
  have hr := hi5.2 c5
  have hi6 := br_ite hr
  by_cases c6 : a1 = 5
  · have hr := hi6.1 c6
    refine lv_tableIn (tgt := 91) hx hb dX0_count_1 (by rw [c6]; decide) (by rw [c6]; decide) (by rw [c6]; rfl) (by decide) ?_
    refine lv_aload_n hx hb dX0_count_91 rfl (lv_at hl 0 rfl) ?_
    refine va_get (D := D) (ci := 0) (v := .ref (ax 1)) (C := RX0) (T := TX0) (N := 17) hx hb hts in_X0 hown hG.1 hP 0 rfl rfl 1 (by decide) (hts _ q234) (fun _ h9 => h9) rfl dX0_count_92 ?_
    obtain ⟨o11, ho11, hr⟩ := br_bind hr
    refine fwRV (As := []) (rest := []) (C := RX8) hx hb hml hown hts (m_X8_isInChancery l D ax ac (ax 1) (ax 2) (ax 3) (xG_core0 g) o11 ho11) (cw_X8_isInChancery hts q789 ⟨Nat.le_of_ble_eq_true rfl, Nat.le_of_ble_eq_true rfl⟩) hG hP (hP.pick [1, 2, 3] rfl) 1 7 rfl rfl rfl hl.1 rfl (Nat.le_of_ble_eq_true rfl) dX0_count_95 ⟨Nat.le_of_ble_eq_true rfl, Nat.le_of_ble_eq_true rfl⟩ ?_
    have hi12 := br_ite hr
    refine lv_if_eq (tgt := 105) hx hb dX0_count_98 (by decide) (fun c12 => ?_) (fun c12 => ?_)
    · have hr := hi12.1 c12
      refine lv_iconst (v := 0) hx hb dX0_count_105 rfl ?_
      exact W.iret hx hb hrt (fun t ht _ => ⟨ret_i hr, ht⟩) noB dX0_count_106 hlk
    · have hr := hi12.2 c12
      refine lv_iconst (v := 1) hx hb dX0_count_101 rfl ?_
      refine lv_goto (tgt := 106) hx hb dX0_count_102 (by decide) ?_
      exact W.iret hx hb hrt (fun t ht _ => ⟨ret_i hr, ht⟩) noB dX0_count_106 hlk
  have hr := hi6.2 c6
  have hi7 := br_ite hr
  by_cases c7 : a1 = 6
  · have hr := hi7.1 c7
    refine lv_tableIn (tgt := 107) hx hb dX0_count_1 (by rw [c7]; decide) (by rw [c7]; decide) (by rw [c7]; rfl) (by decide) ?_
    refine lv_aload_n hx hb dX0_count_107 rfl (lv_at hl 0 rfl) ?_
    refine va_get (D := D) (ci := 0) (v := .int (xG_rowMany g)) (C := RX0) (T := TX0) (N := 17) hx hb hts in_X0 hown hG.1 hP 0 rfl rfl 6 (by decide) (hts _ q239) (fun _ h9 => h9) rfl dX0_count_108 ?_
    exact W.iret hx hb hrt (fun t ht _ => ⟨ret_i hr, ht⟩) noB dX0_count_111 hlk
  have hr := hi7.2 c7
  have hi8 := br_ite hr
  by_cases c8 : a1 = 7
  · have hr := hi8.1 c8
    refine lv_tableIn (tgt := 112) hx hb dX0_count_1 (by rw [c8]; decide) (by rw [c8]; decide) (by rw [c8]; rfl) (by decide) ?_
    refine lv_aload_n hx hb dX0_count_112 rfl (lv_at hl 0 rfl) ?_
    refine va_get (D := D) (ci := 0) (v := .int (xG_letterMany g)) (C := RX0) (T := TX0) (N := 17) hx hb hts in_X0 hown hG.1 hP 0 rfl rfl 8 (by decide) (hts _ q243) (fun _ h9 => h9) rfl dX0_count_113 ?_
    exact W.iret hx hb hrt (fun t ht _ => ⟨ret_i hr, ht⟩) noB dX0_count_116 hlk
  have hr := hi8.2 c8
  refine lv_tableOut (tgt := 117) hx hb dX0_count_1 (by have n1 := lv_neT (a := 0) c1 rfl; have n2 := lv_neT (a := 1) c2 rfl; have n3 := lv_neT (a := 2) c3 rfl; have n4 := lv_neT (a := 3) c4 rfl; have n5 := lv_neT (a := 4) c5 rfl; have n6 := lv_neT (a := 5) c6 rfl; have n7 := lv_neT (a := 6) c7 rfl; have n8 := lv_neT (a := 7) c8 rfl; omega) (by decide) ?_
  refine lv_iload_n hx hb dX0_count_117 rfl (lv_at hl 1 rfl) ?_
  refine lv_i2l (v := (Int32.toInt64 a1)) hx hb dX0_count_118 rfl ?_
  refine lv_ldc2 (v := 11) hx hb hown (hts _ q1171) dX0_count_119 ?_
  refine lv_ldc2 (v := 16) hx hb hown (hts _ q1172) dX0_count_122 ?_
  obtain ⟨o13, ho13, hr⟩ := br_bind hr
  refine fwS (As := [.long (Int32.toInt64 a1), .long 11, .long 16]) (rest := []) hx hb hml hown hts (m_X0_in l (Int32.toInt64 a1) (11 : Int64) (16 : Int64) o13 ho13) (cw_X0_in hts q651 ⟨Nat.le_of_ble_eq_true rfl, Nat.le_of_ble_eq_true rfl⟩) rfl hl.1 rfl (Nat.le_of_ble_eq_true rfl) dX0_count_125 ⟨Nat.le_of_ble_eq_true rfl, Nat.le_of_ble_eq_true rfl⟩ ?_
  have hi14 := br_ite hr
  refine lv_if_eq (tgt := 143) hx hb dX0_count_128 (by decide) (fun c14 => ?_) (fun c14 => ?_)
  · have hr := hi14.1 c14
    refine lv_bipush (v := (-9)) hx hb dX0_count_143 rfl ?_
    exact W.iret hx hb hrt (fun t ht _ => ⟨ret_i hr, ht⟩) noB dX0_count_145 hlk
  · have hr := hi14.2 c14
    refine lv_aload_n hx hb dX0_count_131 rfl (lv_at hl 0 rfl) ?_
    refine va_get (D := D) (ci := 0) (v := .ref (ax 19)) (C := RX0) (T := TX0) (N := 17) hx hb hts in_X0 hown hG.1 hP 0 rfl rfl 9 (by decide) (hts _ q244) (fun _ h9 => h9) rfl dX0_count_132 ?_
    refine lv_iload_n hx hb dX0_count_135 rfl (lv_at hl 1 rfl) ?_
    refine lv_bipush (v := 10) hx hb dX0_count_136 rfl ?_
    refine lv_isub hx hb dX0_count_138 ?_
    obtain ⟨c15, hr⟩ := br_none hr
    refine va_iald hx hb hG.1 hP 19 0 rfl rfl c15 dX0_count_139 ?_
    refine lv_goto (tgt := 145) hx hb dX0_count_140 (by decide) ?_
    exact W.iret hx hb hrt (fun t ht _ => ⟨ret_i hr, ht⟩) noB dX0_count_145 hlk