def f_X9_no (g : MS) (a1 : Int32) : Option (Int32 × MS) := Option.bind (some ((-a1) : Int32)) fun v1 => if v1 < 0 ∨ 7 ≤ Int32.toNatClampNeg v1 then none else if v1 < 0 ∨ 7 ≤ Int32.toNatClampNeg v1 then none else Option.bind (some (mS_refused g (upd (mG_refused g) (Int32.toNatClampNeg v1) ((mG_refused g (Int32.toNatClampNeg v1)) + 1)))) fun g4 => some (a1, g4)
abbrev rm_X9_no : Room := ({ frames := 1, cells := 0, slots := 0, locals := 18 })
set_option maxHeartbeats 4000000 in
theorem m_X9_no (l : Launch) (D : va_G) (am : Nat → Nat) (ac : Nat → ClassId) (g : MS) (a1 : Int32) (sz : Nat) (r0 : Int32 × MS) (hr : f_X9_no g a1 = some r0) : WM l yX9_no cX9_no 2 (some FieldType.int) rm_X9_no [.ref (am 0), .int a1] D ac (wM am ac g) (wM am ac r0.2) sz (some (.int r0.1)) := by
  refine fw_of (by decide) (Nat.le_of_ble_eq_true rfl) ?_
  intro p e s m below meth c ls hx hb hrt hts hown hlk hml _ hU hl
  obtain ⟨rfl, hP, hG, hD⟩ := hU
  have hA : ∀ q : Nat, s.heap.size ≤ q → va_A (wM am ac g) s.heap.size q := fun q h => Or.inr h
  have hS := Stt.start hP hD
  show WW p l e rm_X9_no s m [.ref (am 0), .int a1] below meth c D (wM am ac r0.2) (va_A (wM am ac g) s.heap.size) (some (.int r0.1)) s.heap [] 0 0 0 ls []
  have hl : lv_has ls 2 [(0, .ref (am 0)), (1, .int a1)] := hl
  rw [f_X9_no] at hr
  refine lv_aload_n hx hb dX9_no_0 rfl (lv_at hl 0 rfl) ?_
  refine va_get (D := D) (ci := 8) (v := .ref (am 9)) (C := RX9) (T := TX9) (N := 26) hx hb hts in_X9 hown hG.1 hP 0 rfl rfl 18 (by decide) (hts _ q1198) (fun _ h9 => h9) rfl dX9_no_1 ?_
  refine lv_iload_n hx hb dX9_no_4 rfl (lv_at hl 1 rfl) ?_
  refine lv_ineg hx hb dX9_no_5 ?_
  refine lv_topi (fun v1 hv1 => ?_)
  have hr := br_letv hr hv1
  refine lv_dup2_11 hx hb dX9_no_6 rfl rfl ?_
  obtain ⟨c2, hr⟩ := br_none hr
  refine va_iald hx hb hG.1 hP 9 0 rfl rfl c2 dX9_no_7 ?_
  refine lv_iconst (v := 1) hx hb dX9_no_8 rfl ?_
  refine lv_iadd hx hb dX9_no_9 ?_
  obtain ⟨c3, hr⟩ := br_none hr
  obtain ⟨g4, hg4, hr⟩ := br_let hr
  refine fw_iast hx hb hG hS 9 rfl c3 dX9_no_10 (wn := wM am ac g4) (by rw [hg4]; rfl) (fun H locs hS => ?_)
  have hP := hS.1
  refine lv_iload_n hx hb dX9_no_11 rfl (lv_at hl 1 rfl) ?_
  obtain rfl := Option.some.inj hr
  refine W.widen (k := rm_X9_no.cells) (n := rm_X9_no.slots) (Nat.le_of_ble_eq_true rfl) (Nat.le_of_ble_eq_true rfl) ?_
  exact W.iret hx hb hrt (fun t ht _ => hS.q ht rfl) hS.2.2.2.2 dX9_no_12 hlk
theorem cw_X9_no {R : Room} {s : State} {args : Array Value} {own : String} {index : Nat} (hts : ∀ w ∈ lw_all, w.before args s = true) (hlink : Cond.methodLink own index yX9_no ∈ lw_all) (hR : rm_X9_no.frames + 1 ≤ R.frames ∧ 8 + (2 + 11) + rm_X9_no.locals ≤ R.locals) : CallW R s args own RX9 index yX9_no cX9_no 2 (some FieldType.int) (ws_ yX9_no cX9_no 2 (some FieldType.int)) rm_X9_no rm_X9_no.cells rm_X9_no.slots 1 :=
  cwV 1 hts (lw_V hlink q1265 qs75 q111 q1266) rfl rfl rfl (by decide +kernel) hR
def f_X9_letter (g : MS) (a1 : Int32) : Option (Int32 × MS) := if 0 ≤ a1 then if 255 < a1 then Option.bind (f_X9_no g (-6 : Int32)) fun o3 => some (o3.1, o3.2) else if (mG_letterMany g) = 96 then Option.bind (f_X9_no g (-6 : Int32)) fun o8 => some (o8.1, o8.2) else if (mG_letterMany g) < 0 ∨ 96 ≤ Int32.toNatClampNeg (mG_letterMany g) then none else Option.bind (some (mS_letters g (upd (mG_letters g) (Int32.toNatClampNeg (mG_letterMany g)) a1))) fun g6 => Option.bind (some (mS_letterMany g6 ((mG_letterMany g6) + 1))) fun g7 => some ((mG_letterMany g7), g7) else Option.bind (f_X9_no g (-4 : Int32)) fun o9 => some (o9.1, o9.2)
abbrev rm_X9_letter : Room := ({ frames := 2, cells := 0, slots := 0, locals := 39 })
set_option maxHeartbeats 4000000 in
theorem m_X9_letter (l : Launch) (D : va_G) (am : Nat → Nat) (ac : Nat → ClassId) (g : MS) (a1 : Int32) (sz : Nat) (r0 : Int32 × MS) (hr : f_X9_letter g a1 = some r0) : WM l yX9_letter cX9_letter 2 (some FieldType.int) rm_X9_letter [.ref (am 0), .int a1] D ac (wM am ac g) (wM am ac r0.2) sz (some (.int r0.1)) := by
  refine fw_of (by decide) (Nat.le_of_ble_eq_true rfl) ?_
  intro p e s m below meth c ls hx hb hrt hts hown hlk hml _ hU hl
  obtain ⟨rfl, hP, hG, hD⟩ := hU
  have hA : ∀ q : Nat, s.heap.size ≤ q → va_A (wM am ac g) s.heap.size q := fun q h => Or.inr h
  have hS := Stt.start hP hD
  show WW p l e rm_X9_letter s m [.ref (am 0), .int a1] below meth c D (wM am ac r0.2) (va_A (wM am ac g) s.heap.size) (some (.int r0.1)) s.heap [] 0 0 0 ls []
  have hl : lv_has ls 2 [(0, .ref (am 0)), (1, .int a1)] := hl
  rw [f_X9_letter] at hr
  refine lv_iload_n hx hb dX9_letter_0 rfl (lv_at hl 1 rfl) ?_
  have hi1 := br_ite hr
  refine lv_if_ge (tgt := 11) hx hb dX9_letter_1 (by decide) (fun c1 => ?_) (fun c1 => ?_)
  · have hr := hi1.1 c1
    refine lv_iload_n hx hb dX9_letter_11 rfl (lv_at hl 1 rfl) ?_
    refine lv_sipush (v := 255) hx hb dX9_letter_12 rfl ?_
    have hi2 := br_ite hr
    refine lv_icmp_gt (tgt := 27) hx hb dX9_letter_15 (by decide) (fun c2 => ?_) (fun c2 => ?_)
    · have hr := hi2.1 c2
      refine lv_aload_n hx hb dX9_letter_27 rfl (lv_at hl 0 rfl) ?_
      refine lv_bipush (v := (-6)) hx hb dX9_letter_28 rfl ?_
      obtain ⟨o3, ho3, hr⟩ := br_bind hr
      refine fwWVs (As := [.int (-6)]) (rest := []) (C := RX9) hx hb hml hown hts (m_X9_no l D am ac g (-6 : Int32) _ o3 ho3) (cw_X9_no hts q1263 ⟨Nat.le_of_ble_eq_true rfl, Nat.le_of_ble_eq_true rfl⟩) hG hS hA rfl 0 8 rfl rfl rfl hl.1 rfl (Nat.le_of_ble_eq_true rfl) dX9_letter_30 ⟨Nat.le_of_ble_eq_true rfl, Nat.le_of_ble_eq_true rfl⟩ (fun H locs hS => ?_)
      have hP := hS.1
      obtain rfl := Option.some.inj hr
      refine W.widen (k := rm_X9_letter.cells) (n := rm_X9_letter.slots) (Nat.le_of_ble_eq_true rfl) (Nat.le_of_ble_eq_true rfl) ?_
      exact W.iret hx hb hrt (fun t ht _ => hS.q ht rfl) hS.2.2.2.2 dX9_letter_33 hlk
    · have hr := hi2.2 c2
      refine lv_aload_n hx hb dX9_letter_18 rfl (lv_at hl 0 rfl) ?_
      refine va_get (D := D) (ci := 8) (v := .int (mG_letterMany g)) (C := RX9) (T := TX9) (N := 26) hx hb hts in_X9 hown hG.1 hP 0 rfl rfl 19 (by decide) (hts _ q1199) (fun _ h9 => h9) rfl dX9_letter_19 ?_
      refine lv_bipush (v := 96) hx hb dX9_letter_22 rfl ?_
      have hi4 := br_ite hr
      refine lv_icmp_ne (tgt := 34) hx hb dX9_letter_24 (by decide) (fun c4 => ?_) (fun c4 => ?_)
      · have hr := hi4.2 c4
        refine lv_aload_n hx hb dX9_letter_34 rfl (lv_at hl 0 rfl) ?_
        refine va_get (D := D) (ci := 8) (v := .ref (am 7)) (C := RX9) (T := TX9) (N := 26) hx hb hts in_X9 hown hG.1 hP 0 rfl rfl 16 (by decide) (hts _ q1196) (fun _ h9 => h9) rfl dX9_letter_35 ?_
        refine lv_aload_n hx hb dX9_letter_38 rfl (lv_at hl 0 rfl) ?_
        refine va_get (D := D) (ci := 8) (v := .int (mG_letterMany g)) (C := RX9) (T := TX9) (N := 26) hx hb hts in_X9 hown hG.1 hP 0 rfl rfl 19 (by decide) (hts _ q1199) (fun _ h9 => h9) rfl dX9_letter_39 ?_
        refine lv_iload_n hx hb dX9_letter_42 rfl (lv_at hl 1 rfl) ?_
        obtain ⟨c5, hr⟩ := br_none hr
        obtain ⟨g6, hg6, hr⟩ := br_let hr
        refine fw_iast hx hb hG hS 7 rfl c5 dX9_letter_43 (wn := wM am ac g6) (by rw [hg6]; rfl) (fun H locs hS => ?_)
        have hP := hS.1
        refine lv_aload_n hx hb dX9_letter_44 rfl (lv_at hl 0 rfl) ?_
        refine lv_dup hx hb dX9_letter_45 rfl ?_
        refine va_get (D := D) (ci := 8) (v := .int (mG_letterMany g6)) (C := RX9) (T := TX9) (N := 26) hx hb hts in_X9 hown hG.1 hP 0 rfl rfl 19 (by decide) (hts _ q1199) (fun _ h9 => h9) rfl dX9_letter_46 ?_
        refine lv_iconst (v := 1) hx hb dX9_letter_49 rfl ?_
        refine lv_iadd hx hb dX9_letter_50 ?_
        obtain ⟨g7, hg7, hr⟩ := br_let hr
        refine fw_put (D := D) (ci := 8) (x := .int ((mG_letterMany g6) + 1)) (C := RX9) (T := TX9) (N := 26) hx hb hts in_X9 tyX9 tyX9_ok nmX9 hown hG hS 0 rfl rfl 19 (by decide) (hts _ q1199) (fun _ h9 => h9) rfl (tyX9_ok 19 (by decide)) rfl rfl (Nat.le_of_ble_eq_true rfl) dX9_letter_51 (wn := wM am ac g7) (by rw [hg7]; rfl) (fun H locs hS => ?_)
        have hP := hS.1
        refine lv_aload_n hx hb dX9_letter_54 rfl (lv_at hl 0 rfl) ?_
        refine va_get (D := D) (ci := 8) (v := .int (mG_letterMany g7)) (C := RX9) (T := TX9) (N := 26) hx hb hts in_X9 hown hG.1 hP 0 rfl rfl 19 (by decide) (hts _ q1199) (fun _ h9 => h9) rfl dX9_letter_55 ?_
        obtain rfl := Option.some.inj hr
        refine W.widen (k := rm_X9_letter.cells) (n := rm_X9_letter.slots) (Nat.le_of_ble_eq_true rfl) (Nat.le_of_ble_eq_true rfl) ?_
        exact W.iret hx hb hrt (fun t ht _ => hS.q ht rfl) hS.2.2.2.2 dX9_letter_58 hlk
      · have hr := hi4.1 c4
        refine lv_aload_n hx hb dX9_letter_27 rfl (lv_at hl 0 rfl) ?_
        refine lv_bipush (v := (-6)) hx hb dX9_letter_28 rfl ?_
        obtain ⟨o8, ho8, hr⟩ := br_bind hr
        refine fwWVs (As := [.int (-6)]) (rest := []) (C := RX9) hx hb hml hown hts (m_X9_no l D am ac g (-6 : Int32) _ o8 ho8) (cw_X9_no hts q1263 ⟨Nat.le_of_ble_eq_true rfl, Nat.le_of_ble_eq_true rfl⟩) hG hS hA rfl 0 8 rfl rfl rfl hl.1 rfl (Nat.le_of_ble_eq_true rfl) dX9_letter_30 ⟨Nat.le_of_ble_eq_true rfl, Nat.le_of_ble_eq_true rfl⟩ (fun H locs hS => ?_)
        have hP := hS.1
        obtain rfl := Option.some.inj hr
        refine W.widen (k := rm_X9_letter.cells) (n := rm_X9_letter.slots) (Nat.le_of_ble_eq_true rfl) (Nat.le_of_ble_eq_true rfl) ?_
        exact W.iret hx hb hrt (fun t ht _ => hS.q ht rfl) hS.2.2.2.2 dX9_letter_33 hlk
  · have hr := hi1.2 c1
    refine lv_aload_n hx hb dX9_letter_4 rfl (lv_at hl 0 rfl) ?_
    refine lv_bipush (v := (-4)) hx hb dX9_letter_5 rfl ?_
    obtain ⟨o9, ho9, hr⟩ := br_bind hr
    refine fwWVs (As := [.int (-4)]) (rest := []) (C := RX9) hx hb hml hown hts (m_X9_no l D am ac g (-4 : Int32) _ o9 ho9) (cw_X9_no hts q1263 ⟨Nat.le_of_ble_eq_true rfl, Nat.le_of_ble_eq_true rfl⟩) hG hS hA rfl 0 8 rfl rfl rfl hl.1 rfl (Nat.le_of_ble_eq_true rfl) dX9_letter_7 ⟨Nat.le_of_ble_eq_true rfl, Nat.le_of_ble_eq_true rfl⟩ (fun H locs hS => ?_)
    have hP := hS.1
    obtain rfl := Option.some.inj hr
    refine W.widen (k := rm_X9_letter.cells) (n := rm_X9_letter.slots) (Nat.le_of_ble_eq_true rfl) (Nat.le_of_ble_eq_true rfl) ?_
    exact W.iret hx hb hrt (fun t ht _ => hS.q ht rfl) hS.2.2.2.2 dX9_letter_10 hlk
theorem cw_X9_letter {R : Room} {s : State} {args : Array Value} {own : String} {index : Nat} (hts : ∀ w ∈ lw_all, w.before args s = true) (hlink : Cond.methodLink own index yX9_letter ∈ lw_all) (hR : rm_X9_letter.frames + 1 ≤ R.frames ∧ 8 + (2 + 11) + rm_X9_letter.locals ≤ R.locals) : CallW R s args own RX9 index yX9_letter cX9_letter 2 (some FieldType.int) (ws_ yX9_letter cX9_letter 2 (some FieldType.int)) rm_X9_letter rm_X9_letter.cells rm_X9_letter.slots 1 :=
  cwV 1 hts (lw_V hlink q1260 q1261 q111 q1262) rfl rfl rfl (by decide +kernel) hR
def f_X9_here (g : MS) : Option (Int32) := if (mG_letterMany g) ≤ (mG_place g) then some (-1) else if (mG_place g) < 0 ∨ 96 ≤ Int32.toNatClampNeg (mG_place g) then none else some (mG_letters g (Int32.toNatClampNeg (mG_place g)))
abbrev rm_X9_here : Room := ({ frames := 1, cells := 0, slots := 0, locals := 17 })
set_option maxHeartbeats 4000000 in
theorem m_X9_here (l : Launch) (D : va_G) (am : Nat → Nat) (ac : Nat → ClassId) (g : MS) (r0 : Int32) (hr : f_X9_here g = some r0) : PM l yX9_here cX9_here 1 (some FieldType.int) rm_X9_here [.ref (am 0)] (RP D ac (wM am ac g)) (some (.int r0)) := by
  refine fw_of (by decide) (Nat.le_of_ble_eq_true rfl) ?_
  intro p e s m below meth c ls hx hb hrt hts hown hlk hml _ hU hl
  obtain ⟨hP, hG⟩ := hU
  have hl : lv_has ls 1 [(0, .ref (am 0))] := hl
  rw [f_X9_here] at hr
  refine lv_aload_n hx hb dX9_here_0 rfl (lv_at hl 0 rfl) ?_
  refine va_get (D := D) (ci := 8) (v := .int (mG_place g)) (C := RX9) (T := TX9) (N := 26) hx hb hts in_X9 hown hG.1 hP 0 rfl rfl 21 (by decide) (hts _ q1201) (fun _ h9 => h9) rfl dX9_here_1 ?_
  refine lv_aload_n hx hb dX9_here_4 rfl (lv_at hl 0 rfl) ?_
  refine va_get (D := D) (ci := 8) (v := .int (mG_letterMany g)) (C := RX9) (T := TX9) (N := 26) hx hb hts in_X9 hown hG.1 hP 0 rfl rfl 19 (by decide) (hts _ q1199) (fun _ h9 => h9) rfl dX9_here_5 ?_
  have hi1 := br_ite hr
  refine lv_icmp_ge (tgt := 23) hx hb dX9_here_8 (by decide) (fun c1 => ?_) (fun c1 => ?_)
  · have hr := hi1.1 c1
    refine lv_iconst (v := (-1)) hx hb dX9_here_23 rfl ?_
    exact W.iret hx hb hrt (fun t ht _ => ⟨ret_i hr, ht⟩) noB dX9_here_24 hlk
  · have hr := hi1.2 c1
    refine lv_aload_n hx hb dX9_here_11 rfl (lv_at hl 0 rfl) ?_
    refine va_get (D := D) (ci := 8) (v := .ref (am 7)) (C := RX9) (T := TX9) (N := 26) hx hb hts in_X9 hown hG.1 hP 0 rfl rfl 16 (by decide) (hts _ q1196) (fun _ h9 => h9) rfl dX9_here_12 ?_
    refine lv_aload_n hx hb dX9_here_15 rfl (lv_at hl 0 rfl) ?_
    refine va_get (D := D) (ci := 8) (v := .int (mG_place g)) (C := RX9) (T := TX9) (N := 26) hx hb hts in_X9 hown hG.1 hP 0 rfl rfl 21 (by decide) (hts _ q1201) (fun _ h9 => h9) rfl dX9_here_16 ?_
    obtain ⟨c2, hr⟩ := br_none hr
    refine va_iald hx hb hG.1 hP 7 0 rfl rfl c2 dX9_here_19 ?_
    refine lv_goto (tgt := 24) hx hb dX9_here_20 (by decide) ?_
    exact W.iret hx hb hrt (fun t ht _ => ⟨ret_i hr, ht⟩) noB dX9_here_24 hlk
theorem cw_X9_here {R : Room} {s : State} {args : Array Value} {own : String} {index : Nat} (hts : ∀ w ∈ lw_all, w.before args s = true) (hlink : Cond.methodLink own index yX9_here ∈ lw_all) (hR : rm_X9_here.frames + 1 ≤ R.frames ∧ 8 + (1 + 11) + rm_X9_here.locals ≤ R.locals) : CallW R s args own RX9 index yX9_here cX9_here 1 (some FieldType.int) (ws_ yX9_here cX9_here 1 (some FieldType.int)) rm_X9_here rm_X9_here.cells rm_X9_here.slots 0 :=
  cwV 0 hts (lw_V hlink q1277 qs77 q111 q1278) rfl rfl rfl (by decide +kernel) hR
def f_X9_readsKind (g : MS) : Option (Int32 × MS) := Option.bind (f_X9_here g) fun o1 => Option.bind (f_X9_kindBy o1) fun o2 => Option.bind (some (mS_numbers g (upd (mG_numbers g) (Int32.toNatClampNeg (0 : Int32)) o2))) fun g3 => Option.bind (α := Int32) (if 0 ≤ (mG_numbers g3 (Int32.toNatClampNeg (0 : Int32))) then some 1 else some 0) fun o5 => Option.bind (some (mS_place g3 ((mG_place g3) + o5))) fun g6 => if (mG_numbers g6 (Int32.toNatClampNeg (0 : Int32))) < 0 then some (0, g6) else some (1, g6)
abbrev rm_X9_readsKind : Room := ({ frames := 2, cells := 0, slots := 0, locals := 37 })
set_option maxHeartbeats 4000000 in
theorem m_X9_readsKind (l : Launch) (D : va_G) (am : Nat → Nat) (ac : Nat → ClassId) (g : MS) (sz : Nat) (r0 : Int32 × MS) (hr : f_X9_readsKind g = some r0) : WM l yX9_readsKind cX9_readsKind 1 (some FieldType.boolean) rm_X9_readsKind [.ref (am 0)] D ac (wM am ac g) (wM am ac r0.2) sz (some (.int r0.1)) := by
  refine fw_of (by decide) (Nat.le_of_ble_eq_true rfl) ?_
  intro p e s m below meth c ls hx hb hrt hts hown hlk hml _ hU hl
  obtain ⟨rfl, hP, hG, hD⟩ := hU
  have hA : ∀ q : Nat, s.heap.size ≤ q → va_A (wM am ac g) s.heap.size q := fun q h => Or.inr h
  have hS := Stt.start hP hD
  show WW p l e rm_X9_readsKind s m [.ref (am 0)] below meth c D (wM am ac r0.2) (va_A (wM am ac g) s.heap.size) (some (.int r0.1)) s.heap [] 0 0 0 ls []
  have hl : lv_has ls 1 [(0, .ref (am 0))] := hl
  rw [f_X9_readsKind] at hr
  refine lv_aload_n hx hb dX9_readsKind_0 rfl (lv_at hl 0 rfl) ?_
  refine va_get (D := D) (ci := 8) (v := .ref (am 10)) (C := RX9) (T := TX9) (N := 26) hx hb hts in_X9 hown hG.1 hP 0 rfl rfl 22 (by decide) (hts _ q1202) (fun _ h9 => h9) rfl dX9_readsKind_1 ?_
  refine lv_iconst (v := 0) hx hb dX9_readsKind_4 rfl ?_
  refine lv_aload_n hx hb dX9_readsKind_5 rfl (lv_at hl 0 rfl) ?_
  obtain ⟨o1, ho1, hr⟩ := br_bind hr
  refine fwRV (As := []) (rest := [.int 0, .ref (am 10)]) (C := RX9) hx hb hml hown hts (m_X9_here l D am ac g  o1 ho1) (cw_X9_here hts q1275 ⟨Nat.le_of_ble_eq_true rfl, Nat.le_of_ble_eq_true rfl⟩) hG hP hP 0 8 rfl rfl rfl hl.1 rfl (Nat.le_of_ble_eq_true rfl) dX9_readsKind_6 ⟨Nat.le_of_ble_eq_true rfl, Nat.le_of_ble_eq_true rfl⟩ ?_
  obtain ⟨o2, ho2, hr⟩ := br_bind hr
  refine fwS (As := [.int o1]) (rest := [.int 0, .ref (am 10)]) hx hb hml hown hts (m_X9_kindBy l o1 o2 ho2) (cw_X9_kindBy hts q1283 ⟨Nat.le_of_ble_eq_true rfl, Nat.le_of_ble_eq_true rfl⟩) rfl hl.1 rfl (Nat.le_of_ble_eq_true rfl) dX9_readsKind_9 ⟨Nat.le_of_ble_eq_true rfl, Nat.le_of_ble_eq_true rfl⟩ ?_
  obtain ⟨g3, hg3, hr⟩ := br_let hr
  refine fw_iast hx hb hG hS 10 rfl (show ¬ ((0 : Int32) < 0 ∨ 2 ≤ Int32.toNatClampNeg (0 : Int32)) by decide) dX9_readsKind_12 (wn := wM am ac g3) (by rw [hg3]; rfl) (fun H locs hS => ?_)
  have hP := hS.1
  refine lv_aload_n hx hb dX9_readsKind_13 rfl (lv_at hl 0 rfl) ?_
  refine lv_dup hx hb dX9_readsKind_14 rfl ?_
  refine va_get (D := D) (ci := 8) (v := .int (mG_place g3)) (C := RX9) (T := TX9) (N := 26) hx hb hts in_X9 hown hG.1 hP 0 rfl rfl 21 (by decide) (hts _ q1201) (fun _ h9 => h9) rfl dX9_readsKind_15 ?_
  refine lv_aload_n hx hb dX9_readsKind_18 rfl (lv_at hl 0 rfl) ?_
  refine va_get (D := D) (ci := 8) (v := .ref (am 10)) (C := RX9) (T := TX9) (N := 26) hx hb hts in_X9 hown hG.1 hP 0 rfl rfl 22 (by decide) (hts _ q1202) (fun _ h9 => h9) rfl dX9_readsKind_19 ?_
  refine lv_iconst (v := 0) hx hb dX9_readsKind_22 rfl ?_
  refine va_iald hx hb hG.1 hP 10 0 rfl rfl (show ¬ ((0 : Int32) < 0 ∨ 2 ≤ Int32.toNatClampNeg (0 : Int32)) by decide) dX9_readsKind_23 ?_
  obtain ⟨o5, ho5, hr⟩ := br_bind hr
  have J5 : ∀ (H : Heap) (locs : List Loc) ls, lv_has ls 1 [(0, .ref (am 0))] → Stt D (va_A (wM am ac g) s.heap.size) s.heap (wM am ac g3) H locs → WW p l e rm_X9_readsKind s m [.ref (am 0)] below meth c D (wM am ac r0.2) (va_A (wM am ac g) s.heap.size) (some (.int r0.1)) H locs 0 0 32 ls [.int o5, .int (mG_place g3), .ref (am 0)] := by
    intro H locs ls hl hS
    have hP := hS.1
    refine lv_iadd hx hb dX9_readsKind_32 ?_
    obtain ⟨g6, hg6, hr⟩ := br_let hr
    refine fw_put (D := D) (ci := 8) (x := .int ((mG_place g3) + o5)) (C := RX9) (T := TX9) (N := 26) hx hb hts in_X9 tyX9 tyX9_ok nmX9 hown hG hS 0 rfl rfl 21 (by decide) (hts _ q1201) (fun _ h9 => h9) rfl (tyX9_ok 21 (by decide)) rfl rfl (Nat.le_of_ble_eq_true rfl) dX9_readsKind_33 (wn := wM am ac g6) (by rw [hg6]; rfl) (fun H locs hS => ?_)
    have hP := hS.1
    refine lv_aload_n hx hb dX9_readsKind_36 rfl (lv_at hl 0 rfl) ?_
    refine va_get (D := D) (ci := 8) (v := .ref (am 10)) (C := RX9) (T := TX9) (N := 26) hx hb hts in_X9 hown hG.1 hP 0 rfl rfl 22 (by decide) (hts _ q1202) (fun _ h9 => h9) rfl dX9_readsKind_37 ?_
    refine lv_iconst (v := 0) hx hb dX9_readsKind_40 rfl ?_
    refine va_iald hx hb hG.1 hP 10 0 rfl rfl (show ¬ ((0 : Int32) < 0 ∨ 2 ≤ Int32.toNatClampNeg (0 : Int32)) by decide) dX9_readsKind_41 ?_
    have hi7 := br_ite hr
    refine lv_if_lt (tgt := 49) hx hb dX9_readsKind_42 (by decide) (fun c7 => ?_) (fun c7 => ?_)
    · have hr := hi7.1 c7
      refine lv_iconst (v := 0) hx hb dX9_readsKind_49 rfl ?_
      obtain rfl := Option.some.inj hr
      refine W.widen (k := rm_X9_readsKind.cells) (n := rm_X9_readsKind.slots) (Nat.le_of_ble_eq_true rfl) (Nat.le_of_ble_eq_true rfl) ?_
      exact W.zret (v := 0) (ty := .boolean) hx hb hrt rfl (fun t ht _ => hS.q ht rfl) hS.2.2.2.2 dX9_readsKind_50 hlk
    · have hr := hi7.2 c7
      refine lv_iconst (v := 1) hx hb dX9_readsKind_45 rfl ?_
      refine lv_goto (tgt := 50) hx hb dX9_readsKind_46 (by decide) ?_
      obtain rfl := Option.some.inj hr
      refine W.widen (k := rm_X9_readsKind.cells) (n := rm_X9_readsKind.slots) (Nat.le_of_ble_eq_true rfl) (Nat.le_of_ble_eq_true rfl) ?_
      exact W.zret (v := 1) (ty := .boolean) hx hb hrt rfl (fun t ht _ => hS.q ht rfl) hS.2.2.2.2 dX9_readsKind_50 hlk
  have hr := ho5
  have hi4 := br_ite hr
  refine lv_if_ge (tgt := 31) hx hb dX9_readsKind_24 (by decide) (fun c4 => ?_) (fun c4 => ?_)
  · have hr := hi4.1 c4
    refine lv_iconst (v := 1) hx hb dX9_readsKind_31 rfl ?_
    obtain rfl := Option.some.inj hr
    exact J5 _ _ ls (lv_sub hl [0] rfl) hS
  · have hr := hi4.2 c4
    refine lv_iconst (v := 0) hx hb dX9_readsKind_27 rfl ?_
    refine lv_goto (tgt := 32) hx hb dX9_readsKind_28 (by decide) ?_
    obtain rfl := Option.some.inj hr
    exact J5 _ _ ls (lv_sub hl [0] rfl) hS
theorem cw_X9_readsKind {R : Room} {s : State} {args : Array Value} {own : String} {index : Nat} (hts : ∀ w ∈ lw_all, w.before args s = true) (hlink : Cond.methodLink own index yX9_readsKind ∈ lw_all) (hR : rm_X9_readsKind.frames + 1 ≤ R.frames ∧ 8 + (1 + 11) + rm_X9_readsKind.locals ≤ R.locals) : CallW R s args own RX9 index yX9_readsKind cX9_readsKind 1 (some FieldType.boolean) (ws_ yX9_readsKind cX9_readsKind 1 (some FieldType.boolean)) rm_X9_readsKind rm_X9_readsKind.cells rm_X9_readsKind.slots 0 :=
  cwV 0 hts (lw_V hlink q1281 qs78 q111 q1282) rfl rfl rfl (by decide +kernel) hR
def f_X9_readsNumber_L9 (a1 : Int32) (a2 : Int32) : Nat → Int32 → MS → Option ((Int32 × MS) ⊕ (MS))
  | 0, _, _ => none
  | n + 1, x3_3, g_3 => if a2 ≤ x3_3 then some (Sum.inr g_3) else Option.bind (f_X9_here g_3) fun o5 => Option.bind (f_X9_isIn o5 48 57) fun o6 => if o6 = 0 then some (Sum.inl (0, g_3)) else if a1 < 0 ∨ 2 ≤ Int32.toNatClampNeg a1 then none else Option.bind (f_X9_here g_3) fun o9 => if a1 < 0 ∨ 2 ≤ Int32.toNatClampNeg a1 then none else Option.bind (some (mS_numbers g_3 (upd (mG_numbers g_3) (Int32.toNatClampNeg a1) ((((10 : Int32) * (mG_numbers g_3 (Int32.toNatClampNeg a1))) + o9) - 48)))) fun g11 => Option.bind (some (mS_place g11 ((mG_place g11) + 1))) fun g12 => Option.bind (some ((x3_3 + 1) : Int32)) fun v13 => f_X9_readsNumber_L9 a1 a2 n v13 g12
def f_X9_readsNumber (g : MS) (a1 : Int32) (a2 : Int32) : Option (Int32 × MS) := if a1 < 0 ∨ 2 ≤ Int32.toNatClampNeg a1 then none else Option.bind (some (mS_numbers g (upd (mG_numbers g) (Int32.toNatClampNeg a1) (0 : Int32)))) fun g2 => bsR (f_X9_readsNumber_L9 a1 a2 1000 0 g2) fun t3 => some (1, t3)
abbrev rm_X9_readsNumber : Room := ({ frames := 2, cells := 0, slots := 0, locals := 41 })
set_option maxHeartbeats 4000000 in
theorem m_X9_readsNumber (l : Launch) (D : va_G) (am : Nat → Nat) (ac : Nat → ClassId) (g : MS) (a1 : Int32) (a2 : Int32) (sz : Nat) (r0 : Int32 × MS) (hr : f_X9_readsNumber g a1 a2 = some r0) : WM l yX9_readsNumber cX9_readsNumber 4 (some FieldType.boolean) rm_X9_readsNumber [.ref (am 0), .int a1, .int a2] D ac (wM am ac g) (wM am ac r0.2) sz (some (.int r0.1)) := by
  refine fw_of (by decide) (Nat.le_of_ble_eq_true rfl) ?_
  intro p e s m below meth c ls hx hb hrt hts hown hlk hml _ hU hl
  obtain ⟨rfl, hP, hG, hD⟩ := hU
  have hA : ∀ q : Nat, s.heap.size ≤ q → va_A (wM am ac g) s.heap.size q := fun q h => Or.inr h
  have hS := Stt.start hP hD
  show WW p l e rm_X9_readsNumber s m [.ref (am 0), .int a1, .int a2] below meth c D (wM am ac r0.2) (va_A (wM am ac g) s.heap.size) (some (.int r0.1)) s.heap [] 0 0 0 ls []
  have hl : lv_has ls 4 [(0, .ref (am 0)), (1, .int a1), (2, .int a2)] := hl
  rw [f_X9_readsNumber] at hr
  refine lv_aload_n hx hb dX9_readsNumber_0 rfl (lv_at hl 0 rfl) ?_
  refine va_get (D := D) (ci := 8) (v := .ref (am 10)) (C := RX9) (T := TX9) (N := 26) hx hb hts in_X9 hown hG.1 hP 0 rfl rfl 22 (by decide) (hts _ q1202) (fun _ h9 => h9) rfl dX9_readsNumber_1 ?_
  refine lv_iload_n hx hb dX9_readsNumber_4 rfl (lv_at hl 1 rfl) ?_
  refine lv_iconst (v := 0) hx hb dX9_readsNumber_5 rfl ?_
  obtain ⟨c1, hr⟩ := br_none hr
  obtain ⟨g2, hg2, hr⟩ := br_let hr
  refine fw_iast hx hb hG hS 10 rfl c1 dX9_readsNumber_6 (wn := wM am ac g2) (by rw [hg2]; rfl) (fun H locs hS => ?_)
  have hP := hS.1
  refine lv_iconst (v := 0) hx hb dX9_readsNumber_7 rfl ?_
  refine lv_istore_n (lv' := [(3, .int 0), (0, .ref (am 0)), (1, .int a1), (2, .int a2)]) hx hb dX9_readsNumber_8 rfl hl (by decide) rfl (fun ls hl => ?_)
  have L3 : ∀ (n : Nat) (x3_3 : Int32) (g_3 : MS) (o3 : (Int32 × MS) ⊕ (MS)), f_X9_readsNumber_L9 a1 a2 n x3_3 g_3 = some o3 → (∀ r, o3 = Sum.inl r → some r = some r0) → ∀ (H : Heap) (locs : List Loc) ls, lv_has ls 4 [(3, .int x3_3), (0, .ref (am 0)), (1, .int a1), (2, .int a2)] → Stt D (va_A (wM am ac g) s.heap.size) s.heap (wM am ac g_3) H locs → (∀ t3, o3 = Sum.inr t3 → ∀ (H : Heap) (locs : List Loc) ls, lv_has ls 4 [] → Stt D (va_A (wM am ac g) s.heap.size) s.heap (wM am ac t3) H locs → WW p l e rm_X9_readsNumber s m [.ref (am 0), .int a1, .int a2] below meth c D (wM am ac r0.2) (va_A (wM am ac g) s.heap.size) (some (.int r0.1)) H locs 0 0 69 ls []) → WW p l e rm_X9_readsNumber s m [.ref (am 0), .int a1, .int a2] below meth c D (wM am ac r0.2) (va_A (wM am ac g) s.heap.size) (some (.int r0.1)) H locs 0 0 9 ls [] := by
    intro n
    induction n with
    | zero => intro x3_3 g_3 o3 hr; rw [f_X9_readsNumber_L9] at hr; cases hr
    | succ n ih =>
      intro x3_3 g_3 o3 hr hret H locs ls hl hS kx
      have hP := hS.1
      rw [f_X9_readsNumber_L9] at hr
      refine lv_iload_n hx hb dX9_readsNumber_9 rfl (lv_at hl 0 rfl) ?_
      refine lv_iload_n hx hb dX9_readsNumber_10 rfl (lv_at hl 3 rfl) ?_
      have hi4 := br_ite hr
      refine lv_icmp_ge (tgt := 69) hx hb dX9_readsNumber_11 (by decide) (fun c4 => ?_) (fun c4 => ?_)
      · have hr := hi4.1 c4
        exact kx _ (Option.some.inj hr).symm _ _ ls (lv_sub hl [] rfl) hS
      · have hr := hi4.2 c4
        refine lv_aload_n hx hb dX9_readsNumber_14 rfl (lv_at hl 1 rfl) ?_
        obtain ⟨o5, ho5, hr⟩ := br_bind hr
        refine fwRV (As := []) (rest := []) (C := RX9) hx hb hml hown hts (m_X9_here l D am ac g_3  o5 ho5) (cw_X9_here hts q1275 ⟨Nat.le_of_ble_eq_true rfl, Nat.le_of_ble_eq_true rfl⟩) hG hP hP 0 8 rfl rfl rfl hl.1 rfl (Nat.le_of_ble_eq_true rfl) dX9_readsNumber_15 ⟨Nat.le_of_ble_eq_true rfl, Nat.le_of_ble_eq_true rfl⟩ ?_
        refine lv_bipush (v := 48) hx hb dX9_readsNumber_18 rfl ?_
        refine lv_bipush (v := 57) hx hb dX9_readsNumber_20 rfl ?_
        obtain ⟨o6, ho6, hr⟩ := br_bind hr
        refine fwS (As := [.int o5, .int 48, .int 57]) (rest := []) hx hb hml hown hts (m_X9_isIn l o5 48 57 o6 ho6) (cw_X9_isIn hts q1290 ⟨Nat.le_of_ble_eq_true rfl, Nat.le_of_ble_eq_true rfl⟩) rfl hl.1 rfl (Nat.le_of_ble_eq_true rfl) dX9_readsNumber_22 ⟨Nat.le_of_ble_eq_true rfl, Nat.le_of_ble_eq_true rfl⟩ ?_
        have hi7 := br_ite hr
        refine lv_if_ne (tgt := 30) hx hb dX9_readsNumber_25 (by decide) (fun c7 => ?_) (fun c7 => ?_)
        · have hr := hi7.2 c7
          refine lv_aload_n hx hb dX9_readsNumber_30 rfl (lv_at hl 1 rfl) ?_
          refine va_get (D := D) (ci := 8) (v := .ref (am 10)) (C := RX9) (T := TX9) (N := 26) hx hb hts in_X9 hown hG.1 hP 0 rfl rfl 22 (by decide) (hts _ q1202) (fun _ h9 => h9) rfl dX9_readsNumber_31 ?_
          refine lv_iload_n hx hb dX9_readsNumber_34 rfl (lv_at hl 2 rfl) ?_
          refine lv_bipush (v := 10) hx hb dX9_readsNumber_35 rfl ?_
          refine lv_aload_n hx hb dX9_readsNumber_37 rfl (lv_at hl 1 rfl) ?_
          refine va_get (D := D) (ci := 8) (v := .ref (am 10)) (C := RX9) (T := TX9) (N := 26) hx hb hts in_X9 hown hG.1 hP 0 rfl rfl 22 (by decide) (hts _ q1202) (fun _ h9 => h9) rfl dX9_readsNumber_38 ?_
          refine lv_iload_n hx hb dX9_readsNumber_41 rfl (lv_at hl 2 rfl) ?_
          obtain ⟨c8, hr⟩ := br_none hr
          refine va_iald hx hb hG.1 hP 10 0 rfl rfl c8 dX9_readsNumber_42 ?_
          refine lv_imul hx hb dX9_readsNumber_43 ?_
          refine lv_aload_n hx hb dX9_readsNumber_44 rfl (lv_at hl 1 rfl) ?_
          obtain ⟨o9, ho9, hr⟩ := br_bind hr
          refine fwRV (As := []) (rest := [.int ((10 : Int32) * (mG_numbers g_3 (Int32.toNatClampNeg a1))), .int a1, .ref (am 10)]) (C := RX9) hx hb hml hown hts (m_X9_here l D am ac g_3  o9 ho9) (cw_X9_here hts q1275 ⟨Nat.le_of_ble_eq_true rfl, Nat.le_of_ble_eq_true rfl⟩) hG hP hP 0 8 rfl rfl rfl hl.1 rfl (Nat.le_of_ble_eq_true rfl) dX9_readsNumber_45 ⟨Nat.le_of_ble_eq_true rfl, Nat.le_of_ble_eq_true rfl⟩ ?_
          refine lv_iadd hx hb dX9_readsNumber_48 ?_
          refine lv_bipush (v := 48) hx hb dX9_readsNumber_49 rfl ?_
          refine lv_isub hx hb dX9_readsNumber_51 ?_
          obtain ⟨c10, hr⟩ := br_none hr
          obtain ⟨g11, hg11, hr⟩ := br_let hr
          refine fw_iast hx hb hG hS 10 rfl c10 dX9_readsNumber_52 (wn := wM am ac g11) (by rw [hg11]; rfl) (fun H locs hS => ?_)
          have hP := hS.1
          refine lv_aload_n hx hb dX9_readsNumber_53 rfl (lv_at hl 1 rfl) ?_
          refine lv_dup hx hb dX9_readsNumber_54 rfl ?_
          refine va_get (D := D) (ci := 8) (v := .int (mG_place g11)) (C := RX9) (T := TX9) (N := 26) hx hb hts in_X9 hown hG.1 hP 0 rfl rfl 21 (by decide) (hts _ q1201) (fun _ h9 => h9) rfl dX9_readsNumber_55 ?_
          refine lv_iconst (v := 1) hx hb dX9_readsNumber_58 rfl ?_
          refine lv_iadd hx hb dX9_readsNumber_59 ?_
          obtain ⟨g12, hg12, hr⟩ := br_let hr
          refine fw_put (D := D) (ci := 8) (x := .int ((mG_place g11) + 1)) (C := RX9) (T := TX9) (N := 26) hx hb hts in_X9 tyX9 tyX9_ok nmX9 hown hG hS 0 rfl rfl 21 (by decide) (hts _ q1201) (fun _ h9 => h9) rfl (tyX9_ok 21 (by decide)) rfl rfl (Nat.le_of_ble_eq_true rfl) dX9_readsNumber_60 (wn := wM am ac g12) (by rw [hg12]; rfl) (fun H locs hS => ?_)
          have hP := hS.1
          obtain ⟨v13, hv13, hr⟩ := br_let hr
          refine lv_iinc (v := v13) (lv' := [(3, .int v13), (0, .ref (am 0)), (1, .int a1), (2, .int a2)]) hx hb dX9_readsNumber_63 hl (k := 0) rfl (hv13 ▸ rfl) (by decide) rfl (fun ls hl => ?_)
          refine lv_goto (tgt := 9) hx hb dX9_readsNumber_66 (by decide) ?_
          exact ih v13 g12 _ hr hret _ _ ls (lv_sub hl [0, 1, 2, 3] rfl) hS kx
        · have hr := hi7.1 c7
          refine lv_iconst (v := 0) hx hb dX9_readsNumber_28 rfl ?_
          have hr := hret _ (Option.some.inj hr).symm
          obtain rfl := Option.some.inj hr
          refine W.widen (k := rm_X9_readsNumber.cells) (n := rm_X9_readsNumber.slots) (Nat.le_of_ble_eq_true rfl) (Nat.le_of_ble_eq_true rfl) ?_
          exact W.zret (v := 0) (ty := .boolean) hx hb hrt rfl (fun t ht _ => hS.q ht rfl) hS.2.2.2.2 dX9_readsNumber_29 hlk
  obtain ⟨o3, ho3, hl3, hk3⟩ := br_bsR hr
  refine L3 1000 0 g2 o3 ho3 (fun r hq => hl3 r hq) _ _ ls (lv_sub hl [0, 1, 2, 3] rfl) hS (fun t3 hq3 H locs ls hl hS => ?_)
  have hP := hS.1
  have hr := hk3 t3 hq3
  refine lv_iconst (v := 1) hx hb dX9_readsNumber_69 rfl ?_
  obtain rfl := Option.some.inj hr
  refine W.widen (k := rm_X9_readsNumber.cells) (n := rm_X9_readsNumber.slots) (Nat.le_of_ble_eq_true rfl) (Nat.le_of_ble_eq_true rfl) ?_
  exact W.zret (v := 1) (ty := .boolean) hx hb hrt rfl (fun t ht _ => hS.q ht rfl) hS.2.2.2.2 dX9_readsNumber_70 hlk
theorem cw_X9_readsNumber {R : Room} {s : State} {args : Array Value} {own : String} {index : Nat} (hts : ∀ w ∈ lw_all, w.before args s = true) (hlink : Cond.methodLink own index yX9_readsNumber ∈ lw_all) (hR : rm_X9_readsNumber.frames + 1 ≤ R.frames ∧ 8 + (4 + 11) + rm_X9_readsNumber.locals ≤ R.locals) : CallW R s args own RX9 index yX9_readsNumber cX9_readsNumber 4 (some FieldType.boolean) (ws_ yX9_readsNumber cX9_readsNumber 4 (some FieldType.boolean)) rm_X9_readsNumber rm_X9_readsNumber.cells rm_X9_readsNumber.slots 2 :=
  cwV 2 hts (lw_V hlink q1288 qs79 q111 q1289) rfl rfl rfl (by decide +kernel) hR
def f_X9_readsStatement (g : MS) : Option (Int32 × MS) := Option.bind (f_X9_here g) fun o1 => Option.bind (some (mS_place g ((mG_place g) + 1))) fun g2 => if o1 = 98 then Option.bind (f_X9_readsNumber g2 (0 : Int32) (1 : Int32)) fun o8 => Option.bind (α := Int32 × MS) (if o8.1 = 0 then some (0, o8.2) else Option.bind (f_X9_readsNumber o8.2 (1 : Int32) (2 : Int32)) fun o11 => if o11.1 = 0 then some (0, o11.2) else some (1, o11.2)) fun o10 => if o10.1 = 0 then some (0, o10.2) else Option.bind (f_X9_here o10.2) fun o14 => if o14 = 59 then Option.bind (some (mS_place o10.2 ((mG_place o10.2) + 1))) fun g16 => some (1, g16) else some (0, o10.2) else if o1 = 104 then Option.bind (f_X9_readsKind g2) fun o17 => Option.bind (α := Int32 × MS) (if o17.1 = 0 then some (0, o17.2) else Option.bind (f_X9_readsNumber o17.2 (1 : Int32) (1 : Int32)) fun o20 => if o20.1 = 0 then some (0, o20.2) else some (1, o20.2)) fun o19 => if o19.1 = 0 then some (0, o19.2) else Option.bind (f_X9_here o19.2) fun o23 => if o23 = 59 then Option.bind (some (mS_place o19.2 ((mG_place o19.2) + 1))) fun g25 => some (1, g25) else some (0, o19.2) else if o1 = 108 then Option.bind (f_X9_readsNumber g2 (0 : Int32) (2 : Int32)) fun o26 => if o26.1 = 0 then some (0, o26.2) else Option.bind (f_X9_here o26.2) fun o28 => if o28 = 59 then Option.bind (some (mS_place o26.2 ((mG_place o26.2) + 1))) fun g30 => some (1, g30) else some (0, o26.2) else if o1 = 110 then Option.bind (f_X9_here g2) fun o32 => if o32 = 59 then Option.bind (some (mS_place g2 ((mG_place g2) + 1))) fun g34 => some (1, g34) else some (0, g2) else if o1 = 114 then Option.bind (f_X9_readsNumber g2 (0 : Int32) (1 : Int32)) fun o35 => if o35.1 = 0 then some (0, o35.2) else Option.bind (f_X9_here o35.2) fun o37 => if o37 = 59 then Option.bind (some (mS_place o35.2 ((mG_place o35.2) + 1))) fun g39 => some (1, g39) else some (0, o35.2) else Option.bind (some (mS_place g2 ((mG_place g2) - 1))) fun g40 => some (0, g40)
abbrev rm_X9_readsStatement : Room := ({ frames := 3, cells := 0, slots := 0, locals := 64 })
set_option maxHeartbeats 4000000 in
theorem m_X9_readsStatement (l : Launch) (D : va_G) (am : Nat → Nat) (ac : Nat → ClassId) (g : MS) (sz : Nat) (r0 : Int32 × MS) (hr : f_X9_readsStatement g = some r0) : WM l yX9_readsStatement cX9_readsStatement 3 (some FieldType.boolean) rm_X9_readsStatement [.ref (am 0)] D ac (wM am ac g) (wM am ac r0.2) sz (some (.int r0.1)) := by
  refine fw_of (by decide) (Nat.le_of_ble_eq_true rfl) ?_
  intro p e s m below meth c ls hx hb hrt hts hown hlk hml _ hU hl
  obtain ⟨rfl, hP, hG, hD⟩ := hU
  have hA : ∀ q : Nat, s.heap.size ≤ q → va_A (wM am ac g) s.heap.size q := fun q h => Or.inr h
  have hS := Stt.start hP hD
  show WW p l e rm_X9_readsStatement s m [.ref (am 0)] below meth c D (wM am ac r0.2) (va_A (wM am ac g) s.heap.size) (some (.int r0.1)) s.heap [] 0 0 0 ls []
  have hl : lv_has ls 3 [(0, .ref (am 0))] := hl
  rw [f_X9_readsStatement] at hr
  refine lv_aload_n hx hb dX9_readsStatement_0 rfl (lv_at hl 0 rfl) ?_
  obtain ⟨o1, ho1, hr⟩ := br_bind hr
  refine fwRV (As := []) (rest := []) (C := RX9) hx hb hml hown hts (m_X9_here l D am ac g  o1 ho1) (cw_X9_here hts q1275 ⟨Nat.le_of_ble_eq_true rfl, Nat.le_of_ble_eq_true rfl⟩) hG hP hP 0 8 rfl rfl rfl hl.1 rfl (Nat.le_of_ble_eq_true rfl) dX9_readsStatement_1 ⟨Nat.le_of_ble_eq_true rfl, Nat.le_of_ble_eq_true rfl⟩ ?_
  refine lv_istore_n (lv' := [(1, .int o1), (0, .ref (am 0))]) hx hb dX9_readsStatement_4 rfl hl (by decide) rfl (fun ls hl => ?_)
  refine lv_aload_n hx hb dX9_readsStatement_5 rfl (lv_at hl 1 rfl) ?_
  refine lv_dup hx hb dX9_readsStatement_6 rfl ?_
  refine va_get (D := D) (ci := 8) (v := .int (mG_place g)) (C := RX9) (T := TX9) (N := 26) hx hb hts in_X9 hown hG.1 hP 0 rfl rfl 21 (by decide) (hts _ q1201) (fun _ h9 => h9) rfl dX9_readsStatement_7 ?_
  refine lv_iconst (v := 1) hx hb dX9_readsStatement_10 rfl ?_
  refine lv_iadd hx hb dX9_readsStatement_11 ?_
  obtain ⟨g2, hg2, hr⟩ := br_let hr
  refine fw_put (D := D) (ci := 8) (x := .int ((mG_place g) + 1)) (C := RX9) (T := TX9) (N := 26) hx hb hts in_X9 tyX9 tyX9_ok nmX9 hown hG hS 0 rfl rfl 21 (by decide) (hts _ q1201) (fun _ h9 => h9) rfl (tyX9_ok 21 (by decide)) rfl rfl (Nat.le_of_ble_eq_true rfl) dX9_readsStatement_12 (wn := wM am ac g2) (by rw [hg2]; rfl) (fun H locs hS => ?_)
  have hP := hS.1
  refine lv_iload_n hx hb dX9_readsStatement_15 rfl (lv_at hl 0 rfl) ?_
  have hi3 := br_ite hr
  by_cases c3 : o1 = 98
  · have hr := hi3.1 c3
    refine lv_lookup (tgt := 93) (off := 77) hx hb dX9_readsStatement_16 (by decide) (by rw [c3]; rfl) (by decide) ?_
    refine lv_aload_n hx hb dX9_readsStatement_93 rfl (lv_at hl 1 rfl) ?_
    refine lv_iconst (v := 0) hx hb dX9_readsStatement_94 rfl ?_
    refine lv_iconst (v := 1) hx hb dX9_readsStatement_95 rfl ?_
    obtain ⟨o8, ho8, hr⟩ := br_bind hr
    refine fwWVs (As := [.int 0, .int 1]) (rest := []) (C := RX9) hx hb hml hown hts (m_X9_readsNumber l D am ac g2 (0 : Int32) (1 : Int32) _ o8 ho8) (cw_X9_readsNumber hts q1286 ⟨Nat.le_of_ble_eq_true rfl, Nat.le_of_ble_eq_true rfl⟩) hG hS hA rfl 0 8 rfl rfl rfl hl.1 rfl (Nat.le_of_ble_eq_true rfl) dX9_readsStatement_96 ⟨Nat.le_of_ble_eq_true rfl, Nat.le_of_ble_eq_true rfl⟩ (fun H locs hS => ?_)
    have hP := hS.1
    obtain ⟨o10, ho10, hr⟩ := br_bind hr
    have J10 : ∀ (H : Heap) (locs : List Loc) ls, lv_has ls 3 [(0, .ref (am 0))] → Stt D (va_A (wM am ac g) s.heap.size) s.heap (wM am ac o10.2) H locs → WW p l e rm_X9_readsStatement s m [.ref (am 0)] below meth c D (wM am ac r0.2) (va_A (wM am ac g) s.heap.size) (some (.int r0.1)) H locs 0 0 116 ls [.int o10.1] := by
      intro H locs ls hl hS
      have hP := hS.1
      refine lv_istore_n (lv' := [(2, .int o10.1), (0, .ref (am 0))]) hx hb dX9_readsStatement_116 rfl hl (by decide) rfl (fun ls hl => ?_)
      refine lv_goto (tgt := 157) hx hb dX9_readsStatement_117 (by decide) ?_
      refine lv_iload_n hx hb dX9_readsStatement_157 rfl (lv_at hl 0 rfl) ?_
      have hi13 := br_ite hr
      refine lv_if_eq (tgt := 170) hx hb dX9_readsStatement_158 (by decide) (fun c13 => ?_) (fun c13 => ?_)
      · have hr := hi13.1 c13
        refine lv_iconst (v := 0) hx hb dX9_readsStatement_170 rfl ?_
        obtain rfl := Option.some.inj hr
        refine W.widen (k := rm_X9_readsStatement.cells) (n := rm_X9_readsStatement.slots) (Nat.le_of_ble_eq_true rfl) (Nat.le_of_ble_eq_true rfl) ?_
        exact W.zret (v := 0) (ty := .boolean) hx hb hrt rfl (fun t ht _ => hS.q ht rfl) hS.2.2.2.2 dX9_readsStatement_171 hlk
      · have hr := hi13.2 c13
        refine lv_aload_n hx hb dX9_readsStatement_161 rfl (lv_at hl 1 rfl) ?_
        obtain ⟨o14, ho14, hr⟩ := br_bind hr
        refine fwRV (As := []) (rest := []) (C := RX9) hx hb hml hown hts (m_X9_here l D am ac o10.2  o14 ho14) (cw_X9_here hts q1275 ⟨Nat.le_of_ble_eq_true rfl, Nat.le_of_ble_eq_true rfl⟩) hG hP hP 0 8 rfl rfl rfl hl.1 rfl (Nat.le_of_ble_eq_true rfl) dX9_readsStatement_162 ⟨Nat.le_of_ble_eq_true rfl, Nat.le_of_ble_eq_true rfl⟩ ?_
        refine lv_bipush (v := 59) hx hb dX9_readsStatement_165 rfl ?_
        have hi15 := br_ite hr
        refine lv_icmp_eq (tgt := 172) hx hb dX9_readsStatement_167 (by decide) (fun c15 => ?_) (fun c15 => ?_)
        · have hr := hi15.1 c15
          refine lv_aload_n hx hb dX9_readsStatement_172 rfl (lv_at hl 1 rfl) ?_
          refine lv_dup hx hb dX9_readsStatement_173 rfl ?_
          refine va_get (D := D) (ci := 8) (v := .int (mG_place o10.2)) (C := RX9) (T := TX9) (N := 26) hx hb hts in_X9 hown hG.1 hP 0 rfl rfl 21 (by decide) (hts _ q1201) (fun _ h9 => h9) rfl dX9_readsStatement_174 ?_
          refine lv_iconst (v := 1) hx hb dX9_readsStatement_177 rfl ?_
          refine lv_iadd hx hb dX9_readsStatement_178 ?_
          obtain ⟨g16, hg16, hr⟩ := br_let hr
          refine fw_put (D := D) (ci := 8) (x := .int ((mG_place o10.2) + 1)) (C := RX9) (T := TX9) (N := 26) hx hb hts in_X9 tyX9 tyX9_ok nmX9 hown hG hS 0 rfl rfl 21 (by decide) (hts _ q1201) (fun _ h9 => h9) rfl (tyX9_ok 21 (by decide)) rfl rfl (Nat.le_of_ble_eq_true rfl) dX9_readsStatement_179 (wn := wM am ac g16) (by rw [hg16]; rfl) (fun H locs hS => ?_)
          have hP := hS.1
          refine lv_iconst (v := 1) hx hb dX9_readsStatement_182 rfl ?_
          obtain rfl := Option.some.inj hr
          refine W.widen (k := rm_X9_readsStatement.cells) (n := rm_X9_readsStatement.slots) (Nat.le_of_ble_eq_true rfl) (Nat.le_of_ble_eq_true rfl) ?_
          exact W.zret (v := 1) (ty := .boolean) hx hb hrt rfl (fun t ht _ => hS.q ht rfl) hS.2.2.2.2 dX9_readsStatement_183 hlk
        · have hr := hi15.2 c15
          refine lv_iconst (v := 0) hx hb dX9_readsStatement_170 rfl ?_
          obtain rfl := Option.some.inj hr
          refine W.widen (k := rm_X9_readsStatement.cells) (n := rm_X9_readsStatement.slots) (Nat.le_of_ble_eq_true rfl) (Nat.le_of_ble_eq_true rfl) ?_
          exact W.zret (v := 0) (ty := .boolean) hx hb hrt rfl (fun t ht _ => hS.q ht rfl) hS.2.2.2.2 dX9_readsStatement_171 hlk
    have hr := ho10
    have hi9 := br_ite hr
    refine lv_if_eq (tgt := 115) hx hb dX9_readsStatement_99 (by decide) (fun c9 => ?_) (fun c9 => ?_)
    · have hr := hi9.1 c9
      refine lv_iconst (v := 0) hx hb dX9_readsStatement_115 rfl ?_
      obtain rfl := Option.some.inj hr
      exact J10 _ _ ls (lv_sub hl [1] rfl) hS
    · have hr := hi9.2 c9
      refine lv_aload_n hx hb dX9_readsStatement_102 rfl (lv_at hl 1 rfl) ?_
      refine lv_iconst (v := 1) hx hb dX9_readsStatement_103 rfl ?_
      refine lv_iconst (v := 2) hx hb dX9_readsStatement_104 rfl ?_
      obtain ⟨o11, ho11, hr⟩ := br_bind hr
      refine fwWVs (As := [.int 1, .int 2]) (rest := []) (C := RX9) hx hb hml hown hts (m_X9_readsNumber l D am ac o8.2 (1 : Int32) (2 : Int32) _ o11 ho11) (cw_X9_readsNumber hts q1286 ⟨Nat.le_of_ble_eq_true rfl, Nat.le_of_ble_eq_true rfl⟩) hG hS hA rfl 0 8 rfl rfl rfl hl.1 rfl (Nat.le_of_ble_eq_true rfl) dX9_readsStatement_105 ⟨Nat.le_of_ble_eq_true rfl, Nat.le_of_ble_eq_true rfl⟩ (fun H locs hS => ?_)
      have hP := hS.1
      have hi12 := br_ite hr
      refine lv_if_eq (tgt := 115) hx hb dX9_readsStatement_108 (by decide) (fun c12 => ?_) (fun c12 => ?_)
      · have hr := hi12.1 c12
        refine lv_iconst (v := 0) hx hb dX9_readsStatement_115 rfl ?_
        obtain rfl := Option.some.inj hr
        exact J10 _ _ ls (lv_sub hl [1] rfl) hS
      · have hr := hi12.2 c12
        refine lv_iconst (v := 1) hx hb dX9_readsStatement_111 rfl ?_
        refine lv_goto (tgt := 116) hx hb dX9_readsStatement_112 (by decide) ?_
        obtain rfl := Option.some.inj hr
        exact J10 _ _ ls (lv_sub hl [1] rfl) hS
  have hr := hi3.2 c3
  have hi4 := br_ite hr
  by_cases c4 : o1 = 104
  · have hr := hi4.1 c4
    refine lv_lookup (tgt := 68) (off := 52) hx hb dX9_readsStatement_16 (by decide) (by rw [c4]; rfl) (by decide) ?_
    refine lv_aload_n hx hb dX9_readsStatement_68 rfl (lv_at hl 1 rfl) ?_
    obtain ⟨o17, ho17, hr⟩ := br_bind hr
    refine fwWVs (As := []) (rest := []) (C := RX9) hx hb hml hown hts (m_X9_readsKind l D am ac g2 _ o17 ho17) (cw_X9_readsKind hts q1279 ⟨Nat.le_of_ble_eq_true rfl, Nat.le_of_ble_eq_true rfl⟩) hG hS hA rfl 0 8 rfl rfl rfl hl.1 rfl (Nat.le_of_ble_eq_true rfl) dX9_readsStatement_69 ⟨Nat.le_of_ble_eq_true rfl, Nat.le_of_ble_eq_true rfl⟩ (fun H locs hS => ?_)
    have hP := hS.1
    obtain ⟨o19, ho19, hr⟩ := br_bind hr
    have J19 : ∀ (H : Heap) (locs : List Loc) ls, lv_has ls 3 [(0, .ref (am 0))] → Stt D (va_A (wM am ac g) s.heap.size) s.heap (wM am ac o19.2) H locs → WW p l e rm_X9_readsStatement s m [.ref (am 0)] below meth c D (wM am ac r0.2) (va_A (wM am ac g) s.heap.size) (some (.int r0.1)) H locs 0 0 89 ls [.int o19.1] := by
      intro H locs ls hl hS
      have hP := hS.1
      refine lv_istore_n (lv' := [(2, .int o19.1), (0, .ref (am 0))]) hx hb dX9_readsStatement_89 rfl hl (by decide) rfl (fun ls hl => ?_)
      refine lv_goto (tgt := 157) hx hb dX9_readsStatement_90 (by decide) ?_
      refine lv_iload_n hx hb dX9_readsStatement_157 rfl (lv_at hl 0 rfl) ?_
      have hi22 := br_ite hr
      refine lv_if_eq (tgt := 170) hx hb dX9_readsStatement_158 (by decide) (fun c22 => ?_) (fun c22 => ?_)
      · have hr := hi22.1 c22
        refine lv_iconst (v := 0) hx hb dX9_readsStatement_170 rfl ?_
        obtain rfl := Option.some.inj hr
        refine W.widen (k := rm_X9_readsStatement.cells) (n := rm_X9_readsStatement.slots) (Nat.le_of_ble_eq_true rfl) (Nat.le_of_ble_eq_true rfl) ?_
        exact W.zret (v := 0) (ty := .boolean) hx hb hrt rfl (fun t ht _ => hS.q ht rfl) hS.2.2.2.2 dX9_readsStatement_171 hlk
      · have hr := hi22.2 c22
        refine lv_aload_n hx hb dX9_readsStatement_161 rfl (lv_at hl 1 rfl) ?_
        obtain ⟨o23, ho23, hr⟩ := br_bind hr
        refine fwRV (As := []) (rest := []) (C := RX9) hx hb hml hown hts (m_X9_here l D am ac o19.2  o23 ho23) (cw_X9_here hts q1275 ⟨Nat.le_of_ble_eq_true rfl, Nat.le_of_ble_eq_true rfl⟩) hG hP hP 0 8 rfl rfl rfl hl.1 rfl (Nat.le_of_ble_eq_true rfl) dX9_readsStatement_162 ⟨Nat.le_of_ble_eq_true rfl, Nat.le_of_ble_eq_true rfl⟩ ?_
        refine lv_bipush (v := 59) hx hb dX9_readsStatement_165 rfl ?_
        have hi24 := br_ite hr
        refine lv_icmp_eq (tgt := 172) hx hb dX9_readsStatement_167 (by decide) (fun c24 => ?_) (fun c24 => ?_)
        · have hr := hi24.1 c24
          refine lv_aload_n hx hb dX9_readsStatement_172 rfl (lv_at hl 1 rfl) ?_
          refine lv_dup hx hb dX9_readsStatement_173 rfl ?_
          refine va_get (D := D) (ci := 8) (v := .int (mG_place o19.2)) (C := RX9) (T := TX9) (N := 26) hx hb hts in_X9 hown hG.1 hP 0 rfl rfl 21 (by decide) (hts _ q1201) (fun _ h9 => h9) rfl dX9_readsStatement_174 ?_
          refine lv_iconst (v := 1) hx hb dX9_readsStatement_177 rfl ?_
          refine lv_iadd hx hb dX9_readsStatement_178 ?_
          obtain ⟨g25, hg25, hr⟩ := br_let hr
          refine fw_put (D := D) (ci := 8) (x := .int ((mG_place o19.2) + 1)) (C := RX9) (T := TX9) (N := 26) hx hb hts in_X9 tyX9 tyX9_ok nmX9 hown hG hS 0 rfl rfl 21 (by decide) (hts _ q1201) (fun _ h9 => h9) rfl (tyX9_ok 21 (by decide)) rfl rfl (Nat.le_of_ble_eq_true rfl) dX9_readsStatement_179 (wn := wM am ac g25) (by rw [hg25]; rfl) (fun H locs hS => ?_)
          have hP := hS.1
          refine lv_iconst (v := 1) hx hb dX9_readsStatement_182 rfl ?_
          obtain rfl := Option.some.inj hr
          refine W.widen (k := rm_X9_readsStatement.cells) (n := rm_X9_readsStatement.slots) (Nat.le_of_ble_eq_true rfl) (Nat.le_of_ble_eq_true rfl) ?_
          exact W.zret (v := 1) (ty := .boolean) hx hb hrt rfl (fun t ht _ => hS.q ht rfl) hS.2.2.2.2 dX9_readsStatement_183 hlk
        · have hr := hi24.2 c24
          refine lv_iconst (v := 0) hx hb dX9_readsStatement_170 rfl ?_
          obtain rfl := Option.some.inj hr
          refine W.widen (k := rm_X9_readsStatement.cells) (n := rm_X9_readsStatement.slots) (Nat.le_of_ble_eq_true rfl) (Nat.le_of_ble_eq_true rfl) ?_
          exact W.zret (v := 0) (ty := .boolean) hx hb hrt rfl (fun t ht _ => hS.q ht rfl) hS.2.2.2.2 dX9_readsStatement_171 hlk
    have hr := ho19
    have hi18 := br_ite hr
    refine lv_if_eq (tgt := 88) hx hb dX9_readsStatement_72 (by decide) (fun c18 => ?_) (fun c18 => ?_)
    · have hr := hi18.1 c18
      refine lv_iconst (v := 0) hx hb dX9_readsStatement_88 rfl ?_
      obtain rfl := Option.some.inj hr
      exact J19 _ _ ls (lv_sub hl [1] rfl) hS
    · have hr := hi18.2 c18
      refine lv_aload_n hx hb dX9_readsStatement_75 rfl (lv_at hl 1 rfl) ?_
      refine lv_iconst (v := 1) hx hb dX9_readsStatement_76 rfl ?_
      refine lv_iconst (v := 1) hx hb dX9_readsStatement_77 rfl ?_
      obtain ⟨o20, ho20, hr⟩ := br_bind hr
      refine fwWVs (As := [.int 1, .int 1]) (rest := []) (C := RX9) hx hb hml hown hts (m_X9_readsNumber l D am ac o17.2 (1 : Int32) (1 : Int32) _ o20 ho20) (cw_X9_readsNumber hts q1286 ⟨Nat.le_of_ble_eq_true rfl, Nat.le_of_ble_eq_true rfl⟩) hG hS hA rfl 0 8 rfl rfl rfl hl.1 rfl (Nat.le_of_ble_eq_true rfl) dX9_readsStatement_78 ⟨Nat.le_of_ble_eq_true rfl, Nat.le_of_ble_eq_true rfl⟩ (fun H locs hS => ?_)
      have hP := hS.1
      have hi21 := br_ite hr
      refine lv_if_eq (tgt := 88) hx hb dX9_readsStatement_81 (by decide) (fun c21 => ?_) (fun c21 => ?_)
      · have hr := hi21.1 c21
        refine lv_iconst (v := 0) hx hb dX9_readsStatement_88 rfl ?_
        obtain rfl := Option.some.inj hr
        exact J19 _ _ ls (lv_sub hl [1] rfl) hS
      · have hr := hi21.2 c21
        refine lv_iconst (v := 1) hx hb dX9_readsStatement_84 rfl ?_
        refine lv_goto (tgt := 89) hx hb dX9_readsStatement_85 (by decide) ?_
        obtain rfl := Option.some.inj hr
        exact J19 _ _ ls (lv_sub hl [1] rfl) hS
  have hr := hi4.2 c4
  have hi5 := br_ite hr
  by_cases c5 : o1 = 108
  · have hr := hi5.1 c5
    refine lv_lookup (tgt := 120) (off := 104) hx hb dX9_readsStatement_16 (by decide) (by rw [c5]; rfl) (by decide) ?_
    refine lv_aload_n hx hb dX9_readsStatement_120 rfl (lv_at hl 1 rfl) ?_
    refine lv_iconst (v := 0) hx hb dX9_readsStatement_121 rfl ?_
    refine lv_iconst (v := 2) hx hb dX9_readsStatement_122 rfl ?_
    obtain ⟨o26, ho26, hr⟩ := br_bind hr
    refine fwWVs (As := [.int 0, .int 2]) (rest := []) (C := RX9) hx hb hml hown hts (m_X9_readsNumber l D am ac g2 (0 : Int32) (2 : Int32) _ o26 ho26) (cw_X9_readsNumber hts q1286 ⟨Nat.le_of_ble_eq_true rfl, Nat.le_of_ble_eq_true rfl⟩) hG hS hA rfl 0 8 rfl rfl rfl hl.1 rfl (Nat.le_of_ble_eq_true rfl) dX9_readsStatement_123 ⟨Nat.le_of_ble_eq_true rfl, Nat.le_of_ble_eq_true rfl⟩ (fun H locs hS => ?_)
    have hP := hS.1
    refine lv_istore_n (lv' := [(2, .int o26.1), (1, .int o1), (0, .ref (am 0))]) hx hb dX9_readsStatement_126 rfl hl (by decide) rfl (fun ls hl => ?_)
    refine lv_goto (tgt := 157) hx hb dX9_readsStatement_127 (by decide) ?_
    refine lv_iload_n hx hb dX9_readsStatement_157 rfl (lv_at hl 0 rfl) ?_
    have hi27 := br_ite hr
    refine lv_if_eq (tgt := 170) hx hb dX9_readsStatement_158 (by decide) (fun c27 => ?_) (fun c27 => ?_)
    · have hr := hi27.1 c27
      refine lv_iconst (v := 0) hx hb dX9_readsStatement_170 rfl ?_
      obtain rfl := Option.some.inj hr
      refine W.widen (k := rm_X9_readsStatement.cells) (n := rm_X9_readsStatement.slots) (Nat.le_of_ble_eq_true rfl) (Nat.le_of_ble_eq_true rfl) ?_
      exact W.zret (v := 0) (ty := .boolean) hx hb hrt rfl (fun t ht _ => hS.q ht rfl) hS.2.2.2.2 dX9_readsStatement_171 hlk
    · have hr := hi27.2 c27
      refine lv_aload_n hx hb dX9_readsStatement_161 rfl (lv_at hl 2 rfl) ?_
      obtain ⟨o28, ho28, hr⟩ := br_bind hr
      refine fwRV (As := []) (rest := []) (C := RX9) hx hb hml hown hts (m_X9_here l D am ac o26.2  o28 ho28) (cw_X9_here hts q1275 ⟨Nat.le_of_ble_eq_true rfl, Nat.le_of_ble_eq_true rfl⟩) hG hP hP 0 8 rfl rfl rfl hl.1 rfl (Nat.le_of_ble_eq_true rfl) dX9_readsStatement_162 ⟨Nat.le_of_ble_eq_true rfl, Nat.le_of_ble_eq_true rfl⟩ ?_
      refine lv_bipush (v := 59) hx hb dX9_readsStatement_165 rfl ?_
      have hi29 := br_ite hr
      refine lv_icmp_eq (tgt := 172) hx hb dX9_readsStatement_167 (by decide) (fun c29 => ?_) (fun c29 => ?_)
      · have hr := hi29.1 c29
        refine lv_aload_n hx hb dX9_readsStatement_172 rfl (lv_at hl 2 rfl) ?_
        refine lv_dup hx hb dX9_readsStatement_173 rfl ?_
        refine va_get (D := D) (ci := 8) (v := .int (mG_place o26.2)) (C := RX9) (T := TX9) (N := 26) hx hb hts in_X9 hown hG.1 hP 0 rfl rfl 21 (by decide) (hts _ q1201) (fun _ h9 => h9) rfl dX9_readsStatement_174 ?_
        refine lv_iconst (v := 1) hx hb dX9_readsStatement_177 rfl ?_
        refine lv_iadd hx hb dX9_readsStatement_178 ?_
        obtain ⟨g30, hg30, hr⟩ := br_let hr
        refine fw_put (D := D) (ci := 8) (x := .int ((mG_place o26.2) + 1)) (C := RX9) (T := TX9) (N := 26) hx hb hts in_X9 tyX9 tyX9_ok nmX9 hown hG hS 0 rfl rfl 21 (by decide) (hts _ q1201) (fun _ h9 => h9) rfl (tyX9_ok 21 (by decide)) rfl rfl (Nat.le_of_ble_eq_true rfl) dX9_readsStatement_179 (wn := wM am ac g30) (by rw [hg30]; rfl) (fun H locs hS => ?_)
        have hP := hS.1
        refine lv_iconst (v := 1) hx hb dX9_readsStatement_182 rfl ?_
        obtain rfl := Option.some.inj hr
        refine W.widen (k := rm_X9_readsStatement.cells) (n := rm_X9_readsStatement.slots) (Nat.le_of_ble_eq_true rfl) (Nat.le_of_ble_eq_true rfl) ?_
        exact W.zret (v := 1) (ty := .boolean) hx hb hrt rfl (fun t ht _ => hS.q ht rfl) hS.2.2.2.2 dX9_readsStatement_183 hlk
      · have hr := hi29.2 c29
        refine lv_iconst (v := 0) hx hb dX9_readsStatement_170 rfl ?_
        obtain rfl := Option.some.inj hr
        refine W.widen (k := rm_X9_readsStatement.cells) (n := rm_X9_readsStatement.slots) (Nat.le_of_ble_eq_true rfl) (Nat.le_of_ble_eq_true rfl) ?_
        exact W.zret (v := 0) (ty := .boolean) hx hb hrt rfl (fun t ht _ => hS.q ht rfl) hS.2.2.2.2 dX9_readsStatement_171 hlk
  have hr := hi5.2 c5
  have hi6 := br_ite hr
  by_cases c6 : o1 = 110
  · have hr := hi6.1 c6
    refine lv_lookup (tgt := 140) (off := 124) hx hb dX9_readsStatement_16 (by decide) (by rw [c6]; rfl) (by decide) ?_
    refine lv_iconst (v := 1) hx hb dX9_readsStatement_140 rfl ?_
    refine lv_istore_n (lv' := [(2, .int 1), (1, .int o1), (0, .ref (am 0))]) hx hb dX9_readsStatement_141 rfl hl (by decide) rfl (fun ls hl => ?_)
    refine lv_goto (tgt := 157) hx hb dX9_readsStatement_142 (by decide) ?_
    refine lv_iload_n hx hb dX9_readsStatement_157 rfl (lv_at hl 0 rfl) ?_
    refine lv_if_eq (tgt := 170) hx hb dX9_readsStatement_158 (by decide) (fun c31 => ?_) (fun c31 => ?_)
    · exact absurd c31 (by decide)
    · refine lv_aload_n hx hb dX9_readsStatement_161 rfl (lv_at hl 2 rfl) ?_
      obtain ⟨o32, ho32, hr⟩ := br_bind hr
      refine fwRV (As := []) (rest := []) (C := RX9) hx hb hml hown hts (m_X9_here l D am ac g2  o32 ho32) (cw_X9_here hts q1275 ⟨Nat.le_of_ble_eq_true rfl, Nat.le_of_ble_eq_true rfl⟩) hG hP hP 0 8 rfl rfl rfl hl.1 rfl (Nat.le_of_ble_eq_true rfl) dX9_readsStatement_162 ⟨Nat.le_of_ble_eq_true rfl, Nat.le_of_ble_eq_true rfl⟩ ?_
      refine lv_bipush (v := 59) hx hb dX9_readsStatement_165 rfl ?_
      have hi33 := br_ite hr
      refine lv_icmp_eq (tgt := 172) hx hb dX9_readsStatement_167 (by decide) (fun c33 => ?_) (fun c33 => ?_)
      · have hr := hi33.1 c33
        refine lv_aload_n hx hb dX9_readsStatement_172 rfl (lv_at hl 2 rfl) ?_
        refine lv_dup hx hb dX9_readsStatement_173 rfl ?_
        refine va_get (D := D) (ci := 8) (v := .int (mG_place g2)) (C := RX9) (T := TX9) (N := 26) hx hb hts in_X9 hown hG.1 hP 0 rfl rfl 21 (by decide) (hts _ q1201) (fun _ h9 => h9) rfl dX9_readsStatement_174 ?_
        refine lv_iconst (v := 1) hx hb dX9_readsStatement_177 rfl ?_
        refine lv_iadd hx hb dX9_readsStatement_178 ?_
        obtain ⟨g34, hg34, hr⟩ := br_let hr
        refine fw_put (D := D) (ci := 8) (x := .int ((mG_place g2) + 1)) (C := RX9) (T := TX9) (N := 26) hx hb hts in_X9 tyX9 tyX9_ok nmX9 hown hG hS 0 rfl rfl 21 (by decide) (hts _ q1201) (fun _ h9 => h9) rfl (tyX9_ok 21 (by decide)) rfl rfl (Nat.le_of_ble_eq_true rfl) dX9_readsStatement_179 (wn := wM am ac g34) (by rw [hg34]; rfl) (fun H locs hS => ?_)
        have hP := hS.1
        refine lv_iconst (v := 1) hx hb dX9_readsStatement_182 rfl ?_
        obtain rfl := Option.some.inj hr
        refine W.widen (k := rm_X9_readsStatement.cells) (n := rm_X9_readsStatement.slots) (Nat.le_of_ble_eq_true rfl) (Nat.le_of_ble_eq_true rfl) ?_
        exact W.zret (v := 1) (ty := .boolean) hx hb hrt rfl (fun t ht _ => hS.q ht rfl) hS.2.2.2.2 dX9_readsStatement_183 hlk
      · have hr := hi33.2 c33
        refine lv_iconst (v := 0) hx hb dX9_readsStatement_170 rfl ?_
        obtain rfl := Option.some.inj hr
        refine W.widen (k := rm_X9_readsStatement.cells) (n := rm_X9_readsStatement.slots) (Nat.le_of_ble_eq_true rfl) (Nat.le_of_ble_eq_true rfl) ?_
        exact W.zret (v := 0) (ty := .boolean) hx hb hrt rfl (fun t ht _ => hS.q ht rfl) hS.2.2.2.2 dX9_readsStatement_171 hlk
  have hr := hi6.2 c6
  have hi7 := br_ite hr
  by_cases c7 : o1 = 114
  · have hr := hi7.1 c7
    refine lv_lookup (tgt := 130) (off := 114) hx hb dX9_readsStatement_16 (by decide) (by rw [c7]; rfl) (by decide) ?_
    refine lv_aload_n hx hb dX9_readsStatement_130 rfl (lv_at hl 1 rfl) ?_
    refine lv_iconst (v := 0) hx hb dX9_readsStatement_131 rfl ?_
    refine lv_iconst (v := 1) hx hb dX9_readsStatement_132 rfl ?_
    obtain ⟨o35, ho35, hr⟩ := br_bind hr
    refine fwWVs (As := [.int 0, .int 1]) (rest := []) (C := RX9) hx hb hml hown hts (m_X9_readsNumber l D am ac g2 (0 : Int32) (1 : Int32) _ o35 ho35) (cw_X9_readsNumber hts q1286 ⟨Nat.le_of_ble_eq_true rfl, Nat.le_of_ble_eq_true rfl⟩) hG hS hA rfl 0 8 rfl rfl rfl hl.1 rfl (Nat.le_of_ble_eq_true rfl) dX9_readsStatement_133 ⟨Nat.le_of_ble_eq_true rfl, Nat.le_of_ble_eq_true rfl⟩ (fun H locs hS => ?_)
    have hP := hS.1
    refine lv_istore_n (lv' := [(2, .int o35.1), (1, .int o1), (0, .ref (am 0))]) hx hb dX9_readsStatement_136 rfl hl (by decide) rfl (fun ls hl => ?_)
    refine lv_goto (tgt := 157) hx hb dX9_readsStatement_137 (by decide) ?_
    refine lv_iload_n hx hb dX9_readsStatement_157 rfl (lv_at hl 0 rfl) ?_
    have hi36 := br_ite hr
    refine lv_if_eq (tgt := 170) hx hb dX9_readsStatement_158 (by decide) (fun c36 => ?_) (fun c36 => ?_)
    · have hr := hi36.1 c36
      refine lv_iconst (v := 0) hx hb dX9_readsStatement_170 rfl ?_
      obtain rfl := Option.some.inj hr
      refine W.widen (k := rm_X9_readsStatement.cells) (n := rm_X9_readsStatement.slots) (Nat.le_of_ble_eq_true rfl) (Nat.le_of_ble_eq_true rfl) ?_
      exact W.zret (v := 0) (ty := .boolean) hx hb hrt rfl (fun t ht _ => hS.q ht rfl) hS.2.2.2.2 dX9_readsStatement_171 hlk
    · have hr := hi36.2 c36
      refine lv_aload_n hx hb dX9_readsStatement_161 rfl (lv_at hl 2 rfl) ?_
      obtain ⟨o37, ho37, hr⟩ := br_bind hr
      refine fwRV (As := []) (rest := []) (C := RX9) hx hb hml hown hts (m_X9_here l D am ac o35.2  o37 ho37) (cw_X9_here hts q1275 ⟨Nat.le_of_ble_eq_true rfl, Nat.le_of_ble_eq_true rfl⟩) hG hP hP 0 8 rfl rfl rfl hl.1 rfl (Nat.le_of_ble_eq_true rfl) dX9_readsStatement_162 ⟨Nat.le_of_ble_eq_true rfl, Nat.le_of_ble_eq_true rfl⟩ ?_
      refine lv_bipush (v := 59) hx hb dX9_readsStatement_165 rfl ?_
      have hi38 := br_ite hr
      refine lv_icmp_eq (tgt := 172) hx hb dX9_readsStatement_167 (by decide) (fun c38 => ?_) (fun c38 => ?_)
      · have hr := hi38.1 c38
        refine lv_aload_n hx hb dX9_readsStatement_172 rfl (lv_at hl 2 rfl) ?_
        refine lv_dup hx hb dX9_readsStatement_173 rfl ?_
        refine va_get (D := D) (ci := 8) (v := .int (mG_place o35.2)) (C := RX9) (T := TX9) (N := 26) hx hb hts in_X9 hown hG.1 hP 0 rfl rfl 21 (by decide) (hts _ q1201) (fun _ h9 => h9) rfl dX9_readsStatement_174 ?_
        refine lv_iconst (v := 1) hx hb dX9_readsStatement_177 rfl ?_
        refine lv_iadd hx hb dX9_readsStatement_178 ?_
        obtain ⟨g39, hg39, hr⟩ := br_let hr
        refine fw_put (D := D) (ci := 8) (x := .int ((mG_place o35.2) + 1)) (C := RX9) (T := TX9) (N := 26) hx hb hts in_X9 tyX9 tyX9_ok nmX9 hown hG hS 0 rfl rfl 21 (by decide) (hts _ q1201) (fun _ h9 => h9) rfl (tyX9_ok 21 (by decide)) rfl rfl (Nat.le_of_ble_eq_true rfl) dX9_readsStatement_179 (wn := wM am ac g39) (by rw [hg39]; rfl) (fun H locs hS => ?_)
        have hP := hS.1
        refine lv_iconst (v := 1) hx hb dX9_readsStatement_182 rfl ?_
        obtain rfl := Option.some.inj hr
        refine W.widen (k := rm_X9_readsStatement.cells) (n := rm_X9_readsStatement.slots) (Nat.le_of_ble_eq_true rfl) (Nat.le_of_ble_eq_true rfl) ?_
        exact W.zret (v := 1) (ty := .boolean) hx hb hrt rfl (fun t ht _ => hS.q ht rfl) hS.2.2.2.2 dX9_readsStatement_183 hlk
      · have hr := hi38.2 c38
        refine lv_iconst (v := 0) hx hb dX9_readsStatement_170 rfl ?_
        obtain rfl := Option.some.inj hr
        refine W.widen (k := rm_X9_readsStatement.cells) (n := rm_X9_readsStatement.slots) (Nat.le_of_ble_eq_true rfl) (Nat.le_of_ble_eq_true rfl) ?_
        exact W.zret (v := 0) (ty := .boolean) hx hb hrt rfl (fun t ht _ => hS.q ht rfl) hS.2.2.2.2 dX9_readsStatement_171 hlk
  have hr := hi7.2 c7
  refine lv_lookup (tgt := 145) (off := 129) hx hb dX9_readsStatement_16 (by decide) ((lv_osw c3 rfl).trans ((lv_osw c4 rfl).trans ((lv_osw c5 rfl).trans ((lv_osw c6 rfl).trans ((lv_osw c7 rfl).trans (rfl)))))) (by decide) ?_
  refine lv_aload_n hx hb dX9_readsStatement_145 rfl (lv_at hl 1 rfl) ?_
  refine lv_dup hx hb dX9_readsStatement_146 rfl ?_
  refine va_get (D := D) (ci := 8) (v := .int (mG_place g2)) (C := RX9) (T := TX9) (N := 26) hx hb hts in_X9 hown hG.1 hP 0 rfl rfl 21 (by decide) (hts _ q1201) (fun _ h9 => h9) rfl dX9_readsStatement_147 ?_
  refine lv_iconst (v := 1) hx hb dX9_readsStatement_150 rfl ?_
  refine lv_isub hx hb dX9_readsStatement_151 ?_
  obtain ⟨g40, hg40, hr⟩ := br_let hr
  refine fw_put (D := D) (ci := 8) (x := .int ((mG_place g2) - 1)) (C := RX9) (T := TX9) (N := 26) hx hb hts in_X9 tyX9 tyX9_ok nmX9 hown hG hS 0 rfl rfl 21 (by decide) (hts _ q1201) (fun _ h9 => h9) rfl (tyX9_ok 21 (by decide)) rfl rfl (Nat.le_of_ble_eq_true rfl) dX9_readsStatement_152 (wn := wM am ac g40) (by rw [hg40]; rfl) (fun H locs hS => ?_)
  have hP := hS.1
  refine lv_iconst (v := 0) hx hb dX9_readsStatement_155 rfl ?_
  obtain rfl := Option.some.inj hr
  refine W.widen (k := rm_X9_readsStatement.cells) (n := rm_X9_readsStatement.slots) (Nat.le_of_ble_eq_true rfl) (Nat.le_of_ble_eq_true rfl) ?_
  exact W.zret (v := 0) (ty := .boolean) hx hb hrt rfl (fun t ht _ => hS.q ht rfl) hS.2.2.2.2 dX9_readsStatement_156 hlk
theorem cw_X9_readsStatement {R : Room} {s : State} {args : Array Value} {own : String} {index : Nat} (hts : ∀ w ∈ lw_all, w.before args s = true) (hlink : Cond.methodLink own index yX9_readsStatement ∈ lw_all) (hR : rm_X9_readsStatement.frames + 1 ≤ R.frames ∧ 8 + (3 + 11) + rm_X9_readsStatement.locals ≤ R.locals) : CallW R s args own RX9 index yX9_readsStatement cX9_readsStatement 3 (some FieldType.boolean) (ws_ yX9_readsStatement cX9_readsStatement 3 (some FieldType.boolean)) rm_X9_readsStatement rm_X9_readsStatement.cells rm_X9_readsStatement.slots 0 :=
  cwV 0 hts (lw_V hlink q1273 qs76 q111 q1274) rfl rfl rfl (by decide +kernel) hR
def f_X9_lays_L26 : Nat → Int32 → MS → Option (MS)
  | 0, _, _ => none
  | n + 1, x1_4, g_4 => if 5 ≤ x1_4 then some g_4 else if x1_4 < 0 ∨ 5 ≤ Int32.toNatClampNeg x1_4 then none else if x1_4 < 0 ∨ 5 ≤ Int32.toNatClampNeg x1_4 then none else Option.bind (some (mS_wasKind g_4 (upd (mG_wasKind g_4) (Int32.toNatClampNeg x1_4) (mG_kind g_4 (Int32.toNatClampNeg x1_4))))) fun g8 => if x1_4 < 0 ∨ 5 ≤ Int32.toNatClampNeg x1_4 then none else if x1_4 < 0 ∨ 5 ≤ Int32.toNatClampNeg x1_4 then none else Option.bind (some (mS_wasFigure g8 (upd (mG_wasFigure g8) (Int32.toNatClampNeg x1_4) (mG_figure g8 (Int32.toNatClampNeg x1_4))))) fun g11 => Option.bind (some ((x1_4 + 1) : Int32)) fun v12 => f_X9_lays_L26 n v12 g11
def f_X9_lays (g : MS) : Option (MS) := Option.bind (some (mS_wasLeft g (mG_left g))) fun g1 => Option.bind (some (mS_wasBites g1 (mG_bites g1))) fun g2 => Option.bind (some (mS_wasMany g2 (mG_many g2))) fun g3 => Option.bind (f_X9_lays_L26 1000 0 g3) fun o4 => some o4
abbrev rm_X9_lays : Room := ({ frames := 1, cells := 0, slots := 0, locals := 18 })
set_option maxHeartbeats 4000000 in
theorem m_X9_lays (l : Launch) (D : va_G) (am : Nat → Nat) (ac : Nat → ClassId) (g : MS) (sz : Nat) (r0 : MS) (hr : f_X9_lays g = some r0) : WM l yX9_lays cX9_lays 2 none rm_X9_lays [.ref (am 0)] D ac (wM am ac g) (wM am ac r0) sz none := by
  refine fw_of (by decide) (Nat.le_of_ble_eq_true rfl) ?_
  intro p e s m below meth c ls hx hb hrt hts hown hlk hml _ hU hl
  obtain ⟨rfl, hP, hG, hD⟩ := hU
  have hA : ∀ q : Nat, s.heap.size ≤ q → va_A (wM am ac g) s.heap.size q := fun q h => Or.inr h
  have hS := Stt.start hP hD
  show WW p l e rm_X9_lays s m [.ref (am 0)] below meth c D (wM am ac r0) (va_A (wM am ac g) s.heap.size) none s.heap [] 0 0 0 ls []
  have hl : lv_has ls 2 [(0, .ref (am 0))] := hl
  rw [f_X9_lays] at hr
  refine lv_aload_n hx hb dX9_lays_0 rfl (lv_at hl 0 rfl) ?_
  refine lv_aload_n hx hb dX9_lays_1 rfl (lv_at hl 0 rfl) ?_
  refine va_get (D := D) (ci := 8) (v := .int (mG_left g)) (C := RX9) (T := TX9) (N := 26) hx hb hts in_X9 hown hG.1 hP 0 rfl rfl 0 (by decide) (hts _ q1180) (fun _ h9 => h9) rfl dX9_lays_2 ?_
  obtain ⟨g1, hg1, hr⟩ := br_let hr
  refine fw_put (D := D) (ci := 8) (x := .int (mG_left g)) (C := RX9) (T := TX9) (N := 26) hx hb hts in_X9 tyX9 tyX9_ok nmX9 hown hG hS 0 rfl rfl 6 (by decide) (hts _ q1186) (fun _ h9 => h9) rfl (tyX9_ok 6 (by decide)) rfl rfl (Nat.le_of_ble_eq_true rfl) dX9_lays_5 (wn := wM am ac g1) (by rw [hg1]; rfl) (fun H locs hS => ?_)
  have hP := hS.1
  refine lv_aload_n hx hb dX9_lays_8 rfl (lv_at hl 0 rfl) ?_
  refine lv_aload_n hx hb dX9_lays_9 rfl (lv_at hl 0 rfl) ?_
  refine va_get (D := D) (ci := 8) (v := .int (mG_bites g1)) (C := RX9) (T := TX9) (N := 26) hx hb hts in_X9 hown hG.1 hP 0 rfl rfl 1 (by decide) (hts _ q1181) (fun _ h9 => h9) rfl dX9_lays_10 ?_
  obtain ⟨g2, hg2, hr⟩ := br_let hr
  refine fw_put (D := D) (ci := 8) (x := .int (mG_bites g1)) (C := RX9) (T := TX9) (N := 26) hx hb hts in_X9 tyX9 tyX9_ok nmX9 hown hG hS 0 rfl rfl 7 (by decide) (hts _ q1187) (fun _ h9 => h9) rfl (tyX9_ok 7 (by decide)) rfl rfl (Nat.le_of_ble_eq_true rfl) dX9_lays_13 (wn := wM am ac g2) (by rw [hg2]; rfl) (fun H locs hS => ?_)
  have hP := hS.1
  refine lv_aload_n hx hb dX9_lays_16 rfl (lv_at hl 0 rfl) ?_
  refine lv_aload_n hx hb dX9_lays_17 rfl (lv_at hl 0 rfl) ?_
  refine va_get (D := D) (ci := 8) (v := .int (mG_many g2)) (C := RX9) (T := TX9) (N := 26) hx hb hts in_X9 hown hG.1 hP 0 rfl rfl 2 (by decide) (hts _ q1182) (fun _ h9 => h9) rfl dX9_lays_18 ?_
  obtain ⟨g3, hg3, hr⟩ := br_let hr
  refine fw_put (D := D) (ci := 8) (x := .int (mG_many g2)) (C := RX9) (T := TX9) (N := 26) hx hb hts in_X9 tyX9 tyX9_ok nmX9 hown hG hS 0 rfl rfl 8 (by decide) (hts _ q1188) (fun _ h9 => h9) rfl (tyX9_ok 8 (by decide)) rfl rfl (Nat.le_of_ble_eq_true rfl) dX9_lays_21 (wn := wM am ac g3) (by rw [hg3]; rfl) (fun H locs hS => ?_)
  have hP := hS.1
  refine lv_iconst (v := 0) hx hb dX9_lays_24 rfl ?_
  refine lv_istore_n (lv' := [(1, .int 0), (0, .ref (am 0))]) hx hb dX9_lays_25 rfl hl (by decide) rfl (fun ls hl => ?_)
  have L4 : ∀ (n : Nat) (x1_4 : Int32) (g_4 : MS) (o4 : MS), f_X9_lays_L26 n x1_4 g_4 = some o4 → ∀ (H : Heap) (locs : List Loc) ls, lv_has ls 2 [(1, .int x1_4), (0, .ref (am 0))] → Stt D (va_A (wM am ac g) s.heap.size) s.heap (wM am ac g_4) H locs → (∀ (H : Heap) (locs : List Loc) ls, lv_has ls 2 [] → Stt D (va_A (wM am ac g) s.heap.size) s.heap (wM am ac o4) H locs → WW p l e rm_X9_lays s m [.ref (am 0)] below meth c D (wM am ac r0) (va_A (wM am ac g) s.heap.size) none H locs 0 0 61 ls []) → WW p l e rm_X9_lays s m [.ref (am 0)] below meth c D (wM am ac r0) (va_A (wM am ac g) s.heap.size) none H locs 0 0 26 ls [] := by
    intro n
    induction n with
    | zero => intro x1_4 g_4 o4 hr; rw [f_X9_lays_L26] at hr; cases hr
    | succ n ih =>
      intro x1_4 g_4 o4 hr H locs ls hl hS kx
      have hP := hS.1
      rw [f_X9_lays_L26] at hr
      refine lv_iload_n hx hb dX9_lays_26 rfl (lv_at hl 0 rfl) ?_
      refine lv_iconst (v := 5) hx hb dX9_lays_27 rfl ?_
      have hi5 := br_ite hr
      refine lv_icmp_ge (tgt := 61) hx hb dX9_lays_28 (by decide) (fun c5 => ?_) (fun c5 => ?_)
      · have hr := hi5.1 c5
        obtain rfl := Option.some.inj hr
        exact kx _ _ ls (lv_sub hl [] rfl) hS
      · have hr := hi5.2 c5
        refine lv_aload_n hx hb dX9_lays_31 rfl (lv_at hl 1 rfl) ?_
        refine va_get (D := D) (ci := 8) (v := .ref (am 5)) (C := RX9) (T := TX9) (N := 26) hx hb hts in_X9 hown hG.1 hP 0 rfl rfl 13 (by decide) (hts _ q1193) (fun _ h9 => h9) rfl dX9_lays_32 ?_
        refine lv_iload_n hx hb dX9_lays_35 rfl (lv_at hl 0 rfl) ?_
        refine lv_aload_n hx hb dX9_lays_36 rfl (lv_at hl 1 rfl) ?_
        refine va_get (D := D) (ci := 8) (v := .ref (am 1)) (C := RX9) (T := TX9) (N := 26) hx hb hts in_X9 hown hG.1 hP 0 rfl rfl 9 (by decide) (hts _ q1189) (fun _ h9 => h9) rfl dX9_lays_37 ?_
        refine lv_iload_n hx hb dX9_lays_40 rfl (lv_at hl 0 rfl) ?_
        obtain ⟨c6, hr⟩ := br_none hr
        refine va_iald hx hb hG.1 hP 1 0 rfl rfl c6 dX9_lays_41 ?_
        obtain ⟨c7, hr⟩ := br_none hr
        obtain ⟨g8, hg8, hr⟩ := br_let hr
        refine fw_iast hx hb hG hS 5 rfl c7 dX9_lays_42 (wn := wM am ac g8) (by rw [hg8]; rfl) (fun H locs hS => ?_)
        have hP := hS.1
        refine lv_aload_n hx hb dX9_lays_43 rfl (lv_at hl 1 rfl) ?_
        refine va_get (D := D) (ci := 8) (v := .ref (am 6)) (C := RX9) (T := TX9) (N := 26) hx hb hts in_X9 hown hG.1 hP 0 rfl rfl 14 (by decide) (hts _ q1194) (fun _ h9 => h9) rfl dX9_lays_44 ?_
        refine lv_iload_n hx hb dX9_lays_47 rfl (lv_at hl 0 rfl) ?_
        refine lv_aload_n hx hb dX9_lays_48 rfl (lv_at hl 1 rfl) ?_
        refine va_get (D := D) (ci := 8) (v := .ref (am 2)) (C := RX9) (T := TX9) (N := 26) hx hb hts in_X9 hown hG.1 hP 0 rfl rfl 10 (by decide) (hts _ q1190) (fun _ h9 => h9) rfl dX9_lays_49 ?_
        refine lv_iload_n hx hb dX9_lays_52 rfl (lv_at hl 0 rfl) ?_
        obtain ⟨c9, hr⟩ := br_none hr
        refine va_iald hx hb hG.1 hP 2 0 rfl rfl c9 dX9_lays_53 ?_
        obtain ⟨c10, hr⟩ := br_none hr
        obtain ⟨g11, hg11, hr⟩ := br_let hr
        refine fw_iast hx hb hG hS 6 rfl c10 dX9_lays_54 (wn := wM am ac g11) (by rw [hg11]; rfl) (fun H locs hS => ?_)
        have hP := hS.1
        obtain ⟨v12, hv12, hr⟩ := br_let hr
        refine lv_iinc (v := v12) (lv' := [(1, .int v12), (0, .ref (am 0))]) hx hb dX9_lays_55 hl (k := 0) rfl (hv12 ▸ rfl) (by decide) rfl (fun ls hl => ?_)
        refine lv_goto (tgt := 26) hx hb dX9_lays_58 (by decide) ?_
        exact ih v12 g11 _ hr _ _ ls (lv_sub hl [0, 1] rfl) hS kx
  obtain ⟨o4, ho4, hr⟩ := br_bind hr
  refine L4 1000 0 g3 o4 ho4 _ _ ls (lv_sub hl [0, 1] rfl) hS (fun H locs ls hl hS => ?_)
  have hP := hS.1
  obtain rfl := Option.some.inj hr
  refine W.widen (k := rm_X9_lays.cells) (n := rm_X9_lays.slots) (Nat.le_of_ble_eq_true rfl) (Nat.le_of_ble_eq_true rfl) ?_
  exact W.vret hx hb hrt (fun t ht _ => hS.q ht rfl) hS.2.2.2.2 dX9_lays_61 hlk
theorem cw_X9_lays {R : Room} {s : State} {args : Array Value} {own : String} {index : Nat} (hts : ∀ w ∈ lw_all, w.before args s = true) (hlink : Cond.methodLink own index yX9_lays ∈ lw_all) (hR : rm_X9_lays.frames + 1 ≤ R.frames ∧ 8 + (2 + 11) + rm_X9_lays.locals ≤ R.locals) : CallW R s args own RX9 index yX9_lays cX9_lays 2 none (ws_ yX9_lays cX9_lays 2 none) rm_X9_lays rm_X9_lays.cells rm_X9_lays.slots 0 :=
  cwV 0 hts (lw_V hlink q1295 qs80 q111 q1296) rfl rfl rfl (by decide +kernel) hR
def f_X9_bitesOff (g : MS) (a1 : Int32) : Option (MS) := Option.bind (some (mS_left g ((mG_left g) &&& (a1 ^^^ (-1))))) fun g1 => Option.bind (f_X9_least 999 ((mG_bites g1) + 1)) fun o2 => Option.bind (some (mS_bites g1 o2)) fun g3 => some g3
abbrev rm_X9_bitesOff : Room := ({ frames := 2, cells := 0, slots := 0, locals := 39 })
set_option maxHeartbeats 4000000 in
theorem m_X9_bitesOff (l : Launch) (D : va_G) (am : Nat → Nat) (ac : Nat → ClassId) (g : MS) (a1 : Int32) (sz : Nat) (r0 : MS) (hr : f_X9_bitesOff g a1 = some r0) : WM l yX9_bitesOff cX9_bitesOff 2 none rm_X9_bitesOff [.ref (am 0), .int a1] D ac (wM am ac g) (wM am ac r0) sz none := by
  refine fw_of (by decide) (Nat.le_of_ble_eq_true rfl) ?_
  intro p e s m below meth c ls hx hb hrt hts hown hlk hml _ hU hl
  obtain ⟨rfl, hP, hG, hD⟩ := hU
  have hA : ∀ q : Nat, s.heap.size ≤ q → va_A (wM am ac g) s.heap.size q := fun q h => Or.inr h
  have hS := Stt.start hP hD
  show WW p l e rm_X9_bitesOff s m [.ref (am 0), .int a1] below meth c D (wM am ac r0) (va_A (wM am ac g) s.heap.size) none s.heap [] 0 0 0 ls []
  have hl : lv_has ls 2 [(0, .ref (am 0)), (1, .int a1)] := hl
  rw [f_X9_bitesOff] at hr
  refine lv_aload_n hx hb dX9_bitesOff_0 rfl (lv_at hl 0 rfl) ?_
  refine lv_dup hx hb dX9_bitesOff_1 rfl ?_
  refine va_get (D := D) (ci := 8) (v := .int (mG_left g)) (C := RX9) (T := TX9) (N := 26) hx hb hts in_X9 hown hG.1 hP 0 rfl rfl 0 (by decide) (hts _ q1180) (fun _ h9 => h9) rfl dX9_bitesOff_2 ?_
  refine lv_iload_n hx hb dX9_bitesOff_5 rfl (lv_at hl 1 rfl) ?_
  refine lv_iconst (v := (-1)) hx hb dX9_bitesOff_6 rfl ?_
  refine lv_ixor hx hb dX9_bitesOff_7 ?_
  refine lv_iand hx hb dX9_bitesOff_8 ?_
  obtain ⟨g1, hg1, hr⟩ := br_let hr
  refine fw_put (D := D) (ci := 8) (x := .int ((mG_left g) &&& (a1 ^^^ (-1)))) (C := RX9) (T := TX9) (N := 26) hx hb hts in_X9 tyX9 tyX9_ok nmX9 hown hG hS 0 rfl rfl 0 (by decide) (hts _ q1180) (fun _ h9 => h9) rfl (tyX9_ok 0 (by decide)) rfl rfl (Nat.le_of_ble_eq_true rfl) dX9_bitesOff_9 (wn := wM am ac g1) (by rw [hg1]; rfl) (fun H locs hS => ?_)
  have hP := hS.1
  refine lv_aload_n hx hb dX9_bitesOff_12 rfl (lv_at hl 0 rfl) ?_
  refine lv_sipush (v := 999) hx hb dX9_bitesOff_13 rfl ?_
  refine lv_aload_n hx hb dX9_bitesOff_16 rfl (lv_at hl 0 rfl) ?_
  refine va_get (D := D) (ci := 8) (v := .int (mG_bites g1)) (C := RX9) (T := TX9) (N := 26) hx hb hts in_X9 hown hG.1 hP 0 rfl rfl 1 (by decide) (hts _ q1181) (fun _ h9 => h9) rfl dX9_bitesOff_17 ?_
  refine lv_iconst (v := 1) hx hb dX9_bitesOff_20 rfl ?_
  refine lv_iadd hx hb dX9_bitesOff_21 ?_
  obtain ⟨o2, ho2, hr⟩ := br_bind hr
  refine fwS (As := [.int 999, .int ((mG_bites g1) + 1)]) (rest := [.ref (am 0)]) hx hb hml hown hts (m_X9_least l 999 ((mG_bites g1) + 1) o2 ho2) (cw_X9_least hts q1314 ⟨Nat.le_of_ble_eq_true rfl, Nat.le_of_ble_eq_true rfl⟩) rfl hl.1 rfl (Nat.le_of_ble_eq_true rfl) dX9_bitesOff_22 ⟨Nat.le_of_ble_eq_true rfl, Nat.le_of_ble_eq_true rfl⟩ ?_
  obtain ⟨g3, hg3, hr⟩ := br_let hr
  refine fw_put (D := D) (ci := 8) (x := .int o2) (C := RX9) (T := TX9) (N := 26) hx hb hts in_X9 tyX9 tyX9_ok nmX9 hown hG hS 0 rfl rfl 1 (by decide) (hts _ q1181) (fun _ h9 => h9) rfl (tyX9_ok 1 (by decide)) rfl rfl (Nat.le_of_ble_eq_true rfl) dX9_bitesOff_25 (wn := wM am ac g3) (by rw [hg3]; rfl) (fun H locs hS => ?_)
  have hP := hS.1
  obtain rfl := Option.some.inj hr
  refine W.widen (k := rm_X9_bitesOff.cells) (n := rm_X9_bitesOff.slots) (Nat.le_of_ble_eq_true rfl) (Nat.le_of_ble_eq_true rfl) ?_
  exact W.vret hx hb hrt (fun t ht _ => hS.q ht rfl) hS.2.2.2.2 dX9_bitesOff_28 hlk
theorem cw_X9_bitesOff {R : Room} {s : State} {args : Array Value} {own : String} {index : Nat} (hts : ∀ w ∈ lw_all, w.before args s = true) (hlink : Cond.methodLink own index yX9_bitesOff ∈ lw_all) (hR : rm_X9_bitesOff.frames + 1 ≤ R.frames ∧ 8 + (2 + 11) + rm_X9_bitesOff.locals ≤ R.locals) : CallW R s args own RX9 index yX9_bitesOff cX9_bitesOff 2 none (ws_ yX9_bitesOff cX9_bitesOff 2 none) rm_X9_bitesOff rm_X9_bitesOff.cells rm_X9_bitesOff.slots 1 :=
  cwV 1 hts (lw_V hlink q1312 qs82 q111 q1313) rfl rfl rfl (by decide +kernel) hR
def f_X9_allAgain (g : MS) : Option (MS) := Option.bind (some (mS_left g (33554431 : Int32))) fun g1 => Option.bind (some (mS_bites g1 (0 : Int32))) fun g2 => some g2
abbrev rm_X9_allAgain : Room := ({ frames := 1, cells := 0, slots := 0, locals := 17 })
set_option maxHeartbeats 4000000 in
theorem m_X9_allAgain (l : Launch) (D : va_G) (am : Nat → Nat) (ac : Nat → ClassId) (g : MS) (sz : Nat) (r0 : MS) (hr : f_X9_allAgain g = some r0) : WM l yX9_allAgain cX9_allAgain 1 none rm_X9_allAgain [.ref (am 0)] D ac (wM am ac g) (wM am ac r0) sz none := by
  refine fw_of (by decide) (Nat.le_of_ble_eq_true rfl) ?_
  intro p e s m below meth c ls hx hb hrt hts hown hlk hml _ hU hl
  obtain ⟨rfl, hP, hG, hD⟩ := hU
  have hA : ∀ q : Nat, s.heap.size ≤ q → va_A (wM am ac g) s.heap.size q := fun q h => Or.inr h
  have hS := Stt.start hP hD
  show WW p l e rm_X9_allAgain s m [.ref (am 0)] below meth c D (wM am ac r0) (va_A (wM am ac g) s.heap.size) none s.heap [] 0 0 0 ls []
  have hl : lv_has ls 1 [(0, .ref (am 0))] := hl
  rw [f_X9_allAgain] at hr
  refine lv_aload_n hx hb dX9_allAgain_0 rfl (lv_at hl 0 rfl) ?_
  refine lv_ldc (v := 33554431) hx hb hown (hts _ q1179) dX9_allAgain_1 ?_
  obtain ⟨g1, hg1, hr⟩ := br_let hr
  refine fw_put (D := D) (ci := 8) (x := .int 33554431) (C := RX9) (T := TX9) (N := 26) hx hb hts in_X9 tyX9 tyX9_ok nmX9 hown hG hS 0 rfl rfl 0 (by decide) (hts _ q1180) (fun _ h9 => h9) rfl (tyX9_ok 0 (by decide)) rfl rfl (Nat.le_of_ble_eq_true rfl) dX9_allAgain_3 (wn := wM am ac g1) (by rw [hg1]; rfl) (fun H locs hS => ?_)
  have hP := hS.1
  refine lv_aload_n hx hb dX9_allAgain_6 rfl (lv_at hl 0 rfl) ?_
  refine lv_iconst (v := 0) hx hb dX9_allAgain_7 rfl ?_
  obtain ⟨g2, hg2, hr⟩ := br_let hr
  refine fw_put (D := D) (ci := 8) (x := .int 0) (C := RX9) (T := TX9) (N := 26) hx hb hts in_X9 tyX9 tyX9_ok nmX9 hown hG hS 0 rfl rfl 1 (by decide) (hts _ q1181) (fun _ h9 => h9) rfl (tyX9_ok 1 (by decide)) rfl rfl (Nat.le_of_ble_eq_true rfl) dX9_allAgain_8 (wn := wM am ac g2) (by rw [hg2]; rfl) (fun H locs hS => ?_)
  have hP := hS.1
  obtain rfl := Option.some.inj hr
  refine W.widen (k := rm_X9_allAgain.cells) (n := rm_X9_allAgain.slots) (Nat.le_of_ble_eq_true rfl) (Nat.le_of_ble_eq_true rfl) ?_
  exact W.vret hx hb hrt (fun t ht _ => hS.q ht rfl) hS.2.2.2.2 dX9_allAgain_11 hlk
theorem cw_X9_allAgain {R : Room} {s : State} {args : Array Value} {own : String} {index : Nat} (hts : ∀ w ∈ lw_all, w.before args s = true) (hlink : Cond.methodLink own index yX9_allAgain ∈ lw_all) (hR : rm_X9_allAgain.frames + 1 ≤ R.frames ∧ 8 + (1 + 11) + rm_X9_allAgain.locals ≤ R.locals) : CallW R s args own RX9 index yX9_allAgain cX9_allAgain 1 none (ws_ yX9_allAgain cX9_allAgain 1 none) rm_X9_allAgain rm_X9_allAgain.cells rm_X9_allAgain.slots 0 :=
  cwV 0 hts (lw_V hlink q1325 qs83 q111 q1326) rfl rfl rfl (by decide +kernel) hR
def f_X9_isDone (g : MS) (a1 : Int32) : Option (Int32 × MS) := Option.bind (some ((mG_numbers g (Int32.toNatClampNeg (0 : Int32))) : Int32)) fun v1 => Option.bind (some ((mG_numbers g (Int32.toNatClampNeg (1 : Int32))) : Int32)) fun v2 => if a1 = 98 then if 4 ≤ v1 then some (0, g) else Option.bind (f_X9_isCell v2) fun o8 => if o8 = 0 then some (0, g) else Option.bind (f_X9_canBite (mG_left g) v1 v2) fun o10 => if o10 = 0 then some (0, g) else Option.bind (f_X9_bite v1 v2) fun o12 => Option.bind (f_X9_bitesOff g o12) fun o13 => some (1, o13) else if a1 = 104 then if (mG_many g) = 5 then some (0, g) else if (mG_many g) < 0 ∨ 5 ≤ Int32.toNatClampNeg (mG_many g) then none else Option.bind (some (mS_kind g (upd (mG_kind g) (Int32.toNatClampNeg (mG_many g)) v1))) fun g16 => if (mG_many g16) < 0 ∨ 5 ≤ Int32.toNatClampNeg (mG_many g16) then none else Option.bind (some (mS_figure g16 (upd (mG_figure g16) (Int32.toNatClampNeg (mG_many g16)) v2))) fun g18 => Option.bind (some (mS_many g18 ((mG_many g18) + 1))) fun g19 => some (1, g19) else if a1 = 108 then Option.bind (f_X9_isCell v1) fun o20 => if o20 = 0 then some (0, g) else Option.bind (some (mS_left g ((mG_left g) ||| ((1 : Int32) <<< (v1 &&& 31))))) fun g22 => some (1, g22) else if a1 = 114 then Option.bind (f_X9_isIn v1 1 3) fun o23 => if o23 = 0 then some (0, g) else Option.bind (f_X9_turnedBy (mG_left g) v1) fun o25 => Option.bind (some (mS_left g o25)) fun g26 => some (1, g26) else Option.bind (f_X9_allAgain g) fun o27 => some (1, o27)
abbrev rm_X9_isDone : Room := ({ frames := 3, cells := 0, slots := 0, locals := 67 })
set_option maxHeartbeats 4000000 in
theorem m_X9_isDone (l : Launch) (D : va_G) (am : Nat → Nat) (ac : Nat → ClassId) (g : MS) (a1 : Int32) (sz : Nat) (r0 : Int32 × MS) (hr : f_X9_isDone g a1 = some r0) : WM l yX9_isDone cX9_isDone 4 (some FieldType.boolean) rm_X9_isDone [.ref (am 0), .int a1] D ac (wM am ac g) (wM am ac r0.2) sz (some (.int r0.1)) := by
  refine fw_of (by decide) (Nat.le_of_ble_eq_true rfl) ?_
  intro p e s m below meth c ls hx hb hrt hts hown hlk hml _ hU hl
  obtain ⟨rfl, hP, hG, hD⟩ := hU
  have hA : ∀ q : Nat, s.heap.size ≤ q → va_A (wM am ac g) s.heap.size q := fun q h => Or.inr h
  have hS := Stt.start hP hD
  show WW p l e rm_X9_isDone s m [.ref (am 0), .int a1] below meth c D (wM am ac r0.2) (va_A (wM am ac g) s.heap.size) (some (.int r0.1)) s.heap [] 0 0 0 ls []
  have hl : lv_has ls 4 [(0, .ref (am 0)), (1, .int a1)] := hl
  rw [f_X9_isDone] at hr
  refine lv_aload_n hx hb dX9_isDone_0 rfl (lv_at hl 0 rfl) ?_
  refine va_get (D := D) (ci := 8) (v := .ref (am 10)) (C := RX9) (T := TX9) (N := 26) hx hb hts in_X9 hown hG.1 hP 0 rfl rfl 22 (by decide) (hts _ q1202) (fun _ h9 => h9) rfl dX9_isDone_1 ?_
  refine lv_iconst (v := 0) hx hb dX9_isDone_4 rfl ?_
  refine va_iald hx hb hG.1 hP 10 0 rfl rfl (show ¬ ((0 : Int32) < 0 ∨ 2 ≤ Int32.toNatClampNeg (0 : Int32)) by decide) dX9_isDone_5 ?_
  refine lv_topi (fun v1 hv1 => ?_)
  have hr := br_letv hr hv1
  refine lv_istore_n (lv' := [(2, .int v1), (0, .ref (am 0)), (1, .int a1)]) hx hb dX9_isDone_6 rfl hl (by decide) rfl (fun ls hl => ?_)
  refine lv_aload_n hx hb dX9_isDone_7 rfl (lv_at hl 1 rfl) ?_
  refine va_get (D := D) (ci := 8) (v := .ref (am 10)) (C := RX9) (T := TX9) (N := 26) hx hb hts in_X9 hown hG.1 hP 0 rfl rfl 22 (by decide) (hts _ q1202) (fun _ h9 => h9) rfl dX9_isDone_8 ?_
  refine lv_iconst (v := 1) hx hb dX9_isDone_11 rfl ?_
  refine va_iald hx hb hG.1 hP 10 0 rfl rfl (show ¬ ((1 : Int32) < 0 ∨ 2 ≤ Int32.toNatClampNeg (1 : Int32)) by decide) dX9_isDone_12 ?_
  refine lv_topi (fun v2 hv2 => ?_)
  have hr := br_letv hr hv2
  refine lv_istore_n (lv' := [(3, .int v2), (2, .int v1), (0, .ref (am 0)), (1, .int a1)]) hx hb dX9_isDone_13 rfl hl (by decide) rfl (fun ls hl => ?_)
  refine lv_iload_n hx hb dX9_isDone_14 rfl (lv_at hl 3 rfl) ?_
  have hi3 := br_ite hr
  by_cases c3 : a1 = 98
  · have hr := hi3.1 c3
    refine lv_lookup (tgt := 98) (off := 83) hx hb dX9_isDone_15 (by decide) (by rw [c3]; rfl) (by decide) ?_
    refine lv_iload_n hx hb dX9_isDone_98 rfl (lv_at hl 1 rfl) ?_
    refine lv_iconst (v := 4) hx hb dX9_isDone_99 rfl ?_
    have hi7 := br_ite hr
    refine lv_icmp_ge (tgt := 122) hx hb dX9_isDone_100 (by decide) (fun c7 => ?_) (fun c7 => ?_)
    · have hr := hi7.1 c7
      refine lv_iconst (v := 0) hx hb dX9_isDone_122 rfl ?_
      obtain rfl := Option.some.inj hr
      refine W.widen (k := rm_X9_isDone.cells) (n := rm_X9_isDone.slots) (Nat.le_of_ble_eq_true rfl) (Nat.le_of_ble_eq_true rfl) ?_
      exact W.zret (v := 0) (ty := .boolean) hx hb hrt rfl (fun t ht _ => hS.q ht rfl) hS.2.2.2.2 dX9_isDone_123 hlk
    · have hr := hi7.2 c7
      refine lv_iload_n hx hb dX9_isDone_103 rfl (lv_at hl 0 rfl) ?_
      obtain ⟨o8, ho8, hr⟩ := br_bind hr
      refine fwS (As := [.int v2]) (rest := []) hx hb hml hown hts (m_X9_isCell l v2 o8 ho8) (cw_X9_isCell hts q1301 ⟨Nat.le_of_ble_eq_true rfl, Nat.le_of_ble_eq_true rfl⟩) rfl hl.1 rfl (Nat.le_of_ble_eq_true rfl) dX9_isDone_104 ⟨Nat.le_of_ble_eq_true rfl, Nat.le_of_ble_eq_true rfl⟩ ?_
      have hi9 := br_ite hr
      refine lv_if_eq (tgt := 122) hx hb dX9_isDone_107 (by decide) (fun c9 => ?_) (fun c9 => ?_)
      · have hr := hi9.1 c9
        refine lv_iconst (v := 0) hx hb dX9_isDone_122 rfl ?_
        obtain rfl := Option.some.inj hr
        refine W.widen (k := rm_X9_isDone.cells) (n := rm_X9_isDone.slots) (Nat.le_of_ble_eq_true rfl) (Nat.le_of_ble_eq_true rfl) ?_
        exact W.zret (v := 0) (ty := .boolean) hx hb hrt rfl (fun t ht _ => hS.q ht rfl) hS.2.2.2.2 dX9_isDone_123 hlk
      · have hr := hi9.2 c9
        refine lv_aload_n hx hb dX9_isDone_110 rfl (lv_at hl 2 rfl) ?_
        refine va_get (D := D) (ci := 8) (v := .int (mG_left g)) (C := RX9) (T := TX9) (N := 26) hx hb hts in_X9 hown hG.1 hP 0 rfl rfl 0 (by decide) (hts _ q1180) (fun _ h9 => h9) rfl dX9_isDone_111 ?_
        refine lv_iload_n hx hb dX9_isDone_114 rfl (lv_at hl 1 rfl) ?_
        refine lv_iload_n hx hb dX9_isDone_115 rfl (lv_at hl 0 rfl) ?_
        obtain ⟨o10, ho10, hr⟩ := br_bind hr
        refine fwS (As := [.int (mG_left g), .int v1, .int v2]) (rest := []) hx hb hml hown hts (m_X9_canBite l (mG_left g) v1 v2 o10 ho10) (cw_X9_canBite hts q1304 ⟨Nat.le_of_ble_eq_true rfl, Nat.le_of_ble_eq_true rfl⟩) rfl hl.1 rfl (Nat.le_of_ble_eq_true rfl) dX9_isDone_116 ⟨Nat.le_of_ble_eq_true rfl, Nat.le_of_ble_eq_true rfl⟩ ?_
        have hi11 := br_ite hr
        refine lv_if_ne (tgt := 124) hx hb dX9_isDone_119 (by decide) (fun c11 => ?_) (fun c11 => ?_)
        · have hr := hi11.2 c11
          refine lv_aload_n hx hb dX9_isDone_124 rfl (lv_at hl 2 rfl) ?_
          refine lv_iload_n hx hb dX9_isDone_125 rfl (lv_at hl 1 rfl) ?_
          refine lv_iload_n hx hb dX9_isDone_126 rfl (lv_at hl 0 rfl) ?_
          obtain ⟨o12, ho12, hr⟩ := br_bind hr
          refine fwS (As := [.int v1, .int v2]) (rest := [.ref (am 0)]) hx hb hml hown hts (m_X9_bite l v1 v2 o12 ho12) (cw_X9_bite hts q1307 ⟨Nat.le_of_ble_eq_true rfl, Nat.le_of_ble_eq_true rfl⟩) rfl hl.1 rfl (Nat.le_of_ble_eq_true rfl) dX9_isDone_127 ⟨Nat.le_of_ble_eq_true rfl, Nat.le_of_ble_eq_true rfl⟩ ?_
          obtain ⟨o13, ho13, hr⟩ := br_bind hr
          refine fwWVs (As := [.int o12]) (rest := []) (C := RX9) hx hb hml hown hts (m_X9_bitesOff l D am ac g o12 _ o13 ho13) (cw_X9_bitesOff hts q1310 ⟨Nat.le_of_ble_eq_true rfl, Nat.le_of_ble_eq_true rfl⟩) hG hS hA rfl 0 8 rfl rfl rfl hl.1 rfl (Nat.le_of_ble_eq_true rfl) dX9_isDone_130 ⟨Nat.le_of_ble_eq_true rfl, Nat.le_of_ble_eq_true rfl⟩ (fun H locs hS => ?_)
          have hP := hS.1
          refine lv_iconst (v := 1) hx hb dX9_isDone_133 rfl ?_
          obtain rfl := Option.some.inj hr
          refine W.widen (k := rm_X9_isDone.cells) (n := rm_X9_isDone.slots) (Nat.le_of_ble_eq_true rfl) (Nat.le_of_ble_eq_true rfl) ?_
          exact W.zret (v := 1) (ty := .boolean) hx hb hrt rfl (fun t ht _ => hS.q ht rfl) hS.2.2.2.2 dX9_isDone_134 hlk
        · have hr := hi11.1 c11
          refine lv_iconst (v := 0) hx hb dX9_isDone_122 rfl ?_
          obtain rfl := Option.some.inj hr
          refine W.widen (k := rm_X9_isDone.cells) (n := rm_X9_isDone.slots) (Nat.le_of_ble_eq_true rfl) (Nat.le_of_ble_eq_true rfl) ?_
          exact W.zret (v := 0) (ty := .boolean) hx hb hrt rfl (fun t ht _ => hS.q ht rfl) hS.2.2.2.2 dX9_isDone_123 hlk
  have hr := hi3.2 c3
  have hi4 := br_ite hr
  by_cases c4 : a1 = 104
  · have hr := hi4.1 c4
    refine lv_lookup (tgt := 56) (off := 41) hx hb dX9_isDone_15 (by decide) (by rw [c4]; rfl) (by decide) ?_
    refine lv_aload_n hx hb dX9_isDone_56 rfl (lv_at hl 2 rfl) ?_
    refine va_get (D := D) (ci := 8) (v := .int (mG_many g)) (C := RX9) (T := TX9) (N := 26) hx hb hts in_X9 hown hG.1 hP 0 rfl rfl 2 (by decide) (hts _ q1182) (fun _ h9 => h9) rfl dX9_isDone_57 ?_
    refine lv_iconst (v := 5) hx hb dX9_isDone_60 rfl ?_
    have hi14 := br_ite hr
    refine lv_icmp_ne (tgt := 66) hx hb dX9_isDone_61 (by decide) (fun c14 => ?_) (fun c14 => ?_)
    · have hr := hi14.2 c14
      refine lv_aload_n hx hb dX9_isDone_66 rfl (lv_at hl 2 rfl) ?_
      refine va_get (D := D) (ci := 8) (v := .ref (am 1)) (C := RX9) (T := TX9) (N := 26) hx hb hts in_X9 hown hG.1 hP 0 rfl rfl 9 (by decide) (hts _ q1189) (fun _ h9 => h9) rfl dX9_isDone_67 ?_
      refine lv_aload_n hx hb dX9_isDone_70 rfl (lv_at hl 2 rfl) ?_
      refine va_get (D := D) (ci := 8) (v := .int (mG_many g)) (C := RX9) (T := TX9) (N := 26) hx hb hts in_X9 hown hG.1 hP 0 rfl rfl 2 (by decide) (hts _ q1182) (fun _ h9 => h9) rfl dX9_isDone_71 ?_
      refine lv_iload_n hx hb dX9_isDone_74 rfl (lv_at hl 1 rfl) ?_
      obtain ⟨c15, hr⟩ := br_none hr
      obtain ⟨g16, hg16, hr⟩ := br_let hr
      refine fw_iast hx hb hG hS 1 rfl c15 dX9_isDone_75 (wn := wM am ac g16) (by rw [hg16]; rfl) (fun H locs hS => ?_)
      have hP := hS.1
      refine lv_aload_n hx hb dX9_isDone_76 rfl (lv_at hl 2 rfl) ?_
      refine va_get (D := D) (ci := 8) (v := .ref (am 2)) (C := RX9) (T := TX9) (N := 26) hx hb hts in_X9 hown hG.1 hP 0 rfl rfl 10 (by decide) (hts _ q1190) (fun _ h9 => h9) rfl dX9_isDone_77 ?_
      refine lv_aload_n hx hb dX9_isDone_80 rfl (lv_at hl 2 rfl) ?_
      refine va_get (D := D) (ci := 8) (v := .int (mG_many g16)) (C := RX9) (T := TX9) (N := 26) hx hb hts in_X9 hown hG.1 hP 0 rfl rfl 2 (by decide) (hts _ q1182) (fun _ h9 => h9) rfl dX9_isDone_81 ?_
      refine lv_iload_n hx hb dX9_isDone_84 rfl (lv_at hl 0 rfl) ?_
      obtain ⟨c17, hr⟩ := br_none hr
      obtain ⟨g18, hg18, hr⟩ := br_let hr
      refine fw_iast hx hb hG hS 2 rfl c17 dX9_isDone_85 (wn := wM am ac g18) (by rw [hg18]; rfl) (fun H locs hS => ?_)
      have hP := hS.1
      refine lv_aload_n hx hb dX9_isDone_86 rfl (lv_at hl 2 rfl) ?_
      refine lv_dup hx hb dX9_isDone_87 rfl ?_
      refine va_get (D := D) (ci := 8) (v := .int (mG_many g18)) (C := RX9) (T := TX9) (N := 26) hx hb hts in_X9 hown hG.1 hP 0 rfl rfl 2 (by decide) (hts _ q1182) (fun _ h9 => h9) rfl dX9_isDone_88 ?_
      refine lv_iconst (v := 1) hx hb dX9_isDone_91 rfl ?_
      refine lv_iadd hx hb dX9_isDone_92 ?_
      obtain ⟨g19, hg19, hr⟩ := br_let hr
      refine fw_put (D := D) (ci := 8) (x := .int ((mG_many g18) + 1)) (C := RX9) (T := TX9) (N := 26) hx hb hts in_X9 tyX9 tyX9_ok nmX9 hown hG hS 0 rfl rfl 2 (by decide) (hts _ q1182) (fun _ h9 => h9) rfl (tyX9_ok 2 (by decide)) rfl rfl (Nat.le_of_ble_eq_true rfl) dX9_isDone_93 (wn := wM am ac g19) (by rw [hg19]; rfl) (fun H locs hS => ?_)
      have hP := hS.1
      refine lv_iconst (v := 1) hx hb dX9_isDone_96 rfl ?_
      obtain rfl := Option.some.inj hr
      refine W.widen (k := rm_X9_isDone.cells) (n := rm_X9_isDone.slots) (Nat.le_of_ble_eq_true rfl) (Nat.le_of_ble_eq_true rfl) ?_
      exact W.zret (v := 1) (ty := .boolean) hx hb hrt rfl (fun t ht _ => hS.q ht rfl) hS.2.2.2.2 dX9_isDone_97 hlk
    · have hr := hi14.1 c14
      refine lv_iconst (v := 0) hx hb dX9_isDone_64 rfl ?_
      obtain rfl := Option.some.inj hr
      refine W.widen (k := rm_X9_isDone.cells) (n := rm_X9_isDone.slots) (Nat.le_of_ble_eq_true rfl) (Nat.le_of_ble_eq_true rfl) ?_
      exact W.zret (v := 0) (ty := .boolean) hx hb hrt rfl (fun t ht _ => hS.q ht rfl) hS.2.2.2.2 dX9_isDone_65 hlk
  have hr := hi4.2 c4
  have hi5 := br_ite hr
  by_cases c5 : a1 = 108
  · have hr := hi5.1 c5
    refine lv_lookup (tgt := 135) (off := 120) hx hb dX9_isDone_15 (by decide) (by rw [c5]; rfl) (by decide) ?_
    refine lv_iload_n hx hb dX9_isDone_135 rfl (lv_at hl 1 rfl) ?_
    obtain ⟨o20, ho20, hr⟩ := br_bind hr
    refine fwS (As := [.int v1]) (rest := []) hx hb hml hown hts (m_X9_isCell l v1 o20 ho20) (cw_X9_isCell hts q1301 ⟨Nat.le_of_ble_eq_true rfl, Nat.le_of_ble_eq_true rfl⟩) rfl hl.1 rfl (Nat.le_of_ble_eq_true rfl) dX9_isDone_136 ⟨Nat.le_of_ble_eq_true rfl, Nat.le_of_ble_eq_true rfl⟩ ?_
    have hi21 := br_ite hr
    refine lv_if_ne (tgt := 144) hx hb dX9_isDone_139 (by decide) (fun c21 => ?_) (fun c21 => ?_)
    · have hr := hi21.2 c21
      refine lv_aload_n hx hb dX9_isDone_144 rfl (lv_at hl 2 rfl) ?_
      refine lv_dup hx hb dX9_isDone_145 rfl ?_
      refine va_get (D := D) (ci := 8) (v := .int (mG_left g)) (C := RX9) (T := TX9) (N := 26) hx hb hts in_X9 hown hG.1 hP 0 rfl rfl 0 (by decide) (hts _ q1180) (fun _ h9 => h9) rfl dX9_isDone_146 ?_
      refine lv_iconst (v := 1) hx hb dX9_isDone_149 rfl ?_
      refine lv_iload_n hx hb dX9_isDone_150 rfl (lv_at hl 1 rfl) ?_
      refine lv_ishl hx hb dX9_isDone_151 ?_
      refine lv_ior hx hb dX9_isDone_152 ?_
      obtain ⟨g22, hg22, hr⟩ := br_let hr
      refine fw_put (D := D) (ci := 8) (x := .int ((mG_left g) ||| ((1 : Int32) <<< (v1 &&& 31)))) (C := RX9) (T := TX9) (N := 26) hx hb hts in_X9 tyX9 tyX9_ok nmX9 hown hG hS 0 rfl rfl 0 (by decide) (hts _ q1180) (fun _ h9 => h9) rfl (tyX9_ok 0 (by decide)) rfl rfl (Nat.le_of_ble_eq_true rfl) dX9_isDone_153 (wn := wM am ac g22) (by rw [hg22]; rfl) (fun H locs hS => ?_)
      have hP := hS.1
      refine lv_iconst (v := 1) hx hb dX9_isDone_156 rfl ?_
      obtain rfl := Option.some.inj hr
      refine W.widen (k := rm_X9_isDone.cells) (n := rm_X9_isDone.slots) (Nat.le_of_ble_eq_true rfl) (Nat.le_of_ble_eq_true rfl) ?_
      exact W.zret (v := 1) (ty := .boolean) hx hb hrt rfl (fun t ht _ => hS.q ht rfl) hS.2.2.2.2 dX9_isDone_157 hlk
    · have hr := hi21.1 c21
      refine lv_iconst (v := 0) hx hb dX9_isDone_142 rfl ?_
      obtain rfl := Option.some.inj hr
      refine W.widen (k := rm_X9_isDone.cells) (n := rm_X9_isDone.slots) (Nat.le_of_ble_eq_true rfl) (Nat.le_of_ble_eq_true rfl) ?_
      exact W.zret (v := 0) (ty := .boolean) hx hb hrt rfl (fun t ht _ => hS.q ht rfl) hS.2.2.2.2 dX9_isDone_143 hlk
  have hr := hi5.2 c5
  have hi6 := br_ite hr
  by_cases c6 : a1 = 114
  · have hr := hi6.1 c6
    refine lv_lookup (tgt := 158) (off := 143) hx hb dX9_isDone_15 (by decide) (by rw [c6]; rfl) (by decide) ?_
    refine lv_iload_n hx hb dX9_isDone_158 rfl (lv_at hl 1 rfl) ?_
    refine lv_iconst (v := 1) hx hb dX9_isDone_159 rfl ?_
    refine lv_iconst (v := 3) hx hb dX9_isDone_160 rfl ?_
    obtain ⟨o23, ho23, hr⟩ := br_bind hr
    refine fwS (As := [.int v1, .int 1, .int 3]) (rest := []) hx hb hml hown hts (m_X9_isIn l v1 1 3 o23 ho23) (cw_X9_isIn hts q1290 ⟨Nat.le_of_ble_eq_true rfl, Nat.le_of_ble_eq_true rfl⟩) rfl hl.1 rfl (Nat.le_of_ble_eq_true rfl) dX9_isDone_161 ⟨Nat.le_of_ble_eq_true rfl, Nat.le_of_ble_eq_true rfl⟩ ?_
    have hi24 := br_ite hr
    refine lv_if_ne (tgt := 169) hx hb dX9_isDone_164 (by decide) (fun c24 => ?_) (fun c24 => ?_)
    · have hr := hi24.2 c24
      refine lv_aload_n hx hb dX9_isDone_169 rfl (lv_at hl 2 rfl) ?_
      refine lv_aload_n hx hb dX9_isDone_170 rfl (lv_at hl 2 rfl) ?_
      refine va_get (D := D) (ci := 8) (v := .int (mG_left g)) (C := RX9) (T := TX9) (N := 26) hx hb hts in_X9 hown hG.1 hP 0 rfl rfl 0 (by decide) (hts _ q1180) (fun _ h9 => h9) rfl dX9_isDone_171 ?_
      refine lv_iload_n hx hb dX9_isDone_174 rfl (lv_at hl 1 rfl) ?_
      obtain ⟨o25, ho25, hr⟩ := br_bind hr
      refine fwS (As := [.int (mG_left g), .int v1]) (rest := [.ref (am 0)]) hx hb hml hown hts (m_X9_turnedBy l (mG_left g) v1 o25 ho25) (cw_X9_turnedBy hts q1317 ⟨Nat.le_of_ble_eq_true rfl, Nat.le_of_ble_eq_true rfl⟩) rfl hl.1 rfl (Nat.le_of_ble_eq_true rfl) dX9_isDone_175 ⟨Nat.le_of_ble_eq_true rfl, Nat.le_of_ble_eq_true rfl⟩ ?_
      obtain ⟨g26, hg26, hr⟩ := br_let hr
      refine fw_put (D := D) (ci := 8) (x := .int o25) (C := RX9) (T := TX9) (N := 26) hx hb hts in_X9 tyX9 tyX9_ok nmX9 hown hG hS 0 rfl rfl 0 (by decide) (hts _ q1180) (fun _ h9 => h9) rfl (tyX9_ok 0 (by decide)) rfl rfl (Nat.le_of_ble_eq_true rfl) dX9_isDone_178 (wn := wM am ac g26) (by rw [hg26]; rfl) (fun H locs hS => ?_)
      have hP := hS.1
      refine lv_iconst (v := 1) hx hb dX9_isDone_181 rfl ?_
      obtain rfl := Option.some.inj hr
      refine W.widen (k := rm_X9_isDone.cells) (n := rm_X9_isDone.slots) (Nat.le_of_ble_eq_true rfl) (Nat.le_of_ble_eq_true rfl) ?_
      exact W.zret (v := 1) (ty := .boolean) hx hb hrt rfl (fun t ht _ => hS.q ht rfl) hS.2.2.2.2 dX9_isDone_182 hlk
    · have hr := hi24.1 c24
      refine lv_iconst (v := 0) hx hb dX9_isDone_167 rfl ?_
      obtain rfl := Option.some.inj hr
      refine W.widen (k := rm_X9_isDone.cells) (n := rm_X9_isDone.slots) (Nat.le_of_ble_eq_true rfl) (Nat.le_of_ble_eq_true rfl) ?_
      exact W.zret (v := 0) (ty := .boolean) hx hb hrt rfl (fun t ht _ => hS.q ht rfl) hS.2.2.2.2 dX9_isDone_168 hlk
  have hr := hi6.2 c6
  refine lv_lookup (tgt := 183) (off := 168) hx hb dX9_isDone_15 (by decide) ((lv_osw c3 rfl).trans ((lv_osw c4 rfl).trans ((lv_osw c5 rfl).trans ((lv_osw c6 rfl).trans (rfl))))) (by decide) ?_
  refine lv_aload_n hx hb dX9_isDone_183 rfl (lv_at hl 2 rfl) ?_
  obtain ⟨o27, ho27, hr⟩ := br_bind hr
  refine fwWVs (As := []) (rest := []) (C := RX9) hx hb hml hown hts (m_X9_allAgain l D am ac g _ o27 ho27) (cw_X9_allAgain hts q1323 ⟨Nat.le_of_ble_eq_true rfl, Nat.le_of_ble_eq_true rfl⟩) hG hS hA rfl 0 8 rfl rfl rfl hl.1 rfl (Nat.le_of_ble_eq_true rfl) dX9_isDone_184 ⟨Nat.le_of_ble_eq_true rfl, Nat.le_of_ble_eq_true rfl⟩ (fun H locs hS => ?_)
  have hP := hS.1
  refine lv_iconst (v := 1) hx hb dX9_isDone_187 rfl ?_
  obtain rfl := Option.some.inj hr
  refine W.widen (k := rm_X9_isDone.cells) (n := rm_X9_isDone.slots) (Nat.le_of_ble_eq_true rfl) (Nat.le_of_ble_eq_true rfl) ?_
  exact W.zret (v := 1) (ty := .boolean) hx hb hrt rfl (fun t ht _ => hS.q ht rfl) hS.2.2.2.2 dX9_isDone_188 hlk
theorem cw_X9_isDone {R : Room} {s : State} {args : Array Value} {own : String} {index : Nat} (hts : ∀ w ∈ lw_all, w.before args s = true) (hlink : Cond.methodLink own index yX9_isDone ∈ lw_all) (hR : rm_X9_isDone.frames + 1 ≤ R.frames ∧ 8 + (4 + 11) + rm_X9_isDone.locals ≤ R.locals) : CallW R s args own RX9 index yX9_isDone cX9_isDone 4 (some FieldType.boolean) (ws_ yX9_isDone cX9_isDone 4 (some FieldType.boolean)) rm_X9_isDone rm_X9_isDone.cells rm_X9_isDone.slots 1 :=
  cwV 1 hts (lw_V hlink q1299 qs81 q111 q1300) rfl rfl rfl (by decide +kernel) hR
def f_X9_laysBack_L26 : Nat → Int32 → MS → Option (MS)
  | 0, _, _ => none
  | n + 1, x1_4, g_4 => if 5 ≤ x1_4 then some g_4 else if x1_4 < 0 ∨ 5 ≤ Int32.toNatClampNeg x1_4 then none else if x1_4 < 0 ∨ 5 ≤ Int32.toNatClampNeg x1_4 then none else Option.bind (some (mS_kind g_4 (upd (mG_kind g_4) (Int32.toNatClampNeg x1_4) (mG_wasKind g_4 (Int32.toNatClampNeg x1_4))))) fun g8 => if x1_4 < 0 ∨ 5 ≤ Int32.toNatClampNeg x1_4 then none else if x1_4 < 0 ∨ 5 ≤ Int32.toNatClampNeg x1_4 then none else Option.bind (some (mS_figure g8 (upd (mG_figure g8) (Int32.toNatClampNeg x1_4) (mG_wasFigure g8 (Int32.toNatClampNeg x1_4))))) fun g11 => Option.bind (some ((x1_4 + 1) : Int32)) fun v12 => f_X9_laysBack_L26 n v12 g11
def f_X9_laysBack (g : MS) : Option (MS) := Option.bind (some (mS_left g (mG_wasLeft g))) fun g1 => Option.bind (some (mS_bites g1 (mG_wasBites g1))) fun g2 => Option.bind (some (mS_many g2 (mG_wasMany g2))) fun g3 => Option.bind (f_X9_laysBack_L26 1000 0 g3) fun o4 => some o4
abbrev rm_X9_laysBack : Room := ({ frames := 1, cells := 0, slots := 0, locals := 18 })
set_option maxHeartbeats 4000000 in
theorem m_X9_laysBack (l : Launch) (D : va_G) (am : Nat → Nat) (ac : Nat → ClassId) (g : MS) (sz : Nat) (r0 : MS) (hr : f_X9_laysBack g = some r0) : WM l yX9_laysBack cX9_laysBack 2 none rm_X9_laysBack [.ref (am 0)] D ac (wM am ac g) (wM am ac r0) sz none := by
  refine fw_of (by decide) (Nat.le_of_ble_eq_true rfl) ?_
  intro p e s m below meth c ls hx hb hrt hts hown hlk hml _ hU hl
  obtain ⟨rfl, hP, hG, hD⟩ := hU
  have hA : ∀ q : Nat, s.heap.size ≤ q → va_A (wM am ac g) s.heap.size q := fun q h => Or.inr h
  have hS := Stt.start hP hD
  show WW p l e rm_X9_laysBack s m [.ref (am 0)] below meth c D (wM am ac r0) (va_A (wM am ac g) s.heap.size) none s.heap [] 0 0 0 ls []
  have hl : lv_has ls 2 [(0, .ref (am 0))] := hl
  rw [f_X9_laysBack] at hr
  refine lv_aload_n hx hb dX9_laysBack_0 rfl (lv_at hl 0 rfl) ?_
  refine lv_aload_n hx hb dX9_laysBack_1 rfl (lv_at hl 0 rfl) ?_
  refine va_get (D := D) (ci := 8) (v := .int (mG_wasLeft g)) (C := RX9) (T := TX9) (N := 26) hx hb hts in_X9 hown hG.1 hP 0 rfl rfl 6 (by decide) (hts _ q1186) (fun _ h9 => h9) rfl dX9_laysBack_2 ?_
  obtain ⟨g1, hg1, hr⟩ := br_let hr
  refine fw_put (D := D) (ci := 8) (x := .int (mG_wasLeft g)) (C := RX9) (T := TX9) (N := 26) hx hb hts in_X9 tyX9 tyX9_ok nmX9 hown hG hS 0 rfl rfl 0 (by decide) (hts _ q1180) (fun _ h9 => h9) rfl (tyX9_ok 0 (by decide)) rfl rfl (Nat.le_of_ble_eq_true rfl) dX9_laysBack_5 (wn := wM am ac g1) (by rw [hg1]; rfl) (fun H locs hS => ?_)
  have hP := hS.1
  refine lv_aload_n hx hb dX9_laysBack_8 rfl (lv_at hl 0 rfl) ?_
  refine lv_aload_n hx hb dX9_laysBack_9 rfl (lv_at hl 0 rfl) ?_
  refine va_get (D := D) (ci := 8) (v := .int (mG_wasBites g1)) (C := RX9) (T := TX9) (N := 26) hx hb hts in_X9 hown hG.1 hP 0 rfl rfl 7 (by decide) (hts _ q1187) (fun _ h9 => h9) rfl dX9_laysBack_10 ?_
  obtain ⟨g2, hg2, hr⟩ := br_let hr
  refine fw_put (D := D) (ci := 8) (x := .int (mG_wasBites g1)) (C := RX9) (T := TX9) (N := 26) hx hb hts in_X9 tyX9 tyX9_ok nmX9 hown hG hS 0 rfl rfl 1 (by decide) (hts _ q1181) (fun _ h9 => h9) rfl (tyX9_ok 1 (by decide)) rfl rfl (Nat.le_of_ble_eq_true rfl) dX9_laysBack_13 (wn := wM am ac g2) (by rw [hg2]; rfl) (fun H locs hS => ?_)
  have hP := hS.1
  refine lv_aload_n hx hb dX9_laysBack_16 rfl (lv_at hl 0 rfl) ?_
  refine lv_aload_n hx hb dX9_laysBack_17 rfl (lv_at hl 0 rfl) ?_
  refine va_get (D := D) (ci := 8) (v := .int (mG_wasMany g2)) (C := RX9) (T := TX9) (N := 26) hx hb hts in_X9 hown hG.1 hP 0 rfl rfl 8 (by decide) (hts _ q1188) (fun _ h9 => h9) rfl dX9_laysBack_18 ?_
  obtain ⟨g3, hg3, hr⟩ := br_let hr
  refine fw_put (D := D) (ci := 8) (x := .int (mG_wasMany g2)) (C := RX9) (T := TX9) (N := 26) hx hb hts in_X9 tyX9 tyX9_ok nmX9 hown hG hS 0 rfl rfl 2 (by decide) (hts _ q1182) (fun _ h9 => h9) rfl (tyX9_ok 2 (by decide)) rfl rfl (Nat.le_of_ble_eq_true rfl) dX9_laysBack_21 (wn := wM am ac g3) (by rw [hg3]; rfl) (fun H locs hS => ?_)
  have hP := hS.1
  refine lv_iconst (v := 0) hx hb dX9_laysBack_24 rfl ?_
  refine lv_istore_n (lv' := [(1, .int 0), (0, .ref (am 0))]) hx hb dX9_laysBack_25 rfl hl (by decide) rfl (fun ls hl => ?_)
  have L4 : ∀ (n : Nat) (x1_4 : Int32) (g_4 : MS) (o4 : MS), f_X9_laysBack_L26 n x1_4 g_4 = some o4 → ∀ (H : Heap) (locs : List Loc) ls, lv_has ls 2 [(1, .int x1_4), (0, .ref (am 0))] → Stt D (va_A (wM am ac g) s.heap.size) s.heap (wM am ac g_4) H locs → (∀ (H : Heap) (locs : List Loc) ls, lv_has ls 2 [] → Stt D (va_A (wM am ac g) s.heap.size) s.heap (wM am ac o4) H locs → WW p l e rm_X9_laysBack s m [.ref (am 0)] below meth c D (wM am ac r0) (va_A (wM am ac g) s.heap.size) none H locs 0 0 61 ls []) → WW p l e rm_X9_laysBack s m [.ref (am 0)] below meth c D (wM am ac r0) (va_A (wM am ac g) s.heap.size) none H locs 0 0 26 ls [] := by
    intro n
    induction n with
    | zero => intro x1_4 g_4 o4 hr; rw [f_X9_laysBack_L26] at hr; cases hr
    | succ n ih =>
      intro x1_4 g_4 o4 hr H locs ls hl hS kx
      have hP := hS.1
      rw [f_X9_laysBack_L26] at hr
      refine lv_iload_n hx hb dX9_laysBack_26 rfl (lv_at hl 0 rfl) ?_
      refine lv_iconst (v := 5) hx hb dX9_laysBack_27 rfl ?_
      have hi5 := br_ite hr
      refine lv_icmp_ge (tgt := 61) hx hb dX9_laysBack_28 (by decide) (fun c5 => ?_) (fun c5 => ?_)
      · have hr := hi5.1 c5
        obtain rfl := Option.some.inj hr
        exact kx _ _ ls (lv_sub hl [] rfl) hS
      · have hr := hi5.2 c5
        refine lv_aload_n hx hb dX9_laysBack_31 rfl (lv_at hl 1 rfl) ?_
        refine va_get (D := D) (ci := 8) (v := .ref (am 1)) (C := RX9) (T := TX9) (N := 26) hx hb hts in_X9 hown hG.1 hP 0 rfl rfl 9 (by decide) (hts _ q1189) (fun _ h9 => h9) rfl dX9_laysBack_32 ?_
        refine lv_iload_n hx hb dX9_laysBack_35 rfl (lv_at hl 0 rfl) ?_
        refine lv_aload_n hx hb dX9_laysBack_36 rfl (lv_at hl 1 rfl) ?_
        refine va_get (D := D) (ci := 8) (v := .ref (am 5)) (C := RX9) (T := TX9) (N := 26) hx hb hts in_X9 hown hG.1 hP 0 rfl rfl 13 (by decide) (hts _ q1193) (fun _ h9 => h9) rfl dX9_laysBack_37 ?_
        refine lv_iload_n hx hb dX9_laysBack_40 rfl (lv_at hl 0 rfl) ?_
        obtain ⟨c6, hr⟩ := br_none hr
        refine va_iald hx hb hG.1 hP 5 0 rfl rfl c6 dX9_laysBack_41 ?_
        obtain ⟨c7, hr⟩ := br_none hr
        obtain ⟨g8, hg8, hr⟩ := br_let hr
        refine fw_iast hx hb hG hS 1 rfl c7 dX9_laysBack_42 (wn := wM am ac g8) (by rw [hg8]; rfl) (fun H locs hS => ?_)
        have hP := hS.1
        refine lv_aload_n hx hb dX9_laysBack_43 rfl (lv_at hl 1 rfl) ?_
        refine va_get (D := D) (ci := 8) (v := .ref (am 2)) (C := RX9) (T := TX9) (N := 26) hx hb hts in_X9 hown hG.1 hP 0 rfl rfl 10 (by decide) (hts _ q1190) (fun _ h9 => h9) rfl dX9_laysBack_44 ?_
        refine lv_iload_n hx hb dX9_laysBack_47 rfl (lv_at hl 0 rfl) ?_
        refine lv_aload_n hx hb dX9_laysBack_48 rfl (lv_at hl 1 rfl) ?_
        refine va_get (D := D) (ci := 8) (v := .ref (am 6)) (C := RX9) (T := TX9) (N := 26) hx hb hts in_X9 hown hG.1 hP 0 rfl rfl 14 (by decide) (hts _ q1194) (fun _ h9 => h9) rfl dX9_laysBack_49 ?_
        refine lv_iload_n hx hb dX9_laysBack_52 rfl (lv_at hl 0 rfl) ?_
        obtain ⟨c9, hr⟩ := br_none hr
        refine va_iald hx hb hG.1 hP 6 0 rfl rfl c9 dX9_laysBack_53 ?_
        obtain ⟨c10, hr⟩ := br_none hr
        obtain ⟨g11, hg11, hr⟩ := br_let hr
        refine fw_iast hx hb hG hS 2 rfl c10 dX9_laysBack_54 (wn := wM am ac g11) (by rw [hg11]; rfl) (fun H locs hS => ?_)
        have hP := hS.1
        obtain ⟨v12, hv12, hr⟩ := br_let hr
        refine lv_iinc (v := v12) (lv' := [(1, .int v12), (0, .ref (am 0))]) hx hb dX9_laysBack_55 hl (k := 0) rfl (hv12 ▸ rfl) (by decide) rfl (fun ls hl => ?_)
        refine lv_goto (tgt := 26) hx hb dX9_laysBack_58 (by decide) ?_
        exact ih v12 g11 _ hr _ _ ls (lv_sub hl [0, 1] rfl) hS kx
  obtain ⟨o4, ho4, hr⟩ := br_bind hr
  refine L4 1000 0 g3 o4 ho4 _ _ ls (lv_sub hl [0, 1] rfl) hS (fun H locs ls hl hS => ?_)
  have hP := hS.1
  obtain rfl := Option.some.inj hr
  refine W.widen (k := rm_X9_laysBack.cells) (n := rm_X9_laysBack.slots) (Nat.le_of_ble_eq_true rfl) (Nat.le_of_ble_eq_true rfl) ?_
  exact W.vret hx hb hrt (fun t ht _ => hS.q ht rfl) hS.2.2.2.2 dX9_laysBack_61 hlk
theorem cw_X9_laysBack {R : Room} {s : State} {args : Array Value} {own : String} {index : Nat} (hts : ∀ w ∈ lw_all, w.before args s = true) (hlink : Cond.methodLink own index yX9_laysBack ∈ lw_all) (hR : rm_X9_laysBack.frames + 1 ≤ R.frames ∧ 8 + (2 + 11) + rm_X9_laysBack.locals ≤ R.locals) : CallW R s args own RX9 index yX9_laysBack cX9_laysBack 2 none (ws_ yX9_laysBack cX9_laysBack 2 none) rm_X9_laysBack rm_X9_laysBack.cells rm_X9_laysBack.slots 0 :=
  cwV 0 hts (lw_V hlink q1329 qs84 q111 q1330) rfl rfl rfl (by decide +kernel) hR
def f_X9_core_L10 : Nat → Int32 → Int32 → MS → Option (Int32 × Int32 × MS)
  | 0, _, _, _ => none
  | n + 1, x2_2, x1_2, g_2 => Option.bind (f_X9_readsStatement g_2) fun o3 => Option.bind (α := Int32) (if o3.1 = 0 then Option.bind (some (((-1000 : Int32) - (mG_place o3.2)) : Int32)) fun v6 => some v6 else some x2_2) fun o5 => Option.bind (some ((x1_2 + 1) : Int32)) fun v7 => if o5 = (-9) then if (mG_place o3.2) < (mG_letterMany o3.2) then f_X9_core_L10 n o5 v7 o3.2 else some (o5, v7, o3.2) else some (o5, v7, o3.2)
def f_X9_core_L55 : Nat → Int32 → MS → Option (Int32 × MS)
  | 0, _, _ => none
  | n + 1, x2_12, g_12 => if x2_12 = (-9) then if (mG_letterMany g_12) ≤ (mG_place g_12) then some (x2_12, g_12) else Option.bind (some ((mG_place g_12) : Int32)) fun v15 => Option.bind (f_X9_here g_12) fun o16 => Option.bind (f_X9_readsStatement g_12) fun o17 => Option.bind (f_X9_isDone o17.2 o16) fun o18 => if o18.1 = 0 then Option.bind (some (((-2000 : Int32) - v15) : Int32)) fun v20 => Option.bind (f_X9_laysBack o18.2) fun o21 => f_X9_core_L55 n v20 o21 else f_X9_core_L55 n x2_12 o18.2 else some (x2_12, g_12)
def f_X9_core (g : MS) : Option (Int32 × MS) := Option.bind (some (mS_place g (0 : Int32))) fun g1 => Option.bind (f_X9_core_L10 1000 (-9) 0 g1) fun o2 => Option.bind (f_X9_lays o2.2.2) fun o10 => Option.bind (some (mS_place o10 (0 : Int32))) fun g11 => Option.bind (f_X9_core_L55 1000 o2.1 g11) fun o12 => Option.bind (some (mS_letterMany o12.2 (0 : Int32))) fun g22 => if o12.1 = (-9) then some (o2.2.1, g22) else some (o12.1, g22)
abbrev rm_X9_core : Room := ({ frames := 4, cells := 0, slots := 0, locals := 90 })
set_option maxHeartbeats 4000000 in
theorem m_X9_core (l : Launch) (D : va_G) (am : Nat → Nat) (ac : Nat → ClassId) (g : MS) (sz : Nat) (r0 : Int32 × MS) (hr : f_X9_core g = some r0) : WM l yX9_core cX9_core 6 (some FieldType.int) rm_X9_core [.ref (am 0)] D ac (wM am ac g) (wM am ac r0.2) sz (some (.int r0.1)) := by
  refine fw_of (by decide) (Nat.le_of_ble_eq_true rfl) ?_
  intro p e s m below meth c ls hx hb hrt hts hown hlk hml _ hU hl
  obtain ⟨rfl, hP, hG, hD⟩ := hU
  have hA : ∀ q : Nat, s.heap.size ≤ q → va_A (wM am ac g) s.heap.size q := fun q h => Or.inr h
  have hS := Stt.start hP hD
  show WW p l e rm_X9_core s m [.ref (am 0)] below meth c D (wM am ac r0.2) (va_A (wM am ac g) s.heap.size) (some (.int r0.1)) s.heap [] 0 0 0 ls []
  have hl : lv_has ls 6 [(0, .ref (am 0))] := hl
  rw [f_X9_core] at hr
  refine lv_aload_n hx hb dX9_core_0 rfl (lv_at hl 0 rfl) ?_
  refine lv_iconst (v := 0) hx hb dX9_core_1 rfl ?_
  obtain ⟨g1, hg1, hr⟩ := br_let hr
  refine fw_put (D := D) (ci := 8) (x := .int 0) (C := RX9) (T := TX9) (N := 26) hx hb hts in_X9 tyX9 tyX9_ok nmX9 hown hG hS 0 rfl rfl 21 (by decide) (hts _ q1201) (fun _ h9 => h9) rfl (tyX9_ok 21 (by decide)) rfl rfl (Nat.le_of_ble_eq_true rfl) dX9_core_2 (wn := wM am ac g1) (by rw [hg1]; rfl) (fun H locs hS => ?_)
  have hP := hS.1
  refine lv_iconst (v := 0) hx hb dX9_core_5 rfl ?_
  refine lv_istore_n (lv' := [(1, .int 0), (0, .ref (am 0))]) hx hb dX9_core_6 rfl hl (by decide) rfl (fun ls hl => ?_)
  refine lv_bipush (v := (-9)) hx hb dX9_core_7 rfl ?_
  refine lv_istore_n (lv' := [(2, .int (-9)), (1, .int 0), (0, .ref (am 0))]) hx hb dX9_core_9 rfl hl (by decide) rfl (fun ls hl => ?_)
  have L2 : ∀ (n : Nat) (x2_2 : Int32) (x1_2 : Int32) (g_2 : MS) (o2 : Int32 × Int32 × MS), f_X9_core_L10 n x2_2 x1_2 g_2 = some o2 → ∀ (H : Heap) (locs : List Loc) ls, lv_has ls 6 [(2, .int x2_2), (1, .int x1_2), (0, .ref (am 0))] → Stt D (va_A (wM am ac g) s.heap.size) s.heap (wM am ac g_2) H locs → (∀ (H : Heap) (locs : List Loc) ls, lv_has ls 6 [(2, .int o2.1), (1, .int o2.2.1), (0, .ref (am 0))] → Stt D (va_A (wM am ac g) s.heap.size) s.heap (wM am ac o2.2.2) H locs → WW p l e rm_X9_core s m [.ref (am 0)] below meth c D (wM am ac r0.2) (va_A (wM am ac g) s.heap.size) (some (.int r0.1)) H locs 0 0 46 ls []) → WW p l e rm_X9_core s m [.ref (am 0)] below meth c D (wM am ac r0.2) (va_A (wM am ac g) s.heap.size) (some (.int r0.1)) H locs 0 0 10 ls [] := by
    intro n
    induction n with
    | zero => intro x2_2 x1_2 g_2 o2 hr; rw [f_X9_core_L10] at hr; cases hr
    | succ n ih =>
      intro x2_2 x1_2 g_2 o2 hr H locs ls hl hS kx
      have hP := hS.1
      rw [f_X9_core_L10] at hr
      refine lv_aload_n hx hb dX9_core_10 rfl (lv_at hl 2 rfl) ?_
      obtain ⟨o3, ho3, hr⟩ := br_bind hr
      refine fwWVs (As := []) (rest := []) (C := RX9) hx hb hml hown hts (m_X9_readsStatement l D am ac g_2 _ o3 ho3) (cw_X9_readsStatement hts q1271 ⟨Nat.le_of_ble_eq_true rfl, Nat.le_of_ble_eq_true rfl⟩) hG hS hA rfl 0 8 rfl rfl rfl hl.1 rfl (Nat.le_of_ble_eq_true rfl) dX9_core_11 ⟨Nat.le_of_ble_eq_true rfl, Nat.le_of_ble_eq_true rfl⟩ (fun H locs hS => ?_)
      have hP := hS.1
      obtain ⟨o5, ho5, hr⟩ := br_bind hr
      have J5 : ∀ (H : Heap) (locs : List Loc) ls, lv_has ls 6 [(2, .int o5), (1, .int x1_2), (0, .ref (am 0))] → Stt D (va_A (wM am ac g) s.heap.size) s.heap (wM am ac o3.2) H locs → WW p l e rm_X9_core s m [.ref (am 0)] below meth c D (wM am ac r0.2) (va_A (wM am ac g) s.heap.size) (some (.int r0.1)) H locs 0 0 26 ls [] := by
        intro H locs ls hl hS
        have hP := hS.1
        obtain ⟨v7, hv7, hr⟩ := br_let hr
        refine lv_iinc (v := v7) (lv' := [(1, .int v7), (2, .int o5), (0, .ref (am 0))]) hx hb dX9_core_26 hl (k := 1) rfl (hv7 ▸ rfl) (by decide) rfl (fun ls hl => ?_)
        refine lv_iload_n hx hb dX9_core_29 rfl (lv_at hl 1 rfl) ?_
        refine lv_bipush (v := (-9)) hx hb dX9_core_30 rfl ?_
        have hi8 := br_ite hr
        refine lv_icmp_ne (tgt := 46) hx hb dX9_core_32 (by decide) (fun c8 => ?_) (fun c8 => ?_)
        · have hr := hi8.2 c8
          obtain rfl := Option.some.inj hr
          exact kx _ _ ls (lv_sub hl [1, 0, 2] rfl) hS
        · have hr := hi8.1 c8
          refine lv_aload_n hx hb dX9_core_35 rfl (lv_at hl 2 rfl) ?_
          refine va_get (D := D) (ci := 8) (v := .int (mG_place o3.2)) (C := RX9) (T := TX9) (N := 26) hx hb hts in_X9 hown hG.1 hP 0 rfl rfl 21 (by decide) (hts _ q1201) (fun _ h9 => h9) rfl dX9_core_36 ?_
          refine lv_aload_n hx hb dX9_core_39 rfl (lv_at hl 2 rfl) ?_
          refine va_get (D := D) (ci := 8) (v := .int (mG_letterMany o3.2)) (C := RX9) (T := TX9) (N := 26) hx hb hts in_X9 hown hG.1 hP 0 rfl rfl 19 (by decide) (hts _ q1199) (fun _ h9 => h9) rfl dX9_core_40 ?_
          have hi9 := br_ite hr
          refine lv_icmp_lt (tgt := 10) hx hb dX9_core_43 (by decide) (fun c9 => ?_) (fun c9 => ?_)
          · have hr := hi9.1 c9
            exact ih o5 v7 o3.2 _ hr _ _ ls (lv_sub hl [1, 0, 2] rfl) hS kx
          · have hr := hi9.2 c9
            obtain rfl := Option.some.inj hr
            exact kx _ _ ls (lv_sub hl [1, 0, 2] rfl) hS
      have hr := ho5
      have hi4 := br_ite hr
      refine lv_if_ne (tgt := 26) hx hb dX9_core_14 (by decide) (fun c4 => ?_) (fun c4 => ?_)
      · have hr := hi4.2 c4
        obtain rfl := Option.some.inj hr
        exact J5 _ _ ls (lv_sub hl [0, 1, 2] rfl) hS
      · have hr := hi4.1 c4
        refine lv_sipush (v := (-1000)) hx hb dX9_core_17 rfl ?_
        refine lv_aload_n hx hb dX9_core_20 rfl (lv_at hl 2 rfl) ?_
        refine va_get (D := D) (ci := 8) (v := .int (mG_place o3.2)) (C := RX9) (T := TX9) (N := 26) hx hb hts in_X9 hown hG.1 hP 0 rfl rfl 21 (by decide) (hts _ q1201) (fun _ h9 => h9) rfl dX9_core_21 ?_
        refine lv_isub hx hb dX9_core_24 ?_
        refine lv_topi (fun v6 hv6 => ?_)
        have hr := br_letv hr hv6
        refine lv_istore_n (lv' := [(2, .int v6), (1, .int x1_2), (0, .ref (am 0))]) hx hb dX9_core_25 rfl hl (by decide) rfl (fun ls hl => ?_)
        obtain rfl := Option.some.inj hr
        exact J5 _ _ ls (lv_sub hl [0, 1, 2] rfl) hS
  obtain ⟨o2, ho2, hr⟩ := br_bind hr
  refine L2 1000 (-9) 0 g1 o2 ho2 _ _ ls (lv_sub hl [0, 1, 2] rfl) hS (fun H locs ls hl hS => ?_)
  have hP := hS.1
  refine lv_aload_n hx hb dX9_core_46 rfl (lv_at hl 2 rfl) ?_
  obtain ⟨o10, ho10, hr⟩ := br_bind hr
  refine fwWVs (As := []) (rest := []) (C := RX9) hx hb hml hown hts (m_X9_lays l D am ac o2.2.2 _ o10 ho10) (cw_X9_lays hts q1293 ⟨Nat.le_of_ble_eq_true rfl, Nat.le_of_ble_eq_true rfl⟩) hG hS hA rfl 0 8 rfl rfl rfl hl.1 rfl (Nat.le_of_ble_eq_true rfl) dX9_core_47 ⟨Nat.le_of_ble_eq_true rfl, Nat.le_of_ble_eq_true rfl⟩ (fun H locs hS => ?_)
  have hP := hS.1
  refine lv_aload_n hx hb dX9_core_50 rfl (lv_at hl 2 rfl) ?_
  refine lv_iconst (v := 0) hx hb dX9_core_51 rfl ?_
  obtain ⟨g11, hg11, hr⟩ := br_let hr
  refine fw_put (D := D) (ci := 8) (x := .int 0) (C := RX9) (T := TX9) (N := 26) hx hb hts in_X9 tyX9 tyX9_ok nmX9 hown hG hS 0 rfl rfl 21 (by decide) (hts _ q1201) (fun _ h9 => h9) rfl (tyX9_ok 21 (by decide)) rfl rfl (Nat.le_of_ble_eq_true rfl) dX9_core_52 (wn := wM am ac g11) (by rw [hg11]; rfl) (fun H locs hS => ?_)
  have hP := hS.1
  have L12 : ∀ (n : Nat) (x2_12 : Int32) (g_12 : MS) (o12 : Int32 × MS), f_X9_core_L55 n x2_12 g_12 = some o12 → ∀ (H : Heap) (locs : List Loc) ls, lv_has ls 6 [(2, .int x2_12), (1, .int o2.2.1), (0, .ref (am 0))] → Stt D (va_A (wM am ac g) s.heap.size) s.heap (wM am ac g_12) H locs → (∀ (H : Heap) (locs : List Loc) ls, lv_has ls 6 [(2, .int o12.1), (1, .int o2.2.1), (0, .ref (am 0))] → Stt D (va_A (wM am ac g) s.heap.size) s.heap (wM am ac o12.2) H locs → WW p l e rm_X9_core s m [.ref (am 0)] below meth c D (wM am ac r0.2) (va_A (wM am ac g) s.heap.size) (some (.int r0.1)) H locs 0 0 114 ls []) → WW p l e rm_X9_core s m [.ref (am 0)] below meth c D (wM am ac r0.2) (va_A (wM am ac g) s.heap.size) (some (.int r0.1)) H locs 0 0 55 ls [] := by
    intro n
    induction n with
    | zero => intro x2_12 g_12 o12 hr; rw [f_X9_core_L55] at hr; cases hr
    | succ n ih =>
      intro x2_12 g_12 o12 hr H locs ls hl hS kx
      have hP := hS.1
      rw [f_X9_core_L55] at hr
      refine lv_iload_n hx hb dX9_core_55 rfl (lv_at hl 0 rfl) ?_
      refine lv_bipush (v := (-9)) hx hb dX9_core_56 rfl ?_
      have hi13 := br_ite hr
      refine lv_icmp_ne (tgt := 114) hx hb dX9_core_58 (by decide) (fun c13 => ?_) (fun c13 => ?_)
      · have hr := hi13.2 c13
        obtain rfl := Option.some.inj hr
        exact kx _ _ ls (lv_sub hl [0, 1, 2] rfl) hS
      · have hr := hi13.1 c13
        refine lv_aload_n hx hb dX9_core_61 rfl (lv_at hl 2 rfl) ?_
        refine va_get (D := D) (ci := 8) (v := .int (mG_place g_12)) (C := RX9) (T := TX9) (N := 26) hx hb hts in_X9 hown hG.1 hP 0 rfl rfl 21 (by decide) (hts _ q1201) (fun _ h9 => h9) rfl dX9_core_62 ?_
        refine lv_aload_n hx hb dX9_core_65 rfl (lv_at hl 2 rfl) ?_
        refine va_get (D := D) (ci := 8) (v := .int (mG_letterMany g_12)) (C := RX9) (T := TX9) (N := 26) hx hb hts in_X9 hown hG.1 hP 0 rfl rfl 19 (by decide) (hts _ q1199) (fun _ h9 => h9) rfl dX9_core_66 ?_
        have hi14 := br_ite hr
        refine lv_icmp_ge (tgt := 114) hx hb dX9_core_69 (by decide) (fun c14 => ?_) (fun c14 => ?_)
        · have hr := hi14.1 c14
          obtain rfl := Option.some.inj hr
          exact kx _ _ ls (lv_sub hl [0, 1, 2] rfl) hS
        · have hr := hi14.2 c14
          refine lv_aload_n hx hb dX9_core_72 rfl (lv_at hl 2 rfl) ?_
          refine va_get (D := D) (ci := 8) (v := .int (mG_place g_12)) (C := RX9) (T := TX9) (N := 26) hx hb hts in_X9 hown hG.1 hP 0 rfl rfl 21 (by decide) (hts _ q1201) (fun _ h9 => h9) rfl dX9_core_73 ?_
          refine lv_topi (fun v15 hv15 => ?_)
          have hr := br_letv hr hv15
          refine lv_istore_n (lv' := [(3, .int v15), (2, .int x2_12), (1, .int o2.2.1), (0, .ref (am 0))]) hx hb dX9_core_76 rfl hl (by decide) rfl (fun ls hl => ?_)
          refine lv_aload_n hx hb dX9_core_77 rfl (lv_at hl 3 rfl) ?_
          obtain ⟨o16, ho16, hr⟩ := br_bind hr
          refine fwRV (As := []) (rest := []) (C := RX9) hx hb hml hown hts (m_X9_here l D am ac g_12  o16 ho16) (cw_X9_here hts q1275 ⟨Nat.le_of_ble_eq_true rfl, Nat.le_of_ble_eq_true rfl⟩) hG hP hP 0 8 rfl rfl rfl hl.1 rfl (Nat.le_of_ble_eq_true rfl) dX9_core_78 ⟨Nat.le_of_ble_eq_true rfl, Nat.le_of_ble_eq_true rfl⟩ ?_
          refine lv_istore (lv' := [(4, .int o16), (3, .int v15), (2, .int x2_12), (1, .int o2.2.1), (0, .ref (am 0))]) hx hb dX9_core_81 hl (by decide) rfl (fun ls hl => ?_)
          refine lv_aload_n hx hb dX9_core_83 rfl (lv_at hl 4 rfl) ?_
          obtain ⟨o17, ho17, hr⟩ := br_bind hr
          refine fwWVs (As := []) (rest := []) (C := RX9) hx hb hml hown hts (m_X9_readsStatement l D am ac g_12 _ o17 ho17) (cw_X9_readsStatement hts q1271 ⟨Nat.le_of_ble_eq_true rfl, Nat.le_of_ble_eq_true rfl⟩) hG hS hA rfl 0 8 rfl rfl rfl hl.1 rfl (Nat.le_of_ble_eq_true rfl) dX9_core_84 ⟨Nat.le_of_ble_eq_true rfl, Nat.le_of_ble_eq_true rfl⟩ (fun H locs hS => ?_)
          have hP := hS.1
          refine lv_istore (lv' := [(5, .int o17.1), (4, .int o16), (3, .int v15), (2, .int x2_12), (1, .int o2.2.1), (0, .ref (am 0))]) hx hb dX9_core_87 hl (by decide) rfl (fun ls hl => ?_)
          refine lv_aload_n hx hb dX9_core_89 rfl (lv_at hl 5 rfl) ?_
          refine lv_iload hx hb dX9_core_90 (lv_at hl 1 rfl) ?_
          obtain ⟨o18, ho18, hr⟩ := br_bind hr
          refine fwWVs (As := [.int o16]) (rest := []) (C := RX9) hx hb hml hown hts (m_X9_isDone l D am ac o17.2 o16 _ o18 ho18) (cw_X9_isDone hts q1297 ⟨Nat.le_of_ble_eq_true rfl, Nat.le_of_ble_eq_true rfl⟩) hG hS hA rfl 0 8 rfl rfl rfl hl.1 rfl (Nat.le_of_ble_eq_true rfl) dX9_core_92 ⟨Nat.le_of_ble_eq_true rfl, Nat.le_of_ble_eq_true rfl⟩ (fun H locs hS => ?_)
          have hP := hS.1
          have hi19 := br_ite hr
          refine lv_if_eq (tgt := 101) hx hb dX9_core_95 (by decide) (fun c19 => ?_) (fun c19 => ?_)
          · have hr := hi19.1 c19
            refine lv_sipush (v := (-2000)) hx hb dX9_core_101 rfl ?_
            refine lv_iload_n hx hb dX9_core_104 rfl (lv_at hl 2 rfl) ?_
            refine lv_isub hx hb dX9_core_105 ?_
            refine lv_topi (fun v20 hv20 => ?_)
            have hr := br_letv hr hv20
            refine lv_istore_n (lv' := [(2, .int v20), (5, .int o17.1), (4, .int o16), (3, .int v15), (1, .int o2.2.1), (0, .ref (am 0))]) hx hb dX9_core_106 rfl hl (by decide) rfl (fun ls hl => ?_)
            refine lv_aload_n hx hb dX9_core_107 rfl (lv_at hl 5 rfl) ?_
            obtain ⟨o21, ho21, hr⟩ := br_bind hr
            refine fwWVs (As := []) (rest := []) (C := RX9) hx hb hml hown hts (m_X9_laysBack l D am ac o18.2 _ o21 ho21) (cw_X9_laysBack hts q1327 ⟨Nat.le_of_ble_eq_true rfl, Nat.le_of_ble_eq_true rfl⟩) hG hS hA rfl 0 8 rfl rfl rfl hl.1 rfl (Nat.le_of_ble_eq_true rfl) dX9_core_108 ⟨Nat.le_of_ble_eq_true rfl, Nat.le_of_ble_eq_true rfl⟩ (fun H locs hS => ?_)
            have hP := hS.1
            refine lv_goto (tgt := 55) hx hb dX9_core_111 (by decide) ?_
            exact ih v20 o21 _ hr _ _ ls (lv_sub hl [0, 4, 5] rfl) hS kx
          · have hr := hi19.2 c19
            refine lv_goto (tgt := 55) hx hb dX9_core_98 (by decide) ?_
            exact ih x2_12 o18.2 _ hr _ _ ls (lv_sub hl [3, 4, 5] rfl) hS kx
  obtain ⟨o12, ho12, hr⟩ := br_bind hr
  refine L12 1000 o2.1 g11 o12 ho12 _ _ ls (lv_sub hl [0, 1, 2] rfl) hS (fun H locs ls hl hS => ?_)
  have hP := hS.1
  refine lv_aload_n hx hb dX9_core_114 rfl (lv_at hl 2 rfl) ?_
  refine lv_iconst (v := 0) hx hb dX9_core_115 rfl ?_
  obtain ⟨g22, hg22, hr⟩ := br_let hr
  refine fw_put (D := D) (ci := 8) (x := .int 0) (C := RX9) (T := TX9) (N := 26) hx hb hts in_X9 tyX9 tyX9_ok nmX9 hown hG hS 0 rfl rfl 19 (by decide) (hts _ q1199) (fun _ h9 => h9) rfl (tyX9_ok 19 (by decide)) rfl rfl (Nat.le_of_ble_eq_true rfl) dX9_core_116 (wn := wM am ac g22) (by rw [hg22]; rfl) (fun H locs hS => ?_)
  have hP := hS.1
  refine lv_iload_n hx hb dX9_core_119 rfl (lv_at hl 0 rfl) ?_
  refine lv_bipush (v := (-9)) hx hb dX9_core_120 rfl ?_
  have hi23 := br_ite hr
  refine lv_icmp_ne (tgt := 129) hx hb dX9_core_122 (by decide) (fun c23 => ?_) (fun c23 => ?_)
  · have hr := hi23.2 c23
    refine lv_iload_n hx hb dX9_core_129 rfl (lv_at hl 0 rfl) ?_
    obtain rfl := Option.some.inj hr
    refine W.widen (k := rm_X9_core.cells) (n := rm_X9_core.slots) (Nat.le_of_ble_eq_true rfl) (Nat.le_of_ble_eq_true rfl) ?_
    exact W.iret hx hb hrt (fun t ht _ => hS.q ht rfl) hS.2.2.2.2 dX9_core_130 hlk
  · have hr := hi23.1 c23
    refine lv_iload_n hx hb dX9_core_125 rfl (lv_at hl 1 rfl) ?_
    refine lv_goto (tgt := 130) hx hb dX9_core_126 (by decide) ?_
    obtain rfl := Option.some.inj hr
    refine W.widen (k := rm_X9_core.cells) (n := rm_X9_core.slots) (Nat.le_of_ble_eq_true rfl) (Nat.le_of_ble_eq_true rfl) ?_
    exact W.iret hx hb hrt (fun t ht _ => hS.q ht rfl) hS.2.2.2.2 dX9_core_130 hlk
theorem cw_X9_core {R : Room} {s : State} {args : Array Value} {own : String} {index : Nat} (hts : ∀ w ∈ lw_all, w.before args s = true) (hlink : Cond.methodLink own index yX9_core ∈ lw_all) (hR : rm_X9_core.frames + 1 ≤ R.frames ∧ 8 + (6 + 11) + rm_X9_core.locals ≤ R.locals) : CallW R s args own RX9 index yX9_core cX9_core 6 (some FieldType.int) (ws_ yX9_core cX9_core 6 (some FieldType.int)) rm_X9_core rm_X9_core.cells rm_X9_core.slots 0 :=
  cwV 0 hts (lw_V hlink q1268 q1269 q111 q1270) rfl rfl rfl (by decide +kernel) hR
def f_X9_cell (g : MS) (a1 : Int32) (a2 : Int32) : Option (Int32 × MS) := Option.bind (f_X9_isCell a1) fun o1 => if o1 = 0 then Option.bind (f_X9_no g (-1 : Int32)) fun o11 => some (o11.1, o11.2) else if a2 = 0 then some ((((mG_left g) >>> (a1 &&& 31)) &&& 1), g) else if a2 = 1 then Option.bind (f_X9_besideOf ((1 : Int32) <<< (a1 &&& 31))) fun o6 => Option.bind (f_X9_bits (o6 &&& (mG_left g))) fun o7 => some (o7, g) else if a2 = 2 then Option.bind (f_X9_heapOf (mG_left g) a1) fun o8 => Option.bind (f_X9_bits o8) fun o9 => some (o9, g) else Option.bind (f_X9_no g (-2 : Int32)) fun o10 => some (o10.1, o10.2)
abbrev rm_X9_cell : Room := ({ frames := 3, cells := 0, slots := 0, locals := 64 })
set_option maxHeartbeats 4000000 in
theorem m_X9_cell (l : Launch) (D : va_G) (am : Nat → Nat) (ac : Nat → ClassId) (g : MS) (a1 : Int32) (a2 : Int32) (sz : Nat) (r0 : Int32 × MS) (hr : f_X9_cell g a1 a2 = some r0) : WM l yX9_cell cX9_cell 3 (some FieldType.int) rm_X9_cell [.ref (am 0), .int a1, .int a2] D ac (wM am ac g) (wM am ac r0.2) sz (some (.int r0.1)) := by
  refine fw_of (by decide) (Nat.le_of_ble_eq_true rfl) ?_
  intro p e s m below meth c ls hx hb hrt hts hown hlk hml _ hU hl
  obtain ⟨rfl, hP, hG, hD⟩ := hU
  have hA : ∀ q : Nat, s.heap.size ≤ q → va_A (wM am ac g) s.heap.size q := fun q h => Or.inr h
  have hS := Stt.start hP hD
  show WW p l e rm_X9_cell s m [.ref (am 0), .int a1, .int a2] below meth c D (wM am ac r0.2) (va_A (wM am ac g) s.heap.size) (some (.int r0.1)) s.heap [] 0 0 0 ls []
  have hl : lv_has ls 3 [(0, .ref (am 0)), (1, .int a1), (2, .int a2)] := hl
  rw [f_X9_cell] at hr
  refine lv_iload_n hx hb dX9_cell_0 rfl (lv_at hl 1 rfl) ?_
  obtain ⟨o1, ho1, hr⟩ := br_bind hr
  refine fwS (As := [.int a1]) (rest := []) hx hb hml hown hts (m_X9_isCell l a1 o1 ho1) (cw_X9_isCell hts q1301 ⟨Nat.le_of_ble_eq_true rfl, Nat.le_of_ble_eq_true rfl⟩) rfl hl.1 rfl (Nat.le_of_ble_eq_true rfl) dX9_cell_1 ⟨Nat.le_of_ble_eq_true rfl, Nat.le_of_ble_eq_true rfl⟩ ?_
  have hi2 := br_ite hr
  refine lv_if_ne (tgt := 13) hx hb dX9_cell_4 (by decide) (fun c2 => ?_) (fun c2 => ?_)
  · have hr := hi2.2 c2
    refine lv_iload_n hx hb dX9_cell_13 rfl (lv_at hl 2 rfl) ?_
    have hi3 := br_ite hr
    by_cases c3 : a2 = 0
    · have hr := hi3.1 c3
      refine lv_tableIn (tgt := 40) hx hb dX9_cell_14 (by rw [c3]; decide) (by rw [c3]; decide) (by rw [c3]; rfl) (by decide) ?_
      refine lv_aload_n hx hb dX9_cell_40 rfl (lv_at hl 0 rfl) ?_
      refine va_get (D := D) (ci := 8) (v := .int (mG_left g)) (C := RX9) (T := TX9) (N := 26) hx hb hts in_X9 hown hG.1 hP 0 rfl rfl 0 (by decide) (hts _ q1180) (fun _ h9 => h9) rfl dX9_cell_41 ?_
      refine lv_iload_n hx hb dX9_cell_44 rfl (lv_at hl 1 rfl) ?_
      refine lv_ishr hx hb dX9_cell_45 ?_
      refine lv_iconst (v := 1) hx hb dX9_cell_46 rfl ?_
      refine lv_iand hx hb dX9_cell_47 ?_
      obtain rfl := Option.some.inj hr
      refine W.widen (k := rm_X9_cell.cells) (n := rm_X9_cell.slots) (Nat.le_of_ble_eq_true rfl) (Nat.le_of_ble_eq_true rfl) ?_
      exact W.iret hx hb hrt (fun t ht _ => hS.q ht rfl) hS.2.2.2.2 dX9_cell_48 hlk
    have hr := hi3.2 c3
    have hi4 := br_ite hr
    by_cases c4 : a2 = 1
    · have hr := hi4.1 c4
      refine lv_tableIn (tgt := 49) hx hb dX9_cell_14 (by rw [c4]; decide) (by rw [c4]; decide) (by rw [c4]; rfl) (by decide) ?_
      refine lv_iconst (v := 1) hx hb dX9_cell_49 rfl ?_
      refine lv_iload_n hx hb dX9_cell_50 rfl (lv_at hl 1 rfl) ?_
      refine lv_ishl hx hb dX9_cell_51 ?_
      obtain ⟨o6, ho6, hr⟩ := br_bind hr
      refine fwS (As := [.int ((1 : Int32) <<< (a1 &&& 31))]) (rest := []) hx hb hml hown hts (m_X9_besideOf l ((1 : Int32) <<< (a1 &&& 31)) o6 ho6) (cw_X9_besideOf hts q1335 ⟨Nat.le_of_ble_eq_true rfl, Nat.le_of_ble_eq_true rfl⟩) rfl hl.1 rfl (Nat.le_of_ble_eq_true rfl) dX9_cell_52 ⟨Nat.le_of_ble_eq_true rfl, Nat.le_of_ble_eq_true rfl⟩ ?_
      refine lv_aload_n hx hb dX9_cell_55 rfl (lv_at hl 0 rfl) ?_
      refine va_get (D := D) (ci := 8) (v := .int (mG_left g)) (C := RX9) (T := TX9) (N := 26) hx hb hts in_X9 hown hG.1 hP 0 rfl rfl 0 (by decide) (hts _ q1180) (fun _ h9 => h9) rfl dX9_cell_56 ?_
      refine lv_iand hx hb dX9_cell_59 ?_
      obtain ⟨o7, ho7, hr⟩ := br_bind hr
      refine fwS (As := [.int (o6 &&& (mG_left g))]) (rest := []) hx hb hml hown hts (m_X9_bits l (o6 &&& (mG_left g)) o7 ho7) (cw_X9_bits hts q1338 ⟨Nat.le_of_ble_eq_true rfl, Nat.le_of_ble_eq_true rfl⟩) rfl hl.1 rfl (Nat.le_of_ble_eq_true rfl) dX9_cell_60 ⟨Nat.le_of_ble_eq_true rfl, Nat.le_of_ble_eq_true rfl⟩ ?_
      obtain rfl := Option.some.inj hr
      refine W.widen (k := rm_X9_cell.cells) (n := rm_X9_cell.slots) (Nat.le_of_ble_eq_true rfl) (Nat.le_of_ble_eq_true rfl) ?_
      exact W.iret hx hb hrt (fun t ht _ => hS.q ht rfl) hS.2.2.2.2 dX9_cell_63 hlk
    have hr := hi4.2 c4
    have hi5 := br_ite hr
    by_cases c5 : a2 = 2
    · have hr := hi5.1 c5
      refine lv_tableIn (tgt := 64) hx hb dX9_cell_14 (by rw [c5]; decide) (by rw [c5]; decide) (by rw [c5]; rfl) (by decide) ?_
      refine lv_aload_n hx hb dX9_cell_64 rfl (lv_at hl 0 rfl) ?_
      refine va_get (D := D) (ci := 8) (v := .int (mG_left g)) (C := RX9) (T := TX9) (N := 26) hx hb hts in_X9 hown hG.1 hP 0 rfl rfl 0 (by decide) (hts _ q1180) (fun _ h9 => h9) rfl dX9_cell_65 ?_
      refine lv_iload_n hx hb dX9_cell_68 rfl (lv_at hl 1 rfl) ?_
      obtain ⟨o8, ho8, hr⟩ := br_bind hr
      refine fwS (As := [.int (mG_left g), .int a1]) (rest := []) hx hb hml hown hts (m_X9_heapOf l (mG_left g) a1 o8 ho8) (cw_X9_heapOf hts q1341 ⟨Nat.le_of_ble_eq_true rfl, Nat.le_of_ble_eq_true rfl⟩) rfl hl.1 rfl (Nat.le_of_ble_eq_true rfl) dX9_cell_69 ⟨Nat.le_of_ble_eq_true rfl, Nat.le_of_ble_eq_true rfl⟩ ?_
      obtain ⟨o9, ho9, hr⟩ := br_bind hr
      refine fwS (As := [.int o8]) (rest := []) hx hb hml hown hts (m_X9_bits l o8 o9 ho9) (cw_X9_bits hts q1338 ⟨Nat.le_of_ble_eq_true rfl, Nat.le_of_ble_eq_true rfl⟩) rfl hl.1 rfl (Nat.le_of_ble_eq_true rfl) dX9_cell_72 ⟨Nat.le_of_ble_eq_true rfl, Nat.le_of_ble_eq_true rfl⟩ ?_
      obtain rfl := Option.some.inj hr
      refine W.widen (k := rm_X9_cell.cells) (n := rm_X9_cell.slots) (Nat.le_of_ble_eq_true rfl) (Nat.le_of_ble_eq_true rfl) ?_
      exact W.iret hx hb hrt (fun t ht _ => hS.q ht rfl) hS.2.2.2.2 dX9_cell_75 hlk
    have hr := hi5.2 c5
    refine lv_tableOut (tgt := 76) hx hb dX9_cell_14 (by have n3 := lv_neT (a := 0) c3 rfl; have n4 := lv_neT (a := 1) c4 rfl; have n5 := lv_neT (a := 2) c5 rfl; omega) (by decide) ?_
    refine lv_aload_n hx hb dX9_cell_76 rfl (lv_at hl 0 rfl) ?_
    refine lv_bipush (v := (-2)) hx hb dX9_cell_77 rfl ?_
    obtain ⟨o10, ho10, hr⟩ := br_bind hr
    refine fwWVs (As := [.int (-2)]) (rest := []) (C := RX9) hx hb hml hown hts (m_X9_no l D am ac g (-2 : Int32) _ o10 ho10) (cw_X9_no hts q1263 ⟨Nat.le_of_ble_eq_true rfl, Nat.le_of_ble_eq_true rfl⟩) hG hS hA rfl 0 8 rfl rfl rfl hl.1 rfl (Nat.le_of_ble_eq_true rfl) dX9_cell_79 ⟨Nat.le_of_ble_eq_true rfl, Nat.le_of_ble_eq_true rfl⟩ (fun H locs hS => ?_)
    have hP := hS.1
    obtain rfl := Option.some.inj hr
    refine W.widen (k := rm_X9_cell.cells) (n := rm_X9_cell.slots) (Nat.le_of_ble_eq_true rfl) (Nat.le_of_ble_eq_true rfl) ?_
    exact W.iret hx hb hrt (fun t ht _ => hS.q ht rfl) hS.2.2.2.2 dX9_cell_82 hlk
  · have hr := hi2.1 c2
    refine lv_aload_n hx hb dX9_cell_7 rfl (lv_at hl 0 rfl) ?_
    refine lv_iconst (v := (-1)) hx hb dX9_cell_8 rfl ?_
    obtain ⟨o11, ho11, hr⟩ := br_bind hr
    refine fwWVs (As := [.int (-1)]) (rest := []) (C := RX9) hx hb hml hown hts (m_X9_no l D am ac g (-1 : Int32) _ o11 ho11) (cw_X9_no hts q1263 ⟨Nat.le_of_ble_eq_true rfl, Nat.le_of_ble_eq_true rfl⟩) hG hS hA rfl 0 8 rfl rfl rfl hl.1 rfl (Nat.le_of_ble_eq_true rfl) dX9_cell_9 ⟨Nat.le_of_ble_eq_true rfl, Nat.le_of_ble_eq_true rfl⟩ (fun H locs hS => ?_)
    have hP := hS.1
    obtain rfl := Option.some.inj hr
    refine W.widen (k := rm_X9_cell.cells) (n := rm_X9_cell.slots) (Nat.le_of_ble_eq_true rfl) (Nat.le_of_ble_eq_true rfl) ?_
    exact W.iret hx hb hrt (fun t ht _ => hS.q ht rfl) hS.2.2.2.2 dX9_cell_12 hlk
theorem cw_X9_cell {R : Room} {s : State} {args : Array Value} {own : String} {index : Nat} (hts : ∀ w ∈ lw_all, w.before args s = true) (hlink : Cond.methodLink own index yX9_cell ∈ lw_all) (hR : rm_X9_cell.frames + 1 ≤ R.frames ∧ 8 + (3 + 11) + rm_X9_cell.locals ≤ R.locals) : CallW R s args own RX9 index yX9_cell cX9_cell 3 (some FieldType.int) (ws_ yX9_cell cX9_cell 3 (some FieldType.int)) rm_X9_cell rm_X9_cell.cells rm_X9_cell.slots 2 :=
  cwV 2 hts (lw_V hlink q1332 q1333 q111 q1334) rfl rfl rfl (by decide +kernel) hR
def f_X9_isHeir (g : MS) (a1 : Int32) : Option (Int32) := Option.bind (f_X9_isIn a1 0 ((mG_many g) - 1)) fun o1 => rz o1
abbrev rm_X9_isHeir : Room := ({ frames := 2, cells := 0, slots := 0, locals := 41 })
set_option maxHeartbeats 4000000 in
theorem m_X9_isHeir (l : Launch) (D : va_G) (am : Nat → Nat) (ac : Nat → ClassId) (g : MS) (a1 : Int32) (r0 : Int32) (hr : f_X9_isHeir g a1 = some r0) : PM l yX9_isHeir cX9_isHeir 2 (some FieldType.boolean) rm_X9_isHeir [.ref (am 0), .int a1] (RP D ac (wM am ac g)) (some (.int r0)) := by
  refine fw_of (by decide) (Nat.le_of_ble_eq_true rfl) ?_
  intro p e s m below meth c ls hx hb hrt hts hown hlk hml _ hU hl
  obtain ⟨hP, hG⟩ := hU
  have hl : lv_has ls 2 [(0, .ref (am 0)), (1, .int a1)] := hl
  rw [f_X9_isHeir] at hr
  refine lv_iload_n hx hb dX9_isHeir_0 rfl (lv_at hl 1 rfl) ?_
  refine lv_iconst (v := 0) hx hb dX9_isHeir_1 rfl ?_
  refine lv_aload_n hx hb dX9_isHeir_2 rfl (lv_at hl 0 rfl) ?_
  refine va_get (D := D) (ci := 8) (v := .int (mG_many g)) (C := RX9) (T := TX9) (N := 26) hx hb hts in_X9 hown hG.1 hP 0 rfl rfl 2 (by decide) (hts _ q1182) (fun _ h9 => h9) rfl dX9_isHeir_3 ?_
  refine lv_iconst (v := 1) hx hb dX9_isHeir_6 rfl ?_
  refine lv_isub hx hb dX9_isHeir_7 ?_
  obtain ⟨o1, ho1, hr⟩ := br_bind hr
  refine fwS (As := [.int a1, .int 0, .int ((mG_many g) - 1)]) (rest := []) hx hb hml hown hts (m_X9_isIn l a1 0 ((mG_many g) - 1) o1 ho1) (cw_X9_isIn hts q1290 ⟨Nat.le_of_ble_eq_true rfl, Nat.le_of_ble_eq_true rfl⟩) rfl hl.1 rfl (Nat.le_of_ble_eq_true rfl) dX9_isHeir_8 ⟨Nat.le_of_ble_eq_true rfl, Nat.le_of_ble_eq_true rfl⟩ ?_
  obtain ⟨hz, hr⟩ := rz_n hr
  exact W.zret hx hb hrt hz (fun t ht _ => ⟨ret_i hr, ht⟩) noB dX9_isHeir_11 hlk
theorem cw_X9_isHeir {R : Room} {s : State} {args : Array Value} {own : String} {index : Nat} (hts : ∀ w ∈ lw_all, w.before args s = true) (hlink : Cond.methodLink own index yX9_isHeir ∈ lw_all) (hR : rm_X9_isHeir.frames + 1 ≤ R.frames ∧ 8 + (2 + 11) + rm_X9_isHeir.locals ≤ R.locals) : CallW R s args own RX9 index yX9_isHeir cX9_isHeir 2 (some FieldType.boolean) (ws_ yX9_isHeir cX9_isHeir 2 (some FieldType.boolean)) rm_X9_isHeir rm_X9_isHeir.cells rm_X9_isHeir.slots 1 :=
  cwV 1 hts (lw_V hlink q1350 qs85 q111 q1351) rfl rfl rfl (by decide +kernel) hR
def f_X9_shareOf (g : MS) (a1 : Int32) (a2 : Int32) : Option (Int32) := if a2 < 0 ∨ 5 ≤ Int32.toNatClampNeg a2 then none else if a2 < 0 ∨ 5 ≤ Int32.toNatClampNeg a2 then none else Option.bind (f_X9_shareBy a1 (mG_kind g (Int32.toNatClampNeg a2)) (mG_figure g (Int32.toNatClampNeg a2))) fun o3 => some o3
abbrev rm_X9_shareOf : Room := ({ frames := 5, cells := 0, slots := 0, locals := 114 })
set_option maxHeartbeats 4000000 in
theorem m_X9_shareOf (l : Launch) (D : va_G) (am : Nat → Nat) (ac : Nat → ClassId) (g : MS) (a1 : Int32) (a2 : Int32) (r0 : Int32) (hr : f_X9_shareOf g a1 a2 = some r0) : PM l yX9_shareOf cX9_shareOf 3 (some FieldType.int) rm_X9_shareOf [.ref (am 0), .int a1, .int a2] (RP D ac (wM am ac g)) (some (.int r0)) := by
  refine fw_of (by decide) (Nat.le_of_ble_eq_true rfl) ?_
  intro p e s m below meth c ls hx hb hrt hts hown hlk hml _ hU hl
  obtain ⟨hP, hG⟩ := hU
  have hl : lv_has ls 3 [(0, .ref (am 0)), (1, .int a1), (2, .int a2)] := hl
  rw [f_X9_shareOf] at hr
  refine lv_iload_n hx hb dX9_shareOf_0 rfl (lv_at hl 1 rfl) ?_
  refine lv_aload_n hx hb dX9_shareOf_1 rfl (lv_at hl 0 rfl) ?_
  refine va_get (D := D) (ci := 8) (v := .ref (am 1)) (C := RX9) (T := TX9) (N := 26) hx hb hts in_X9 hown hG.1 hP 0 rfl rfl 9 (by decide) (hts _ q1189) (fun _ h9 => h9) rfl dX9_shareOf_2 ?_
  refine lv_iload_n hx hb dX9_shareOf_5 rfl (lv_at hl 2 rfl) ?_
  obtain ⟨c1, hr⟩ := br_none hr
  refine va_iald hx hb hG.1 hP 1 0 rfl rfl c1 dX9_shareOf_6 ?_
  refine lv_aload_n hx hb dX9_shareOf_7 rfl (lv_at hl 0 rfl) ?_
  refine va_get (D := D) (ci := 8) (v := .ref (am 2)) (C := RX9) (T := TX9) (N := 26) hx hb hts in_X9 hown hG.1 hP 0 rfl rfl 10 (by decide) (hts _ q1190) (fun _ h9 => h9) rfl dX9_shareOf_8 ?_
  refine lv_iload_n hx hb dX9_shareOf_11 rfl (lv_at hl 2 rfl) ?_
  obtain ⟨c2, hr⟩ := br_none hr
  refine va_iald hx hb hG.1 hP 2 0 rfl rfl c2 dX9_shareOf_12 ?_
  obtain ⟨o3, ho3, hr⟩ := br_bind hr
  refine fwS (As := [.int a1, .int (mG_kind g (Int32.toNatClampNeg a2)), .int (mG_figure g (Int32.toNatClampNeg a2))]) (rest := []) hx hb hml hown hts (m_X9_shareBy l a1 (mG_kind g (Int32.toNatClampNeg a2)) (mG_figure g (Int32.toNatClampNeg a2)) o3 ho3) (cw_X9_shareBy hts q1356 ⟨Nat.le_of_ble_eq_true rfl, Nat.le_of_ble_eq_true rfl⟩) rfl hl.1 rfl (Nat.le_of_ble_eq_true rfl) dX9_shareOf_13 ⟨Nat.le_of_ble_eq_true rfl, Nat.le_of_ble_eq_true rfl⟩ ?_
  exact W.iret hx hb hrt (fun t ht _ => ⟨ret_i hr, ht⟩) noB dX9_shareOf_16 hlk
theorem cw_X9_shareOf {R : Room} {s : State} {args : Array Value} {own : String} {index : Nat} (hts : ∀ w ∈ lw_all, w.before args s = true) (hlink : Cond.methodLink own index yX9_shareOf ∈ lw_all) (hR : rm_X9_shareOf.frames + 1 ≤ R.frames ∧ 8 + (3 + 11) + rm_X9_shareOf.locals ≤ R.locals) : CallW R s args own RX9 index yX9_shareOf cX9_shareOf 3 (some FieldType.int) (ws_ yX9_shareOf cX9_shareOf 3 (some FieldType.int)) rm_X9_shareOf rm_X9_shareOf.cells rm_X9_shareOf.slots 2 :=
  cwV 2 hts (lw_V hlink q1354 qs86 q111 q1355) rfl rfl rfl (by decide +kernel) hR
def f_X9_heir (g : MS) (a1 : Int32) (a2 : Int32) : Option (Int32 × MS) := Option.bind (f_X9_isHeir g a1) fun o1 => if o1 = 0 then Option.bind (f_X9_no g (-1 : Int32)) fun o10 => some (o10.1, o10.2) else if a2 = 0 then if a1 < 0 ∨ 5 ≤ Int32.toNatClampNeg a1 then none else some ((mG_kind g (Int32.toNatClampNeg a1)), g) else if a2 = 1 then if a1 < 0 ∨ 5 ≤ Int32.toNatClampNeg a1 then none else some ((mG_figure g (Int32.toNatClampNeg a1)), g) else if a2 = 2 then Option.bind (f_X9_shareOf g (mG_left g) a1) fun o7 => some (o7, g) else Option.bind (f_X9_no g (-2 : Int32)) fun o6 => some (o6.1, o6.2)
abbrev rm_X9_heir : Room := ({ frames := 6, cells := 0, slots := 0, locals := 136 })
set_option maxHeartbeats 4000000 in
theorem m_X9_heir (l : Launch) (D : va_G) (am : Nat → Nat) (ac : Nat → ClassId) (g : MS) (a1 : Int32) (a2 : Int32) (sz : Nat) (r0 : Int32 × MS) (hr : f_X9_heir g a1 a2 = some r0) : WM l yX9_heir cX9_heir 3 (some FieldType.int) rm_X9_heir [.ref (am 0), .int a1, .int a2] D ac (wM am ac g) (wM am ac r0.2) sz (some (.int r0.1)) := by
  refine fw_of (by decide) (Nat.le_of_ble_eq_true rfl) ?_
  intro p e s m below meth c ls hx hb hrt hts hown hlk hml _ hU hl
  obtain ⟨rfl, hP, hG, hD⟩ := hU
  have hA : ∀ q : Nat, s.heap.size ≤ q → va_A (wM am ac g) s.heap.size q := fun q h => Or.inr h
  have hS := Stt.start hP hD
  show WW p l e rm_X9_heir s m [.ref (am 0), .int a1, .int a2] below meth c D (wM am ac r0.2) (va_A (wM am ac g) s.heap.size) (some (.int r0.1)) s.heap [] 0 0 0 ls []
  have hl : lv_has ls 3 [(0, .ref (am 0)), (1, .int a1), (2, .int a2)] := hl
  rw [f_X9_heir] at hr
  refine lv_aload_n hx hb dX9_heir_0 rfl (lv_at hl 0 rfl) ?_
  refine lv_iload_n hx hb dX9_heir_1 rfl (lv_at hl 1 rfl) ?_
  obtain ⟨o1, ho1, hr⟩ := br_bind hr
  refine fwRV (As := [.int a1]) (rest := []) (C := RX9) hx hb hml hown hts (m_X9_isHeir l D am ac g  a1 o1 ho1) (cw_X9_isHeir hts q1348 ⟨Nat.le_of_ble_eq_true rfl, Nat.le_of_ble_eq_true rfl⟩) hG hP hP 0 8 rfl rfl rfl hl.1 rfl (Nat.le_of_ble_eq_true rfl) dX9_heir_2 ⟨Nat.le_of_ble_eq_true rfl, Nat.le_of_ble_eq_true rfl⟩ ?_
  have hi2 := br_ite hr
  refine lv_if_ne (tgt := 14) hx hb dX9_heir_5 (by decide) (fun c2 => ?_) (fun c2 => ?_)
  · have hr := hi2.2 c2
    refine lv_iload_n hx hb dX9_heir_14 rfl (lv_at hl 2 rfl) ?_
    have hi3 := br_ite hr
    refine lv_if_ne (tgt := 27) hx hb dX9_heir_15 (by decide) (fun c3 => ?_) (fun c3 => ?_)
    · have hr := hi3.2 c3
      refine lv_iload_n hx hb dX9_heir_27 rfl (lv_at hl 2 rfl) ?_
      refine lv_iconst (v := 1) hx hb dX9_heir_28 rfl ?_
      have hi4 := br_ite hr
      refine lv_icmp_ne (tgt := 41) hx hb dX9_heir_29 (by decide) (fun c4 => ?_) (fun c4 => ?_)
      · have hr := hi4.2 c4
        refine lv_iload_n hx hb dX9_heir_41 rfl (lv_at hl 2 rfl) ?_
        refine lv_iconst (v := 2) hx hb dX9_heir_42 rfl ?_
        have hi5 := br_ite hr
        refine lv_icmp_ne (tgt := 58) hx hb dX9_heir_43 (by decide) (fun c5 => ?_) (fun c5 => ?_)
        · have hr := hi5.2 c5
          refine lv_aload_n hx hb dX9_heir_58 rfl (lv_at hl 0 rfl) ?_
          refine lv_bipush (v := (-2)) hx hb dX9_heir_59 rfl ?_
          obtain ⟨o6, ho6, hr⟩ := br_bind hr
          refine fwWVs (As := [.int (-2)]) (rest := []) (C := RX9) hx hb hml hown hts (m_X9_no l D am ac g (-2 : Int32) _ o6 ho6) (cw_X9_no hts q1263 ⟨Nat.le_of_ble_eq_true rfl, Nat.le_of_ble_eq_true rfl⟩) hG hS hA rfl 0 8 rfl rfl rfl hl.1 rfl (Nat.le_of_ble_eq_true rfl) dX9_heir_61 ⟨Nat.le_of_ble_eq_true rfl, Nat.le_of_ble_eq_true rfl⟩ (fun H locs hS => ?_)
          have hP := hS.1
          obtain rfl := Option.some.inj hr
          refine W.widen (k := rm_X9_heir.cells) (n := rm_X9_heir.slots) (Nat.le_of_ble_eq_true rfl) (Nat.le_of_ble_eq_true rfl) ?_
          exact W.iret hx hb hrt (fun t ht _ => hS.q ht rfl) hS.2.2.2.2 dX9_heir_64 hlk
        · have hr := hi5.1 c5
          refine lv_aload_n hx hb dX9_heir_46 rfl (lv_at hl 0 rfl) ?_
          refine lv_aload_n hx hb dX9_heir_47 rfl (lv_at hl 0 rfl) ?_
          refine va_get (D := D) (ci := 8) (v := .int (mG_left g)) (C := RX9) (T := TX9) (N := 26) hx hb hts in_X9 hown hG.1 hP 0 rfl rfl 0 (by decide) (hts _ q1180) (fun _ h9 => h9) rfl dX9_heir_48 ?_
          refine lv_iload_n hx hb dX9_heir_51 rfl (lv_at hl 1 rfl) ?_
          obtain ⟨o7, ho7, hr⟩ := br_bind hr
          refine fwRV (As := [.int (mG_left g), .int a1]) (rest := []) (C := RX9) hx hb hml hown hts (m_X9_shareOf l D am ac g  (mG_left g) a1 o7 ho7) (cw_X9_shareOf hts q1352 ⟨Nat.le_of_ble_eq_true rfl, Nat.le_of_ble_eq_true rfl⟩) hG hP hP 0 8 rfl rfl rfl hl.1 rfl (Nat.le_of_ble_eq_true rfl) dX9_heir_52 ⟨Nat.le_of_ble_eq_true rfl, Nat.le_of_ble_eq_true rfl⟩ ?_
          refine lv_goto (tgt := 64) hx hb dX9_heir_55 (by decide) ?_
          obtain rfl := Option.some.inj hr
          refine W.widen (k := rm_X9_heir.cells) (n := rm_X9_heir.slots) (Nat.le_of_ble_eq_true rfl) (Nat.le_of_ble_eq_true rfl) ?_
          exact W.iret hx hb hrt (fun t ht _ => hS.q ht rfl) hS.2.2.2.2 dX9_heir_64 hlk
      · have hr := hi4.1 c4
        refine lv_aload_n hx hb dX9_heir_32 rfl (lv_at hl 0 rfl) ?_
        refine va_get (D := D) (ci := 8) (v := .ref (am 2)) (C := RX9) (T := TX9) (N := 26) hx hb hts in_X9 hown hG.1 hP 0 rfl rfl 10 (by decide) (hts _ q1190) (fun _ h9 => h9) rfl dX9_heir_33 ?_
        refine lv_iload_n hx hb dX9_heir_36 rfl (lv_at hl 1 rfl) ?_
        obtain ⟨c8, hr⟩ := br_none hr
        refine va_iald hx hb hG.1 hP 2 0 rfl rfl c8 dX9_heir_37 ?_
        refine lv_goto (tgt := 64) hx hb dX9_heir_38 (by decide) ?_
        obtain rfl := Option.some.inj hr
        refine W.widen (k := rm_X9_heir.cells) (n := rm_X9_heir.slots) (Nat.le_of_ble_eq_true rfl) (Nat.le_of_ble_eq_true rfl) ?_
        exact W.iret hx hb hrt (fun t ht _ => hS.q ht rfl) hS.2.2.2.2 dX9_heir_64 hlk
    · have hr := hi3.1 c3
      refine lv_aload_n hx hb dX9_heir_18 rfl (lv_at hl 0 rfl) ?_
      refine va_get (D := D) (ci := 8) (v := .ref (am 1)) (C := RX9) (T := TX9) (N := 26) hx hb hts in_X9 hown hG.1 hP 0 rfl rfl 9 (by decide) (hts _ q1189) (fun _ h9 => h9) rfl dX9_heir_19 ?_
      refine lv_iload_n hx hb dX9_heir_22 rfl (lv_at hl 1 rfl) ?_
      obtain ⟨c9, hr⟩ := br_none hr
      refine va_iald hx hb hG.1 hP 1 0 rfl rfl c9 dX9_heir_23 ?_
      refine lv_goto (tgt := 64) hx hb dX9_heir_24 (by decide) ?_
      obtain rfl := Option.some.inj hr
      refine W.widen (k := rm_X9_heir.cells) (n := rm_X9_heir.slots) (Nat.le_of_ble_eq_true rfl) (Nat.le_of_ble_eq_true rfl) ?_
      exact W.iret hx hb hrt (fun t ht _ => hS.q ht rfl) hS.2.2.2.2 dX9_heir_64 hlk
  · have hr := hi2.1 c2
    refine lv_aload_n hx hb dX9_heir_8 rfl (lv_at hl 0 rfl) ?_
    refine lv_iconst (v := (-1)) hx hb dX9_heir_9 rfl ?_
    obtain ⟨o10, ho10, hr⟩ := br_bind hr
    refine fwWVs (As := [.int (-1)]) (rest := []) (C := RX9) hx hb hml hown hts (m_X9_no l D am ac g (-1 : Int32) _ o10 ho10) (cw_X9_no hts q1263 ⟨Nat.le_of_ble_eq_true rfl, Nat.le_of_ble_eq_true rfl⟩) hG hS hA rfl 0 8 rfl rfl rfl hl.1 rfl (Nat.le_of_ble_eq_true rfl) dX9_heir_10 ⟨Nat.le_of_ble_eq_true rfl, Nat.le_of_ble_eq_true rfl⟩ (fun H locs hS => ?_)
    have hP := hS.1
    obtain rfl := Option.some.inj hr
    refine W.widen (k := rm_X9_heir.cells) (n := rm_X9_heir.slots) (Nat.le_of_ble_eq_true rfl) (Nat.le_of_ble_eq_true rfl) ?_
    exact W.iret hx hb hrt (fun t ht _ => hS.q ht rfl) hS.2.2.2.2 dX9_heir_13 hlk
theorem cw_X9_heir {R : Room} {s : State} {args : Array Value} {own : String} {index : Nat} (hts : ∀ w ∈ lw_all, w.before args s = true) (hlink : Cond.methodLink own index yX9_heir ∈ lw_all) (hR : rm_X9_heir.frames + 1 ≤ R.frames ∧ 8 + (3 + 11) + rm_X9_heir.locals ≤ R.locals) : CallW R s args own RX9 index yX9_heir cX9_heir 3 (some FieldType.int) (ws_ yX9_heir cX9_heir 3 (some FieldType.int)) rm_X9_heir rm_X9_heir.cells rm_X9_heir.slots 2 :=
  cwV 2 hts (lw_V hlink q1345 q1346 q111 q1347) rfl rfl rfl (by decide +kernel) hR
def f_X9_bites (g : MS) (a1 : Int32) (a2 : Int32) : Option (Int32 × MS) := Option.bind (f_X9_isIn a1 0 3) fun o1 => if o1 = 0 then Option.bind (f_X9_no g (-2 : Int32)) fun o12 => some (o12.1, o12.2) else Option.bind (f_X9_isCell a2) fun o3 => if o3 = 0 then Option.bind (f_X9_no g (-1 : Int32)) fun o11 => some (o11.1, o11.2) else Option.bind (f_X9_canBite (mG_left g) a1 a2) fun o5 => if o5 = 0 then Option.bind (f_X9_no g (-3 : Int32)) fun o10 => some (o10.1, o10.2) else Option.bind (f_X9_bite a1 a2) fun o7 => Option.bind (f_X9_bitesOff g o7) fun o8 => Option.bind (f_X9_bits (mG_left o8)) fun o9 => some (o9, o8)
abbrev rm_X9_bites : Room := ({ frames := 3, cells := 0, slots := 0, locals := 67 })
set_option maxHeartbeats 4000000 in
theorem m_X9_bites (l : Launch) (D : va_G) (am : Nat → Nat) (ac : Nat → ClassId) (g : MS) (a1 : Int32) (a2 : Int32) (sz : Nat) (r0 : Int32 × MS) (hr : f_X9_bites g a1 a2 = some r0) : WM l yX9_bites cX9_bites 3 (some FieldType.int) rm_X9_bites [.ref (am 0), .int a1, .int a2] D ac (wM am ac g) (wM am ac r0.2) sz (some (.int r0.1)) := by
  refine fw_of (by decide) (Nat.le_of_ble_eq_true rfl) ?_
  intro p e s m below meth c ls hx hb hrt hts hown hlk hml _ hU hl
  obtain ⟨rfl, hP, hG, hD⟩ := hU
  have hA : ∀ q : Nat, s.heap.size ≤ q → va_A (wM am ac g) s.heap.size q := fun q h => Or.inr h
  have hS := Stt.start hP hD
  show WW p l e rm_X9_bites s m [.ref (am 0), .int a1, .int a2] below meth c D (wM am ac r0.2) (va_A (wM am ac g) s.heap.size) (some (.int r0.1)) s.heap [] 0 0 0 ls []
  have hl : lv_has ls 3 [(0, .ref (am 0)), (1, .int a1), (2, .int a2)] := hl
  rw [f_X9_bites] at hr
  refine lv_iload_n hx hb dX9_bites_0 rfl (lv_at hl 1 rfl) ?_
  refine lv_iconst (v := 0) hx hb dX9_bites_1 rfl ?_
  refine lv_iconst (v := 3) hx hb dX9_bites_2 rfl ?_
  obtain ⟨o1, ho1, hr⟩ := br_bind hr
  refine fwS (As := [.int a1, .int 0, .int 3]) (rest := []) hx hb hml hown hts (m_X9_isIn l a1 0 3 o1 ho1) (cw_X9_isIn hts q1290 ⟨Nat.le_of_ble_eq_true rfl, Nat.le_of_ble_eq_true rfl⟩) rfl hl.1 rfl (Nat.le_of_ble_eq_true rfl) dX9_bites_3 ⟨Nat.le_of_ble_eq_true rfl, Nat.le_of_ble_eq_true rfl⟩ ?_
  have hi2 := br_ite hr
  refine lv_if_ne (tgt := 16) hx hb dX9_bites_6 (by decide) (fun c2 => ?_) (fun c2 => ?_)
  · have hr := hi2.2 c2
    refine lv_iload_n hx hb dX9_bites_16 rfl (lv_at hl 2 rfl) ?_
    obtain ⟨o3, ho3, hr⟩ := br_bind hr
    refine fwS (As := [.int a2]) (rest := []) hx hb hml hown hts (m_X9_isCell l a2 o3 ho3) (cw_X9_isCell hts q1301 ⟨Nat.le_of_ble_eq_true rfl, Nat.le_of_ble_eq_true rfl⟩) rfl hl.1 rfl (Nat.le_of_ble_eq_true rfl) dX9_bites_17 ⟨Nat.le_of_ble_eq_true rfl, Nat.le_of_ble_eq_true rfl⟩ ?_
    have hi4 := br_ite hr
    refine lv_if_ne (tgt := 29) hx hb dX9_bites_20 (by decide) (fun c4 => ?_) (fun c4 => ?_)
    · have hr := hi4.2 c4
      refine lv_aload_n hx hb dX9_bites_29 rfl (lv_at hl 0 rfl) ?_
      refine va_get (D := D) (ci := 8) (v := .int (mG_left g)) (C := RX9) (T := TX9) (N := 26) hx hb hts in_X9 hown hG.1 hP 0 rfl rfl 0 (by decide) (hts _ q1180) (fun _ h9 => h9) rfl dX9_bites_30 ?_
      refine lv_iload_n hx hb dX9_bites_33 rfl (lv_at hl 1 rfl) ?_
      refine lv_iload_n hx hb dX9_bites_34 rfl (lv_at hl 2 rfl) ?_
      obtain ⟨o5, ho5, hr⟩ := br_bind hr
      refine fwS (As := [.int (mG_left g), .int a1, .int a2]) (rest := []) hx hb hml hown hts (m_X9_canBite l (mG_left g) a1 a2 o5 ho5) (cw_X9_canBite hts q1304 ⟨Nat.le_of_ble_eq_true rfl, Nat.le_of_ble_eq_true rfl⟩) rfl hl.1 rfl (Nat.le_of_ble_eq_true rfl) dX9_bites_35 ⟨Nat.le_of_ble_eq_true rfl, Nat.le_of_ble_eq_true rfl⟩ ?_
      have hi6 := br_ite hr
      refine lv_if_ne (tgt := 48) hx hb dX9_bites_38 (by decide) (fun c6 => ?_) (fun c6 => ?_)
      · have hr := hi6.2 c6
        refine lv_aload_n hx hb dX9_bites_48 rfl (lv_at hl 0 rfl) ?_
        refine lv_iload_n hx hb dX9_bites_49 rfl (lv_at hl 1 rfl) ?_
        refine lv_iload_n hx hb dX9_bites_50 rfl (lv_at hl 2 rfl) ?_
        obtain ⟨o7, ho7, hr⟩ := br_bind hr
        refine fwS (As := [.int a1, .int a2]) (rest := [.ref (am 0)]) hx hb hml hown hts (m_X9_bite l a1 a2 o7 ho7) (cw_X9_bite hts q1307 ⟨Nat.le_of_ble_eq_true rfl, Nat.le_of_ble_eq_true rfl⟩) rfl hl.1 rfl (Nat.le_of_ble_eq_true rfl) dX9_bites_51 ⟨Nat.le_of_ble_eq_true rfl, Nat.le_of_ble_eq_true rfl⟩ ?_
        obtain ⟨o8, ho8, hr⟩ := br_bind hr
        refine fwWVs (As := [.int o7]) (rest := []) (C := RX9) hx hb hml hown hts (m_X9_bitesOff l D am ac g o7 _ o8 ho8) (cw_X9_bitesOff hts q1310 ⟨Nat.le_of_ble_eq_true rfl, Nat.le_of_ble_eq_true rfl⟩) hG hS hA rfl 0 8 rfl rfl rfl hl.1 rfl (Nat.le_of_ble_eq_true rfl) dX9_bites_54 ⟨Nat.le_of_ble_eq_true rfl, Nat.le_of_ble_eq_true rfl⟩ (fun H locs hS => ?_)
        have hP := hS.1
        refine lv_aload_n hx hb dX9_bites_57 rfl (lv_at hl 0 rfl) ?_
        refine va_get (D := D) (ci := 8) (v := .int (mG_left o8)) (C := RX9) (T := TX9) (N := 26) hx hb hts in_X9 hown hG.1 hP 0 rfl rfl 0 (by decide) (hts _ q1180) (fun _ h9 => h9) rfl dX9_bites_58 ?_
        obtain ⟨o9, ho9, hr⟩ := br_bind hr
        refine fwS (As := [.int (mG_left o8)]) (rest := []) hx hb hml hown hts (m_X9_bits l (mG_left o8) o9 ho9) (cw_X9_bits hts q1338 ⟨Nat.le_of_ble_eq_true rfl, Nat.le_of_ble_eq_true rfl⟩) rfl hl.1 rfl (Nat.le_of_ble_eq_true rfl) dX9_bites_61 ⟨Nat.le_of_ble_eq_true rfl, Nat.le_of_ble_eq_true rfl⟩ ?_
        obtain rfl := Option.some.inj hr
        refine W.widen (k := rm_X9_bites.cells) (n := rm_X9_bites.slots) (Nat.le_of_ble_eq_true rfl) (Nat.le_of_ble_eq_true rfl) ?_
        exact W.iret hx hb hrt (fun t ht _ => hS.q ht rfl) hS.2.2.2.2 dX9_bites_64 hlk
      · have hr := hi6.1 c6
        refine lv_aload_n hx hb dX9_bites_41 rfl (lv_at hl 0 rfl) ?_
        refine lv_bipush (v := (-3)) hx hb dX9_bites_42 rfl ?_
        obtain ⟨o10, ho10, hr⟩ := br_bind hr
        refine fwWVs (As := [.int (-3)]) (rest := []) (C := RX9) hx hb hml hown hts (m_X9_no l D am ac g (-3 : Int32) _ o10 ho10) (cw_X9_no hts q1263 ⟨Nat.le_of_ble_eq_true rfl, Nat.le_of_ble_eq_true rfl⟩) hG hS hA rfl 0 8 rfl rfl rfl hl.1 rfl (Nat.le_of_ble_eq_true rfl) dX9_bites_44 ⟨Nat.le_of_ble_eq_true rfl, Nat.le_of_ble_eq_true rfl⟩ (fun H locs hS => ?_)
        have hP := hS.1
        obtain rfl := Option.some.inj hr
        refine W.widen (k := rm_X9_bites.cells) (n := rm_X9_bites.slots) (Nat.le_of_ble_eq_true rfl) (Nat.le_of_ble_eq_true rfl) ?_
        exact W.iret hx hb hrt (fun t ht _ => hS.q ht rfl) hS.2.2.2.2 dX9_bites_47 hlk
    · have hr := hi4.1 c4
      refine lv_aload_n hx hb dX9_bites_23 rfl (lv_at hl 0 rfl) ?_
      refine lv_iconst (v := (-1)) hx hb dX9_bites_24 rfl ?_
      obtain ⟨o11, ho11, hr⟩ := br_bind hr
      refine fwWVs (As := [.int (-1)]) (rest := []) (C := RX9) hx hb hml hown hts (m_X9_no l D am ac g (-1 : Int32) _ o11 ho11) (cw_X9_no hts q1263 ⟨Nat.le_of_ble_eq_true rfl, Nat.le_of_ble_eq_true rfl⟩) hG hS hA rfl 0 8 rfl rfl rfl hl.1 rfl (Nat.le_of_ble_eq_true rfl) dX9_bites_25 ⟨Nat.le_of_ble_eq_true rfl, Nat.le_of_ble_eq_true rfl⟩ (fun H locs hS => ?_)
      have hP := hS.1
      obtain rfl := Option.some.inj hr
      refine W.widen (k := rm_X9_bites.cells) (n := rm_X9_bites.slots) (Nat.le_of_ble_eq_true rfl) (Nat.le_of_ble_eq_true rfl) ?_
      exact W.iret hx hb hrt (fun t ht _ => hS.q ht rfl) hS.2.2.2.2 dX9_bites_28 hlk
  · have hr := hi2.1 c2
    refine lv_aload_n hx hb dX9_bites_9 rfl (lv_at hl 0 rfl) ?_
    refine lv_bipush (v := (-2)) hx hb dX9_bites_10 rfl ?_
    obtain ⟨o12, ho12, hr⟩ := br_bind hr
    refine fwWVs (As := [.int (-2)]) (rest := []) (C := RX9) hx hb hml hown hts (m_X9_no l D am ac g (-2 : Int32) _ o12 ho12) (cw_X9_no hts q1263 ⟨Nat.le_of_ble_eq_true rfl, Nat.le_of_ble_eq_true rfl⟩) hG hS hA rfl 0 8 rfl rfl rfl hl.1 rfl (Nat.le_of_ble_eq_true rfl) dX9_bites_12 ⟨Nat.le_of_ble_eq_true rfl, Nat.le_of_ble_eq_true rfl⟩ (fun H locs hS => ?_)
    have hP := hS.1
    obtain rfl := Option.some.inj hr
    refine W.widen (k := rm_X9_bites.cells) (n := rm_X9_bites.slots) (Nat.le_of_ble_eq_true rfl) (Nat.le_of_ble_eq_true rfl) ?_
    exact W.iret hx hb hrt (fun t ht _ => hS.q ht rfl) hS.2.2.2.2 dX9_bites_15 hlk
theorem cw_X9_bites {R : Room} {s : State} {args : Array Value} {own : String} {index : Nat} (hts : ∀ w ∈ lw_all, w.before args s = true) (hlink : Cond.methodLink own index yX9_bites ∈ lw_all) (hR : rm_X9_bites.frames + 1 ≤ R.frames ∧ 8 + (3 + 11) + rm_X9_bites.locals ≤ R.locals) : CallW R s args own RX9 index yX9_bites cX9_bites 3 (some FieldType.int) (ws_ yX9_bites cX9_bites 3 (some FieldType.int)) rm_X9_bites rm_X9_bites.cells rm_X9_bites.slots 2 :=
  cwV 2 hts (lw_V hlink q1375 q1376 q111 q1377) rfl rfl rfl (by decide +kernel) hR
def f_X9_heals (g : MS) (a1 : Int32) : Option (Int32 × MS) := Option.bind (f_X9_isCell a1) fun o1 => if o1 = 0 then Option.bind (f_X9_no g (-1 : Int32)) fun o8 => some (o8.1, o8.2) else Option.bind (f_X9_has (mG_left g) a1) fun o3 => if o3 = 0 then Option.bind (some (mS_left g ((mG_left g) ||| ((1 : Int32) <<< (a1 &&& 31))))) fun g5 => Option.bind (f_X9_bits (mG_left g5)) fun o6 => some (o6, g5) else Option.bind (f_X9_no g (-3 : Int32)) fun o7 => some (o7.1, o7.2)
abbrev rm_X9_heals : Room := ({ frames := 3, cells := 0, slots := 0, locals := 61 })
set_option maxHeartbeats 4000000 in
theorem m_X9_heals (l : Launch) (D : va_G) (am : Nat → Nat) (ac : Nat → ClassId) (g : MS) (a1 : Int32) (sz : Nat) (r0 : Int32 × MS) (hr : f_X9_heals g a1 = some r0) : WM l yX9_heals cX9_heals 2 (some FieldType.int) rm_X9_heals [.ref (am 0), .int a1] D ac (wM am ac g) (wM am ac r0.2) sz (some (.int r0.1)) := by
  refine fw_of (by decide) (Nat.le_of_ble_eq_true rfl) ?_
  intro p e s m below meth c ls hx hb hrt hts hown hlk hml _ hU hl
  obtain ⟨rfl, hP, hG, hD⟩ := hU
  have hA : ∀ q : Nat, s.heap.size ≤ q → va_A (wM am ac g) s.heap.size q := fun q h => Or.inr h
  have hS := Stt.start hP hD
  show WW p l e rm_X9_heals s m [.ref (am 0), .int a1] below meth c D (wM am ac r0.2) (va_A (wM am ac g) s.heap.size) (some (.int r0.1)) s.heap [] 0 0 0 ls []
  have hl : lv_has ls 2 [(0, .ref (am 0)), (1, .int a1)] := hl
  rw [f_X9_heals] at hr
  refine lv_iload_n hx hb dX9_heals_0 rfl (lv_at hl 1 rfl) ?_
  obtain ⟨o1, ho1, hr⟩ := br_bind hr
  refine fwS (As := [.int a1]) (rest := []) hx hb hml hown hts (m_X9_isCell l a1 o1 ho1) (cw_X9_isCell hts q1301 ⟨Nat.le_of_ble_eq_true rfl, Nat.le_of_ble_eq_true rfl⟩) rfl hl.1 rfl (Nat.le_of_ble_eq_true rfl) dX9_heals_1 ⟨Nat.le_of_ble_eq_true rfl, Nat.le_of_ble_eq_true rfl⟩ ?_
  have hi2 := br_ite hr
  refine lv_if_ne (tgt := 13) hx hb dX9_heals_4 (by decide) (fun c2 => ?_) (fun c2 => ?_)
  · have hr := hi2.2 c2
    refine lv_aload_n hx hb dX9_heals_13 rfl (lv_at hl 0 rfl) ?_
    refine va_get (D := D) (ci := 8) (v := .int (mG_left g)) (C := RX9) (T := TX9) (N := 26) hx hb hts in_X9 hown hG.1 hP 0 rfl rfl 0 (by decide) (hts _ q1180) (fun _ h9 => h9) rfl dX9_heals_14 ?_
    refine lv_iload_n hx hb dX9_heals_17 rfl (lv_at hl 1 rfl) ?_
    obtain ⟨o3, ho3, hr⟩ := br_bind hr
    refine fwS (As := [.int (mG_left g), .int a1]) (rest := []) hx hb hml hown hts (m_X9_has l (mG_left g) a1 o3 ho3) (cw_X9_has hts q1365 ⟨Nat.le_of_ble_eq_true rfl, Nat.le_of_ble_eq_true rfl⟩) rfl hl.1 rfl (Nat.le_of_ble_eq_true rfl) dX9_heals_18 ⟨Nat.le_of_ble_eq_true rfl, Nat.le_of_ble_eq_true rfl⟩ ?_
    have hi4 := br_ite hr
    refine lv_if_eq (tgt := 31) hx hb dX9_heals_21 (by decide) (fun c4 => ?_) (fun c4 => ?_)
    · have hr := hi4.1 c4
      refine lv_aload_n hx hb dX9_heals_31 rfl (lv_at hl 0 rfl) ?_
      refine lv_dup hx hb dX9_heals_32 rfl ?_
      refine va_get (D := D) (ci := 8) (v := .int (mG_left g)) (C := RX9) (T := TX9) (N := 26) hx hb hts in_X9 hown hG.1 hP 0 rfl rfl 0 (by decide) (hts _ q1180) (fun _ h9 => h9) rfl dX9_heals_33 ?_
      refine lv_iconst (v := 1) hx hb dX9_heals_36 rfl ?_
      refine lv_iload_n hx hb dX9_heals_37 rfl (lv_at hl 1 rfl) ?_
      refine lv_ishl hx hb dX9_heals_38 ?_
      refine lv_ior hx hb dX9_heals_39 ?_
      obtain ⟨g5, hg5, hr⟩ := br_let hr
      refine fw_put (D := D) (ci := 8) (x := .int ((mG_left g) ||| ((1 : Int32) <<< (a1 &&& 31)))) (C := RX9) (T := TX9) (N := 26) hx hb hts in_X9 tyX9 tyX9_ok nmX9 hown hG hS 0 rfl rfl 0 (by decide) (hts _ q1180) (fun _ h9 => h9) rfl (tyX9_ok 0 (by decide)) rfl rfl (Nat.le_of_ble_eq_true rfl) dX9_heals_40 (wn := wM am ac g5) (by rw [hg5]; rfl) (fun H locs hS => ?_)
      have hP := hS.1
      refine lv_aload_n hx hb dX9_heals_43 rfl (lv_at hl 0 rfl) ?_
      refine va_get (D := D) (ci := 8) (v := .int (mG_left g5)) (C := RX9) (T := TX9) (N := 26) hx hb hts in_X9 hown hG.1 hP 0 rfl rfl 0 (by decide) (hts _ q1180) (fun _ h9 => h9) rfl dX9_heals_44 ?_
      obtain ⟨o6, ho6, hr⟩ := br_bind hr
      refine fwS (As := [.int (mG_left g5)]) (rest := []) hx hb hml hown hts (m_X9_bits l (mG_left g5) o6 ho6) (cw_X9_bits hts q1338 ⟨Nat.le_of_ble_eq_true rfl, Nat.le_of_ble_eq_true rfl⟩) rfl hl.1 rfl (Nat.le_of_ble_eq_true rfl) dX9_heals_47 ⟨Nat.le_of_ble_eq_true rfl, Nat.le_of_ble_eq_true rfl⟩ ?_
      obtain rfl := Option.some.inj hr
      refine W.widen (k := rm_X9_heals.cells) (n := rm_X9_heals.slots) (Nat.le_of_ble_eq_true rfl) (Nat.le_of_ble_eq_true rfl) ?_
      exact W.iret hx hb hrt (fun t ht _ => hS.q ht rfl) hS.2.2.2.2 dX9_heals_50 hlk
    · have hr := hi4.2 c4
      refine lv_aload_n hx hb dX9_heals_24 rfl (lv_at hl 0 rfl) ?_
      refine lv_bipush (v := (-3)) hx hb dX9_heals_25 rfl ?_
      obtain ⟨o7, ho7, hr⟩ := br_bind hr
      refine fwWVs (As := [.int (-3)]) (rest := []) (C := RX9) hx hb hml hown hts (m_X9_no l D am ac g (-3 : Int32) _ o7 ho7) (cw_X9_no hts q1263 ⟨Nat.le_of_ble_eq_true rfl, Nat.le_of_ble_eq_true rfl⟩) hG hS hA rfl 0 8 rfl rfl rfl hl.1 rfl (Nat.le_of_ble_eq_true rfl) dX9_heals_27 ⟨Nat.le_of_ble_eq_true rfl, Nat.le_of_ble_eq_true rfl⟩ (fun H locs hS => ?_)
      have hP := hS.1
      obtain rfl := Option.some.inj hr
      refine W.widen (k := rm_X9_heals.cells) (n := rm_X9_heals.slots) (Nat.le_of_ble_eq_true rfl) (Nat.le_of_ble_eq_true rfl) ?_
      exact W.iret hx hb hrt (fun t ht _ => hS.q ht rfl) hS.2.2.2.2 dX9_heals_30 hlk
  · have hr := hi2.1 c2
    refine lv_aload_n hx hb dX9_heals_7 rfl (lv_at hl 0 rfl) ?_
    refine lv_iconst (v := (-1)) hx hb dX9_heals_8 rfl ?_
    obtain ⟨o8, ho8, hr⟩ := br_bind hr
    refine fwWVs (As := [.int (-1)]) (rest := []) (C := RX9) hx hb hml hown hts (m_X9_no l D am ac g (-1 : Int32) _ o8 ho8) (cw_X9_no hts q1263 ⟨Nat.le_of_ble_eq_true rfl, Nat.le_of_ble_eq_true rfl⟩) hG hS hA rfl 0 8 rfl rfl rfl hl.1 rfl (Nat.le_of_ble_eq_true rfl) dX9_heals_9 ⟨Nat.le_of_ble_eq_true rfl, Nat.le_of_ble_eq_true rfl⟩ (fun H locs hS => ?_)
    have hP := hS.1
    obtain rfl := Option.some.inj hr
    refine W.widen (k := rm_X9_heals.cells) (n := rm_X9_heals.slots) (Nat.le_of_ble_eq_true rfl) (Nat.le_of_ble_eq_true rfl) ?_
    exact W.iret hx hb hrt (fun t ht _ => hS.q ht rfl) hS.2.2.2.2 dX9_heals_12 hlk
theorem cw_X9_heals {R : Room} {s : State} {args : Array Value} {own : String} {index : Nat} (hts : ∀ w ∈ lw_all, w.before args s = true) (hlink : Cond.methodLink own index yX9_heals ∈ lw_all) (hR : rm_X9_heals.frames + 1 ≤ R.frames ∧ 8 + (2 + 11) + rm_X9_heals.locals ≤ R.locals) : CallW R s args own RX9 index yX9_heals cX9_heals 2 (some FieldType.int) (ws_ yX9_heals cX9_heals 2 (some FieldType.int)) rm_X9_heals rm_X9_heals.cells rm_X9_heals.slots 1 :=
  cwV 1 hts (lw_V hlink q1379 q1380 q111 q1381) rfl rfl rfl (by decide +kernel) hR
def f_X9_rolls (g : MS) (a1 : Int32) : Option (Int32 × MS) := if 1 ≤ a1 then if a1 ≤ 3 then Option.bind (f_X9_turnedBy (mG_left g) a1) fun o3 => Option.bind (some (mS_left g o3)) fun g4 => Option.bind (f_X9_bits (mG_left g4)) fun o5 => some (o5, g4) else Option.bind (f_X9_no g (-6 : Int32)) fun o6 => some (o6.1, o6.2) else Option.bind (f_X9_no g (-4 : Int32)) fun o7 => some (o7.1, o7.2)
abbrev rm_X9_rolls : Room := ({ frames := 3, cells := 0, slots := 0, locals := 64 })
set_option maxHeartbeats 4000000 in
theorem m_X9_rolls (l : Launch) (D : va_G) (am : Nat → Nat) (ac : Nat → ClassId) (g : MS) (a1 : Int32) (sz : Nat) (r0 : Int32 × MS) (hr : f_X9_rolls g a1 = some r0) : WM l yX9_rolls cX9_rolls 2 (some FieldType.int) rm_X9_rolls [.ref (am 0), .int a1] D ac (wM am ac g) (wM am ac r0.2) sz (some (.int r0.1)) := by
  refine fw_of (by decide) (Nat.le_of_ble_eq_true rfl) ?_
  intro p e s m below meth c ls hx hb hrt hts hown hlk hml _ hU hl
  obtain ⟨rfl, hP, hG, hD⟩ := hU
  have hA : ∀ q : Nat, s.heap.size ≤ q → va_A (wM am ac g) s.heap.size q := fun q h => Or.inr h
  have hS := Stt.start hP hD
  show WW p l e rm_X9_rolls s m [.ref (am 0), .int a1] below meth c D (wM am ac r0.2) (va_A (wM am ac g) s.heap.size) (some (.int r0.1)) s.heap [] 0 0 0 ls []
  have hl : lv_has ls 2 [(0, .ref (am 0)), (1, .int a1)] := hl
  rw [f_X9_rolls] at hr
  refine lv_iload_n hx hb dX9_rolls_0 rfl (lv_at hl 1 rfl) ?_
  refine lv_iconst (v := 1) hx hb dX9_rolls_1 rfl ?_
  have hi1 := br_ite hr
  refine lv_icmp_ge (tgt := 12) hx hb dX9_rolls_2 (by decide) (fun c1 => ?_) (fun c1 => ?_)
  · have hr := hi1.1 c1
    refine lv_iload_n hx hb dX9_rolls_12 rfl (lv_at hl 1 rfl) ?_
    refine lv_iconst (v := 3) hx hb dX9_rolls_13 rfl ?_
    have hi2 := br_ite hr
    refine lv_icmp_le (tgt := 24) hx hb dX9_rolls_14 (by decide) (fun c2 => ?_) (fun c2 => ?_)
    · have hr := hi2.1 c2
      refine lv_aload_n hx hb dX9_rolls_24 rfl (lv_at hl 0 rfl) ?_
      refine lv_aload_n hx hb dX9_rolls_25 rfl (lv_at hl 0 rfl) ?_
      refine va_get (D := D) (ci := 8) (v := .int (mG_left g)) (C := RX9) (T := TX9) (N := 26) hx hb hts in_X9 hown hG.1 hP 0 rfl rfl 0 (by decide) (hts _ q1180) (fun _ h9 => h9) rfl dX9_rolls_26 ?_
      refine lv_iload_n hx hb dX9_rolls_29 rfl (lv_at hl 1 rfl) ?_
      obtain ⟨o3, ho3, hr⟩ := br_bind hr
      refine fwS (As := [.int (mG_left g), .int a1]) (rest := [.ref (am 0)]) hx hb hml hown hts (m_X9_turnedBy l (mG_left g) a1 o3 ho3) (cw_X9_turnedBy hts q1317 ⟨Nat.le_of_ble_eq_true rfl, Nat.le_of_ble_eq_true rfl⟩) rfl hl.1 rfl (Nat.le_of_ble_eq_true rfl) dX9_rolls_30 ⟨Nat.le_of_ble_eq_true rfl, Nat.le_of_ble_eq_true rfl⟩ ?_
      obtain ⟨g4, hg4, hr⟩ := br_let hr
      refine fw_put (D := D) (ci := 8) (x := .int o3) (C := RX9) (T := TX9) (N := 26) hx hb hts in_X9 tyX9 tyX9_ok nmX9 hown hG hS 0 rfl rfl 0 (by decide) (hts _ q1180) (fun _ h9 => h9) rfl (tyX9_ok 0 (by decide)) rfl rfl (Nat.le_of_ble_eq_true rfl) dX9_rolls_33 (wn := wM am ac g4) (by rw [hg4]; rfl) (fun H locs hS => ?_)
      have hP := hS.1
      refine lv_aload_n hx hb dX9_rolls_36 rfl (lv_at hl 0 rfl) ?_
      refine va_get (D := D) (ci := 8) (v := .int (mG_left g4)) (C := RX9) (T := TX9) (N := 26) hx hb hts in_X9 hown hG.1 hP 0 rfl rfl 0 (by decide) (hts _ q1180) (fun _ h9 => h9) rfl dX9_rolls_37 ?_
      obtain ⟨o5, ho5, hr⟩ := br_bind hr
      refine fwS (As := [.int (mG_left g4)]) (rest := []) hx hb hml hown hts (m_X9_bits l (mG_left g4) o5 ho5) (cw_X9_bits hts q1338 ⟨Nat.le_of_ble_eq_true rfl, Nat.le_of_ble_eq_true rfl⟩) rfl hl.1 rfl (Nat.le_of_ble_eq_true rfl) dX9_rolls_40 ⟨Nat.le_of_ble_eq_true rfl, Nat.le_of_ble_eq_true rfl⟩ ?_
      obtain rfl := Option.some.inj hr
      refine W.widen (k := rm_X9_rolls.cells) (n := rm_X9_rolls.slots) (Nat.le_of_ble_eq_true rfl) (Nat.le_of_ble_eq_true rfl) ?_
      exact W.iret hx hb hrt (fun t ht _ => hS.q ht rfl) hS.2.2.2.2 dX9_rolls_43 hlk
    · have hr := hi2.2 c2
      refine lv_aload_n hx hb dX9_rolls_17 rfl (lv_at hl 0 rfl) ?_
      refine lv_bipush (v := (-6)) hx hb dX9_rolls_18 rfl ?_
      obtain ⟨o6, ho6, hr⟩ := br_bind hr
      refine fwWVs (As := [.int (-6)]) (rest := []) (C := RX9) hx hb hml hown hts (m_X9_no l D am ac g (-6 : Int32) _ o6 ho6) (cw_X9_no hts q1263 ⟨Nat.le_of_ble_eq_true rfl, Nat.le_of_ble_eq_true rfl⟩) hG hS hA rfl 0 8 rfl rfl rfl hl.1 rfl (Nat.le_of_ble_eq_true rfl) dX9_rolls_20 ⟨Nat.le_of_ble_eq_true rfl, Nat.le_of_ble_eq_true rfl⟩ (fun H locs hS => ?_)
      have hP := hS.1
      obtain rfl := Option.some.inj hr
      refine W.widen (k := rm_X9_rolls.cells) (n := rm_X9_rolls.slots) (Nat.le_of_ble_eq_true rfl) (Nat.le_of_ble_eq_true rfl) ?_
      exact W.iret hx hb hrt (fun t ht _ => hS.q ht rfl) hS.2.2.2.2 dX9_rolls_23 hlk
  · have hr := hi1.2 c1
    refine lv_aload_n hx hb dX9_rolls_5 rfl (lv_at hl 0 rfl) ?_
    refine lv_bipush (v := (-4)) hx hb dX9_rolls_6 rfl ?_
    obtain ⟨o7, ho7, hr⟩ := br_bind hr
    refine fwWVs (As := [.int (-4)]) (rest := []) (C := RX9) hx hb hml hown hts (m_X9_no l D am ac g (-4 : Int32) _ o7 ho7) (cw_X9_no hts q1263 ⟨Nat.le_of_ble_eq_true rfl, Nat.le_of_ble_eq_true rfl⟩) hG hS hA rfl 0 8 rfl rfl rfl hl.1 rfl (Nat.le_of_ble_eq_true rfl) dX9_rolls_8 ⟨Nat.le_of_ble_eq_true rfl, Nat.le_of_ble_eq_true rfl⟩ (fun H locs hS => ?_)
    have hP := hS.1
    obtain rfl := Option.some.inj hr
    refine W.widen (k := rm_X9_rolls.cells) (n := rm_X9_rolls.slots) (Nat.le_of_ble_eq_true rfl) (Nat.le_of_ble_eq_true rfl) ?_
    exact W.iret hx hb hrt (fun t ht _ => hS.q ht rfl) hS.2.2.2.2 dX9_rolls_11 hlk
theorem cw_X9_rolls {R : Room} {s : State} {args : Array Value} {own : String} {index : Nat} (hts : ∀ w ∈ lw_all, w.before args s = true) (hlink : Cond.methodLink own index yX9_rolls ∈ lw_all) (hR : rm_X9_rolls.frames + 1 ≤ R.frames ∧ 8 + (2 + 11) + rm_X9_rolls.locals ≤ R.locals) : CallW R s args own RX9 index yX9_rolls cX9_rolls 2 (some FieldType.int) (ws_ yX9_rolls cX9_rolls 2 (some FieldType.int)) rm_X9_rolls rm_X9_rolls.cells rm_X9_rolls.slots 1 :=
  cwV 1 hts (lw_V hlink q1383 q1384 q111 q1385) rfl rfl rfl (by decide +kernel) hR
def f_X9_turn (g : MS) (a1 : Int32) (a2 : Int32) (a3 : Int32) : Option (Int32 × MS) := Option.bind (f_X9_isHeir g a1) fun o1 => Option.bind (α := Int32) (if o1 = 0 then some (-1) else Option.bind (f_X9_isIn a2 0 5) fun o4 => if o4 = 0 then some (-2) else Option.bind (f_X9_wrongBy a3 9) fun o6 => some o6) fun o3 => if o3 = 0 then if a1 < 0 ∨ 5 ≤ Int32.toNatClampNeg a1 then none else if a1 < 0 ∨ 5 ≤ Int32.toNatClampNeg a1 then none else Option.bind (some ((((10 : Int32) * (mG_kind g (Int32.toNatClampNeg a1))) + (mG_figure g (Int32.toNatClampNeg a1))) : Int32)) fun v10 => if a1 < 0 ∨ 5 ≤ Int32.toNatClampNeg a1 then none else Option.bind (some (mS_kind g (upd (mG_kind g) (Int32.toNatClampNeg a1) a2))) fun g12 => if a1 < 0 ∨ 5 ≤ Int32.toNatClampNeg a1 then none else Option.bind (some (mS_figure g12 (upd (mG_figure g12) (Int32.toNatClampNeg a1) a3))) fun g14 => some (v10, g14) else Option.bind (f_X9_no g o3) fun o15 => some (o15.1, o15.2)
abbrev rm_X9_turn : Room := ({ frames := 3, cells := 0, slots := 0, locals := 62 })
set_option maxHeartbeats 4000000 in
theorem m_X9_turn (l : Launch) (D : va_G) (am : Nat → Nat) (ac : Nat → ClassId) (g : MS) (a1 : Int32) (a2 : Int32) (a3 : Int32) (sz : Nat) (r0 : Int32 × MS) (hr : f_X9_turn g a1 a2 a3 = some r0) : WM l yX9_turn cX9_turn 6 (some FieldType.int) rm_X9_turn [.ref (am 0), .int a1, .int a2, .int a3] D ac (wM am ac g) (wM am ac r0.2) sz (some (.int r0.1)) := by
  refine fw_of (by decide) (Nat.le_of_ble_eq_true rfl) ?_
  intro p e s m below meth c ls hx hb hrt hts hown hlk hml _ hU hl
  obtain ⟨rfl, hP, hG, hD⟩ := hU
  have hA : ∀ q : Nat, s.heap.size ≤ q → va_A (wM am ac g) s.heap.size q := fun q h => Or.inr h
  have hS := Stt.start hP hD
  show WW p l e rm_X9_turn s m [.ref (am 0), .int a1, .int a2, .int a3] below meth c D (wM am ac r0.2) (va_A (wM am ac g) s.heap.size) (some (.int r0.1)) s.heap [] 0 0 0 ls []
  have hl : lv_has ls 6 [(0, .ref (am 0)), (1, .int a1), (2, .int a2), (3, .int a3)] := hl
  rw [f_X9_turn] at hr
  refine lv_aload_n hx hb dX9_turn_0 rfl (lv_at hl 0 rfl) ?_
  refine lv_iload_n hx hb dX9_turn_1 rfl (lv_at hl 1 rfl) ?_
  obtain ⟨o1, ho1, hr⟩ := br_bind hr
  refine fwRV (As := [.int a1]) (rest := []) (C := RX9) hx hb hml hown hts (m_X9_isHeir l D am ac g  a1 o1 ho1) (cw_X9_isHeir hts q1348 ⟨Nat.le_of_ble_eq_true rfl, Nat.le_of_ble_eq_true rfl⟩) hG hP hP 0 8 rfl rfl rfl hl.1 rfl (Nat.le_of_ble_eq_true rfl) dX9_turn_2 ⟨Nat.le_of_ble_eq_true rfl, Nat.le_of_ble_eq_true rfl⟩ ?_
  obtain ⟨o3, ho3, hr⟩ := br_bind hr
  have J3 : ∀ (H : Heap) (locs : List Loc) ls, lv_has ls 6 [(0, .ref (am 0)), (1, .int a1), (2, .int a2), (3, .int a3)] → Stt D (va_A (wM am ac g) s.heap.size) s.heap (wM am ac g) H locs → WW p l e rm_X9_turn s m [.ref (am 0), .int a1, .int a2, .int a3] below meth c D (wM am ac r0.2) (va_A (wM am ac g) s.heap.size) (some (.int r0.1)) H locs 0 0 32 ls [.int o3] := by
    intro H locs ls hl hS
    have hP := hS.1
    refine lv_istore (lv' := [(4, .int o3), (0, .ref (am 0)), (1, .int a1), (2, .int a2), (3, .int a3)]) hx hb dX9_turn_32 hl (by decide) rfl (fun ls hl => ?_)
    refine lv_iload hx hb dX9_turn_34 (lv_at hl 0 rfl) ?_
    have hi7 := br_ite hr
    refine lv_if_eq (tgt := 46) hx hb dX9_turn_36 (by decide) (fun c7 => ?_) (fun c7 => ?_)
    · have hr := hi7.1 c7
      refine lv_bipush (v := 10) hx hb dX9_turn_46 rfl ?_
      refine lv_aload_n hx hb dX9_turn_48 rfl (lv_at hl 1 rfl) ?_
      refine va_get (D := D) (ci := 8) (v := .ref (am 1)) (C := RX9) (T := TX9) (N := 26) hx hb hts in_X9 hown hG.1 hP 0 rfl rfl 9 (by decide) (hts _ q1189) (fun _ h9 => h9) rfl dX9_turn_49 ?_
      refine lv_iload_n hx hb dX9_turn_52 rfl (lv_at hl 2 rfl) ?_
      obtain ⟨c8, hr⟩ := br_none hr
      refine va_iald hx hb hG.1 hP 1 0 rfl rfl c8 dX9_turn_53 ?_
      refine lv_imul hx hb dX9_turn_54 ?_
      refine lv_aload_n hx hb dX9_turn_55 rfl (lv_at hl 1 rfl) ?_
      refine va_get (D := D) (ci := 8) (v := .ref (am 2)) (C := RX9) (T := TX9) (N := 26) hx hb hts in_X9 hown hG.1 hP 0 rfl rfl 10 (by decide) (hts _ q1190) (fun _ h9 => h9) rfl dX9_turn_56 ?_
      refine lv_iload_n hx hb dX9_turn_59 rfl (lv_at hl 2 rfl) ?_
      obtain ⟨c9, hr⟩ := br_none hr
      refine va_iald hx hb hG.1 hP 2 0 rfl rfl c9 dX9_turn_60 ?_
      refine lv_iadd hx hb dX9_turn_61 ?_
      refine lv_topi (fun v10 hv10 => ?_)
      have hr := br_letv hr hv10
      refine lv_istore (lv' := [(5, .int v10), (4, .int o3), (0, .ref (am 0)), (1, .int a1), (2, .int a2), (3, .int a3)]) hx hb dX9_turn_62 hl (by decide) rfl (fun ls hl => ?_)
      refine lv_aload_n hx hb dX9_turn_64 rfl (lv_at hl 2 rfl) ?_
      refine va_get (D := D) (ci := 8) (v := .ref (am 1)) (C := RX9) (T := TX9) (N := 26) hx hb hts in_X9 hown hG.1 hP 0 rfl rfl 9 (by decide) (hts _ q1189) (fun _ h9 => h9) rfl dX9_turn_65 ?_
      refine lv_iload_n hx hb dX9_turn_68 rfl (lv_at hl 3 rfl) ?_
      refine lv_iload_n hx hb dX9_turn_69 rfl (lv_at hl 4 rfl) ?_
      obtain ⟨c11, hr⟩ := br_none hr
      obtain ⟨g12, hg12, hr⟩ := br_let hr
      refine fw_iast hx hb hG hS 1 rfl c11 dX9_turn_70 (wn := wM am ac g12) (by rw [hg12]; rfl) (fun H locs hS => ?_)
      have hP := hS.1
      refine lv_aload_n hx hb dX9_turn_71 rfl (lv_at hl 2 rfl) ?_
      refine va_get (D := D) (ci := 8) (v := .ref (am 2)) (C := RX9) (T := TX9) (N := 26) hx hb hts in_X9 hown hG.1 hP 0 rfl rfl 10 (by decide) (hts _ q1190) (fun _ h9 => h9) rfl dX9_turn_72 ?_
      refine lv_iload_n hx hb dX9_turn_75 rfl (lv_at hl 3 rfl) ?_
      refine lv_iload_n hx hb dX9_turn_76 rfl (lv_at hl 5 rfl) ?_
      obtain ⟨c13, hr⟩ := br_none hr
      obtain ⟨g14, hg14, hr⟩ := br_let hr
      refine fw_iast hx hb hG hS 2 rfl c13 dX9_turn_77 (wn := wM am ac g14) (by rw [hg14]; rfl) (fun H locs hS => ?_)
      have hP := hS.1
      refine lv_iload hx hb dX9_turn_78 (lv_at hl 0 rfl) ?_
      obtain rfl := Option.some.inj hr
      refine W.widen (k := rm_X9_turn.cells) (n := rm_X9_turn.slots) (Nat.le_of_ble_eq_true rfl) (Nat.le_of_ble_eq_true rfl) ?_
      exact W.iret hx hb hrt (fun t ht _ => hS.q ht rfl) hS.2.2.2.2 dX9_turn_80 hlk
    · have hr := hi7.2 c7
      refine lv_aload_n hx hb dX9_turn_39 rfl (lv_at hl 1 rfl) ?_
      refine lv_iload hx hb dX9_turn_40 (lv_at hl 0 rfl) ?_
      obtain ⟨o15, ho15, hr⟩ := br_bind hr
      refine fwWVs (As := [.int o3]) (rest := []) (C := RX9) hx hb hml hown hts (m_X9_no l D am ac g o3 _ o15 ho15) (cw_X9_no hts q1263 ⟨Nat.le_of_ble_eq_true rfl, Nat.le_of_ble_eq_true rfl⟩) hG hS hA rfl 0 8 rfl rfl rfl hl.1 rfl (Nat.le_of_ble_eq_true rfl) dX9_turn_42 ⟨Nat.le_of_ble_eq_true rfl, Nat.le_of_ble_eq_true rfl⟩ (fun H locs hS => ?_)
      have hP := hS.1
      obtain rfl := Option.some.inj hr
      refine W.widen (k := rm_X9_turn.cells) (n := rm_X9_turn.slots) (Nat.le_of_ble_eq_true rfl) (Nat.le_of_ble_eq_true rfl) ?_
      exact W.iret hx hb hrt (fun t ht _ => hS.q ht rfl) hS.2.2.2.2 dX9_turn_45 hlk
  have hr := ho3
  have hi2 := br_ite hr
  refine lv_if_ne (tgt := 12) hx hb dX9_turn_5 (by decide) (fun c2 => ?_) (fun c2 => ?_)
  · have hr := hi2.2 c2
    refine lv_iload_n hx hb dX9_turn_12 rfl (lv_at hl 2 rfl) ?_
    refine lv_iconst (v := 0) hx hb dX9_turn_13 rfl ?_
    refine lv_iconst (v := 5) hx hb dX9_turn_14 rfl ?_
    obtain ⟨o4, ho4, hr⟩ := br_bind hr
    refine fwS (As := [.int a2, .int 0, .int 5]) (rest := []) hx hb hml hown hts (m_X9_isIn l a2 0 5 o4 ho4) (cw_X9_isIn hts q1290 ⟨Nat.le_of_ble_eq_true rfl, Nat.le_of_ble_eq_true rfl⟩) rfl hl.1 rfl (Nat.le_of_ble_eq_true rfl) dX9_turn_15 ⟨Nat.le_of_ble_eq_true rfl, Nat.le_of_ble_eq_true rfl⟩ ?_
    have hi5 := br_ite hr
    refine lv_if_ne (tgt := 26) hx hb dX9_turn_18 (by decide) (fun c5 => ?_) (fun c5 => ?_)
    · have hr := hi5.2 c5
      refine lv_iload_n hx hb dX9_turn_26 rfl (lv_at hl 3 rfl) ?_
      refine lv_bipush (v := 9) hx hb dX9_turn_27 rfl ?_
      obtain ⟨o6, ho6, hr⟩ := br_bind hr
      refine fwS (As := [.int a3, .int 9]) (rest := []) hx hb hml hown hts (m_X9_wrongBy l a3 9 o6 ho6) (cw_X9_wrongBy hts q1390 ⟨Nat.le_of_ble_eq_true rfl, Nat.le_of_ble_eq_true rfl⟩) rfl hl.1 rfl (Nat.le_of_ble_eq_true rfl) dX9_turn_29 ⟨Nat.le_of_ble_eq_true rfl, Nat.le_of_ble_eq_true rfl⟩ ?_
      obtain rfl := Option.some.inj hr
      exact J3 _ _ ls (lv_sub hl [0, 1, 2, 3] rfl) hS
    · have hr := hi5.1 c5
      refine lv_bipush (v := (-2)) hx hb dX9_turn_21 rfl ?_
      refine lv_goto (tgt := 32) hx hb dX9_turn_23 (by decide) ?_
      obtain rfl := Option.some.inj hr
      exact J3 _ _ ls (lv_sub hl [0, 1, 2, 3] rfl) hS
  · have hr := hi2.1 c2
    refine lv_iconst (v := (-1)) hx hb dX9_turn_8 rfl ?_
    refine lv_goto (tgt := 32) hx hb dX9_turn_9 (by decide) ?_
    obtain rfl := Option.some.inj hr
    exact J3 _ _ ls (lv_sub hl [0, 1, 2, 3] rfl) hS
theorem cw_X9_turn {R : Room} {s : State} {args : Array Value} {own : String} {index : Nat} (hts : ∀ w ∈ lw_all, w.before args s = true) (hlink : Cond.methodLink own index yX9_turn ∈ lw_all) (hR : rm_X9_turn.frames + 1 ≤ R.frames ∧ 8 + (6 + 11) + rm_X9_turn.locals ≤ R.locals) : CallW R s args own RX9 index yX9_turn cX9_turn 6 (some FieldType.int) (ws_ yX9_turn cX9_turn 6 (some FieldType.int)) rm_X9_turn rm_X9_turn.cells rm_X9_turn.slots 3 :=
  cwV 3 hts (lw_V hlink q1387 q1388 q111 q1389) rfl rfl rfl (by decide +kernel) hR
def f_X9_anew (g : MS) : Option (Int32 × MS) := Option.bind (some ((mG_bites g) : Int32)) fun v1 => Option.bind (f_X9_allAgain g) fun o2 => some (v1, o2)
abbrev rm_X9_anew : Room := ({ frames := 2, cells := 0, slots := 0, locals := 37 })
set_option maxHeartbeats 4000000 in
theorem m_X9_anew (l : Launch) (D : va_G) (am : Nat → Nat) (ac : Nat → ClassId) (g : MS) (sz : Nat) (r0 : Int32 × MS) (hr : f_X9_anew g = some r0) : WM l yX9_anew cX9_anew 2 (some FieldType.int) rm_X9_anew [.ref (am 0)] D ac (wM am ac g) (wM am ac r0.2) sz (some (.int r0.1)) := by
  refine fw_of (by decide) (Nat.le_of_ble_eq_true rfl) ?_
  intro p e s m below meth c ls hx hb hrt hts hown hlk hml _ hU hl
  obtain ⟨rfl, hP, hG, hD⟩ := hU
  have hA : ∀ q : Nat, s.heap.size ≤ q → va_A (wM am ac g) s.heap.size q := fun q h => Or.inr h
  have hS := Stt.start hP hD
  show WW p l e rm_X9_anew s m [.ref (am 0)] below meth c D (wM am ac r0.2) (va_A (wM am ac g) s.heap.size) (some (.int r0.1)) s.heap [] 0 0 0 ls []
  have hl : lv_has ls 2 [(0, .ref (am 0))] := hl
  rw [f_X9_anew] at hr
  refine lv_aload_n hx hb dX9_anew_0 rfl (lv_at hl 0 rfl) ?_
  refine va_get (D := D) (ci := 8) (v := .int (mG_bites g)) (C := RX9) (T := TX9) (N := 26) hx hb hts in_X9 hown hG.1 hP 0 rfl rfl 1 (by decide) (hts _ q1181) (fun _ h9 => h9) rfl dX9_anew_1 ?_
  refine lv_topi (fun v1 hv1 => ?_)
  have hr := br_letv hr hv1
  refine lv_istore_n (lv' := [(1, .int v1), (0, .ref (am 0))]) hx hb dX9_anew_4 rfl hl (by decide) rfl (fun ls hl => ?_)
  refine lv_aload_n hx hb dX9_anew_5 rfl (lv_at hl 1 rfl) ?_
  obtain ⟨o2, ho2, hr⟩ := br_bind hr
  refine fwWVs (As := []) (rest := []) (C := RX9) hx hb hml hown hts (m_X9_allAgain l D am ac g _ o2 ho2) (cw_X9_allAgain hts q1323 ⟨Nat.le_of_ble_eq_true rfl, Nat.le_of_ble_eq_true rfl⟩) hG hS hA rfl 0 8 rfl rfl rfl hl.1 rfl (Nat.le_of_ble_eq_true rfl) dX9_anew_6 ⟨Nat.le_of_ble_eq_true rfl, Nat.le_of_ble_eq_true rfl⟩ (fun H locs hS => ?_)
  have hP := hS.1
  refine lv_iload_n hx hb dX9_anew_9 rfl (lv_at hl 0 rfl) ?_
  obtain rfl := Option.some.inj hr
  refine W.widen (k := rm_X9_anew.cells) (n := rm_X9_anew.slots) (Nat.le_of_ble_eq_true rfl) (Nat.le_of_ble_eq_true rfl) ?_
  exact W.iret hx hb hrt (fun t ht _ => hS.q ht rfl) hS.2.2.2.2 dX9_anew_10 hlk
theorem cw_X9_anew {R : Room} {s : State} {args : Array Value} {own : String} {index : Nat} (hts : ∀ w ∈ lw_all, w.before args s = true) (hlink : Cond.methodLink own index yX9_anew ∈ lw_all) (hR : rm_X9_anew.frames + 1 ≤ R.frames ∧ 8 + (2 + 11) + rm_X9_anew.locals ≤ R.locals) : CallW R s args own RX9 index yX9_anew cX9_anew 2 (some FieldType.int) (ws_ yX9_anew cX9_anew 2 (some FieldType.int)) rm_X9_anew rm_X9_anew.cells rm_X9_anew.slots 0 :=
  cwV 0 hts (lw_V hlink q1394 q1395 q111 q1396) rfl rfl rfl (by decide +kernel) hR
def f_X9_sharesOf_L4 (g : MS) (a1 : Int32) : Nat → Int32 → Int32 → Option (Int32)
  | 0, _, _ => none
  | n + 1, x3_1, x2_1 => if (mG_many g) ≤ x3_1 then some x2_1 else Option.bind (f_X9_shareOf g a1 x3_1) fun o3 => Option.bind (some ((x2_1 + o3) : Int32)) fun v4 => Option.bind (some ((x3_1 + 1) : Int32)) fun v5 => f_X9_sharesOf_L4 g a1 n v5 v4
def f_X9_sharesOf (g : MS) (a1 : Int32) : Option (Int32) := Option.bind (f_X9_sharesOf_L4 g a1 1000 0 0) fun o1 => some o1
abbrev rm_X9_sharesOf : Room := ({ frames := 6, cells := 0, slots := 0, locals := 136 })
set_option maxHeartbeats 4000000 in
theorem m_X9_sharesOf (l : Launch) (D : va_G) (am : Nat → Nat) (ac : Nat → ClassId) (g : MS) (a1 : Int32) (r0 : Int32) (hr : f_X9_sharesOf g a1 = some r0) : PM l yX9_sharesOf cX9_sharesOf 4 (some FieldType.int) rm_X9_sharesOf [.ref (am 0), .int a1] (RP D ac (wM am ac g)) (some (.int r0)) := by
  refine fw_of (by decide) (Nat.le_of_ble_eq_true rfl) ?_
  intro p e s m below meth c ls hx hb hrt hts hown hlk hml _ hU hl
  obtain ⟨hP, hG⟩ := hU
  have hl : lv_has ls 4 [(0, .ref (am 0)), (1, .int a1)] := hl
  rw [f_X9_sharesOf] at hr
  refine lv_iconst (v := 0) hx hb dX9_sharesOf_0 rfl ?_
  refine lv_istore_n (lv' := [(2, .int 0), (0, .ref (am 0)), (1, .int a1)]) hx hb dX9_sharesOf_1 rfl hl (by decide) rfl (fun ls hl => ?_)
  refine lv_iconst (v := 0) hx hb dX9_sharesOf_2 rfl ?_
  refine lv_istore_n (lv' := [(3, .int 0), (2, .int 0), (0, .ref (am 0)), (1, .int a1)]) hx hb dX9_sharesOf_3 rfl hl (by decide) rfl (fun ls hl => ?_)
  have L1 : ∀ (n : Nat) (x3_1 : Int32) (x2_1 : Int32) (o1 : Int32), f_X9_sharesOf_L4 g a1 n x3_1 x2_1 = some o1 → ∀ ls, lv_has ls 4 [(3, .int x3_1), (2, .int x2_1), (0, .ref (am 0)), (1, .int a1)] → (∀ ls, lv_has ls 4 [(2, .int o1)] → WP p l e rm_X9_sharesOf s m [.ref (am 0), .int a1] below meth c (some (.int r0)) 27 ls []) → WP p l e rm_X9_sharesOf s m [.ref (am 0), .int a1] below meth c (some (.int r0)) 4 ls [] := by
    intro n
    induction n with
    | zero => intro x3_1 x2_1 o1 hr; rw [f_X9_sharesOf_L4] at hr; cases hr
    | succ n ih =>
      intro x3_1 x2_1 o1 hr ls hl kx
      rw [f_X9_sharesOf_L4] at hr
      refine lv_iload_n hx hb dX9_sharesOf_4 rfl (lv_at hl 0 rfl) ?_
      refine lv_aload_n hx hb dX9_sharesOf_5 rfl (lv_at hl 2 rfl) ?_
      refine va_get (D := D) (ci := 8) (v := .int (mG_many g)) (C := RX9) (T := TX9) (N := 26) hx hb hts in_X9 hown hG.1 hP 0 rfl rfl 2 (by decide) (hts _ q1182) (fun _ h9 => h9) rfl dX9_sharesOf_6 ?_
      have hi2 := br_ite hr
      refine lv_icmp_ge (tgt := 27) hx hb dX9_sharesOf_9 (by decide) (fun c2 => ?_) (fun c2 => ?_)
      · have hr := hi2.1 c2
        obtain rfl := Option.some.inj hr
        exact kx ls (lv_sub hl [1] rfl)
      · have hr := hi2.2 c2
        refine lv_iload_n hx hb dX9_sharesOf_12 rfl (lv_at hl 1 rfl) ?_
        refine lv_aload_n hx hb dX9_sharesOf_13 rfl (lv_at hl 2 rfl) ?_
        refine lv_iload_n hx hb dX9_sharesOf_14 rfl (lv_at hl 3 rfl) ?_
        refine lv_iload_n hx hb dX9_sharesOf_15 rfl (lv_at hl 0 rfl) ?_
        obtain ⟨o3, ho3, hr⟩ := br_bind hr
        refine fwRV (As := [.int a1, .int x3_1]) (rest := [.int x2_1]) (C := RX9) hx hb hml hown hts (m_X9_shareOf l D am ac g  a1 x3_1 o3 ho3) (cw_X9_shareOf hts q1352 ⟨Nat.le_of_ble_eq_true rfl, Nat.le_of_ble_eq_true rfl⟩) hG hP hP 0 8 rfl rfl rfl hl.1 rfl (Nat.le_of_ble_eq_true rfl) dX9_sharesOf_16 ⟨Nat.le_of_ble_eq_true rfl, Nat.le_of_ble_eq_true rfl⟩ ?_
        refine lv_iadd hx hb dX9_sharesOf_19 ?_
        refine lv_topi (fun v4 hv4 => ?_)
        have hr := br_letv hr hv4
        refine lv_istore_n (lv' := [(2, .int v4), (3, .int x3_1), (0, .ref (am 0)), (1, .int a1)]) hx hb dX9_sharesOf_20 rfl hl (by decide) rfl (fun ls hl => ?_)
        obtain ⟨v5, hv5, hr⟩ := br_let hr
        refine lv_iinc (v := v5) (lv' := [(3, .int v5), (2, .int v4), (0, .ref (am 0)), (1, .int a1)]) hx hb dX9_sharesOf_21 hl (k := 1) rfl (hv5 ▸ rfl) (by decide) rfl (fun ls hl => ?_)
        refine lv_goto (tgt := 4) hx hb dX9_sharesOf_24 (by decide) ?_
        exact ih v5 v4 _ hr ls (lv_sub hl [0, 1, 2, 3] rfl) kx
  obtain ⟨o1, ho1, hr⟩ := br_bind hr
  refine L1 1000 0 0 o1 ho1 ls (lv_sub hl [0, 1, 2, 3] rfl) (fun ls hl => ?_)
  refine lv_iload_n hx hb dX9_sharesOf_27 rfl (lv_at hl 0 rfl) ?_
  exact W.iret hx hb hrt (fun t ht _ => ⟨ret_i hr, ht⟩) noB dX9_sharesOf_28 hlk
theorem cw_X9_sharesOf {R : Room} {s : State} {args : Array Value} {own : String} {index : Nat} (hts : ∀ w ∈ lw_all, w.before args s = true) (hlink : Cond.methodLink own index yX9_sharesOf ∈ lw_all) (hR : rm_X9_sharesOf.frames + 1 ≤ R.frames ∧ 8 + (4 + 11) + rm_X9_sharesOf.locals ≤ R.locals) : CallW R s args own RX9 index yX9_sharesOf cX9_sharesOf 4 (some FieldType.int) (ws_ yX9_sharesOf cX9_sharesOf 4 (some FieldType.int)) rm_X9_sharesOf rm_X9_sharesOf.cells rm_X9_sharesOf.slots 1 :=
  cwV 1 hts (lw_V hlink q1403 qs87 q111 q1404) rfl rfl rfl (by decide +kernel) hR
def f_X9_shares_L34 (g : MS) : Nat → Int32 → Int32 → Option (Int32)
  | 0, _, _ => none
  | n + 1, x3_4, x2_4 => if (mG_many g) ≤ x3_4 then some x2_4 else if x2_4 < 0 then Option.bind (some ((x3_4 + 1) : Int32)) fun v7 => f_X9_shares_L34 g n v7 x3_4 else Option.bind (f_X9_shareOf g (mG_left g) x3_4) fun o8 => Option.bind (f_X9_shareOf g (mG_left g) x2_4) fun o9 => if o8 ≤ o9 then Option.bind (some ((x3_4 + 1) : Int32)) fun v11 => f_X9_shares_L34 g n v11 x2_4 else Option.bind (some ((x3_4 + 1) : Int32)) fun v12 => f_X9_shares_L34 g n v12 x3_4
def f_X9_shares (g : MS) (a1 : Int32) : Option (Int32 × MS) := Option.bind (f_X9_isIn a1 0 1) fun o1 => if o1 = 0 then Option.bind (f_X9_no g (-2 : Int32)) fun o14 => some (o14.1, o14.2) else if a1 = 0 then Option.bind (f_X9_sharesOf g (mG_left g)) fun o13 => some (o13, g) else Option.bind (f_X9_shares_L34 g 1000 0 (-9)) fun o4 => some (o4, g)
abbrev rm_X9_shares : Room := ({ frames := 7, cells := 0, slots := 0, locals := 159 })
set_option maxHeartbeats 4000000 in
theorem m_X9_shares (l : Launch) (D : va_G) (am : Nat → Nat) (ac : Nat → ClassId) (g : MS) (a1 : Int32) (sz : Nat) (r0 : Int32 × MS) (hr : f_X9_shares g a1 = some r0) : WM l yX9_shares cX9_shares 4 (some FieldType.int) rm_X9_shares [.ref (am 0), .int a1] D ac (wM am ac g) (wM am ac r0.2) sz (some (.int r0.1)) := by
  refine fw_of (by decide) (Nat.le_of_ble_eq_true rfl) ?_
  intro p e s m below meth c ls hx hb hrt hts hown hlk hml _ hU hl
  obtain ⟨rfl, hP, hG, hD⟩ := hU
  have hA : ∀ q : Nat, s.heap.size ≤ q → va_A (wM am ac g) s.heap.size q := fun q h => Or.inr h
  have hS := Stt.start hP hD
  show WW p l e rm_X9_shares s m [.ref (am 0), .int a1] below meth c D (wM am ac r0.2) (va_A (wM am ac g) s.heap.size) (some (.int r0.1)) s.heap [] 0 0 0 ls []
  have hl : lv_has ls 4 [(0, .ref (am 0)), (1, .int a1)] := hl
  rw [f_X9_shares] at hr
  refine lv_iload_n hx hb dX9_shares_0 rfl (lv_at hl 1 rfl) ?_
  refine lv_iconst (v := 0) hx hb dX9_shares_1 rfl ?_
  refine lv_iconst (v := 1) hx hb dX9_shares_2 rfl ?_
  obtain ⟨o1, ho1, hr⟩ := br_bind hr
  refine fwS (As := [.int a1, .int 0, .int 1]) (rest := []) hx hb hml hown hts (m_X9_isIn l a1 0 1 o1 ho1) (cw_X9_isIn hts q1290 ⟨Nat.le_of_ble_eq_true rfl, Nat.le_of_ble_eq_true rfl⟩) rfl hl.1 rfl (Nat.le_of_ble_eq_true rfl) dX9_shares_3 ⟨Nat.le_of_ble_eq_true rfl, Nat.le_of_ble_eq_true rfl⟩ ?_
  have hi2 := br_ite hr
  refine lv_if_ne (tgt := 16) hx hb dX9_shares_6 (by decide) (fun c2 => ?_) (fun c2 => ?_)
  · have hr := hi2.2 c2
    refine lv_iload_n hx hb dX9_shares_16 rfl (lv_at hl 1 rfl) ?_
    have hi3 := br_ite hr
    refine lv_if_ne (tgt := 29) hx hb dX9_shares_17 (by decide) (fun c3 => ?_) (fun c3 => ?_)
    · have hr := hi3.2 c3
      refine lv_bipush (v := (-9)) hx hb dX9_shares_29 rfl ?_
      refine lv_istore_n (lv' := [(2, .int (-9)), (0, .ref (am 0)), (1, .int a1)]) hx hb dX9_shares_31 rfl hl (by decide) rfl (fun ls hl => ?_)
      refine lv_iconst (v := 0) hx hb dX9_shares_32 rfl ?_
      refine lv_istore_n (lv' := [(3, .int 0), (2, .int (-9)), (0, .ref (am 0)), (1, .int a1)]) hx hb dX9_shares_33 rfl hl (by decide) rfl (fun ls hl => ?_)
      have L4 : ∀ (n : Nat) (x3_4 : Int32) (x2_4 : Int32) (o4 : Int32), f_X9_shares_L34 g n x3_4 x2_4 = some o4 → ∀ (H : Heap) (locs : List Loc) ls, lv_has ls 4 [(3, .int x3_4), (2, .int x2_4), (0, .ref (am 0))] → Stt D (va_A (wM am ac g) s.heap.size) s.heap (wM am ac g) H locs → (∀ (H : Heap) (locs : List Loc) ls, lv_has ls 4 [(2, .int o4)] → Stt D (va_A (wM am ac g) s.heap.size) s.heap (wM am ac g) H locs → WW p l e rm_X9_shares s m [.ref (am 0), .int a1] below meth c D (wM am ac r0.2) (va_A (wM am ac g) s.heap.size) (some (.int r0.1)) H locs 0 0 75 ls []) → WW p l e rm_X9_shares s m [.ref (am 0), .int a1] below meth c D (wM am ac r0.2) (va_A (wM am ac g) s.heap.size) (some (.int r0.1)) H locs 0 0 34 ls [] := by
        intro n
        induction n with
        | zero => intro x3_4 x2_4 o4 hr; rw [f_X9_shares_L34] at hr; cases hr
        | succ n ih =>
          intro x3_4 x2_4 o4 hr H locs ls hl hS kx
          have hP := hS.1
          rw [f_X9_shares_L34] at hr
          refine lv_iload_n hx hb dX9_shares_34 rfl (lv_at hl 0 rfl) ?_
          refine lv_aload_n hx hb dX9_shares_35 rfl (lv_at hl 2 rfl) ?_
          refine va_get (D := D) (ci := 8) (v := .int (mG_many g)) (C := RX9) (T := TX9) (N := 26) hx hb hts in_X9 hown hG.1 hP 0 rfl rfl 2 (by decide) (hts _ q1182) (fun _ h9 => h9) rfl dX9_shares_36 ?_
          have hi5 := br_ite hr
          refine lv_icmp_ge (tgt := 75) hx hb dX9_shares_39 (by decide) (fun c5 => ?_) (fun c5 => ?_)
          · have hr := hi5.1 c5
            obtain rfl := Option.some.inj hr
            exact kx _ _ ls (lv_sub hl [1] rfl) hS
          · have hr := hi5.2 c5
            refine lv_iload_n hx hb dX9_shares_42 rfl (lv_at hl 1 rfl) ?_
            have hi6 := br_ite hr
            refine lv_if_lt (tgt := 67) hx hb dX9_shares_43 (by decide) (fun c6 => ?_) (fun c6 => ?_)
            · have hr := hi6.1 c6
              refine lv_iload_n hx hb dX9_shares_67 rfl (lv_at hl 0 rfl) ?_
              refine lv_istore_n (lv' := [(2, .int x3_4), (3, .int x3_4), (0, .ref (am 0))]) hx hb dX9_shares_68 rfl hl (by decide) rfl (fun ls hl => ?_)
              obtain ⟨v7, hv7, hr⟩ := br_let hr
              refine lv_iinc (v := v7) (lv' := [(3, .int v7), (2, .int x3_4), (0, .ref (am 0))]) hx hb dX9_shares_69 hl (k := 1) rfl (hv7 ▸ rfl) (by decide) rfl (fun ls hl => ?_)
              refine lv_goto (tgt := 34) hx hb dX9_shares_72 (by decide) ?_
              exact ih v7 x3_4 _ hr _ _ ls (lv_sub hl [0, 1, 2] rfl) hS kx
            · have hr := hi6.2 c6
              refine lv_aload_n hx hb dX9_shares_46 rfl (lv_at hl 2 rfl) ?_
              refine lv_aload_n hx hb dX9_shares_47 rfl (lv_at hl 2 rfl) ?_
              refine va_get (D := D) (ci := 8) (v := .int (mG_left g)) (C := RX9) (T := TX9) (N := 26) hx hb hts in_X9 hown hG.1 hP 0 rfl rfl 0 (by decide) (hts _ q1180) (fun _ h9 => h9) rfl dX9_shares_48 ?_
              refine lv_iload_n hx hb dX9_shares_51 rfl (lv_at hl 0 rfl) ?_
              obtain ⟨o8, ho8, hr⟩ := br_bind hr
              refine fwRV (As := [.int (mG_left g), .int x3_4]) (rest := []) (C := RX9) hx hb hml hown hts (m_X9_shareOf l D am ac g  (mG_left g) x3_4 o8 ho8) (cw_X9_shareOf hts q1352 ⟨Nat.le_of_ble_eq_true rfl, Nat.le_of_ble_eq_true rfl⟩) hG hP hP 0 8 rfl rfl rfl hl.1 rfl (Nat.le_of_ble_eq_true rfl) dX9_shares_52 ⟨Nat.le_of_ble_eq_true rfl, Nat.le_of_ble_eq_true rfl⟩ ?_
              refine lv_aload_n hx hb dX9_shares_55 rfl (lv_at hl 2 rfl) ?_
              refine lv_aload_n hx hb dX9_shares_56 rfl (lv_at hl 2 rfl) ?_
              refine va_get (D := D) (ci := 8) (v := .int (mG_left g)) (C := RX9) (T := TX9) (N := 26) hx hb hts in_X9 hown hG.1 hP 0 rfl rfl 0 (by decide) (hts _ q1180) (fun _ h9 => h9) rfl dX9_shares_57 ?_
              refine lv_iload_n hx hb dX9_shares_60 rfl (lv_at hl 1 rfl) ?_
              obtain ⟨o9, ho9, hr⟩ := br_bind hr
              refine fwRV (As := [.int (mG_left g), .int x2_4]) (rest := [.int o8]) (C := RX9) hx hb hml hown hts (m_X9_shareOf l D am ac g  (mG_left g) x2_4 o9 ho9) (cw_X9_shareOf hts q1352 ⟨Nat.le_of_ble_eq_true rfl, Nat.le_of_ble_eq_true rfl⟩) hG hP hP 0 8 rfl rfl rfl hl.1 rfl (Nat.le_of_ble_eq_true rfl) dX9_shares_61 ⟨Nat.le_of_ble_eq_true rfl, Nat.le_of_ble_eq_true rfl⟩ ?_
              have hi10 := br_ite hr
              refine lv_icmp_le (tgt := 69) hx hb dX9_shares_64 (by decide) (fun c10 => ?_) (fun c10 => ?_)
              · have hr := hi10.1 c10
                obtain ⟨v11, hv11, hr⟩ := br_let hr
                refine lv_iinc (v := v11) (lv' := [(3, .int v11), (2, .int x2_4), (0, .ref (am 0))]) hx hb dX9_shares_69 hl (k := 0) rfl (hv11 ▸ rfl) (by decide) rfl (fun ls hl => ?_)
                refine lv_goto (tgt := 34) hx hb dX9_shares_72 (by decide) ?_
                exact ih v11 x2_4 _ hr _ _ ls (lv_sub hl [0, 1, 2] rfl) hS kx
              · have hr := hi10.2 c10
                refine lv_iload_n hx hb dX9_shares_67 rfl (lv_at hl 0 rfl) ?_
                refine lv_istore_n (lv' := [(2, .int x3_4), (3, .int x3_4), (0, .ref (am 0))]) hx hb dX9_shares_68 rfl hl (by decide) rfl (fun ls hl => ?_)
                obtain ⟨v12, hv12, hr⟩ := br_let hr
                refine lv_iinc (v := v12) (lv' := [(3, .int v12), (2, .int x3_4), (0, .ref (am 0))]) hx hb dX9_shares_69 hl (k := 1) rfl (hv12 ▸ rfl) (by decide) rfl (fun ls hl => ?_)
                refine lv_goto (tgt := 34) hx hb dX9_shares_72 (by decide) ?_
                exact ih v12 x3_4 _ hr _ _ ls (lv_sub hl [0, 1, 2] rfl) hS kx
      obtain ⟨o4, ho4, hr⟩ := br_bind hr
      refine L4 1000 0 (-9) o4 ho4 _ _ ls (lv_sub hl [0, 1, 2] rfl) hS (fun H locs ls hl hS => ?_)
      have hP := hS.1
      refine lv_iload_n hx hb dX9_shares_75 rfl (lv_at hl 0 rfl) ?_
      obtain rfl := Option.some.inj hr
      refine W.widen (k := rm_X9_shares.cells) (n := rm_X9_shares.slots) (Nat.le_of_ble_eq_true rfl) (Nat.le_of_ble_eq_true rfl) ?_
      exact W.iret hx hb hrt (fun t ht _ => hS.q ht rfl) hS.2.2.2.2 dX9_shares_76 hlk
    · have hr := hi3.1 c3
      refine lv_aload_n hx hb dX9_shares_20 rfl (lv_at hl 0 rfl) ?_
      refine lv_aload_n hx hb dX9_shares_21 rfl (lv_at hl 0 rfl) ?_
      refine va_get (D := D) (ci := 8) (v := .int (mG_left g)) (C := RX9) (T := TX9) (N := 26) hx hb hts in_X9 hown hG.1 hP 0 rfl rfl 0 (by decide) (hts _ q1180) (fun _ h9 => h9) rfl dX9_shares_22 ?_
      obtain ⟨o13, ho13, hr⟩ := br_bind hr
      refine fwRV (As := [.int (mG_left g)]) (rest := []) (C := RX9) hx hb hml hown hts (m_X9_sharesOf l D am ac g  (mG_left g) o13 ho13) (cw_X9_sharesOf hts q1401 ⟨Nat.le_of_ble_eq_true rfl, Nat.le_of_ble_eq_true rfl⟩) hG hP hP 0 8 rfl rfl rfl hl.1 rfl (Nat.le_of_ble_eq_true rfl) dX9_shares_25 ⟨Nat.le_of_ble_eq_true rfl, Nat.le_of_ble_eq_true rfl⟩ ?_
      obtain rfl := Option.some.inj hr
      refine W.widen (k := rm_X9_shares.cells) (n := rm_X9_shares.slots) (Nat.le_of_ble_eq_true rfl) (Nat.le_of_ble_eq_true rfl) ?_
      exact W.iret hx hb hrt (fun t ht _ => hS.q ht rfl) hS.2.2.2.2 dX9_shares_28 hlk
  · have hr := hi2.1 c2
    refine lv_aload_n hx hb dX9_shares_9 rfl (lv_at hl 0 rfl) ?_
    refine lv_bipush (v := (-2)) hx hb dX9_shares_10 rfl ?_
    obtain ⟨o14, ho14, hr⟩ := br_bind hr
    refine fwWVs (As := [.int (-2)]) (rest := []) (C := RX9) hx hb hml hown hts (m_X9_no l D am ac g (-2 : Int32) _ o14 ho14) (cw_X9_no hts q1263 ⟨Nat.le_of_ble_eq_true rfl, Nat.le_of_ble_eq_true rfl⟩) hG hS hA rfl 0 8 rfl rfl rfl hl.1 rfl (Nat.le_of_ble_eq_true rfl) dX9_shares_12 ⟨Nat.le_of_ble_eq_true rfl, Nat.le_of_ble_eq_true rfl⟩ (fun H locs hS => ?_)
    have hP := hS.1
    obtain rfl := Option.some.inj hr
    refine W.widen (k := rm_X9_shares.cells) (n := rm_X9_shares.slots) (Nat.le_of_ble_eq_true rfl) (Nat.le_of_ble_eq_true rfl) ?_
    exact W.iret hx hb hrt (fun t ht _ => hS.q ht rfl) hS.2.2.2.2 dX9_shares_15 hlk
theorem cw_X9_shares {R : Room} {s : State} {args : Array Value} {own : String} {index : Nat} (hts : ∀ w ∈ lw_all, w.before args s = true) (hlink : Cond.methodLink own index yX9_shares ∈ lw_all) (hR : rm_X9_shares.frames + 1 ≤ R.frames ∧ 8 + (4 + 11) + rm_X9_shares.locals ≤ R.locals) : CallW R s args own RX9 index yX9_shares cX9_shares 4 (some FieldType.int) (ws_ yX9_shares cX9_shares 4 (some FieldType.int)) rm_X9_shares rm_X9_shares.cells rm_X9_shares.slots 1 :=
  cwV 1 hts (lw_V hlink q1398 q1399 q111 q1400) rfl rfl rfl (by decide +kernel) hR
def f_X9_pieces (g : MS) (a1 : Int32) : Option (Int32 × MS) := Option.bind (f_X9_deed (mG_left g)) fun o1 => if a1 = 0 then Option.bind (f_X9_heaps (mG_left g)) fun o6 => some (o6, g) else if a1 = 1 then Option.bind (f_X9_leastHeap (mG_left g)) fun o7 => some (o7, g) else if a1 = 2 then if o1 = 0 then some ((-9), g) else Option.bind (f_X9_leastOf o1) fun o9 => some (o9, g) else if a1 = 3 then if o1 = 0 then some ((-9), g) else Option.bind (f_X9_bits o1) fun o11 => some (o11, g) else Option.bind (f_X9_no g (-2 : Int32)) fun o12 => some (o12.1, o12.2)
abbrev rm_X9_pieces : Room := ({ frames := 4, cells := 0, slots := 0, locals := 88 })
set_option maxHeartbeats 4000000 in
theorem m_X9_pieces (l : Launch) (D : va_G) (am : Nat → Nat) (ac : Nat → ClassId) (g : MS) (a1 : Int32) (sz : Nat) (r0 : Int32 × MS) (hr : f_X9_pieces g a1 = some r0) : WM l yX9_pieces cX9_pieces 3 (some FieldType.int) rm_X9_pieces [.ref (am 0), .int a1] D ac (wM am ac g) (wM am ac r0.2) sz (some (.int r0.1)) := by
  refine fw_of (by decide) (Nat.le_of_ble_eq_true rfl) ?_
  intro p e s m below meth c ls hx hb hrt hts hown hlk hml _ hU hl
  obtain ⟨rfl, hP, hG, hD⟩ := hU
  have hA : ∀ q : Nat, s.heap.size ≤ q → va_A (wM am ac g) s.heap.size q := fun q h => Or.inr h
  have hS := Stt.start hP hD
  show WW p l e rm_X9_pieces s m [.ref (am 0), .int a1] below meth c D (wM am ac r0.2) (va_A (wM am ac g) s.heap.size) (some (.int r0.1)) s.heap [] 0 0 0 ls []
  have hl : lv_has ls 3 [(0, .ref (am 0)), (1, .int a1)] := hl
  rw [f_X9_pieces] at hr
  refine lv_aload_n hx hb dX9_pieces_0 rfl (lv_at hl 0 rfl) ?_
  refine va_get (D := D) (ci := 8) (v := .int (mG_left g)) (C := RX9) (T := TX9) (N := 26) hx hb hts in_X9 hown hG.1 hP 0 rfl rfl 0 (by decide) (hts _ q1180) (fun _ h9 => h9) rfl dX9_pieces_1 ?_
  obtain ⟨o1, ho1, hr⟩ := br_bind hr
  refine fwS (As := [.int (mG_left g)]) (rest := []) hx hb hml hown hts (m_X9_deed l (mG_left g) o1 ho1) (cw_X9_deed hts q1359 ⟨Nat.le_of_ble_eq_true rfl, Nat.le_of_ble_eq_true rfl⟩) rfl hl.1 rfl (Nat.le_of_ble_eq_true rfl) dX9_pieces_4 ⟨Nat.le_of_ble_eq_true rfl, Nat.le_of_ble_eq_true rfl⟩ ?_
  refine lv_istore_n (lv' := [(2, .int o1), (0, .ref (am 0)), (1, .int a1)]) hx hb dX9_pieces_7 rfl hl (by decide) rfl (fun ls hl => ?_)
  refine lv_iload_n hx hb dX9_pieces_8 rfl (lv_at hl 2 rfl) ?_
  have hi2 := br_ite hr
  by_cases c2 : a1 = 0
  · have hr := hi2.1 c2
    refine lv_tableIn (tgt := 40) hx hb dX9_pieces_9 (by rw [c2]; decide) (by rw [c2]; decide) (by rw [c2]; rfl) (by decide) ?_
    refine lv_aload_n hx hb dX9_pieces_40 rfl (lv_at hl 1 rfl) ?_
    refine va_get (D := D) (ci := 8) (v := .int (mG_left g)) (C := RX9) (T := TX9) (N := 26) hx hb hts in_X9 hown hG.1 hP 0 rfl rfl 0 (by decide) (hts _ q1180) (fun _ h9 => h9) rfl dX9_pieces_41 ?_
    obtain ⟨o6, ho6, hr⟩ := br_bind hr
    refine fwS (As := [.int (mG_left g)]) (rest := []) hx hb hml hown hts (m_X9_heaps l (mG_left g) o6 ho6) (cw_X9_heaps hts q1371 ⟨Nat.le_of_ble_eq_true rfl, Nat.le_of_ble_eq_true rfl⟩) rfl hl.1 rfl (Nat.le_of_ble_eq_true rfl) dX9_pieces_44 ⟨Nat.le_of_ble_eq_true rfl, Nat.le_of_ble_eq_true rfl⟩ ?_
    obtain rfl := Option.some.inj hr
    refine W.widen (k := rm_X9_pieces.cells) (n := rm_X9_pieces.slots) (Nat.le_of_ble_eq_true rfl) (Nat.le_of_ble_eq_true rfl) ?_
    exact W.iret hx hb hrt (fun t ht _ => hS.q ht rfl) hS.2.2.2.2 dX9_pieces_47 hlk
  have hr := hi2.2 c2
  have hi3 := br_ite hr
  by_cases c3 : a1 = 1
  · have hr := hi3.1 c3
    refine lv_tableIn (tgt := 48) hx hb dX9_pieces_9 (by rw [c3]; decide) (by rw [c3]; decide) (by rw [c3]; rfl) (by decide) ?_
    refine lv_aload_n hx hb dX9_pieces_48 rfl (lv_at hl 1 rfl) ?_
    refine va_get (D := D) (ci := 8) (v := .int (mG_left g)) (C := RX9) (T := TX9) (N := 26) hx hb hts in_X9 hown hG.1 hP 0 rfl rfl 0 (by decide) (hts _ q1180) (fun _ h9 => h9) rfl dX9_pieces_49 ?_
    obtain ⟨o7, ho7, hr⟩ := br_bind hr
    refine fwS (As := [.int (mG_left g)]) (rest := []) hx hb hml hown hts (m_X9_leastHeap l (mG_left g) o7 ho7) (cw_X9_leastHeap hts q1409 ⟨Nat.le_of_ble_eq_true rfl, Nat.le_of_ble_eq_true rfl⟩) rfl hl.1 rfl (Nat.le_of_ble_eq_true rfl) dX9_pieces_52 ⟨Nat.le_of_ble_eq_true rfl, Nat.le_of_ble_eq_true rfl⟩ ?_
    obtain rfl := Option.some.inj hr
    refine W.widen (k := rm_X9_pieces.cells) (n := rm_X9_pieces.slots) (Nat.le_of_ble_eq_true rfl) (Nat.le_of_ble_eq_true rfl) ?_
    exact W.iret hx hb hrt (fun t ht _ => hS.q ht rfl) hS.2.2.2.2 dX9_pieces_55 hlk
  have hr := hi3.2 c3
  have hi4 := br_ite hr
  by_cases c4 : a1 = 2
  · have hr := hi4.1 c4
    refine lv_tableIn (tgt := 56) hx hb dX9_pieces_9 (by rw [c4]; decide) (by rw [c4]; decide) (by rw [c4]; rfl) (by decide) ?_
    refine lv_iload_n hx hb dX9_pieces_56 rfl (lv_at hl 0 rfl) ?_
    have hi8 := br_ite hr
    refine lv_if_ne (tgt := 65) hx hb dX9_pieces_57 (by decide) (fun c8 => ?_) (fun c8 => ?_)
    · have hr := hi8.2 c8
      refine lv_iload_n hx hb dX9_pieces_65 rfl (lv_at hl 0 rfl) ?_
      obtain ⟨o9, ho9, hr⟩ := br_bind hr
      refine fwS (As := [.int o1]) (rest := []) hx hb hml hown hts (m_X9_leastOf l o1 o9 ho9) (cw_X9_leastOf hts q1362 ⟨Nat.le_of_ble_eq_true rfl, Nat.le_of_ble_eq_true rfl⟩) rfl hl.1 rfl (Nat.le_of_ble_eq_true rfl) dX9_pieces_66 ⟨Nat.le_of_ble_eq_true rfl, Nat.le_of_ble_eq_true rfl⟩ ?_
      obtain rfl := Option.some.inj hr
      refine W.widen (k := rm_X9_pieces.cells) (n := rm_X9_pieces.slots) (Nat.le_of_ble_eq_true rfl) (Nat.le_of_ble_eq_true rfl) ?_
      exact W.iret hx hb hrt (fun t ht _ => hS.q ht rfl) hS.2.2.2.2 dX9_pieces_69 hlk
    · have hr := hi8.1 c8
      refine lv_bipush (v := (-9)) hx hb dX9_pieces_60 rfl ?_
      refine lv_goto (tgt := 69) hx hb dX9_pieces_62 (by decide) ?_
      obtain rfl := Option.some.inj hr
      refine W.widen (k := rm_X9_pieces.cells) (n := rm_X9_pieces.slots) (Nat.le_of_ble_eq_true rfl) (Nat.le_of_ble_eq_true rfl) ?_
      exact W.iret hx hb hrt (fun t ht _ => hS.q ht rfl) hS.2.2.2.2 dX9_pieces_69 hlk
  have hr := hi4.2 c4
  have hi5 := br_ite hr
  by_cases c5 : a1 = 3
  · have hr := hi5.1 c5
    refine lv_tableIn (tgt := 70) hx hb dX9_pieces_9 (by rw [c5]; decide) (by rw [c5]; decide) (by rw [c5]; rfl) (by decide) ?_
    refine lv_iload_n hx hb dX9_pieces_70 rfl (lv_at hl 0 rfl) ?_
    have hi10 := br_ite hr
    refine lv_if_ne (tgt := 79) hx hb dX9_pieces_71 (by decide) (fun c10 => ?_) (fun c10 => ?_)
    · have hr := hi10.2 c10
      refine lv_iload_n hx hb dX9_pieces_79 rfl (lv_at hl 0 rfl) ?_
      obtain ⟨o11, ho11, hr⟩ := br_bind hr
      refine fwS (As := [.int o1]) (rest := []) hx hb hml hown hts (m_X9_bits l o1 o11 ho11) (cw_X9_bits hts q1338 ⟨Nat.le_of_ble_eq_true rfl, Nat.le_of_ble_eq_true rfl⟩) rfl hl.1 rfl (Nat.le_of_ble_eq_true rfl) dX9_pieces_80 ⟨Nat.le_of_ble_eq_true rfl, Nat.le_of_ble_eq_true rfl⟩ ?_
      obtain rfl := Option.some.inj hr
      refine W.widen (k := rm_X9_pieces.cells) (n := rm_X9_pieces.slots) (Nat.le_of_ble_eq_true rfl) (Nat.le_of_ble_eq_true rfl) ?_
      exact W.iret hx hb hrt (fun t ht _ => hS.q ht rfl) hS.2.2.2.2 dX9_pieces_83 hlk
    · have hr := hi10.1 c10
      refine lv_bipush (v := (-9)) hx hb dX9_pieces_74 rfl ?_
      refine lv_goto (tgt := 83) hx hb dX9_pieces_76 (by decide) ?_
      obtain rfl := Option.some.inj hr
      refine W.widen (k := rm_X9_pieces.cells) (n := rm_X9_pieces.slots) (Nat.le_of_ble_eq_true rfl) (Nat.le_of_ble_eq_true rfl) ?_
      exact W.iret hx hb hrt (fun t ht _ => hS.q ht rfl) hS.2.2.2.2 dX9_pieces_83 hlk
  have hr := hi5.2 c5
  refine lv_tableOut (tgt := 84) hx hb dX9_pieces_9 (by have n2 := lv_neT (a := 0) c2 rfl; have n3 := lv_neT (a := 1) c3 rfl; have n4 := lv_neT (a := 2) c4 rfl; have n5 := lv_neT (a := 3) c5 rfl; omega) (by decide) ?_
  refine lv_aload_n hx hb dX9_pieces_84 rfl (lv_at hl 1 rfl) ?_
  refine lv_bipush (v := (-2)) hx hb dX9_pieces_85 rfl ?_
  obtain ⟨o12, ho12, hr⟩ := br_bind hr
  refine fwWVs (As := [.int (-2)]) (rest := []) (C := RX9) hx hb hml hown hts (m_X9_no l D am ac g (-2 : Int32) _ o12 ho12) (cw_X9_no hts q1263 ⟨Nat.le_of_ble_eq_true rfl, Nat.le_of_ble_eq_true rfl⟩) hG hS hA rfl 0 8 rfl rfl rfl hl.1 rfl (Nat.le_of_ble_eq_true rfl) dX9_pieces_87 ⟨Nat.le_of_ble_eq_true rfl, Nat.le_of_ble_eq_true rfl⟩ (fun H locs hS => ?_)
  have hP := hS.1
  obtain rfl := Option.some.inj hr
  refine W.widen (k := rm_X9_pieces.cells) (n := rm_X9_pieces.slots) (Nat.le_of_ble_eq_true rfl) (Nat.le_of_ble_eq_true rfl) ?_
  exact W.iret hx hb hrt (fun t ht _ => hS.q ht rfl) hS.2.2.2.2 dX9_pieces_90 hlk
theorem cw_X9_pieces {R : Room} {s : State} {args : Array Value} {own : String} {index : Nat} (hts : ∀ w ∈ lw_all, w.before args s = true) (hlink : Cond.methodLink own index yX9_pieces ∈ lw_all) (hR : rm_X9_pieces.frames + 1 ≤ R.frames ∧ 8 + (3 + 11) + rm_X9_pieces.locals ≤ R.locals) : CallW R s args own RX9 index yX9_pieces cX9_pieces 3 (some FieldType.int) (ws_ yX9_pieces cX9_pieces 3 (some FieldType.int)) rm_X9_pieces rm_X9_pieces.cells rm_X9_pieces.slots 1 :=
  cwV 1 hts (lw_V hlink q1406 q1407 q111 q1408) rfl rfl rfl (by decide +kernel) hR
def f_X9_edge_L89 (v3 : Int32) : Nat → Int32 → Int32 → Option (Int32)
  | 0, _, _ => none
  | n + 1, x4_5, x2_5 => if x4_5 = 0 then some x2_5 else Option.bind (f_X9_leastOf x4_5) fun o7 => Option.bind (f_X9_heapOf v3 o7) fun o8 => Option.bind (f_X9_border) fun o9 => Option.bind (α := Int32) (if (o8 &&& o9) = 0 then some 1 else some 0) fun o11 => Option.bind (some ((x2_5 + o11) : Int32)) fun v12 => Option.bind (f_X9_leastOf x4_5) fun o13 => Option.bind (f_X9_heapOf v3 o13) fun o14 => Option.bind (some ((x4_5 &&& (o14 ^^^ (-1))) : Int32)) fun v15 => f_X9_edge_L89 v3 n v15 v12
def f_X9_edge_L35 (g : MS) : Nat → Int32 → Int32 → Option (Int32)
  | 0, _, _ => none
  | n + 1, x4_16, x2_16 => if 25 ≤ x4_16 then some x2_16 else Option.bind (f_X9_has (mG_left g) x4_16) fun o18 => if o18 = 0 then Option.bind (some ((x2_16 + 0) : Int32)) fun v20 => Option.bind (some ((x4_16 + 1) : Int32)) fun v21 => f_X9_edge_L35 g n v21 v20 else Option.bind (f_X9_besideOf ((1 : Int32) <<< (x4_16 &&& 31))) fun o22 => Option.bind (f_X9_bits (o22 &&& (mG_left g))) fun o23 => Option.bind (some ((x2_16 + ((4 : Int32) - o23)) : Int32)) fun v24 => Option.bind (some ((x4_16 + 1) : Int32)) fun v25 => f_X9_edge_L35 g n v25 v24
def f_X9_edge (g : MS) (a1 : Int32) : Option (Int32 × MS) := Option.bind (f_X9_isIn a1 0 1) fun o1 => if o1 = 0 then Option.bind (f_X9_no g (-2 : Int32)) fun o26 => some (o26.1, o26.2) else Option.bind (some (((33554431 : Int32) &&& ((mG_left g) ^^^ (-1))) : Int32)) fun v3 => if a1 = 0 then Option.bind (f_X9_edge_L35 g 1000 0 0) fun o16 => some (o16, g) else Option.bind (f_X9_edge_L89 v3 1000 v3 0) fun o5 => some (o5, g)
abbrev rm_X9_edge : Room := ({ frames := 3, cells := 0, slots := 0, locals := 64 })
set_option maxHeartbeats 4000000 in
theorem m_X9_edge (l : Launch) (D : va_G) (am : Nat → Nat) (ac : Nat → ClassId) (g : MS) (a1 : Int32) (sz : Nat) (r0 : Int32 × MS) (hr : f_X9_edge g a1 = some r0) : WM l yX9_edge cX9_edge 5 (some FieldType.int) rm_X9_edge [.ref (am 0), .int a1] D ac (wM am ac g) (wM am ac r0.2) sz (some (.int r0.1)) := by
  refine fw_of (by decide) (Nat.le_of_ble_eq_true rfl) ?_
  intro p e s m below meth c ls hx hb hrt hts hown hlk hml _ hU hl
  obtain ⟨rfl, hP, hG, hD⟩ := hU
  have hA : ∀ q : Nat, s.heap.size ≤ q → va_A (wM am ac g) s.heap.size q := fun q h => Or.inr h
  have hS := Stt.start hP hD
  show WW p l e rm_X9_edge s m [.ref (am 0), .int a1] below meth c D (wM am ac r0.2) (va_A (wM am ac g) s.heap.size) (some (.int r0.1)) s.heap [] 0 0 0 ls []
  have hl : lv_has ls 5 [(0, .ref (am 0)), (1, .int a1)] := hl
  rw [f_X9_edge] at hr
  refine lv_iload_n hx hb dX9_edge_0 rfl (lv_at hl 1 rfl) ?_
  refine lv_iconst (v := 0) hx hb dX9_edge_1 rfl ?_
  refine lv_iconst (v := 1) hx hb dX9_edge_2 rfl ?_
  obtain ⟨o1, ho1, hr⟩ := br_bind hr
  refine fwS (As := [.int a1, .int 0, .int 1]) (rest := []) hx hb hml hown hts (m_X9_isIn l a1 0 1 o1 ho1) (cw_X9_isIn hts q1290 ⟨Nat.le_of_ble_eq_true rfl, Nat.le_of_ble_eq_true rfl⟩) rfl hl.1 rfl (Nat.le_of_ble_eq_true rfl) dX9_edge_3 ⟨Nat.le_of_ble_eq_true rfl, Nat.le_of_ble_eq_true rfl⟩ ?_
  have hi2 := br_ite hr
  refine lv_if_ne (tgt := 16) hx hb dX9_edge_6 (by decide) (fun c2 => ?_) (fun c2 => ?_)
  · have hr := hi2.2 c2
    refine lv_iconst (v := 0) hx hb dX9_edge_16 rfl ?_
    refine lv_istore_n (lv' := [(2, .int 0), (0, .ref (am 0)), (1, .int a1)]) hx hb dX9_edge_17 rfl hl (by decide) rfl (fun ls hl => ?_)
    refine lv_ldc (v := 33554431) hx hb hown (hts _ q1179) dX9_edge_18 ?_
    refine lv_aload_n hx hb dX9_edge_20 rfl (lv_at hl 1 rfl) ?_
    refine va_get (D := D) (ci := 8) (v := .int (mG_left g)) (C := RX9) (T := TX9) (N := 26) hx hb hts in_X9 hown hG.1 hP 0 rfl rfl 0 (by decide) (hts _ q1180) (fun _ h9 => h9) rfl dX9_edge_21 ?_
    refine lv_iconst (v := (-1)) hx hb dX9_edge_24 rfl ?_
    refine lv_ixor hx hb dX9_edge_25 ?_
    refine lv_iand hx hb dX9_edge_26 ?_
    refine lv_topi (fun v3 hv3 => ?_)
    have hr := br_letv hr hv3
    refine lv_istore_n (lv' := [(3, .int v3), (2, .int 0), (0, .ref (am 0)), (1, .int a1)]) hx hb dX9_edge_27 rfl hl (by decide) rfl (fun ls hl => ?_)
    refine lv_iload_n hx hb dX9_edge_28 rfl (lv_at hl 3 rfl) ?_
    have hi4 := br_ite hr
    refine lv_if_ne (tgt := 86) hx hb dX9_edge_29 (by decide) (fun c4 => ?_) (fun c4 => ?_)
    · have hr := hi4.2 c4
      refine lv_iload_n hx hb dX9_edge_86 rfl (lv_at hl 0 rfl) ?_
      refine lv_istore (lv' := [(4, .int v3), (3, .int v3), (2, .int 0), (0, .ref (am 0)), (1, .int a1)]) hx hb dX9_edge_87 hl (by decide) rfl (fun ls hl => ?_)
      have L5 : ∀ (n : Nat) (x4_5 : Int32) (x2_5 : Int32) (o5 : Int32), f_X9_edge_L89 v3 n x4_5 x2_5 = some o5 → ∀ (H : Heap) (locs : List Loc) ls, lv_has ls 5 [(4, .int x4_5), (3, .int v3), (2, .int x2_5)] → Stt D (va_A (wM am ac g) s.heap.size) s.heap (wM am ac g) H locs → (∀ (H : Heap) (locs : List Loc) ls, lv_has ls 5 [(2, .int o5)] → Stt D (va_A (wM am ac g) s.heap.size) s.heap (wM am ac g) H locs → WW p l e rm_X9_edge s m [.ref (am 0), .int a1] below meth c D (wM am ac r0.2) (va_A (wM am ac g) s.heap.size) (some (.int r0.1)) H locs 0 0 137 ls []) → WW p l e rm_X9_edge s m [.ref (am 0), .int a1] below meth c D (wM am ac r0.2) (va_A (wM am ac g) s.heap.size) (some (.int r0.1)) H locs 0 0 89 ls [] := by
        intro n
        induction n with
        | zero => intro x4_5 x2_5 o5 hr; rw [f_X9_edge_L89] at hr; cases hr
        | succ n ih =>
          intro x4_5 x2_5 o5 hr H locs ls hl hS kx
          have hP := hS.1
          rw [f_X9_edge_L89] at hr
          refine lv_iload hx hb dX9_edge_89 (lv_at hl 0 rfl) ?_
          have hi6 := br_ite hr
          refine lv_if_eq (tgt := 137) hx hb dX9_edge_91 (by decide) (fun c6 => ?_) (fun c6 => ?_)
          · have hr := hi6.1 c6
            obtain rfl := Option.some.inj hr
            exact kx _ _ ls (lv_sub hl [2] rfl) hS
          · have hr := hi6.2 c6
            refine lv_iload_n hx hb dX9_edge_94 rfl (lv_at hl 2 rfl) ?_
            refine lv_iload_n hx hb dX9_edge_95 rfl (lv_at hl 1 rfl) ?_
            refine lv_iload hx hb dX9_edge_96 (lv_at hl 0 rfl) ?_
            obtain ⟨o7, ho7, hr⟩ := br_bind hr
            refine fwS (As := [.int x4_5]) (rest := [.int v3, .int x2_5]) hx hb hml hown hts (m_X9_leastOf l x4_5 o7 ho7) (cw_X9_leastOf hts q1362 ⟨Nat.le_of_ble_eq_true rfl, Nat.le_of_ble_eq_true rfl⟩) rfl hl.1 rfl (Nat.le_of_ble_eq_true rfl) dX9_edge_98 ⟨Nat.le_of_ble_eq_true rfl, Nat.le_of_ble_eq_true rfl⟩ ?_
            obtain ⟨o8, ho8, hr⟩ := br_bind hr
            refine fwS (As := [.int v3, .int o7]) (rest := [.int x2_5]) hx hb hml hown hts (m_X9_heapOf l v3 o7 o8 ho8) (cw_X9_heapOf hts q1341 ⟨Nat.le_of_ble_eq_true rfl, Nat.le_of_ble_eq_true rfl⟩) rfl hl.1 rfl (Nat.le_of_ble_eq_true rfl) dX9_edge_101 ⟨Nat.le_of_ble_eq_true rfl, Nat.le_of_ble_eq_true rfl⟩ ?_
            obtain ⟨o9, ho9, hr⟩ := br_bind hr
            refine fwS (As := []) (rest := [.int o8, .int x2_5]) hx hb hml hown hts (m_X9_border l o9 ho9) (cw_X9_border hts q1416 ⟨Nat.le_of_ble_eq_true rfl, Nat.le_of_ble_eq_true rfl⟩) rfl hl.1 rfl (Nat.le_of_ble_eq_true rfl) dX9_edge_104 ⟨Nat.le_of_ble_eq_true rfl, Nat.le_of_ble_eq_true rfl⟩ ?_
            refine lv_iand hx hb dX9_edge_107 ?_
            obtain ⟨o11, ho11, hr⟩ := br_bind hr
            have J11 : ∀ (H : Heap) (locs : List Loc) ls, lv_has ls 5 [(4, .int x4_5), (3, .int v3)] → Stt D (va_A (wM am ac g) s.heap.size) s.heap (wM am ac g) H locs → WW p l e rm_X9_edge s m [.ref (am 0), .int a1] below meth c D (wM am ac r0.2) (va_A (wM am ac g) s.heap.size) (some (.int r0.1)) H locs 0 0 116 ls [.int o11, .int x2_5] := by
              intro H locs ls hl hS
              have hP := hS.1
              refine lv_iadd hx hb dX9_edge_116 ?_
              refine lv_topi (fun v12 hv12 => ?_)
              have hr := br_letv hr hv12
              refine lv_istore_n (lv' := [(2, .int v12), (4, .int x4_5), (3, .int v3)]) hx hb dX9_edge_117 rfl hl (by decide) rfl (fun ls hl => ?_)
              refine lv_iload hx hb dX9_edge_118 (lv_at hl 1 rfl) ?_
              refine lv_iload_n hx hb dX9_edge_120 rfl (lv_at hl 2 rfl) ?_
              refine lv_iload hx hb dX9_edge_121 (lv_at hl 1 rfl) ?_
              obtain ⟨o13, ho13, hr⟩ := br_bind hr
              refine fwS (As := [.int x4_5]) (rest := [.int v3, .int x4_5]) hx hb hml hown hts (m_X9_leastOf l x4_5 o13 ho13) (cw_X9_leastOf hts q1362 ⟨Nat.le_of_ble_eq_true rfl, Nat.le_of_ble_eq_true rfl⟩) rfl hl.1 rfl (Nat.le_of_ble_eq_true rfl) dX9_edge_123 ⟨Nat.le_of_ble_eq_true rfl, Nat.le_of_ble_eq_true rfl⟩ ?_
              obtain ⟨o14, ho14, hr⟩ := br_bind hr
              refine fwS (As := [.int v3, .int o13]) (rest := [.int x4_5]) hx hb hml hown hts (m_X9_heapOf l v3 o13 o14 ho14) (cw_X9_heapOf hts q1341 ⟨Nat.le_of_ble_eq_true rfl, Nat.le_of_ble_eq_true rfl⟩) rfl hl.1 rfl (Nat.le_of_ble_eq_true rfl) dX9_edge_126 ⟨Nat.le_of_ble_eq_true rfl, Nat.le_of_ble_eq_true rfl⟩ ?_
              refine lv_iconst (v := (-1)) hx hb dX9_edge_129 rfl ?_
              refine lv_ixor hx hb dX9_edge_130 ?_
              refine lv_iand hx hb dX9_edge_131 ?_
              refine lv_topi (fun v15 hv15 => ?_)
              have hr := br_letv hr hv15
              refine lv_istore (lv' := [(4, .int v15), (2, .int v12), (3, .int v3)]) hx hb dX9_edge_132 hl (by decide) rfl (fun ls hl => ?_)
              refine lv_goto (tgt := 89) hx hb dX9_edge_134 (by decide) ?_
              exact ih v15 v12 _ hr _ _ ls (lv_sub hl [0, 2, 1] rfl) hS kx
            have hr := ho11
            have hi10 := br_ite hr
            refine lv_if_ne (tgt := 115) hx hb dX9_edge_108 (by decide) (fun c10 => ?_) (fun c10 => ?_)
            · have hr := hi10.2 c10
              refine lv_iconst (v := 0) hx hb dX9_edge_115 rfl ?_
              obtain rfl := Option.some.inj hr
              exact J11 _ _ ls (lv_sub hl [0, 1] rfl) hS
            · have hr := hi10.1 c10
              refine lv_iconst (v := 1) hx hb dX9_edge_111 rfl ?_
              refine lv_goto (tgt := 116) hx hb dX9_edge_112 (by decide) ?_
              obtain rfl := Option.some.inj hr
              exact J11 _ _ ls (lv_sub hl [0, 1] rfl) hS
      obtain ⟨o5, ho5, hr⟩ := br_bind hr
      refine L5 1000 v3 0 o5 ho5 _ _ ls (lv_sub hl [0, 1, 2] rfl) hS (fun H locs ls hl hS => ?_)
      have hP := hS.1
      refine lv_iload_n hx hb dX9_edge_137 rfl (lv_at hl 0 rfl) ?_
      obtain rfl := Option.some.inj hr
      refine W.widen (k := rm_X9_edge.cells) (n := rm_X9_edge.slots) (Nat.le_of_ble_eq_true rfl) (Nat.le_of_ble_eq_true rfl) ?_
      exact W.iret hx hb hrt (fun t ht _ => hS.q ht rfl) hS.2.2.2.2 dX9_edge_138 hlk
    · have hr := hi4.1 c4
      refine lv_iconst (v := 0) hx hb dX9_edge_32 rfl ?_
      refine lv_istore (lv' := [(4, .int 0), (3, .int v3), (2, .int 0), (0, .ref (am 0)), (1, .int a1)]) hx hb dX9_edge_33 hl (by decide) rfl (fun ls hl => ?_)
      have L16 : ∀ (n : Nat) (x4_16 : Int32) (x2_16 : Int32) (o16 : Int32), f_X9_edge_L35 g n x4_16 x2_16 = some o16 → ∀ (H : Heap) (locs : List Loc) ls, lv_has ls 5 [(4, .int x4_16), (2, .int x2_16), (0, .ref (am 0))] → Stt D (va_A (wM am ac g) s.heap.size) s.heap (wM am ac g) H locs → (∀ (H : Heap) (locs : List Loc) ls, lv_has ls 5 [(2, .int o16)] → Stt D (va_A (wM am ac g) s.heap.size) s.heap (wM am ac g) H locs → WW p l e rm_X9_edge s m [.ref (am 0), .int a1] below meth c D (wM am ac r0.2) (va_A (wM am ac g) s.heap.size) (some (.int r0.1)) H locs 0 0 84 ls []) → WW p l e rm_X9_edge s m [.ref (am 0), .int a1] below meth c D (wM am ac r0.2) (va_A (wM am ac g) s.heap.size) (some (.int r0.1)) H locs 0 0 35 ls [] := by
        intro n
        induction n with
        | zero => intro x4_16 x2_16 o16 hr; rw [f_X9_edge_L35] at hr; cases hr
        | succ n ih =>
          intro x4_16 x2_16 o16 hr H locs ls hl hS kx
          have hP := hS.1
          rw [f_X9_edge_L35] at hr
          refine lv_iload hx hb dX9_edge_35 (lv_at hl 0 rfl) ?_
          refine lv_bipush (v := 25) hx hb dX9_edge_37 rfl ?_
          have hi17 := br_ite hr
          refine lv_icmp_ge (tgt := 84) hx hb dX9_edge_39 (by decide) (fun c17 => ?_) (fun c17 => ?_)
          · have hr := hi17.1 c17
            obtain rfl := Option.some.inj hr
            exact kx _ _ ls (lv_sub hl [1] rfl) hS
          · have hr := hi17.2 c17
            refine lv_iload_n hx hb dX9_edge_42 rfl (lv_at hl 1 rfl) ?_
            refine lv_aload_n hx hb dX9_edge_43 rfl (lv_at hl 2 rfl) ?_
            refine va_get (D := D) (ci := 8) (v := .int (mG_left g)) (C := RX9) (T := TX9) (N := 26) hx hb hts in_X9 hown hG.1 hP 0 rfl rfl 0 (by decide) (hts _ q1180) (fun _ h9 => h9) rfl dX9_edge_44 ?_
            refine lv_iload hx hb dX9_edge_47 (lv_at hl 0 rfl) ?_
            obtain ⟨o18, ho18, hr⟩ := br_bind hr
            refine fwS (As := [.int (mG_left g), .int x4_16]) (rest := [.int x2_16]) hx hb hml hown hts (m_X9_has l (mG_left g) x4_16 o18 ho18) (cw_X9_has hts q1365 ⟨Nat.le_of_ble_eq_true rfl, Nat.le_of_ble_eq_true rfl⟩) rfl hl.1 rfl (Nat.le_of_ble_eq_true rfl) dX9_edge_49 ⟨Nat.le_of_ble_eq_true rfl, Nat.le_of_ble_eq_true rfl⟩ ?_
            have hi19 := br_ite hr
            refine lv_if_eq (tgt := 75) hx hb dX9_edge_52 (by decide) (fun c19 => ?_) (fun c19 => ?_)
            · have hr := hi19.1 c19
              refine lv_iconst (v := 0) hx hb dX9_edge_75 rfl ?_
              refine lv_iadd hx hb dX9_edge_76 ?_
              refine lv_topi (fun v20 hv20 => ?_)
              have hr := br_letv hr hv20
              refine lv_istore_n (lv' := [(2, .int v20), (4, .int x4_16), (0, .ref (am 0))]) hx hb dX9_edge_77 rfl hl (by decide) rfl (fun ls hl => ?_)
              obtain ⟨v21, hv21, hr⟩ := br_let hr
              refine lv_iinc (v := v21) (lv' := [(4, .int v21), (2, .int v20), (0, .ref (am 0))]) hx hb dX9_edge_78 hl (k := 1) rfl (hv21 ▸ rfl) (by decide) rfl (fun ls hl => ?_)
              refine lv_goto (tgt := 35) hx hb dX9_edge_81 (by decide) ?_
              exact ih v21 v20 _ hr _ _ ls (lv_sub hl [0, 1, 2] rfl) hS kx
            · have hr := hi19.2 c19
              refine lv_iconst (v := 4) hx hb dX9_edge_55 rfl ?_
              refine lv_iconst (v := 1) hx hb dX9_edge_56 rfl ?_
              refine lv_iload hx hb dX9_edge_57 (lv_at hl 0 rfl) ?_
              refine lv_ishl hx hb dX9_edge_59 ?_
              obtain ⟨o22, ho22, hr⟩ := br_bind hr
              refine fwS (As := [.int ((1 : Int32) <<< (x4_16 &&& 31))]) (rest := [.int 4, .int x2_16]) hx hb hml hown hts (m_X9_besideOf l ((1 : Int32) <<< (x4_16 &&& 31)) o22 ho22) (cw_X9_besideOf hts q1335 ⟨Nat.le_of_ble_eq_true rfl, Nat.le_of_ble_eq_true rfl⟩) rfl hl.1 rfl (Nat.le_of_ble_eq_true rfl) dX9_edge_60 ⟨Nat.le_of_ble_eq_true rfl, Nat.le_of_ble_eq_true rfl⟩ ?_
              refine lv_aload_n hx hb dX9_edge_63 rfl (lv_at hl 2 rfl) ?_
              refine va_get (D := D) (ci := 8) (v := .int (mG_left g)) (C := RX9) (T := TX9) (N := 26) hx hb hts in_X9 hown hG.1 hP 0 rfl rfl 0 (by decide) (hts _ q1180) (fun _ h9 => h9) rfl dX9_edge_64 ?_
              refine lv_iand hx hb dX9_edge_67 ?_
              obtain ⟨o23, ho23, hr⟩ := br_bind hr
              refine fwS (As := [.int (o22 &&& (mG_left g))]) (rest := [.int 4, .int x2_16]) hx hb hml hown hts (m_X9_bits l (o22 &&& (mG_left g)) o23 ho23) (cw_X9_bits hts q1338 ⟨Nat.le_of_ble_eq_true rfl, Nat.le_of_ble_eq_true rfl⟩) rfl hl.1 rfl (Nat.le_of_ble_eq_true rfl) dX9_edge_68 ⟨Nat.le_of_ble_eq_true rfl, Nat.le_of_ble_eq_true rfl⟩ ?_
              refine lv_isub hx hb dX9_edge_71 ?_
              refine lv_goto (tgt := 76) hx hb dX9_edge_72 (by decide) ?_
              refine lv_iadd hx hb dX9_edge_76 ?_
              refine lv_topi (fun v24 hv24 => ?_)
              have hr := br_letv hr hv24
              refine lv_istore_n (lv' := [(2, .int v24), (4, .int x4_16), (0, .ref (am 0))]) hx hb dX9_edge_77 rfl hl (by decide) rfl (fun ls hl => ?_)
              obtain ⟨v25, hv25, hr⟩ := br_let hr
              refine lv_iinc (v := v25) (lv' := [(4, .int v25), (2, .int v24), (0, .ref (am 0))]) hx hb dX9_edge_78 hl (k := 1) rfl (hv25 ▸ rfl) (by decide) rfl (fun ls hl => ?_)
              refine lv_goto (tgt := 35) hx hb dX9_edge_81 (by decide) ?_
              exact ih v25 v24 _ hr _ _ ls (lv_sub hl [0, 1, 2] rfl) hS kx
      obtain ⟨o16, ho16, hr⟩ := br_bind hr
      refine L16 1000 0 0 o16 ho16 _ _ ls (lv_sub hl [0, 2, 3] rfl) hS (fun H locs ls hl hS => ?_)
      have hP := hS.1
      refine lv_iload_n hx hb dX9_edge_84 rfl (lv_at hl 0 rfl) ?_
      obtain rfl := Option.some.inj hr
      refine W.widen (k := rm_X9_edge.cells) (n := rm_X9_edge.slots) (Nat.le_of_ble_eq_true rfl) (Nat.le_of_ble_eq_true rfl) ?_
      exact W.iret hx hb hrt (fun t ht _ => hS.q ht rfl) hS.2.2.2.2 dX9_edge_85 hlk
  · have hr := hi2.1 c2
    refine lv_aload_n hx hb dX9_edge_9 rfl (lv_at hl 0 rfl) ?_
    refine lv_bipush (v := (-2)) hx hb dX9_edge_10 rfl ?_
    obtain ⟨o26, ho26, hr⟩ := br_bind hr
    refine fwWVs (As := [.int (-2)]) (rest := []) (C := RX9) hx hb hml hown hts (m_X9_no l D am ac g (-2 : Int32) _ o26 ho26) (cw_X9_no hts q1263 ⟨Nat.le_of_ble_eq_true rfl, Nat.le_of_ble_eq_true rfl⟩) hG hS hA rfl 0 8 rfl rfl rfl hl.1 rfl (Nat.le_of_ble_eq_true rfl) dX9_edge_12 ⟨Nat.le_of_ble_eq_true rfl, Nat.le_of_ble_eq_true rfl⟩ (fun H locs hS => ?_)
    have hP := hS.1
    obtain rfl := Option.some.inj hr
    refine W.widen (k := rm_X9_edge.cells) (n := rm_X9_edge.slots) (Nat.le_of_ble_eq_true rfl) (Nat.le_of_ble_eq_true rfl) ?_
    exact W.iret hx hb hrt (fun t ht _ => hS.q ht rfl) hS.2.2.2.2 dX9_edge_15 hlk
theorem cw_X9_edge {R : Room} {s : State} {args : Array Value} {own : String} {index : Nat} (hts : ∀ w ∈ lw_all, w.before args s = true) (hlink : Cond.methodLink own index yX9_edge ∈ lw_all) (hR : rm_X9_edge.frames + 1 ≤ R.frames ∧ 8 + (5 + 11) + rm_X9_edge.locals ≤ R.locals) : CallW R s args own RX9 index yX9_edge cX9_edge 5 (some FieldType.int) (ws_ yX9_edge cX9_edge 5 (some FieldType.int)) rm_X9_edge rm_X9_edge.cells rm_X9_edge.slots 1 :=
  cwV 1 hts (lw_V hlink q1413 q1414 q111 q1415) rfl rfl rfl (by decide +kernel) hR
def f_X9_biteFor_L26 (g : MS) (a1 : Int32) (a2 : Int32) (a3 : Int32) (x6_3 : Int32) : Nat → Int32 → Int32 → Int32 → Option (Int32 × Int32)
  | 0, _, _, _ => none
  | n + 1, x7_5, x5_5, x4_5 => if 25 ≤ x7_5 then some (x5_5, x4_5) else Option.bind (f_X9_canBite a1 x6_3 x7_5) fun o7 => if o7 = 0 then Option.bind (some ((x7_5 + 1) : Int32)) fun v16 => f_X9_biteFor_L26 g a1 a2 a3 x6_3 n v16 x5_5 x4_5 else Option.bind (f_X9_bite x6_3 x7_5) fun o9 => Option.bind (f_X9_shareOf g (a1 &&& (o9 ^^^ (-1))) a2) fun o10 => Option.bind (some ((a3 * o10) : Int32)) fun v11 => if x5_5 < v11 then Option.bind (some ((((100 : Int32) * x6_3) + x7_5) : Int32)) fun v13 => Option.bind (some ((x7_5 + 1) : Int32)) fun v14 => f_X9_biteFor_L26 g a1 a2 a3 x6_3 n v14 v11 v13 else Option.bind (some ((x7_5 + 1) : Int32)) fun v15 => f_X9_biteFor_L26 g a1 a2 a3 x6_3 n v15 x5_5 x4_5
def f_X9_biteFor_L17 (g : MS) (a1 : Int32) (a2 : Int32) (a3 : Int32) : Nat → Int32 → Int32 → Int32 → Option (Int32)
  | 0, _, _, _ => none
  | n + 1, x6_3, x5_3, x4_3 => if 4 ≤ x6_3 then some x4_3 else Option.bind (f_X9_biteFor_L26 g a1 a2 a3 x6_3 1000 0 x5_3 x4_3) fun o5 => Option.bind (some ((x6_3 + 1) : Int32)) fun v17 => f_X9_biteFor_L17 g a1 a2 a3 n v17 o5.1 o5.2
def f_X9_biteFor (g : MS) (a1 : Int32) (a2 : Int32) (a3 : Int32) : Option (Int32) := Option.bind (f_X9_shareOf g a1 a2) fun o1 => Option.bind (some ((a3 * o1) : Int32)) fun v2 => Option.bind (f_X9_biteFor_L17 g a1 a2 a3 1000 0 v2 (-9)) fun o3 => some o3
abbrev rm_X9_biteFor : Room := ({ frames := 6, cells := 0, slots := 0, locals := 136 })
set_option maxHeartbeats 4000000 in
theorem m_X9_biteFor (l : Launch) (D : va_G) (am : Nat → Nat) (ac : Nat → ClassId) (g : MS) (a1 : Int32) (a2 : Int32) (a3 : Int32) (r0 : Int32) (hr : f_X9_biteFor g a1 a2 a3 = some r0) : PM l yX9_biteFor cX9_biteFor 9 (some FieldType.int) rm_X9_biteFor [.ref (am 0), .int a1, .int a2, .int a3] (RP D ac (wM am ac g)) (some (.int r0)) := by
  refine fw_of (by decide) (Nat.le_of_ble_eq_true rfl) ?_
  intro p e s m below meth c ls hx hb hrt hts hown hlk hml _ hU hl
  obtain ⟨hP, hG⟩ := hU
  have hl : lv_has ls 9 [(0, .ref (am 0)), (1, .int a1), (2, .int a2), (3, .int a3)] := hl
  rw [f_X9_biteFor] at hr
  refine lv_bipush (v := (-9)) hx hb dX9_biteFor_0 rfl ?_
  refine lv_istore (lv' := [(4, .int (-9)), (0, .ref (am 0)), (1, .int a1), (2, .int a2), (3, .int a3)]) hx hb dX9_biteFor_2 hl (by decide) rfl (fun ls hl => ?_)
  refine lv_iload_n hx hb dX9_biteFor_4 rfl (lv_at hl 4 rfl) ?_
  refine lv_aload_n hx hb dX9_biteFor_5 rfl (lv_at hl 1 rfl) ?_
  refine lv_iload_n hx hb dX9_biteFor_6 rfl (lv_at hl 2 rfl) ?_
  refine lv_iload_n hx hb dX9_biteFor_7 rfl (lv_at hl 3 rfl) ?_
  obtain ⟨o1, ho1, hr⟩ := br_bind hr
  refine fwRV (As := [.int a1, .int a2]) (rest := [.int a3]) (C := RX9) hx hb hml hown hts (m_X9_shareOf l D am ac g  a1 a2 o1 ho1) (cw_X9_shareOf hts q1352 ⟨Nat.le_of_ble_eq_true rfl, Nat.le_of_ble_eq_true rfl⟩) hG hP hP 0 8 rfl rfl rfl hl.1 rfl (Nat.le_of_ble_eq_true rfl) dX9_biteFor_8 ⟨Nat.le_of_ble_eq_true rfl, Nat.le_of_ble_eq_true rfl⟩ ?_
  refine lv_imul hx hb dX9_biteFor_11 ?_
  refine lv_topi (fun v2 hv2 => ?_)
  have hr := br_letv hr hv2
  refine lv_istore (lv' := [(5, .int v2), (4, .int (-9)), (0, .ref (am 0)), (1, .int a1), (2, .int a2), (3, .int a3)]) hx hb dX9_biteFor_12 hl (by decide) rfl (fun ls hl => ?_)
  refine lv_iconst (v := 0) hx hb dX9_biteFor_14 rfl ?_
  refine lv_istore (lv' := [(6, .int 0), (5, .int v2), (4, .int (-9)), (0, .ref (am 0)), (1, .int a1), (2, .int a2), (3, .int a3)]) hx hb dX9_biteFor_15 hl (by decide) rfl (fun ls hl => ?_)
  have L3 : ∀ (n : Nat) (x6_3 : Int32) (x5_3 : Int32) (x4_3 : Int32) (o3 : Int32), f_X9_biteFor_L17 g a1 a2 a3 n x6_3 x5_3 x4_3 = some o3 → ∀ ls, lv_has ls 9 [(6, .int x6_3), (5, .int x5_3), (4, .int x4_3), (0, .ref (am 0)), (1, .int a1), (2, .int a2), (3, .int a3)] → (∀ ls, lv_has ls 9 [(4, .int o3)] → WP p l e rm_X9_biteFor s m [.ref (am 0), .int a1, .int a2, .int a3] below meth c (some (.int r0)) 103 ls []) → WP p l e rm_X9_biteFor s m [.ref (am 0), .int a1, .int a2, .int a3] below meth c (some (.int r0)) 17 ls [] := by
    intro n
    induction n with
    | zero => intro x6_3 x5_3 x4_3 o3 hr; rw [f_X9_biteFor_L17] at hr; cases hr
    | succ n ih =>
      intro x6_3 x5_3 x4_3 o3 hr ls hl kx
      rw [f_X9_biteFor_L17] at hr
      refine lv_iload hx hb dX9_biteFor_17 (lv_at hl 0 rfl) ?_
      refine lv_iconst (v := 4) hx hb dX9_biteFor_19 rfl ?_
      have hi4 := br_ite hr
      refine lv_icmp_ge (tgt := 103) hx hb dX9_biteFor_20 (by decide) (fun c4 => ?_) (fun c4 => ?_)
      · have hr := hi4.1 c4
        obtain rfl := Option.some.inj hr
        exact kx ls (lv_sub hl [2] rfl)
      · have hr := hi4.2 c4
        refine lv_iconst (v := 0) hx hb dX9_biteFor_23 rfl ?_
        refine lv_istore (lv' := [(7, .int 0), (6, .int x6_3), (5, .int x5_3), (4, .int x4_3), (0, .ref (am 0)), (1, .int a1), (2, .int a2), (3, .int a3)]) hx hb dX9_biteFor_24 hl (by decide) rfl (fun ls hl => ?_)
        have L5 : ∀ (n : Nat) (x7_5 : Int32) (x5_5 : Int32) (x4_5 : Int32) (o5 : Int32 × Int32), f_X9_biteFor_L26 g a1 a2 a3 x6_3 n x7_5 x5_5 x4_5 = some o5 → ∀ ls, lv_has ls 9 [(7, .int x7_5), (6, .int x6_3), (5, .int x5_5), (4, .int x4_5), (0, .ref (am 0)), (1, .int a1), (2, .int a2), (3, .int a3)] → (∀ ls, lv_has ls 9 [(6, .int x6_3), (5, .int o5.1), (4, .int o5.2), (0, .ref (am 0)), (1, .int a1), (2, .int a2), (3, .int a3)] → WP p l e rm_X9_biteFor s m [.ref (am 0), .int a1, .int a2, .int a3] below meth c (some (.int r0)) 97 ls []) → WP p l e rm_X9_biteFor s m [.ref (am 0), .int a1, .int a2, .int a3] below meth c (some (.int r0)) 26 ls [] := by
          intro n
          induction n with
          | zero => intro x7_5 x5_5 x4_5 o5 hr; rw [f_X9_biteFor_L26] at hr; cases hr
          | succ n ih =>
            intro x7_5 x5_5 x4_5 o5 hr ls hl kx
            rw [f_X9_biteFor_L26] at hr
            refine lv_iload hx hb dX9_biteFor_26 (lv_at hl 0 rfl) ?_
            refine lv_bipush (v := 25) hx hb dX9_biteFor_28 rfl ?_
            have hi6 := br_ite hr
            refine lv_icmp_ge (tgt := 97) hx hb dX9_biteFor_30 (by decide) (fun c6 => ?_) (fun c6 => ?_)
            · have hr := hi6.1 c6
              obtain rfl := Option.some.inj hr
              exact kx ls (lv_sub hl [1, 2, 3, 4, 5, 6, 7] rfl)
            · have hr := hi6.2 c6
              refine lv_iload_n hx hb dX9_biteFor_33 rfl (lv_at hl 5 rfl) ?_
              refine lv_iload hx hb dX9_biteFor_34 (lv_at hl 1 rfl) ?_
              refine lv_iload hx hb dX9_biteFor_36 (lv_at hl 0 rfl) ?_
              obtain ⟨o7, ho7, hr⟩ := br_bind hr
              refine fwS (As := [.int a1, .int x6_3, .int x7_5]) (rest := []) hx hb hml hown hts (m_X9_canBite l a1 x6_3 x7_5 o7 ho7) (cw_X9_canBite hts q1304 ⟨Nat.le_of_ble_eq_true rfl, Nat.le_of_ble_eq_true rfl⟩) rfl hl.1 rfl (Nat.le_of_ble_eq_true rfl) dX9_biteFor_38 ⟨Nat.le_of_ble_eq_true rfl, Nat.le_of_ble_eq_true rfl⟩ ?_
              have hi8 := br_ite hr
              refine lv_if_ne (tgt := 47) hx hb dX9_biteFor_41 (by decide) (fun c8 => ?_) (fun c8 => ?_)
              · have hr := hi8.2 c8
                refine lv_iload_n hx hb dX9_biteFor_47 rfl (lv_at hl 7 rfl) ?_
                refine lv_aload_n hx hb dX9_biteFor_48 rfl (lv_at hl 4 rfl) ?_
                refine lv_iload_n hx hb dX9_biteFor_49 rfl (lv_at hl 5 rfl) ?_
                refine lv_iload hx hb dX9_biteFor_50 (lv_at hl 1 rfl) ?_
                refine lv_iload hx hb dX9_biteFor_52 (lv_at hl 0 rfl) ?_
                obtain ⟨o9, ho9, hr⟩ := br_bind hr
                refine fwS (As := [.int x6_3, .int x7_5]) (rest := [.int a1, .ref (am 0), .int a3]) hx hb hml hown hts (m_X9_bite l x6_3 x7_5 o9 ho9) (cw_X9_bite hts q1307 ⟨Nat.le_of_ble_eq_true rfl, Nat.le_of_ble_eq_true rfl⟩) rfl hl.1 rfl (Nat.le_of_ble_eq_true rfl) dX9_biteFor_54 ⟨Nat.le_of_ble_eq_true rfl, Nat.le_of_ble_eq_true rfl⟩ ?_
                refine lv_iconst (v := (-1)) hx hb dX9_biteFor_57 rfl ?_
                refine lv_ixor hx hb dX9_biteFor_58 ?_
                refine lv_iand hx hb dX9_biteFor_59 ?_
                refine lv_iload_n hx hb dX9_biteFor_60 rfl (lv_at hl 6 rfl) ?_
                obtain ⟨o10, ho10, hr⟩ := br_bind hr
                refine fwRV (As := [.int (a1 &&& (o9 ^^^ (-1))), .int a2]) (rest := [.int a3]) (C := RX9) hx hb hml hown hts (m_X9_shareOf l D am ac g  (a1 &&& (o9 ^^^ (-1))) a2 o10 ho10) (cw_X9_shareOf hts q1352 ⟨Nat.le_of_ble_eq_true rfl, Nat.le_of_ble_eq_true rfl⟩) hG hP hP 0 8 rfl rfl rfl hl.1 rfl (Nat.le_of_ble_eq_true rfl) dX9_biteFor_61 ⟨Nat.le_of_ble_eq_true rfl, Nat.le_of_ble_eq_true rfl⟩ ?_
                refine lv_imul hx hb dX9_biteFor_64 ?_
                refine lv_topi (fun v11 hv11 => ?_)
                have hr := br_letv hr hv11
                refine lv_istore (lv' := [(8, .int v11), (7, .int x7_5), (6, .int x6_3), (5, .int x5_5), (4, .int x4_5), (0, .ref (am 0)), (1, .int a1), (2, .int a2), (3, .int a3)]) hx hb dX9_biteFor_65 hl (by decide) rfl (fun ls hl => ?_)
                refine lv_iload hx hb dX9_biteFor_67 (lv_at hl 0 rfl) ?_
                refine lv_iload hx hb dX9_biteFor_69 (lv_at hl 3 rfl) ?_
                have hi12 := br_ite hr
                refine lv_icmp_gt (tgt := 77) hx hb dX9_biteFor_71 (by decide) (fun c12 => ?_) (fun c12 => ?_)
                · have hr := hi12.1 c12
                  refine lv_bipush (v := 100) hx hb dX9_biteFor_77 rfl ?_
                  refine lv_iload hx hb dX9_biteFor_79 (lv_at hl 2 rfl) ?_
                  refine lv_imul hx hb dX9_biteFor_81 ?_
                  refine lv_iload hx hb dX9_biteFor_82 (lv_at hl 1 rfl) ?_
                  refine lv_iadd hx hb dX9_biteFor_84 ?_
                  refine lv_topi (fun v13 hv13 => ?_)
                  have hr := br_letv hr hv13
                  refine lv_istore (lv' := [(4, .int v13), (8, .int v11), (7, .int x7_5), (6, .int x6_3), (5, .int x5_5), (0, .ref (am 0)), (1, .int a1), (2, .int a2), (3, .int a3)]) hx hb dX9_biteFor_85 hl (by decide) rfl (fun ls hl => ?_)
                  refine lv_iload hx hb dX9_biteFor_87 (lv_at hl 1 rfl) ?_
                  refine lv_istore (lv' := [(5, .int v11), (4, .int v13), (8, .int v11), (7, .int x7_5), (6, .int x6_3), (0, .ref (am 0)), (1, .int a1), (2, .int a2), (3, .int a3)]) hx hb dX9_biteFor_89 hl (by decide) rfl (fun ls hl => ?_)
                  obtain ⟨v14, hv14, hr⟩ := br_let hr
                  refine lv_iinc (v := v14) (lv' := [(7, .int v14), (5, .int v11), (4, .int v13), (8, .int v11), (6, .int x6_3), (0, .ref (am 0)), (1, .int a1), (2, .int a2), (3, .int a3)]) hx hb dX9_biteFor_91 hl (k := 3) rfl (hv14 ▸ rfl) (by decide) rfl (fun ls hl => ?_)
                  refine lv_goto (tgt := 26) hx hb dX9_biteFor_94 (by decide) ?_
                  exact ih v14 v11 v13 _ hr ls (lv_sub hl [0, 4, 1, 2, 5, 6, 7, 8] rfl) kx
                · have hr := hi12.2 c12
                  refine lv_goto (tgt := 91) hx hb dX9_biteFor_74 (by decide) ?_
                  obtain ⟨v15, hv15, hr⟩ := br_let hr
                  refine lv_iinc (v := v15) (lv' := [(7, .int v15), (8, .int v11), (6, .int x6_3), (5, .int x5_5), (4, .int x4_5), (0, .ref (am 0)), (1, .int a1), (2, .int a2), (3, .int a3)]) hx hb dX9_biteFor_91 hl (k := 1) rfl (hv15 ▸ rfl) (by decide) rfl (fun ls hl => ?_)
                  refine lv_goto (tgt := 26) hx hb dX9_biteFor_94 (by decide) ?_
                  exact ih v15 x5_5 x4_5 _ hr ls (lv_sub hl [0, 2, 3, 4, 5, 6, 7, 8] rfl) kx
              · have hr := hi8.1 c8
                refine lv_goto (tgt := 91) hx hb dX9_biteFor_44 (by decide) ?_
                obtain ⟨v16, hv16, hr⟩ := br_let hr
                refine lv_iinc (v := v16) (lv' := [(7, .int v16), (6, .int x6_3), (5, .int x5_5), (4, .int x4_5), (0, .ref (am 0)), (1, .int a1), (2, .int a2), (3, .int a3)]) hx hb dX9_biteFor_91 hl (k := 0) rfl (hv16 ▸ rfl) (by decide) rfl (fun ls hl => ?_)
                refine lv_goto (tgt := 26) hx hb dX9_biteFor_94 (by decide) ?_
                exact ih v16 x5_5 x4_5 _ hr ls (lv_sub hl [0, 1, 2, 3, 4, 5, 6, 7] rfl) kx
        obtain ⟨o5, ho5, hr⟩ := br_bind hr
        refine L5 1000 0 x5_3 x4_3 o5 ho5 ls (lv_sub hl [0, 1, 2, 3, 4, 5, 6, 7] rfl) (fun ls hl => ?_)
        obtain ⟨v17, hv17, hr⟩ := br_let hr
        refine lv_iinc (v := v17) (lv' := [(6, .int v17), (5, .int o5.1), (4, .int o5.2), (0, .ref (am 0)), (1, .int a1), (2, .int a2), (3, .int a3)]) hx hb dX9_biteFor_97 hl (k := 0) rfl (hv17 ▸ rfl) (by decide) rfl (fun ls hl => ?_)
        refine lv_goto (tgt := 17) hx hb dX9_biteFor_100 (by decide) ?_
        exact ih v17 o5.1 o5.2 _ hr ls (lv_sub hl [0, 1, 2, 3, 4, 5, 6] rfl) kx
  obtain ⟨o3, ho3, hr⟩ := br_bind hr
  refine L3 1000 0 v2 (-9) o3 ho3 ls (lv_sub hl [0, 1, 2, 3, 4, 5, 6] rfl) (fun ls hl => ?_)
  refine lv_iload hx hb dX9_biteFor_103 (lv_at hl 0 rfl) ?_
  exact W.iret hx hb hrt (fun t ht _ => ⟨ret_i hr, ht⟩) noB dX9_biteFor_105 hlk
theorem cw_X9_biteFor {R : Room} {s : State} {args : Array Value} {own : String} {index : Nat} (hts : ∀ w ∈ lw_all, w.before args s = true) (hlink : Cond.methodLink own index yX9_biteFor ∈ lw_all) (hR : rm_X9_biteFor.frames + 1 ≤ R.frames ∧ 8 + (9 + 11) + rm_X9_biteFor.locals ≤ R.locals) : CallW R s args own RX9 index yX9_biteFor cX9_biteFor 9 (some FieldType.int) (ws_ yX9_biteFor cX9_biteFor 9 (some FieldType.int)) rm_X9_biteFor rm_X9_biteFor.cells rm_X9_biteFor.slots 3 :=
  cwV 3 hts (lw_V hlink q1429 qs89 q111 q1430) rfl rfl rfl (by decide +kernel) hR
def f_X9_biteTold (g : MS) (a1 : Int32) (a2 : Int32) (a3 : Int32) : Option (Int32 × MS) := Option.bind (f_X9_isHeir g a1) fun o1 => if o1 = 0 then Option.bind (f_X9_no g (-1 : Int32)) fun o11 => some (o11.1, o11.2) else Option.bind (f_X9_isIn a2 0 1) fun o3 => if o3 = 0 then Option.bind (f_X9_no g (-2 : Int32)) fun o10 => some (o10.1, o10.2) else Option.bind (f_X9_biteFor g (mG_left g) a1 a3) fun o5 => if o5 < 0 then some (o5, g) else if a2 = 0 then some (o5, g) else Option.bind (f_X9_after (mG_left g) o5) fun o8 => Option.bind (f_X9_shareOf g o8 a1) fun o9 => some (o9, g)
abbrev rm_X9_biteTold : Room := ({ frames := 7, cells := 0, slots := 0, locals := 164 })
set_option maxHeartbeats 4000000 in
theorem m_X9_biteTold (l : Launch) (D : va_G) (am : Nat → Nat) (ac : Nat → ClassId) (g : MS) (a1 : Int32) (a2 : Int32) (a3 : Int32) (sz : Nat) (r0 : Int32 × MS) (hr : f_X9_biteTold g a1 a2 a3 = some r0) : WM l yX9_biteTold cX9_biteTold 5 (some FieldType.int) rm_X9_biteTold [.ref (am 0), .int a1, .int a2, .int a3] D ac (wM am ac g) (wM am ac r0.2) sz (some (.int r0.1)) := by
  refine fw_of (by decide) (Nat.le_of_ble_eq_true rfl) ?_
  intro p e s m below meth c ls hx hb hrt hts hown hlk hml _ hU hl
  obtain ⟨rfl, hP, hG, hD⟩ := hU
  have hA : ∀ q : Nat, s.heap.size ≤ q → va_A (wM am ac g) s.heap.size q := fun q h => Or.inr h
  have hS := Stt.start hP hD
  show WW p l e rm_X9_biteTold s m [.ref (am 0), .int a1, .int a2, .int a3] below meth c D (wM am ac r0.2) (va_A (wM am ac g) s.heap.size) (some (.int r0.1)) s.heap [] 0 0 0 ls []
  have hl : lv_has ls 5 [(0, .ref (am 0)), (1, .int a1), (2, .int a2), (3, .int a3)] := hl
  rw [f_X9_biteTold] at hr
  refine lv_aload_n hx hb dX9_biteTold_0 rfl (lv_at hl 0 rfl) ?_
  refine lv_iload_n hx hb dX9_biteTold_1 rfl (lv_at hl 1 rfl) ?_
  obtain ⟨o1, ho1, hr⟩ := br_bind hr
  refine fwRV (As := [.int a1]) (rest := []) (C := RX9) hx hb hml hown hts (m_X9_isHeir l D am ac g  a1 o1 ho1) (cw_X9_isHeir hts q1348 ⟨Nat.le_of_ble_eq_true rfl, Nat.le_of_ble_eq_true rfl⟩) hG hP hP 0 8 rfl rfl rfl hl.1 rfl (Nat.le_of_ble_eq_true rfl) dX9_biteTold_2 ⟨Nat.le_of_ble_eq_true rfl, Nat.le_of_ble_eq_true rfl⟩ ?_
  have hi2 := br_ite hr
  refine lv_if_ne (tgt := 14) hx hb dX9_biteTold_5 (by decide) (fun c2 => ?_) (fun c2 => ?_)
  · have hr := hi2.2 c2
    refine lv_iload_n hx hb dX9_biteTold_14 rfl (lv_at hl 2 rfl) ?_
    refine lv_iconst (v := 0) hx hb dX9_biteTold_15 rfl ?_
    refine lv_iconst (v := 1) hx hb dX9_biteTold_16 rfl ?_
    obtain ⟨o3, ho3, hr⟩ := br_bind hr
    refine fwS (As := [.int a2, .int 0, .int 1]) (rest := []) hx hb hml hown hts (m_X9_isIn l a2 0 1 o3 ho3) (cw_X9_isIn hts q1290 ⟨Nat.le_of_ble_eq_true rfl, Nat.le_of_ble_eq_true rfl⟩) rfl hl.1 rfl (Nat.le_of_ble_eq_true rfl) dX9_biteTold_17 ⟨Nat.le_of_ble_eq_true rfl, Nat.le_of_ble_eq_true rfl⟩ ?_
    have hi4 := br_ite hr
    refine lv_if_ne (tgt := 30) hx hb dX9_biteTold_20 (by decide) (fun c4 => ?_) (fun c4 => ?_)
    · have hr := hi4.2 c4
      refine lv_aload_n hx hb dX9_biteTold_30 rfl (lv_at hl 0 rfl) ?_
      refine lv_aload_n hx hb dX9_biteTold_31 rfl (lv_at hl 0 rfl) ?_
      refine va_get (D := D) (ci := 8) (v := .int (mG_left g)) (C := RX9) (T := TX9) (N := 26) hx hb hts in_X9 hown hG.1 hP 0 rfl rfl 0 (by decide) (hts _ q1180) (fun _ h9 => h9) rfl dX9_biteTold_32 ?_
      refine lv_iload_n hx hb dX9_biteTold_35 rfl (lv_at hl 1 rfl) ?_
      refine lv_iload_n hx hb dX9_biteTold_36 rfl (lv_at hl 3 rfl) ?_
      obtain ⟨o5, ho5, hr⟩ := br_bind hr
      refine fwRV (As := [.int (mG_left g), .int a1, .int a3]) (rest := []) (C := RX9) hx hb hml hown hts (m_X9_biteFor l D am ac g  (mG_left g) a1 a3 o5 ho5) (cw_X9_biteFor hts q1427 ⟨Nat.le_of_ble_eq_true rfl, Nat.le_of_ble_eq_true rfl⟩) hG hP hP 0 8 rfl rfl rfl hl.1 rfl (Nat.le_of_ble_eq_true rfl) dX9_biteTold_37 ⟨Nat.le_of_ble_eq_true rfl, Nat.le_of_ble_eq_true rfl⟩ ?_
      refine lv_istore (lv' := [(4, .int o5), (0, .ref (am 0)), (1, .int a1), (2, .int a2), (3, .int a3)]) hx hb dX9_biteTold_40 hl (by decide) rfl (fun ls hl => ?_)
      refine lv_iload hx hb dX9_biteTold_42 (lv_at hl 0 rfl) ?_
      have hi6 := br_ite hr
      refine lv_if_lt (tgt := 51) hx hb dX9_biteTold_44 (by decide) (fun c6 => ?_) (fun c6 => ?_)
      · have hr := hi6.1 c6
        refine lv_iload hx hb dX9_biteTold_51 (lv_at hl 0 rfl) ?_
        refine lv_goto (tgt := 70) hx hb dX9_biteTold_53 (by decide) ?_
        obtain rfl := Option.some.inj hr
        refine W.widen (k := rm_X9_biteTold.cells) (n := rm_X9_biteTold.slots) (Nat.le_of_ble_eq_true rfl) (Nat.le_of_ble_eq_true rfl) ?_
        exact W.iret hx hb hrt (fun t ht _ => hS.q ht rfl) hS.2.2.2.2 dX9_biteTold_70 hlk
      · have hr := hi6.2 c6
        refine lv_iload_n hx hb dX9_biteTold_47 rfl (lv_at hl 3 rfl) ?_
        have hi7 := br_ite hr
        refine lv_if_ne (tgt := 56) hx hb dX9_biteTold_48 (by decide) (fun c7 => ?_) (fun c7 => ?_)
        · have hr := hi7.2 c7
          refine lv_aload_n hx hb dX9_biteTold_56 rfl (lv_at hl 1 rfl) ?_
          refine lv_aload_n hx hb dX9_biteTold_57 rfl (lv_at hl 1 rfl) ?_
          refine va_get (D := D) (ci := 8) (v := .int (mG_left g)) (C := RX9) (T := TX9) (N := 26) hx hb hts in_X9 hown hG.1 hP 0 rfl rfl 0 (by decide) (hts _ q1180) (fun _ h9 => h9) rfl dX9_biteTold_58 ?_
          refine lv_iload hx hb dX9_biteTold_61 (lv_at hl 0 rfl) ?_
          obtain ⟨o8, ho8, hr⟩ := br_bind hr
          refine fwS (As := [.int (mG_left g), .int o5]) (rest := [.ref (am 0)]) hx hb hml hown hts (m_X9_after l (mG_left g) o5 o8 ho8) (cw_X9_after hts q1431 ⟨Nat.le_of_ble_eq_true rfl, Nat.le_of_ble_eq_true rfl⟩) rfl hl.1 rfl (Nat.le_of_ble_eq_true rfl) dX9_biteTold_63 ⟨Nat.le_of_ble_eq_true rfl, Nat.le_of_ble_eq_true rfl⟩ ?_
          refine lv_iload_n hx hb dX9_biteTold_66 rfl (lv_at hl 2 rfl) ?_
          obtain ⟨o9, ho9, hr⟩ := br_bind hr
          refine fwRV (As := [.int o8, .int a1]) (rest := []) (C := RX9) hx hb hml hown hts (m_X9_shareOf l D am ac g  o8 a1 o9 ho9) (cw_X9_shareOf hts q1352 ⟨Nat.le_of_ble_eq_true rfl, Nat.le_of_ble_eq_true rfl⟩) hG hP hP 0 8 rfl rfl rfl hl.1 rfl (Nat.le_of_ble_eq_true rfl) dX9_biteTold_67 ⟨Nat.le_of_ble_eq_true rfl, Nat.le_of_ble_eq_true rfl⟩ ?_
          obtain rfl := Option.some.inj hr
          refine W.widen (k := rm_X9_biteTold.cells) (n := rm_X9_biteTold.slots) (Nat.le_of_ble_eq_true rfl) (Nat.le_of_ble_eq_true rfl) ?_
          exact W.iret hx hb hrt (fun t ht _ => hS.q ht rfl) hS.2.2.2.2 dX9_biteTold_70 hlk
        · have hr := hi7.1 c7
          refine lv_iload hx hb dX9_biteTold_51 (lv_at hl 0 rfl) ?_
          refine lv_goto (tgt := 70) hx hb dX9_biteTold_53 (by decide) ?_
          obtain rfl := Option.some.inj hr
          refine W.widen (k := rm_X9_biteTold.cells) (n := rm_X9_biteTold.slots) (Nat.le_of_ble_eq_true rfl) (Nat.le_of_ble_eq_true rfl) ?_
          exact W.iret hx hb hrt (fun t ht _ => hS.q ht rfl) hS.2.2.2.2 dX9_biteTold_70 hlk
    · have hr := hi4.1 c4
      refine lv_aload_n hx hb dX9_biteTold_23 rfl (lv_at hl 0 rfl) ?_
      refine lv_bipush (v := (-2)) hx hb dX9_biteTold_24 rfl ?_
      obtain ⟨o10, ho10, hr⟩ := br_bind hr
      refine fwWVs (As := [.int (-2)]) (rest := []) (C := RX9) hx hb hml hown hts (m_X9_no l D am ac g (-2 : Int32) _ o10 ho10) (cw_X9_no hts q1263 ⟨Nat.le_of_ble_eq_true rfl, Nat.le_of_ble_eq_true rfl⟩) hG hS hA rfl 0 8 rfl rfl rfl hl.1 rfl (Nat.le_of_ble_eq_true rfl) dX9_biteTold_26 ⟨Nat.le_of_ble_eq_true rfl, Nat.le_of_ble_eq_true rfl⟩ (fun H locs hS => ?_)
      have hP := hS.1
      obtain rfl := Option.some.inj hr
      refine W.widen (k := rm_X9_biteTold.cells) (n := rm_X9_biteTold.slots) (Nat.le_of_ble_eq_true rfl) (Nat.le_of_ble_eq_true rfl) ?_
      exact W.iret hx hb hrt (fun t ht _ => hS.q ht rfl) hS.2.2.2.2 dX9_biteTold_29 hlk
  · have hr := hi2.1 c2
    refine lv_aload_n hx hb dX9_biteTold_8 rfl (lv_at hl 0 rfl) ?_
    refine lv_iconst (v := (-1)) hx hb dX9_biteTold_9 rfl ?_
    obtain ⟨o11, ho11, hr⟩ := br_bind hr
    refine fwWVs (As := [.int (-1)]) (rest := []) (C := RX9) hx hb hml hown hts (m_X9_no l D am ac g (-1 : Int32) _ o11 ho11) (cw_X9_no hts q1263 ⟨Nat.le_of_ble_eq_true rfl, Nat.le_of_ble_eq_true rfl⟩) hG hS hA rfl 0 8 rfl rfl rfl hl.1 rfl (Nat.le_of_ble_eq_true rfl) dX9_biteTold_10 ⟨Nat.le_of_ble_eq_true rfl, Nat.le_of_ble_eq_true rfl⟩ (fun H locs hS => ?_)
    have hP := hS.1
    obtain rfl := Option.some.inj hr
    refine W.widen (k := rm_X9_biteTold.cells) (n := rm_X9_biteTold.slots) (Nat.le_of_ble_eq_true rfl) (Nat.le_of_ble_eq_true rfl) ?_
    exact W.iret hx hb hrt (fun t ht _ => hS.q ht rfl) hS.2.2.2.2 dX9_biteTold_13 hlk
theorem cw_X9_biteTold {R : Room} {s : State} {args : Array Value} {own : String} {index : Nat} (hts : ∀ w ∈ lw_all, w.before args s = true) (hlink : Cond.methodLink own index yX9_biteTold ∈ lw_all) (hR : rm_X9_biteTold.frames + 1 ≤ R.frames ∧ 8 + (5 + 11) + rm_X9_biteTold.locals ≤ R.locals) : CallW R s args own RX9 index yX9_biteTold cX9_biteTold 5 (some FieldType.int) (ws_ yX9_biteTold cX9_biteTold 5 (some FieldType.int)) rm_X9_biteTold rm_X9_biteTold.cells rm_X9_biteTold.slots 3 :=
  cwV 3 hts (lw_V hlink q1425 qs88 q111 q1426) rfl rfl rfl (by decide +kernel) hR
def f_X9_best (g : MS) (a1 : Int32) (a2 : Int32) : Option (Int32 × MS) := Option.bind (f_X9_biteTold g a1 a2 (1 : Int32)) fun o1 => some (o1.1, o1.2)
abbrev rm_X9_best : Room := ({ frames := 8, cells := 0, slots := 0, locals := 188 })
set_option maxHeartbeats 4000000 in
theorem m_X9_best (l : Launch) (D : va_G) (am : Nat → Nat) (ac : Nat → ClassId) (g : MS) (a1 : Int32) (a2 : Int32) (sz : Nat) (r0 : Int32 × MS) (hr : f_X9_best g a1 a2 = some r0) : WM l yX9_best cX9_best 3 (some FieldType.int) rm_X9_best [.ref (am 0), .int a1, .int a2] D ac (wM am ac g) (wM am ac r0.2) sz (some (.int r0.1)) := by
  refine fw_of (by decide) (Nat.le_of_ble_eq_true rfl) ?_
  intro p e s m below meth c ls hx hb hrt hts hown hlk hml _ hU hl
  obtain ⟨rfl, hP, hG, hD⟩ := hU
  have hA : ∀ q : Nat, s.heap.size ≤ q → va_A (wM am ac g) s.heap.size q := fun q h => Or.inr h
  have hS := Stt.start hP hD
  show WW p l e rm_X9_best s m [.ref (am 0), .int a1, .int a2] below meth c D (wM am ac r0.2) (va_A (wM am ac g) s.heap.size) (some (.int r0.1)) s.heap [] 0 0 0 ls []
  have hl : lv_has ls 3 [(0, .ref (am 0)), (1, .int a1), (2, .int a2)] := hl
  rw [f_X9_best] at hr
  refine lv_aload_n hx hb dX9_best_0 rfl (lv_at hl 0 rfl) ?_
  refine lv_iload_n hx hb dX9_best_1 rfl (lv_at hl 1 rfl) ?_
  refine lv_iload_n hx hb dX9_best_2 rfl (lv_at hl 2 rfl) ?_
  refine lv_iconst (v := 1) hx hb dX9_best_3 rfl ?_
  obtain ⟨o1, ho1, hr⟩ := br_bind hr
  refine fwWVs (As := [.int a1, .int a2, .int 1]) (rest := []) (C := RX9) hx hb hml hown hts (m_X9_biteTold l D am ac g a1 a2 (1 : Int32) _ o1 ho1) (cw_X9_biteTold hts q1423 ⟨Nat.le_of_ble_eq_true rfl, Nat.le_of_ble_eq_true rfl⟩) hG hS hA rfl 0 8 rfl rfl rfl hl.1 rfl (Nat.le_of_ble_eq_true rfl) dX9_best_4 ⟨Nat.le_of_ble_eq_true rfl, Nat.le_of_ble_eq_true rfl⟩ (fun H locs hS => ?_)
  have hP := hS.1
  obtain rfl := Option.some.inj hr
  refine W.widen (k := rm_X9_best.cells) (n := rm_X9_best.slots) (Nat.le_of_ble_eq_true rfl) (Nat.le_of_ble_eq_true rfl) ?_
  exact W.iret hx hb hrt (fun t ht _ => hS.q ht rfl) hS.2.2.2.2 dX9_best_7 hlk
theorem cw_X9_best {R : Room} {s : State} {args : Array Value} {own : String} {index : Nat} (hts : ∀ w ∈ lw_all, w.before args s = true) (hlink : Cond.methodLink own index yX9_best ∈ lw_all) (hR : rm_X9_best.frames + 1 ≤ R.frames ∧ 8 + (3 + 11) + rm_X9_best.locals ≤ R.locals) : CallW R s args own RX9 index yX9_best cX9_best 3 (some FieldType.int) (ws_ yX9_best cX9_best 3 (some FieldType.int)) rm_X9_best rm_X9_best.cells rm_X9_best.slots 2 :=
  cwV 2 hts (lw_V hlink q1420 q1421 q111 q1422) rfl rfl rfl (by decide +kernel) hR
def f_X9_worst (g : MS) (a1 : Int32) (a2 : Int32) : Option (Int32 × MS) := Option.bind (f_X9_biteTold g a1 a2 (-1 : Int32)) fun o1 => some (o1.1, o1.2)
abbrev rm_X9_worst : Room := ({ frames := 8, cells := 0, slots := 0, locals := 188 })
set_option maxHeartbeats 4000000 in
theorem m_X9_worst (l : Launch) (D : va_G) (am : Nat → Nat) (ac : Nat → ClassId) (g : MS) (a1 : Int32) (a2 : Int32) (sz : Nat) (r0 : Int32 × MS) (hr : f_X9_worst g a1 a2 = some r0) : WM l yX9_worst cX9_worst 3 (some FieldType.int) rm_X9_worst [.ref (am 0), .int a1, .int a2] D ac (wM am ac g) (wM am ac r0.2) sz (some (.int r0.1)) := by
  refine fw_of (by decide) (Nat.le_of_ble_eq_true rfl) ?_
  intro p e s m below meth c ls hx hb hrt hts hown hlk hml _ hU hl
  obtain ⟨rfl, hP, hG, hD⟩ := hU
  have hA : ∀ q : Nat, s.heap.size ≤ q → va_A (wM am ac g) s.heap.size q := fun q h => Or.inr h
  have hS := Stt.start hP hD
  show WW p l e rm_X9_worst s m [.ref (am 0), .int a1, .int a2] below meth c D (wM am ac r0.2) (va_A (wM am ac g) s.heap.size) (some (.int r0.1)) s.heap [] 0 0 0 ls []
  have hl : lv_has ls 3 [(0, .ref (am 0)), (1, .int a1), (2, .int a2)] := hl
  rw [f_X9_worst] at hr
  refine lv_aload_n hx hb dX9_worst_0 rfl (lv_at hl 0 rfl) ?_
  refine lv_iload_n hx hb dX9_worst_1 rfl (lv_at hl 1 rfl) ?_
  refine lv_iload_n hx hb dX9_worst_2 rfl (lv_at hl 2 rfl) ?_
  refine lv_iconst (v := (-1)) hx hb dX9_worst_3 rfl ?_
  obtain ⟨o1, ho1, hr⟩ := br_bind hr
  refine fwWVs (As := [.int a1, .int a2, .int (-1)]) (rest := []) (C := RX9) hx hb hml hown hts (m_X9_biteTold l D am ac g a1 a2 (-1 : Int32) _ o1 ho1) (cw_X9_biteTold hts q1423 ⟨Nat.le_of_ble_eq_true rfl, Nat.le_of_ble_eq_true rfl⟩) hG hS hA rfl 0 8 rfl rfl rfl hl.1 rfl (Nat.le_of_ble_eq_true rfl) dX9_worst_4 ⟨Nat.le_of_ble_eq_true rfl, Nat.le_of_ble_eq_true rfl⟩ (fun H locs hS => ?_)
  have hP := hS.1
  obtain rfl := Option.some.inj hr
  refine W.widen (k := rm_X9_worst.cells) (n := rm_X9_worst.slots) (Nat.le_of_ble_eq_true rfl) (Nat.le_of_ble_eq_true rfl) ?_
  exact W.iret hx hb hrt (fun t ht _ => hS.q ht rfl) hS.2.2.2.2 dX9_worst_7 hlk
theorem cw_X9_worst {R : Room} {s : State} {args : Array Value} {own : String} {index : Nat} (hts : ∀ w ∈ lw_all, w.before args s = true) (hlink : Cond.methodLink own index yX9_worst ∈ lw_all) (hR : rm_X9_worst.frames + 1 ≤ R.frames ∧ 8 + (3 + 11) + rm_X9_worst.locals ≤ R.locals) : CallW R s args own RX9 index yX9_worst cX9_worst 3 (some FieldType.int) (ws_ yX9_worst cX9_worst 3 (some FieldType.int)) rm_X9_worst rm_X9_worst.cells rm_X9_worst.slots 2 :=
  cwV 2 hts (lw_V hlink q1435 q1436 q111 q1437) rfl rfl rfl (by decide +kernel) hR
def f_X9_isSoBy_L33 (a1 : Int32) (a2 : Int32) (a3 : Int32) (a4 : Int32) (rec_ : Int32 → Int32 → Int32 → Int32 → Option Int32) (x5_2 : Int32) : Nat → Int32 → Option ((Int32) ⊕ (Unit))
  | 0, _ => none
  | n + 1, x6_4 => if 25 ≤ x6_4 then some (Sum.inr ()) else Option.bind (f_X9_canBite a1 x5_2 x6_4) fun o6 => if o6 = 0 then Option.bind (some ((x6_4 + 1) : Int32)) fun v8 => f_X9_isSoBy_L33 a1 a2 a3 a4 rec_ x5_2 n v8 else Option.bind (f_X9_bite x5_2 x6_4) fun o9 => Option.bind (rec_ (a1 &&& (o9 ^^^ (-1))) a2 a3 (a4 - 1)) fun o10 => if o10 = 0 then Option.bind (some ((x6_4 + 1) : Int32)) fun v12 => f_X9_isSoBy_L33 a1 a2 a3 a4 rec_ x5_2 n v12 else some (Sum.inl 1)
def f_X9_isSoBy_L24 (a1 : Int32) (a2 : Int32) (a3 : Int32) (a4 : Int32) (rec_ : Int32 → Int32 → Int32 → Int32 → Option Int32) : Nat → Int32 → Option ((Int32) ⊕ (Unit))
  | 0, _ => none
  | n + 1, x5_2 => if 4 ≤ x5_2 then some (Sum.inr ()) else bsO (f_X9_isSoBy_L33 a1 a2 a3 a4 rec_ x5_2 1000 0) fun t4 => Option.bind (some ((x5_2 + 1) : Int32)) fun v13 => f_X9_isSoBy_L24 a1 a2 a3 a4 rec_ n v13
def f_X9_isSoBy : Nat → MS → Int32 → Int32 → Int32 → Int32 → Option (Int32)
  | 0, _, _, _, _, _ => none
  | d_ + 1, g, a1, a2, a3, a4 => if a4 = 0 then Option.bind (f_X9_shareOf g a1 a2) fun o14 => if o14 < a3 then some 0 else some 1 else bsR (f_X9_isSoBy_L24 a1 a2 a3 a4 (f_X9_isSoBy d_ g) 1000 0) fun t2 => some 0
abbrev rm_X9_isSoBy (d : Nat) : Room := ({ frames := 6 + d, cells := 0, slots := 0, locals := 136 + d * 26 })
theorem cw_X9_isSoBy (d : Nat) {R : Room} {s : State} {args : Array Value} {own : String} {index : Nat} (hts : ∀ w ∈ lw_all, w.before args s = true) (hlink : Cond.methodLink own index yX9_isSoBy ∈ lw_all) (hR : (rm_X9_isSoBy d).frames + 1 ≤ R.frames ∧ 8 + (7 + 11) + (rm_X9_isSoBy d).locals ≤ R.locals) : CallW R s args own RX9 index yX9_isSoBy cX9_isSoBy 7 (some FieldType.boolean) (ws_ yX9_isSoBy cX9_isSoBy 7 (some FieldType.boolean)) (rm_X9_isSoBy d) 0 0 4 :=
  cwV 4 hts (lw_V hlink q1444 qs90 q111 q1445) rfl rfl rfl (by decide +kernel) hR
set_option maxHeartbeats 4000000 in
theorem m_X9_isSoBy (l : Launch) (D : va_G) (am : Nat → Nat) (ac : Nat → ClassId) (g : MS) : ∀ (d_ : Nat) (a1 : Int32) (a2 : Int32) (a3 : Int32) (a4 : Int32) (r0 : Int32) (hr : f_X9_isSoBy d_ g a1 a2 a3 a4 = some r0), PM l yX9_isSoBy cX9_isSoBy 7 (some FieldType.boolean) (rm_X9_isSoBy d_) [.ref (am 0), .int a1, .int a2, .int a3, .int a4] (RP D ac (wM am ac g)) (some (.int r0)) := by
  intro d_
  induction d_ with
  | zero => intro a1 a2 a3 a4 r0 hr; rw [f_X9_isSoBy] at hr; cases hr
  | succ d_ ihr =>
  intro a1 a2 a3 a4 r0 hr
  refine fw_of (by decide) (Nat.le_of_ble_eq_true rfl) ?_
  intro p e s m below meth c ls hx hb hrt hts hown hlk hml _ hU hl
  obtain ⟨hP, hG⟩ := hU
  have hl : lv_has ls 7 [(0, .ref (am 0)), (1, .int a1), (2, .int a2), (3, .int a3), (4, .int a4)] := hl
  rw [f_X9_isSoBy] at hr
  refine lv_iload hx hb dX9_isSoBy_0 (lv_at hl 4 rfl) ?_
  have hi1 := br_ite hr
  refine lv_if_ne (tgt := 21) hx hb dX9_isSoBy_2 (by decide) (fun c1 => ?_) (fun c1 => ?_)
  · have hr := hi1.2 c1
    refine lv_iconst (v := 0) hx hb dX9_isSoBy_21 rfl ?_
    refine lv_istore (lv' := [(5, .int 0), (0, .ref (am 0)), (1, .int a1), (2, .int a2), (3, .int a3), (4, .int a4)]) hx hb dX9_isSoBy_22 hl (by decide) rfl (fun ls hl => ?_)
    have L2 : ∀ (n : Nat) (x5_2 : Int32) (o2 : (Int32) ⊕ (Unit)), f_X9_isSoBy_L24 a1 a2 a3 a4 (f_X9_isSoBy d_ g) n x5_2 = some o2 → (∀ r, o2 = Sum.inl r → some r = some r0) → ∀ ls, lv_has ls 7 [(5, .int x5_2), (0, .ref (am 0)), (1, .int a1), (2, .int a2), (3, .int a3), (4, .int a4)] → (∀ t2, o2 = Sum.inr t2 → ∀ ls, lv_has ls 7 [] → WP p l e (rm_X9_isSoBy (d_ + 1)) s m [.ref (am 0), .int a1, .int a2, .int a3, .int a4] below meth c (some (.int r0)) 89 ls []) → WP p l e (rm_X9_isSoBy (d_ + 1)) s m [.ref (am 0), .int a1, .int a2, .int a3, .int a4] below meth c (some (.int r0)) 24 ls [] := by
      intro n
      induction n with
      | zero => intro x5_2 o2 hr; rw [f_X9_isSoBy_L24] at hr; cases hr
      | succ n ih =>
        intro x5_2 o2 hr hret ls hl kx
        rw [f_X9_isSoBy_L24] at hr
        refine lv_iload hx hb dX9_isSoBy_24 (lv_at hl 0 rfl) ?_
        refine lv_iconst (v := 4) hx hb dX9_isSoBy_26 rfl ?_
        have hi3 := br_ite hr
        refine lv_icmp_ge (tgt := 89) hx hb dX9_isSoBy_27 (by decide) (fun c3 => ?_) (fun c3 => ?_)
        · have hr := hi3.1 c3
          exact kx _ (Option.some.inj hr).symm ls (lv_sub hl [] rfl)
        · have hr := hi3.2 c3
          refine lv_iconst (v := 0) hx hb dX9_isSoBy_30 rfl ?_
          refine lv_istore (lv' := [(6, .int 0), (5, .int x5_2), (0, .ref (am 0)), (1, .int a1), (2, .int a2), (3, .int a3), (4, .int a4)]) hx hb dX9_isSoBy_31 hl (by decide) rfl (fun ls hl => ?_)
          have L4 : ∀ (n : Nat) (x6_4 : Int32) (o4 : (Int32) ⊕ (Unit)), f_X9_isSoBy_L33 a1 a2 a3 a4 (f_X9_isSoBy d_ g) x5_2 n x6_4 = some o4 → (∀ r, o4 = Sum.inl r → some r = some r0) → ∀ ls, lv_has ls 7 [(6, .int x6_4), (5, .int x5_2), (0, .ref (am 0)), (1, .int a1), (2, .int a2), (3, .int a3), (4, .int a4)] → (∀ t4, o4 = Sum.inr t4 → ∀ ls, lv_has ls 7 [(5, .int x5_2), (0, .ref (am 0)), (1, .int a1), (2, .int a2), (3, .int a3), (4, .int a4)] → WP p l e (rm_X9_isSoBy (d_ + 1)) s m [.ref (am 0), .int a1, .int a2, .int a3, .int a4] below meth c (some (.int r0)) 83 ls []) → WP p l e (rm_X9_isSoBy (d_ + 1)) s m [.ref (am 0), .int a1, .int a2, .int a3, .int a4] below meth c (some (.int r0)) 33 ls [] := by
            intro n
            induction n with
            | zero => intro x6_4 o4 hr; rw [f_X9_isSoBy_L33] at hr; cases hr
            | succ n ih =>
              intro x6_4 o4 hr hret ls hl kx
              rw [f_X9_isSoBy_L33] at hr
              refine lv_iload hx hb dX9_isSoBy_33 (lv_at hl 0 rfl) ?_
              refine lv_bipush (v := 25) hx hb dX9_isSoBy_35 rfl ?_
              have hi5 := br_ite hr
              refine lv_icmp_ge (tgt := 83) hx hb dX9_isSoBy_37 (by decide) (fun c5 => ?_) (fun c5 => ?_)
              · have hr := hi5.1 c5
                exact kx _ (Option.some.inj hr).symm ls (lv_sub hl [1, 2, 3, 4, 5, 6] rfl)
              · have hr := hi5.2 c5
                refine lv_iload_n hx hb dX9_isSoBy_40 rfl (lv_at hl 3 rfl) ?_
                refine lv_iload hx hb dX9_isSoBy_41 (lv_at hl 1 rfl) ?_
                refine lv_iload hx hb dX9_isSoBy_43 (lv_at hl 0 rfl) ?_
                obtain ⟨o6, ho6, hr⟩ := br_bind hr
                refine fwS (As := [.int a1, .int x5_2, .int x6_4]) (rest := []) hx hb hml hown hts (m_X9_canBite l a1 x5_2 x6_4 o6 ho6) (cw_X9_canBite hts q1304 ⟨by dsimp only [rm_X9_isSoBy, rm_X9_bite, rm_X9_canBite, rm_X9_shareOf]; omega, by dsimp only [rm_X9_isSoBy, rm_X9_bite, rm_X9_canBite, rm_X9_shareOf]; omega⟩) rfl hl.1 rfl (Nat.le_of_ble_eq_true rfl) dX9_isSoBy_45 ⟨Nat.zero_le _, Nat.zero_le _⟩ ?_
                have hi7 := br_ite hr
                refine lv_if_eq (tgt := 77) hx hb dX9_isSoBy_48 (by decide) (fun c7 => ?_) (fun c7 => ?_)
                · have hr := hi7.1 c7
                  obtain ⟨v8, hv8, hr⟩ := br_let hr
                  refine lv_iinc (v := v8) (lv' := [(6, .int v8), (5, .int x5_2), (0, .ref (am 0)), (1, .int a1), (2, .int a2), (3, .int a3), (4, .int a4)]) hx hb dX9_isSoBy_77 hl (k := 0) rfl (hv8 ▸ rfl) (by decide) rfl (fun ls hl => ?_)
                  refine lv_goto (tgt := 33) hx hb dX9_isSoBy_80 (by decide) ?_
                  exact ih v8 _ hr hret ls (lv_sub hl [0, 1, 2, 3, 4, 5, 6] rfl) kx
                · have hr := hi7.2 c7
                  refine lv_aload_n hx hb dX9_isSoBy_51 rfl (lv_at hl 2 rfl) ?_
                  refine lv_iload_n hx hb dX9_isSoBy_52 rfl (lv_at hl 3 rfl) ?_
                  refine lv_iload hx hb dX9_isSoBy_53 (lv_at hl 1 rfl) ?_
                  refine lv_iload hx hb dX9_isSoBy_55 (lv_at hl 0 rfl) ?_
                  obtain ⟨o9, ho9, hr⟩ := br_bind hr
                  refine fwS (As := [.int x5_2, .int x6_4]) (rest := [.int a1, .ref (am 0)]) hx hb hml hown hts (m_X9_bite l x5_2 x6_4 o9 ho9) (cw_X9_bite hts q1307 ⟨by dsimp only [rm_X9_isSoBy, rm_X9_bite, rm_X9_canBite, rm_X9_shareOf]; omega, by dsimp only [rm_X9_isSoBy, rm_X9_bite, rm_X9_canBite, rm_X9_shareOf]; omega⟩) rfl hl.1 rfl (Nat.le_of_ble_eq_true rfl) dX9_isSoBy_57 ⟨Nat.zero_le _, Nat.zero_le _⟩ ?_
                  refine lv_iconst (v := (-1)) hx hb dX9_isSoBy_60 rfl ?_
                  refine lv_ixor hx hb dX9_isSoBy_61 ?_
                  refine lv_iand hx hb dX9_isSoBy_62 ?_
                  refine lv_iload_n hx hb dX9_isSoBy_63 rfl (lv_at hl 4 rfl) ?_
                  refine lv_iload_n hx hb dX9_isSoBy_64 rfl (lv_at hl 5 rfl) ?_
                  refine lv_iload hx hb dX9_isSoBy_65 (lv_at hl 6 rfl) ?_
                  refine lv_iconst (v := 1) hx hb dX9_isSoBy_67 rfl ?_
                  refine lv_isub hx hb dX9_isSoBy_68 ?_
                  obtain ⟨o10, ho10, hr⟩ := br_bind hr
                  refine fwRV (As := [.int (a1 &&& (o9 ^^^ (-1))), .int a2, .int a3, .int (a4 - 1)]) (rest := []) (C := RX9) hx hb hml hown hts (ihr (a1 &&& (o9 ^^^ (-1))) a2 a3 (a4 - 1) o10 ho10) (cw_X9_isSoBy d_ hts q1442 ⟨by dsimp only [rm_X9_isSoBy, rm_X9_bite, rm_X9_canBite, rm_X9_shareOf]; omega, by dsimp only [rm_X9_isSoBy, rm_X9_bite, rm_X9_canBite, rm_X9_shareOf]; omega⟩) hG hP hP 0 8 rfl rfl rfl hl.1 rfl (Nat.le_of_ble_eq_true rfl) dX9_isSoBy_69 ⟨Nat.zero_le _, Nat.zero_le _⟩ ?_
                  have hi11 := br_ite hr
                  refine lv_if_eq (tgt := 77) hx hb dX9_isSoBy_72 (by decide) (fun c11 => ?_) (fun c11 => ?_)
                  · have hr := hi11.1 c11
                    obtain ⟨v12, hv12, hr⟩ := br_let hr
                    refine lv_iinc (v := v12) (lv' := [(6, .int v12), (5, .int x5_2), (0, .ref (am 0)), (1, .int a1), (2, .int a2), (3, .int a3), (4, .int a4)]) hx hb dX9_isSoBy_77 hl (k := 0) rfl (hv12 ▸ rfl) (by decide) rfl (fun ls hl => ?_)
                    refine lv_goto (tgt := 33) hx hb dX9_isSoBy_80 (by decide) ?_
                    exact ih v12 _ hr hret ls (lv_sub hl [0, 1, 2, 3, 4, 5, 6] rfl) kx
                  · have hr := hi11.2 c11
                    refine lv_iconst (v := 1) hx hb dX9_isSoBy_75 rfl ?_
                    have hr := hret _ (Option.some.inj hr).symm
                    exact W.zret hx hb hrt rfl (fun t ht _ => ⟨ret_i hr, ht⟩) noB dX9_isSoBy_76 hlk
          obtain ⟨o4, ho4, hl4, hk4⟩ := br_bsO hr
          refine L4 1000 0 o4 ho4 (fun r hq => hret _ (Option.some.inj (hl4 r hq)).symm) ls (lv_sub hl [0, 1, 2, 3, 4, 5, 6] rfl) (fun t4 hq4 ls hl => ?_)
          have hr := hk4 t4 hq4
          obtain ⟨v13, hv13, hr⟩ := br_let hr
          refine lv_iinc (v := v13) (lv' := [(5, .int v13), (0, .ref (am 0)), (1, .int a1), (2, .int a2), (3, .int a3), (4, .int a4)]) hx hb dX9_isSoBy_83 hl (k := 0) rfl (hv13 ▸ rfl) (by decide) rfl (fun ls hl => ?_)
          refine lv_goto (tgt := 24) hx hb dX9_isSoBy_86 (by decide) ?_
          exact ih v13 _ hr hret ls (lv_sub hl [0, 1, 2, 3, 4, 5] rfl) kx
    obtain ⟨o2, ho2, hl2, hk2⟩ := br_bsR hr
    refine L2 1000 0 o2 ho2 (fun r hq => hl2 r hq) ls (lv_sub hl [0, 1, 2, 3, 4, 5] rfl) (fun t2 hq2 ls hl => ?_)
    have hr := hk2 t2 hq2
    refine lv_iconst (v := 0) hx hb dX9_isSoBy_89 rfl ?_
    exact W.zret hx hb hrt rfl (fun t ht _ => ⟨ret_i hr, ht⟩) noB dX9_isSoBy_90 hlk
  · have hr := hi1.1 c1
    refine lv_aload_n hx hb dX9_isSoBy_5 rfl (lv_at hl 0 rfl) ?_
    refine lv_iload_n hx hb dX9_isSoBy_6 rfl (lv_at hl 1 rfl) ?_
    refine lv_iload_n hx hb dX9_isSoBy_7 rfl (lv_at hl 2 rfl) ?_
    obtain ⟨o14, ho14, hr⟩ := br_bind hr
    refine fwRV (As := [.int a1, .int a2]) (rest := []) (C := RX9) hx hb hml hown hts (m_X9_shareOf l D am ac g  a1 a2 o14 ho14) (cw_X9_shareOf hts q1352 ⟨by dsimp only [rm_X9_isSoBy, rm_X9_bite, rm_X9_canBite, rm_X9_shareOf]; omega, by dsimp only [rm_X9_isSoBy, rm_X9_bite, rm_X9_canBite, rm_X9_shareOf]; omega⟩) hG hP hP 0 8 rfl rfl rfl hl.1 rfl (Nat.le_of_ble_eq_true rfl) dX9_isSoBy_8 ⟨Nat.zero_le _, Nat.zero_le _⟩ ?_
    refine lv_iload_n hx hb dX9_isSoBy_11 rfl (lv_at hl 3 rfl) ?_
    have hi15 := br_ite hr
    refine lv_icmp_lt (tgt := 19) hx hb dX9_isSoBy_12 (by decide) (fun c15 => ?_) (fun c15 => ?_)
    · have hr := hi15.1 c15
      refine lv_iconst (v := 0) hx hb dX9_isSoBy_19 rfl ?_
      exact W.zret hx hb hrt rfl (fun t ht _ => ⟨ret_i hr, ht⟩) noB dX9_isSoBy_20 hlk
    · have hr := hi15.2 c15
      refine lv_iconst (v := 1) hx hb dX9_isSoBy_15 rfl ?_
      refine lv_goto (tgt := 20) hx hb dX9_isSoBy_16 (by decide) ?_
      exact W.zret hx hb hrt rfl (fun t ht _ => ⟨ret_i hr, ht⟩) noB dX9_isSoBy_20 hlk
def f_X9_firstSo_L12 (g : MS) (a1 : Int32) (a2 : Int32) (a3 : Int32) (x4_1 : Int32) : Nat → Int32 → Option ((Int32) ⊕ (Unit))
  | 0, _ => none
  | n + 1, x5_3 => if 25 ≤ x5_3 then some (Sum.inr ()) else Option.bind (f_X9_canBite (mG_left g) x4_1 x5_3) fun o5 => if o5 = 0 then Option.bind (some ((x5_3 + 1) : Int32)) fun v7 => f_X9_firstSo_L12 g a1 a2 a3 x4_1 n v7 else Option.bind (f_X9_bite x4_1 x5_3) fun o8 => Option.bind (f_X9_isSoBy 4 g ((mG_left g) &&& (o8 ^^^ (-1))) a1 a2 (a3 - 1)) fun o9 => if o9 = 0 then Option.bind (some ((x5_3 + 1) : Int32)) fun v11 => f_X9_firstSo_L12 g a1 a2 a3 x4_1 n v11 else some (Sum.inl (((100 : Int32) * x4_1) + x5_3))
def f_X9_firstSo_L3 (g : MS) (a1 : Int32) (a2 : Int32) (a3 : Int32) : Nat → Int32 → Option ((Int32) ⊕ (Unit))
  | 0, _ => none
  | n + 1, x4_1 => if 4 ≤ x4_1 then some (Sum.inr ()) else bsO (f_X9_firstSo_L12 g a1 a2 a3 x4_1 1000 0) fun t3 => Option.bind (some ((x4_1 + 1) : Int32)) fun v12 => f_X9_firstSo_L3 g a1 a2 a3 n v12
def f_X9_firstSo (g : MS) (a1 : Int32) (a2 : Int32) (a3 : Int32) : Option (Int32) := bsR (f_X9_firstSo_L3 g a1 a2 a3 1000 0) fun t1 => some (-9)
abbrev rm_X9_firstSo : Room := ({ frames := 11, cells := 0, slots := 0, locals := 266 })
set_option maxHeartbeats 4000000 in
theorem m_X9_firstSo (l : Launch) (D : va_G) (am : Nat → Nat) (ac : Nat → ClassId) (g : MS) (a1 : Int32) (a2 : Int32) (a3 : Int32) (r0 : Int32) (hr : f_X9_firstSo g a1 a2 a3 = some r0) : PM l yX9_firstSo cX9_firstSo 6 (some FieldType.int) rm_X9_firstSo [.ref (am 0), .int a1, .int a2, .int a3] (RP D ac (wM am ac g)) (some (.int r0)) := by
  refine fw_of (by decide) (Nat.le_of_ble_eq_true rfl) ?_
  intro p e s m below meth c ls hx hb hrt hts hown hlk hml _ hU hl
  obtain ⟨hP, hG⟩ := hU
  have hl : lv_has ls 6 [(0, .ref (am 0)), (1, .int a1), (2, .int a2), (3, .int a3)] := hl
  rw [f_X9_firstSo] at hr
  refine lv_iconst (v := 0) hx hb dX9_firstSo_0 rfl ?_
  refine lv_istore (lv' := [(4, .int 0), (0, .ref (am 0)), (1, .int a1), (2, .int a2), (3, .int a3)]) hx hb dX9_firstSo_1 hl (by decide) rfl (fun ls hl => ?_)
  have L1 : ∀ (n : Nat) (x4_1 : Int32) (o1 : (Int32) ⊕ (Unit)), f_X9_firstSo_L3 g a1 a2 a3 n x4_1 = some o1 → (∀ r, o1 = Sum.inl r → some r = some r0) → ∀ ls, lv_has ls 6 [(4, .int x4_1), (0, .ref (am 0)), (1, .int a1), (2, .int a2), (3, .int a3)] → (∀ t1, o1 = Sum.inr t1 → ∀ ls, lv_has ls 6 [] → WP p l e rm_X9_firstSo s m [.ref (am 0), .int a1, .int a2, .int a3] below meth c (some (.int r0)) 80 ls []) → WP p l e rm_X9_firstSo s m [.ref (am 0), .int a1, .int a2, .int a3] below meth c (some (.int r0)) 3 ls [] := by
    intro n
    induction n with
    | zero => intro x4_1 o1 hr; rw [f_X9_firstSo_L3] at hr; cases hr
    | succ n ih =>
      intro x4_1 o1 hr hret ls hl kx
      rw [f_X9_firstSo_L3] at hr
      refine lv_iload hx hb dX9_firstSo_3 (lv_at hl 0 rfl) ?_
      refine lv_iconst (v := 4) hx hb dX9_firstSo_5 rfl ?_
      have hi2 := br_ite hr
      refine lv_icmp_ge (tgt := 80) hx hb dX9_firstSo_6 (by decide) (fun c2 => ?_) (fun c2 => ?_)
      · have hr := hi2.1 c2
        exact kx _ (Option.some.inj hr).symm ls (lv_sub hl [] rfl)
      · have hr := hi2.2 c2
        refine lv_iconst (v := 0) hx hb dX9_firstSo_9 rfl ?_
        refine lv_istore (lv' := [(5, .int 0), (4, .int x4_1), (0, .ref (am 0)), (1, .int a1), (2, .int a2), (3, .int a3)]) hx hb dX9_firstSo_10 hl (by decide) rfl (fun ls hl => ?_)
        have L3 : ∀ (n : Nat) (x5_3 : Int32) (o3 : (Int32) ⊕ (Unit)), f_X9_firstSo_L12 g a1 a2 a3 x4_1 n x5_3 = some o3 → (∀ r, o3 = Sum.inl r → some r = some r0) → ∀ ls, lv_has ls 6 [(5, .int x5_3), (4, .int x4_1), (0, .ref (am 0)), (1, .int a1), (2, .int a2), (3, .int a3)] → (∀ t3, o3 = Sum.inr t3 → ∀ ls, lv_has ls 6 [(4, .int x4_1), (0, .ref (am 0)), (1, .int a1), (2, .int a2), (3, .int a3)] → WP p l e rm_X9_firstSo s m [.ref (am 0), .int a1, .int a2, .int a3] below meth c (some (.int r0)) 74 ls []) → WP p l e rm_X9_firstSo s m [.ref (am 0), .int a1, .int a2, .int a3] below meth c (some (.int r0)) 12 ls [] := by
          intro n
          induction n with
          | zero => intro x5_3 o3 hr; rw [f_X9_firstSo_L12] at hr; cases hr
          | succ n ih =>
            intro x5_3 o3 hr hret ls hl kx
            rw [f_X9_firstSo_L12] at hr
            refine lv_iload hx hb dX9_firstSo_12 (lv_at hl 0 rfl) ?_
            refine lv_bipush (v := 25) hx hb dX9_firstSo_14 rfl ?_
            have hi4 := br_ite hr
            refine lv_icmp_ge (tgt := 74) hx hb dX9_firstSo_16 (by decide) (fun c4 => ?_) (fun c4 => ?_)
            · have hr := hi4.1 c4
              exact kx _ (Option.some.inj hr).symm ls (lv_sub hl [1, 2, 3, 4, 5] rfl)
            · have hr := hi4.2 c4
              refine lv_aload_n hx hb dX9_firstSo_19 rfl (lv_at hl 2 rfl) ?_
              refine va_get (D := D) (ci := 8) (v := .int (mG_left g)) (C := RX9) (T := TX9) (N := 26) hx hb hts in_X9 hown hG.1 hP 0 rfl rfl 0 (by decide) (hts _ q1180) (fun _ h9 => h9) rfl dX9_firstSo_20 ?_
              refine lv_iload hx hb dX9_firstSo_23 (lv_at hl 1 rfl) ?_
              refine lv_iload hx hb dX9_firstSo_25 (lv_at hl 0 rfl) ?_
              obtain ⟨o5, ho5, hr⟩ := br_bind hr
              refine fwS (As := [.int (mG_left g), .int x4_1, .int x5_3]) (rest := []) hx hb hml hown hts (m_X9_canBite l (mG_left g) x4_1 x5_3 o5 ho5) (cw_X9_canBite hts q1304 ⟨Nat.le_of_ble_eq_true rfl, Nat.le_of_ble_eq_true rfl⟩) rfl hl.1 rfl (Nat.le_of_ble_eq_true rfl) dX9_firstSo_27 ⟨Nat.le_of_ble_eq_true rfl, Nat.le_of_ble_eq_true rfl⟩ ?_
              have hi6 := br_ite hr
              refine lv_if_eq (tgt := 68) hx hb dX9_firstSo_30 (by decide) (fun c6 => ?_) (fun c6 => ?_)
              · have hr := hi6.1 c6
                obtain ⟨v7, hv7, hr⟩ := br_let hr
                refine lv_iinc (v := v7) (lv' := [(5, .int v7), (4, .int x4_1), (0, .ref (am 0)), (1, .int a1), (2, .int a2), (3, .int a3)]) hx hb dX9_firstSo_68 hl (k := 0) rfl (hv7 ▸ rfl) (by decide) rfl (fun ls hl => ?_)
                refine lv_goto (tgt := 12) hx hb dX9_firstSo_71 (by decide) ?_
                exact ih v7 _ hr hret ls (lv_sub hl [0, 1, 2, 3, 4, 5] rfl) kx
              · have hr := hi6.2 c6
                refine lv_aload_n hx hb dX9_firstSo_33 rfl (lv_at hl 2 rfl) ?_
                refine lv_aload_n hx hb dX9_firstSo_34 rfl (lv_at hl 2 rfl) ?_
                refine va_get (D := D) (ci := 8) (v := .int (mG_left g)) (C := RX9) (T := TX9) (N := 26) hx hb hts in_X9 hown hG.1 hP 0 rfl rfl 0 (by decide) (hts _ q1180) (fun _ h9 => h9) rfl dX9_firstSo_35 ?_
                refine lv_iload hx hb dX9_firstSo_38 (lv_at hl 1 rfl) ?_
                refine lv_iload hx hb dX9_firstSo_40 (lv_at hl 0 rfl) ?_
                obtain ⟨o8, ho8, hr⟩ := br_bind hr
                refine fwS (As := [.int x4_1, .int x5_3]) (rest := [.int (mG_left g), .ref (am 0)]) hx hb hml hown hts (m_X9_bite l x4_1 x5_3 o8 ho8) (cw_X9_bite hts q1307 ⟨Nat.le_of_ble_eq_true rfl, Nat.le_of_ble_eq_true rfl⟩) rfl hl.1 rfl (Nat.le_of_ble_eq_true rfl) dX9_firstSo_42 ⟨Nat.le_of_ble_eq_true rfl, Nat.le_of_ble_eq_true rfl⟩ ?_
                refine lv_iconst (v := (-1)) hx hb dX9_firstSo_45 rfl ?_
                refine lv_ixor hx hb dX9_firstSo_46 ?_
                refine lv_iand hx hb dX9_firstSo_47 ?_
                refine lv_iload_n hx hb dX9_firstSo_48 rfl (lv_at hl 3 rfl) ?_
                refine lv_iload_n hx hb dX9_firstSo_49 rfl (lv_at hl 4 rfl) ?_
                refine lv_iload_n hx hb dX9_firstSo_50 rfl (lv_at hl 5 rfl) ?_
                refine lv_iconst (v := 1) hx hb dX9_firstSo_51 rfl ?_
                refine lv_isub hx hb dX9_firstSo_52 ?_
                obtain ⟨o9, ho9, hr⟩ := br_bind hr
                refine fwRV (As := [.int ((mG_left g) &&& (o8 ^^^ (-1))), .int a1, .int a2, .int (a3 - 1)]) (rest := []) (C := RX9) hx hb hml hown hts (m_X9_isSoBy l D am ac g 4  ((mG_left g) &&& (o8 ^^^ (-1))) a1 a2 (a3 - 1) o9 ho9) (cw_X9_isSoBy 4 hts q1442 ⟨Nat.le_of_ble_eq_true rfl, Nat.le_of_ble_eq_true rfl⟩) hG hP hP 0 8 rfl rfl rfl hl.1 rfl (Nat.le_of_ble_eq_true rfl) dX9_firstSo_53 ⟨Nat.le_of_ble_eq_true rfl, Nat.le_of_ble_eq_true rfl⟩ ?_
                have hi10 := br_ite hr
                refine lv_if_eq (tgt := 68) hx hb dX9_firstSo_56 (by decide) (fun c10 => ?_) (fun c10 => ?_)
                · have hr := hi10.1 c10
                  obtain ⟨v11, hv11, hr⟩ := br_let hr
                  refine lv_iinc (v := v11) (lv' := [(5, .int v11), (4, .int x4_1), (0, .ref (am 0)), (1, .int a1), (2, .int a2), (3, .int a3)]) hx hb dX9_firstSo_68 hl (k := 0) rfl (hv11 ▸ rfl) (by decide) rfl (fun ls hl => ?_)
                  refine lv_goto (tgt := 12) hx hb dX9_firstSo_71 (by decide) ?_
                  exact ih v11 _ hr hret ls (lv_sub hl [0, 1, 2, 3, 4, 5] rfl) kx
                · have hr := hi10.2 c10
                  refine lv_bipush (v := 100) hx hb dX9_firstSo_59 rfl ?_
                  refine lv_iload hx hb dX9_firstSo_61 (lv_at hl 1 rfl) ?_
                  refine lv_imul hx hb dX9_firstSo_63 ?_
                  refine lv_iload hx hb dX9_firstSo_64 (lv_at hl 0 rfl) ?_
                  refine lv_iadd hx hb dX9_firstSo_66 ?_
                  have hr := hret _ (Option.some.inj hr).symm
                  exact W.iret hx hb hrt (fun t ht _ => ⟨ret_i hr, ht⟩) noB dX9_firstSo_67 hlk
        obtain ⟨o3, ho3, hl3, hk3⟩ := br_bsO hr
        refine L3 1000 0 o3 ho3 (fun r hq => hret _ (Option.some.inj (hl3 r hq)).symm) ls (lv_sub hl [0, 1, 2, 3, 4, 5] rfl) (fun t3 hq3 ls hl => ?_)
        have hr := hk3 t3 hq3
        obtain ⟨v12, hv12, hr⟩ := br_let hr
        refine lv_iinc (v := v12) (lv' := [(4, .int v12), (0, .ref (am 0)), (1, .int a1), (2, .int a2), (3, .int a3)]) hx hb dX9_firstSo_74 hl (k := 0) rfl (hv12 ▸ rfl) (by decide) rfl (fun ls hl => ?_)
        refine lv_goto (tgt := 3) hx hb dX9_firstSo_77 (by decide) ?_
        exact ih v12 _ hr hret ls (lv_sub hl [0, 1, 2, 3, 4] rfl) kx
  obtain ⟨o1, ho1, hl1, hk1⟩ := br_bsR hr
  refine L1 1000 0 o1 ho1 (fun r hq => hl1 r hq) ls (lv_sub hl [0, 1, 2, 3, 4] rfl) (fun t1 hq1 ls hl => ?_)
  have hr := hk1 t1 hq1
  refine lv_bipush (v := (-9)) hx hb dX9_firstSo_80 rfl ?_
  exact W.iret hx hb hrt (fun t ht _ => ⟨ret_i hr, ht⟩) noB dX9_firstSo_82 hlk
theorem cw_X9_firstSo {R : Room} {s : State} {args : Array Value} {own : String} {index : Nat} (hts : ∀ w ∈ lw_all, w.before args s = true) (hlink : Cond.methodLink own index yX9_firstSo ∈ lw_all) (hR : rm_X9_firstSo.frames + 1 ≤ R.frames ∧ 8 + (6 + 11) + rm_X9_firstSo.locals ≤ R.locals) : CallW R s args own RX9 index yX9_firstSo cX9_firstSo 6 (some FieldType.int) (ws_ yX9_firstSo cX9_firstSo 6 (some FieldType.int)) rm_X9_firstSo rm_X9_firstSo.cells rm_X9_firstSo.slots 3 :=
  cwV 3 hts (lw_V hlink q1448 qs91 q111 q1449) rfl rfl rfl (by decide +kernel) hR
def f_X9_fewest_L53 (g : MS) (a1 : Int32) (a2 : Int32) (a3 : Int32) : Nat → Int32 → Option ((Int32 × MS) ⊕ (Unit))
  | 0, _ => none
  | n + 1, x5_10 => if 3 ≤ x5_10 then some (Sum.inr ()) else Option.bind (f_X9_isSoBy 4 g (mG_left g) a1 a2 x5_10) fun o12 => if o12 = 0 then Option.bind (some ((x5_10 + 1) : Int32)) fun v14 => f_X9_fewest_L53 g a1 a2 a3 n v14 else if a3 = 0 then some (Sum.inl (x5_10, g)) else if x5_10 = 0 then some (Sum.inl ((-9), g)) else Option.bind (f_X9_firstSo g a1 a2 x5_10) fun o17 => some (Sum.inl (o17, g))
def f_X9_fewest (g : MS) (a1 : Int32) (a2 : Int32) (a3 : Int32) : Option (Int32 × MS) := Option.bind (f_X9_isHeir g a1) fun o1 => Option.bind (α := Int32) (if o1 = 0 then some (-1) else Option.bind (f_X9_wrongBy a2 40) fun o4 => some o4) fun o3 => Option.bind (α := Int32) (if o3 = 0 then Option.bind (f_X9_isIn a3 0 1) fun o7 => if o7 = 0 then some (-2) else some o3 else some o3) fun o6 => if o6 = 0 then bsR (f_X9_fewest_L53 g a1 a2 a3 1000 0) fun t10 => some ((-9), g) else Option.bind (f_X9_no g o6) fun o18 => some (o18.1, o18.2)
abbrev rm_X9_fewest : Room := ({ frames := 12, cells := 0, slots := 0, locals := 291 })
set_option maxHeartbeats 4000000 in
theorem m_X9_fewest (l : Launch) (D : va_G) (am : Nat → Nat) (ac : Nat → ClassId) (g : MS) (a1 : Int32) (a2 : Int32) (a3 : Int32) (sz : Nat) (r0 : Int32 × MS) (hr : f_X9_fewest g a1 a2 a3 = some r0) : WM l yX9_fewest cX9_fewest 6 (some FieldType.int) rm_X9_fewest [.ref (am 0), .int a1, .int a2, .int a3] D ac (wM am ac g) (wM am ac r0.2) sz (some (.int r0.1)) := by
  refine fw_of (by decide) (Nat.le_of_ble_eq_true rfl) ?_
  intro p e s m below meth c ls hx hb hrt hts hown hlk hml _ hU hl
  obtain ⟨rfl, hP, hG, hD⟩ := hU
  have hA : ∀ q : Nat, s.heap.size ≤ q → va_A (wM am ac g) s.heap.size q := fun q h => Or.inr h
  have hS := Stt.start hP hD
  show WW p l e rm_X9_fewest s m [.ref (am 0), .int a1, .int a2, .int a3] below meth c D (wM am ac r0.2) (va_A (wM am ac g) s.heap.size) (some (.int r0.1)) s.heap [] 0 0 0 ls []
  have hl : lv_has ls 6 [(0, .ref (am 0)), (1, .int a1), (2, .int a2), (3, .int a3)] := hl
  rw [f_X9_fewest] at hr
  refine lv_aload_n hx hb dX9_fewest_0 rfl (lv_at hl 0 rfl) ?_
  refine lv_iload_n hx hb dX9_fewest_1 rfl (lv_at hl 1 rfl) ?_
  obtain ⟨o1, ho1, hr⟩ := br_bind hr
  refine fwRV (As := [.int a1]) (rest := []) (C := RX9) hx hb hml hown hts (m_X9_isHeir l D am ac g  a1 o1 ho1) (cw_X9_isHeir hts q1348 ⟨Nat.le_of_ble_eq_true rfl, Nat.le_of_ble_eq_true rfl⟩) hG hP hP 0 8 rfl rfl rfl hl.1 rfl (Nat.le_of_ble_eq_true rfl) dX9_fewest_2 ⟨Nat.le_of_ble_eq_true rfl, Nat.le_of_ble_eq_true rfl⟩ ?_
  obtain ⟨o3, ho3, hr⟩ := br_bind hr
  have J3 : ∀ (H : Heap) (locs : List Loc) ls, lv_has ls 6 [(0, .ref (am 0)), (1, .int a1), (2, .int a2), (3, .int a3)] → Stt D (va_A (wM am ac g) s.heap.size) s.heap (wM am ac g) H locs → WW p l e rm_X9_fewest s m [.ref (am 0), .int a1, .int a2, .int a3] below meth c D (wM am ac r0.2) (va_A (wM am ac g) s.heap.size) (some (.int r0.1)) H locs 0 0 18 ls [.int o3] := by
    intro H locs ls hl hS
    have hP := hS.1
    refine lv_istore (lv' := [(4, .int o3), (0, .ref (am 0)), (1, .int a1), (2, .int a2), (3, .int a3)]) hx hb dX9_fewest_18 hl (by decide) rfl (fun ls hl => ?_)
    refine lv_iload hx hb dX9_fewest_20 (lv_at hl 0 rfl) ?_
    obtain ⟨o6, ho6, hr⟩ := br_bind hr
    have J6 : ∀ (H : Heap) (locs : List Loc) ls, lv_has ls 6 [(4, .int o6), (0, .ref (am 0)), (1, .int a1), (2, .int a2), (3, .int a3)] → Stt D (va_A (wM am ac g) s.heap.size) s.heap (wM am ac g) H locs → WW p l e rm_X9_fewest s m [.ref (am 0), .int a1, .int a2, .int a3] below meth c D (wM am ac r0.2) (va_A (wM am ac g) s.heap.size) (some (.int r0.1)) H locs 0 0 38 ls [] := by
      intro H locs ls hl hS
      have hP := hS.1
      refine lv_iload hx hb dX9_fewest_38 (lv_at hl 0 rfl) ?_
      have hi9 := br_ite hr
      refine lv_if_eq (tgt := 50) hx hb dX9_fewest_40 (by decide) (fun c9 => ?_) (fun c9 => ?_)
      · have hr := hi9.1 c9
        refine lv_iconst (v := 0) hx hb dX9_fewest_50 rfl ?_
        refine lv_istore (lv' := [(5, .int 0), (4, .int o6), (0, .ref (am 0)), (1, .int a1), (2, .int a2), (3, .int a3)]) hx hb dX9_fewest_51 hl (by decide) rfl (fun ls hl => ?_)
        have L10 : ∀ (n : Nat) (x5_10 : Int32) (o10 : (Int32 × MS) ⊕ (Unit)), f_X9_fewest_L53 g a1 a2 a3 n x5_10 = some o10 → (∀ r, o10 = Sum.inl r → some r = some r0) → ∀ (H : Heap) (locs : List Loc) ls, lv_has ls 6 [(5, .int x5_10), (0, .ref (am 0)), (1, .int a1), (2, .int a2), (3, .int a3)] → Stt D (va_A (wM am ac g) s.heap.size) s.heap (wM am ac g) H locs → (∀ t10, o10 = Sum.inr t10 → ∀ (H : Heap) (locs : List Loc) ls, lv_has ls 6 [] → Stt D (va_A (wM am ac g) s.heap.size) s.heap (wM am ac g) H locs → WW p l e rm_X9_fewest s m [.ref (am 0), .int a1, .int a2, .int a3] below meth c D (wM am ac r0.2) (va_A (wM am ac g) s.heap.size) (some (.int r0.1)) H locs 0 0 108 ls []) → WW p l e rm_X9_fewest s m [.ref (am 0), .int a1, .int a2, .int a3] below meth c D (wM am ac r0.2) (va_A (wM am ac g) s.heap.size) (some (.int r0.1)) H locs 0 0 53 ls [] := by
          intro n
          induction n with
          | zero => intro x5_10 o10 hr; rw [f_X9_fewest_L53] at hr; cases hr
          | succ n ih =>
            intro x5_10 o10 hr hret H locs ls hl hS kx
            have hP := hS.1
            rw [f_X9_fewest_L53] at hr
            refine lv_iload hx hb dX9_fewest_53 (lv_at hl 0 rfl) ?_
            refine lv_iconst (v := 3) hx hb dX9_fewest_55 rfl ?_
            have hi11 := br_ite hr
            refine lv_icmp_ge (tgt := 108) hx hb dX9_fewest_56 (by decide) (fun c11 => ?_) (fun c11 => ?_)
            · have hr := hi11.1 c11
              exact kx _ (Option.some.inj hr).symm _ _ ls (lv_sub hl [] rfl) hS
            · have hr := hi11.2 c11
              refine lv_aload_n hx hb dX9_fewest_59 rfl (lv_at hl 1 rfl) ?_
              refine lv_aload_n hx hb dX9_fewest_60 rfl (lv_at hl 1 rfl) ?_
              refine va_get (D := D) (ci := 8) (v := .int (mG_left g)) (C := RX9) (T := TX9) (N := 26) hx hb hts in_X9 hown hG.1 hP 0 rfl rfl 0 (by decide) (hts _ q1180) (fun _ h9 => h9) rfl dX9_fewest_61 ?_
              refine lv_iload_n hx hb dX9_fewest_64 rfl (lv_at hl 2 rfl) ?_
              refine lv_iload_n hx hb dX9_fewest_65 rfl (lv_at hl 3 rfl) ?_
              refine lv_iload hx hb dX9_fewest_66 (lv_at hl 0 rfl) ?_
              obtain ⟨o12, ho12, hr⟩ := br_bind hr
              refine fwRV (As := [.int (mG_left g), .int a1, .int a2, .int x5_10]) (rest := []) (C := RX9) hx hb hml hown hts (m_X9_isSoBy l D am ac g 4  (mG_left g) a1 a2 x5_10 o12 ho12) (cw_X9_isSoBy 4 hts q1442 ⟨Nat.le_of_ble_eq_true rfl, Nat.le_of_ble_eq_true rfl⟩) hG hP hP 0 8 rfl rfl rfl hl.1 rfl (Nat.le_of_ble_eq_true rfl) dX9_fewest_68 ⟨Nat.le_of_ble_eq_true rfl, Nat.le_of_ble_eq_true rfl⟩ ?_
              have hi13 := br_ite hr
              refine lv_if_eq (tgt := 102) hx hb dX9_fewest_71 (by decide) (fun c13 => ?_) (fun c13 => ?_)
              · have hr := hi13.1 c13
                obtain ⟨v14, hv14, hr⟩ := br_let hr
                refine lv_iinc (v := v14) (lv' := [(5, .int v14), (0, .ref (am 0)), (1, .int a1), (2, .int a2), (3, .int a3)]) hx hb dX9_fewest_102 hl (k := 0) rfl (hv14 ▸ rfl) (by decide) rfl (fun ls hl => ?_)
                refine lv_goto (tgt := 53) hx hb dX9_fewest_105 (by decide) ?_
                exact ih v14 _ hr hret _ _ ls (lv_sub hl [0, 1, 2, 3, 4] rfl) hS kx
              · have hr := hi13.2 c13
                refine lv_iload_n hx hb dX9_fewest_74 rfl (lv_at hl 4 rfl) ?_
                have hi15 := br_ite hr
                refine lv_if_ne (tgt := 83) hx hb dX9_fewest_75 (by decide) (fun c15 => ?_) (fun c15 => ?_)
                · have hr := hi15.2 c15
                  refine lv_iload hx hb dX9_fewest_83 (lv_at hl 0 rfl) ?_
                  have hi16 := br_ite hr
                  refine lv_if_ne (tgt := 93) hx hb dX9_fewest_85 (by decide) (fun c16 => ?_) (fun c16 => ?_)
                  · have hr := hi16.2 c16
                    refine lv_aload_n hx hb dX9_fewest_93 rfl (lv_at hl 1 rfl) ?_
                    refine lv_iload_n hx hb dX9_fewest_94 rfl (lv_at hl 2 rfl) ?_
                    refine lv_iload_n hx hb dX9_fewest_95 rfl (lv_at hl 3 rfl) ?_
                    refine lv_iload hx hb dX9_fewest_96 (lv_at hl 0 rfl) ?_
                    obtain ⟨o17, ho17, hr⟩ := br_bind hr
                    refine fwRV (As := [.int a1, .int a2, .int x5_10]) (rest := []) (C := RX9) hx hb hml hown hts (m_X9_firstSo l D am ac g  a1 a2 x5_10 o17 ho17) (cw_X9_firstSo hts q1446 ⟨Nat.le_of_ble_eq_true rfl, Nat.le_of_ble_eq_true rfl⟩) hG hP hP 0 8 rfl rfl rfl hl.1 rfl (Nat.le_of_ble_eq_true rfl) dX9_fewest_98 ⟨Nat.le_of_ble_eq_true rfl, Nat.le_of_ble_eq_true rfl⟩ ?_
                    have hr := hret _ (Option.some.inj hr).symm
                    obtain rfl := Option.some.inj hr
                    refine W.widen (k := rm_X9_fewest.cells) (n := rm_X9_fewest.slots) (Nat.le_of_ble_eq_true rfl) (Nat.le_of_ble_eq_true rfl) ?_
                    exact W.iret hx hb hrt (fun t ht _ => hS.q ht rfl) hS.2.2.2.2 dX9_fewest_101 hlk
                  · have hr := hi16.1 c16
                    refine lv_bipush (v := (-9)) hx hb dX9_fewest_88 rfl ?_
                    refine lv_goto (tgt := 101) hx hb dX9_fewest_90 (by decide) ?_
                    have hr := hret _ (Option.some.inj hr).symm
                    obtain rfl := Option.some.inj hr
                    refine W.widen (k := rm_X9_fewest.cells) (n := rm_X9_fewest.slots) (Nat.le_of_ble_eq_true rfl) (Nat.le_of_ble_eq_true rfl) ?_
                    exact W.iret hx hb hrt (fun t ht _ => hS.q ht rfl) hS.2.2.2.2 dX9_fewest_101 hlk
                · have hr := hi15.1 c15
                  refine lv_iload hx hb dX9_fewest_78 (lv_at hl 0 rfl) ?_
                  refine lv_goto (tgt := 101) hx hb dX9_fewest_80 (by decide) ?_
                  have hr := hret _ (Option.some.inj hr).symm
                  obtain rfl := Option.some.inj hr
                  refine W.widen (k := rm_X9_fewest.cells) (n := rm_X9_fewest.slots) (Nat.le_of_ble_eq_true rfl) (Nat.le_of_ble_eq_true rfl) ?_
                  exact W.iret hx hb hrt (fun t ht _ => hS.q ht rfl) hS.2.2.2.2 dX9_fewest_101 hlk
        obtain ⟨o10, ho10, hl10, hk10⟩ := br_bsR hr
        refine L10 1000 0 o10 ho10 (fun r hq => hl10 r hq) _ _ ls (lv_sub hl [0, 2, 3, 4, 5] rfl) hS (fun t10 hq10 H locs ls hl hS => ?_)
        have hP := hS.1
        have hr := hk10 t10 hq10
        refine lv_bipush (v := (-9)) hx hb dX9_fewest_108 rfl ?_
        obtain rfl := Option.some.inj hr
        refine W.widen (k := rm_X9_fewest.cells) (n := rm_X9_fewest.slots) (Nat.le_of_ble_eq_true rfl) (Nat.le_of_ble_eq_true rfl) ?_
        exact W.iret hx hb hrt (fun t ht _ => hS.q ht rfl) hS.2.2.2.2 dX9_fewest_110 hlk
      · have hr := hi9.2 c9
        refine lv_aload_n hx hb dX9_fewest_43 rfl (lv_at hl 1 rfl) ?_
        refine lv_iload hx hb dX9_fewest_44 (lv_at hl 0 rfl) ?_
        obtain ⟨o18, ho18, hr⟩ := br_bind hr
        refine fwWVs (As := [.int o6]) (rest := []) (C := RX9) hx hb hml hown hts (m_X9_no l D am ac g o6 _ o18 ho18) (cw_X9_no hts q1263 ⟨Nat.le_of_ble_eq_true rfl, Nat.le_of_ble_eq_true rfl⟩) hG hS hA rfl 0 8 rfl rfl rfl hl.1 rfl (Nat.le_of_ble_eq_true rfl) dX9_fewest_46 ⟨Nat.le_of_ble_eq_true rfl, Nat.le_of_ble_eq_true rfl⟩ (fun H locs hS => ?_)
        have hP := hS.1
        obtain rfl := Option.some.inj hr
        refine W.widen (k := rm_X9_fewest.cells) (n := rm_X9_fewest.slots) (Nat.le_of_ble_eq_true rfl) (Nat.le_of_ble_eq_true rfl) ?_
        exact W.iret hx hb hrt (fun t ht _ => hS.q ht rfl) hS.2.2.2.2 dX9_fewest_49 hlk
    have hr := ho6
    have hi5 := br_ite hr
    refine lv_if_ne (tgt := 38) hx hb dX9_fewest_22 (by decide) (fun c5 => ?_) (fun c5 => ?_)
    · have hr := hi5.2 c5
      obtain rfl := Option.some.inj hr
      exact J6 _ _ ls (lv_sub hl [0, 1, 2, 3, 4] rfl) hS
    · have hr := hi5.1 c5
      refine lv_iload_n hx hb dX9_fewest_25 rfl (lv_at hl 4 rfl) ?_
      refine lv_iconst (v := 0) hx hb dX9_fewest_26 rfl ?_
      refine lv_iconst (v := 1) hx hb dX9_fewest_27 rfl ?_
      obtain ⟨o7, ho7, hr⟩ := br_bind hr
      refine fwS (As := [.int a3, .int 0, .int 1]) (rest := []) hx hb hml hown hts (m_X9_isIn l a3 0 1 o7 ho7) (cw_X9_isIn hts q1290 ⟨Nat.le_of_ble_eq_true rfl, Nat.le_of_ble_eq_true rfl⟩) rfl hl.1 rfl (Nat.le_of_ble_eq_true rfl) dX9_fewest_28 ⟨Nat.le_of_ble_eq_true rfl, Nat.le_of_ble_eq_true rfl⟩ ?_
      have hi8 := br_ite hr
      refine lv_if_ne (tgt := 38) hx hb dX9_fewest_31 (by decide) (fun c8 => ?_) (fun c8 => ?_)
      · have hr := hi8.2 c8
        obtain rfl := Option.some.inj hr
        exact J6 _ _ ls (lv_sub hl [0, 1, 2, 3, 4] rfl) hS
      · have hr := hi8.1 c8
        refine lv_bipush (v := (-2)) hx hb dX9_fewest_34 rfl ?_
        refine lv_istore (lv' := [(4, .int (-2)), (0, .ref (am 0)), (1, .int a1), (2, .int a2), (3, .int a3)]) hx hb dX9_fewest_36 hl (by decide) rfl (fun ls hl => ?_)
        obtain rfl := Option.some.inj hr
        exact J6 _ _ ls (lv_sub hl [0, 1, 2, 3, 4] rfl) hS
  have hr := ho3
  have hi2 := br_ite hr
  refine lv_if_eq (tgt := 17) hx hb dX9_fewest_5 (by decide) (fun c2 => ?_) (fun c2 => ?_)
  · have hr := hi2.1 c2
    refine lv_iconst (v := (-1)) hx hb dX9_fewest_17 rfl ?_
    obtain rfl := Option.some.inj hr
    exact J3 _ _ ls (lv_sub hl [0, 1, 2, 3] rfl) hS
  · have hr := hi2.2 c2
    refine lv_iload_n hx hb dX9_fewest_8 rfl (lv_at hl 2 rfl) ?_
    refine lv_bipush (v := 40) hx hb dX9_fewest_9 rfl ?_
    obtain ⟨o4, ho4, hr⟩ := br_bind hr
    refine fwS (As := [.int a2, .int 40]) (rest := []) hx hb hml hown hts (m_X9_wrongBy l a2 40 o4 ho4) (cw_X9_wrongBy hts q1390 ⟨Nat.le_of_ble_eq_true rfl, Nat.le_of_ble_eq_true rfl⟩) rfl hl.1 rfl (Nat.le_of_ble_eq_true rfl) dX9_fewest_11 ⟨Nat.le_of_ble_eq_true rfl, Nat.le_of_ble_eq_true rfl⟩ ?_
    refine lv_goto (tgt := 18) hx hb dX9_fewest_14 (by decide) ?_
    obtain rfl := Option.some.inj hr
    exact J3 _ _ ls (lv_sub hl [0, 1, 2, 3] rfl) hS
theorem cw_X9_fewest {R : Room} {s : State} {args : Array Value} {own : String} {index : Nat} (hts : ∀ w ∈ lw_all, w.before args s = true) (hlink : Cond.methodLink own index yX9_fewest ∈ lw_all) (hR : rm_X9_fewest.frames + 1 ≤ R.frames ∧ 8 + (6 + 11) + rm_X9_fewest.locals ≤ R.locals) : CallW R s args own RX9 index yX9_fewest cX9_fewest 6 (some FieldType.int) (ws_ yX9_fewest cX9_fewest 6 (some FieldType.int)) rm_X9_fewest rm_X9_fewest.cells rm_X9_fewest.slots 3 :=
  cwV 3 hts (lw_V hlink q1439 q1440 q111 q1441) rfl rfl rfl (by decide +kernel) hR
def f_X9_safe_L31 (g : MS) (x2_1 : Int32) (x3_3 : Int32) : Nat → Int32 → Int32 → Option (Int32)
  | 0, _, _ => none
  | n + 1, x5_6, x4_6 => if (mG_many g) ≤ x5_6 then some x4_6 else if x4_6 = 0 then some x4_6 else Option.bind (f_X9_bite x2_1 x3_3) fun o9 => Option.bind (f_X9_shareOf g ((mG_left g) &&& (o9 ^^^ (-1))) x5_6) fun o10 => Option.bind (f_X9_shareOf g (mG_left g) x5_6) fun o11 => if o10 = o11 then Option.bind (some ((x5_6 + 1) : Int32)) fun v14 => f_X9_safe_L31 g x2_1 x3_3 n v14 1 else Option.bind (some ((x5_6 + 1) : Int32)) fun v13 => f_X9_safe_L31 g x2_1 x3_3 n v13 0
def f_X9_safe_L11 (g : MS) (x2_1 : Int32) : Nat → Int32 → Int32 → Option (Int32)
  | 0, _, _ => none
  | n + 1, x3_3, x1_3 => if 25 ≤ x3_3 then some x1_3 else Option.bind (f_X9_canBite (mG_left g) x2_1 x3_3) fun o5 => Option.bind (f_X9_safe_L31 g x2_1 x3_3 1000 0 o5) fun o6 => if o6 = 0 then Option.bind (some ((x1_3 + 0) : Int32)) fun v16 => Option.bind (some ((x3_3 + 1) : Int32)) fun v17 => f_X9_safe_L11 g x2_1 n v17 v16 else Option.bind (some ((x1_3 + 1) : Int32)) fun v18 => Option.bind (some ((x3_3 + 1) : Int32)) fun v19 => f_X9_safe_L11 g x2_1 n v19 v18
def f_X9_safe_L4 (g : MS) : Nat → Int32 → Int32 → Option (Int32)
  | 0, _, _ => none
  | n + 1, x2_1, x1_1 => if 4 ≤ x2_1 then some x1_1 else Option.bind (f_X9_safe_L11 g x2_1 1000 0 x1_1) fun o3 => Option.bind (some ((x2_1 + 1) : Int32)) fun v20 => f_X9_safe_L4 g n v20 o3
def f_X9_safe (g : MS) : Option (Int32) := Option.bind (f_X9_safe_L4 g 1000 0 0) fun o1 => some o1
abbrev rm_X9_safe : Room := ({ frames := 6, cells := 0, slots := 0, locals := 136 })
set_option maxHeartbeats 4000000 in
theorem m_X9_safe (l : Launch) (D : va_G) (am : Nat → Nat) (ac : Nat → ClassId) (g : MS) (r0 : Int32) (hr : f_X9_safe g = some r0) : PM l yX9_safe cX9_safe 6 (some FieldType.int) rm_X9_safe [.ref (am 0)] (RP D ac (wM am ac g)) (some (.int r0)) := by
  refine fw_of (by decide) (Nat.le_of_ble_eq_true rfl) ?_
  intro p e s m below meth c ls hx hb hrt hts hown hlk hml _ hU hl
  obtain ⟨hP, hG⟩ := hU
  have hl : lv_has ls 6 [(0, .ref (am 0))] := hl
  rw [f_X9_safe] at hr
  refine lv_iconst (v := 0) hx hb dX9_safe_0 rfl ?_
  refine lv_istore_n (lv' := [(1, .int 0), (0, .ref (am 0))]) hx hb dX9_safe_1 rfl hl (by decide) rfl (fun ls hl => ?_)
  refine lv_iconst (v := 0) hx hb dX9_safe_2 rfl ?_
  refine lv_istore_n (lv' := [(2, .int 0), (1, .int 0), (0, .ref (am 0))]) hx hb dX9_safe_3 rfl hl (by decide) rfl (fun ls hl => ?_)
  have L1 : ∀ (n : Nat) (x2_1 : Int32) (x1_1 : Int32) (o1 : Int32), f_X9_safe_L4 g n x2_1 x1_1 = some o1 → ∀ ls, lv_has ls 6 [(2, .int x2_1), (1, .int x1_1), (0, .ref (am 0))] → (∀ ls, lv_has ls 6 [(1, .int o1)] → WP p l e rm_X9_safe s m [.ref (am 0)] below meth c (some (.int r0)) 114 ls []) → WP p l e rm_X9_safe s m [.ref (am 0)] below meth c (some (.int r0)) 4 ls [] := by
    intro n
    induction n with
    | zero => intro x2_1 x1_1 o1 hr; rw [f_X9_safe_L4] at hr; cases hr
    | succ n ih =>
      intro x2_1 x1_1 o1 hr ls hl kx
      rw [f_X9_safe_L4] at hr
      refine lv_iload_n hx hb dX9_safe_4 rfl (lv_at hl 0 rfl) ?_
      refine lv_iconst (v := 4) hx hb dX9_safe_5 rfl ?_
      have hi2 := br_ite hr
      refine lv_icmp_ge (tgt := 114) hx hb dX9_safe_6 (by decide) (fun c2 => ?_) (fun c2 => ?_)
      · have hr := hi2.1 c2
        obtain rfl := Option.some.inj hr
        exact kx ls (lv_sub hl [1] rfl)
      · have hr := hi2.2 c2
        refine lv_iconst (v := 0) hx hb dX9_safe_9 rfl ?_
        refine lv_istore_n (lv' := [(3, .int 0), (2, .int x2_1), (1, .int x1_1), (0, .ref (am 0))]) hx hb dX9_safe_10 rfl hl (by decide) rfl (fun ls hl => ?_)
        have L3 : ∀ (n : Nat) (x3_3 : Int32) (x1_3 : Int32) (o3 : Int32), f_X9_safe_L11 g x2_1 n x3_3 x1_3 = some o3 → ∀ ls, lv_has ls 6 [(3, .int x3_3), (2, .int x2_1), (1, .int x1_3), (0, .ref (am 0))] → (∀ ls, lv_has ls 6 [(2, .int x2_1), (1, .int o3), (0, .ref (am 0))] → WP p l e rm_X9_safe s m [.ref (am 0)] below meth c (some (.int r0)) 108 ls []) → WP p l e rm_X9_safe s m [.ref (am 0)] below meth c (some (.int r0)) 11 ls [] := by
          intro n
          induction n with
          | zero => intro x3_3 x1_3 o3 hr; rw [f_X9_safe_L11] at hr; cases hr
          | succ n ih =>
            intro x3_3 x1_3 o3 hr ls hl kx
            rw [f_X9_safe_L11] at hr
            refine lv_iload_n hx hb dX9_safe_11 rfl (lv_at hl 0 rfl) ?_
            refine lv_bipush (v := 25) hx hb dX9_safe_12 rfl ?_
            have hi4 := br_ite hr
            refine lv_icmp_ge (tgt := 108) hx hb dX9_safe_14 (by decide) (fun c4 => ?_) (fun c4 => ?_)
            · have hr := hi4.1 c4
              obtain rfl := Option.some.inj hr
              exact kx ls (lv_sub hl [1, 2, 3] rfl)
            · have hr := hi4.2 c4
              refine lv_aload_n hx hb dX9_safe_17 rfl (lv_at hl 3 rfl) ?_
              refine va_get (D := D) (ci := 8) (v := .int (mG_left g)) (C := RX9) (T := TX9) (N := 26) hx hb hts in_X9 hown hG.1 hP 0 rfl rfl 0 (by decide) (hts _ q1180) (fun _ h9 => h9) rfl dX9_safe_18 ?_
              refine lv_iload_n hx hb dX9_safe_21 rfl (lv_at hl 1 rfl) ?_
              refine lv_iload_n hx hb dX9_safe_22 rfl (lv_at hl 0 rfl) ?_
              obtain ⟨o5, ho5, hr⟩ := br_bind hr
              refine fwS (As := [.int (mG_left g), .int x2_1, .int x3_3]) (rest := []) hx hb hml hown hts (m_X9_canBite l (mG_left g) x2_1 x3_3 o5 ho5) (cw_X9_canBite hts q1304 ⟨Nat.le_of_ble_eq_true rfl, Nat.le_of_ble_eq_true rfl⟩) rfl hl.1 rfl (Nat.le_of_ble_eq_true rfl) dX9_safe_23 ⟨Nat.le_of_ble_eq_true rfl, Nat.le_of_ble_eq_true rfl⟩ ?_
              refine lv_istore (lv' := [(4, .int o5), (3, .int x3_3), (2, .int x2_1), (1, .int x1_3), (0, .ref (am 0))]) hx hb dX9_safe_26 hl (by decide) rfl (fun ls hl => ?_)
              refine lv_iconst (v := 0) hx hb dX9_safe_28 rfl ?_
              refine lv_istore (lv' := [(5, .int 0), (4, .int o5), (3, .int x3_3), (2, .int x2_1), (1, .int x1_3), (0, .ref (am 0))]) hx hb dX9_safe_29 hl (by decide) rfl (fun ls hl => ?_)
              have L6 : ∀ (n : Nat) (x5_6 : Int32) (x4_6 : Int32) (o6 : Int32), f_X9_safe_L31 g x2_1 x3_3 n x5_6 x4_6 = some o6 → ∀ ls, lv_has ls 6 [(5, .int x5_6), (4, .int x4_6), (3, .int x3_3), (2, .int x2_1), (1, .int x1_3), (0, .ref (am 0))] → (∀ ls, lv_has ls 6 [(4, .int o6), (3, .int x3_3), (2, .int x2_1), (1, .int x1_3), (0, .ref (am 0))] → WP p l e rm_X9_safe s m [.ref (am 0)] below meth c (some (.int r0)) 89 ls []) → WP p l e rm_X9_safe s m [.ref (am 0)] below meth c (some (.int r0)) 31 ls [] := by
                intro n
                induction n with
                | zero => intro x5_6 x4_6 o6 hr; rw [f_X9_safe_L31] at hr; cases hr
                | succ n ih =>
                  intro x5_6 x4_6 o6 hr ls hl kx
                  rw [f_X9_safe_L31] at hr
                  refine lv_iload hx hb dX9_safe_31 (lv_at hl 0 rfl) ?_
                  refine lv_aload_n hx hb dX9_safe_33 rfl (lv_at hl 5 rfl) ?_
                  refine va_get (D := D) (ci := 8) (v := .int (mG_many g)) (C := RX9) (T := TX9) (N := 26) hx hb hts in_X9 hown hG.1 hP 0 rfl rfl 2 (by decide) (hts _ q1182) (fun _ h9 => h9) rfl dX9_safe_34 ?_
                  have hi7 := br_ite hr
                  refine lv_icmp_ge (tgt := 89) hx hb dX9_safe_37 (by decide) (fun c7 => ?_) (fun c7 => ?_)
                  · have hr := hi7.1 c7
                    obtain rfl := Option.some.inj hr
                    exact kx ls (lv_sub hl [1, 2, 3, 4, 5] rfl)
                  · have hr := hi7.2 c7
                    refine lv_iload hx hb dX9_safe_40 (lv_at hl 1 rfl) ?_
                    have hi8 := br_ite hr
                    refine lv_if_eq (tgt := 89) hx hb dX9_safe_42 (by decide) (fun c8 => ?_) (fun c8 => ?_)
                    · have hr := hi8.1 c8
                      obtain rfl := Option.some.inj hr
                      exact kx ls (lv_sub hl [1, 2, 3, 4, 5] rfl)
                    · have hr := hi8.2 c8
                      refine lv_aload_n hx hb dX9_safe_45 rfl (lv_at hl 5 rfl) ?_
                      refine lv_aload_n hx hb dX9_safe_46 rfl (lv_at hl 5 rfl) ?_
                      refine va_get (D := D) (ci := 8) (v := .int (mG_left g)) (C := RX9) (T := TX9) (N := 26) hx hb hts in_X9 hown hG.1 hP 0 rfl rfl 0 (by decide) (hts _ q1180) (fun _ h9 => h9) rfl dX9_safe_47 ?_
                      refine lv_iload_n hx hb dX9_safe_50 rfl (lv_at hl 3 rfl) ?_
                      refine lv_iload_n hx hb dX9_safe_51 rfl (lv_at hl 2 rfl) ?_
                      obtain ⟨o9, ho9, hr⟩ := br_bind hr
                      refine fwS (As := [.int x2_1, .int x3_3]) (rest := [.int (mG_left g), .ref (am 0)]) hx hb hml hown hts (m_X9_bite l x2_1 x3_3 o9 ho9) (cw_X9_bite hts q1307 ⟨Nat.le_of_ble_eq_true rfl, Nat.le_of_ble_eq_true rfl⟩) rfl hl.1 rfl (Nat.le_of_ble_eq_true rfl) dX9_safe_52 ⟨Nat.le_of_ble_eq_true rfl, Nat.le_of_ble_eq_true rfl⟩ ?_
                      refine lv_iconst (v := (-1)) hx hb dX9_safe_55 rfl ?_
                      refine lv_ixor hx hb dX9_safe_56 ?_
                      refine lv_iand hx hb dX9_safe_57 ?_
                      refine lv_iload hx hb dX9_safe_58 (lv_at hl 0 rfl) ?_
                      obtain ⟨o10, ho10, hr⟩ := br_bind hr
                      refine fwRV (As := [.int ((mG_left g) &&& (o9 ^^^ (-1))), .int x5_6]) (rest := []) (C := RX9) hx hb hml hown hts (m_X9_shareOf l D am ac g  ((mG_left g) &&& (o9 ^^^ (-1))) x5_6 o10 ho10) (cw_X9_shareOf hts q1352 ⟨Nat.le_of_ble_eq_true rfl, Nat.le_of_ble_eq_true rfl⟩) hG hP hP 0 8 rfl rfl rfl hl.1 rfl (Nat.le_of_ble_eq_true rfl) dX9_safe_60 ⟨Nat.le_of_ble_eq_true rfl, Nat.le_of_ble_eq_true rfl⟩ ?_
                      refine lv_aload_n hx hb dX9_safe_63 rfl (lv_at hl 5 rfl) ?_
                      refine lv_aload_n hx hb dX9_safe_64 rfl (lv_at hl 5 rfl) ?_
                      refine va_get (D := D) (ci := 8) (v := .int (mG_left g)) (C := RX9) (T := TX9) (N := 26) hx hb hts in_X9 hown hG.1 hP 0 rfl rfl 0 (by decide) (hts _ q1180) (fun _ h9 => h9) rfl dX9_safe_65 ?_
                      refine lv_iload hx hb dX9_safe_68 (lv_at hl 0 rfl) ?_
                      obtain ⟨o11, ho11, hr⟩ := br_bind hr
                      refine fwRV (As := [.int (mG_left g), .int x5_6]) (rest := [.int o10]) (C := RX9) hx hb hml hown hts (m_X9_shareOf l D am ac g  (mG_left g) x5_6 o11 ho11) (cw_X9_shareOf hts q1352 ⟨Nat.le_of_ble_eq_true rfl, Nat.le_of_ble_eq_true rfl⟩) hG hP hP 0 8 rfl rfl rfl hl.1 rfl (Nat.le_of_ble_eq_true rfl) dX9_safe_70 ⟨Nat.le_of_ble_eq_true rfl, Nat.le_of_ble_eq_true rfl⟩ ?_
                      have hi12 := br_ite hr
                      refine lv_icmp_ne (tgt := 80) hx hb dX9_safe_73 (by decide) (fun c12 => ?_) (fun c12 => ?_)
                      · have hr := hi12.2 c12
                        refine lv_iconst (v := 0) hx hb dX9_safe_80 rfl ?_
                        refine lv_istore (lv' := [(4, .int 0), (5, .int x5_6), (3, .int x3_3), (2, .int x2_1), (1, .int x1_3), (0, .ref (am 0))]) hx hb dX9_safe_81 hl (by decide) rfl (fun ls hl => ?_)
                        obtain ⟨v13, hv13, hr⟩ := br_let hr
                        refine lv_iinc (v := v13) (lv' := [(5, .int v13), (4, .int 0), (3, .int x3_3), (2, .int x2_1), (1, .int x1_3), (0, .ref (am 0))]) hx hb dX9_safe_83 hl (k := 1) rfl (hv13 ▸ rfl) (by decide) rfl (fun ls hl => ?_)
                        refine lv_goto (tgt := 31) hx hb dX9_safe_86 (by decide) ?_
                        exact ih v13 0 _ hr ls (lv_sub hl [0, 1, 2, 3, 4, 5] rfl) kx
                      · have hr := hi12.1 c12
                        refine lv_iconst (v := 1) hx hb dX9_safe_76 rfl ?_
                        refine lv_goto (tgt := 81) hx hb dX9_safe_77 (by decide) ?_
                        refine lv_istore (lv' := [(4, .int 1), (5, .int x5_6), (3, .int x3_3), (2, .int x2_1), (1, .int x1_3), (0, .ref (am 0))]) hx hb dX9_safe_81 hl (by decide) rfl (fun ls hl => ?_)
                        obtain ⟨v14, hv14, hr⟩ := br_let hr
                        refine lv_iinc (v := v14) (lv' := [(5, .int v14), (4, .int 1), (3, .int x3_3), (2, .int x2_1), (1, .int x1_3), (0, .ref (am 0))]) hx hb dX9_safe_83 hl (k := 1) rfl (hv14 ▸ rfl) (by decide) rfl (fun ls hl => ?_)
                        refine lv_goto (tgt := 31) hx hb dX9_safe_86 (by decide) ?_
                        exact ih v14 1 _ hr ls (lv_sub hl [0, 1, 2, 3, 4, 5] rfl) kx
              obtain ⟨o6, ho6, hr⟩ := br_bind hr
              refine L6 1000 0 o5 o6 ho6 ls (lv_sub hl [0, 1, 2, 3, 4, 5] rfl) (fun ls hl => ?_)
              refine lv_iload_n hx hb dX9_safe_89 rfl (lv_at hl 3 rfl) ?_
              refine lv_iload hx hb dX9_safe_90 (lv_at hl 0 rfl) ?_
              have hi15 := br_ite hr
              refine lv_if_eq (tgt := 99) hx hb dX9_safe_92 (by decide) (fun c15 => ?_) (fun c15 => ?_)
              · have hr := hi15.1 c15
                refine lv_iconst (v := 0) hx hb dX9_safe_99 rfl ?_
                refine lv_iadd hx hb dX9_safe_100 ?_
                refine lv_topi (fun v16 hv16 => ?_)
                have hr := br_letv hr hv16
                refine lv_istore_n (lv' := [(1, .int v16), (4, .int o6), (3, .int x3_3), (2, .int x2_1), (0, .ref (am 0))]) hx hb dX9_safe_101 rfl hl (by decide) rfl (fun ls hl => ?_)
                obtain ⟨v17, hv17, hr⟩ := br_let hr
                refine lv_iinc (v := v17) (lv' := [(3, .int v17), (1, .int v16), (4, .int o6), (2, .int x2_1), (0, .ref (am 0))]) hx hb dX9_safe_102 hl (k := 2) rfl (hv17 ▸ rfl) (by decide) rfl (fun ls hl => ?_)
                refine lv_goto (tgt := 11) hx hb dX9_safe_105 (by decide) ?_
                exact ih v17 v16 _ hr ls (lv_sub hl [0, 3, 1, 4] rfl) kx
              · have hr := hi15.2 c15
                refine lv_iconst (v := 1) hx hb dX9_safe_95 rfl ?_
                refine lv_goto (tgt := 100) hx hb dX9_safe_96 (by decide) ?_
                refine lv_iadd hx hb dX9_safe_100 ?_
                refine lv_topi (fun v18 hv18 => ?_)
                have hr := br_letv hr hv18
                refine lv_istore_n (lv' := [(1, .int v18), (4, .int o6), (3, .int x3_3), (2, .int x2_1), (0, .ref (am 0))]) hx hb dX9_safe_101 rfl hl (by decide) rfl (fun ls hl => ?_)
                obtain ⟨v19, hv19, hr⟩ := br_let hr
                refine lv_iinc (v := v19) (lv' := [(3, .int v19), (1, .int v18), (4, .int o6), (2, .int x2_1), (0, .ref (am 0))]) hx hb dX9_safe_102 hl (k := 2) rfl (hv19 ▸ rfl) (by decide) rfl (fun ls hl => ?_)
                refine lv_goto (tgt := 11) hx hb dX9_safe_105 (by decide) ?_
                exact ih v19 v18 _ hr ls (lv_sub hl [0, 3, 1, 4] rfl) kx
        obtain ⟨o3, ho3, hr⟩ := br_bind hr
        refine L3 1000 0 x1_1 o3 ho3 ls (lv_sub hl [0, 1, 2, 3] rfl) (fun ls hl => ?_)
        obtain ⟨v20, hv20, hr⟩ := br_let hr
        refine lv_iinc (v := v20) (lv' := [(2, .int v20), (1, .int o3), (0, .ref (am 0))]) hx hb dX9_safe_108 hl (k := 0) rfl (hv20 ▸ rfl) (by decide) rfl (fun ls hl => ?_)
        refine lv_goto (tgt := 4) hx hb dX9_safe_111 (by decide) ?_
        exact ih v20 o3 _ hr ls (lv_sub hl [0, 1, 2] rfl) kx
  obtain ⟨o1, ho1, hr⟩ := br_bind hr
  refine L1 1000 0 0 o1 ho1 ls (lv_sub hl [0, 1, 2] rfl) (fun ls hl => ?_)
  refine lv_iload_n hx hb dX9_safe_114 rfl (lv_at hl 0 rfl) ?_
  exact W.iret hx hb hrt (fun t ht _ => ⟨ret_i hr, ht⟩) noB dX9_safe_115 hlk
theorem cw_X9_safe {R : Room} {s : State} {args : Array Value} {own : String} {index : Nat} (hts : ∀ w ∈ lw_all, w.before args s = true) (hlink : Cond.methodLink own index yX9_safe ∈ lw_all) (hR : rm_X9_safe.frames + 1 ≤ R.frames ∧ 8 + (6 + 11) + rm_X9_safe.locals ≤ R.locals) : CallW R s args own RX9 index yX9_safe cX9_safe 6 (some FieldType.int) (ws_ yX9_safe cX9_safe 6 (some FieldType.int)) rm_X9_safe rm_X9_safe.cells rm_X9_safe.slots 0 :=
  cwV 0 hts (lw_V hlink q1451 q1452 q111 q1453) rfl rfl rfl (by decide +kernel) hR
def f_X9_can_L28 (g : MS) (a1 : Int32) (x3_3 : Int32) : Nat → Int32 → Int32 → Option (Int32)
  | 0, _, _ => none
  | n + 1, x4_5, x2_5 => if 25 ≤ x4_5 then some x2_5 else if a1 < 0 then Option.bind (f_X9_canBite (mG_left g) x3_3 x4_5) fun o8 => if o8 = 0 then Option.bind (some ((x2_5 + 0) : Int32)) fun v10 => Option.bind (some ((x4_5 + 1) : Int32)) fun v11 => f_X9_can_L28 g a1 x3_3 n v11 v10 else Option.bind (some ((x2_5 + 1) : Int32)) fun v12 => Option.bind (some ((x4_5 + 1) : Int32)) fun v13 => f_X9_can_L28 g a1 x3_3 n v13 v12 else if x3_3 = a1 then Option.bind (f_X9_canBite (mG_left g) x3_3 x4_5) fun o17 => if o17 = 0 then Option.bind (some ((x2_5 + 0) : Int32)) fun v19 => Option.bind (some ((x4_5 + 1) : Int32)) fun v20 => f_X9_can_L28 g a1 x3_3 n v20 v19 else Option.bind (some ((x2_5 + 1) : Int32)) fun v21 => Option.bind (some ((x4_5 + 1) : Int32)) fun v22 => f_X9_can_L28 g a1 x3_3 n v22 v21 else Option.bind (some ((x2_5 + 0) : Int32)) fun v15 => Option.bind (some ((x4_5 + 1) : Int32)) fun v16 => f_X9_can_L28 g a1 x3_3 n v16 v15
def f_X9_can_L20 (g : MS) (a1 : Int32) : Nat → Int32 → Int32 → Option (Int32)
  | 0, _, _ => none
  | n + 1, x3_3, x2_3 => if 4 ≤ x3_3 then some x2_3 else Option.bind (f_X9_can_L28 g a1 x3_3 1000 0 x2_3) fun o5 => Option.bind (some ((x3_3 + 1) : Int32)) fun v23 => f_X9_can_L20 g a1 n v23 o5
def f_X9_can (g : MS) (a1 : Int32) : Option (Int32 × MS) := Option.bind (f_X9_isIn a1 (-1) 3) fun o1 => if o1 = 0 then Option.bind (f_X9_no g (-2 : Int32)) fun o24 => some (o24.1, o24.2) else Option.bind (f_X9_can_L20 g a1 1000 0 0) fun o3 => some (o3, g)
abbrev rm_X9_can : Room := ({ frames := 3, cells := 0, slots := 0, locals := 67 })
set_option maxHeartbeats 4000000 in
theorem m_X9_can (l : Launch) (D : va_G) (am : Nat → Nat) (ac : Nat → ClassId) (g : MS) (a1 : Int32) (sz : Nat) (r0 : Int32 × MS) (hr : f_X9_can g a1 = some r0) : WM l yX9_can cX9_can 5 (some FieldType.int) rm_X9_can [.ref (am 0), .int a1] D ac (wM am ac g) (wM am ac r0.2) sz (some (.int r0.1)) := by
  refine fw_of (by decide) (Nat.le_of_ble_eq_true rfl) ?_
  intro p e s m below meth c ls hx hb hrt hts hown hlk hml _ hU hl
  obtain ⟨rfl, hP, hG, hD⟩ := hU
  have hA : ∀ q : Nat, s.heap.size ≤ q → va_A (wM am ac g) s.heap.size q := fun q h => Or.inr h
  have hS := Stt.start hP hD
  show WW p l e rm_X9_can s m [.ref (am 0), .int a1] below meth c D (wM am ac r0.2) (va_A (wM am ac g) s.heap.size) (some (.int r0.1)) s.heap [] 0 0 0 ls []
  have hl : lv_has ls 5 [(0, .ref (am 0)), (1, .int a1)] := hl
  rw [f_X9_can] at hr
  refine lv_iload_n hx hb dX9_can_0 rfl (lv_at hl 1 rfl) ?_
  refine lv_iconst (v := (-1)) hx hb dX9_can_1 rfl ?_
  refine lv_iconst (v := 3) hx hb dX9_can_2 rfl ?_
  obtain ⟨o1, ho1, hr⟩ := br_bind hr
  refine fwS (As := [.int a1, .int (-1), .int 3]) (rest := []) hx hb hml hown hts (m_X9_isIn l a1 (-1) 3 o1 ho1) (cw_X9_isIn hts q1290 ⟨Nat.le_of_ble_eq_true rfl, Nat.le_of_ble_eq_true rfl⟩) rfl hl.1 rfl (Nat.le_of_ble_eq_true rfl) dX9_can_3 ⟨Nat.le_of_ble_eq_true rfl, Nat.le_of_ble_eq_true rfl⟩ ?_
  have hi2 := br_ite hr
  refine lv_if_ne (tgt := 16) hx hb dX9_can_6 (by decide) (fun c2 => ?_) (fun c2 => ?_)
  · have hr := hi2.2 c2
    refine lv_iconst (v := 0) hx hb dX9_can_16 rfl ?_
    refine lv_istore_n (lv' := [(2, .int 0), (0, .ref (am 0)), (1, .int a1)]) hx hb dX9_can_17 rfl hl (by decide) rfl (fun ls hl => ?_)
    refine lv_iconst (v := 0) hx hb dX9_can_18 rfl ?_
    refine lv_istore_n (lv' := [(3, .int 0), (2, .int 0), (0, .ref (am 0)), (1, .int a1)]) hx hb dX9_can_19 rfl hl (by decide) rfl (fun ls hl => ?_)
    have L3 : ∀ (n : Nat) (x3_3 : Int32) (x2_3 : Int32) (o3 : Int32), f_X9_can_L20 g a1 n x3_3 x2_3 = some o3 → ∀ (H : Heap) (locs : List Loc) ls, lv_has ls 5 [(3, .int x3_3), (2, .int x2_3), (0, .ref (am 0)), (1, .int a1)] → Stt D (va_A (wM am ac g) s.heap.size) s.heap (wM am ac g) H locs → (∀ (H : Heap) (locs : List Loc) ls, lv_has ls 5 [(2, .int o3)] → Stt D (va_A (wM am ac g) s.heap.size) s.heap (wM am ac g) H locs → WW p l e rm_X9_can s m [.ref (am 0), .int a1] below meth c D (wM am ac r0.2) (va_A (wM am ac g) s.heap.size) (some (.int r0.1)) H locs 0 0 77 ls []) → WW p l e rm_X9_can s m [.ref (am 0), .int a1] below meth c D (wM am ac r0.2) (va_A (wM am ac g) s.heap.size) (some (.int r0.1)) H locs 0 0 20 ls [] := by
      intro n
      induction n with
      | zero => intro x3_3 x2_3 o3 hr; rw [f_X9_can_L20] at hr; cases hr
      | succ n ih =>
        intro x3_3 x2_3 o3 hr H locs ls hl hS kx
        have hP := hS.1
        rw [f_X9_can_L20] at hr
        refine lv_iload_n hx hb dX9_can_20 rfl (lv_at hl 0 rfl) ?_
        refine lv_iconst (v := 4) hx hb dX9_can_21 rfl ?_
        have hi4 := br_ite hr
        refine lv_icmp_ge (tgt := 77) hx hb dX9_can_22 (by decide) (fun c4 => ?_) (fun c4 => ?_)
        · have hr := hi4.1 c4
          obtain rfl := Option.some.inj hr
          exact kx _ _ ls (lv_sub hl [1] rfl) hS
        · have hr := hi4.2 c4
          refine lv_iconst (v := 0) hx hb dX9_can_25 rfl ?_
          refine lv_istore (lv' := [(4, .int 0), (3, .int x3_3), (2, .int x2_3), (0, .ref (am 0)), (1, .int a1)]) hx hb dX9_can_26 hl (by decide) rfl (fun ls hl => ?_)
          have L5 : ∀ (n : Nat) (x4_5 : Int32) (x2_5 : Int32) (o5 : Int32), f_X9_can_L28 g a1 x3_3 n x4_5 x2_5 = some o5 → ∀ (H : Heap) (locs : List Loc) ls, lv_has ls 5 [(4, .int x4_5), (3, .int x3_3), (2, .int x2_5), (0, .ref (am 0)), (1, .int a1)] → Stt D (va_A (wM am ac g) s.heap.size) s.heap (wM am ac g) H locs → (∀ (H : Heap) (locs : List Loc) ls, lv_has ls 5 [(3, .int x3_3), (2, .int o5), (0, .ref (am 0)), (1, .int a1)] → Stt D (va_A (wM am ac g) s.heap.size) s.heap (wM am ac g) H locs → WW p l e rm_X9_can s m [.ref (am 0), .int a1] below meth c D (wM am ac r0.2) (va_A (wM am ac g) s.heap.size) (some (.int r0.1)) H locs 0 0 71 ls []) → WW p l e rm_X9_can s m [.ref (am 0), .int a1] below meth c D (wM am ac r0.2) (va_A (wM am ac g) s.heap.size) (some (.int r0.1)) H locs 0 0 28 ls [] := by
            intro n
            induction n with
            | zero => intro x4_5 x2_5 o5 hr; rw [f_X9_can_L28] at hr; cases hr
            | succ n ih =>
              intro x4_5 x2_5 o5 hr H locs ls hl hS kx
              have hP := hS.1
              rw [f_X9_can_L28] at hr
              refine lv_iload hx hb dX9_can_28 (lv_at hl 0 rfl) ?_
              refine lv_bipush (v := 25) hx hb dX9_can_30 rfl ?_
              have hi6 := br_ite hr
              refine lv_icmp_ge (tgt := 71) hx hb dX9_can_32 (by decide) (fun c6 => ?_) (fun c6 => ?_)
              · have hr := hi6.1 c6
                obtain rfl := Option.some.inj hr
                exact kx _ _ ls (lv_sub hl [1, 2, 3, 4] rfl) hS
              · have hr := hi6.2 c6
                refine lv_iload_n hx hb dX9_can_35 rfl (lv_at hl 2 rfl) ?_
                refine lv_iload_n hx hb dX9_can_36 rfl (lv_at hl 4 rfl) ?_
                have hi7 := br_ite hr
                refine lv_if_lt (tgt := 45) hx hb dX9_can_37 (by decide) (fun c7 => ?_) (fun c7 => ?_)
                · have hr := hi7.1 c7
                  refine lv_aload_n hx hb dX9_can_45 rfl (lv_at hl 3 rfl) ?_
                  refine va_get (D := D) (ci := 8) (v := .int (mG_left g)) (C := RX9) (T := TX9) (N := 26) hx hb hts in_X9 hown hG.1 hP 0 rfl rfl 0 (by decide) (hts _ q1180) (fun _ h9 => h9) rfl dX9_can_46 ?_
                  refine lv_iload_n hx hb dX9_can_49 rfl (lv_at hl 1 rfl) ?_
                  refine lv_iload hx hb dX9_can_50 (lv_at hl 0 rfl) ?_
                  obtain ⟨o8, ho8, hr⟩ := br_bind hr
                  refine fwS (As := [.int (mG_left g), .int x3_3, .int x4_5]) (rest := [.int x2_5]) hx hb hml hown hts (m_X9_canBite l (mG_left g) x3_3 x4_5 o8 ho8) (cw_X9_canBite hts q1304 ⟨Nat.le_of_ble_eq_true rfl, Nat.le_of_ble_eq_true rfl⟩) rfl hl.1 rfl (Nat.le_of_ble_eq_true rfl) dX9_can_52 ⟨Nat.le_of_ble_eq_true rfl, Nat.le_of_ble_eq_true rfl⟩ ?_
                  have hi9 := br_ite hr
                  refine lv_if_eq (tgt := 62) hx hb dX9_can_55 (by decide) (fun c9 => ?_) (fun c9 => ?_)
                  · have hr := hi9.1 c9
                    refine lv_iconst (v := 0) hx hb dX9_can_62 rfl ?_
                    refine lv_iadd hx hb dX9_can_63 ?_
                    refine lv_topi (fun v10 hv10 => ?_)
                    have hr := br_letv hr hv10
                    refine lv_istore_n (lv' := [(2, .int v10), (4, .int x4_5), (3, .int x3_3), (0, .ref (am 0)), (1, .int a1)]) hx hb dX9_can_64 rfl hl (by decide) rfl (fun ls hl => ?_)
                    obtain ⟨v11, hv11, hr⟩ := br_let hr
                    refine lv_iinc (v := v11) (lv' := [(4, .int v11), (2, .int v10), (3, .int x3_3), (0, .ref (am 0)), (1, .int a1)]) hx hb dX9_can_65 hl (k := 1) rfl (hv11 ▸ rfl) (by decide) rfl (fun ls hl => ?_)
                    refine lv_goto (tgt := 28) hx hb dX9_can_68 (by decide) ?_
                    exact ih v11 v10 _ hr _ _ ls (lv_sub hl [0, 2, 1, 3, 4] rfl) hS kx
                  · have hr := hi9.2 c9
                    refine lv_iconst (v := 1) hx hb dX9_can_58 rfl ?_
                    refine lv_goto (tgt := 63) hx hb dX9_can_59 (by decide) ?_
                    refine lv_iadd hx hb dX9_can_63 ?_
                    refine lv_topi (fun v12 hv12 => ?_)
                    have hr := br_letv hr hv12
                    refine lv_istore_n (lv' := [(2, .int v12), (4, .int x4_5), (3, .int x3_3), (0, .ref (am 0)), (1, .int a1)]) hx hb dX9_can_64 rfl hl (by decide) rfl (fun ls hl => ?_)
                    obtain ⟨v13, hv13, hr⟩ := br_let hr
                    refine lv_iinc (v := v13) (lv' := [(4, .int v13), (2, .int v12), (3, .int x3_3), (0, .ref (am 0)), (1, .int a1)]) hx hb dX9_can_65 hl (k := 1) rfl (hv13 ▸ rfl) (by decide) rfl (fun ls hl => ?_)
                    refine lv_goto (tgt := 28) hx hb dX9_can_68 (by decide) ?_
                    exact ih v13 v12 _ hr _ _ ls (lv_sub hl [0, 2, 1, 3, 4] rfl) hS kx
                · have hr := hi7.2 c7
                  refine lv_iload_n hx hb dX9_can_40 rfl (lv_at hl 1 rfl) ?_
                  refine lv_iload_n hx hb dX9_can_41 rfl (lv_at hl 4 rfl) ?_
                  have hi14 := br_ite hr
                  refine lv_icmp_ne (tgt := 62) hx hb dX9_can_42 (by decide) (fun c14 => ?_) (fun c14 => ?_)
                  · have hr := hi14.2 c14
                    refine lv_iconst (v := 0) hx hb dX9_can_62 rfl ?_
                    refine lv_iadd hx hb dX9_can_63 ?_
                    refine lv_topi (fun v15 hv15 => ?_)
                    have hr := br_letv hr hv15
                    refine lv_istore_n (lv' := [(2, .int v15), (4, .int x4_5), (3, .int x3_3), (0, .ref (am 0)), (1, .int a1)]) hx hb dX9_can_64 rfl hl (by decide) rfl (fun ls hl => ?_)
                    obtain ⟨v16, hv16, hr⟩ := br_let hr
                    refine lv_iinc (v := v16) (lv' := [(4, .int v16), (2, .int v15), (3, .int x3_3), (0, .ref (am 0)), (1, .int a1)]) hx hb dX9_can_65 hl (k := 1) rfl (hv16 ▸ rfl) (by decide) rfl (fun ls hl => ?_)
                    refine lv_goto (tgt := 28) hx hb dX9_can_68 (by decide) ?_
                    exact ih v16 v15 _ hr _ _ ls (lv_sub hl [0, 2, 1, 3, 4] rfl) hS kx
                  · have hr := hi14.1 c14
                    refine lv_aload_n hx hb dX9_can_45 rfl (lv_at hl 3 rfl) ?_
                    refine va_get (D := D) (ci := 8) (v := .int (mG_left g)) (C := RX9) (T := TX9) (N := 26) hx hb hts in_X9 hown hG.1 hP 0 rfl rfl 0 (by decide) (hts _ q1180) (fun _ h9 => h9) rfl dX9_can_46 ?_
                    refine lv_iload_n hx hb dX9_can_49 rfl (lv_at hl 1 rfl) ?_
                    refine lv_iload hx hb dX9_can_50 (lv_at hl 0 rfl) ?_
                    obtain ⟨o17, ho17, hr⟩ := br_bind hr
                    refine fwS (As := [.int (mG_left g), .int x3_3, .int x4_5]) (rest := [.int x2_5]) hx hb hml hown hts (m_X9_canBite l (mG_left g) x3_3 x4_5 o17 ho17) (cw_X9_canBite hts q1304 ⟨Nat.le_of_ble_eq_true rfl, Nat.le_of_ble_eq_true rfl⟩) rfl hl.1 rfl (Nat.le_of_ble_eq_true rfl) dX9_can_52 ⟨Nat.le_of_ble_eq_true rfl, Nat.le_of_ble_eq_true rfl⟩ ?_
                    have hi18 := br_ite hr
                    refine lv_if_eq (tgt := 62) hx hb dX9_can_55 (by decide) (fun c18 => ?_) (fun c18 => ?_)
                    · have hr := hi18.1 c18
                      refine lv_iconst (v := 0) hx hb dX9_can_62 rfl ?_
                      refine lv_iadd hx hb dX9_can_63 ?_
                      refine lv_topi (fun v19 hv19 => ?_)
                      have hr := br_letv hr hv19
                      refine lv_istore_n (lv' := [(2, .int v19), (4, .int x4_5), (3, .int x3_3), (0, .ref (am 0)), (1, .int a1)]) hx hb dX9_can_64 rfl hl (by decide) rfl (fun ls hl => ?_)
                      obtain ⟨v20, hv20, hr⟩ := br_let hr
                      refine lv_iinc (v := v20) (lv' := [(4, .int v20), (2, .int v19), (3, .int x3_3), (0, .ref (am 0)), (1, .int a1)]) hx hb dX9_can_65 hl (k := 1) rfl (hv20 ▸ rfl) (by decide) rfl (fun ls hl => ?_)
                      refine lv_goto (tgt := 28) hx hb dX9_can_68 (by decide) ?_
                      exact ih v20 v19 _ hr _ _ ls (lv_sub hl [0, 2, 1, 3, 4] rfl) hS kx
                    · have hr := hi18.2 c18
                      refine lv_iconst (v := 1) hx hb dX9_can_58 rfl ?_
                      refine lv_goto (tgt := 63) hx hb dX9_can_59 (by decide) ?_
                      refine lv_iadd hx hb dX9_can_63 ?_
                      refine lv_topi (fun v21 hv21 => ?_)
                      have hr := br_letv hr hv21
                      refine lv_istore_n (lv' := [(2, .int v21), (4, .int x4_5), (3, .int x3_3), (0, .ref (am 0)), (1, .int a1)]) hx hb dX9_can_64 rfl hl (by decide) rfl (fun ls hl => ?_)
                      obtain ⟨v22, hv22, hr⟩ := br_let hr
                      refine lv_iinc (v := v22) (lv' := [(4, .int v22), (2, .int v21), (3, .int x3_3), (0, .ref (am 0)), (1, .int a1)]) hx hb dX9_can_65 hl (k := 1) rfl (hv22 ▸ rfl) (by decide) rfl (fun ls hl => ?_)
                      refine lv_goto (tgt := 28) hx hb dX9_can_68 (by decide) ?_
                      exact ih v22 v21 _ hr _ _ ls (lv_sub hl [0, 2, 1, 3, 4] rfl) hS kx
          obtain ⟨o5, ho5, hr⟩ := br_bind hr
          refine L5 1000 0 x2_3 o5 ho5 _ _ ls (lv_sub hl [0, 1, 2, 3, 4] rfl) hS (fun H locs ls hl hS => ?_)
          have hP := hS.1
          obtain ⟨v23, hv23, hr⟩ := br_let hr
          refine lv_iinc (v := v23) (lv' := [(3, .int v23), (2, .int o5), (0, .ref (am 0)), (1, .int a1)]) hx hb dX9_can_71 hl (k := 0) rfl (hv23 ▸ rfl) (by decide) rfl (fun ls hl => ?_)
          refine lv_goto (tgt := 20) hx hb dX9_can_74 (by decide) ?_
          exact ih v23 o5 _ hr _ _ ls (lv_sub hl [0, 1, 2, 3] rfl) hS kx
    obtain ⟨o3, ho3, hr⟩ := br_bind hr
    refine L3 1000 0 0 o3 ho3 _ _ ls (lv_sub hl [0, 1, 2, 3] rfl) hS (fun H locs ls hl hS => ?_)
    have hP := hS.1
    refine lv_iload_n hx hb dX9_can_77 rfl (lv_at hl 0 rfl) ?_
    obtain rfl := Option.some.inj hr
    refine W.widen (k := rm_X9_can.cells) (n := rm_X9_can.slots) (Nat.le_of_ble_eq_true rfl) (Nat.le_of_ble_eq_true rfl) ?_
    exact W.iret hx hb hrt (fun t ht _ => hS.q ht rfl) hS.2.2.2.2 dX9_can_78 hlk
  · have hr := hi2.1 c2
    refine lv_aload_n hx hb dX9_can_9 rfl (lv_at hl 0 rfl) ?_
    refine lv_bipush (v := (-2)) hx hb dX9_can_10 rfl ?_
    obtain ⟨o24, ho24, hr⟩ := br_bind hr
    refine fwWVs (As := [.int (-2)]) (rest := []) (C := RX9) hx hb hml hown hts (m_X9_no l D am ac g (-2 : Int32) _ o24 ho24) (cw_X9_no hts q1263 ⟨Nat.le_of_ble_eq_true rfl, Nat.le_of_ble_eq_true rfl⟩) hG hS hA rfl 0 8 rfl rfl rfl hl.1 rfl (Nat.le_of_ble_eq_true rfl) dX9_can_12 ⟨Nat.le_of_ble_eq_true rfl, Nat.le_of_ble_eq_true rfl⟩ (fun H locs hS => ?_)
    have hP := hS.1
    obtain rfl := Option.some.inj hr
    refine W.widen (k := rm_X9_can.cells) (n := rm_X9_can.slots) (Nat.le_of_ble_eq_true rfl) (Nat.le_of_ble_eq_true rfl) ?_
    exact W.iret hx hb hrt (fun t ht _ => hS.q ht rfl) hS.2.2.2.2 dX9_can_15 hlk
theorem cw_X9_can {R : Room} {s : State} {args : Array Value} {own : String} {index : Nat} (hts : ∀ w ∈ lw_all, w.before args s = true) (hlink : Cond.methodLink own index yX9_can ∈ lw_all) (hR : rm_X9_can.frames + 1 ≤ R.frames ∧ 8 + (5 + 11) + rm_X9_can.locals ≤ R.locals) : CallW R s args own RX9 index yX9_can cX9_can 5 (some FieldType.int) (ws_ yX9_can cX9_can 5 (some FieldType.int)) rm_X9_can rm_X9_can.cells rm_X9_can.slots 1 :=
  cwV 1 hts (lw_V hlink q1455 q1456 q111 q1457) rfl rfl rfl (by decide +kernel) hR
def f_X9_comesTo (g : MS) (a1 : Int32) (a2 : Int32) (a3 : Int32) (a4 : Int32) : Option (MS) := Option.bind (some ((((128 : Int32) * a1) + a2) : Int32)) fun v1 => if v1 < 0 ∨ 3328 ≤ Int32.toNatClampNeg v1 then none else if v1 < 0 ∨ 3328 ≤ Int32.toNatClampNeg v1 then none else Option.bind (some (mS_counted g (upd (mG_counted g) (Int32.toNatClampNeg v1) (((mG_counted g (Int32.toNatClampNeg v1)) + a3) - ((mG_counted g (Int32.toNatClampNeg v1)) + a3) / 1000003 * 1000003)))) fun g4 => if v1 < 0 ∨ 3328 ≤ Int32.toNatClampNeg v1 then none else Option.bind (f_X9_least (mG_few g4 (Int32.toNatClampNeg v1)) a4) fun o6 => if v1 < 0 ∨ 3328 ≤ Int32.toNatClampNeg v1 then none else Option.bind (some (mS_few g4 (upd (mG_few g4) (Int32.toNatClampNeg v1) o6))) fun g8 => some g8
abbrev rm_X9_comesTo : Room := ({ frames := 2, cells := 0, slots := 0, locals := 39 })
set_option maxHeartbeats 4000000 in
theorem m_X9_comesTo (l : Launch) (D : va_G) (am : Nat → Nat) (ac : Nat → ClassId) (g : MS) (a1 : Int32) (a2 : Int32) (a3 : Int32) (a4 : Int32) (sz : Nat) (r0 : MS) (hr : f_X9_comesTo g a1 a2 a3 a4 = some r0) : WM l yX9_comesTo cX9_comesTo 6 none rm_X9_comesTo [.ref (am 0), .int a1, .int a2, .int a3, .int a4] D ac (wM am ac g) (wM am ac r0) sz none := by
  refine fw_of (by decide) (Nat.le_of_ble_eq_true rfl) ?_
  intro p e s m below meth c ls hx hb hrt hts hown hlk hml _ hU hl
  obtain ⟨rfl, hP, hG, hD⟩ := hU
  have hA : ∀ q : Nat, s.heap.size ≤ q → va_A (wM am ac g) s.heap.size q := fun q h => Or.inr h
  have hS := Stt.start hP hD
  show WW p l e rm_X9_comesTo s m [.ref (am 0), .int a1, .int a2, .int a3, .int a4] below meth c D (wM am ac r0) (va_A (wM am ac g) s.heap.size) none s.heap [] 0 0 0 ls []
  have hl : lv_has ls 6 [(0, .ref (am 0)), (1, .int a1), (2, .int a2), (3, .int a3), (4, .int a4)] := hl
  rw [f_X9_comesTo] at hr
  refine lv_sipush (v := 128) hx hb dX9_comesTo_0 rfl ?_
  refine lv_iload_n hx hb dX9_comesTo_3 rfl (lv_at hl 1 rfl) ?_
  refine lv_imul hx hb dX9_comesTo_4 ?_
  refine lv_iload_n hx hb dX9_comesTo_5 rfl (lv_at hl 2 rfl) ?_
  refine lv_iadd hx hb dX9_comesTo_6 ?_
  refine lv_topi (fun v1 hv1 => ?_)
  have hr := br_letv hr hv1
  refine lv_istore (lv' := [(5, .int v1), (0, .ref (am 0)), (1, .int a1), (2, .int a2), (3, .int a3), (4, .int a4)]) hx hb dX9_comesTo_7 hl (by decide) rfl (fun ls hl => ?_)
  refine lv_aload_n hx hb dX9_comesTo_9 rfl (lv_at hl 1 rfl) ?_
  refine va_get (D := D) (ci := 8) (v := .ref (am 11)) (C := RX9) (T := TX9) (N := 26) hx hb hts in_X9 hown hG.1 hP 0 rfl rfl 23 (by decide) (hts _ q1203) (fun _ h9 => h9) rfl dX9_comesTo_10 ?_
  refine lv_iload hx hb dX9_comesTo_13 (lv_at hl 0 rfl) ?_
  refine lv_aload_n hx hb dX9_comesTo_15 rfl (lv_at hl 1 rfl) ?_
  refine va_get (D := D) (ci := 8) (v := .ref (am 11)) (C := RX9) (T := TX9) (N := 26) hx hb hts in_X9 hown hG.1 hP 0 rfl rfl 23 (by decide) (hts _ q1203) (fun _ h9 => h9) rfl dX9_comesTo_16 ?_
  refine lv_iload hx hb dX9_comesTo_19 (lv_at hl 0 rfl) ?_
  obtain ⟨c2, hr⟩ := br_none hr
  refine va_iald hx hb hG.1 hP 11 0 rfl rfl c2 dX9_comesTo_21 ?_
  refine lv_iload_n hx hb dX9_comesTo_22 rfl (lv_at hl 4 rfl) ?_
  refine lv_iadd hx hb dX9_comesTo_23 ?_
  refine lv_ldc (v := 1000003) hx hb hown (hts _ q1467) dX9_comesTo_24 ?_
  refine lv_irem hx hb dX9_comesTo_26 (by decide) ?_
  obtain ⟨c3, hr⟩ := br_none hr
  obtain ⟨g4, hg4, hr⟩ := br_let hr
  refine fw_iast hx hb hG hS 11 rfl c3 dX9_comesTo_27 (wn := wM am ac g4) (by rw [hg4]; rfl) (fun H locs hS => ?_)
  have hP := hS.1
  refine lv_aload_n hx hb dX9_comesTo_28 rfl (lv_at hl 1 rfl) ?_
  refine va_get (D := D) (ci := 8) (v := .ref (am 12)) (C := RX9) (T := TX9) (N := 26) hx hb hts in_X9 hown hG.1 hP 0 rfl rfl 24 (by decide) (hts _ q1204) (fun _ h9 => h9) rfl dX9_comesTo_29 ?_
  refine lv_iload hx hb dX9_comesTo_32 (lv_at hl 0 rfl) ?_
  refine lv_aload_n hx hb dX9_comesTo_34 rfl (lv_at hl 1 rfl) ?_
  refine va_get (D := D) (ci := 8) (v := .ref (am 12)) (C := RX9) (T := TX9) (N := 26) hx hb hts in_X9 hown hG.1 hP 0 rfl rfl 24 (by decide) (hts _ q1204) (fun _ h9 => h9) rfl dX9_comesTo_35 ?_
  refine lv_iload hx hb dX9_comesTo_38 (lv_at hl 0 rfl) ?_
  obtain ⟨c5, hr⟩ := br_none hr
  refine va_iald hx hb hG.1 hP 12 0 rfl rfl c5 dX9_comesTo_40 ?_
  refine lv_iload hx hb dX9_comesTo_41 (lv_at hl 5 rfl) ?_
  obtain ⟨o6, ho6, hr⟩ := br_bind hr
  refine fwS (As := [.int (mG_few g4 (Int32.toNatClampNeg v1)), .int a4]) (rest := [.int v1, .ref (am 12)]) hx hb hml hown hts (m_X9_least l (mG_few g4 (Int32.toNatClampNeg v1)) a4 o6 ho6) (cw_X9_least hts q1314 ⟨Nat.le_of_ble_eq_true rfl, Nat.le_of_ble_eq_true rfl⟩) rfl hl.1 rfl (Nat.le_of_ble_eq_true rfl) dX9_comesTo_43 ⟨Nat.le_of_ble_eq_true rfl, Nat.le_of_ble_eq_true rfl⟩ ?_
  obtain ⟨c7, hr⟩ := br_none hr
  obtain ⟨g8, hg8, hr⟩ := br_let hr
  refine fw_iast hx hb hG hS 12 rfl c7 dX9_comesTo_46 (wn := wM am ac g8) (by rw [hg8]; rfl) (fun H locs hS => ?_)
  have hP := hS.1
  obtain rfl := Option.some.inj hr
  refine W.widen (k := rm_X9_comesTo.cells) (n := rm_X9_comesTo.slots) (Nat.le_of_ble_eq_true rfl) (Nat.le_of_ble_eq_true rfl) ?_
  exact W.vret hx hb hrt (fun t ht _ => hS.q ht rfl) hS.2.2.2.2 dX9_comesTo_47 hlk
theorem cw_X9_comesTo {R : Room} {s : State} {args : Array Value} {own : String} {index : Nat} (hts : ∀ w ∈ lw_all, w.before args s = true) (hlink : Cond.methodLink own index yX9_comesTo ∈ lw_all) (hR : rm_X9_comesTo.frames + 1 ≤ R.frames ∧ 8 + (6 + 11) + rm_X9_comesTo.locals ≤ R.locals) : CallW R s args own RX9 index yX9_comesTo cX9_comesTo 6 none (ws_ yX9_comesTo cX9_comesTo 6 none) rm_X9_comesTo rm_X9_comesTo.cells rm_X9_comesTo.slots 4 :=
  cwV 4 hts (lw_V hlink q1465 qs92 q111 q1466) rfl rfl rfl (by decide +kernel) hR
def f_X9_ways_L28 : Nat → Int32 → MS → Option (MS)
  | 0, _, _ => none
  | n + 1, x3_4, g_4 => if 3328 ≤ x3_4 then some g_4 else if x3_4 < 0 ∨ 3328 ≤ Int32.toNatClampNeg x3_4 then none else Option.bind (some (mS_counted g_4 (upd (mG_counted g_4) (Int32.toNatClampNeg x3_4) (0 : Int32)))) fun g7 => if x3_4 < 0 ∨ 3328 ≤ Int32.toNatClampNeg x3_4 then none else Option.bind (some (mS_few g7 (upd (mG_few g7) (Int32.toNatClampNeg x3_4) (1000000000 : Int32)))) fun g9 => Option.bind (some ((x3_4 + 1) : Int32)) fun v10 => f_X9_ways_L28 n v10 g9
def f_X9_ways_L159 (v3 : Int32) (x3_13 : Int32) (x4_15 : Int32) (v17 : Int32) : Nat → Int32 → MS → Option (MS)
  | 0, _, _ => none
  | n + 1, x6_31, g_31 => if 4 ≤ x6_31 then some g_31 else Option.bind (f_X9_has v3 x3_13) fun o33 => if o33 = 0 then some g_31 else Option.bind (f_X9_has x4_15 0) fun o35 => if o35 = 0 then Option.bind (f_X9_canBite v3 x6_31 x3_13) fun o37 => Option.bind (α := Int32) (if o37 = 0 then some 0 else Option.bind (f_X9_bite x6_31 x3_13) fun o40 => some (o40 >>> (x3_13 &&& 31))) fun o39 => if o39 = 0 then Option.bind (some ((x6_31 + 1) : Int32)) fun v42 => f_X9_ways_L159 v3 x3_13 x4_15 v17 n v42 g_31 else if (o39 &&& x4_15) = 0 then if v17 < 0 ∨ 3328 ≤ Int32.toNatClampNeg v17 then none else if v17 < 0 ∨ 3328 ≤ Int32.toNatClampNeg v17 then none else Option.bind (f_X9_comesTo g_31 (x3_13 + 1) ((x4_15 ||| o39) >>> ((1 : Int32) &&& 31)) (mG_counted g_31 (Int32.toNatClampNeg v17)) ((mG_few g_31 (Int32.toNatClampNeg v17)) + 1)) fun o47 => Option.bind (some ((x6_31 + 1) : Int32)) fun v48 => f_X9_ways_L159 v3 x3_13 x4_15 v17 n v48 o47 else Option.bind (some ((x6_31 + 1) : Int32)) fun v44 => f_X9_ways_L159 v3 x3_13 x4_15 v17 n v44 g_31 else some g_31
def f_X9_ways_L81 (v3 : Int32) (x3_13 : Int32) : Nat → Int32 → MS → Option (MS)
  | 0, _, _ => none
  | n + 1, x4_15, g_15 => if 128 ≤ x4_15 then some g_15 else Option.bind (some ((((128 : Int32) * x3_13) + x4_15) : Int32)) fun v17 => if v17 < 0 ∨ 3328 ≤ Int32.toNatClampNeg v17 then none else if (mG_few g_15 (Int32.toNatClampNeg v17)) = 1000000000 then Option.bind (some ((x4_15 + 1) : Int32)) fun v50 => f_X9_ways_L81 v3 x3_13 n v50 g_15 else Option.bind (f_X9_has x4_15 0) fun o20 => Option.bind (α := MS) (if o20 = 0 then Option.bind (f_X9_has v3 x3_13) fun o26 => if o26 = 0 then if v17 < 0 ∨ 3328 ≤ Int32.toNatClampNeg v17 then none else if v17 < 0 ∨ 3328 ≤ Int32.toNatClampNeg v17 then none else Option.bind (f_X9_comesTo g_15 (x3_13 + 1) (x4_15 >>> ((1 : Int32) &&& 31)) (mG_counted g_15 (Int32.toNatClampNeg v17)) (mG_few g_15 (Int32.toNatClampNeg v17))) fun o30 => some o30 else some g_15 else if v17 < 0 ∨ 3328 ≤ Int32.toNatClampNeg v17 then none else if v17 < 0 ∨ 3328 ≤ Int32.toNatClampNeg v17 then none else Option.bind (f_X9_comesTo g_15 (x3_13 + 1) (x4_15 >>> ((1 : Int32) &&& 31)) (mG_counted g_15 (Int32.toNatClampNeg v17)) (mG_few g_15 (Int32.toNatClampNeg v17))) fun o25 => some o25) fun o22 => Option.bind (f_X9_ways_L159 v3 x3_13 x4_15 v17 4000 0 o22) fun o31 => Option.bind (some ((x4_15 + 1) : Int32)) fun v49 => f_X9_ways_L81 v3 x3_13 n v49 o31
def f_X9_ways_L72 (v3 : Int32) : Nat → Int32 → MS → Option (MS)
  | 0, _, _ => none
  | n + 1, x3_13, g_13 => if 25 ≤ x3_13 then some g_13 else Option.bind (f_X9_ways_L81 v3 x3_13 4000 0 g_13) fun o15 => Option.bind (some ((x3_13 + 1) : Int32)) fun v51 => f_X9_ways_L72 v3 n v51 o15
def f_X9_ways (g : MS) (a1 : Int32) : Option (Int32 × MS) := Option.bind (f_X9_isIn a1 0 1) fun o1 => if o1 = 0 then Option.bind (f_X9_no g (-2 : Int32)) fun o53 => some (o53.1, o53.2) else Option.bind (some (((33554431 : Int32) &&& ((mG_left g) ^^^ (-1))) : Int32)) fun v3 => Option.bind (f_X9_ways_L28 4000 0 g) fun o4 => Option.bind (some (mS_counted o4 (upd (mG_counted o4) (Int32.toNatClampNeg (0 : Int32)) (1 : Int32)))) fun g11 => Option.bind (some (mS_few g11 (upd (mG_few g11) (Int32.toNatClampNeg (0 : Int32)) (0 : Int32)))) fun g12 => Option.bind (f_X9_ways_L72 v3 4000 0 g12) fun o13 => if a1 = 0 then some ((mG_counted o13 (Int32.toNatClampNeg (3200 : Int32))), o13) else some ((mG_few o13 (Int32.toNatClampNeg (3200 : Int32))), o13)
abbrev rm_X9_ways : Room := ({ frames := 3, cells := 0, slots := 0, locals := 67 })
set_option maxHeartbeats 4000000 in
theorem m_X9_ways (l : Launch) (D : va_G) (am : Nat → Nat) (ac : Nat → ClassId) (g : MS) (a1 : Int32) (sz : Nat) (r0 : Int32 × MS) (hr : f_X9_ways g a1 = some r0) : WM l yX9_ways cX9_ways 8 (some FieldType.int) rm_X9_ways [.ref (am 0), .int a1] D ac (wM am ac g) (wM am ac r0.2) sz (some (.int r0.1)) := by
  refine fw_of (by decide) (Nat.le_of_ble_eq_true rfl) ?_
  intro p e s m below meth c ls hx hb hrt hts hown hlk hml _ hU hl
  obtain ⟨rfl, hP, hG, hD⟩ := hU
  have hA : ∀ q : Nat, s.heap.size ≤ q → va_A (wM am ac g) s.heap.size q := fun q h => Or.inr h
  have hS := Stt.start hP hD
  show WW p l e rm_X9_ways s m [.ref (am 0), .int a1] below meth c D (wM am ac r0.2) (va_A (wM am ac g) s.heap.size) (some (.int r0.1)) s.heap [] 0 0 0 ls []
  have hl : lv_has ls 8 [(0, .ref (am 0)), (1, .int a1)] := hl
  rw [f_X9_ways] at hr
  refine lv_iload_n hx hb dX9_ways_0 rfl (lv_at hl 1 rfl) ?_
  refine lv_iconst (v := 0) hx hb dX9_ways_1 rfl ?_
  refine lv_iconst (v := 1) hx hb dX9_ways_2 rfl ?_
  obtain ⟨o1, ho1, hr⟩ := br_bind hr
  refine fwS (As := [.int a1, .int 0, .int 1]) (rest := []) hx hb hml hown hts (m_X9_isIn l a1 0 1 o1 ho1) (cw_X9_isIn hts q1290 ⟨Nat.le_of_ble_eq_true rfl, Nat.le_of_ble_eq_true rfl⟩) rfl hl.1 rfl (Nat.le_of_ble_eq_true rfl) dX9_ways_3 ⟨Nat.le_of_ble_eq_true rfl, Nat.le_of_ble_eq_true rfl⟩ ?_
  have hi2 := br_ite hr
  refine lv_if_ne (tgt := 16) hx hb dX9_ways_6 (by decide) (fun c2 => ?_) (fun c2 => ?_)
  · have hr := hi2.2 c2
    refine lv_ldc (v := 33554431) hx hb hown (hts _ q1179) dX9_ways_16 ?_
    refine lv_aload_n hx hb dX9_ways_18 rfl (lv_at hl 0 rfl) ?_
    refine va_get (D := D) (ci := 8) (v := .int (mG_left g)) (C := RX9) (T := TX9) (N := 26) hx hb hts in_X9 hown hG.1 hP 0 rfl rfl 0 (by decide) (hts _ q1180) (fun _ h9 => h9) rfl dX9_ways_19 ?_
    refine lv_iconst (v := (-1)) hx hb dX9_ways_22 rfl ?_
    refine lv_ixor hx hb dX9_ways_23 ?_
    refine lv_iand hx hb dX9_ways_24 ?_
    refine lv_topi (fun v3 hv3 => ?_)
    have hr := br_letv hr hv3
    refine lv_istore_n (lv' := [(2, .int v3), (0, .ref (am 0)), (1, .int a1)]) hx hb dX9_ways_25 rfl hl (by decide) rfl (fun ls hl => ?_)
    refine lv_iconst (v := 0) hx hb dX9_ways_26 rfl ?_
    refine lv_istore_n (lv' := [(3, .int 0), (2, .int v3), (0, .ref (am 0)), (1, .int a1)]) hx hb dX9_ways_27 rfl hl (by decide) rfl (fun ls hl => ?_)
    have L4 : ∀ (n : Nat) (x3_4 : Int32) (g_4 : MS) (o4 : MS), f_X9_ways_L28 n x3_4 g_4 = some o4 → ∀ (H : Heap) (locs : List Loc) ls, lv_has ls 8 [(3, .int x3_4), (2, .int v3), (0, .ref (am 0)), (1, .int a1)] → Stt D (va_A (wM am ac g) s.heap.size) s.heap (wM am ac g_4) H locs → (∀ (H : Heap) (locs : List Loc) ls, lv_has ls 8 [(2, .int v3), (0, .ref (am 0)), (1, .int a1)] → Stt D (va_A (wM am ac g) s.heap.size) s.heap (wM am ac o4) H locs → WW p l e rm_X9_ways s m [.ref (am 0), .int a1] below meth c D (wM am ac r0.2) (va_A (wM am ac g) s.heap.size) (some (.int r0.1)) H locs 0 0 56 ls []) → WW p l e rm_X9_ways s m [.ref (am 0), .int a1] below meth c D (wM am ac r0.2) (va_A (wM am ac g) s.heap.size) (some (.int r0.1)) H locs 0 0 28 ls [] := by
      intro n
      induction n with
      | zero => intro x3_4 g_4 o4 hr; rw [f_X9_ways_L28] at hr; cases hr
      | succ n ih =>
        intro x3_4 g_4 o4 hr H locs ls hl hS kx
        have hP := hS.1
        rw [f_X9_ways_L28] at hr
        refine lv_iload_n hx hb dX9_ways_28 rfl (lv_at hl 0 rfl) ?_
        refine lv_sipush (v := 3328) hx hb dX9_ways_29 rfl ?_
        have hi5 := br_ite hr
        refine lv_icmp_ge (tgt := 56) hx hb dX9_ways_32 (by decide) (fun c5 => ?_) (fun c5 => ?_)
        · have hr := hi5.1 c5
          obtain rfl := Option.some.inj hr
          exact kx _ _ ls (lv_sub hl [1, 2, 3] rfl) hS
        · have hr := hi5.2 c5
          refine lv_aload_n hx hb dX9_ways_35 rfl (lv_at hl 2 rfl) ?_
          refine va_get (D := D) (ci := 8) (v := .ref (am 11)) (C := RX9) (T := TX9) (N := 26) hx hb hts in_X9 hown hG.1 hP 0 rfl rfl 23 (by decide) (hts _ q1203) (fun _ h9 => h9) rfl dX9_ways_36 ?_
          refine lv_iload_n hx hb dX9_ways_39 rfl (lv_at hl 0 rfl) ?_
          refine lv_iconst (v := 0) hx hb dX9_ways_40 rfl ?_
          obtain ⟨c6, hr⟩ := br_none hr
          obtain ⟨g7, hg7, hr⟩ := br_let hr
          refine fw_iast hx hb hG hS 11 rfl c6 dX9_ways_41 (wn := wM am ac g7) (by rw [hg7]; rfl) (fun H locs hS => ?_)
          have hP := hS.1
          refine lv_aload_n hx hb dX9_ways_42 rfl (lv_at hl 2 rfl) ?_
          refine va_get (D := D) (ci := 8) (v := .ref (am 12)) (C := RX9) (T := TX9) (N := 26) hx hb hts in_X9 hown hG.1 hP 0 rfl rfl 24 (by decide) (hts _ q1204) (fun _ h9 => h9) rfl dX9_ways_43 ?_
          refine lv_iload_n hx hb dX9_ways_46 rfl (lv_at hl 0 rfl) ?_
          refine lv_ldc (v := 1000000000) hx hb hown (hts _ q1462) dX9_ways_47 ?_
          obtain ⟨c8, hr⟩ := br_none hr
          obtain ⟨g9, hg9, hr⟩ := br_let hr
          refine fw_iast hx hb hG hS 12 rfl c8 dX9_ways_49 (wn := wM am ac g9) (by rw [hg9]; rfl) (fun H locs hS => ?_)
          have hP := hS.1
          obtain ⟨v10, hv10, hr⟩ := br_let hr
          refine lv_iinc (v := v10) (lv' := [(3, .int v10), (2, .int v3), (0, .ref (am 0)), (1, .int a1)]) hx hb dX9_ways_50 hl (k := 0) rfl (hv10 ▸ rfl) (by decide) rfl (fun ls hl => ?_)
          refine lv_goto (tgt := 28) hx hb dX9_ways_53 (by decide) ?_
          exact ih v10 g9 _ hr _ _ ls (lv_sub hl [0, 1, 2, 3] rfl) hS kx
    obtain ⟨o4, ho4, hr⟩ := br_bind hr
    refine L4 4000 0 g o4 ho4 _ _ ls (lv_sub hl [0, 1, 2, 3] rfl) hS (fun H locs ls hl hS => ?_)
    have hP := hS.1
    refine lv_aload_n hx hb dX9_ways_56 rfl (lv_at hl 1 rfl) ?_
    refine va_get (D := D) (ci := 8) (v := .ref (am 11)) (C := RX9) (T := TX9) (N := 26) hx hb hts in_X9 hown hG.1 hP 0 rfl rfl 23 (by decide) (hts _ q1203) (fun _ h9 => h9) rfl dX9_ways_57 ?_
    refine lv_iconst (v := 0) hx hb dX9_ways_60 rfl ?_
    refine lv_iconst (v := 1) hx hb dX9_ways_61 rfl ?_
    obtain ⟨g11, hg11, hr⟩ := br_let hr
    refine fw_iast hx hb hG hS 11 rfl (show ¬ ((0 : Int32) < 0 ∨ 3328 ≤ Int32.toNatClampNeg (0 : Int32)) by decide) dX9_ways_62 (wn := wM am ac g11) (by rw [hg11]; rfl) (fun H locs hS => ?_)
    have hP := hS.1
    refine lv_aload_n hx hb dX9_ways_63 rfl (lv_at hl 1 rfl) ?_
    refine va_get (D := D) (ci := 8) (v := .ref (am 12)) (C := RX9) (T := TX9) (N := 26) hx hb hts in_X9 hown hG.1 hP 0 rfl rfl 24 (by decide) (hts _ q1204) (fun _ h9 => h9) rfl dX9_ways_64 ?_
    refine lv_iconst (v := 0) hx hb dX9_ways_67 rfl ?_
    refine lv_iconst (v := 0) hx hb dX9_ways_68 rfl ?_
    obtain ⟨g12, hg12, hr⟩ := br_let hr
    refine fw_iast hx hb hG hS 12 rfl (show ¬ ((0 : Int32) < 0 ∨ 3328 ≤ Int32.toNatClampNeg (0 : Int32)) by decide) dX9_ways_69 (wn := wM am ac g12) (by rw [hg12]; rfl) (fun H locs hS => ?_)
    have hP := hS.1
    refine lv_iconst (v := 0) hx hb dX9_ways_70 rfl ?_
    refine lv_istore_n (lv' := [(3, .int 0), (2, .int v3), (0, .ref (am 0)), (1, .int a1)]) hx hb dX9_ways_71 rfl hl (by decide) rfl (fun ls hl => ?_)
    have L13 : ∀ (n : Nat) (x3_13 : Int32) (g_13 : MS) (o13 : MS), f_X9_ways_L72 v3 n x3_13 g_13 = some o13 → ∀ (H : Heap) (locs : List Loc) ls, lv_has ls 8 [(3, .int x3_13), (2, .int v3), (0, .ref (am 0)), (1, .int a1)] → Stt D (va_A (wM am ac g) s.heap.size) s.heap (wM am ac g_13) H locs → (∀ (H : Heap) (locs : List Loc) ls, lv_has ls 8 [(0, .ref (am 0)), (1, .int a1)] → Stt D (va_A (wM am ac g) s.heap.size) s.heap (wM am ac o13) H locs → WW p l e rm_X9_ways s m [.ref (am 0), .int a1] below meth c D (wM am ac r0.2) (va_A (wM am ac g) s.heap.size) (some (.int r0.1)) H locs 0 0 267 ls []) → WW p l e rm_X9_ways s m [.ref (am 0), .int a1] below meth c D (wM am ac r0.2) (va_A (wM am ac g) s.heap.size) (some (.int r0.1)) H locs 0 0 72 ls [] := by
      intro n
      induction n with
      | zero => intro x3_13 g_13 o13 hr; rw [f_X9_ways_L72] at hr; cases hr
      | succ n ih =>
        intro x3_13 g_13 o13 hr H locs ls hl hS kx
        have hP := hS.1
        rw [f_X9_ways_L72] at hr
        refine lv_iload_n hx hb dX9_ways_72 rfl (lv_at hl 0 rfl) ?_
        refine lv_bipush (v := 25) hx hb dX9_ways_73 rfl ?_
        have hi14 := br_ite hr
        refine lv_icmp_ge (tgt := 267) hx hb dX9_ways_75 (by decide) (fun c14 => ?_) (fun c14 => ?_)
        · have hr := hi14.1 c14
          obtain rfl := Option.some.inj hr
          exact kx _ _ ls (lv_sub hl [2, 3] rfl) hS
        · have hr := hi14.2 c14
          refine lv_iconst (v := 0) hx hb dX9_ways_78 rfl ?_
          refine lv_istore (lv' := [(4, .int 0), (3, .int x3_13), (2, .int v3), (0, .ref (am 0)), (1, .int a1)]) hx hb dX9_ways_79 hl (by decide) rfl (fun ls hl => ?_)
          have L15 : ∀ (n : Nat) (x4_15 : Int32) (g_15 : MS) (o15 : MS), f_X9_ways_L81 v3 x3_13 n x4_15 g_15 = some o15 → ∀ (H : Heap) (locs : List Loc) ls, lv_has ls 8 [(4, .int x4_15), (3, .int x3_13), (2, .int v3), (0, .ref (am 0)), (1, .int a1)] → Stt D (va_A (wM am ac g) s.heap.size) s.heap (wM am ac g_15) H locs → (∀ (H : Heap) (locs : List Loc) ls, lv_has ls 8 [(3, .int x3_13), (2, .int v3), (0, .ref (am 0)), (1, .int a1)] → Stt D (va_A (wM am ac g) s.heap.size) s.heap (wM am ac o15) H locs → WW p l e rm_X9_ways s m [.ref (am 0), .int a1] below meth c D (wM am ac r0.2) (va_A (wM am ac g) s.heap.size) (some (.int r0.1)) H locs 0 0 261 ls []) → WW p l e rm_X9_ways s m [.ref (am 0), .int a1] below meth c D (wM am ac r0.2) (va_A (wM am ac g) s.heap.size) (some (.int r0.1)) H locs 0 0 81 ls [] := by
            intro n
            induction n with
            | zero => intro x4_15 g_15 o15 hr; rw [f_X9_ways_L81] at hr; cases hr
            | succ n ih =>
              intro x4_15 g_15 o15 hr H locs ls hl hS kx
              have hP := hS.1
              rw [f_X9_ways_L81] at hr
              refine lv_iload hx hb dX9_ways_81 (lv_at hl 0 rfl) ?_
              refine lv_sipush (v := 128) hx hb dX9_ways_83 rfl ?_
              have hi16 := br_ite hr
              refine lv_icmp_ge (tgt := 261) hx hb dX9_ways_86 (by decide) (fun c16 => ?_) (fun c16 => ?_)
              · have hr := hi16.1 c16
                obtain rfl := Option.some.inj hr
                exact kx _ _ ls (lv_sub hl [1, 2, 3, 4] rfl) hS
              · have hr := hi16.2 c16
                refine lv_sipush (v := 128) hx hb dX9_ways_89 rfl ?_
                refine lv_iload_n hx hb dX9_ways_92 rfl (lv_at hl 1 rfl) ?_
                refine lv_imul hx hb dX9_ways_93 ?_
                refine lv_iload hx hb dX9_ways_94 (lv_at hl 0 rfl) ?_
                refine lv_iadd hx hb dX9_ways_96 ?_
                refine lv_topi (fun v17 hv17 => ?_)
                have hr := br_letv hr hv17
                refine lv_istore (lv' := [(5, .int v17), (4, .int x4_15), (3, .int x3_13), (2, .int v3), (0, .ref (am 0)), (1, .int a1)]) hx hb dX9_ways_97 hl (by decide) rfl (fun ls hl => ?_)
                refine lv_aload_n hx hb dX9_ways_99 rfl (lv_at hl 4 rfl) ?_
                refine va_get (D := D) (ci := 8) (v := .ref (am 12)) (C := RX9) (T := TX9) (N := 26) hx hb hts in_X9 hown hG.1 hP 0 rfl rfl 24 (by decide) (hts _ q1204) (fun _ h9 => h9) rfl dX9_ways_100 ?_
                refine lv_iload hx hb dX9_ways_103 (lv_at hl 0 rfl) ?_
                obtain ⟨c18, hr⟩ := br_none hr
                refine va_iald hx hb hG.1 hP 12 0 rfl rfl c18 dX9_ways_105 ?_
                refine lv_ldc (v := 1000000000) hx hb hown (hts _ q1462) dX9_ways_106 ?_
                have hi19 := br_ite hr
                refine lv_icmp_ne (tgt := 114) hx hb dX9_ways_108 (by decide) (fun c19 => ?_) (fun c19 => ?_)
                · have hr := hi19.2 c19
                  refine lv_iload hx hb dX9_ways_114 (lv_at hl 1 rfl) ?_
                  refine lv_iconst (v := 0) hx hb dX9_ways_116 rfl ?_
                  obtain ⟨o20, ho20, hr⟩ := br_bind hr
                  refine fwS (As := [.int x4_15, .int 0]) (rest := []) hx hb hml hown hts (m_X9_has l x4_15 0 o20 ho20) (cw_X9_has hts q1365 ⟨Nat.le_of_ble_eq_true rfl, Nat.le_of_ble_eq_true rfl⟩) rfl hl.1 rfl (Nat.le_of_ble_eq_true rfl) dX9_ways_117 ⟨Nat.le_of_ble_eq_true rfl, Nat.le_of_ble_eq_true rfl⟩ ?_
                  obtain ⟨o22, ho22, hr⟩ := br_bind hr
                  have J22 : ∀ (H : Heap) (locs : List Loc) ls, lv_has ls 8 [(5, .int v17), (4, .int x4_15), (3, .int x3_13), (2, .int v3), (0, .ref (am 0)), (1, .int a1)] → Stt D (va_A (wM am ac g) s.heap.size) s.heap (wM am ac o22) H locs → WW p l e rm_X9_ways s m [.ref (am 0), .int a1] below meth c D (wM am ac r0.2) (va_A (wM am ac g) s.heap.size) (some (.int r0.1)) H locs 0 0 156 ls [] := by
                    intro H locs ls hl hS
                    have hP := hS.1
                    refine lv_iconst (v := 0) hx hb dX9_ways_156 rfl ?_
                    refine lv_istore (lv' := [(6, .int 0), (5, .int v17), (4, .int x4_15), (3, .int x3_13), (2, .int v3), (0, .ref (am 0)), (1, .int a1)]) hx hb dX9_ways_157 hl (by decide) rfl (fun ls hl => ?_)
                    have L31 : ∀ (n : Nat) (x6_31 : Int32) (g_31 : MS) (o31 : MS), f_X9_ways_L159 v3 x3_13 x4_15 v17 n x6_31 g_31 = some o31 → ∀ (H : Heap) (locs : List Loc) ls, lv_has ls 8 [(6, .int x6_31), (5, .int v17), (4, .int x4_15), (3, .int x3_13), (2, .int v3), (0, .ref (am 0)), (1, .int a1)] → Stt D (va_A (wM am ac g) s.heap.size) s.heap (wM am ac g_31) H locs → (∀ (H : Heap) (locs : List Loc) ls, lv_has ls 8 [(4, .int x4_15), (3, .int x3_13), (2, .int v3), (0, .ref (am 0)), (1, .int a1)] → Stt D (va_A (wM am ac g) s.heap.size) s.heap (wM am ac o31) H locs → WW p l e rm_X9_ways s m [.ref (am 0), .int a1] below meth c D (wM am ac r0.2) (va_A (wM am ac g) s.heap.size) (some (.int r0.1)) H locs 0 0 255 ls []) → WW p l e rm_X9_ways s m [.ref (am 0), .int a1] below meth c D (wM am ac r0.2) (va_A (wM am ac g) s.heap.size) (some (.int r0.1)) H locs 0 0 159 ls [] := by
                      intro n
                      induction n with
                      | zero => intro x6_31 g_31 o31 hr; rw [f_X9_ways_L159] at hr; cases hr
                      | succ n ih =>
                        intro x6_31 g_31 o31 hr H locs ls hl hS kx
                        have hP := hS.1
                        rw [f_X9_ways_L159] at hr
                        refine lv_iload hx hb dX9_ways_159 (lv_at hl 0 rfl) ?_
                        refine lv_iconst (v := 4) hx hb dX9_ways_161 rfl ?_
                        have hi32 := br_ite hr
                        refine lv_icmp_ge (tgt := 255) hx hb dX9_ways_162 (by decide) (fun c32 => ?_) (fun c32 => ?_)
                        · have hr := hi32.1 c32
                          obtain rfl := Option.some.inj hr
                          exact kx _ _ ls (lv_sub hl [2, 3, 4, 5, 6] rfl) hS
                        · have hr := hi32.2 c32
                          refine lv_iload_n hx hb dX9_ways_165 rfl (lv_at hl 4 rfl) ?_
                          refine lv_iload_n hx hb dX9_ways_166 rfl (lv_at hl 3 rfl) ?_
                          obtain ⟨o33, ho33, hr⟩ := br_bind hr
                          refine fwS (As := [.int v3, .int x3_13]) (rest := []) hx hb hml hown hts (m_X9_has l v3 x3_13 o33 ho33) (cw_X9_has hts q1365 ⟨Nat.le_of_ble_eq_true rfl, Nat.le_of_ble_eq_true rfl⟩) rfl hl.1 rfl (Nat.le_of_ble_eq_true rfl) dX9_ways_167 ⟨Nat.le_of_ble_eq_true rfl, Nat.le_of_ble_eq_true rfl⟩ ?_
                          have hi34 := br_ite hr
                          refine lv_if_eq (tgt := 255) hx hb dX9_ways_170 (by decide) (fun c34 => ?_) (fun c34 => ?_)
                          · have hr := hi34.1 c34
                            obtain rfl := Option.some.inj hr
                            exact kx _ _ ls (lv_sub hl [2, 3, 4, 5, 6] rfl) hS
                          · have hr := hi34.2 c34
                            refine lv_iload hx hb dX9_ways_173 (lv_at hl 2 rfl) ?_
                            refine lv_iconst (v := 0) hx hb dX9_ways_175 rfl ?_
                            obtain ⟨o35, ho35, hr⟩ := br_bind hr
                            refine fwS (As := [.int x4_15, .int 0]) (rest := []) hx hb hml hown hts (m_X9_has l x4_15 0 o35 ho35) (cw_X9_has hts q1365 ⟨Nat.le_of_ble_eq_true rfl, Nat.le_of_ble_eq_true rfl⟩) rfl hl.1 rfl (Nat.le_of_ble_eq_true rfl) dX9_ways_176 ⟨Nat.le_of_ble_eq_true rfl, Nat.le_of_ble_eq_true rfl⟩ ?_
                            have hi36 := br_ite hr
                            refine lv_if_ne (tgt := 255) hx hb dX9_ways_179 (by decide) (fun c36 => ?_) (fun c36 => ?_)
                            · have hr := hi36.2 c36
                              obtain rfl := Option.some.inj hr
                              exact kx _ _ ls (lv_sub hl [2, 3, 4, 5, 6] rfl) hS
                            · have hr := hi36.1 c36
                              refine lv_iload_n hx hb dX9_ways_182 rfl (lv_at hl 4 rfl) ?_
                              refine lv_iload hx hb dX9_ways_183 (lv_at hl 0 rfl) ?_
                              refine lv_iload_n hx hb dX9_ways_185 rfl (lv_at hl 3 rfl) ?_
                              obtain ⟨o37, ho37, hr⟩ := br_bind hr
                              refine fwS (As := [.int v3, .int x6_31, .int x3_13]) (rest := []) hx hb hml hown hts (m_X9_canBite l v3 x6_31 x3_13 o37 ho37) (cw_X9_canBite hts q1304 ⟨Nat.le_of_ble_eq_true rfl, Nat.le_of_ble_eq_true rfl⟩) rfl hl.1 rfl (Nat.le_of_ble_eq_true rfl) dX9_ways_186 ⟨Nat.le_of_ble_eq_true rfl, Nat.le_of_ble_eq_true rfl⟩ ?_
                              obtain ⟨o39, ho39, hr⟩ := br_bind hr
                              have J39 : ∀ (H : Heap) (locs : List Loc) ls, lv_has ls 8 [(6, .int x6_31), (5, .int v17), (4, .int x4_15), (3, .int x3_13), (2, .int v3), (0, .ref (am 0)), (1, .int a1)] → Stt D (va_A (wM am ac g) s.heap.size) s.heap (wM am ac g_31) H locs → WW p l e rm_X9_ways s m [.ref (am 0), .int a1] below meth c D (wM am ac r0.2) (va_A (wM am ac g) s.heap.size) (some (.int r0.1)) H locs 0 0 204 ls [.int o39] := by
                                intro H locs ls hl hS
                                have hP := hS.1
                                refine lv_istore (lv' := [(7, .int o39), (6, .int x6_31), (5, .int v17), (4, .int x4_15), (3, .int x3_13), (2, .int v3), (0, .ref (am 0)), (1, .int a1)]) hx hb dX9_ways_204 hl (by decide) rfl (fun ls hl => ?_)
                                refine lv_iload hx hb dX9_ways_206 (lv_at hl 0 rfl) ?_
                                have hi41 := br_ite hr
                                refine lv_if_eq (tgt := 249) hx hb dX9_ways_208 (by decide) (fun c41 => ?_) (fun c41 => ?_)
                                · have hr := hi41.1 c41
                                  obtain ⟨v42, hv42, hr⟩ := br_let hr
                                  refine lv_iinc (v := v42) (lv' := [(6, .int v42), (7, .int o39), (5, .int v17), (4, .int x4_15), (3, .int x3_13), (2, .int v3), (0, .ref (am 0)), (1, .int a1)]) hx hb dX9_ways_249 hl (k := 1) rfl (hv42 ▸ rfl) (by decide) rfl (fun ls hl => ?_)
                                  refine lv_goto (tgt := 159) hx hb dX9_ways_252 (by decide) ?_
                                  exact ih v42 g_31 _ hr _ _ ls (lv_sub hl [0, 2, 3, 4, 5, 6, 7] rfl) hS kx
                                · have hr := hi41.2 c41
                                  refine lv_iload hx hb dX9_ways_211 (lv_at hl 0 rfl) ?_
                                  refine lv_iload hx hb dX9_ways_213 (lv_at hl 3 rfl) ?_
                                  refine lv_iand hx hb dX9_ways_215 ?_
                                  have hi43 := br_ite hr
                                  refine lv_if_ne (tgt := 249) hx hb dX9_ways_216 (by decide) (fun c43 => ?_) (fun c43 => ?_)
                                  · have hr := hi43.2 c43
                                    obtain ⟨v44, hv44, hr⟩ := br_let hr
                                    refine lv_iinc (v := v44) (lv' := [(6, .int v44), (7, .int o39), (5, .int v17), (4, .int x4_15), (3, .int x3_13), (2, .int v3), (0, .ref (am 0)), (1, .int a1)]) hx hb dX9_ways_249 hl (k := 1) rfl (hv44 ▸ rfl) (by decide) rfl (fun ls hl => ?_)
                                    refine lv_goto (tgt := 159) hx hb dX9_ways_252 (by decide) ?_
                                    exact ih v44 g_31 _ hr _ _ ls (lv_sub hl [0, 2, 3, 4, 5, 6, 7] rfl) hS kx
                                  · have hr := hi43.1 c43
                                    refine lv_aload_n hx hb dX9_ways_219 rfl (lv_at hl 6 rfl) ?_
                                    refine lv_iload_n hx hb dX9_ways_220 rfl (lv_at hl 4 rfl) ?_
                                    refine lv_iconst (v := 1) hx hb dX9_ways_221 rfl ?_
                                    refine lv_iadd hx hb dX9_ways_222 ?_
                                    refine lv_iload hx hb dX9_ways_223 (lv_at hl 3 rfl) ?_
                                    refine lv_iload hx hb dX9_ways_225 (lv_at hl 0 rfl) ?_
                                    refine lv_ior hx hb dX9_ways_227 ?_
                                    refine lv_iconst (v := 1) hx hb dX9_ways_228 rfl ?_
                                    refine lv_ishr hx hb dX9_ways_229 ?_
                                    refine lv_aload_n hx hb dX9_ways_230 rfl (lv_at hl 6 rfl) ?_
                                    refine va_get (D := D) (ci := 8) (v := .ref (am 11)) (C := RX9) (T := TX9) (N := 26) hx hb hts in_X9 hown hG.1 hP 0 rfl rfl 23 (by decide) (hts _ q1203) (fun _ h9 => h9) rfl dX9_ways_231 ?_
                                    refine lv_iload hx hb dX9_ways_234 (lv_at hl 2 rfl) ?_
                                    obtain ⟨c45, hr⟩ := br_none hr
                                    refine va_iald hx hb hG.1 hP 11 0 rfl rfl c45 dX9_ways_236 ?_
                                    refine lv_aload_n hx hb dX9_ways_237 rfl (lv_at hl 6 rfl) ?_
                                    refine va_get (D := D) (ci := 8) (v := .ref (am 12)) (C := RX9) (T := TX9) (N := 26) hx hb hts in_X9 hown hG.1 hP 0 rfl rfl 24 (by decide) (hts _ q1204) (fun _ h9 => h9) rfl dX9_ways_238 ?_
                                    refine lv_iload hx hb dX9_ways_241 (lv_at hl 2 rfl) ?_
                                    obtain ⟨c46, hr⟩ := br_none hr
                                    refine va_iald hx hb hG.1 hP 12 0 rfl rfl c46 dX9_ways_243 ?_
                                    refine lv_iconst (v := 1) hx hb dX9_ways_244 rfl ?_
                                    refine lv_iadd hx hb dX9_ways_245 ?_
                                    obtain ⟨o47, ho47, hr⟩ := br_bind hr
                                    refine fwWVs (As := [.int (x3_13 + 1), .int ((x4_15 ||| o39) >>> ((1 : Int32) &&& 31)), .int (mG_counted g_31 (Int32.toNatClampNeg v17)), .int ((mG_few g_31 (Int32.toNatClampNeg v17)) + 1)]) (rest := []) (C := RX9) hx hb hml hown hts (m_X9_comesTo l D am ac g_31 (x3_13 + 1) ((x4_15 ||| o39) >>> ((1 : Int32) &&& 31)) (mG_counted g_31 (Int32.toNatClampNeg v17)) ((mG_few g_31 (Int32.toNatClampNeg v17)) + 1) _ o47 ho47) (cw_X9_comesTo hts q1463 ⟨Nat.le_of_ble_eq_true rfl, Nat.le_of_ble_eq_true rfl⟩) hG hS hA rfl 0 8 rfl rfl rfl hl.1 rfl (Nat.le_of_ble_eq_true rfl) dX9_ways_246 ⟨Nat.le_of_ble_eq_true rfl, Nat.le_of_ble_eq_true rfl⟩ (fun H locs hS => ?_)
                                    have hP := hS.1
                                    obtain ⟨v48, hv48, hr⟩ := br_let hr
                                    refine lv_iinc (v := v48) (lv' := [(6, .int v48), (7, .int o39), (5, .int v17), (4, .int x4_15), (3, .int x3_13), (2, .int v3), (0, .ref (am 0)), (1, .int a1)]) hx hb dX9_ways_249 hl (k := 1) rfl (hv48 ▸ rfl) (by decide) rfl (fun ls hl => ?_)
                                    refine lv_goto (tgt := 159) hx hb dX9_ways_252 (by decide) ?_
                                    exact ih v48 o47 _ hr _ _ ls (lv_sub hl [0, 2, 3, 4, 5, 6, 7] rfl) hS kx
                              have hr := ho39
                              have hi38 := br_ite hr
                              refine lv_if_eq (tgt := 203) hx hb dX9_ways_189 (by decide) (fun c38 => ?_) (fun c38 => ?_)
                              · have hr := hi38.1 c38
                                refine lv_iconst (v := 0) hx hb dX9_ways_203 rfl ?_
                                obtain rfl := Option.some.inj hr
                                exact J39 _ _ ls (lv_sub hl [0, 1, 2, 3, 4, 5, 6] rfl) hS
                              · have hr := hi38.2 c38
                                refine lv_iload hx hb dX9_ways_192 (lv_at hl 0 rfl) ?_
                                refine lv_iload_n hx hb dX9_ways_194 rfl (lv_at hl 3 rfl) ?_
                                obtain ⟨o40, ho40, hr⟩ := br_bind hr
                                refine fwS (As := [.int x6_31, .int x3_13]) (rest := []) hx hb hml hown hts (m_X9_bite l x6_31 x3_13 o40 ho40) (cw_X9_bite hts q1307 ⟨Nat.le_of_ble_eq_true rfl, Nat.le_of_ble_eq_true rfl⟩) rfl hl.1 rfl (Nat.le_of_ble_eq_true rfl) dX9_ways_195 ⟨Nat.le_of_ble_eq_true rfl, Nat.le_of_ble_eq_true rfl⟩ ?_
                                refine lv_iload_n hx hb dX9_ways_198 rfl (lv_at hl 3 rfl) ?_
                                refine lv_ishr hx hb dX9_ways_199 ?_
                                refine lv_goto (tgt := 204) hx hb dX9_ways_200 (by decide) ?_
                                obtain rfl := Option.some.inj hr
                                exact J39 _ _ ls (lv_sub hl [0, 1, 2, 3, 4, 5, 6] rfl) hS
                    obtain ⟨o31, ho31, hr⟩ := br_bind hr
                    refine L31 4000 0 o22 o31 ho31 _ _ ls (lv_sub hl [0, 1, 2, 3, 4, 5, 6] rfl) hS (fun H locs ls hl hS => ?_)
                    have hP := hS.1
                    obtain ⟨v49, hv49, hr⟩ := br_let hr
                    refine lv_iinc (v := v49) (lv' := [(4, .int v49), (3, .int x3_13), (2, .int v3), (0, .ref (am 0)), (1, .int a1)]) hx hb dX9_ways_255 hl (k := 0) rfl (hv49 ▸ rfl) (by decide) rfl (fun ls hl => ?_)
                    refine lv_goto (tgt := 81) hx hb dX9_ways_258 (by decide) ?_
                    exact ih v49 o31 _ hr _ _ ls (lv_sub hl [0, 1, 2, 3, 4] rfl) hS kx
                  have hr := ho22
                  have hi21 := br_ite hr
                  refine lv_if_ne (tgt := 131) hx hb dX9_ways_120 (by decide) (fun c21 => ?_) (fun c21 => ?_)
                  · have hr := hi21.2 c21
                    refine lv_aload_n hx hb dX9_ways_131 rfl (lv_at hl 4 rfl) ?_
                    refine lv_iload_n hx hb dX9_ways_132 rfl (lv_at hl 2 rfl) ?_
                    refine lv_iconst (v := 1) hx hb dX9_ways_133 rfl ?_
                    refine lv_iadd hx hb dX9_ways_134 ?_
                    refine lv_iload hx hb dX9_ways_135 (lv_at hl 1 rfl) ?_
                    refine lv_iconst (v := 1) hx hb dX9_ways_137 rfl ?_
                    refine lv_ishr hx hb dX9_ways_138 ?_
                    refine lv_aload_n hx hb dX9_ways_139 rfl (lv_at hl 4 rfl) ?_
                    refine va_get (D := D) (ci := 8) (v := .ref (am 11)) (C := RX9) (T := TX9) (N := 26) hx hb hts in_X9 hown hG.1 hP 0 rfl rfl 23 (by decide) (hts _ q1203) (fun _ h9 => h9) rfl dX9_ways_140 ?_
                    refine lv_iload hx hb dX9_ways_143 (lv_at hl 0 rfl) ?_
                    obtain ⟨c23, hr⟩ := br_none hr
                    refine va_iald hx hb hG.1 hP 11 0 rfl rfl c23 dX9_ways_145 ?_
                    refine lv_aload_n hx hb dX9_ways_146 rfl (lv_at hl 4 rfl) ?_
                    refine va_get (D := D) (ci := 8) (v := .ref (am 12)) (C := RX9) (T := TX9) (N := 26) hx hb hts in_X9 hown hG.1 hP 0 rfl rfl 24 (by decide) (hts _ q1204) (fun _ h9 => h9) rfl dX9_ways_147 ?_
                    refine lv_iload hx hb dX9_ways_150 (lv_at hl 0 rfl) ?_
                    obtain ⟨c24, hr⟩ := br_none hr
                    refine va_iald hx hb hG.1 hP 12 0 rfl rfl c24 dX9_ways_152 ?_
                    obtain ⟨o25, ho25, hr⟩ := br_bind hr
                    refine fwWVs (As := [.int (x3_13 + 1), .int (x4_15 >>> ((1 : Int32) &&& 31)), .int (mG_counted g_15 (Int32.toNatClampNeg v17)), .int (mG_few g_15 (Int32.toNatClampNeg v17))]) (rest := []) (C := RX9) hx hb hml hown hts (m_X9_comesTo l D am ac g_15 (x3_13 + 1) (x4_15 >>> ((1 : Int32) &&& 31)) (mG_counted g_15 (Int32.toNatClampNeg v17)) (mG_few g_15 (Int32.toNatClampNeg v17)) _ o25 ho25) (cw_X9_comesTo hts q1463 ⟨Nat.le_of_ble_eq_true rfl, Nat.le_of_ble_eq_true rfl⟩) hG hS hA rfl 0 8 rfl rfl rfl hl.1 rfl (Nat.le_of_ble_eq_true rfl) dX9_ways_153 ⟨Nat.le_of_ble_eq_true rfl, Nat.le_of_ble_eq_true rfl⟩ (fun H locs hS => ?_)
                    have hP := hS.1
                    obtain rfl := Option.some.inj hr
                    exact J22 _ _ ls (lv_sub hl [0, 1, 2, 3, 4, 5] rfl) hS
                  · have hr := hi21.1 c21
                    refine lv_iload_n hx hb dX9_ways_123 rfl (lv_at hl 3 rfl) ?_
                    refine lv_iload_n hx hb dX9_ways_124 rfl (lv_at hl 2 rfl) ?_
                    obtain ⟨o26, ho26, hr⟩ := br_bind hr
                    refine fwS (As := [.int v3, .int x3_13]) (rest := []) hx hb hml hown hts (m_X9_has l v3 x3_13 o26 ho26) (cw_X9_has hts q1365 ⟨Nat.le_of_ble_eq_true rfl, Nat.le_of_ble_eq_true rfl⟩) rfl hl.1 rfl (Nat.le_of_ble_eq_true rfl) dX9_ways_125 ⟨Nat.le_of_ble_eq_true rfl, Nat.le_of_ble_eq_true rfl⟩ ?_
                    have hi27 := br_ite hr
                    refine lv_if_ne (tgt := 156) hx hb dX9_ways_128 (by decide) (fun c27 => ?_) (fun c27 => ?_)
                    · have hr := hi27.2 c27
                      obtain rfl := Option.some.inj hr
                      exact J22 _ _ ls (lv_sub hl [0, 1, 2, 3, 4, 5] rfl) hS
                    · have hr := hi27.1 c27
                      refine lv_aload_n hx hb dX9_ways_131 rfl (lv_at hl 4 rfl) ?_
                      refine lv_iload_n hx hb dX9_ways_132 rfl (lv_at hl 2 rfl) ?_
                      refine lv_iconst (v := 1) hx hb dX9_ways_133 rfl ?_
                      refine lv_iadd hx hb dX9_ways_134 ?_
                      refine lv_iload hx hb dX9_ways_135 (lv_at hl 1 rfl) ?_
                      refine lv_iconst (v := 1) hx hb dX9_ways_137 rfl ?_
                      refine lv_ishr hx hb dX9_ways_138 ?_
                      refine lv_aload_n hx hb dX9_ways_139 rfl (lv_at hl 4 rfl) ?_
                      refine va_get (D := D) (ci := 8) (v := .ref (am 11)) (C := RX9) (T := TX9) (N := 26) hx hb hts in_X9 hown hG.1 hP 0 rfl rfl 23 (by decide) (hts _ q1203) (fun _ h9 => h9) rfl dX9_ways_140 ?_
                      refine lv_iload hx hb dX9_ways_143 (lv_at hl 0 rfl) ?_
                      obtain ⟨c28, hr⟩ := br_none hr
                      refine va_iald hx hb hG.1 hP 11 0 rfl rfl c28 dX9_ways_145 ?_
                      refine lv_aload_n hx hb dX9_ways_146 rfl (lv_at hl 4 rfl) ?_
                      refine va_get (D := D) (ci := 8) (v := .ref (am 12)) (C := RX9) (T := TX9) (N := 26) hx hb hts in_X9 hown hG.1 hP 0 rfl rfl 24 (by decide) (hts _ q1204) (fun _ h9 => h9) rfl dX9_ways_147 ?_
                      refine lv_iload hx hb dX9_ways_150 (lv_at hl 0 rfl) ?_
                      obtain ⟨c29, hr⟩ := br_none hr
                      refine va_iald hx hb hG.1 hP 12 0 rfl rfl c29 dX9_ways_152 ?_
                      obtain ⟨o30, ho30, hr⟩ := br_bind hr
                      refine fwWVs (As := [.int (x3_13 + 1), .int (x4_15 >>> ((1 : Int32) &&& 31)), .int (mG_counted g_15 (Int32.toNatClampNeg v17)), .int (mG_few g_15 (Int32.toNatClampNeg v17))]) (rest := []) (C := RX9) hx hb hml hown hts (m_X9_comesTo l D am ac g_15 (x3_13 + 1) (x4_15 >>> ((1 : Int32) &&& 31)) (mG_counted g_15 (Int32.toNatClampNeg v17)) (mG_few g_15 (Int32.toNatClampNeg v17)) _ o30 ho30) (cw_X9_comesTo hts q1463 ⟨Nat.le_of_ble_eq_true rfl, Nat.le_of_ble_eq_true rfl⟩) hG hS hA rfl 0 8 rfl rfl rfl hl.1 rfl (Nat.le_of_ble_eq_true rfl) dX9_ways_153 ⟨Nat.le_of_ble_eq_true rfl, Nat.le_of_ble_eq_true rfl⟩ (fun H locs hS => ?_)
                      have hP := hS.1
                      obtain rfl := Option.some.inj hr
                      exact J22 _ _ ls (lv_sub hl [0, 1, 2, 3, 4, 5] rfl) hS
                · have hr := hi19.1 c19
                  refine lv_goto (tgt := 255) hx hb dX9_ways_111 (by decide) ?_
                  obtain ⟨v50, hv50, hr⟩ := br_let hr
                  refine lv_iinc (v := v50) (lv' := [(4, .int v50), (5, .int v17), (3, .int x3_13), (2, .int v3), (0, .ref (am 0)), (1, .int a1)]) hx hb dX9_ways_255 hl (k := 1) rfl (hv50 ▸ rfl) (by decide) rfl (fun ls hl => ?_)
                  refine lv_goto (tgt := 81) hx hb dX9_ways_258 (by decide) ?_
                  exact ih v50 g_15 _ hr _ _ ls (lv_sub hl [0, 2, 3, 4, 5] rfl) hS kx
          obtain ⟨o15, ho15, hr⟩ := br_bind hr
          refine L15 4000 0 g_13 o15 ho15 _ _ ls (lv_sub hl [0, 1, 2, 3, 4] rfl) hS (fun H locs ls hl hS => ?_)
          have hP := hS.1
          obtain ⟨v51, hv51, hr⟩ := br_let hr
          refine lv_iinc (v := v51) (lv' := [(3, .int v51), (2, .int v3), (0, .ref (am 0)), (1, .int a1)]) hx hb dX9_ways_261 hl (k := 0) rfl (hv51 ▸ rfl) (by decide) rfl (fun ls hl => ?_)
          refine lv_goto (tgt := 72) hx hb dX9_ways_264 (by decide) ?_
          exact ih v51 o15 _ hr _ _ ls (lv_sub hl [0, 1, 2, 3] rfl) hS kx
    obtain ⟨o13, ho13, hr⟩ := br_bind hr
    refine L13 4000 0 g12 o13 ho13 _ _ ls (lv_sub hl [0, 1, 2, 3] rfl) hS (fun H locs ls hl hS => ?_)
    have hP := hS.1
    refine lv_iload_n hx hb dX9_ways_267 rfl (lv_at hl 1 rfl) ?_
    have hi52 := br_ite hr
    refine lv_if_ne (tgt := 282) hx hb dX9_ways_268 (by decide) (fun c52 => ?_) (fun c52 => ?_)
    · have hr := hi52.2 c52
      refine lv_aload_n hx hb dX9_ways_282 rfl (lv_at hl 0 rfl) ?_
      refine va_get (D := D) (ci := 8) (v := .ref (am 12)) (C := RX9) (T := TX9) (N := 26) hx hb hts in_X9 hown hG.1 hP 0 rfl rfl 24 (by decide) (hts _ q1204) (fun _ h9 => h9) rfl dX9_ways_283 ?_
      refine lv_sipush (v := 3200) hx hb dX9_ways_286 rfl ?_
      refine va_iald hx hb hG.1 hP 12 0 rfl rfl (show ¬ ((3200 : Int32) < 0 ∨ 3328 ≤ Int32.toNatClampNeg (3200 : Int32)) by decide) dX9_ways_289 ?_
      obtain rfl := Option.some.inj hr
      refine W.widen (k := rm_X9_ways.cells) (n := rm_X9_ways.slots) (Nat.le_of_ble_eq_true rfl) (Nat.le_of_ble_eq_true rfl) ?_
      exact W.iret hx hb hrt (fun t ht _ => hS.q ht rfl) hS.2.2.2.2 dX9_ways_290 hlk
    · have hr := hi52.1 c52
      refine lv_aload_n hx hb dX9_ways_271 rfl (lv_at hl 0 rfl) ?_
      refine va_get (D := D) (ci := 8) (v := .ref (am 11)) (C := RX9) (T := TX9) (N := 26) hx hb hts in_X9 hown hG.1 hP 0 rfl rfl 23 (by decide) (hts _ q1203) (fun _ h9 => h9) rfl dX9_ways_272 ?_
      refine lv_sipush (v := 3200) hx hb dX9_ways_275 rfl ?_
      refine va_iald hx hb hG.1 hP 11 0 rfl rfl (show ¬ ((3200 : Int32) < 0 ∨ 3328 ≤ Int32.toNatClampNeg (3200 : Int32)) by decide) dX9_ways_278 ?_
      refine lv_goto (tgt := 290) hx hb dX9_ways_279 (by decide) ?_
      obtain rfl := Option.some.inj hr
      refine W.widen (k := rm_X9_ways.cells) (n := rm_X9_ways.slots) (Nat.le_of_ble_eq_true rfl) (Nat.le_of_ble_eq_true rfl) ?_
      exact W.iret hx hb hrt (fun t ht _ => hS.q ht rfl) hS.2.2.2.2 dX9_ways_290 hlk
  · have hr := hi2.1 c2
    refine lv_aload_n hx hb dX9_ways_9 rfl (lv_at hl 0 rfl) ?_
    refine lv_bipush (v := (-2)) hx hb dX9_ways_10 rfl ?_
    obtain ⟨o53, ho53, hr⟩ := br_bind hr
    refine fwWVs (As := [.int (-2)]) (rest := []) (C := RX9) hx hb hml hown hts (m_X9_no l D am ac g (-2 : Int32) _ o53 ho53) (cw_X9_no hts q1263 ⟨Nat.le_of_ble_eq_true rfl, Nat.le_of_ble_eq_true rfl⟩) hG hS hA rfl 0 8 rfl rfl rfl hl.1 rfl (Nat.le_of_ble_eq_true rfl) dX9_ways_12 ⟨Nat.le_of_ble_eq_true rfl, Nat.le_of_ble_eq_true rfl⟩ (fun H locs hS => ?_)
    have hP := hS.1
    obtain rfl := Option.some.inj hr
    refine W.widen (k := rm_X9_ways.cells) (n := rm_X9_ways.slots) (Nat.le_of_ble_eq_true rfl) (Nat.le_of_ble_eq_true rfl) ?_
    exact W.iret hx hb hrt (fun t ht _ => hS.q ht rfl) hS.2.2.2.2 dX9_ways_15 hlk
theorem cw_X9_ways {R : Room} {s : State} {args : Array Value} {own : String} {index : Nat} (hts : ∀ w ∈ lw_all, w.before args s = true) (hlink : Cond.methodLink own index yX9_ways ∈ lw_all) (hR : rm_X9_ways.frames + 1 ≤ R.frames ∧ 8 + (8 + 11) + rm_X9_ways.locals ≤ R.locals) : CallW R s args own RX9 index yX9_ways cX9_ways 8 (some FieldType.int) (ws_ yX9_ways cX9_ways 8 (some FieldType.int)) rm_X9_ways rm_X9_ways.cells rm_X9_ways.slots 1 :=
  cwV 1 hts (lw_V hlink q1459 q1460 q111 q1461) rfl rfl rfl (by decide +kernel) hR
def f_X9_alike_L23 (g : MS) : Nat → Int32 → Int32 → Option (Int32)
  | 0, _, _ => none
  | n + 1, x3_4, x2_4 => if 4 ≤ x3_4 then some x2_4 else Option.bind (f_X9_turnedBy (mG_left g) x3_4) fun o6 => Option.bind (f_X9_least x2_4 o6) fun o7 => Option.bind (some ((x3_4 + 1) : Int32)) fun v8 => f_X9_alike_L23 g n v8 o7
def f_X9_alike (g : MS) (a1 : Int32) : Option (Int32 × MS) := Option.bind (f_X9_isIn a1 0 1) fun o1 => if o1 = 0 then Option.bind (f_X9_no g (-2 : Int32)) fun o14 => some (o14.1, o14.2) else Option.bind (some ((mG_left g) : Int32)) fun v3 => Option.bind (f_X9_alike_L23 g 1000 1 v3) fun o4 => if a1 = 1 then some (o4, g) else Option.bind (f_X9_turnedBy (mG_left g) 1) fun o10 => if o10 = (mG_left g) then some (1, g) else Option.bind (f_X9_turnedBy (mG_left g) 2) fun o12 => if o12 = (mG_left g) then some (2, g) else some (4, g)
abbrev rm_X9_alike : Room := ({ frames := 3, cells := 0, slots := 0, locals := 64 })
set_option maxHeartbeats 4000000 in
theorem m_X9_alike (l : Launch) (D : va_G) (am : Nat → Nat) (ac : Nat → ClassId) (g : MS) (a1 : Int32) (sz : Nat) (r0 : Int32 × MS) (hr : f_X9_alike g a1 = some r0) : WM l yX9_alike cX9_alike 4 (some FieldType.int) rm_X9_alike [.ref (am 0), .int a1] D ac (wM am ac g) (wM am ac r0.2) sz (some (.int r0.1)) := by
  refine fw_of (by decide) (Nat.le_of_ble_eq_true rfl) ?_
  intro p e s m below meth c ls hx hb hrt hts hown hlk hml _ hU hl
  obtain ⟨rfl, hP, hG, hD⟩ := hU
  have hA : ∀ q : Nat, s.heap.size ≤ q → va_A (wM am ac g) s.heap.size q := fun q h => Or.inr h
  have hS := Stt.start hP hD
  show WW p l e rm_X9_alike s m [.ref (am 0), .int a1] below meth c D (wM am ac r0.2) (va_A (wM am ac g) s.heap.size) (some (.int r0.1)) s.heap [] 0 0 0 ls []
  have hl : lv_has ls 4 [(0, .ref (am 0)), (1, .int a1)] := hl
  rw [f_X9_alike] at hr
  refine lv_iload_n hx hb dX9_alike_0 rfl (lv_at hl 1 rfl) ?_
  refine lv_iconst (v := 0) hx hb dX9_alike_1 rfl ?_
  refine lv_iconst (v := 1) hx hb dX9_alike_2 rfl ?_
  obtain ⟨o1, ho1, hr⟩ := br_bind hr
  refine fwS (As := [.int a1, .int 0, .int 1]) (rest := []) hx hb hml hown hts (m_X9_isIn l a1 0 1 o1 ho1) (cw_X9_isIn hts q1290 ⟨Nat.le_of_ble_eq_true rfl, Nat.le_of_ble_eq_true rfl⟩) rfl hl.1 rfl (Nat.le_of_ble_eq_true rfl) dX9_alike_3 ⟨Nat.le_of_ble_eq_true rfl, Nat.le_of_ble_eq_true rfl⟩ ?_
  have hi2 := br_ite hr
  refine lv_if_ne (tgt := 16) hx hb dX9_alike_6 (by decide) (fun c2 => ?_) (fun c2 => ?_)
  · have hr := hi2.2 c2
    refine lv_aload_n hx hb dX9_alike_16 rfl (lv_at hl 0 rfl) ?_
    refine va_get (D := D) (ci := 8) (v := .int (mG_left g)) (C := RX9) (T := TX9) (N := 26) hx hb hts in_X9 hown hG.1 hP 0 rfl rfl 0 (by decide) (hts _ q1180) (fun _ h9 => h9) rfl dX9_alike_17 ?_
    refine lv_topi (fun v3 hv3 => ?_)
    have hr := br_letv hr hv3
    refine lv_istore_n (lv' := [(2, .int v3), (0, .ref (am 0)), (1, .int a1)]) hx hb dX9_alike_20 rfl hl (by decide) rfl (fun ls hl => ?_)
    refine lv_iconst (v := 1) hx hb dX9_alike_21 rfl ?_
    refine lv_istore_n (lv' := [(3, .int 1), (2, .int v3), (0, .ref (am 0)), (1, .int a1)]) hx hb dX9_alike_22 rfl hl (by decide) rfl (fun ls hl => ?_)
    have L4 : ∀ (n : Nat) (x3_4 : Int32) (x2_4 : Int32) (o4 : Int32), f_X9_alike_L23 g n x3_4 x2_4 = some o4 → ∀ (H : Heap) (locs : List Loc) ls, lv_has ls 4 [(3, .int x3_4), (2, .int x2_4), (0, .ref (am 0)), (1, .int a1)] → Stt D (va_A (wM am ac g) s.heap.size) s.heap (wM am ac g) H locs → (∀ (H : Heap) (locs : List Loc) ls, lv_has ls 4 [(2, .int o4), (0, .ref (am 0)), (1, .int a1)] → Stt D (va_A (wM am ac g) s.heap.size) s.heap (wM am ac g) H locs → WW p l e rm_X9_alike s m [.ref (am 0), .int a1] below meth c D (wM am ac r0.2) (va_A (wM am ac g) s.heap.size) (some (.int r0.1)) H locs 0 0 47 ls []) → WW p l e rm_X9_alike s m [.ref (am 0), .int a1] below meth c D (wM am ac r0.2) (va_A (wM am ac g) s.heap.size) (some (.int r0.1)) H locs 0 0 23 ls [] := by
      intro n
      induction n with
      | zero => intro x3_4 x2_4 o4 hr; rw [f_X9_alike_L23] at hr; cases hr
      | succ n ih =>
        intro x3_4 x2_4 o4 hr H locs ls hl hS kx
        have hP := hS.1
        rw [f_X9_alike_L23] at hr
        refine lv_iload_n hx hb dX9_alike_23 rfl (lv_at hl 0 rfl) ?_
        refine lv_iconst (v := 4) hx hb dX9_alike_24 rfl ?_
        have hi5 := br_ite hr
        refine lv_icmp_ge (tgt := 47) hx hb dX9_alike_25 (by decide) (fun c5 => ?_) (fun c5 => ?_)
        · have hr := hi5.1 c5
          obtain rfl := Option.some.inj hr
          exact kx _ _ ls (lv_sub hl [1, 2, 3] rfl) hS
        · have hr := hi5.2 c5
          refine lv_iload_n hx hb dX9_alike_28 rfl (lv_at hl 1 rfl) ?_
          refine lv_aload_n hx hb dX9_alike_29 rfl (lv_at hl 2 rfl) ?_
          refine va_get (D := D) (ci := 8) (v := .int (mG_left g)) (C := RX9) (T := TX9) (N := 26) hx hb hts in_X9 hown hG.1 hP 0 rfl rfl 0 (by decide) (hts _ q1180) (fun _ h9 => h9) rfl dX9_alike_30 ?_
          refine lv_iload_n hx hb dX9_alike_33 rfl (lv_at hl 0 rfl) ?_
          obtain ⟨o6, ho6, hr⟩ := br_bind hr
          refine fwS (As := [.int (mG_left g), .int x3_4]) (rest := [.int x2_4]) hx hb hml hown hts (m_X9_turnedBy l (mG_left g) x3_4 o6 ho6) (cw_X9_turnedBy hts q1317 ⟨Nat.le_of_ble_eq_true rfl, Nat.le_of_ble_eq_true rfl⟩) rfl hl.1 rfl (Nat.le_of_ble_eq_true rfl) dX9_alike_34 ⟨Nat.le_of_ble_eq_true rfl, Nat.le_of_ble_eq_true rfl⟩ ?_
          obtain ⟨o7, ho7, hr⟩ := br_bind hr
          refine fwS (As := [.int x2_4, .int o6]) (rest := []) hx hb hml hown hts (m_X9_least l x2_4 o6 o7 ho7) (cw_X9_least hts q1314 ⟨Nat.le_of_ble_eq_true rfl, Nat.le_of_ble_eq_true rfl⟩) rfl hl.1 rfl (Nat.le_of_ble_eq_true rfl) dX9_alike_37 ⟨Nat.le_of_ble_eq_true rfl, Nat.le_of_ble_eq_true rfl⟩ ?_
          refine lv_istore_n (lv' := [(2, .int o7), (3, .int x3_4), (0, .ref (am 0)), (1, .int a1)]) hx hb dX9_alike_40 rfl hl (by decide) rfl (fun ls hl => ?_)
          obtain ⟨v8, hv8, hr⟩ := br_let hr
          refine lv_iinc (v := v8) (lv' := [(3, .int v8), (2, .int o7), (0, .ref (am 0)), (1, .int a1)]) hx hb dX9_alike_41 hl (k := 1) rfl (hv8 ▸ rfl) (by decide) rfl (fun ls hl => ?_)
          refine lv_goto (tgt := 23) hx hb dX9_alike_44 (by decide) ?_
          exact ih v8 o7 _ hr _ _ ls (lv_sub hl [0, 1, 2, 3] rfl) hS kx
    obtain ⟨o4, ho4, hr⟩ := br_bind hr
    refine L4 1000 1 v3 o4 ho4 _ _ ls (lv_sub hl [0, 1, 2, 3] rfl) hS (fun H locs ls hl hS => ?_)
    have hP := hS.1
    refine lv_iload_n hx hb dX9_alike_47 rfl (lv_at hl 2 rfl) ?_
    refine lv_iconst (v := 1) hx hb dX9_alike_48 rfl ?_
    have hi9 := br_ite hr
    refine lv_icmp_ne (tgt := 54) hx hb dX9_alike_49 (by decide) (fun c9 => ?_) (fun c9 => ?_)
    · have hr := hi9.2 c9
      refine lv_aload_n hx hb dX9_alike_54 rfl (lv_at hl 1 rfl) ?_
      refine va_get (D := D) (ci := 8) (v := .int (mG_left g)) (C := RX9) (T := TX9) (N := 26) hx hb hts in_X9 hown hG.1 hP 0 rfl rfl 0 (by decide) (hts _ q1180) (fun _ h9 => h9) rfl dX9_alike_55 ?_
      refine lv_iconst (v := 1) hx hb dX9_alike_58 rfl ?_
      obtain ⟨o10, ho10, hr⟩ := br_bind hr
      refine fwS (As := [.int (mG_left g), .int 1]) (rest := []) hx hb hml hown hts (m_X9_turnedBy l (mG_left g) 1 o10 ho10) (cw_X9_turnedBy hts q1317 ⟨Nat.le_of_ble_eq_true rfl, Nat.le_of_ble_eq_true rfl⟩) rfl hl.1 rfl (Nat.le_of_ble_eq_true rfl) dX9_alike_59 ⟨Nat.le_of_ble_eq_true rfl, Nat.le_of_ble_eq_true rfl⟩ ?_
      refine lv_aload_n hx hb dX9_alike_62 rfl (lv_at hl 1 rfl) ?_
      refine va_get (D := D) (ci := 8) (v := .int (mG_left g)) (C := RX9) (T := TX9) (N := 26) hx hb hts in_X9 hown hG.1 hP 0 rfl rfl 0 (by decide) (hts _ q1180) (fun _ h9 => h9) rfl dX9_alike_63 ?_
      have hi11 := br_ite hr
      refine lv_icmp_ne (tgt := 73) hx hb dX9_alike_66 (by decide) (fun c11 => ?_) (fun c11 => ?_)
      · have hr := hi11.2 c11
        refine lv_aload_n hx hb dX9_alike_73 rfl (lv_at hl 1 rfl) ?_
        refine va_get (D := D) (ci := 8) (v := .int (mG_left g)) (C := RX9) (T := TX9) (N := 26) hx hb hts in_X9 hown hG.1 hP 0 rfl rfl 0 (by decide) (hts _ q1180) (fun _ h9 => h9) rfl dX9_alike_74 ?_
        refine lv_iconst (v := 2) hx hb dX9_alike_77 rfl ?_
        obtain ⟨o12, ho12, hr⟩ := br_bind hr
        refine fwS (As := [.int (mG_left g), .int 2]) (rest := []) hx hb hml hown hts (m_X9_turnedBy l (mG_left g) 2 o12 ho12) (cw_X9_turnedBy hts q1317 ⟨Nat.le_of_ble_eq_true rfl, Nat.le_of_ble_eq_true rfl⟩) rfl hl.1 rfl (Nat.le_of_ble_eq_true rfl) dX9_alike_78 ⟨Nat.le_of_ble_eq_true rfl, Nat.le_of_ble_eq_true rfl⟩ ?_
        refine lv_aload_n hx hb dX9_alike_81 rfl (lv_at hl 1 rfl) ?_
        refine va_get (D := D) (ci := 8) (v := .int (mG_left g)) (C := RX9) (T := TX9) (N := 26) hx hb hts in_X9 hown hG.1 hP 0 rfl rfl 0 (by decide) (hts _ q1180) (fun _ h9 => h9) rfl dX9_alike_82 ?_
        have hi13 := br_ite hr
        refine lv_icmp_ne (tgt := 92) hx hb dX9_alike_85 (by decide) (fun c13 => ?_) (fun c13 => ?_)
        · have hr := hi13.2 c13
          refine lv_iconst (v := 4) hx hb dX9_alike_92 rfl ?_
          obtain rfl := Option.some.inj hr
          refine W.widen (k := rm_X9_alike.cells) (n := rm_X9_alike.slots) (Nat.le_of_ble_eq_true rfl) (Nat.le_of_ble_eq_true rfl) ?_
          exact W.iret hx hb hrt (fun t ht _ => hS.q ht rfl) hS.2.2.2.2 dX9_alike_93 hlk
        · have hr := hi13.1 c13
          refine lv_iconst (v := 2) hx hb dX9_alike_88 rfl ?_
          refine lv_goto (tgt := 93) hx hb dX9_alike_89 (by decide) ?_
          obtain rfl := Option.some.inj hr
          refine W.widen (k := rm_X9_alike.cells) (n := rm_X9_alike.slots) (Nat.le_of_ble_eq_true rfl) (Nat.le_of_ble_eq_true rfl) ?_
          exact W.iret hx hb hrt (fun t ht _ => hS.q ht rfl) hS.2.2.2.2 dX9_alike_93 hlk
      · have hr := hi11.1 c11
        refine lv_iconst (v := 1) hx hb dX9_alike_69 rfl ?_
        refine lv_goto (tgt := 93) hx hb dX9_alike_70 (by decide) ?_
        obtain rfl := Option.some.inj hr
        refine W.widen (k := rm_X9_alike.cells) (n := rm_X9_alike.slots) (Nat.le_of_ble_eq_true rfl) (Nat.le_of_ble_eq_true rfl) ?_
        exact W.iret hx hb hrt (fun t ht _ => hS.q ht rfl) hS.2.2.2.2 dX9_alike_93 hlk
    · have hr := hi9.1 c9
      refine lv_iload_n hx hb dX9_alike_52 rfl (lv_at hl 0 rfl) ?_
      obtain rfl := Option.some.inj hr
      refine W.widen (k := rm_X9_alike.cells) (n := rm_X9_alike.slots) (Nat.le_of_ble_eq_true rfl) (Nat.le_of_ble_eq_true rfl) ?_
      exact W.iret hx hb hrt (fun t ht _ => hS.q ht rfl) hS.2.2.2.2 dX9_alike_53 hlk
  · have hr := hi2.1 c2
    refine lv_aload_n hx hb dX9_alike_9 rfl (lv_at hl 0 rfl) ?_
    refine lv_bipush (v := (-2)) hx hb dX9_alike_10 rfl ?_
    obtain ⟨o14, ho14, hr⟩ := br_bind hr
    refine fwWVs (As := [.int (-2)]) (rest := []) (C := RX9) hx hb hml hown hts (m_X9_no l D am ac g (-2 : Int32) _ o14 ho14) (cw_X9_no hts q1263 ⟨Nat.le_of_ble_eq_true rfl, Nat.le_of_ble_eq_true rfl⟩) hG hS hA rfl 0 8 rfl rfl rfl hl.1 rfl (Nat.le_of_ble_eq_true rfl) dX9_alike_12 ⟨Nat.le_of_ble_eq_true rfl, Nat.le_of_ble_eq_true rfl⟩ (fun H locs hS => ?_)
    have hP := hS.1
    obtain rfl := Option.some.inj hr
    refine W.widen (k := rm_X9_alike.cells) (n := rm_X9_alike.slots) (Nat.le_of_ble_eq_true rfl) (Nat.le_of_ble_eq_true rfl) ?_
    exact W.iret hx hb hrt (fun t ht _ => hS.q ht rfl) hS.2.2.2.2 dX9_alike_15 hlk
theorem cw_X9_alike {R : Room} {s : State} {args : Array Value} {own : String} {index : Nat} (hts : ∀ w ∈ lw_all, w.before args s = true) (hlink : Cond.methodLink own index yX9_alike ∈ lw_all) (hR : rm_X9_alike.frames + 1 ≤ R.frames ∧ 8 + (4 + 11) + rm_X9_alike.locals ≤ R.locals) : CallW R s args own RX9 index yX9_alike cX9_alike 4 (some FieldType.int) (ws_ yX9_alike cX9_alike 4 (some FieldType.int)) rm_X9_alike rm_X9_alike.cells rm_X9_alike.slots 1 :=
  cwV 1 hts (lw_V hlink q1469 q1470 q111 q1471) rfl rfl rfl (by decide +kernel) hR
def f_X9_settles_L39 (g : MS) (a1 : Int32) : Nat → Int32 → Option ((Int32 × MS) ⊕ (Unit))
  | 0, _ => none
  | n + 1, x2_5 => if 25 ≤ x2_5 then some (Sum.inr ()) else Option.bind (f_X9_has (mG_left g) x2_5) fun o7 => if o7 = 0 then Option.bind (some ((x2_5 + 1) : Int32)) fun v9 => f_X9_settles_L39 g a1 n v9 else Option.bind (f_X9_deed ((mG_left g) &&& (((1 : Int32) <<< (x2_5 &&& 31)) ^^^ (-1)))) fun o10 => if o10 = 0 then Option.bind (some ((x2_5 + 1) : Int32)) fun v12 => f_X9_settles_L39 g a1 n v12 else if a1 = 0 then some (Sum.inl (1, g)) else some (Sum.inl (x2_5, g))
def f_X9_settles_L100 (g : MS) (a1 : Int32) (x2_14 : Int32) : Nat → Int32 → Option ((Int32 × MS) ⊕ (Unit))
  | 0, _ => none
  | n + 1, x3_17 => if 25 ≤ x3_17 then some (Sum.inr ()) else Option.bind (f_X9_has (mG_left g) x2_14) fun o19 => if o19 = 0 then Option.bind (some ((x3_17 + 1) : Int32)) fun v21 => f_X9_settles_L100 g a1 x2_14 n v21 else Option.bind (f_X9_has (mG_left g) x3_17) fun o22 => if o22 = 0 then Option.bind (some ((x3_17 + 1) : Int32)) fun v24 => f_X9_settles_L100 g a1 x2_14 n v24 else Option.bind (f_X9_deed (((mG_left g) &&& (((1 : Int32) <<< (x2_14 &&& 31)) ^^^ (-1))) &&& (((1 : Int32) <<< (x3_17 &&& 31)) ^^^ (-1)))) fun o25 => if o25 = 0 then Option.bind (some ((x3_17 + 1) : Int32)) fun v27 => f_X9_settles_L100 g a1 x2_14 n v27 else if a1 = 0 then some (Sum.inl (2, g)) else some (Sum.inl (x2_14, g))
def f_X9_settles_L90 (g : MS) (a1 : Int32) : Nat → Int32 → Option ((Int32 × MS) ⊕ (Unit))
  | 0, _ => none
  | n + 1, x2_14 => if 25 ≤ x2_14 then some (Sum.inr ()) else Option.bind (some ((x2_14 + 1) : Int32)) fun v16 => bsO (f_X9_settles_L100 g a1 x2_14 1000 v16) fun t17 => Option.bind (some ((x2_14 + 1) : Int32)) fun v29 => f_X9_settles_L90 g a1 n v29
def f_X9_settles (g : MS) (a1 : Int32) : Option (Int32 × MS) := Option.bind (f_X9_isIn a1 0 1) fun o1 => if o1 = 0 then Option.bind (f_X9_no g (-2 : Int32)) fun o31 => some (o31.1, o31.2) else Option.bind (f_X9_deed (mG_left g)) fun o3 => if o3 = 0 then bsR (f_X9_settles_L39 g a1 1000 0) fun t5 => bsR (f_X9_settles_L90 g a1 1000 0) fun t14 => some ((-9), g) else if a1 = 0 then some (0, g) else some ((-9), g)
abbrev rm_X9_settles : Room := ({ frames := 4, cells := 0, slots := 0, locals := 88 })
set_option maxHeartbeats 4000000 in
theorem m_X9_settles (l : Launch) (D : va_G) (am : Nat → Nat) (ac : Nat → ClassId) (g : MS) (a1 : Int32) (sz : Nat) (r0 : Int32 × MS) (hr : f_X9_settles g a1 = some r0) : WM l yX9_settles cX9_settles 4 (some FieldType.int) rm_X9_settles [.ref (am 0), .int a1] D ac (wM am ac g) (wM am ac r0.2) sz (some (.int r0.1)) := by
  refine fw_of (by decide) (Nat.le_of_ble_eq_true rfl) ?_
  intro p e s m below meth c ls hx hb hrt hts hown hlk hml _ hU hl
  obtain ⟨rfl, hP, hG, hD⟩ := hU
  have hA : ∀ q : Nat, s.heap.size ≤ q → va_A (wM am ac g) s.heap.size q := fun q h => Or.inr h
  have hS := Stt.start hP hD
  show WW p l e rm_X9_settles s m [.ref (am 0), .int a1] below meth c D (wM am ac r0.2) (va_A (wM am ac g) s.heap.size) (some (.int r0.1)) s.heap [] 0 0 0 ls []
  have hl : lv_has ls 4 [(0, .ref (am 0)), (1, .int a1)] := hl
  rw [f_X9_settles] at hr
  refine lv_iload_n hx hb dX9_settles_0 rfl (lv_at hl 1 rfl) ?_
  refine lv_iconst (v := 0) hx hb dX9_settles_1 rfl ?_
  refine lv_iconst (v := 1) hx hb dX9_settles_2 rfl ?_
  obtain ⟨o1, ho1, hr⟩ := br_bind hr
  refine fwS (As := [.int a1, .int 0, .int 1]) (rest := []) hx hb hml hown hts (m_X9_isIn l a1 0 1 o1 ho1) (cw_X9_isIn hts q1290 ⟨Nat.le_of_ble_eq_true rfl, Nat.le_of_ble_eq_true rfl⟩) rfl hl.1 rfl (Nat.le_of_ble_eq_true rfl) dX9_settles_3 ⟨Nat.le_of_ble_eq_true rfl, Nat.le_of_ble_eq_true rfl⟩ ?_
  have hi2 := br_ite hr
  refine lv_if_ne (tgt := 16) hx hb dX9_settles_6 (by decide) (fun c2 => ?_) (fun c2 => ?_)
  · have hr := hi2.2 c2
    refine lv_aload_n hx hb dX9_settles_16 rfl (lv_at hl 0 rfl) ?_
    refine va_get (D := D) (ci := 8) (v := .int (mG_left g)) (C := RX9) (T := TX9) (N := 26) hx hb hts in_X9 hown hG.1 hP 0 rfl rfl 0 (by decide) (hts _ q1180) (fun _ h9 => h9) rfl dX9_settles_17 ?_
    obtain ⟨o3, ho3, hr⟩ := br_bind hr
    refine fwS (As := [.int (mG_left g)]) (rest := []) hx hb hml hown hts (m_X9_deed l (mG_left g) o3 ho3) (cw_X9_deed hts q1359 ⟨Nat.le_of_ble_eq_true rfl, Nat.le_of_ble_eq_true rfl⟩) rfl hl.1 rfl (Nat.le_of_ble_eq_true rfl) dX9_settles_20 ⟨Nat.le_of_ble_eq_true rfl, Nat.le_of_ble_eq_true rfl⟩ ?_
    have hi4 := br_ite hr
    refine lv_if_eq (tgt := 37) hx hb dX9_settles_23 (by decide) (fun c4 => ?_) (fun c4 => ?_)
    · have hr := hi4.1 c4
      refine lv_iconst (v := 0) hx hb dX9_settles_37 rfl ?_
      refine lv_istore_n (lv' := [(2, .int 0), (0, .ref (am 0)), (1, .int a1)]) hx hb dX9_settles_38 rfl hl (by decide) rfl (fun ls hl => ?_)
      have L5 : ∀ (n : Nat) (x2_5 : Int32) (o5 : (Int32 × MS) ⊕ (Unit)), f_X9_settles_L39 g a1 n x2_5 = some o5 → (∀ r, o5 = Sum.inl r → some r = some r0) → ∀ (H : Heap) (locs : List Loc) ls, lv_has ls 4 [(2, .int x2_5), (0, .ref (am 0)), (1, .int a1)] → Stt D (va_A (wM am ac g) s.heap.size) s.heap (wM am ac g) H locs → (∀ t5, o5 = Sum.inr t5 → ∀ (H : Heap) (locs : List Loc) ls, lv_has ls 4 [(0, .ref (am 0)), (1, .int a1)] → Stt D (va_A (wM am ac g) s.heap.size) s.heap (wM am ac g) H locs → WW p l e rm_X9_settles s m [.ref (am 0), .int a1] below meth c D (wM am ac r0.2) (va_A (wM am ac g) s.heap.size) (some (.int r0.1)) H locs 0 0 88 ls []) → WW p l e rm_X9_settles s m [.ref (am 0), .int a1] below meth c D (wM am ac r0.2) (va_A (wM am ac g) s.heap.size) (some (.int r0.1)) H locs 0 0 39 ls [] := by
        intro n
        induction n with
        | zero => intro x2_5 o5 hr; rw [f_X9_settles_L39] at hr; cases hr
        | succ n ih =>
          intro x2_5 o5 hr hret H locs ls hl hS kx
          have hP := hS.1
          rw [f_X9_settles_L39] at hr
          refine lv_iload_n hx hb dX9_settles_39 rfl (lv_at hl 0 rfl) ?_
          refine lv_bipush (v := 25) hx hb dX9_settles_40 rfl ?_
          have hi6 := br_ite hr
          refine lv_icmp_ge (tgt := 88) hx hb dX9_settles_42 (by decide) (fun c6 => ?_) (fun c6 => ?_)
          · have hr := hi6.1 c6
            exact kx _ (Option.some.inj hr).symm _ _ ls (lv_sub hl [1, 2] rfl) hS
          · have hr := hi6.2 c6
            refine lv_aload_n hx hb dX9_settles_45 rfl (lv_at hl 1 rfl) ?_
            refine va_get (D := D) (ci := 8) (v := .int (mG_left g)) (C := RX9) (T := TX9) (N := 26) hx hb hts in_X9 hown hG.1 hP 0 rfl rfl 0 (by decide) (hts _ q1180) (fun _ h9 => h9) rfl dX9_settles_46 ?_
            refine lv_iload_n hx hb dX9_settles_49 rfl (lv_at hl 0 rfl) ?_
            obtain ⟨o7, ho7, hr⟩ := br_bind hr
            refine fwS (As := [.int (mG_left g), .int x2_5]) (rest := []) hx hb hml hown hts (m_X9_has l (mG_left g) x2_5 o7 ho7) (cw_X9_has hts q1365 ⟨Nat.le_of_ble_eq_true rfl, Nat.le_of_ble_eq_true rfl⟩) rfl hl.1 rfl (Nat.le_of_ble_eq_true rfl) dX9_settles_50 ⟨Nat.le_of_ble_eq_true rfl, Nat.le_of_ble_eq_true rfl⟩ ?_
            have hi8 := br_ite hr
            refine lv_if_eq (tgt := 82) hx hb dX9_settles_53 (by decide) (fun c8 => ?_) (fun c8 => ?_)
            · have hr := hi8.1 c8
              obtain ⟨v9, hv9, hr⟩ := br_let hr
              refine lv_iinc (v := v9) (lv' := [(2, .int v9), (0, .ref (am 0)), (1, .int a1)]) hx hb dX9_settles_82 hl (k := 0) rfl (hv9 ▸ rfl) (by decide) rfl (fun ls hl => ?_)
              refine lv_goto (tgt := 39) hx hb dX9_settles_85 (by decide) ?_
              exact ih v9 _ hr hret _ _ ls (lv_sub hl [0, 1, 2] rfl) hS kx
            · have hr := hi8.2 c8
              refine lv_aload_n hx hb dX9_settles_56 rfl (lv_at hl 1 rfl) ?_
              refine va_get (D := D) (ci := 8) (v := .int (mG_left g)) (C := RX9) (T := TX9) (N := 26) hx hb hts in_X9 hown hG.1 hP 0 rfl rfl 0 (by decide) (hts _ q1180) (fun _ h9 => h9) rfl dX9_settles_57 ?_
              refine lv_iconst (v := 1) hx hb dX9_settles_60 rfl ?_
              refine lv_iload_n hx hb dX9_settles_61 rfl (lv_at hl 0 rfl) ?_
              refine lv_ishl hx hb dX9_settles_62 ?_
              refine lv_iconst (v := (-1)) hx hb dX9_settles_63 rfl ?_
              refine lv_ixor hx hb dX9_settles_64 ?_
              refine lv_iand hx hb dX9_settles_65 ?_
              obtain ⟨o10, ho10, hr⟩ := br_bind hr
              refine fwS (As := [.int ((mG_left g) &&& (((1 : Int32) <<< (x2_5 &&& 31)) ^^^ (-1)))]) (rest := []) hx hb hml hown hts (m_X9_deed l ((mG_left g) &&& (((1 : Int32) <<< (x2_5 &&& 31)) ^^^ (-1))) o10 ho10) (cw_X9_deed hts q1359 ⟨Nat.le_of_ble_eq_true rfl, Nat.le_of_ble_eq_true rfl⟩) rfl hl.1 rfl (Nat.le_of_ble_eq_true rfl) dX9_settles_66 ⟨Nat.le_of_ble_eq_true rfl, Nat.le_of_ble_eq_true rfl⟩ ?_
              have hi11 := br_ite hr
              refine lv_if_eq (tgt := 82) hx hb dX9_settles_69 (by decide) (fun c11 => ?_) (fun c11 => ?_)
              · have hr := hi11.1 c11
                obtain ⟨v12, hv12, hr⟩ := br_let hr
                refine lv_iinc (v := v12) (lv' := [(2, .int v12), (0, .ref (am 0)), (1, .int a1)]) hx hb dX9_settles_82 hl (k := 0) rfl (hv12 ▸ rfl) (by decide) rfl (fun ls hl => ?_)
                refine lv_goto (tgt := 39) hx hb dX9_settles_85 (by decide) ?_
                exact ih v12 _ hr hret _ _ ls (lv_sub hl [0, 1, 2] rfl) hS kx
              · have hr := hi11.2 c11
                refine lv_iload_n hx hb dX9_settles_72 rfl (lv_at hl 2 rfl) ?_
                have hi13 := br_ite hr
                refine lv_if_ne (tgt := 80) hx hb dX9_settles_73 (by decide) (fun c13 => ?_) (fun c13 => ?_)
                · have hr := hi13.2 c13
                  refine lv_iload_n hx hb dX9_settles_80 rfl (lv_at hl 0 rfl) ?_
                  have hr := hret _ (Option.some.inj hr).symm
                  obtain rfl := Option.some.inj hr
                  refine W.widen (k := rm_X9_settles.cells) (n := rm_X9_settles.slots) (Nat.le_of_ble_eq_true rfl) (Nat.le_of_ble_eq_true rfl) ?_
                  exact W.iret hx hb hrt (fun t ht _ => hS.q ht rfl) hS.2.2.2.2 dX9_settles_81 hlk
                · have hr := hi13.1 c13
                  refine lv_iconst (v := 1) hx hb dX9_settles_76 rfl ?_
                  refine lv_goto (tgt := 81) hx hb dX9_settles_77 (by decide) ?_
                  have hr := hret _ (Option.some.inj hr).symm
                  obtain rfl := Option.some.inj hr
                  refine W.widen (k := rm_X9_settles.cells) (n := rm_X9_settles.slots) (Nat.le_of_ble_eq_true rfl) (Nat.le_of_ble_eq_true rfl) ?_
                  exact W.iret hx hb hrt (fun t ht _ => hS.q ht rfl) hS.2.2.2.2 dX9_settles_81 hlk
      obtain ⟨o5, ho5, hl5, hk5⟩ := br_bsR hr
      refine L5 1000 0 o5 ho5 (fun r hq => hl5 r hq) _ _ ls (lv_sub hl [0, 1, 2] rfl) hS (fun t5 hq5 H locs ls hl hS => ?_)
      have hP := hS.1
      have hr := hk5 t5 hq5
      refine lv_iconst (v := 0) hx hb dX9_settles_88 rfl ?_
      refine lv_istore_n (lv' := [(2, .int 0), (0, .ref (am 0)), (1, .int a1)]) hx hb dX9_settles_89 rfl hl (by decide) rfl (fun ls hl => ?_)
      have L14 : ∀ (n : Nat) (x2_14 : Int32) (o14 : (Int32 × MS) ⊕ (Unit)), f_X9_settles_L90 g a1 n x2_14 = some o14 → (∀ r, o14 = Sum.inl r → some r = some r0) → ∀ (H : Heap) (locs : List Loc) ls, lv_has ls 4 [(2, .int x2_14), (0, .ref (am 0)), (1, .int a1)] → Stt D (va_A (wM am ac g) s.heap.size) s.heap (wM am ac g) H locs → (∀ t14, o14 = Sum.inr t14 → ∀ (H : Heap) (locs : List Loc) ls, lv_has ls 4 [] → Stt D (va_A (wM am ac g) s.heap.size) s.heap (wM am ac g) H locs → WW p l e rm_X9_settles s m [.ref (am 0), .int a1] below meth c D (wM am ac r0.2) (va_A (wM am ac g) s.heap.size) (some (.int r0.1)) H locs 0 0 172 ls []) → WW p l e rm_X9_settles s m [.ref (am 0), .int a1] below meth c D (wM am ac r0.2) (va_A (wM am ac g) s.heap.size) (some (.int r0.1)) H locs 0 0 90 ls [] := by
        intro n
        induction n with
        | zero => intro x2_14 o14 hr; rw [f_X9_settles_L90] at hr; cases hr
        | succ n ih =>
          intro x2_14 o14 hr hret H locs ls hl hS kx
          have hP := hS.1
          rw [f_X9_settles_L90] at hr
          refine lv_iload_n hx hb dX9_settles_90 rfl (lv_at hl 0 rfl) ?_
          refine lv_bipush (v := 25) hx hb dX9_settles_91 rfl ?_
          have hi15 := br_ite hr
          refine lv_icmp_ge (tgt := 172) hx hb dX9_settles_93 (by decide) (fun c15 => ?_) (fun c15 => ?_)
          · have hr := hi15.1 c15
            exact kx _ (Option.some.inj hr).symm _ _ ls (lv_sub hl [] rfl) hS
          · have hr := hi15.2 c15
            refine lv_iload_n hx hb dX9_settles_96 rfl (lv_at hl 0 rfl) ?_
            refine lv_iconst (v := 1) hx hb dX9_settles_97 rfl ?_
            refine lv_iadd hx hb dX9_settles_98 ?_
            refine lv_topi (fun v16 hv16 => ?_)
            have hr := br_letv hr hv16
            refine lv_istore_n (lv' := [(3, .int v16), (2, .int x2_14), (0, .ref (am 0)), (1, .int a1)]) hx hb dX9_settles_99 rfl hl (by decide) rfl (fun ls hl => ?_)
            have L17 : ∀ (n : Nat) (x3_17 : Int32) (o17 : (Int32 × MS) ⊕ (Unit)), f_X9_settles_L100 g a1 x2_14 n x3_17 = some o17 → (∀ r, o17 = Sum.inl r → some r = some r0) → ∀ (H : Heap) (locs : List Loc) ls, lv_has ls 4 [(3, .int x3_17), (2, .int x2_14), (0, .ref (am 0)), (1, .int a1)] → Stt D (va_A (wM am ac g) s.heap.size) s.heap (wM am ac g) H locs → (∀ t17, o17 = Sum.inr t17 → ∀ (H : Heap) (locs : List Loc) ls, lv_has ls 4 [(2, .int x2_14), (0, .ref (am 0)), (1, .int a1)] → Stt D (va_A (wM am ac g) s.heap.size) s.heap (wM am ac g) H locs → WW p l e rm_X9_settles s m [.ref (am 0), .int a1] below meth c D (wM am ac r0.2) (va_A (wM am ac g) s.heap.size) (some (.int r0.1)) H locs 0 0 166 ls []) → WW p l e rm_X9_settles s m [.ref (am 0), .int a1] below meth c D (wM am ac r0.2) (va_A (wM am ac g) s.heap.size) (some (.int r0.1)) H locs 0 0 100 ls [] := by
              intro n
              induction n with
              | zero => intro x3_17 o17 hr; rw [f_X9_settles_L100] at hr; cases hr
              | succ n ih =>
                intro x3_17 o17 hr hret H locs ls hl hS kx
                have hP := hS.1
                rw [f_X9_settles_L100] at hr
                refine lv_iload_n hx hb dX9_settles_100 rfl (lv_at hl 0 rfl) ?_
                refine lv_bipush (v := 25) hx hb dX9_settles_101 rfl ?_
                have hi18 := br_ite hr
                refine lv_icmp_ge (tgt := 166) hx hb dX9_settles_103 (by decide) (fun c18 => ?_) (fun c18 => ?_)
                · have hr := hi18.1 c18
                  exact kx _ (Option.some.inj hr).symm _ _ ls (lv_sub hl [1, 2, 3] rfl) hS
                · have hr := hi18.2 c18
                  refine lv_aload_n hx hb dX9_settles_106 rfl (lv_at hl 2 rfl) ?_
                  refine va_get (D := D) (ci := 8) (v := .int (mG_left g)) (C := RX9) (T := TX9) (N := 26) hx hb hts in_X9 hown hG.1 hP 0 rfl rfl 0 (by decide) (hts _ q1180) (fun _ h9 => h9) rfl dX9_settles_107 ?_
                  refine lv_iload_n hx hb dX9_settles_110 rfl (lv_at hl 1 rfl) ?_
                  obtain ⟨o19, ho19, hr⟩ := br_bind hr
                  refine fwS (As := [.int (mG_left g), .int x2_14]) (rest := []) hx hb hml hown hts (m_X9_has l (mG_left g) x2_14 o19 ho19) (cw_X9_has hts q1365 ⟨Nat.le_of_ble_eq_true rfl, Nat.le_of_ble_eq_true rfl⟩) rfl hl.1 rfl (Nat.le_of_ble_eq_true rfl) dX9_settles_111 ⟨Nat.le_of_ble_eq_true rfl, Nat.le_of_ble_eq_true rfl⟩ ?_
                  have hi20 := br_ite hr
                  refine lv_if_eq (tgt := 160) hx hb dX9_settles_114 (by decide) (fun c20 => ?_) (fun c20 => ?_)
                  · have hr := hi20.1 c20
                    obtain ⟨v21, hv21, hr⟩ := br_let hr
                    refine lv_iinc (v := v21) (lv' := [(3, .int v21), (2, .int x2_14), (0, .ref (am 0)), (1, .int a1)]) hx hb dX9_settles_160 hl (k := 0) rfl (hv21 ▸ rfl) (by decide) rfl (fun ls hl => ?_)
                    refine lv_goto (tgt := 100) hx hb dX9_settles_163 (by decide) ?_
                    exact ih v21 _ hr hret _ _ ls (lv_sub hl [0, 1, 2, 3] rfl) hS kx
                  · have hr := hi20.2 c20
                    refine lv_aload_n hx hb dX9_settles_117 rfl (lv_at hl 2 rfl) ?_
                    refine va_get (D := D) (ci := 8) (v := .int (mG_left g)) (C := RX9) (T := TX9) (N := 26) hx hb hts in_X9 hown hG.1 hP 0 rfl rfl 0 (by decide) (hts _ q1180) (fun _ h9 => h9) rfl dX9_settles_118 ?_
                    refine lv_iload_n hx hb dX9_settles_121 rfl (lv_at hl 0 rfl) ?_
                    obtain ⟨o22, ho22, hr⟩ := br_bind hr
                    refine fwS (As := [.int (mG_left g), .int x3_17]) (rest := []) hx hb hml hown hts (m_X9_has l (mG_left g) x3_17 o22 ho22) (cw_X9_has hts q1365 ⟨Nat.le_of_ble_eq_true rfl, Nat.le_of_ble_eq_true rfl⟩) rfl hl.1 rfl (Nat.le_of_ble_eq_true rfl) dX9_settles_122 ⟨Nat.le_of_ble_eq_true rfl, Nat.le_of_ble_eq_true rfl⟩ ?_
                    have hi23 := br_ite hr
                    refine lv_if_eq (tgt := 160) hx hb dX9_settles_125 (by decide) (fun c23 => ?_) (fun c23 => ?_)
                    · have hr := hi23.1 c23
                      obtain ⟨v24, hv24, hr⟩ := br_let hr
                      refine lv_iinc (v := v24) (lv' := [(3, .int v24), (2, .int x2_14), (0, .ref (am 0)), (1, .int a1)]) hx hb dX9_settles_160 hl (k := 0) rfl (hv24 ▸ rfl) (by decide) rfl (fun ls hl => ?_)
                      refine lv_goto (tgt := 100) hx hb dX9_settles_163 (by decide) ?_
                      exact ih v24 _ hr hret _ _ ls (lv_sub hl [0, 1, 2, 3] rfl) hS kx
                    · have hr := hi23.2 c23
                      refine lv_aload_n hx hb dX9_settles_128 rfl (lv_at hl 2 rfl) ?_
                      refine va_get (D := D) (ci := 8) (v := .int (mG_left g)) (C := RX9) (T := TX9) (N := 26) hx hb hts in_X9 hown hG.1 hP 0 rfl rfl 0 (by decide) (hts _ q1180) (fun _ h9 => h9) rfl dX9_settles_129 ?_
                      refine lv_iconst (v := 1) hx hb dX9_settles_132 rfl ?_
                      refine lv_iload_n hx hb dX9_settles_133 rfl (lv_at hl 1 rfl) ?_
                      refine lv_ishl hx hb dX9_settles_134 ?_
                      refine lv_iconst (v := (-1)) hx hb dX9_settles_135 rfl ?_
                      refine lv_ixor hx hb dX9_settles_136 ?_
                      refine lv_iand hx hb dX9_settles_137 ?_
                      refine lv_iconst (v := 1) hx hb dX9_settles_138 rfl ?_
                      refine lv_iload_n hx hb dX9_settles_139 rfl (lv_at hl 0 rfl) ?_
                      refine lv_ishl hx hb dX9_settles_140 ?_
                      refine lv_iconst (v := (-1)) hx hb dX9_settles_141 rfl ?_
                      refine lv_ixor hx hb dX9_settles_142 ?_
                      refine lv_iand hx hb dX9_settles_143 ?_
                      obtain ⟨o25, ho25, hr⟩ := br_bind hr
                      refine fwS (As := [.int (((mG_left g) &&& (((1 : Int32) <<< (x2_14 &&& 31)) ^^^ (-1))) &&& (((1 : Int32) <<< (x3_17 &&& 31)) ^^^ (-1)))]) (rest := []) hx hb hml hown hts (m_X9_deed l (((mG_left g) &&& (((1 : Int32) <<< (x2_14 &&& 31)) ^^^ (-1))) &&& (((1 : Int32) <<< (x3_17 &&& 31)) ^^^ (-1))) o25 ho25) (cw_X9_deed hts q1359 ⟨Nat.le_of_ble_eq_true rfl, Nat.le_of_ble_eq_true rfl⟩) rfl hl.1 rfl (Nat.le_of_ble_eq_true rfl) dX9_settles_144 ⟨Nat.le_of_ble_eq_true rfl, Nat.le_of_ble_eq_true rfl⟩ ?_
                      have hi26 := br_ite hr
                      refine lv_if_eq (tgt := 160) hx hb dX9_settles_147 (by decide) (fun c26 => ?_) (fun c26 => ?_)
                      · have hr := hi26.1 c26
                        obtain ⟨v27, hv27, hr⟩ := br_let hr
                        refine lv_iinc (v := v27) (lv' := [(3, .int v27), (2, .int x2_14), (0, .ref (am 0)), (1, .int a1)]) hx hb dX9_settles_160 hl (k := 0) rfl (hv27 ▸ rfl) (by decide) rfl (fun ls hl => ?_)
                        refine lv_goto (tgt := 100) hx hb dX9_settles_163 (by decide) ?_
                        exact ih v27 _ hr hret _ _ ls (lv_sub hl [0, 1, 2, 3] rfl) hS kx
                      · have hr := hi26.2 c26
                        refine lv_iload_n hx hb dX9_settles_150 rfl (lv_at hl 3 rfl) ?_
                        have hi28 := br_ite hr
                        refine lv_if_ne (tgt := 158) hx hb dX9_settles_151 (by decide) (fun c28 => ?_) (fun c28 => ?_)
                        · have hr := hi28.2 c28
                          refine lv_iload_n hx hb dX9_settles_158 rfl (lv_at hl 1 rfl) ?_
                          have hr := hret _ (Option.some.inj hr).symm
                          obtain rfl := Option.some.inj hr
                          refine W.widen (k := rm_X9_settles.cells) (n := rm_X9_settles.slots) (Nat.le_of_ble_eq_true rfl) (Nat.le_of_ble_eq_true rfl) ?_
                          exact W.iret hx hb hrt (fun t ht _ => hS.q ht rfl) hS.2.2.2.2 dX9_settles_159 hlk
                        · have hr := hi28.1 c28
                          refine lv_iconst (v := 2) hx hb dX9_settles_154 rfl ?_
                          refine lv_goto (tgt := 159) hx hb dX9_settles_155 (by decide) ?_
                          have hr := hret _ (Option.some.inj hr).symm
                          obtain rfl := Option.some.inj hr
                          refine W.widen (k := rm_X9_settles.cells) (n := rm_X9_settles.slots) (Nat.le_of_ble_eq_true rfl) (Nat.le_of_ble_eq_true rfl) ?_
                          exact W.iret hx hb hrt (fun t ht _ => hS.q ht rfl) hS.2.2.2.2 dX9_settles_159 hlk
            obtain ⟨o17, ho17, hl17, hk17⟩ := br_bsO hr
            refine L17 1000 v16 o17 ho17 (fun r hq => hret _ (Option.some.inj (hl17 r hq)).symm) _ _ ls (lv_sub hl [0, 1, 2, 3] rfl) hS (fun t17 hq17 H locs ls hl hS => ?_)
            have hP := hS.1
            have hr := hk17 t17 hq17
            obtain ⟨v29, hv29, hr⟩ := br_let hr
            refine lv_iinc (v := v29) (lv' := [(2, .int v29), (0, .ref (am 0)), (1, .int a1)]) hx hb dX9_settles_166 hl (k := 0) rfl (hv29 ▸ rfl) (by decide) rfl (fun ls hl => ?_)
            refine lv_goto (tgt := 90) hx hb dX9_settles_169 (by decide) ?_
            exact ih v29 _ hr hret _ _ ls (lv_sub hl [0, 1, 2] rfl) hS kx
      obtain ⟨o14, ho14, hl14, hk14⟩ := br_bsR hr
      refine L14 1000 0 o14 ho14 (fun r hq => hl14 r hq) _ _ ls (lv_sub hl [0, 1, 2] rfl) hS (fun t14 hq14 H locs ls hl hS => ?_)
      have hP := hS.1
      have hr := hk14 t14 hq14
      refine lv_bipush (v := (-9)) hx hb dX9_settles_172 rfl ?_
      obtain rfl := Option.some.inj hr
      refine W.widen (k := rm_X9_settles.cells) (n := rm_X9_settles.slots) (Nat.le_of_ble_eq_true rfl) (Nat.le_of_ble_eq_true rfl) ?_
      exact W.iret hx hb hrt (fun t ht _ => hS.q ht rfl) hS.2.2.2.2 dX9_settles_174 hlk
    · have hr := hi4.2 c4
      refine lv_iload_n hx hb dX9_settles_26 rfl (lv_at hl 1 rfl) ?_
      have hi30 := br_ite hr
      refine lv_if_ne (tgt := 34) hx hb dX9_settles_27 (by decide) (fun c30 => ?_) (fun c30 => ?_)
      · have hr := hi30.2 c30
        refine lv_bipush (v := (-9)) hx hb dX9_settles_34 rfl ?_
        obtain rfl := Option.some.inj hr
        refine W.widen (k := rm_X9_settles.cells) (n := rm_X9_settles.slots) (Nat.le_of_ble_eq_true rfl) (Nat.le_of_ble_eq_true rfl) ?_
        exact W.iret hx hb hrt (fun t ht _ => hS.q ht rfl) hS.2.2.2.2 dX9_settles_36 hlk
      · have hr := hi30.1 c30
        refine lv_iconst (v := 0) hx hb dX9_settles_30 rfl ?_
        refine lv_goto (tgt := 36) hx hb dX9_settles_31 (by decide) ?_
        obtain rfl := Option.some.inj hr
        refine W.widen (k := rm_X9_settles.cells) (n := rm_X9_settles.slots) (Nat.le_of_ble_eq_true rfl) (Nat.le_of_ble_eq_true rfl) ?_
        exact W.iret hx hb hrt (fun t ht _ => hS.q ht rfl) hS.2.2.2.2 dX9_settles_36 hlk
  · have hr := hi2.1 c2
    refine lv_aload_n hx hb dX9_settles_9 rfl (lv_at hl 0 rfl) ?_
    refine lv_bipush (v := (-2)) hx hb dX9_settles_10 rfl ?_
    obtain ⟨o31, ho31, hr⟩ := br_bind hr
    refine fwWVs (As := [.int (-2)]) (rest := []) (C := RX9) hx hb hml hown hts (m_X9_no l D am ac g (-2 : Int32) _ o31 ho31) (cw_X9_no hts q1263 ⟨Nat.le_of_ble_eq_true rfl, Nat.le_of_ble_eq_true rfl⟩) hG hS hA rfl 0 8 rfl rfl rfl hl.1 rfl (Nat.le_of_ble_eq_true rfl) dX9_settles_12 ⟨Nat.le_of_ble_eq_true rfl, Nat.le_of_ble_eq_true rfl⟩ (fun H locs hS => ?_)
    have hP := hS.1
    obtain rfl := Option.some.inj hr
    refine W.widen (k := rm_X9_settles.cells) (n := rm_X9_settles.slots) (Nat.le_of_ble_eq_true rfl) (Nat.le_of_ble_eq_true rfl) ?_
    exact W.iret hx hb hrt (fun t ht _ => hS.q ht rfl) hS.2.2.2.2 dX9_settles_15 hlk
theorem cw_X9_settles {R : Room} {s : State} {args : Array Value} {own : String} {index : Nat} (hts : ∀ w ∈ lw_all, w.before args s = true) (hlink : Cond.methodLink own index yX9_settles ∈ lw_all) (hR : rm_X9_settles.frames + 1 ≤ R.frames ∧ 8 + (4 + 11) + rm_X9_settles.locals ≤ R.locals) : CallW R s args own RX9 index yX9_settles cX9_settles 4 (some FieldType.int) (ws_ yX9_settles cX9_settles 4 (some FieldType.int)) rm_X9_settles rm_X9_settles.cells rm_X9_settles.slots 1 :=
  cwV 1 hts (lw_V hlink q1473 q1474 q111 q1475) rfl rfl rfl (by decide +kernel) hR
def f_X9_pips (g : MS) (a1 : Int32) : Option (Int32 × MS) := if a1 = 0 then Option.bind (f_X9_bits ((mG_left g) &&& 14336)) fun o4 => some (o4, g) else if a1 = 1 then some ((((mG_left g) >>> ((2 : Int32) &&& 31)) &&& 1), g) else Option.bind (f_X9_no g (-2 : Int32)) fun o3 => some (o3.1, o3.2)
abbrev rm_X9_pips : Room := ({ frames := 2, cells := 0, slots := 0, locals := 41 })
set_option maxHeartbeats 4000000 in
theorem m_X9_pips (l : Launch) (D : va_G) (am : Nat → Nat) (ac : Nat → ClassId) (g : MS) (a1 : Int32) (sz : Nat) (r0 : Int32 × MS) (hr : f_X9_pips g a1 = some r0) : WM l yX9_pips cX9_pips 2 (some FieldType.int) rm_X9_pips [.ref (am 0), .int a1] D ac (wM am ac g) (wM am ac r0.2) sz (some (.int r0.1)) := by
  refine fw_of (by decide) (Nat.le_of_ble_eq_true rfl) ?_
  intro p e s m below meth c ls hx hb hrt hts hown hlk hml _ hU hl
  obtain ⟨rfl, hP, hG, hD⟩ := hU
  have hA : ∀ q : Nat, s.heap.size ≤ q → va_A (wM am ac g) s.heap.size q := fun q h => Or.inr h
  have hS := Stt.start hP hD
  show WW p l e rm_X9_pips s m [.ref (am 0), .int a1] below meth c D (wM am ac r0.2) (va_A (wM am ac g) s.heap.size) (some (.int r0.1)) s.heap [] 0 0 0 ls []
  have hl : lv_has ls 2 [(0, .ref (am 0)), (1, .int a1)] := hl
  rw [f_X9_pips] at hr
  refine lv_iload_n hx hb dX9_pips_0 rfl (lv_at hl 1 rfl) ?_
  have hi1 := br_ite hr
  refine lv_if_ne (tgt := 18) hx hb dX9_pips_1 (by decide) (fun c1 => ?_) (fun c1 => ?_)
  · have hr := hi1.2 c1
    refine lv_iload_n hx hb dX9_pips_18 rfl (lv_at hl 1 rfl) ?_
    refine lv_iconst (v := 1) hx hb dX9_pips_19 rfl ?_
    have hi2 := br_ite hr
    refine lv_icmp_ne (tgt := 34) hx hb dX9_pips_20 (by decide) (fun c2 => ?_) (fun c2 => ?_)
    · have hr := hi2.2 c2
      refine lv_aload_n hx hb dX9_pips_34 rfl (lv_at hl 0 rfl) ?_
      refine lv_bipush (v := (-2)) hx hb dX9_pips_35 rfl ?_
      obtain ⟨o3, ho3, hr⟩ := br_bind hr
      refine fwWVs (As := [.int (-2)]) (rest := []) (C := RX9) hx hb hml hown hts (m_X9_no l D am ac g (-2 : Int32) _ o3 ho3) (cw_X9_no hts q1263 ⟨Nat.le_of_ble_eq_true rfl, Nat.le_of_ble_eq_true rfl⟩) hG hS hA rfl 0 8 rfl rfl rfl hl.1 rfl (Nat.le_of_ble_eq_true rfl) dX9_pips_37 ⟨Nat.le_of_ble_eq_true rfl, Nat.le_of_ble_eq_true rfl⟩ (fun H locs hS => ?_)
      have hP := hS.1
      obtain rfl := Option.some.inj hr
      refine W.widen (k := rm_X9_pips.cells) (n := rm_X9_pips.slots) (Nat.le_of_ble_eq_true rfl) (Nat.le_of_ble_eq_true rfl) ?_
      exact W.iret hx hb hrt (fun t ht _ => hS.q ht rfl) hS.2.2.2.2 dX9_pips_40 hlk
    · have hr := hi2.1 c2
      refine lv_aload_n hx hb dX9_pips_23 rfl (lv_at hl 0 rfl) ?_
      refine va_get (D := D) (ci := 8) (v := .int (mG_left g)) (C := RX9) (T := TX9) (N := 26) hx hb hts in_X9 hown hG.1 hP 0 rfl rfl 0 (by decide) (hts _ q1180) (fun _ h9 => h9) rfl dX9_pips_24 ?_
      refine lv_iconst (v := 2) hx hb dX9_pips_27 rfl ?_
      refine lv_ishr hx hb dX9_pips_28 ?_
      refine lv_iconst (v := 1) hx hb dX9_pips_29 rfl ?_
      refine lv_iand hx hb dX9_pips_30 ?_
      refine lv_goto (tgt := 40) hx hb dX9_pips_31 (by decide) ?_
      obtain rfl := Option.some.inj hr
      refine W.widen (k := rm_X9_pips.cells) (n := rm_X9_pips.slots) (Nat.le_of_ble_eq_true rfl) (Nat.le_of_ble_eq_true rfl) ?_
      exact W.iret hx hb hrt (fun t ht _ => hS.q ht rfl) hS.2.2.2.2 dX9_pips_40 hlk
  · have hr := hi1.1 c1
    refine lv_aload_n hx hb dX9_pips_4 rfl (lv_at hl 0 rfl) ?_
    refine va_get (D := D) (ci := 8) (v := .int (mG_left g)) (C := RX9) (T := TX9) (N := 26) hx hb hts in_X9 hown hG.1 hP 0 rfl rfl 0 (by decide) (hts _ q1180) (fun _ h9 => h9) rfl dX9_pips_5 ?_
    refine lv_sipush (v := 14336) hx hb dX9_pips_8 rfl ?_
    refine lv_iand hx hb dX9_pips_11 ?_
    obtain ⟨o4, ho4, hr⟩ := br_bind hr
    refine fwS (As := [.int ((mG_left g) &&& 14336)]) (rest := []) hx hb hml hown hts (m_X9_bits l ((mG_left g) &&& 14336) o4 ho4) (cw_X9_bits hts q1338 ⟨Nat.le_of_ble_eq_true rfl, Nat.le_of_ble_eq_true rfl⟩) rfl hl.1 rfl (Nat.le_of_ble_eq_true rfl) dX9_pips_12 ⟨Nat.le_of_ble_eq_true rfl, Nat.le_of_ble_eq_true rfl⟩ ?_
    refine lv_goto (tgt := 40) hx hb dX9_pips_15 (by decide) ?_
    obtain rfl := Option.some.inj hr
    refine W.widen (k := rm_X9_pips.cells) (n := rm_X9_pips.slots) (Nat.le_of_ble_eq_true rfl) (Nat.le_of_ble_eq_true rfl) ?_
    exact W.iret hx hb hrt (fun t ht _ => hS.q ht rfl) hS.2.2.2.2 dX9_pips_40 hlk
theorem cw_X9_pips {R : Room} {s : State} {args : Array Value} {own : String} {index : Nat} (hts : ∀ w ∈ lw_all, w.before args s = true) (hlink : Cond.methodLink own index yX9_pips ∈ lw_all) (hR : rm_X9_pips.frames + 1 ≤ R.frames ∧ 8 + (2 + 11) + rm_X9_pips.locals ≤ R.locals) : CallW R s args own RX9 index yX9_pips cX9_pips 2 (some FieldType.int) (ws_ yX9_pips cX9_pips 2 (some FieldType.int)) rm_X9_pips rm_X9_pips.cells rm_X9_pips.slots 1 :=
  cwV 1 hts (lw_V hlink q1477 q1478 q111 q1479) rfl rfl rfl (by decide +kernel) hR
def f_X9_grudge_L23 (g : MS) (a1 : Int32) : Nat → Int32 → Int32 → Int32 → Option (Int32)
  | 0, _, _, _ => none
  | n + 1, x4_3, x3_3, x2_3 => if (mG_many g) ≤ x4_3 then some x2_3 else Option.bind (α := Int32) (if x4_3 = a1 then some (-9) else Option.bind (f_X9_biteFor g (mG_left g) x4_3 (1 : Int32)) fun o7 => some o7) fun o6 => if o6 < 0 then Option.bind (some ((x4_3 + 1) : Int32)) fun v9 => f_X9_grudge_L23 g a1 n v9 x3_3 x2_3 else Option.bind (f_X9_after (mG_left g) o6) fun o10 => Option.bind (f_X9_shareOf g o10 a1) fun o11 => if o11 < x3_3 then Option.bind (f_X9_after (mG_left g) o6) fun o13 => Option.bind (f_X9_shareOf g o13 a1) fun o14 => Option.bind (some ((x4_3 + 1) : Int32)) fun v15 => f_X9_grudge_L23 g a1 n v15 o14 x4_3 else Option.bind (some ((x4_3 + 1) : Int32)) fun v16 => f_X9_grudge_L23 g a1 n v16 x3_3 x2_3
def f_X9_grudge (g : MS) (a1 : Int32) : Option (Int32 × MS) := Option.bind (f_X9_isHeir g a1) fun o1 => if o1 = 0 then Option.bind (f_X9_no g (-1 : Int32)) fun o17 => some (o17.1, o17.2) else Option.bind (f_X9_grudge_L23 g a1 1000 0 1000000000 (-9)) fun o3 => some (o3, g)
abbrev rm_X9_grudge : Room := ({ frames := 7, cells := 0, slots := 0, locals := 164 })
set_option maxHeartbeats 4000000 in
theorem m_X9_grudge (l : Launch) (D : va_G) (am : Nat → Nat) (ac : Nat → ClassId) (g : MS) (a1 : Int32) (sz : Nat) (r0 : Int32 × MS) (hr : f_X9_grudge g a1 = some r0) : WM l yX9_grudge cX9_grudge 6 (some FieldType.int) rm_X9_grudge [.ref (am 0), .int a1] D ac (wM am ac g) (wM am ac r0.2) sz (some (.int r0.1)) := by
  refine fw_of (by decide) (Nat.le_of_ble_eq_true rfl) ?_
  intro p e s m below meth c ls hx hb hrt hts hown hlk hml _ hU hl
  obtain ⟨rfl, hP, hG, hD⟩ := hU
  have hA : ∀ q : Nat, s.heap.size ≤ q → va_A (wM am ac g) s.heap.size q := fun q h => Or.inr h
  have hS := Stt.start hP hD
  show WW p l e rm_X9_grudge s m [.ref (am 0), .int a1] below meth c D (wM am ac r0.2) (va_A (wM am ac g) s.heap.size) (some (.int r0.1)) s.heap [] 0 0 0 ls []
  have hl : lv_has ls 6 [(0, .ref (am 0)), (1, .int a1)] := hl
  rw [f_X9_grudge] at hr
  refine lv_aload_n hx hb dX9_grudge_0 rfl (lv_at hl 0 rfl) ?_
  refine lv_iload_n hx hb dX9_grudge_1 rfl (lv_at hl 1 rfl) ?_
  obtain ⟨o1, ho1, hr⟩ := br_bind hr
  refine fwRV (As := [.int a1]) (rest := []) (C := RX9) hx hb hml hown hts (m_X9_isHeir l D am ac g  a1 o1 ho1) (cw_X9_isHeir hts q1348 ⟨Nat.le_of_ble_eq_true rfl, Nat.le_of_ble_eq_true rfl⟩) hG hP hP 0 8 rfl rfl rfl hl.1 rfl (Nat.le_of_ble_eq_true rfl) dX9_grudge_2 ⟨Nat.le_of_ble_eq_true rfl, Nat.le_of_ble_eq_true rfl⟩ ?_
  have hi2 := br_ite hr
  refine lv_if_ne (tgt := 14) hx hb dX9_grudge_5 (by decide) (fun c2 => ?_) (fun c2 => ?_)
  · have hr := hi2.2 c2
    refine lv_bipush (v := (-9)) hx hb dX9_grudge_14 rfl ?_
    refine lv_istore_n (lv' := [(2, .int (-9)), (0, .ref (am 0)), (1, .int a1)]) hx hb dX9_grudge_16 rfl hl (by decide) rfl (fun ls hl => ?_)
    refine lv_ldc (v := 1000000000) hx hb hown (hts _ q1462) dX9_grudge_17 ?_
    refine lv_istore_n (lv' := [(3, .int 1000000000), (2, .int (-9)), (0, .ref (am 0)), (1, .int a1)]) hx hb dX9_grudge_19 rfl hl (by decide) rfl (fun ls hl => ?_)
    refine lv_iconst (v := 0) hx hb dX9_grudge_20 rfl ?_
    refine lv_istore (lv' := [(4, .int 0), (3, .int 1000000000), (2, .int (-9)), (0, .ref (am 0)), (1, .int a1)]) hx hb dX9_grudge_21 hl (by decide) rfl (fun ls hl => ?_)
    have L3 : ∀ (n : Nat) (x4_3 : Int32) (x3_3 : Int32) (x2_3 : Int32) (o3 : Int32), f_X9_grudge_L23 g a1 n x4_3 x3_3 x2_3 = some o3 → ∀ (H : Heap) (locs : List Loc) ls, lv_has ls 6 [(4, .int x4_3), (3, .int x3_3), (2, .int x2_3), (0, .ref (am 0)), (1, .int a1)] → Stt D (va_A (wM am ac g) s.heap.size) s.heap (wM am ac g) H locs → (∀ (H : Heap) (locs : List Loc) ls, lv_has ls 6 [(2, .int o3)] → Stt D (va_A (wM am ac g) s.heap.size) s.heap (wM am ac g) H locs → WW p l e rm_X9_grudge s m [.ref (am 0), .int a1] below meth c D (wM am ac r0.2) (va_A (wM am ac g) s.heap.size) (some (.int r0.1)) H locs 0 0 106 ls []) → WW p l e rm_X9_grudge s m [.ref (am 0), .int a1] below meth c D (wM am ac r0.2) (va_A (wM am ac g) s.heap.size) (some (.int r0.1)) H locs 0 0 23 ls [] := by
      intro n
      induction n with
      | zero => intro x4_3 x3_3 x2_3 o3 hr; rw [f_X9_grudge_L23] at hr; cases hr
      | succ n ih =>
        intro x4_3 x3_3 x2_3 o3 hr H locs ls hl hS kx
        have hP := hS.1
        rw [f_X9_grudge_L23] at hr
        refine lv_iload hx hb dX9_grudge_23 (lv_at hl 0 rfl) ?_
        refine lv_aload_n hx hb dX9_grudge_25 rfl (lv_at hl 3 rfl) ?_
        refine va_get (D := D) (ci := 8) (v := .int (mG_many g)) (C := RX9) (T := TX9) (N := 26) hx hb hts in_X9 hown hG.1 hP 0 rfl rfl 2 (by decide) (hts _ q1182) (fun _ h9 => h9) rfl dX9_grudge_26 ?_
        have hi4 := br_ite hr
        refine lv_icmp_ge (tgt := 106) hx hb dX9_grudge_29 (by decide) (fun c4 => ?_) (fun c4 => ?_)
        · have hr := hi4.1 c4
          obtain rfl := Option.some.inj hr
          exact kx _ _ ls (lv_sub hl [2] rfl) hS
        · have hr := hi4.2 c4
          refine lv_iload hx hb dX9_grudge_32 (lv_at hl 0 rfl) ?_
          refine lv_iload_n hx hb dX9_grudge_34 rfl (lv_at hl 4 rfl) ?_
          obtain ⟨o6, ho6, hr⟩ := br_bind hr
          have J6 : ∀ (H : Heap) (locs : List Loc) ls, lv_has ls 6 [(4, .int x4_3), (3, .int x3_3), (2, .int x2_3), (0, .ref (am 0)), (1, .int a1)] → Stt D (va_A (wM am ac g) s.heap.size) s.heap (wM am ac g) H locs → WW p l e rm_X9_grudge s m [.ref (am 0), .int a1] below meth c D (wM am ac r0.2) (va_A (wM am ac g) s.heap.size) (some (.int r0.1)) H locs 0 0 54 ls [.int o6] := by
            intro H locs ls hl hS
            have hP := hS.1
            refine lv_istore (lv' := [(5, .int o6), (4, .int x4_3), (3, .int x3_3), (2, .int x2_3), (0, .ref (am 0)), (1, .int a1)]) hx hb dX9_grudge_54 hl (by decide) rfl (fun ls hl => ?_)
            refine lv_iload hx hb dX9_grudge_56 (lv_at hl 0 rfl) ?_
            have hi8 := br_ite hr
            refine lv_if_lt (tgt := 100) hx hb dX9_grudge_58 (by decide) (fun c8 => ?_) (fun c8 => ?_)
            · have hr := hi8.1 c8
              obtain ⟨v9, hv9, hr⟩ := br_let hr
              refine lv_iinc (v := v9) (lv' := [(4, .int v9), (5, .int o6), (3, .int x3_3), (2, .int x2_3), (0, .ref (am 0)), (1, .int a1)]) hx hb dX9_grudge_100 hl (k := 1) rfl (hv9 ▸ rfl) (by decide) rfl (fun ls hl => ?_)
              refine lv_goto (tgt := 23) hx hb dX9_grudge_103 (by decide) ?_
              exact ih v9 x3_3 x2_3 _ hr _ _ ls (lv_sub hl [0, 2, 3, 4, 5] rfl) hS kx
            · have hr := hi8.2 c8
              refine lv_aload_n hx hb dX9_grudge_61 rfl (lv_at hl 4 rfl) ?_
              refine lv_aload_n hx hb dX9_grudge_62 rfl (lv_at hl 4 rfl) ?_
              refine va_get (D := D) (ci := 8) (v := .int (mG_left g)) (C := RX9) (T := TX9) (N := 26) hx hb hts in_X9 hown hG.1 hP 0 rfl rfl 0 (by decide) (hts _ q1180) (fun _ h9 => h9) rfl dX9_grudge_63 ?_
              refine lv_iload hx hb dX9_grudge_66 (lv_at hl 0 rfl) ?_
              obtain ⟨o10, ho10, hr⟩ := br_bind hr
              refine fwS (As := [.int (mG_left g), .int o6]) (rest := [.ref (am 0)]) hx hb hml hown hts (m_X9_after l (mG_left g) o6 o10 ho10) (cw_X9_after hts q1431 ⟨Nat.le_of_ble_eq_true rfl, Nat.le_of_ble_eq_true rfl⟩) rfl hl.1 rfl (Nat.le_of_ble_eq_true rfl) dX9_grudge_68 ⟨Nat.le_of_ble_eq_true rfl, Nat.le_of_ble_eq_true rfl⟩ ?_
              refine lv_iload_n hx hb dX9_grudge_71 rfl (lv_at hl 5 rfl) ?_
              obtain ⟨o11, ho11, hr⟩ := br_bind hr
              refine fwRV (As := [.int o10, .int a1]) (rest := []) (C := RX9) hx hb hml hown hts (m_X9_shareOf l D am ac g  o10 a1 o11 ho11) (cw_X9_shareOf hts q1352 ⟨Nat.le_of_ble_eq_true rfl, Nat.le_of_ble_eq_true rfl⟩) hG hP hP 0 8 rfl rfl rfl hl.1 rfl (Nat.le_of_ble_eq_true rfl) dX9_grudge_72 ⟨Nat.le_of_ble_eq_true rfl, Nat.le_of_ble_eq_true rfl⟩ ?_
              refine lv_iload_n hx hb dX9_grudge_75 rfl (lv_at hl 2 rfl) ?_
              have hi12 := br_ite hr
              refine lv_icmp_lt (tgt := 82) hx hb dX9_grudge_76 (by decide) (fun c12 => ?_) (fun c12 => ?_)
              · have hr := hi12.1 c12
                refine lv_iload hx hb dX9_grudge_82 (lv_at hl 1 rfl) ?_
                refine lv_istore_n (lv' := [(2, .int x4_3), (5, .int o6), (4, .int x4_3), (3, .int x3_3), (0, .ref (am 0)), (1, .int a1)]) hx hb dX9_grudge_84 rfl hl (by decide) rfl (fun ls hl => ?_)
                refine lv_aload_n hx hb dX9_grudge_85 rfl (lv_at hl 4 rfl) ?_
                refine lv_aload_n hx hb dX9_grudge_86 rfl (lv_at hl 4 rfl) ?_
                refine va_get (D := D) (ci := 8) (v := .int (mG_left g)) (C := RX9) (T := TX9) (N := 26) hx hb hts in_X9 hown hG.1 hP 0 rfl rfl 0 (by decide) (hts _ q1180) (fun _ h9 => h9) rfl dX9_grudge_87 ?_
                refine lv_iload hx hb dX9_grudge_90 (lv_at hl 1 rfl) ?_
                obtain ⟨o13, ho13, hr⟩ := br_bind hr
                refine fwS (As := [.int (mG_left g), .int o6]) (rest := [.ref (am 0)]) hx hb hml hown hts (m_X9_after l (mG_left g) o6 o13 ho13) (cw_X9_after hts q1431 ⟨Nat.le_of_ble_eq_true rfl, Nat.le_of_ble_eq_true rfl⟩) rfl hl.1 rfl (Nat.le_of_ble_eq_true rfl) dX9_grudge_92 ⟨Nat.le_of_ble_eq_true rfl, Nat.le_of_ble_eq_true rfl⟩ ?_
                refine lv_iload_n hx hb dX9_grudge_95 rfl (lv_at hl 5 rfl) ?_
                obtain ⟨o14, ho14, hr⟩ := br_bind hr
                refine fwRV (As := [.int o13, .int a1]) (rest := []) (C := RX9) hx hb hml hown hts (m_X9_shareOf l D am ac g  o13 a1 o14 ho14) (cw_X9_shareOf hts q1352 ⟨Nat.le_of_ble_eq_true rfl, Nat.le_of_ble_eq_true rfl⟩) hG hP hP 0 8 rfl rfl rfl hl.1 rfl (Nat.le_of_ble_eq_true rfl) dX9_grudge_96 ⟨Nat.le_of_ble_eq_true rfl, Nat.le_of_ble_eq_true rfl⟩ ?_
                refine lv_istore_n (lv' := [(3, .int o14), (2, .int x4_3), (5, .int o6), (4, .int x4_3), (0, .ref (am 0)), (1, .int a1)]) hx hb dX9_grudge_99 rfl hl (by decide) rfl (fun ls hl => ?_)
                obtain ⟨v15, hv15, hr⟩ := br_let hr
                refine lv_iinc (v := v15) (lv' := [(4, .int v15), (3, .int o14), (2, .int x4_3), (5, .int o6), (0, .ref (am 0)), (1, .int a1)]) hx hb dX9_grudge_100 hl (k := 3) rfl (hv15 ▸ rfl) (by decide) rfl (fun ls hl => ?_)
                refine lv_goto (tgt := 23) hx hb dX9_grudge_103 (by decide) ?_
                exact ih v15 o14 x4_3 _ hr _ _ ls (lv_sub hl [0, 1, 2, 4, 5] rfl) hS kx
              · have hr := hi12.2 c12
                refine lv_goto (tgt := 100) hx hb dX9_grudge_79 (by decide) ?_
                obtain ⟨v16, hv16, hr⟩ := br_let hr
                refine lv_iinc (v := v16) (lv' := [(4, .int v16), (5, .int o6), (3, .int x3_3), (2, .int x2_3), (0, .ref (am 0)), (1, .int a1)]) hx hb dX9_grudge_100 hl (k := 1) rfl (hv16 ▸ rfl) (by decide) rfl (fun ls hl => ?_)
                refine lv_goto (tgt := 23) hx hb dX9_grudge_103 (by decide) ?_
                exact ih v16 x3_3 x2_3 _ hr _ _ ls (lv_sub hl [0, 2, 3, 4, 5] rfl) hS kx
          have hr := ho6
          have hi5 := br_ite hr
          refine lv_icmp_ne (tgt := 43) hx hb dX9_grudge_35 (by decide) (fun c5 => ?_) (fun c5 => ?_)
          · have hr := hi5.2 c5
            refine lv_aload_n hx hb dX9_grudge_43 rfl (lv_at hl 3 rfl) ?_
            refine lv_aload_n hx hb dX9_grudge_44 rfl (lv_at hl 3 rfl) ?_
            refine va_get (D := D) (ci := 8) (v := .int (mG_left g)) (C := RX9) (T := TX9) (N := 26) hx hb hts in_X9 hown hG.1 hP 0 rfl rfl 0 (by decide) (hts _ q1180) (fun _ h9 => h9) rfl dX9_grudge_45 ?_
            refine lv_iload hx hb dX9_grudge_48 (lv_at hl 0 rfl) ?_
            refine lv_iconst (v := 1) hx hb dX9_grudge_50 rfl ?_
            obtain ⟨o7, ho7, hr⟩ := br_bind hr
            refine fwRV (As := [.int (mG_left g), .int x4_3, .int 1]) (rest := []) (C := RX9) hx hb hml hown hts (m_X9_biteFor l D am ac g  (mG_left g) x4_3 (1 : Int32) o7 ho7) (cw_X9_biteFor hts q1427 ⟨Nat.le_of_ble_eq_true rfl, Nat.le_of_ble_eq_true rfl⟩) hG hP hP 0 8 rfl rfl rfl hl.1 rfl (Nat.le_of_ble_eq_true rfl) dX9_grudge_51 ⟨Nat.le_of_ble_eq_true rfl, Nat.le_of_ble_eq_true rfl⟩ ?_
            obtain rfl := Option.some.inj hr
            exact J6 _ _ ls (lv_sub hl [0, 1, 2, 3, 4] rfl) hS
          · have hr := hi5.1 c5
            refine lv_bipush (v := (-9)) hx hb dX9_grudge_38 rfl ?_
            refine lv_goto (tgt := 54) hx hb dX9_grudge_40 (by decide) ?_
            obtain rfl := Option.some.inj hr
            exact J6 _ _ ls (lv_sub hl [0, 1, 2, 3, 4] rfl) hS
    obtain ⟨o3, ho3, hr⟩ := br_bind hr
    refine L3 1000 0 1000000000 (-9) o3 ho3 _ _ ls (lv_sub hl [0, 1, 2, 3, 4] rfl) hS (fun H locs ls hl hS => ?_)
    have hP := hS.1
    refine lv_iload_n hx hb dX9_grudge_106 rfl (lv_at hl 0 rfl) ?_
    obtain rfl := Option.some.inj hr
    refine W.widen (k := rm_X9_grudge.cells) (n := rm_X9_grudge.slots) (Nat.le_of_ble_eq_true rfl) (Nat.le_of_ble_eq_true rfl) ?_
    exact W.iret hx hb hrt (fun t ht _ => hS.q ht rfl) hS.2.2.2.2 dX9_grudge_107 hlk
  · have hr := hi2.1 c2
    refine lv_aload_n hx hb dX9_grudge_8 rfl (lv_at hl 0 rfl) ?_
    refine lv_iconst (v := (-1)) hx hb dX9_grudge_9 rfl ?_
    obtain ⟨o17, ho17, hr⟩ := br_bind hr
    refine fwWVs (As := [.int (-1)]) (rest := []) (C := RX9) hx hb hml hown hts (m_X9_no l D am ac g (-1 : Int32) _ o17 ho17) (cw_X9_no hts q1263 ⟨Nat.le_of_ble_eq_true rfl, Nat.le_of_ble_eq_true rfl⟩) hG hS hA rfl 0 8 rfl rfl rfl hl.1 rfl (Nat.le_of_ble_eq_true rfl) dX9_grudge_10 ⟨Nat.le_of_ble_eq_true rfl, Nat.le_of_ble_eq_true rfl⟩ (fun H locs hS => ?_)
    have hP := hS.1
    obtain rfl := Option.some.inj hr
    refine W.widen (k := rm_X9_grudge.cells) (n := rm_X9_grudge.slots) (Nat.le_of_ble_eq_true rfl) (Nat.le_of_ble_eq_true rfl) ?_
    exact W.iret hx hb hrt (fun t ht _ => hS.q ht rfl) hS.2.2.2.2 dX9_grudge_13 hlk
theorem cw_X9_grudge {R : Room} {s : State} {args : Array Value} {own : String} {index : Nat} (hts : ∀ w ∈ lw_all, w.before args s = true) (hlink : Cond.methodLink own index yX9_grudge ∈ lw_all) (hR : rm_X9_grudge.frames + 1 ≤ R.frames ∧ 8 + (6 + 11) + rm_X9_grudge.locals ≤ R.locals) : CallW R s args own RX9 index yX9_grudge cX9_grudge 6 (some FieldType.int) (ws_ yX9_grudge cX9_grudge 6 (some FieldType.int)) rm_X9_grudge rm_X9_grudge.cells rm_X9_grudge.slots 1 :=
  cwV 1 hts (lw_V hlink q1481 q1482 q111 q1483) rfl rfl rfl (by decide +kernel) hR
def f_X9_areTwo (g : MS) (a1 : Int32) (a2 : Int32) : Option (Int32) := Option.bind (f_X9_isHeir g a1) fun o1 => if o1 = 0 then some 0 else Option.bind (f_X9_isHeir g a2) fun o3 => if o3 = 0 then some 0 else if a1 = a2 then some 0 else some 1
abbrev rm_X9_areTwo : Room := ({ frames := 3, cells := 0, slots := 0, locals := 62 })
set_option maxHeartbeats 4000000 in
theorem m_X9_areTwo (l : Launch) (D : va_G) (am : Nat → Nat) (ac : Nat → ClassId) (g : MS) (a1 : Int32) (a2 : Int32) (r0 : Int32) (hr : f_X9_areTwo g a1 a2 = some r0) : PM l yX9_areTwo cX9_areTwo 3 (some FieldType.boolean) rm_X9_areTwo [.ref (am 0), .int a1, .int a2] (RP D ac (wM am ac g)) (some (.int r0)) := by
  refine fw_of (by decide) (Nat.le_of_ble_eq_true rfl) ?_
  intro p e s m below meth c ls hx hb hrt hts hown hlk hml _ hU hl
  obtain ⟨hP, hG⟩ := hU
  have hl : lv_has ls 3 [(0, .ref (am 0)), (1, .int a1), (2, .int a2)] := hl
  rw [f_X9_areTwo] at hr
  refine lv_aload_n hx hb dX9_areTwo_0 rfl (lv_at hl 0 rfl) ?_
  refine lv_iload_n hx hb dX9_areTwo_1 rfl (lv_at hl 1 rfl) ?_
  obtain ⟨o1, ho1, hr⟩ := br_bind hr
  refine fwRV (As := [.int a1]) (rest := []) (C := RX9) hx hb hml hown hts (m_X9_isHeir l D am ac g  a1 o1 ho1) (cw_X9_isHeir hts q1348 ⟨Nat.le_of_ble_eq_true rfl, Nat.le_of_ble_eq_true rfl⟩) hG hP hP 0 8 rfl rfl rfl hl.1 rfl (Nat.le_of_ble_eq_true rfl) dX9_areTwo_2 ⟨Nat.le_of_ble_eq_true rfl, Nat.le_of_ble_eq_true rfl⟩ ?_
  have hi2 := br_ite hr
  refine lv_if_eq (tgt := 25) hx hb dX9_areTwo_5 (by decide) (fun c2 => ?_) (fun c2 => ?_)
  · have hr := hi2.1 c2
    refine lv_iconst (v := 0) hx hb dX9_areTwo_25 rfl ?_
    exact W.zret hx hb hrt rfl (fun t ht _ => ⟨ret_i hr, ht⟩) noB dX9_areTwo_26 hlk
  · have hr := hi2.2 c2
    refine lv_aload_n hx hb dX9_areTwo_8 rfl (lv_at hl 0 rfl) ?_
    refine lv_iload_n hx hb dX9_areTwo_9 rfl (lv_at hl 2 rfl) ?_
    obtain ⟨o3, ho3, hr⟩ := br_bind hr
    refine fwRV (As := [.int a2]) (rest := []) (C := RX9) hx hb hml hown hts (m_X9_isHeir l D am ac g  a2 o3 ho3) (cw_X9_isHeir hts q1348 ⟨Nat.le_of_ble_eq_true rfl, Nat.le_of_ble_eq_true rfl⟩) hG hP hP 0 8 rfl rfl rfl hl.1 rfl (Nat.le_of_ble_eq_true rfl) dX9_areTwo_10 ⟨Nat.le_of_ble_eq_true rfl, Nat.le_of_ble_eq_true rfl⟩ ?_
    have hi4 := br_ite hr
    refine lv_if_eq (tgt := 25) hx hb dX9_areTwo_13 (by decide) (fun c4 => ?_) (fun c4 => ?_)
    · have hr := hi4.1 c4
      refine lv_iconst (v := 0) hx hb dX9_areTwo_25 rfl ?_
      exact W.zret hx hb hrt rfl (fun t ht _ => ⟨ret_i hr, ht⟩) noB dX9_areTwo_26 hlk
    · have hr := hi4.2 c4
      refine lv_iload_n hx hb dX9_areTwo_16 rfl (lv_at hl 1 rfl) ?_
      refine lv_iload_n hx hb dX9_areTwo_17 rfl (lv_at hl 2 rfl) ?_
      have hi5 := br_ite hr
      refine lv_icmp_eq (tgt := 25) hx hb dX9_areTwo_18 (by decide) (fun c5 => ?_) (fun c5 => ?_)
      · have hr := hi5.1 c5
        refine lv_iconst (v := 0) hx hb dX9_areTwo_25 rfl ?_
        exact W.zret hx hb hrt rfl (fun t ht _ => ⟨ret_i hr, ht⟩) noB dX9_areTwo_26 hlk
      · have hr := hi5.2 c5
        refine lv_iconst (v := 1) hx hb dX9_areTwo_21 rfl ?_
        refine lv_goto (tgt := 26) hx hb dX9_areTwo_22 (by decide) ?_
        exact W.zret hx hb hrt rfl (fun t ht _ => ⟨ret_i hr, ht⟩) noB dX9_areTwo_26 hlk
theorem cw_X9_areTwo {R : Room} {s : State} {args : Array Value} {own : String} {index : Nat} (hts : ∀ w ∈ lw_all, w.before args s = true) (hlink : Cond.methodLink own index yX9_areTwo ∈ lw_all) (hR : rm_X9_areTwo.frames + 1 ≤ R.frames ∧ 8 + (3 + 11) + rm_X9_areTwo.locals ≤ R.locals) : CallW R s args own RX9 index yX9_areTwo cX9_areTwo 3 (some FieldType.boolean) (ws_ yX9_areTwo cX9_areTwo 3 (some FieldType.boolean)) rm_X9_areTwo rm_X9_areTwo.cells rm_X9_areTwo.slots 2 :=
  cwV 2 hts (lw_V hlink q1490 qs93 q111 q1491) rfl rfl rfl (by decide +kernel) hR
def f_X9_noFar (g : MS) (a1 : Int32) : Option (Int32 × MS) := Option.bind (f_X9_no g a1) fun o1 => some (((1000000000 : Int32) - o1.1), o1.2)
abbrev rm_X9_noFar : Room := ({ frames := 2, cells := 0, slots := 0, locals := 39 })
set_option maxHeartbeats 4000000 in
theorem m_X9_noFar (l : Launch) (D : va_G) (am : Nat → Nat) (ac : Nat → ClassId) (g : MS) (a1 : Int32) (sz : Nat) (r0 : Int32 × MS) (hr : f_X9_noFar g a1 = some r0) : WM l yX9_noFar cX9_noFar 2 (some FieldType.int) rm_X9_noFar [.ref (am 0), .int a1] D ac (wM am ac g) (wM am ac r0.2) sz (some (.int r0.1)) := by
  refine fw_of (by decide) (Nat.le_of_ble_eq_true rfl) ?_
  intro p e s m below meth c ls hx hb hrt hts hown hlk hml _ hU hl
  obtain ⟨rfl, hP, hG, hD⟩ := hU
  have hA : ∀ q : Nat, s.heap.size ≤ q → va_A (wM am ac g) s.heap.size q := fun q h => Or.inr h
  have hS := Stt.start hP hD
  show WW p l e rm_X9_noFar s m [.ref (am 0), .int a1] below meth c D (wM am ac r0.2) (va_A (wM am ac g) s.heap.size) (some (.int r0.1)) s.heap [] 0 0 0 ls []
  have hl : lv_has ls 2 [(0, .ref (am 0)), (1, .int a1)] := hl
  rw [f_X9_noFar] at hr
  refine lv_ldc (v := 1000000000) hx hb hown (hts _ q1462) dX9_noFar_0 ?_
  refine lv_aload_n hx hb dX9_noFar_2 rfl (lv_at hl 0 rfl) ?_
  refine lv_iload_n hx hb dX9_noFar_3 rfl (lv_at hl 1 rfl) ?_
  obtain ⟨o1, ho1, hr⟩ := br_bind hr
  refine fwWVs (As := [.int a1]) (rest := [.int 1000000000]) (C := RX9) hx hb hml hown hts (m_X9_no l D am ac g a1 _ o1 ho1) (cw_X9_no hts q1263 ⟨Nat.le_of_ble_eq_true rfl, Nat.le_of_ble_eq_true rfl⟩) hG hS hA rfl 0 8 rfl rfl rfl hl.1 rfl (Nat.le_of_ble_eq_true rfl) dX9_noFar_4 ⟨Nat.le_of_ble_eq_true rfl, Nat.le_of_ble_eq_true rfl⟩ (fun H locs hS => ?_)
  have hP := hS.1
  refine lv_isub hx hb dX9_noFar_7 ?_
  obtain rfl := Option.some.inj hr
  refine W.widen (k := rm_X9_noFar.cells) (n := rm_X9_noFar.slots) (Nat.le_of_ble_eq_true rfl) (Nat.le_of_ble_eq_true rfl) ?_
  exact W.iret hx hb hrt (fun t ht _ => hS.q ht rfl) hS.2.2.2.2 dX9_noFar_8 hlk
theorem cw_X9_noFar {R : Room} {s : State} {args : Array Value} {own : String} {index : Nat} (hts : ∀ w ∈ lw_all, w.before args s = true) (hlink : Cond.methodLink own index yX9_noFar ∈ lw_all) (hR : rm_X9_noFar.frames + 1 ≤ R.frames ∧ 8 + (2 + 11) + rm_X9_noFar.locals ≤ R.locals) : CallW R s args own RX9 index yX9_noFar cX9_noFar 2 (some FieldType.int) (ws_ yX9_noFar cX9_noFar 2 (some FieldType.int)) rm_X9_noFar rm_X9_noFar.cells rm_X9_noFar.slots 1 :=
  cwV 1 hts (lw_V hlink q1494 qs94 q111 q1495) rfl rfl rfl (by decide +kernel) hR
def f_X9_gain (g : MS) (a1 : Int32) (a2 : Int32) : Option (Int32 × MS) := Option.bind (f_X9_areTwo g a1 a2) fun o1 => if o1 = 0 then Option.bind (f_X9_noFar g (-1 : Int32)) fun o3 => some (o3.1, o3.2) else Option.bind (f_X9_biteFor g (mG_left g) a1 (1 : Int32)) fun o4 => Option.bind (f_X9_after (mG_left g) o4) fun o5 => Option.bind (f_X9_shareOf g o5 a2) fun o6 => Option.bind (f_X9_shareOf g (mG_left g) a2) fun o7 => some ((o6 - o7), g)
abbrev rm_X9_gain : Room := ({ frames := 7, cells := 0, slots := 0, locals := 164 })
set_option maxHeartbeats 4000000 in
theorem m_X9_gain (l : Launch) (D : va_G) (am : Nat → Nat) (ac : Nat → ClassId) (g : MS) (a1 : Int32) (a2 : Int32) (sz : Nat) (r0 : Int32 × MS) (hr : f_X9_gain g a1 a2 = some r0) : WM l yX9_gain cX9_gain 3 (some FieldType.int) rm_X9_gain [.ref (am 0), .int a1, .int a2] D ac (wM am ac g) (wM am ac r0.2) sz (some (.int r0.1)) := by
  refine fw_of (by decide) (Nat.le_of_ble_eq_true rfl) ?_
  intro p e s m below meth c ls hx hb hrt hts hown hlk hml _ hU hl
  obtain ⟨rfl, hP, hG, hD⟩ := hU
  have hA : ∀ q : Nat, s.heap.size ≤ q → va_A (wM am ac g) s.heap.size q := fun q h => Or.inr h
  have hS := Stt.start hP hD
  show WW p l e rm_X9_gain s m [.ref (am 0), .int a1, .int a2] below meth c D (wM am ac r0.2) (va_A (wM am ac g) s.heap.size) (some (.int r0.1)) s.heap [] 0 0 0 ls []
  have hl : lv_has ls 3 [(0, .ref (am 0)), (1, .int a1), (2, .int a2)] := hl
  rw [f_X9_gain] at hr
  refine lv_aload_n hx hb dX9_gain_0 rfl (lv_at hl 0 rfl) ?_
  refine lv_iload_n hx hb dX9_gain_1 rfl (lv_at hl 1 rfl) ?_
  refine lv_iload_n hx hb dX9_gain_2 rfl (lv_at hl 2 rfl) ?_
  obtain ⟨o1, ho1, hr⟩ := br_bind hr
  refine fwRV (As := [.int a1, .int a2]) (rest := []) (C := RX9) hx hb hml hown hts (m_X9_areTwo l D am ac g  a1 a2 o1 ho1) (cw_X9_areTwo hts q1488 ⟨Nat.le_of_ble_eq_true rfl, Nat.le_of_ble_eq_true rfl⟩) hG hP hP 0 8 rfl rfl rfl hl.1 rfl (Nat.le_of_ble_eq_true rfl) dX9_gain_3 ⟨Nat.le_of_ble_eq_true rfl, Nat.le_of_ble_eq_true rfl⟩ ?_
  have hi2 := br_ite hr
  refine lv_if_eq (tgt := 44) hx hb dX9_gain_6 (by decide) (fun c2 => ?_) (fun c2 => ?_)
  · have hr := hi2.1 c2
    refine lv_aload_n hx hb dX9_gain_44 rfl (lv_at hl 0 rfl) ?_
    refine lv_iconst (v := (-1)) hx hb dX9_gain_45 rfl ?_
    obtain ⟨o3, ho3, hr⟩ := br_bind hr
    refine fwWVs (As := [.int (-1)]) (rest := []) (C := RX9) hx hb hml hown hts (m_X9_noFar l D am ac g (-1 : Int32) _ o3 ho3) (cw_X9_noFar hts q1492 ⟨Nat.le_of_ble_eq_true rfl, Nat.le_of_ble_eq_true rfl⟩) hG hS hA rfl 0 8 rfl rfl rfl hl.1 rfl (Nat.le_of_ble_eq_true rfl) dX9_gain_46 ⟨Nat.le_of_ble_eq_true rfl, Nat.le_of_ble_eq_true rfl⟩ (fun H locs hS => ?_)
    have hP := hS.1
    obtain rfl := Option.some.inj hr
    refine W.widen (k := rm_X9_gain.cells) (n := rm_X9_gain.slots) (Nat.le_of_ble_eq_true rfl) (Nat.le_of_ble_eq_true rfl) ?_
    exact W.iret hx hb hrt (fun t ht _ => hS.q ht rfl) hS.2.2.2.2 dX9_gain_49 hlk
  · have hr := hi2.2 c2
    refine lv_aload_n hx hb dX9_gain_9 rfl (lv_at hl 0 rfl) ?_
    refine lv_aload_n hx hb dX9_gain_10 rfl (lv_at hl 0 rfl) ?_
    refine va_get (D := D) (ci := 8) (v := .int (mG_left g)) (C := RX9) (T := TX9) (N := 26) hx hb hts in_X9 hown hG.1 hP 0 rfl rfl 0 (by decide) (hts _ q1180) (fun _ h9 => h9) rfl dX9_gain_11 ?_
    refine lv_aload_n hx hb dX9_gain_14 rfl (lv_at hl 0 rfl) ?_
    refine lv_aload_n hx hb dX9_gain_15 rfl (lv_at hl 0 rfl) ?_
    refine va_get (D := D) (ci := 8) (v := .int (mG_left g)) (C := RX9) (T := TX9) (N := 26) hx hb hts in_X9 hown hG.1 hP 0 rfl rfl 0 (by decide) (hts _ q1180) (fun _ h9 => h9) rfl dX9_gain_16 ?_
    refine lv_iload_n hx hb dX9_gain_19 rfl (lv_at hl 1 rfl) ?_
    refine lv_iconst (v := 1) hx hb dX9_gain_20 rfl ?_
    obtain ⟨o4, ho4, hr⟩ := br_bind hr
    refine fwRV (As := [.int (mG_left g), .int a1, .int 1]) (rest := [.int (mG_left g), .ref (am 0)]) (C := RX9) hx hb hml hown hts (m_X9_biteFor l D am ac g  (mG_left g) a1 (1 : Int32) o4 ho4) (cw_X9_biteFor hts q1427 ⟨Nat.le_of_ble_eq_true rfl, Nat.le_of_ble_eq_true rfl⟩) hG hP hP 0 8 rfl rfl rfl hl.1 rfl (Nat.le_of_ble_eq_true rfl) dX9_gain_21 ⟨Nat.le_of_ble_eq_true rfl, Nat.le_of_ble_eq_true rfl⟩ ?_
    obtain ⟨o5, ho5, hr⟩ := br_bind hr
    refine fwS (As := [.int (mG_left g), .int o4]) (rest := [.ref (am 0)]) hx hb hml hown hts (m_X9_after l (mG_left g) o4 o5 ho5) (cw_X9_after hts q1431 ⟨Nat.le_of_ble_eq_true rfl, Nat.le_of_ble_eq_true rfl⟩) rfl hl.1 rfl (Nat.le_of_ble_eq_true rfl) dX9_gain_24 ⟨Nat.le_of_ble_eq_true rfl, Nat.le_of_ble_eq_true rfl⟩ ?_
    refine lv_iload_n hx hb dX9_gain_27 rfl (lv_at hl 2 rfl) ?_
    obtain ⟨o6, ho6, hr⟩ := br_bind hr
    refine fwRV (As := [.int o5, .int a2]) (rest := []) (C := RX9) hx hb hml hown hts (m_X9_shareOf l D am ac g  o5 a2 o6 ho6) (cw_X9_shareOf hts q1352 ⟨Nat.le_of_ble_eq_true rfl, Nat.le_of_ble_eq_true rfl⟩) hG hP hP 0 8 rfl rfl rfl hl.1 rfl (Nat.le_of_ble_eq_true rfl) dX9_gain_28 ⟨Nat.le_of_ble_eq_true rfl, Nat.le_of_ble_eq_true rfl⟩ ?_
    refine lv_aload_n hx hb dX9_gain_31 rfl (lv_at hl 0 rfl) ?_
    refine lv_aload_n hx hb dX9_gain_32 rfl (lv_at hl 0 rfl) ?_
    refine va_get (D := D) (ci := 8) (v := .int (mG_left g)) (C := RX9) (T := TX9) (N := 26) hx hb hts in_X9 hown hG.1 hP 0 rfl rfl 0 (by decide) (hts _ q1180) (fun _ h9 => h9) rfl dX9_gain_33 ?_
    refine lv_iload_n hx hb dX9_gain_36 rfl (lv_at hl 2 rfl) ?_
    obtain ⟨o7, ho7, hr⟩ := br_bind hr
    refine fwRV (As := [.int (mG_left g), .int a2]) (rest := [.int o6]) (C := RX9) hx hb hml hown hts (m_X9_shareOf l D am ac g  (mG_left g) a2 o7 ho7) (cw_X9_shareOf hts q1352 ⟨Nat.le_of_ble_eq_true rfl, Nat.le_of_ble_eq_true rfl⟩) hG hP hP 0 8 rfl rfl rfl hl.1 rfl (Nat.le_of_ble_eq_true rfl) dX9_gain_37 ⟨Nat.le_of_ble_eq_true rfl, Nat.le_of_ble_eq_true rfl⟩ ?_
    refine lv_isub hx hb dX9_gain_40 ?_
    refine lv_goto (tgt := 49) hx hb dX9_gain_41 (by decide) ?_
    obtain rfl := Option.some.inj hr
    refine W.widen (k := rm_X9_gain.cells) (n := rm_X9_gain.slots) (Nat.le_of_ble_eq_true rfl) (Nat.le_of_ble_eq_true rfl) ?_
    exact W.iret hx hb hrt (fun t ht _ => hS.q ht rfl) hS.2.2.2.2 dX9_gain_49 hlk
theorem cw_X9_gain {R : Room} {s : State} {args : Array Value} {own : String} {index : Nat} (hts : ∀ w ∈ lw_all, w.before args s = true) (hlink : Cond.methodLink own index yX9_gain ∈ lw_all) (hR : rm_X9_gain.frames + 1 ≤ R.frames ∧ 8 + (3 + 11) + rm_X9_gain.locals ≤ R.locals) : CallW R s args own RX9 index yX9_gain cX9_gain 3 (some FieldType.int) (ws_ yX9_gain cX9_gain 3 (some FieldType.int)) rm_X9_gain rm_X9_gain.cells rm_X9_gain.slots 2 :=
  cwV 2 hts (lw_V hlink q1485 q1486 q111 q1487) rfl rfl rfl (by decide +kernel) hR
def f_X9_join (g : MS) (a1 : Int32) : Option (Int32 × MS) := Option.bind (f_X9_isCell a1) fun o1 => if o1 = 0 then Option.bind (f_X9_no g (-1 : Int32)) fun o7 => some (o7.1, o7.2) else Option.bind (f_X9_has (mG_left g) a1) fun o3 => if o3 = 0 then Option.bind (f_X9_heaps ((mG_left g) ||| ((1 : Int32) <<< (a1 &&& 31)))) fun o5 => some (o5, g) else Option.bind (f_X9_no g (-3 : Int32)) fun o6 => some (o6.1, o6.2)
abbrev rm_X9_join : Room := ({ frames := 4, cells := 0, slots := 0, locals := 86 })
set_option maxHeartbeats 4000000 in
theorem m_X9_join (l : Launch) (D : va_G) (am : Nat → Nat) (ac : Nat → ClassId) (g : MS) (a1 : Int32) (sz : Nat) (r0 : Int32 × MS) (hr : f_X9_join g a1 = some r0) : WM l yX9_join cX9_join 2 (some FieldType.int) rm_X9_join [.ref (am 0), .int a1] D ac (wM am ac g) (wM am ac r0.2) sz (some (.int r0.1)) := by
  refine fw_of (by decide) (Nat.le_of_ble_eq_true rfl) ?_
  intro p e s m below meth c ls hx hb hrt hts hown hlk hml _ hU hl
  obtain ⟨rfl, hP, hG, hD⟩ := hU
  have hA : ∀ q : Nat, s.heap.size ≤ q → va_A (wM am ac g) s.heap.size q := fun q h => Or.inr h
  have hS := Stt.start hP hD
  show WW p l e rm_X9_join s m [.ref (am 0), .int a1] below meth c D (wM am ac r0.2) (va_A (wM am ac g) s.heap.size) (some (.int r0.1)) s.heap [] 0 0 0 ls []
  have hl : lv_has ls 2 [(0, .ref (am 0)), (1, .int a1)] := hl
  rw [f_X9_join] at hr
  refine lv_iload_n hx hb dX9_join_0 rfl (lv_at hl 1 rfl) ?_
  obtain ⟨o1, ho1, hr⟩ := br_bind hr
  refine fwS (As := [.int a1]) (rest := []) hx hb hml hown hts (m_X9_isCell l a1 o1 ho1) (cw_X9_isCell hts q1301 ⟨Nat.le_of_ble_eq_true rfl, Nat.le_of_ble_eq_true rfl⟩) rfl hl.1 rfl (Nat.le_of_ble_eq_true rfl) dX9_join_1 ⟨Nat.le_of_ble_eq_true rfl, Nat.le_of_ble_eq_true rfl⟩ ?_
  have hi2 := br_ite hr
  refine lv_if_ne (tgt := 13) hx hb dX9_join_4 (by decide) (fun c2 => ?_) (fun c2 => ?_)
  · have hr := hi2.2 c2
    refine lv_aload_n hx hb dX9_join_13 rfl (lv_at hl 0 rfl) ?_
    refine va_get (D := D) (ci := 8) (v := .int (mG_left g)) (C := RX9) (T := TX9) (N := 26) hx hb hts in_X9 hown hG.1 hP 0 rfl rfl 0 (by decide) (hts _ q1180) (fun _ h9 => h9) rfl dX9_join_14 ?_
    refine lv_iload_n hx hb dX9_join_17 rfl (lv_at hl 1 rfl) ?_
    obtain ⟨o3, ho3, hr⟩ := br_bind hr
    refine fwS (As := [.int (mG_left g), .int a1]) (rest := []) hx hb hml hown hts (m_X9_has l (mG_left g) a1 o3 ho3) (cw_X9_has hts q1365 ⟨Nat.le_of_ble_eq_true rfl, Nat.le_of_ble_eq_true rfl⟩) rfl hl.1 rfl (Nat.le_of_ble_eq_true rfl) dX9_join_18 ⟨Nat.le_of_ble_eq_true rfl, Nat.le_of_ble_eq_true rfl⟩ ?_
    have hi4 := br_ite hr
    refine lv_if_eq (tgt := 33) hx hb dX9_join_21 (by decide) (fun c4 => ?_) (fun c4 => ?_)
    · have hr := hi4.1 c4
      refine lv_aload_n hx hb dX9_join_33 rfl (lv_at hl 0 rfl) ?_
      refine va_get (D := D) (ci := 8) (v := .int (mG_left g)) (C := RX9) (T := TX9) (N := 26) hx hb hts in_X9 hown hG.1 hP 0 rfl rfl 0 (by decide) (hts _ q1180) (fun _ h9 => h9) rfl dX9_join_34 ?_
      refine lv_iconst (v := 1) hx hb dX9_join_37 rfl ?_
      refine lv_iload_n hx hb dX9_join_38 rfl (lv_at hl 1 rfl) ?_
      refine lv_ishl hx hb dX9_join_39 ?_
      refine lv_ior hx hb dX9_join_40 ?_
      obtain ⟨o5, ho5, hr⟩ := br_bind hr
      refine fwS (As := [.int ((mG_left g) ||| ((1 : Int32) <<< (a1 &&& 31)))]) (rest := []) hx hb hml hown hts (m_X9_heaps l ((mG_left g) ||| ((1 : Int32) <<< (a1 &&& 31))) o5 ho5) (cw_X9_heaps hts q1371 ⟨Nat.le_of_ble_eq_true rfl, Nat.le_of_ble_eq_true rfl⟩) rfl hl.1 rfl (Nat.le_of_ble_eq_true rfl) dX9_join_41 ⟨Nat.le_of_ble_eq_true rfl, Nat.le_of_ble_eq_true rfl⟩ ?_
      obtain rfl := Option.some.inj hr
      refine W.widen (k := rm_X9_join.cells) (n := rm_X9_join.slots) (Nat.le_of_ble_eq_true rfl) (Nat.le_of_ble_eq_true rfl) ?_
      exact W.iret hx hb hrt (fun t ht _ => hS.q ht rfl) hS.2.2.2.2 dX9_join_44 hlk
    · have hr := hi4.2 c4
      refine lv_aload_n hx hb dX9_join_24 rfl (lv_at hl 0 rfl) ?_
      refine lv_bipush (v := (-3)) hx hb dX9_join_25 rfl ?_
      obtain ⟨o6, ho6, hr⟩ := br_bind hr
      refine fwWVs (As := [.int (-3)]) (rest := []) (C := RX9) hx hb hml hown hts (m_X9_no l D am ac g (-3 : Int32) _ o6 ho6) (cw_X9_no hts q1263 ⟨Nat.le_of_ble_eq_true rfl, Nat.le_of_ble_eq_true rfl⟩) hG hS hA rfl 0 8 rfl rfl rfl hl.1 rfl (Nat.le_of_ble_eq_true rfl) dX9_join_27 ⟨Nat.le_of_ble_eq_true rfl, Nat.le_of_ble_eq_true rfl⟩ (fun H locs hS => ?_)
      have hP := hS.1
      refine lv_goto (tgt := 44) hx hb dX9_join_30 (by decide) ?_
      obtain rfl := Option.some.inj hr
      refine W.widen (k := rm_X9_join.cells) (n := rm_X9_join.slots) (Nat.le_of_ble_eq_true rfl) (Nat.le_of_ble_eq_true rfl) ?_
      exact W.iret hx hb hrt (fun t ht _ => hS.q ht rfl) hS.2.2.2.2 dX9_join_44 hlk
  · have hr := hi2.1 c2
    refine lv_aload_n hx hb dX9_join_7 rfl (lv_at hl 0 rfl) ?_
    refine lv_iconst (v := (-1)) hx hb dX9_join_8 rfl ?_
    obtain ⟨o7, ho7, hr⟩ := br_bind hr
    refine fwWVs (As := [.int (-1)]) (rest := []) (C := RX9) hx hb hml hown hts (m_X9_no l D am ac g (-1 : Int32) _ o7 ho7) (cw_X9_no hts q1263 ⟨Nat.le_of_ble_eq_true rfl, Nat.le_of_ble_eq_true rfl⟩) hG hS hA rfl 0 8 rfl rfl rfl hl.1 rfl (Nat.le_of_ble_eq_true rfl) dX9_join_9 ⟨Nat.le_of_ble_eq_true rfl, Nat.le_of_ble_eq_true rfl⟩ (fun H locs hS => ?_)
    have hP := hS.1
    obtain rfl := Option.some.inj hr
    refine W.widen (k := rm_X9_join.cells) (n := rm_X9_join.slots) (Nat.le_of_ble_eq_true rfl) (Nat.le_of_ble_eq_true rfl) ?_
    exact W.iret hx hb hrt (fun t ht _ => hS.q ht rfl) hS.2.2.2.2 dX9_join_12 hlk
theorem cw_X9_join {R : Room} {s : State} {args : Array Value} {own : String} {index : Nat} (hts : ∀ w ∈ lw_all, w.before args s = true) (hlink : Cond.methodLink own index yX9_join ∈ lw_all) (hR : rm_X9_join.frames + 1 ≤ R.frames ∧ 8 + (2 + 11) + rm_X9_join.locals ≤ R.locals) : CallW R s args own RX9 index yX9_join cX9_join 2 (some FieldType.int) (ws_ yX9_join cX9_join 2 (some FieldType.int)) rm_X9_join rm_X9_join.cells rm_X9_join.slots 1 :=
  cwV 1 hts (lw_V hlink q1497 q1498 q111 q1499) rfl rfl rfl (by decide +kernel) hR
def f_X9_stepsFrom_L4 (g : MS) (a1 : Int32) : Nat → Int32 → Int32 → Option (Int32)
  | 0, _, _ => none
  | n + 1, x3_1, x2_1 => if 25 ≤ x3_1 then some x2_1 else Option.bind (some (((x3_1 / 5) - (a1 / 5)) : Int32)) fun v3 => Option.bind (some (((x3_1 - x3_1 / 5 * 5) - (a1 - a1 / 5 * 5)) : Int32)) fun v4 => Option.bind (f_X9_has (mG_left g) x3_1) fun o5 => if o5 = 0 then Option.bind (some ((x2_1 + 0) : Int32)) fun v7 => Option.bind (some ((x3_1 + 1) : Int32)) fun v8 => f_X9_stepsFrom_L4 g a1 n v8 v7 else Option.bind (f_X9_most v3 (-v3)) fun o9 => Option.bind (f_X9_most v4 (-v4)) fun o10 => Option.bind (some ((x2_1 + (o9 + o10)) : Int32)) fun v11 => Option.bind (some ((x3_1 + 1) : Int32)) fun v12 => f_X9_stepsFrom_L4 g a1 n v12 v11
def f_X9_stepsFrom (g : MS) (a1 : Int32) : Option (Int32) := Option.bind (f_X9_stepsFrom_L4 g a1 1000 0 0) fun o1 => some o1
abbrev rm_X9_stepsFrom : Room := ({ frames := 2, cells := 0, slots := 0, locals := 39 })
set_option maxHeartbeats 4000000 in
theorem m_X9_stepsFrom (l : Launch) (D : va_G) (am : Nat → Nat) (ac : Nat → ClassId) (g : MS) (a1 : Int32) (r0 : Int32) (hr : f_X9_stepsFrom g a1 = some r0) : PM l yX9_stepsFrom cX9_stepsFrom 6 (some FieldType.int) rm_X9_stepsFrom [.ref (am 0), .int a1] (RP D ac (wM am ac g)) (some (.int r0)) := by
  refine fw_of (by decide) (Nat.le_of_ble_eq_true rfl) ?_
  intro p e s m below meth c ls hx hb hrt hts hown hlk hml _ hU hl
  obtain ⟨hP, hG⟩ := hU
  have hl : lv_has ls 6 [(0, .ref (am 0)), (1, .int a1)] := hl
  rw [f_X9_stepsFrom] at hr
  refine lv_iconst (v := 0) hx hb dX9_stepsFrom_0 rfl ?_
  refine lv_istore_n (lv' := [(2, .int 0), (0, .ref (am 0)), (1, .int a1)]) hx hb dX9_stepsFrom_1 rfl hl (by decide) rfl (fun ls hl => ?_)
  refine lv_iconst (v := 0) hx hb dX9_stepsFrom_2 rfl ?_
  refine lv_istore_n (lv' := [(3, .int 0), (2, .int 0), (0, .ref (am 0)), (1, .int a1)]) hx hb dX9_stepsFrom_3 rfl hl (by decide) rfl (fun ls hl => ?_)
  have L1 : ∀ (n : Nat) (x3_1 : Int32) (x2_1 : Int32) (o1 : Int32), f_X9_stepsFrom_L4 g a1 n x3_1 x2_1 = some o1 → ∀ ls, lv_has ls 6 [(3, .int x3_1), (2, .int x2_1), (0, .ref (am 0)), (1, .int a1)] → (∀ ls, lv_has ls 6 [(2, .int o1)] → WP p l e rm_X9_stepsFrom s m [.ref (am 0), .int a1] below meth c (some (.int r0)) 69 ls []) → WP p l e rm_X9_stepsFrom s m [.ref (am 0), .int a1] below meth c (some (.int r0)) 4 ls [] := by
    intro n
    induction n with
    | zero => intro x3_1 x2_1 o1 hr; rw [f_X9_stepsFrom_L4] at hr; cases hr
    | succ n ih =>
      intro x3_1 x2_1 o1 hr ls hl kx
      rw [f_X9_stepsFrom_L4] at hr
      refine lv_iload_n hx hb dX9_stepsFrom_4 rfl (lv_at hl 0 rfl) ?_
      refine lv_bipush (v := 25) hx hb dX9_stepsFrom_5 rfl ?_
      have hi2 := br_ite hr
      refine lv_icmp_ge (tgt := 69) hx hb dX9_stepsFrom_7 (by decide) (fun c2 => ?_) (fun c2 => ?_)
      · have hr := hi2.1 c2
        obtain rfl := Option.some.inj hr
        exact kx ls (lv_sub hl [1] rfl)
      · have hr := hi2.2 c2
        refine lv_iload_n hx hb dX9_stepsFrom_10 rfl (lv_at hl 0 rfl) ?_
        refine lv_iconst (v := 5) hx hb dX9_stepsFrom_11 rfl ?_
        refine lv_idiv hx hb dX9_stepsFrom_12 (by decide) ?_
        refine lv_iload_n hx hb dX9_stepsFrom_13 rfl (lv_at hl 3 rfl) ?_
        refine lv_iconst (v := 5) hx hb dX9_stepsFrom_14 rfl ?_
        refine lv_idiv hx hb dX9_stepsFrom_15 (by decide) ?_
        refine lv_isub hx hb dX9_stepsFrom_16 ?_
        refine lv_topi (fun v3 hv3 => ?_)
        have hr := br_letv hr hv3
        refine lv_istore (lv' := [(4, .int v3), (3, .int x3_1), (2, .int x2_1), (0, .ref (am 0)), (1, .int a1)]) hx hb dX9_stepsFrom_17 hl (by decide) rfl (fun ls hl => ?_)
        refine lv_iload_n hx hb dX9_stepsFrom_19 rfl (lv_at hl 1 rfl) ?_
        refine lv_iconst (v := 5) hx hb dX9_stepsFrom_20 rfl ?_
        refine lv_irem hx hb dX9_stepsFrom_21 (by decide) ?_
        refine lv_iload_n hx hb dX9_stepsFrom_22 rfl (lv_at hl 4 rfl) ?_
        refine lv_iconst (v := 5) hx hb dX9_stepsFrom_23 rfl ?_
        refine lv_irem hx hb dX9_stepsFrom_24 (by decide) ?_
        refine lv_isub hx hb dX9_stepsFrom_25 ?_
        refine lv_topi (fun v4 hv4 => ?_)
        have hr := br_letv hr hv4
        refine lv_istore (lv' := [(5, .int v4), (4, .int v3), (3, .int x3_1), (2, .int x2_1), (0, .ref (am 0)), (1, .int a1)]) hx hb dX9_stepsFrom_26 hl (by decide) rfl (fun ls hl => ?_)
        refine lv_iload_n hx hb dX9_stepsFrom_28 rfl (lv_at hl 3 rfl) ?_
        refine lv_aload_n hx hb dX9_stepsFrom_29 rfl (lv_at hl 4 rfl) ?_
        refine va_get (D := D) (ci := 8) (v := .int (mG_left g)) (C := RX9) (T := TX9) (N := 26) hx hb hts in_X9 hown hG.1 hP 0 rfl rfl 0 (by decide) (hts _ q1180) (fun _ h9 => h9) rfl dX9_stepsFrom_30 ?_
        refine lv_iload_n hx hb dX9_stepsFrom_33 rfl (lv_at hl 2 rfl) ?_
        obtain ⟨o5, ho5, hr⟩ := br_bind hr
        refine fwS (As := [.int (mG_left g), .int x3_1]) (rest := [.int x2_1]) hx hb hml hown hts (m_X9_has l (mG_left g) x3_1 o5 ho5) (cw_X9_has hts q1365 ⟨Nat.le_of_ble_eq_true rfl, Nat.le_of_ble_eq_true rfl⟩) rfl hl.1 rfl (Nat.le_of_ble_eq_true rfl) dX9_stepsFrom_34 ⟨Nat.le_of_ble_eq_true rfl, Nat.le_of_ble_eq_true rfl⟩ ?_
        have hi6 := br_ite hr
        refine lv_if_eq (tgt := 60) hx hb dX9_stepsFrom_37 (by decide) (fun c6 => ?_) (fun c6 => ?_)
        · have hr := hi6.1 c6
          refine lv_iconst (v := 0) hx hb dX9_stepsFrom_60 rfl ?_
          refine lv_iadd hx hb dX9_stepsFrom_61 ?_
          refine lv_topi (fun v7 hv7 => ?_)
          have hr := br_letv hr hv7
          refine lv_istore_n (lv' := [(2, .int v7), (5, .int v4), (4, .int v3), (3, .int x3_1), (0, .ref (am 0)), (1, .int a1)]) hx hb dX9_stepsFrom_62 rfl hl (by decide) rfl (fun ls hl => ?_)
          obtain ⟨v8, hv8, hr⟩ := br_let hr
          refine lv_iinc (v := v8) (lv' := [(3, .int v8), (2, .int v7), (5, .int v4), (4, .int v3), (0, .ref (am 0)), (1, .int a1)]) hx hb dX9_stepsFrom_63 hl (k := 3) rfl (hv8 ▸ rfl) (by decide) rfl (fun ls hl => ?_)
          refine lv_goto (tgt := 4) hx hb dX9_stepsFrom_66 (by decide) ?_
          exact ih v8 v7 _ hr ls (lv_sub hl [0, 1, 4, 5] rfl) kx
        · have hr := hi6.2 c6
          refine lv_iload hx hb dX9_stepsFrom_40 (lv_at hl 1 rfl) ?_
          refine lv_iload hx hb dX9_stepsFrom_42 (lv_at hl 1 rfl) ?_
          refine lv_ineg hx hb dX9_stepsFrom_44 ?_
          obtain ⟨o9, ho9, hr⟩ := br_bind hr
          refine fwS (As := [.int v3, .int (-v3)]) (rest := [.int x2_1]) hx hb hml hown hts (m_X9_most l v3 (-v3) o9 ho9) (cw_X9_most hts q1368 ⟨Nat.le_of_ble_eq_true rfl, Nat.le_of_ble_eq_true rfl⟩) rfl hl.1 rfl (Nat.le_of_ble_eq_true rfl) dX9_stepsFrom_45 ⟨Nat.le_of_ble_eq_true rfl, Nat.le_of_ble_eq_true rfl⟩ ?_
          refine lv_iload hx hb dX9_stepsFrom_48 (lv_at hl 0 rfl) ?_
          refine lv_iload hx hb dX9_stepsFrom_50 (lv_at hl 0 rfl) ?_
          refine lv_ineg hx hb dX9_stepsFrom_52 ?_
          obtain ⟨o10, ho10, hr⟩ := br_bind hr
          refine fwS (As := [.int v4, .int (-v4)]) (rest := [.int o9, .int x2_1]) hx hb hml hown hts (m_X9_most l v4 (-v4) o10 ho10) (cw_X9_most hts q1368 ⟨Nat.le_of_ble_eq_true rfl, Nat.le_of_ble_eq_true rfl⟩) rfl hl.1 rfl (Nat.le_of_ble_eq_true rfl) dX9_stepsFrom_53 ⟨Nat.le_of_ble_eq_true rfl, Nat.le_of_ble_eq_true rfl⟩ ?_
          refine lv_iadd hx hb dX9_stepsFrom_56 ?_
          refine lv_goto (tgt := 61) hx hb dX9_stepsFrom_57 (by decide) ?_
          refine lv_iadd hx hb dX9_stepsFrom_61 ?_
          refine lv_topi (fun v11 hv11 => ?_)
          have hr := br_letv hr hv11
          refine lv_istore_n (lv' := [(2, .int v11), (5, .int v4), (4, .int v3), (3, .int x3_1), (0, .ref (am 0)), (1, .int a1)]) hx hb dX9_stepsFrom_62 rfl hl (by decide) rfl (fun ls hl => ?_)
          obtain ⟨v12, hv12, hr⟩ := br_let hr
          refine lv_iinc (v := v12) (lv' := [(3, .int v12), (2, .int v11), (5, .int v4), (4, .int v3), (0, .ref (am 0)), (1, .int a1)]) hx hb dX9_stepsFrom_63 hl (k := 3) rfl (hv12 ▸ rfl) (by decide) rfl (fun ls hl => ?_)
          refine lv_goto (tgt := 4) hx hb dX9_stepsFrom_66 (by decide) ?_
          exact ih v12 v11 _ hr ls (lv_sub hl [0, 1, 4, 5] rfl) kx
  obtain ⟨o1, ho1, hr⟩ := br_bind hr
  refine L1 1000 0 0 o1 ho1 ls (lv_sub hl [0, 1, 2, 3] rfl) (fun ls hl => ?_)
  refine lv_iload_n hx hb dX9_stepsFrom_69 rfl (lv_at hl 0 rfl) ?_
  exact W.iret hx hb hrt (fun t ht _ => ⟨ret_i hr, ht⟩) noB dX9_stepsFrom_70 hlk
theorem cw_X9_stepsFrom {R : Room} {s : State} {args : Array Value} {own : String} {index : Nat} (hts : ∀ w ∈ lw_all, w.before args s = true) (hlink : Cond.methodLink own index yX9_stepsFrom ∈ lw_all) (hR : rm_X9_stepsFrom.frames + 1 ≤ R.frames ∧ 8 + (6 + 11) + rm_X9_stepsFrom.locals ≤ R.locals) : CallW R s args own RX9 index yX9_stepsFrom cX9_stepsFrom 6 (some FieldType.int) (ws_ yX9_stepsFrom cX9_stepsFrom 6 (some FieldType.int)) rm_X9_stepsFrom rm_X9_stepsFrom.cells rm_X9_stepsFrom.slots 1 :=
  cwV 1 hts (lw_V hlink q1506 qs95 q111 q1507) rfl rfl rfl (by decide +kernel) hR
def f_X9_bridge_L29 (g : MS) : Nat → Int32 → Int32 → Int32 → Int32 → Option (Int32 × Int32 × Int32)
  | 0, _, _, _, _ => none
  | n + 1, x5_3, x4_3, x3_3, x2_3 => if x5_3 < 0 then some (x4_3, x3_3, x2_3) else Option.bind (f_X9_has (mG_left g) x5_3) fun o5 => if o5 = 0 then Option.bind (some ((x5_3 + (-1)) : Int32)) fun v23 => f_X9_bridge_L29 g n v23 x4_3 x3_3 x2_3 else Option.bind (f_X9_heaps ((mG_left g) &&& (((1 : Int32) <<< (x5_3 &&& 31)) ^^^ (-1)))) fun o7 => Option.bind (f_X9_heaps (mG_left g)) fun o8 => Option.bind (α := Int32) (if o7 ≤ o8 then some 0 else some 1) fun o10 => Option.bind (α := Int32) (if o10 = 0 then some 0 else some 1) fun o12 => Option.bind (some ((x2_3 + o12) : Int32)) fun v13 => Option.bind (α := Int32) (if o10 = 0 then some x3_3 else some x5_3) fun o15 => if x4_3 < 0 then Option.bind (some ((x5_3 + (-1)) : Int32)) fun v17 => f_X9_bridge_L29 g n v17 x5_3 o15 v13 else Option.bind (f_X9_stepsFrom g x5_3) fun o18 => Option.bind (f_X9_stepsFrom g x4_3) fun o19 => if o19 < o18 then Option.bind (some ((x5_3 + (-1)) : Int32)) fun v21 => f_X9_bridge_L29 g n v21 x4_3 o15 v13 else Option.bind (some ((x5_3 + (-1)) : Int32)) fun v22 => f_X9_bridge_L29 g n v22 x5_3 o15 v13
def f_X9_bridge (g : MS) (a1 : Int32) : Option (Int32 × MS) := Option.bind (f_X9_isIn a1 0 2) fun o1 => if o1 = 0 then Option.bind (f_X9_no g (-2 : Int32)) fun o26 => some (o26.1, o26.2) else Option.bind (f_X9_bridge_L29 g 1000 24 (-9) (-9) 0) fun o3 => if a1 = 0 then some (o3.2.2, g) else if a1 = 1 then some (o3.2.1, g) else some (o3.1, g)
abbrev rm_X9_bridge : Room := ({ frames := 4, cells := 0, slots := 0, locals := 86 })
set_option maxHeartbeats 4000000 in
theorem m_X9_bridge (l : Launch) (D : va_G) (am : Nat → Nat) (ac : Nat → ClassId) (g : MS) (a1 : Int32) (sz : Nat) (r0 : Int32 × MS) (hr : f_X9_bridge g a1 = some r0) : WM l yX9_bridge cX9_bridge 7 (some FieldType.int) rm_X9_bridge [.ref (am 0), .int a1] D ac (wM am ac g) (wM am ac r0.2) sz (some (.int r0.1)) := by
  refine fw_of (by decide) (Nat.le_of_ble_eq_true rfl) ?_
  intro p e s m below meth c ls hx hb hrt hts hown hlk hml _ hU hl
  obtain ⟨rfl, hP, hG, hD⟩ := hU
  have hA : ∀ q : Nat, s.heap.size ≤ q → va_A (wM am ac g) s.heap.size q := fun q h => Or.inr h
  have hS := Stt.start hP hD
  show WW p l e rm_X9_bridge s m [.ref (am 0), .int a1] below meth c D (wM am ac r0.2) (va_A (wM am ac g) s.heap.size) (some (.int r0.1)) s.heap [] 0 0 0 ls []
  have hl : lv_has ls 7 [(0, .ref (am 0)), (1, .int a1)] := hl
  rw [f_X9_bridge] at hr
  refine lv_iload_n hx hb dX9_bridge_0 rfl (lv_at hl 1 rfl) ?_
  refine lv_iconst (v := 0) hx hb dX9_bridge_1 rfl ?_
  refine lv_iconst (v := 2) hx hb dX9_bridge_2 rfl ?_
  obtain ⟨o1, ho1, hr⟩ := br_bind hr
  refine fwS (As := [.int a1, .int 0, .int 2]) (rest := []) hx hb hml hown hts (m_X9_isIn l a1 0 2 o1 ho1) (cw_X9_isIn hts q1290 ⟨Nat.le_of_ble_eq_true rfl, Nat.le_of_ble_eq_true rfl⟩) rfl hl.1 rfl (Nat.le_of_ble_eq_true rfl) dX9_bridge_3 ⟨Nat.le_of_ble_eq_true rfl, Nat.le_of_ble_eq_true rfl⟩ ?_
  have hi2 := br_ite hr
  refine lv_if_ne (tgt := 16) hx hb dX9_bridge_6 (by decide) (fun c2 => ?_) (fun c2 => ?_)
  · have hr := hi2.2 c2
    refine lv_iconst (v := 0) hx hb dX9_bridge_16 rfl ?_
    refine lv_istore_n (lv' := [(2, .int 0), (0, .ref (am 0)), (1, .int a1)]) hx hb dX9_bridge_17 rfl hl (by decide) rfl (fun ls hl => ?_)
    refine lv_bipush (v := (-9)) hx hb dX9_bridge_18 rfl ?_
    refine lv_istore_n (lv' := [(3, .int (-9)), (2, .int 0), (0, .ref (am 0)), (1, .int a1)]) hx hb dX9_bridge_20 rfl hl (by decide) rfl (fun ls hl => ?_)
    refine lv_bipush (v := (-9)) hx hb dX9_bridge_21 rfl ?_
    refine lv_istore (lv' := [(4, .int (-9)), (3, .int (-9)), (2, .int 0), (0, .ref (am 0)), (1, .int a1)]) hx hb dX9_bridge_23 hl (by decide) rfl (fun ls hl => ?_)
    refine lv_bipush (v := 24) hx hb dX9_bridge_25 rfl ?_
    refine lv_istore (lv' := [(5, .int 24), (4, .int (-9)), (3, .int (-9)), (2, .int 0), (0, .ref (am 0)), (1, .int a1)]) hx hb dX9_bridge_27 hl (by decide) rfl (fun ls hl => ?_)
    have L3 : ∀ (n : Nat) (x5_3 : Int32) (x4_3 : Int32) (x3_3 : Int32) (x2_3 : Int32) (o3 : Int32 × Int32 × Int32), f_X9_bridge_L29 g n x5_3 x4_3 x3_3 x2_3 = some o3 → ∀ (H : Heap) (locs : List Loc) ls, lv_has ls 7 [(5, .int x5_3), (4, .int x4_3), (3, .int x3_3), (2, .int x2_3), (0, .ref (am 0)), (1, .int a1)] → Stt D (va_A (wM am ac g) s.heap.size) s.heap (wM am ac g) H locs → (∀ (H : Heap) (locs : List Loc) ls, lv_has ls 7 [(4, .int o3.1), (3, .int o3.2.1), (2, .int o3.2.2), (1, .int a1)] → Stt D (va_A (wM am ac g) s.heap.size) s.heap (wM am ac g) H locs → WW p l e rm_X9_bridge s m [.ref (am 0), .int a1] below meth c D (wM am ac r0.2) (va_A (wM am ac g) s.heap.size) (some (.int r0.1)) H locs 0 0 140 ls []) → WW p l e rm_X9_bridge s m [.ref (am 0), .int a1] below meth c D (wM am ac r0.2) (va_A (wM am ac g) s.heap.size) (some (.int r0.1)) H locs 0 0 29 ls [] := by
      intro n
      induction n with
      | zero => intro x5_3 x4_3 x3_3 x2_3 o3 hr; rw [f_X9_bridge_L29] at hr; cases hr
      | succ n ih =>
        intro x5_3 x4_3 x3_3 x2_3 o3 hr H locs ls hl hS kx
        have hP := hS.1
        rw [f_X9_bridge_L29] at hr
        refine lv_iload hx hb dX9_bridge_29 (lv_at hl 0 rfl) ?_
        have hi4 := br_ite hr
        refine lv_if_lt (tgt := 140) hx hb dX9_bridge_31 (by decide) (fun c4 => ?_) (fun c4 => ?_)
        · have hr := hi4.1 c4
          obtain rfl := Option.some.inj hr
          exact kx _ _ ls (lv_sub hl [1, 2, 3, 5] rfl) hS
        · have hr := hi4.2 c4
          refine lv_aload_n hx hb dX9_bridge_34 rfl (lv_at hl 4 rfl) ?_
          refine va_get (D := D) (ci := 8) (v := .int (mG_left g)) (C := RX9) (T := TX9) (N := 26) hx hb hts in_X9 hown hG.1 hP 0 rfl rfl 0 (by decide) (hts _ q1180) (fun _ h9 => h9) rfl dX9_bridge_35 ?_
          refine lv_iload hx hb dX9_bridge_38 (lv_at hl 0 rfl) ?_
          obtain ⟨o5, ho5, hr⟩ := br_bind hr
          refine fwS (As := [.int (mG_left g), .int x5_3]) (rest := []) hx hb hml hown hts (m_X9_has l (mG_left g) x5_3 o5 ho5) (cw_X9_has hts q1365 ⟨Nat.le_of_ble_eq_true rfl, Nat.le_of_ble_eq_true rfl⟩) rfl hl.1 rfl (Nat.le_of_ble_eq_true rfl) dX9_bridge_40 ⟨Nat.le_of_ble_eq_true rfl, Nat.le_of_ble_eq_true rfl⟩ ?_
          have hi6 := br_ite hr
          refine lv_if_ne (tgt := 49) hx hb dX9_bridge_43 (by decide) (fun c6 => ?_) (fun c6 => ?_)
          · have hr := hi6.2 c6
            refine lv_aload_n hx hb dX9_bridge_49 rfl (lv_at hl 4 rfl) ?_
            refine va_get (D := D) (ci := 8) (v := .int (mG_left g)) (C := RX9) (T := TX9) (N := 26) hx hb hts in_X9 hown hG.1 hP 0 rfl rfl 0 (by decide) (hts _ q1180) (fun _ h9 => h9) rfl dX9_bridge_50 ?_
            refine lv_iconst (v := 1) hx hb dX9_bridge_53 rfl ?_
            refine lv_iload hx hb dX9_bridge_54 (lv_at hl 0 rfl) ?_
            refine lv_ishl hx hb dX9_bridge_56 ?_
            refine lv_iconst (v := (-1)) hx hb dX9_bridge_57 rfl ?_
            refine lv_ixor hx hb dX9_bridge_58 ?_
            refine lv_iand hx hb dX9_bridge_59 ?_
            obtain ⟨o7, ho7, hr⟩ := br_bind hr
            refine fwS (As := [.int ((mG_left g) &&& (((1 : Int32) <<< (x5_3 &&& 31)) ^^^ (-1)))]) (rest := []) hx hb hml hown hts (m_X9_heaps l ((mG_left g) &&& (((1 : Int32) <<< (x5_3 &&& 31)) ^^^ (-1))) o7 ho7) (cw_X9_heaps hts q1371 ⟨Nat.le_of_ble_eq_true rfl, Nat.le_of_ble_eq_true rfl⟩) rfl hl.1 rfl (Nat.le_of_ble_eq_true rfl) dX9_bridge_60 ⟨Nat.le_of_ble_eq_true rfl, Nat.le_of_ble_eq_true rfl⟩ ?_
            refine lv_aload_n hx hb dX9_bridge_63 rfl (lv_at hl 4 rfl) ?_
            refine va_get (D := D) (ci := 8) (v := .int (mG_left g)) (C := RX9) (T := TX9) (N := 26) hx hb hts in_X9 hown hG.1 hP 0 rfl rfl 0 (by decide) (hts _ q1180) (fun _ h9 => h9) rfl dX9_bridge_64 ?_
            obtain ⟨o8, ho8, hr⟩ := br_bind hr
            refine fwS (As := [.int (mG_left g)]) (rest := [.int o7]) hx hb hml hown hts (m_X9_heaps l (mG_left g) o8 ho8) (cw_X9_heaps hts q1371 ⟨Nat.le_of_ble_eq_true rfl, Nat.le_of_ble_eq_true rfl⟩) rfl hl.1 rfl (Nat.le_of_ble_eq_true rfl) dX9_bridge_67 ⟨Nat.le_of_ble_eq_true rfl, Nat.le_of_ble_eq_true rfl⟩ ?_
            obtain ⟨o10, ho10, hr⟩ := br_bind hr
            have J10 : ∀ (H : Heap) (locs : List Loc) ls, lv_has ls 7 [(5, .int x5_3), (4, .int x4_3), (3, .int x3_3), (2, .int x2_3), (0, .ref (am 0)), (1, .int a1)] → Stt D (va_A (wM am ac g) s.heap.size) s.heap (wM am ac g) H locs → WW p l e rm_X9_bridge s m [.ref (am 0), .int a1] below meth c D (wM am ac r0.2) (va_A (wM am ac g) s.heap.size) (some (.int r0.1)) H locs 0 0 78 ls [.int o10] := by
              intro H locs ls hl hS
              have hP := hS.1
              refine lv_istore (lv' := [(6, .int o10), (5, .int x5_3), (4, .int x4_3), (3, .int x3_3), (2, .int x2_3), (0, .ref (am 0)), (1, .int a1)]) hx hb dX9_bridge_78 hl (by decide) rfl (fun ls hl => ?_)
              refine lv_iload_n hx hb dX9_bridge_80 rfl (lv_at hl 4 rfl) ?_
              refine lv_iload hx hb dX9_bridge_81 (lv_at hl 0 rfl) ?_
              obtain ⟨o12, ho12, hr⟩ := br_bind hr
              have J12 : ∀ (H : Heap) (locs : List Loc) ls, lv_has ls 7 [(6, .int o10), (5, .int x5_3), (4, .int x4_3), (3, .int x3_3), (0, .ref (am 0)), (1, .int a1)] → Stt D (va_A (wM am ac g) s.heap.size) s.heap (wM am ac g) H locs → WW p l e rm_X9_bridge s m [.ref (am 0), .int a1] below meth c D (wM am ac r0.2) (va_A (wM am ac g) s.heap.size) (some (.int r0.1)) H locs 0 0 91 ls [.int o12, .int x2_3] := by
                intro H locs ls hl hS
                have hP := hS.1
                refine lv_iadd hx hb dX9_bridge_91 ?_
                refine lv_topi (fun v13 hv13 => ?_)
                have hr := br_letv hr hv13
                refine lv_istore_n (lv' := [(2, .int v13), (6, .int o10), (5, .int x5_3), (4, .int x4_3), (3, .int x3_3), (0, .ref (am 0)), (1, .int a1)]) hx hb dX9_bridge_92 rfl hl (by decide) rfl (fun ls hl => ?_)
                refine lv_iload hx hb dX9_bridge_93 (lv_at hl 1 rfl) ?_
                obtain ⟨o15, ho15, hr⟩ := br_bind hr
                have J15 : ∀ (H : Heap) (locs : List Loc) ls, lv_has ls 7 [(2, .int v13), (5, .int x5_3), (4, .int x4_3), (0, .ref (am 0)), (1, .int a1)] → Stt D (va_A (wM am ac g) s.heap.size) s.heap (wM am ac g) H locs → WW p l e rm_X9_bridge s m [.ref (am 0), .int a1] below meth c D (wM am ac r0.2) (va_A (wM am ac g) s.heap.size) (some (.int r0.1)) H locs 0 0 104 ls [.int o15] := by
                  intro H locs ls hl hS
                  have hP := hS.1
                  refine lv_istore_n (lv' := [(3, .int o15), (2, .int v13), (5, .int x5_3), (4, .int x4_3), (0, .ref (am 0)), (1, .int a1)]) hx hb dX9_bridge_104 rfl hl (by decide) rfl (fun ls hl => ?_)
                  refine lv_iload hx hb dX9_bridge_105 (lv_at hl 3 rfl) ?_
                  have hi16 := br_ite hr
                  refine lv_if_lt (tgt := 125) hx hb dX9_bridge_107 (by decide) (fun c16 => ?_) (fun c16 => ?_)
                  · have hr := hi16.1 c16
                    refine lv_iload hx hb dX9_bridge_125 (lv_at hl 2 rfl) ?_
                    refine lv_goto (tgt := 132) hx hb dX9_bridge_127 (by decide) ?_
                    refine lv_istore (lv' := [(4, .int x5_3), (3, .int o15), (2, .int v13), (5, .int x5_3), (0, .ref (am 0)), (1, .int a1)]) hx hb dX9_bridge_132 hl (by decide) rfl (fun ls hl => ?_)
                    obtain ⟨v17, hv17, hr⟩ := br_let hr
                    refine lv_iinc (v := v17) (lv' := [(5, .int v17), (4, .int x5_3), (3, .int o15), (2, .int v13), (0, .ref (am 0)), (1, .int a1)]) hx hb dX9_bridge_134 hl (k := 3) rfl (hv17 ▸ rfl) (by decide) rfl (fun ls hl => ?_)
                    refine lv_goto (tgt := 29) hx hb dX9_bridge_137 (by decide) ?_
                    exact ih v17 x5_3 o15 v13 _ hr _ _ ls (lv_sub hl [0, 1, 2, 3, 4, 5] rfl) hS kx
                  · have hr := hi16.2 c16
                    refine lv_aload_n hx hb dX9_bridge_110 rfl (lv_at hl 4 rfl) ?_
                    refine lv_iload hx hb dX9_bridge_111 (lv_at hl 2 rfl) ?_
                    obtain ⟨o18, ho18, hr⟩ := br_bind hr
                    refine fwRV (As := [.int x5_3]) (rest := []) (C := RX9) hx hb hml hown hts (m_X9_stepsFrom l D am ac g  x5_3 o18 ho18) (cw_X9_stepsFrom hts q1504 ⟨Nat.le_of_ble_eq_true rfl, Nat.le_of_ble_eq_true rfl⟩) hG hP hP 0 8 rfl rfl rfl hl.1 rfl (Nat.le_of_ble_eq_true rfl) dX9_bridge_113 ⟨Nat.le_of_ble_eq_true rfl, Nat.le_of_ble_eq_true rfl⟩ ?_
                    refine lv_aload_n hx hb dX9_bridge_116 rfl (lv_at hl 4 rfl) ?_
                    refine lv_iload hx hb dX9_bridge_117 (lv_at hl 3 rfl) ?_
                    obtain ⟨o19, ho19, hr⟩ := br_bind hr
                    refine fwRV (As := [.int x4_3]) (rest := [.int o18]) (C := RX9) hx hb hml hown hts (m_X9_stepsFrom l D am ac g  x4_3 o19 ho19) (cw_X9_stepsFrom hts q1504 ⟨Nat.le_of_ble_eq_true rfl, Nat.le_of_ble_eq_true rfl⟩) hG hP hP 0 8 rfl rfl rfl hl.1 rfl (Nat.le_of_ble_eq_true rfl) dX9_bridge_119 ⟨Nat.le_of_ble_eq_true rfl, Nat.le_of_ble_eq_true rfl⟩ ?_
                    have hi20 := br_ite hr
                    refine lv_icmp_gt (tgt := 130) hx hb dX9_bridge_122 (by decide) (fun c20 => ?_) (fun c20 => ?_)
                    · have hr := hi20.1 c20
                      refine lv_iload hx hb dX9_bridge_130 (lv_at hl 3 rfl) ?_
                      refine lv_istore (lv' := [(4, .int x4_3), (3, .int o15), (2, .int v13), (5, .int x5_3), (0, .ref (am 0)), (1, .int a1)]) hx hb dX9_bridge_132 hl (by decide) rfl (fun ls hl => ?_)
                      obtain ⟨v21, hv21, hr⟩ := br_let hr
                      refine lv_iinc (v := v21) (lv' := [(5, .int v21), (4, .int x4_3), (3, .int o15), (2, .int v13), (0, .ref (am 0)), (1, .int a1)]) hx hb dX9_bridge_134 hl (k := 3) rfl (hv21 ▸ rfl) (by decide) rfl (fun ls hl => ?_)
                      refine lv_goto (tgt := 29) hx hb dX9_bridge_137 (by decide) ?_
                      exact ih v21 x4_3 o15 v13 _ hr _ _ ls (lv_sub hl [0, 1, 2, 3, 4, 5] rfl) hS kx
                    · have hr := hi20.2 c20
                      refine lv_iload hx hb dX9_bridge_125 (lv_at hl 2 rfl) ?_
                      refine lv_goto (tgt := 132) hx hb dX9_bridge_127 (by decide) ?_
                      refine lv_istore (lv' := [(4, .int x5_3), (3, .int o15), (2, .int v13), (5, .int x5_3), (0, .ref (am 0)), (1, .int a1)]) hx hb dX9_bridge_132 hl (by decide) rfl (fun ls hl => ?_)
                      obtain ⟨v22, hv22, hr⟩ := br_let hr
                      refine lv_iinc (v := v22) (lv' := [(5, .int v22), (4, .int x5_3), (3, .int o15), (2, .int v13), (0, .ref (am 0)), (1, .int a1)]) hx hb dX9_bridge_134 hl (k := 3) rfl (hv22 ▸ rfl) (by decide) rfl (fun ls hl => ?_)
                      refine lv_goto (tgt := 29) hx hb dX9_bridge_137 (by decide) ?_
                      exact ih v22 x5_3 o15 v13 _ hr _ _ ls (lv_sub hl [0, 1, 2, 3, 4, 5] rfl) hS kx
                have hr := ho15
                have hi14 := br_ite hr
                refine lv_if_eq (tgt := 103) hx hb dX9_bridge_95 (by decide) (fun c14 => ?_) (fun c14 => ?_)
                · have hr := hi14.1 c14
                  refine lv_iload_n hx hb dX9_bridge_103 rfl (lv_at hl 4 rfl) ?_
                  obtain rfl := Option.some.inj hr
                  exact J15 _ _ ls (lv_sub hl [0, 2, 3, 5, 6] rfl) hS
                · have hr := hi14.2 c14
                  refine lv_iload hx hb dX9_bridge_98 (lv_at hl 2 rfl) ?_
                  refine lv_goto (tgt := 104) hx hb dX9_bridge_100 (by decide) ?_
                  obtain rfl := Option.some.inj hr
                  exact J15 _ _ ls (lv_sub hl [0, 2, 3, 5, 6] rfl) hS
              have hr := ho12
              have hi11 := br_ite hr
              refine lv_if_eq (tgt := 90) hx hb dX9_bridge_83 (by decide) (fun c11 => ?_) (fun c11 => ?_)
              · have hr := hi11.1 c11
                refine lv_iconst (v := 0) hx hb dX9_bridge_90 rfl ?_
                obtain rfl := Option.some.inj hr
                exact J12 _ _ ls (lv_sub hl [0, 1, 2, 3, 5, 6] rfl) hS
              · have hr := hi11.2 c11
                refine lv_iconst (v := 1) hx hb dX9_bridge_86 rfl ?_
                refine lv_goto (tgt := 91) hx hb dX9_bridge_87 (by decide) ?_
                obtain rfl := Option.some.inj hr
                exact J12 _ _ ls (lv_sub hl [0, 1, 2, 3, 5, 6] rfl) hS
            have hr := ho10
            have hi9 := br_ite hr
            refine lv_icmp_le (tgt := 77) hx hb dX9_bridge_70 (by decide) (fun c9 => ?_) (fun c9 => ?_)
            · have hr := hi9.1 c9
              refine lv_iconst (v := 0) hx hb dX9_bridge_77 rfl ?_
              obtain rfl := Option.some.inj hr
              exact J10 _ _ ls (lv_sub hl [0, 1, 2, 3, 4, 5] rfl) hS
            · have hr := hi9.2 c9
              refine lv_iconst (v := 1) hx hb dX9_bridge_73 rfl ?_
              refine lv_goto (tgt := 78) hx hb dX9_bridge_74 (by decide) ?_
              obtain rfl := Option.some.inj hr
              exact J10 _ _ ls (lv_sub hl [0, 1, 2, 3, 4, 5] rfl) hS
          · have hr := hi6.1 c6
            refine lv_goto (tgt := 134) hx hb dX9_bridge_46 (by decide) ?_
            obtain ⟨v23, hv23, hr⟩ := br_let hr
            refine lv_iinc (v := v23) (lv' := [(5, .int v23), (4, .int x4_3), (3, .int x3_3), (2, .int x2_3), (0, .ref (am 0)), (1, .int a1)]) hx hb dX9_bridge_134 hl (k := 0) rfl (hv23 ▸ rfl) (by decide) rfl (fun ls hl => ?_)
            refine lv_goto (tgt := 29) hx hb dX9_bridge_137 (by decide) ?_
            exact ih v23 x4_3 x3_3 x2_3 _ hr _ _ ls (lv_sub hl [0, 1, 2, 3, 4, 5] rfl) hS kx
    obtain ⟨o3, ho3, hr⟩ := br_bind hr
    refine L3 1000 24 (-9) (-9) 0 o3 ho3 _ _ ls (lv_sub hl [0, 1, 2, 3, 4, 5] rfl) hS (fun H locs ls hl hS => ?_)
    have hP := hS.1
    refine lv_iload_n hx hb dX9_bridge_140 rfl (lv_at hl 3 rfl) ?_
    have hi24 := br_ite hr
    refine lv_if_ne (tgt := 148) hx hb dX9_bridge_141 (by decide) (fun c24 => ?_) (fun c24 => ?_)
    · have hr := hi24.2 c24
      refine lv_iload_n hx hb dX9_bridge_148 rfl (lv_at hl 3 rfl) ?_
      refine lv_iconst (v := 1) hx hb dX9_bridge_149 rfl ?_
      have hi25 := br_ite hr
      refine lv_icmp_ne (tgt := 157) hx hb dX9_bridge_150 (by decide) (fun c25 => ?_) (fun c25 => ?_)
      · have hr := hi25.2 c25
        refine lv_iload hx hb dX9_bridge_157 (lv_at hl 0 rfl) ?_
        obtain rfl := Option.some.inj hr
        refine W.widen (k := rm_X9_bridge.cells) (n := rm_X9_bridge.slots) (Nat.le_of_ble_eq_true rfl) (Nat.le_of_ble_eq_true rfl) ?_
        exact W.iret hx hb hrt (fun t ht _ => hS.q ht rfl) hS.2.2.2.2 dX9_bridge_159 hlk
      · have hr := hi25.1 c25
        refine lv_iload_n hx hb dX9_bridge_153 rfl (lv_at hl 1 rfl) ?_
        refine lv_goto (tgt := 159) hx hb dX9_bridge_154 (by decide) ?_
        obtain rfl := Option.some.inj hr
        refine W.widen (k := rm_X9_bridge.cells) (n := rm_X9_bridge.slots) (Nat.le_of_ble_eq_true rfl) (Nat.le_of_ble_eq_true rfl) ?_
        exact W.iret hx hb hrt (fun t ht _ => hS.q ht rfl) hS.2.2.2.2 dX9_bridge_159 hlk
    · have hr := hi24.1 c24
      refine lv_iload_n hx hb dX9_bridge_144 rfl (lv_at hl 2 rfl) ?_
      refine lv_goto (tgt := 159) hx hb dX9_bridge_145 (by decide) ?_
      obtain rfl := Option.some.inj hr
      refine W.widen (k := rm_X9_bridge.cells) (n := rm_X9_bridge.slots) (Nat.le_of_ble_eq_true rfl) (Nat.le_of_ble_eq_true rfl) ?_
      exact W.iret hx hb hrt (fun t ht _ => hS.q ht rfl) hS.2.2.2.2 dX9_bridge_159 hlk
  · have hr := hi2.1 c2
    refine lv_aload_n hx hb dX9_bridge_9 rfl (lv_at hl 0 rfl) ?_
    refine lv_bipush (v := (-2)) hx hb dX9_bridge_10 rfl ?_
    obtain ⟨o26, ho26, hr⟩ := br_bind hr
    refine fwWVs (As := [.int (-2)]) (rest := []) (C := RX9) hx hb hml hown hts (m_X9_no l D am ac g (-2 : Int32) _ o26 ho26) (cw_X9_no hts q1263 ⟨Nat.le_of_ble_eq_true rfl, Nat.le_of_ble_eq_true rfl⟩) hG hS hA rfl 0 8 rfl rfl rfl hl.1 rfl (Nat.le_of_ble_eq_true rfl) dX9_bridge_12 ⟨Nat.le_of_ble_eq_true rfl, Nat.le_of_ble_eq_true rfl⟩ (fun H locs hS => ?_)
    have hP := hS.1
    obtain rfl := Option.some.inj hr
    refine W.widen (k := rm_X9_bridge.cells) (n := rm_X9_bridge.slots) (Nat.le_of_ble_eq_true rfl) (Nat.le_of_ble_eq_true rfl) ?_
    exact W.iret hx hb hrt (fun t ht _ => hS.q ht rfl) hS.2.2.2.2 dX9_bridge_15 hlk
theorem cw_X9_bridge {R : Room} {s : State} {args : Array Value} {own : String} {index : Nat} (hts : ∀ w ∈ lw_all, w.before args s = true) (hlink : Cond.methodLink own index yX9_bridge ∈ lw_all) (hR : rm_X9_bridge.frames + 1 ≤ R.frames ∧ 8 + (7 + 11) + rm_X9_bridge.locals ≤ R.locals) : CallW R s args own RX9 index yX9_bridge cX9_bridge 7 (some FieldType.int) (ws_ yX9_bridge cX9_bridge 7 (some FieldType.int)) rm_X9_bridge rm_X9_bridge.cells rm_X9_bridge.slots 1 :=
  cwV 1 hts (lw_V hlink q1501 q1502 q111 q1503) rfl rfl rfl (by decide +kernel) hR
def f_X9_firstBite_L9 (a1 : Int32) (x2_1 : Int32) : Nat → Int32 → Option ((Int32) ⊕ (Unit))
  | 0, _ => none
  | n + 1, x3_3 => if 25 ≤ x3_3 then some (Sum.inr ()) else Option.bind (f_X9_canBite a1 x2_1 x3_3) fun o5 => if o5 = 0 then Option.bind (some ((x3_3 + 1) : Int32)) fun v7 => f_X9_firstBite_L9 a1 x2_1 n v7 else some (Sum.inl (((100 : Int32) * x2_1) + x3_3))
def f_X9_firstBite_L2 (a1 : Int32) : Nat → Int32 → Option ((Int32) ⊕ (Unit))
  | 0, _ => none
  | n + 1, x2_1 => if 4 ≤ x2_1 then some (Sum.inr ()) else bsO (f_X9_firstBite_L9 a1 x2_1 1000 0) fun t3 => Option.bind (some ((x2_1 + 1) : Int32)) fun v8 => f_X9_firstBite_L2 a1 n v8
def f_X9_firstBite (g : MS) (a1 : Int32) : Option (Int32) := bsR (f_X9_firstBite_L2 a1 1000 0) fun t1 => some (-9)
abbrev rm_X9_firstBite : Room := ({ frames := 3, cells := 0, slots := 0, locals := 67 })
set_option maxHeartbeats 4000000 in
theorem m_X9_firstBite (l : Launch) (D : va_G) (am : Nat → Nat) (ac : Nat → ClassId) (g : MS) (a1 : Int32) (r0 : Int32) (hr : f_X9_firstBite g a1 = some r0) : PM l yX9_firstBite cX9_firstBite 4 (some FieldType.int) rm_X9_firstBite [.ref (am 0), .int a1] (RP D ac (wM am ac g)) (some (.int r0)) := by
  refine fw_of (by decide) (Nat.le_of_ble_eq_true rfl) ?_
  intro p e s m below meth c ls hx hb hrt hts hown hlk hml _ hU hl
  obtain ⟨hP, hG⟩ := hU
  have hl : lv_has ls 4 [(0, .ref (am 0)), (1, .int a1)] := hl
  rw [f_X9_firstBite] at hr
  refine lv_iconst (v := 0) hx hb dX9_firstBite_0 rfl ?_
  refine lv_istore_n (lv' := [(2, .int 0), (0, .ref (am 0)), (1, .int a1)]) hx hb dX9_firstBite_1 rfl hl (by decide) rfl (fun ls hl => ?_)
  have L1 : ∀ (n : Nat) (x2_1 : Int32) (o1 : (Int32) ⊕ (Unit)), f_X9_firstBite_L2 a1 n x2_1 = some o1 → (∀ r, o1 = Sum.inl r → some r = some r0) → ∀ ls, lv_has ls 4 [(2, .int x2_1), (1, .int a1)] → (∀ t1, o1 = Sum.inr t1 → ∀ ls, lv_has ls 4 [] → WP p l e rm_X9_firstBite s m [.ref (am 0), .int a1] below meth c (some (.int r0)) 43 ls []) → WP p l e rm_X9_firstBite s m [.ref (am 0), .int a1] below meth c (some (.int r0)) 2 ls [] := by
    intro n
    induction n with
    | zero => intro x2_1 o1 hr; rw [f_X9_firstBite_L2] at hr; cases hr
    | succ n ih =>
      intro x2_1 o1 hr hret ls hl kx
      rw [f_X9_firstBite_L2] at hr
      refine lv_iload_n hx hb dX9_firstBite_2 rfl (lv_at hl 0 rfl) ?_
      refine lv_iconst (v := 4) hx hb dX9_firstBite_3 rfl ?_
      have hi2 := br_ite hr
      refine lv_icmp_ge (tgt := 43) hx hb dX9_firstBite_4 (by decide) (fun c2 => ?_) (fun c2 => ?_)
      · have hr := hi2.1 c2
        exact kx _ (Option.some.inj hr).symm ls (lv_sub hl [] rfl)
      · have hr := hi2.2 c2
        refine lv_iconst (v := 0) hx hb dX9_firstBite_7 rfl ?_
        refine lv_istore_n (lv' := [(3, .int 0), (2, .int x2_1), (1, .int a1)]) hx hb dX9_firstBite_8 rfl hl (by decide) rfl (fun ls hl => ?_)
        have L3 : ∀ (n : Nat) (x3_3 : Int32) (o3 : (Int32) ⊕ (Unit)), f_X9_firstBite_L9 a1 x2_1 n x3_3 = some o3 → (∀ r, o3 = Sum.inl r → some r = some r0) → ∀ ls, lv_has ls 4 [(3, .int x3_3), (2, .int x2_1), (1, .int a1)] → (∀ t3, o3 = Sum.inr t3 → ∀ ls, lv_has ls 4 [(2, .int x2_1), (1, .int a1)] → WP p l e rm_X9_firstBite s m [.ref (am 0), .int a1] below meth c (some (.int r0)) 37 ls []) → WP p l e rm_X9_firstBite s m [.ref (am 0), .int a1] below meth c (some (.int r0)) 9 ls [] := by
          intro n
          induction n with
          | zero => intro x3_3 o3 hr; rw [f_X9_firstBite_L9] at hr; cases hr
          | succ n ih =>
            intro x3_3 o3 hr hret ls hl kx
            rw [f_X9_firstBite_L9] at hr
            refine lv_iload_n hx hb dX9_firstBite_9 rfl (lv_at hl 0 rfl) ?_
            refine lv_bipush (v := 25) hx hb dX9_firstBite_10 rfl ?_
            have hi4 := br_ite hr
            refine lv_icmp_ge (tgt := 37) hx hb dX9_firstBite_12 (by decide) (fun c4 => ?_) (fun c4 => ?_)
            · have hr := hi4.1 c4
              exact kx _ (Option.some.inj hr).symm ls (lv_sub hl [1, 2] rfl)
            · have hr := hi4.2 c4
              refine lv_iload_n hx hb dX9_firstBite_15 rfl (lv_at hl 2 rfl) ?_
              refine lv_iload_n hx hb dX9_firstBite_16 rfl (lv_at hl 1 rfl) ?_
              refine lv_iload_n hx hb dX9_firstBite_17 rfl (lv_at hl 0 rfl) ?_
              obtain ⟨o5, ho5, hr⟩ := br_bind hr
              refine fwS (As := [.int a1, .int x2_1, .int x3_3]) (rest := []) hx hb hml hown hts (m_X9_canBite l a1 x2_1 x3_3 o5 ho5) (cw_X9_canBite hts q1304 ⟨Nat.le_of_ble_eq_true rfl, Nat.le_of_ble_eq_true rfl⟩) rfl hl.1 rfl (Nat.le_of_ble_eq_true rfl) dX9_firstBite_18 ⟨Nat.le_of_ble_eq_true rfl, Nat.le_of_ble_eq_true rfl⟩ ?_
              have hi6 := br_ite hr
              refine lv_if_eq (tgt := 31) hx hb dX9_firstBite_21 (by decide) (fun c6 => ?_) (fun c6 => ?_)
              · have hr := hi6.1 c6
                obtain ⟨v7, hv7, hr⟩ := br_let hr
                refine lv_iinc (v := v7) (lv' := [(3, .int v7), (2, .int x2_1), (1, .int a1)]) hx hb dX9_firstBite_31 hl (k := 0) rfl (hv7 ▸ rfl) (by decide) rfl (fun ls hl => ?_)
                refine lv_goto (tgt := 9) hx hb dX9_firstBite_34 (by decide) ?_
                exact ih v7 _ hr hret ls (lv_sub hl [0, 1, 2] rfl) kx
              · have hr := hi6.2 c6
                refine lv_bipush (v := 100) hx hb dX9_firstBite_24 rfl ?_
                refine lv_iload_n hx hb dX9_firstBite_26 rfl (lv_at hl 1 rfl) ?_
                refine lv_imul hx hb dX9_firstBite_27 ?_
                refine lv_iload_n hx hb dX9_firstBite_28 rfl (lv_at hl 0 rfl) ?_
                refine lv_iadd hx hb dX9_firstBite_29 ?_
                have hr := hret _ (Option.some.inj hr).symm
                exact W.iret hx hb hrt (fun t ht _ => ⟨ret_i hr, ht⟩) noB dX9_firstBite_30 hlk
        obtain ⟨o3, ho3, hl3, hk3⟩ := br_bsO hr
        refine L3 1000 0 o3 ho3 (fun r hq => hret _ (Option.some.inj (hl3 r hq)).symm) ls (lv_sub hl [0, 1, 2] rfl) (fun t3 hq3 ls hl => ?_)
        have hr := hk3 t3 hq3
        obtain ⟨v8, hv8, hr⟩ := br_let hr
        refine lv_iinc (v := v8) (lv' := [(2, .int v8), (1, .int a1)]) hx hb dX9_firstBite_37 hl (k := 0) rfl (hv8 ▸ rfl) (by decide) rfl (fun ls hl => ?_)
        refine lv_goto (tgt := 2) hx hb dX9_firstBite_40 (by decide) ?_
        exact ih v8 _ hr hret ls (lv_sub hl [0, 1] rfl) kx
  obtain ⟨o1, ho1, hl1, hk1⟩ := br_bsR hr
  refine L1 1000 0 o1 ho1 (fun r hq => hl1 r hq) ls (lv_sub hl [0, 2] rfl) (fun t1 hq1 ls hl => ?_)
  have hr := hk1 t1 hq1
  refine lv_bipush (v := (-9)) hx hb dX9_firstBite_43 rfl ?_
  exact W.iret hx hb hrt (fun t ht _ => ⟨ret_i hr, ht⟩) noB dX9_firstBite_45 hlk
theorem cw_X9_firstBite {R : Room} {s : State} {args : Array Value} {own : String} {index : Nat} (hts : ∀ w ∈ lw_all, w.before args s = true) (hlink : Cond.methodLink own index yX9_firstBite ∈ lw_all) (hR : rm_X9_firstBite.frames + 1 ≤ R.frames ∧ 8 + (4 + 11) + rm_X9_firstBite.locals ≤ R.locals) : CallW R s args own RX9 index yX9_firstBite cX9_firstBite 4 (some FieldType.int) (ws_ yX9_firstBite cX9_firstBite 4 (some FieldType.int)) rm_X9_firstBite rm_X9_firstBite.cells rm_X9_firstBite.slots 1 :=
  cwV 1 hts (lw_V hlink q1518 qs97 q111 q1519) rfl rfl rfl (by decide +kernel) hR
def f_X9_shareBoth (g : MS) (a1 : Int32) (a2 : Int32) (a3 : Int32) (a4 : Int32) (a5 : Int32) : Option (Int32) := Option.bind (α := Int32) (if a3 = 0 then Option.bind (f_X9_biteFor g (mG_left g) a2 (1 : Int32)) fun o4 => some o4 else Option.bind (f_X9_firstBite g (mG_left g)) fun o3 => some o3) fun o2 => Option.bind (f_X9_after (mG_left g) o2) fun o5 => Option.bind (α := Int32) (if a5 = 0 then Option.bind (f_X9_biteFor g o5 a4 (1 : Int32)) fun o9 => some o9 else Option.bind (f_X9_firstBite g o5) fun o8 => some o8) fun o7 => Option.bind (f_X9_after o5 o7) fun o10 => Option.bind (f_X9_shareOf g o10 a1) fun o11 => some o11
abbrev rm_X9_shareBoth : Room := ({ frames := 7, cells := 0, slots := 0, locals := 164 })
set_option maxHeartbeats 4000000 in
theorem m_X9_shareBoth (l : Launch) (D : va_G) (am : Nat → Nat) (ac : Nat → ClassId) (g : MS) (a1 : Int32) (a2 : Int32) (a3 : Int32) (a4 : Int32) (a5 : Int32) (r0 : Int32) (hr : f_X9_shareBoth g a1 a2 a3 a4 a5 = some r0) : PM l yX9_shareBoth cX9_shareBoth 7 (some FieldType.int) rm_X9_shareBoth [.ref (am 0), .int a1, .int a2, .int a3, .int a4, .int a5] (RP D ac (wM am ac g)) (some (.int r0)) := by
  refine fw_of (by decide) (Nat.le_of_ble_eq_true rfl) ?_
  intro p e s m below meth c ls hx hb hrt hts hown hlk hml _ hU hl
  obtain ⟨hP, hG⟩ := hU
  have hl : lv_has ls 7 [(0, .ref (am 0)), (1, .int a1), (2, .int a2), (3, .int a3), (4, .int a4), (5, .int a5)] := hl
  rw [f_X9_shareBoth] at hr
  refine lv_aload_n hx hb dX9_shareBoth_0 rfl (lv_at hl 0 rfl) ?_
  refine va_get (D := D) (ci := 8) (v := .int (mG_left g)) (C := RX9) (T := TX9) (N := 26) hx hb hts in_X9 hown hG.1 hP 0 rfl rfl 0 (by decide) (hts _ q1180) (fun _ h9 => h9) rfl dX9_shareBoth_1 ?_
  refine lv_iload_n hx hb dX9_shareBoth_4 rfl (lv_at hl 3 rfl) ?_
  obtain ⟨o2, ho2, hr⟩ := br_bind hr
  have J2 : ∀ ls, lv_has ls 7 [(0, .ref (am 0)), (1, .int a1), (4, .int a4), (5, .int a5)] → WP p l e rm_X9_shareBoth s m [.ref (am 0), .int a1, .int a2, .int a3, .int a4, .int a5] below meth c (some (.int r0)) 29 ls [.int o2, .int (mG_left g)] := by
    intro ls hl
    obtain ⟨o5, ho5, hr⟩ := br_bind hr
    refine fwS (As := [.int (mG_left g), .int o2]) (rest := []) hx hb hml hown hts (m_X9_after l (mG_left g) o2 o5 ho5) (cw_X9_after hts q1431 ⟨Nat.le_of_ble_eq_true rfl, Nat.le_of_ble_eq_true rfl⟩) rfl hl.1 rfl (Nat.le_of_ble_eq_true rfl) dX9_shareBoth_29 ⟨Nat.le_of_ble_eq_true rfl, Nat.le_of_ble_eq_true rfl⟩ ?_
    refine lv_istore (lv' := [(6, .int o5), (0, .ref (am 0)), (1, .int a1), (4, .int a4), (5, .int a5)]) hx hb dX9_shareBoth_32 hl (by decide) rfl (fun ls hl => ?_)
    refine lv_aload_n hx hb dX9_shareBoth_34 rfl (lv_at hl 1 rfl) ?_
    refine lv_iload hx hb dX9_shareBoth_35 (lv_at hl 0 rfl) ?_
    refine lv_iload hx hb dX9_shareBoth_37 (lv_at hl 4 rfl) ?_
    obtain ⟨o7, ho7, hr⟩ := br_bind hr
    have J7 : ∀ ls, lv_has ls 7 [(1, .int a1)] → WP p l e rm_X9_shareBoth s m [.ref (am 0), .int a1, .int a2, .int a3, .int a4, .int a5] below meth c (some (.int r0)) 60 ls [.int o7, .int o5, .ref (am 0)] := by
      intro ls hl
      obtain ⟨o10, ho10, hr⟩ := br_bind hr
      refine fwS (As := [.int o5, .int o7]) (rest := [.ref (am 0)]) hx hb hml hown hts (m_X9_after l o5 o7 o10 ho10) (cw_X9_after hts q1431 ⟨Nat.le_of_ble_eq_true rfl, Nat.le_of_ble_eq_true rfl⟩) rfl hl.1 rfl (Nat.le_of_ble_eq_true rfl) dX9_shareBoth_60 ⟨Nat.le_of_ble_eq_true rfl, Nat.le_of_ble_eq_true rfl⟩ ?_
      refine lv_iload_n hx hb dX9_shareBoth_63 rfl (lv_at hl 0 rfl) ?_
      obtain ⟨o11, ho11, hr⟩ := br_bind hr
      refine fwRV (As := [.int o10, .int a1]) (rest := []) (C := RX9) hx hb hml hown hts (m_X9_shareOf l D am ac g  o10 a1 o11 ho11) (cw_X9_shareOf hts q1352 ⟨Nat.le_of_ble_eq_true rfl, Nat.le_of_ble_eq_true rfl⟩) hG hP hP 0 8 rfl rfl rfl hl.1 rfl (Nat.le_of_ble_eq_true rfl) dX9_shareBoth_64 ⟨Nat.le_of_ble_eq_true rfl, Nat.le_of_ble_eq_true rfl⟩ ?_
      exact W.iret hx hb hrt (fun t ht _ => ⟨ret_i hr, ht⟩) noB dX9_shareBoth_67 hlk
    have hr := ho7
    have hi6 := br_ite hr
    refine lv_if_ne (tgt := 54) hx hb dX9_shareBoth_39 (by decide) (fun c6 => ?_) (fun c6 => ?_)
    · have hr := hi6.2 c6
      refine lv_aload_n hx hb dX9_shareBoth_54 rfl (lv_at hl 1 rfl) ?_
      refine lv_iload hx hb dX9_shareBoth_55 (lv_at hl 0 rfl) ?_
      obtain ⟨o8, ho8, hr⟩ := br_bind hr
      refine fwRV (As := [.int o5]) (rest := [.int o5, .ref (am 0)]) (C := RX9) hx hb hml hown hts (m_X9_firstBite l D am ac g  o5 o8 ho8) (cw_X9_firstBite hts q1516 ⟨Nat.le_of_ble_eq_true rfl, Nat.le_of_ble_eq_true rfl⟩) hG hP hP 0 8 rfl rfl rfl hl.1 rfl (Nat.le_of_ble_eq_true rfl) dX9_shareBoth_57 ⟨Nat.le_of_ble_eq_true rfl, Nat.le_of_ble_eq_true rfl⟩ ?_
      obtain rfl := Option.some.inj hr
      exact J7 ls (lv_sub hl [2] rfl)
    · have hr := hi6.1 c6
      refine lv_aload_n hx hb dX9_shareBoth_42 rfl (lv_at hl 1 rfl) ?_
      refine lv_iload hx hb dX9_shareBoth_43 (lv_at hl 0 rfl) ?_
      refine lv_iload hx hb dX9_shareBoth_45 (lv_at hl 3 rfl) ?_
      refine lv_iconst (v := 1) hx hb dX9_shareBoth_47 rfl ?_
      obtain ⟨o9, ho9, hr⟩ := br_bind hr
      refine fwRV (As := [.int o5, .int a4, .int 1]) (rest := [.int o5, .ref (am 0)]) (C := RX9) hx hb hml hown hts (m_X9_biteFor l D am ac g  o5 a4 (1 : Int32) o9 ho9) (cw_X9_biteFor hts q1427 ⟨Nat.le_of_ble_eq_true rfl, Nat.le_of_ble_eq_true rfl⟩) hG hP hP 0 8 rfl rfl rfl hl.1 rfl (Nat.le_of_ble_eq_true rfl) dX9_shareBoth_48 ⟨Nat.le_of_ble_eq_true rfl, Nat.le_of_ble_eq_true rfl⟩ ?_
      refine lv_goto (tgt := 60) hx hb dX9_shareBoth_51 (by decide) ?_
      obtain rfl := Option.some.inj hr
      exact J7 ls (lv_sub hl [2] rfl)
  have hr := ho2
  have hi1 := br_ite hr
  refine lv_if_ne (tgt := 21) hx hb dX9_shareBoth_5 (by decide) (fun c1 => ?_) (fun c1 => ?_)
  · have hr := hi1.2 c1
    refine lv_aload_n hx hb dX9_shareBoth_21 rfl (lv_at hl 0 rfl) ?_
    refine lv_aload_n hx hb dX9_shareBoth_22 rfl (lv_at hl 0 rfl) ?_
    refine va_get (D := D) (ci := 8) (v := .int (mG_left g)) (C := RX9) (T := TX9) (N := 26) hx hb hts in_X9 hown hG.1 hP 0 rfl rfl 0 (by decide) (hts _ q1180) (fun _ h9 => h9) rfl dX9_shareBoth_23 ?_
    obtain ⟨o3, ho3, hr⟩ := br_bind hr
    refine fwRV (As := [.int (mG_left g)]) (rest := [.int (mG_left g)]) (C := RX9) hx hb hml hown hts (m_X9_firstBite l D am ac g  (mG_left g) o3 ho3) (cw_X9_firstBite hts q1516 ⟨Nat.le_of_ble_eq_true rfl, Nat.le_of_ble_eq_true rfl⟩) hG hP hP 0 8 rfl rfl rfl hl.1 rfl (Nat.le_of_ble_eq_true rfl) dX9_shareBoth_26 ⟨Nat.le_of_ble_eq_true rfl, Nat.le_of_ble_eq_true rfl⟩ ?_
    obtain rfl := Option.some.inj hr
    exact J2 ls (lv_sub hl [0, 1, 4, 5] rfl)
  · have hr := hi1.1 c1
    refine lv_aload_n hx hb dX9_shareBoth_8 rfl (lv_at hl 0 rfl) ?_
    refine lv_aload_n hx hb dX9_shareBoth_9 rfl (lv_at hl 0 rfl) ?_
    refine va_get (D := D) (ci := 8) (v := .int (mG_left g)) (C := RX9) (T := TX9) (N := 26) hx hb hts in_X9 hown hG.1 hP 0 rfl rfl 0 (by decide) (hts _ q1180) (fun _ h9 => h9) rfl dX9_shareBoth_10 ?_
    refine lv_iload_n hx hb dX9_shareBoth_13 rfl (lv_at hl 2 rfl) ?_
    refine lv_iconst (v := 1) hx hb dX9_shareBoth_14 rfl ?_
    obtain ⟨o4, ho4, hr⟩ := br_bind hr
    refine fwRV (As := [.int (mG_left g), .int a2, .int 1]) (rest := [.int (mG_left g)]) (C := RX9) hx hb hml hown hts (m_X9_biteFor l D am ac g  (mG_left g) a2 (1 : Int32) o4 ho4) (cw_X9_biteFor hts q1427 ⟨Nat.le_of_ble_eq_true rfl, Nat.le_of_ble_eq_true rfl⟩) hG hP hP 0 8 rfl rfl rfl hl.1 rfl (Nat.le_of_ble_eq_true rfl) dX9_shareBoth_15 ⟨Nat.le_of_ble_eq_true rfl, Nat.le_of_ble_eq_true rfl⟩ ?_
    refine lv_goto (tgt := 29) hx hb dX9_shareBoth_18 (by decide) ?_
    obtain rfl := Option.some.inj hr
    exact J2 ls (lv_sub hl [0, 1, 4, 5] rfl)
theorem cw_X9_shareBoth {R : Room} {s : State} {args : Array Value} {own : String} {index : Nat} (hts : ∀ w ∈ lw_all, w.before args s = true) (hlink : Cond.methodLink own index yX9_shareBoth ∈ lw_all) (hR : rm_X9_shareBoth.frames + 1 ≤ R.frames ∧ 8 + (7 + 11) + rm_X9_shareBoth.locals ≤ R.locals) : CallW R s args own RX9 index yX9_shareBoth cX9_shareBoth 7 (some FieldType.int) (ws_ yX9_shareBoth cX9_shareBoth 7 (some FieldType.int)) rm_X9_shareBoth rm_X9_shareBoth.cells rm_X9_shareBoth.slots 5 :=
  cwV 5 hts (lw_V hlink q1514 qs96 q111 q1515) rfl rfl rfl (by decide +kernel) hR
def f_X9_two_L17 (g : MS) (a1 : Int32) (a2 : Int32) : Nat → Int32 → Option ((Int32 × MS) ⊕ (Unit))
  | 0, _ => none
  | n + 1, x3_3 => if 4 ≤ x3_3 then some (Sum.inr ()) else Option.bind (some ((x3_3 / 2) : Int32)) fun v5 => Option.bind (some ((x3_3 - x3_3 / 2 * 2) : Int32)) fun v6 => Option.bind (f_X9_shareBoth g a1 a1 ((1 : Int32) - v5) a2 v6) fun o7 => Option.bind (f_X9_shareBoth g a1 a1 v5 a2 v6) fun o8 => if o8 < o7 then Option.bind (some ((x3_3 + 1) : Int32)) fun v10 => f_X9_two_L17 g a1 a2 n v10 else Option.bind (f_X9_shareBoth g a2 a1 v5 a2 ((1 : Int32) - v6)) fun o11 => Option.bind (f_X9_shareBoth g a2 a1 v5 a2 v6) fun o12 => if o12 < o11 then Option.bind (some ((x3_3 + 1) : Int32)) fun v14 => f_X9_two_L17 g a1 a2 n v14 else some (Sum.inl ((((10 : Int32) * v5) + v6), g))
def f_X9_two (g : MS) (a1 : Int32) (a2 : Int32) : Option (Int32 × MS) := Option.bind (f_X9_areTwo g a1 a2) fun o1 => if o1 = 0 then Option.bind (f_X9_no g (-1 : Int32)) fun o15 => some (o15.1, o15.2) else bsR (f_X9_two_L17 g a1 a2 1000 0) fun t3 => some ((-9), g)
abbrev rm_X9_two : Room := ({ frames := 8, cells := 0, slots := 0, locals := 190 })
set_option maxHeartbeats 4000000 in
theorem m_X9_two (l : Launch) (D : va_G) (am : Nat → Nat) (ac : Nat → ClassId) (g : MS) (a1 : Int32) (a2 : Int32) (sz : Nat) (r0 : Int32 × MS) (hr : f_X9_two g a1 a2 = some r0) : WM l yX9_two cX9_two 6 (some FieldType.int) rm_X9_two [.ref (am 0), .int a1, .int a2] D ac (wM am ac g) (wM am ac r0.2) sz (some (.int r0.1)) := by
  refine fw_of (by decide) (Nat.le_of_ble_eq_true rfl) ?_
  intro p e s m below meth c ls hx hb hrt hts hown hlk hml _ hU hl
  obtain ⟨rfl, hP, hG, hD⟩ := hU
  have hA : ∀ q : Nat, s.heap.size ≤ q → va_A (wM am ac g) s.heap.size q := fun q h => Or.inr h
  have hS := Stt.start hP hD
  show WW p l e rm_X9_two s m [.ref (am 0), .int a1, .int a2] below meth c D (wM am ac r0.2) (va_A (wM am ac g) s.heap.size) (some (.int r0.1)) s.heap [] 0 0 0 ls []
  have hl : lv_has ls 6 [(0, .ref (am 0)), (1, .int a1), (2, .int a2)] := hl
  rw [f_X9_two] at hr
  refine lv_aload_n hx hb dX9_two_0 rfl (lv_at hl 0 rfl) ?_
  refine lv_iload_n hx hb dX9_two_1 rfl (lv_at hl 1 rfl) ?_
  refine lv_iload_n hx hb dX9_two_2 rfl (lv_at hl 2 rfl) ?_
  obtain ⟨o1, ho1, hr⟩ := br_bind hr
  refine fwRV (As := [.int a1, .int a2]) (rest := []) (C := RX9) hx hb hml hown hts (m_X9_areTwo l D am ac g  a1 a2 o1 ho1) (cw_X9_areTwo hts q1488 ⟨Nat.le_of_ble_eq_true rfl, Nat.le_of_ble_eq_true rfl⟩) hG hP hP 0 8 rfl rfl rfl hl.1 rfl (Nat.le_of_ble_eq_true rfl) dX9_two_3 ⟨Nat.le_of_ble_eq_true rfl, Nat.le_of_ble_eq_true rfl⟩ ?_
  have hi2 := br_ite hr
  refine lv_if_ne (tgt := 15) hx hb dX9_two_6 (by decide) (fun c2 => ?_) (fun c2 => ?_)
  · have hr := hi2.2 c2
    refine lv_iconst (v := 0) hx hb dX9_two_15 rfl ?_
    refine lv_istore_n (lv' := [(3, .int 0), (0, .ref (am 0)), (1, .int a1), (2, .int a2)]) hx hb dX9_two_16 rfl hl (by decide) rfl (fun ls hl => ?_)
    have L3 : ∀ (n : Nat) (x3_3 : Int32) (o3 : (Int32 × MS) ⊕ (Unit)), f_X9_two_L17 g a1 a2 n x3_3 = some o3 → (∀ r, o3 = Sum.inl r → some r = some r0) → ∀ (H : Heap) (locs : List Loc) ls, lv_has ls 6 [(3, .int x3_3), (0, .ref (am 0)), (1, .int a1), (2, .int a2)] → Stt D (va_A (wM am ac g) s.heap.size) s.heap (wM am ac g) H locs → (∀ t3, o3 = Sum.inr t3 → ∀ (H : Heap) (locs : List Loc) ls, lv_has ls 6 [] → Stt D (va_A (wM am ac g) s.heap.size) s.heap (wM am ac g) H locs → WW p l e rm_X9_two s m [.ref (am 0), .int a1, .int a2] below meth c D (wM am ac r0.2) (va_A (wM am ac g) s.heap.size) (some (.int r0.1)) H locs 0 0 101 ls []) → WW p l e rm_X9_two s m [.ref (am 0), .int a1, .int a2] below meth c D (wM am ac r0.2) (va_A (wM am ac g) s.heap.size) (some (.int r0.1)) H locs 0 0 17 ls [] := by
      intro n
      induction n with
      | zero => intro x3_3 o3 hr; rw [f_X9_two_L17] at hr; cases hr
      | succ n ih =>
        intro x3_3 o3 hr hret H locs ls hl hS kx
        have hP := hS.1
        rw [f_X9_two_L17] at hr
        refine lv_iload_n hx hb dX9_two_17 rfl (lv_at hl 0 rfl) ?_
        refine lv_iconst (v := 4) hx hb dX9_two_18 rfl ?_
        have hi4 := br_ite hr
        refine lv_icmp_ge (tgt := 101) hx hb dX9_two_19 (by decide) (fun c4 => ?_) (fun c4 => ?_)
        · have hr := hi4.1 c4
          exact kx _ (Option.some.inj hr).symm _ _ ls (lv_sub hl [] rfl) hS
        · have hr := hi4.2 c4
          refine lv_iload_n hx hb dX9_two_22 rfl (lv_at hl 0 rfl) ?_
          refine lv_iconst (v := 2) hx hb dX9_two_23 rfl ?_
          refine lv_idiv hx hb dX9_two_24 (by decide) ?_
          refine lv_topi (fun v5 hv5 => ?_)
          have hr := br_letv hr hv5
          refine lv_istore (lv' := [(4, .int v5), (3, .int x3_3), (0, .ref (am 0)), (1, .int a1), (2, .int a2)]) hx hb dX9_two_25 hl (by decide) rfl (fun ls hl => ?_)
          refine lv_iload_n hx hb dX9_two_27 rfl (lv_at hl 1 rfl) ?_
          refine lv_iconst (v := 2) hx hb dX9_two_28 rfl ?_
          refine lv_irem hx hb dX9_two_29 (by decide) ?_
          refine lv_topi (fun v6 hv6 => ?_)
          have hr := br_letv hr hv6
          refine lv_istore (lv' := [(5, .int v6), (4, .int v5), (3, .int x3_3), (0, .ref (am 0)), (1, .int a1), (2, .int a2)]) hx hb dX9_two_30 hl (by decide) rfl (fun ls hl => ?_)
          refine lv_aload_n hx hb dX9_two_32 rfl (lv_at hl 3 rfl) ?_
          refine lv_iload_n hx hb dX9_two_33 rfl (lv_at hl 4 rfl) ?_
          refine lv_iload_n hx hb dX9_two_34 rfl (lv_at hl 4 rfl) ?_
          refine lv_iconst (v := 1) hx hb dX9_two_35 rfl ?_
          refine lv_iload hx hb dX9_two_36 (lv_at hl 1 rfl) ?_
          refine lv_isub hx hb dX9_two_38 ?_
          refine lv_iload_n hx hb dX9_two_39 rfl (lv_at hl 5 rfl) ?_
          refine lv_iload hx hb dX9_two_40 (lv_at hl 0 rfl) ?_
          obtain ⟨o7, ho7, hr⟩ := br_bind hr
          refine fwRV (As := [.int a1, .int a1, .int ((1 : Int32) - v5), .int a2, .int v6]) (rest := []) (C := RX9) hx hb hml hown hts (m_X9_shareBoth l D am ac g  a1 a1 ((1 : Int32) - v5) a2 v6 o7 ho7) (cw_X9_shareBoth hts q1512 ⟨Nat.le_of_ble_eq_true rfl, Nat.le_of_ble_eq_true rfl⟩) hG hP hP 0 8 rfl rfl rfl hl.1 rfl (Nat.le_of_ble_eq_true rfl) dX9_two_42 ⟨Nat.le_of_ble_eq_true rfl, Nat.le_of_ble_eq_true rfl⟩ ?_
          refine lv_aload_n hx hb dX9_two_45 rfl (lv_at hl 3 rfl) ?_
          refine lv_iload_n hx hb dX9_two_46 rfl (lv_at hl 4 rfl) ?_
          refine lv_iload_n hx hb dX9_two_47 rfl (lv_at hl 4 rfl) ?_
          refine lv_iload hx hb dX9_two_48 (lv_at hl 1 rfl) ?_
          refine lv_iload_n hx hb dX9_two_50 rfl (lv_at hl 5 rfl) ?_
          refine lv_iload hx hb dX9_two_51 (lv_at hl 0 rfl) ?_
          obtain ⟨o8, ho8, hr⟩ := br_bind hr
          refine fwRV (As := [.int a1, .int a1, .int v5, .int a2, .int v6]) (rest := [.int o7]) (C := RX9) hx hb hml hown hts (m_X9_shareBoth l D am ac g  a1 a1 v5 a2 v6 o8 ho8) (cw_X9_shareBoth hts q1512 ⟨Nat.le_of_ble_eq_true rfl, Nat.le_of_ble_eq_true rfl⟩) hG hP hP 0 8 rfl rfl rfl hl.1 rfl (Nat.le_of_ble_eq_true rfl) dX9_two_53 ⟨Nat.le_of_ble_eq_true rfl, Nat.le_of_ble_eq_true rfl⟩ ?_
          have hi9 := br_ite hr
          refine lv_icmp_gt (tgt := 95) hx hb dX9_two_56 (by decide) (fun c9 => ?_) (fun c9 => ?_)
          · have hr := hi9.1 c9
            obtain ⟨v10, hv10, hr⟩ := br_let hr
            refine lv_iinc (v := v10) (lv' := [(3, .int v10), (5, .int v6), (4, .int v5), (0, .ref (am 0)), (1, .int a1), (2, .int a2)]) hx hb dX9_two_95 hl (k := 2) rfl (hv10 ▸ rfl) (by decide) rfl (fun ls hl => ?_)
            refine lv_goto (tgt := 17) hx hb dX9_two_98 (by decide) ?_
            exact ih v10 _ hr hret _ _ ls (lv_sub hl [0, 3, 4, 5] rfl) hS kx
          · have hr := hi9.2 c9
            refine lv_aload_n hx hb dX9_two_59 rfl (lv_at hl 3 rfl) ?_
            refine lv_iload_n hx hb dX9_two_60 rfl (lv_at hl 5 rfl) ?_
            refine lv_iload_n hx hb dX9_two_61 rfl (lv_at hl 4 rfl) ?_
            refine lv_iload hx hb dX9_two_62 (lv_at hl 1 rfl) ?_
            refine lv_iload_n hx hb dX9_two_64 rfl (lv_at hl 5 rfl) ?_
            refine lv_iconst (v := 1) hx hb dX9_two_65 rfl ?_
            refine lv_iload hx hb dX9_two_66 (lv_at hl 0 rfl) ?_
            refine lv_isub hx hb dX9_two_68 ?_
            obtain ⟨o11, ho11, hr⟩ := br_bind hr
            refine fwRV (As := [.int a2, .int a1, .int v5, .int a2, .int ((1 : Int32) - v6)]) (rest := []) (C := RX9) hx hb hml hown hts (m_X9_shareBoth l D am ac g  a2 a1 v5 a2 ((1 : Int32) - v6) o11 ho11) (cw_X9_shareBoth hts q1512 ⟨Nat.le_of_ble_eq_true rfl, Nat.le_of_ble_eq_true rfl⟩) hG hP hP 0 8 rfl rfl rfl hl.1 rfl (Nat.le_of_ble_eq_true rfl) dX9_two_69 ⟨Nat.le_of_ble_eq_true rfl, Nat.le_of_ble_eq_true rfl⟩ ?_
            refine lv_aload_n hx hb dX9_two_72 rfl (lv_at hl 3 rfl) ?_
            refine lv_iload_n hx hb dX9_two_73 rfl (lv_at hl 5 rfl) ?_
            refine lv_iload_n hx hb dX9_two_74 rfl (lv_at hl 4 rfl) ?_
            refine lv_iload hx hb dX9_two_75 (lv_at hl 1 rfl) ?_
            refine lv_iload_n hx hb dX9_two_77 rfl (lv_at hl 5 rfl) ?_
            refine lv_iload hx hb dX9_two_78 (lv_at hl 0 rfl) ?_
            obtain ⟨o12, ho12, hr⟩ := br_bind hr
            refine fwRV (As := [.int a2, .int a1, .int v5, .int a2, .int v6]) (rest := [.int o11]) (C := RX9) hx hb hml hown hts (m_X9_shareBoth l D am ac g  a2 a1 v5 a2 v6 o12 ho12) (cw_X9_shareBoth hts q1512 ⟨Nat.le_of_ble_eq_true rfl, Nat.le_of_ble_eq_true rfl⟩) hG hP hP 0 8 rfl rfl rfl hl.1 rfl (Nat.le_of_ble_eq_true rfl) dX9_two_80 ⟨Nat.le_of_ble_eq_true rfl, Nat.le_of_ble_eq_true rfl⟩ ?_
            have hi13 := br_ite hr
            refine lv_icmp_gt (tgt := 95) hx hb dX9_two_83 (by decide) (fun c13 => ?_) (fun c13 => ?_)
            · have hr := hi13.1 c13
              obtain ⟨v14, hv14, hr⟩ := br_let hr
              refine lv_iinc (v := v14) (lv' := [(3, .int v14), (5, .int v6), (4, .int v5), (0, .ref (am 0)), (1, .int a1), (2, .int a2)]) hx hb dX9_two_95 hl (k := 2) rfl (hv14 ▸ rfl) (by decide) rfl (fun ls hl => ?_)
              refine lv_goto (tgt := 17) hx hb dX9_two_98 (by decide) ?_
              exact ih v14 _ hr hret _ _ ls (lv_sub hl [0, 3, 4, 5] rfl) hS kx
            · have hr := hi13.2 c13
              refine lv_bipush (v := 10) hx hb dX9_two_86 rfl ?_
              refine lv_iload hx hb dX9_two_88 (lv_at hl 1 rfl) ?_
              refine lv_imul hx hb dX9_two_90 ?_
              refine lv_iload hx hb dX9_two_91 (lv_at hl 0 rfl) ?_
              refine lv_iadd hx hb dX9_two_93 ?_
              have hr := hret _ (Option.some.inj hr).symm
              obtain rfl := Option.some.inj hr
              refine W.widen (k := rm_X9_two.cells) (n := rm_X9_two.slots) (Nat.le_of_ble_eq_true rfl) (Nat.le_of_ble_eq_true rfl) ?_
              exact W.iret hx hb hrt (fun t ht _ => hS.q ht rfl) hS.2.2.2.2 dX9_two_94 hlk
    obtain ⟨o3, ho3, hl3, hk3⟩ := br_bsR hr
    refine L3 1000 0 o3 ho3 (fun r hq => hl3 r hq) _ _ ls (lv_sub hl [0, 1, 2, 3] rfl) hS (fun t3 hq3 H locs ls hl hS => ?_)
    have hP := hS.1
    have hr := hk3 t3 hq3
    refine lv_bipush (v := (-9)) hx hb dX9_two_101 rfl ?_
    obtain rfl := Option.some.inj hr
    refine W.widen (k := rm_X9_two.cells) (n := rm_X9_two.slots) (Nat.le_of_ble_eq_true rfl) (Nat.le_of_ble_eq_true rfl) ?_
    exact W.iret hx hb hrt (fun t ht _ => hS.q ht rfl) hS.2.2.2.2 dX9_two_103 hlk
  · have hr := hi2.1 c2
    refine lv_aload_n hx hb dX9_two_9 rfl (lv_at hl 0 rfl) ?_
    refine lv_iconst (v := (-1)) hx hb dX9_two_10 rfl ?_
    obtain ⟨o15, ho15, hr⟩ := br_bind hr
    refine fwWVs (As := [.int (-1)]) (rest := []) (C := RX9) hx hb hml hown hts (m_X9_no l D am ac g (-1 : Int32) _ o15 ho15) (cw_X9_no hts q1263 ⟨Nat.le_of_ble_eq_true rfl, Nat.le_of_ble_eq_true rfl⟩) hG hS hA rfl 0 8 rfl rfl rfl hl.1 rfl (Nat.le_of_ble_eq_true rfl) dX9_two_11 ⟨Nat.le_of_ble_eq_true rfl, Nat.le_of_ble_eq_true rfl⟩ (fun H locs hS => ?_)
    have hP := hS.1
    obtain rfl := Option.some.inj hr
    refine W.widen (k := rm_X9_two.cells) (n := rm_X9_two.slots) (Nat.le_of_ble_eq_true rfl) (Nat.le_of_ble_eq_true rfl) ?_
    exact W.iret hx hb hrt (fun t ht _ => hS.q ht rfl) hS.2.2.2.2 dX9_two_14 hlk
theorem cw_X9_two {R : Room} {s : State} {args : Array Value} {own : String} {index : Nat} (hts : ∀ w ∈ lw_all, w.before args s = true) (hlink : Cond.methodLink own index yX9_two ∈ lw_all) (hR : rm_X9_two.frames + 1 ≤ R.frames ∧ 8 + (6 + 11) + rm_X9_two.locals ≤ R.locals) : CallW R s args own RX9 index yX9_two cX9_two 6 (some FieldType.int) (ws_ yX9_two cX9_two 6 (some FieldType.int)) rm_X9_two rm_X9_two.cells rm_X9_two.slots 2 :=
  cwV 2 hts (lw_V hlink q1509 q1510 q111 q1511) rfl rfl rfl (by decide +kernel) hR
def f_X9_noWide (g : MS) (a1 : Int32) : Option (Int64 × MS) := Option.bind (f_X9_no g a1) fun o1 => some (((4000000000000000000 : Int64) - (Int32.toInt64 o1.1)), o1.2)
abbrev rm_X9_noWide : Room := ({ frames := 2, cells := 0, slots := 0, locals := 39 })
set_option maxHeartbeats 4000000 in
theorem m_X9_noWide (l : Launch) (D : va_G) (am : Nat → Nat) (ac : Nat → ClassId) (g : MS) (a1 : Int32) (sz : Nat) (r0 : Int64 × MS) (hr : f_X9_noWide g a1 = some r0) : WM l yX9_noWide cX9_noWide 2 (some FieldType.long) rm_X9_noWide [.ref (am 0), .int a1] D ac (wM am ac g) (wM am ac r0.2) sz (some (.long r0.1)) := by
  refine fw_of (by decide) (Nat.le_of_ble_eq_true rfl) ?_
  intro p e s m below meth c ls hx hb hrt hts hown hlk hml _ hU hl
  obtain ⟨rfl, hP, hG, hD⟩ := hU
  have hA : ∀ q : Nat, s.heap.size ≤ q → va_A (wM am ac g) s.heap.size q := fun q h => Or.inr h
  have hS := Stt.start hP hD
  show WW p l e rm_X9_noWide s m [.ref (am 0), .int a1] below meth c D (wM am ac r0.2) (va_A (wM am ac g) s.heap.size) (some (.long r0.1)) s.heap [] 0 0 0 ls []
  have hl : lv_has ls 2 [(0, .ref (am 0)), (1, .int a1)] := hl
  rw [f_X9_noWide] at hr
  refine lv_ldc2 (v := 4000000000000000000) hx hb hown (hts _ q1528) dX9_noWide_0 ?_
  refine lv_aload_n hx hb dX9_noWide_3 rfl (lv_at hl 0 rfl) ?_
  refine lv_iload_n hx hb dX9_noWide_4 rfl (lv_at hl 1 rfl) ?_
  obtain ⟨o1, ho1, hr⟩ := br_bind hr
  refine fwWVs (As := [.int a1]) (rest := [.long 4000000000000000000]) (C := RX9) hx hb hml hown hts (m_X9_no l D am ac g a1 _ o1 ho1) (cw_X9_no hts q1263 ⟨Nat.le_of_ble_eq_true rfl, Nat.le_of_ble_eq_true rfl⟩) hG hS hA rfl 0 8 rfl rfl rfl hl.1 rfl (Nat.le_of_ble_eq_true rfl) dX9_noWide_5 ⟨Nat.le_of_ble_eq_true rfl, Nat.le_of_ble_eq_true rfl⟩ (fun H locs hS => ?_)
  have hP := hS.1
  refine lv_i2l (v := (Int32.toInt64 o1.1)) hx hb dX9_noWide_8 rfl ?_
  refine lv_lsub hx hb dX9_noWide_9 ?_
  obtain rfl := Option.some.inj hr
  refine W.widen (k := rm_X9_noWide.cells) (n := rm_X9_noWide.slots) (Nat.le_of_ble_eq_true rfl) (Nat.le_of_ble_eq_true rfl) ?_
  exact W.lret hx hb hrt (fun t ht _ => hS.q ht rfl) hS.2.2.2.2 dX9_noWide_10 hlk
theorem cw_X9_noWide {R : Room} {s : State} {args : Array Value} {own : String} {index : Nat} (hts : ∀ w ∈ lw_all, w.before args s = true) (hlink : Cond.methodLink own index yX9_noWide ∈ lw_all) (hR : rm_X9_noWide.frames + 1 ≤ R.frames ∧ 8 + (2 + 11) + rm_X9_noWide.locals ≤ R.locals) : CallW R s args own RX9 index yX9_noWide cX9_noWide 2 (some FieldType.long) (ws_ yX9_noWide cX9_noWide 2 (some FieldType.long)) rm_X9_noWide rm_X9_noWide.cells rm_X9_noWide.slots 1 :=
  cwV 1 hts (lw_V hlink q1526 qs98 q111 q1527) rfl rfl rfl (by decide +kernel) hR
def f_X9_waysFor_L31 (a1 : Int32) (a2 : Int32) (a3 : Int32) (a4 : Int32) (rec_ : Int32 → Int32 → Int32 → Int32 → Option Int64) : Nat → Int32 → Int64 → Option (Int64)
  | 0, _, _ => none
  | n + 1, x7_5, x5_5 => if 25 ≤ x7_5 then some x5_5 else Option.bind (f_X9_has a1 x7_5) fun o7 => if o7 = 0 then Option.bind (some ((x5_5 + 0) : Int64)) fun v9 => Option.bind (some ((x7_5 + 1) : Int32)) fun v10 => f_X9_waysFor_L31 a1 a2 a3 a4 rec_ n v10 v9 else Option.bind (rec_ (a1 &&& (((1 : Int32) <<< (x7_5 &&& 31)) ^^^ (-1))) a2 a3 (a4 - 1)) fun o11 => Option.bind (some ((x5_5 + o11) : Int64)) fun v12 => Option.bind (some ((x7_5 + 1) : Int32)) fun v13 => f_X9_waysFor_L31 a1 a2 a3 a4 rec_ n v13 v12
def f_X9_waysFor : Nat → MS → Int32 → Int32 → Int32 → Int32 → Option (Int64)
  | 0, _, _, _, _, _ => none
  | d_ + 1, g, a1, a2, a3, a4 => if a4 = 0 then Option.bind (f_X9_shareOf g a1 a2) fun o2 => if o2 < a3 then some 0 else some 1 else if a1 = 0 then Option.bind (f_X9_shareOf g a1 a2) fun o14 => if o14 < a3 then some 0 else some 1 else Option.bind (f_X9_waysFor_L31 a1 a2 a3 a4 (f_X9_waysFor d_ g) 1000 0 0) fun o5 => some o5
abbrev rm_X9_waysFor (d : Nat) : Room := ({ frames := 6 + d, cells := 0, slots := 0, locals := 136 + d * 27 })
theorem cw_X9_waysFor (d : Nat) {R : Room} {s : State} {args : Array Value} {own : String} {index : Nat} (hts : ∀ w ∈ lw_all, w.before args s = true) (hlink : Cond.methodLink own index yX9_waysFor ∈ lw_all) (hR : (rm_X9_waysFor d).frames + 1 ≤ R.frames ∧ 8 + (8 + 11) + (rm_X9_waysFor d).locals ≤ R.locals) : CallW R s args own RX9 index yX9_waysFor cX9_waysFor 8 (some FieldType.long) (ws_ yX9_waysFor cX9_waysFor 8 (some FieldType.long)) (rm_X9_waysFor d) 0 0 4 :=
  cwV 4 hts (lw_V hlink q1531 qs99 q111 q1532) rfl rfl rfl (by decide +kernel) hR
set_option maxHeartbeats 4000000 in
theorem m_X9_waysFor (l : Launch) (D : va_G) (am : Nat → Nat) (ac : Nat → ClassId) (g : MS) : ∀ (d_ : Nat) (a1 : Int32) (a2 : Int32) (a3 : Int32) (a4 : Int32) (r0 : Int64) (hr : f_X9_waysFor d_ g a1 a2 a3 a4 = some r0), PM l yX9_waysFor cX9_waysFor 8 (some FieldType.long) (rm_X9_waysFor d_) [.ref (am 0), .int a1, .int a2, .int a3, .int a4] (RP D ac (wM am ac g)) (some (.long r0)) := by
  intro d_
  induction d_ with
  | zero => intro a1 a2 a3 a4 r0 hr; rw [f_X9_waysFor] at hr; cases hr
  | succ d_ ihr =>
  intro a1 a2 a3 a4 r0 hr
  refine fw_of (by decide) (Nat.le_of_ble_eq_true rfl) ?_
  intro p e s m below meth c ls hx hb hrt hts hown hlk hml _ hU hl
  obtain ⟨hP, hG⟩ := hU
  have hl : lv_has ls 8 [(0, .ref (am 0)), (1, .int a1), (2, .int a2), (3, .int a3), (4, .int a4)] := hl
  rw [f_X9_waysFor] at hr
  refine lv_iload hx hb dX9_waysFor_0 (lv_at hl 4 rfl) ?_
  have hi1 := br_ite hr
  refine lv_if_eq (tgt := 9) hx hb dX9_waysFor_2 (by decide) (fun c1 => ?_) (fun c1 => ?_)
  · have hr := hi1.1 c1
    refine lv_aload_n hx hb dX9_waysFor_9 rfl (lv_at hl 0 rfl) ?_
    refine lv_iload_n hx hb dX9_waysFor_10 rfl (lv_at hl 1 rfl) ?_
    refine lv_iload_n hx hb dX9_waysFor_11 rfl (lv_at hl 2 rfl) ?_
    obtain ⟨o2, ho2, hr⟩ := br_bind hr
    refine fwRV (As := [.int a1, .int a2]) (rest := []) (C := RX9) hx hb hml hown hts (m_X9_shareOf l D am ac g  a1 a2 o2 ho2) (cw_X9_shareOf hts q1352 ⟨by dsimp only [rm_X9_waysFor, rm_X9_has, rm_X9_shareOf]; omega, by dsimp only [rm_X9_waysFor, rm_X9_has, rm_X9_shareOf]; omega⟩) hG hP hP 0 8 rfl rfl rfl hl.1 rfl (Nat.le_of_ble_eq_true rfl) dX9_waysFor_12 ⟨Nat.zero_le _, Nat.zero_le _⟩ ?_
    refine lv_iload_n hx hb dX9_waysFor_15 rfl (lv_at hl 3 rfl) ?_
    have hi3 := br_ite hr
    refine lv_icmp_lt (tgt := 23) hx hb dX9_waysFor_16 (by decide) (fun c3 => ?_) (fun c3 => ?_)
    · have hr := hi3.1 c3
      refine lv_lconst (v := 0) hx hb dX9_waysFor_23 rfl ?_
      exact W.lret hx hb hrt (fun t ht _ => ⟨ret_l hr, ht⟩) noB dX9_waysFor_24 hlk
    · have hr := hi3.2 c3
      refine lv_lconst (v := 1) hx hb dX9_waysFor_19 rfl ?_
      refine lv_goto (tgt := 24) hx hb dX9_waysFor_20 (by decide) ?_
      exact W.lret hx hb hrt (fun t ht _ => ⟨ret_l hr, ht⟩) noB dX9_waysFor_24 hlk
  · have hr := hi1.2 c1
    refine lv_iload_n hx hb dX9_waysFor_5 rfl (lv_at hl 1 rfl) ?_
    have hi4 := br_ite hr
    refine lv_if_ne (tgt := 25) hx hb dX9_waysFor_6 (by decide) (fun c4 => ?_) (fun c4 => ?_)
    · have hr := hi4.2 c4
      refine lv_lconst (v := 0) hx hb dX9_waysFor_25 rfl ?_
      refine lv_lstore (lv' := [(5, .long 0), (0, .ref (am 0)), (1, .int a1), (2, .int a2), (3, .int a3), (4, .int a4)]) hx hb dX9_waysFor_26 hl (by decide) rfl (fun ls hl => ?_)
      refine lv_iconst (v := 0) hx hb dX9_waysFor_28 rfl ?_
      refine lv_istore (lv' := [(7, .int 0), (5, .long 0), (0, .ref (am 0)), (1, .int a1), (2, .int a2), (3, .int a3), (4, .int a4)]) hx hb dX9_waysFor_29 hl (by decide) rfl (fun ls hl => ?_)
      have L5 : ∀ (n : Nat) (x7_5 : Int32) (x5_5 : Int64) (o5 : Int64), f_X9_waysFor_L31 a1 a2 a3 a4 (f_X9_waysFor d_ g) n x7_5 x5_5 = some o5 → ∀ ls, lv_has ls 8 [(7, .int x7_5), (5, .long x5_5), (0, .ref (am 0)), (1, .int a1), (2, .int a2), (3, .int a3), (4, .int a4)] → (∀ ls, lv_has ls 8 [(5, .long o5)] → WP p l e (rm_X9_waysFor (d_ + 1)) s m [.ref (am 0), .int a1, .int a2, .int a3, .int a4] below meth c (some (.long r0)) 80 ls []) → WP p l e (rm_X9_waysFor (d_ + 1)) s m [.ref (am 0), .int a1, .int a2, .int a3, .int a4] below meth c (some (.long r0)) 31 ls [] := by
        intro n
        induction n with
        | zero => intro x7_5 x5_5 o5 hr; rw [f_X9_waysFor_L31] at hr; cases hr
        | succ n ih =>
          intro x7_5 x5_5 o5 hr ls hl kx
          rw [f_X9_waysFor_L31] at hr
          refine lv_iload hx hb dX9_waysFor_31 (lv_at hl 0 rfl) ?_
          refine lv_bipush (v := 25) hx hb dX9_waysFor_33 rfl ?_
          have hi6 := br_ite hr
          refine lv_icmp_ge (tgt := 80) hx hb dX9_waysFor_35 (by decide) (fun c6 => ?_) (fun c6 => ?_)
          · have hr := hi6.1 c6
            obtain rfl := Option.some.inj hr
            exact kx ls (lv_sub hl [1] rfl)
          · have hr := hi6.2 c6
            refine lv_lload hx hb dX9_waysFor_38 (lv_at hl 1 rfl) ?_
            refine lv_iload_n hx hb dX9_waysFor_40 rfl (lv_at hl 3 rfl) ?_
            refine lv_iload hx hb dX9_waysFor_41 (lv_at hl 0 rfl) ?_
            obtain ⟨o7, ho7, hr⟩ := br_bind hr
            refine fwS (As := [.int a1, .int x7_5]) (rest := [.long x5_5]) hx hb hml hown hts (m_X9_has l a1 x7_5 o7 ho7) (cw_X9_has hts q1365 ⟨by dsimp only [rm_X9_waysFor, rm_X9_has, rm_X9_shareOf]; omega, by dsimp only [rm_X9_waysFor, rm_X9_has, rm_X9_shareOf]; omega⟩) rfl hl.1 rfl (Nat.le_of_ble_eq_true rfl) dX9_waysFor_43 ⟨Nat.zero_le _, Nat.zero_le _⟩ ?_
            have hi8 := br_ite hr
            refine lv_if_eq (tgt := 70) hx hb dX9_waysFor_46 (by decide) (fun c8 => ?_) (fun c8 => ?_)
            · have hr := hi8.1 c8
              refine lv_lconst (v := 0) hx hb dX9_waysFor_70 rfl ?_
              refine lv_ladd hx hb dX9_waysFor_71 ?_
              refine lv_topl (fun v9 hv9 => ?_)
              have hr := br_letv hr hv9
              refine lv_lstore (lv' := [(5, .long v9), (7, .int x7_5), (0, .ref (am 0)), (1, .int a1), (2, .int a2), (3, .int a3), (4, .int a4)]) hx hb dX9_waysFor_72 hl (by decide) rfl (fun ls hl => ?_)
              obtain ⟨v10, hv10, hr⟩ := br_let hr
              refine lv_iinc (v := v10) (lv' := [(7, .int v10), (5, .long v9), (0, .ref (am 0)), (1, .int a1), (2, .int a2), (3, .int a3), (4, .int a4)]) hx hb dX9_waysFor_74 hl (k := 1) rfl (hv10 ▸ rfl) (by decide) rfl (fun ls hl => ?_)
              refine lv_goto (tgt := 31) hx hb dX9_waysFor_77 (by decide) ?_
              exact ih v10 v9 _ hr ls (lv_sub hl [0, 1, 2, 3, 4, 5, 6] rfl) kx
            · have hr := hi8.2 c8
              refine lv_aload_n hx hb dX9_waysFor_49 rfl (lv_at hl 2 rfl) ?_
              refine lv_iload_n hx hb dX9_waysFor_50 rfl (lv_at hl 3 rfl) ?_
              refine lv_iconst (v := 1) hx hb dX9_waysFor_51 rfl ?_
              refine lv_iload hx hb dX9_waysFor_52 (lv_at hl 0 rfl) ?_
              refine lv_ishl hx hb dX9_waysFor_54 ?_
              refine lv_iconst (v := (-1)) hx hb dX9_waysFor_55 rfl ?_
              refine lv_ixor hx hb dX9_waysFor_56 ?_
              refine lv_iand hx hb dX9_waysFor_57 ?_
              refine lv_iload_n hx hb dX9_waysFor_58 rfl (lv_at hl 4 rfl) ?_
              refine lv_iload_n hx hb dX9_waysFor_59 rfl (lv_at hl 5 rfl) ?_
              refine lv_iload hx hb dX9_waysFor_60 (lv_at hl 6 rfl) ?_
              refine lv_iconst (v := 1) hx hb dX9_waysFor_62 rfl ?_
              refine lv_isub hx hb dX9_waysFor_63 ?_
              obtain ⟨o11, ho11, hr⟩ := br_bind hr
              refine fwRV (As := [.int (a1 &&& (((1 : Int32) <<< (x7_5 &&& 31)) ^^^ (-1))), .int a2, .int a3, .int (a4 - 1)]) (rest := [.long x5_5]) (C := RX9) hx hb hml hown hts (ihr (a1 &&& (((1 : Int32) <<< (x7_5 &&& 31)) ^^^ (-1))) a2 a3 (a4 - 1) o11 ho11) (cw_X9_waysFor d_ hts q1529 ⟨by dsimp only [rm_X9_waysFor, rm_X9_has, rm_X9_shareOf]; omega, by dsimp only [rm_X9_waysFor, rm_X9_has, rm_X9_shareOf]; omega⟩) hG hP hP 0 8 rfl rfl rfl hl.1 rfl (Nat.le_of_ble_eq_true rfl) dX9_waysFor_64 ⟨Nat.zero_le _, Nat.zero_le _⟩ ?_
              refine lv_goto (tgt := 71) hx hb dX9_waysFor_67 (by decide) ?_
              refine lv_ladd hx hb dX9_waysFor_71 ?_
              refine lv_topl (fun v12 hv12 => ?_)
              have hr := br_letv hr hv12
              refine lv_lstore (lv' := [(5, .long v12), (7, .int x7_5), (0, .ref (am 0)), (1, .int a1), (2, .int a2), (3, .int a3), (4, .int a4)]) hx hb dX9_waysFor_72 hl (by decide) rfl (fun ls hl => ?_)
              obtain ⟨v13, hv13, hr⟩ := br_let hr
              refine lv_iinc (v := v13) (lv' := [(7, .int v13), (5, .long v12), (0, .ref (am 0)), (1, .int a1), (2, .int a2), (3, .int a3), (4, .int a4)]) hx hb dX9_waysFor_74 hl (k := 1) rfl (hv13 ▸ rfl) (by decide) rfl (fun ls hl => ?_)
              refine lv_goto (tgt := 31) hx hb dX9_waysFor_77 (by decide) ?_
              exact ih v13 v12 _ hr ls (lv_sub hl [0, 1, 2, 3, 4, 5, 6] rfl) kx
      obtain ⟨o5, ho5, hr⟩ := br_bind hr
      refine L5 1000 0 0 o5 ho5 ls (lv_sub hl [0, 1, 2, 3, 4, 5, 6] rfl) (fun ls hl => ?_)
      refine lv_lload hx hb dX9_waysFor_80 (lv_at hl 0 rfl) ?_
      exact W.lret hx hb hrt (fun t ht _ => ⟨ret_l hr, ht⟩) noB dX9_waysFor_82 hlk
    · have hr := hi4.1 c4
      refine lv_aload_n hx hb dX9_waysFor_9 rfl (lv_at hl 0 rfl) ?_
      refine lv_iload_n hx hb dX9_waysFor_10 rfl (lv_at hl 1 rfl) ?_
      refine lv_iload_n hx hb dX9_waysFor_11 rfl (lv_at hl 2 rfl) ?_
      obtain ⟨o14, ho14, hr⟩ := br_bind hr
      refine fwRV (As := [.int a1, .int a2]) (rest := []) (C := RX9) hx hb hml hown hts (m_X9_shareOf l D am ac g  a1 a2 o14 ho14) (cw_X9_shareOf hts q1352 ⟨by dsimp only [rm_X9_waysFor, rm_X9_has, rm_X9_shareOf]; omega, by dsimp only [rm_X9_waysFor, rm_X9_has, rm_X9_shareOf]; omega⟩) hG hP hP 0 8 rfl rfl rfl hl.1 rfl (Nat.le_of_ble_eq_true rfl) dX9_waysFor_12 ⟨Nat.zero_le _, Nat.zero_le _⟩ ?_
      refine lv_iload_n hx hb dX9_waysFor_15 rfl (lv_at hl 3 rfl) ?_
      have hi15 := br_ite hr
      refine lv_icmp_lt (tgt := 23) hx hb dX9_waysFor_16 (by decide) (fun c15 => ?_) (fun c15 => ?_)
      · have hr := hi15.1 c15
        refine lv_lconst (v := 0) hx hb dX9_waysFor_23 rfl ?_
        exact W.lret hx hb hrt (fun t ht _ => ⟨ret_l hr, ht⟩) noB dX9_waysFor_24 hlk
      · have hr := hi15.2 c15
        refine lv_lconst (v := 1) hx hb dX9_waysFor_19 rfl ?_
        refine lv_goto (tgt := 24) hx hb dX9_waysFor_20 (by decide) ?_
        exact W.lret hx hb hrt (fun t ht _ => ⟨ret_l hr, ht⟩) noB dX9_waysFor_24 hlk
def f_X9_chance_L70 (g : MS) (a2 : Int32) : Nat → Int32 → Int64 → Option (Int64)
  | 0, _, _ => none
  | n + 1, x7_11, x5_11 => if a2 ≤ x7_11 then some x5_11 else Option.bind (f_X9_bits (mG_left g)) fun o13 => if o13 ≤ x7_11 then some x5_11 else Option.bind (f_X9_bits (mG_left g)) fun o15 => Option.bind (some ((x5_11 * (Int32.toInt64 (o15 - x7_11))) : Int64)) fun v16 => Option.bind (some ((x7_11 + 1) : Int32)) fun v17 => f_X9_chance_L70 g a2 n v17 v16
def f_X9_chance (g : MS) (a1 : Int32) (a2 : Int32) (a3 : Int32) (a4 : Int32) : Option (Int64 × MS) := Option.bind (f_X9_isHeir g a1) fun o1 => if o1 = 0 then Option.bind (f_X9_noWide g (-1 : Int32)) fun o23 => some (o23.1, o23.2) else if a2 < 0 then Option.bind (f_X9_noWide g (-4 : Int32)) fun o4 => some (o4.1, o4.2) else if 0 ≤ a3 then if 2 < a2 then Option.bind (f_X9_noWide g (-6 : Int32)) fun o7 => some (o7.1, o7.2) else if a3 ≤ 40 then Option.bind (f_X9_isIn a4 0 1) fun o9 => if o9 = 0 then Option.bind (f_X9_noWide g (-2 : Int32)) fun o20 => some (o20.1, o20.2) else Option.bind (f_X9_chance_L70 g a2 1000 0 1) fun o11 => Option.bind (f_X9_waysFor 4 g (mG_left g) a1 a3 a2) fun o18 => Option.bind (f_X9_partOf o18 o11 a4) fun o19 => some (o19, g) else Option.bind (f_X9_noWide g (-6 : Int32)) fun o21 => some (o21.1, o21.2) else Option.bind (f_X9_noWide g (-4 : Int32)) fun o22 => some (o22.1, o22.2)
abbrev rm_X9_chance : Room := ({ frames := 11, cells := 0, slots := 0, locals := 271 })
set_option maxHeartbeats 4000000 in
theorem m_X9_chance (l : Launch) (D : va_G) (am : Nat → Nat) (ac : Nat → ClassId) (g : MS) (a1 : Int32) (a2 : Int32) (a3 : Int32) (a4 : Int32) (sz : Nat) (r0 : Int64 × MS) (hr : f_X9_chance g a1 a2 a3 a4 = some r0) : WM l yX9_chance cX9_chance 8 (some FieldType.long) rm_X9_chance [.ref (am 0), .int a1, .int a2, .int a3, .int a4] D ac (wM am ac g) (wM am ac r0.2) sz (some (.long r0.1)) := by
  refine fw_of (by decide) (Nat.le_of_ble_eq_true rfl) ?_
  intro p e s m below meth c ls hx hb hrt hts hown hlk hml _ hU hl
  obtain ⟨rfl, hP, hG, hD⟩ := hU
  have hA : ∀ q : Nat, s.heap.size ≤ q → va_A (wM am ac g) s.heap.size q := fun q h => Or.inr h
  have hS := Stt.start hP hD
  show WW p l e rm_X9_chance s m [.ref (am 0), .int a1, .int a2, .int a3, .int a4] below meth c D (wM am ac r0.2) (va_A (wM am ac g) s.heap.size) (some (.long r0.1)) s.heap [] 0 0 0 ls []
  have hl : lv_has ls 8 [(0, .ref (am 0)), (1, .int a1), (2, .int a2), (3, .int a3), (4, .int a4)] := hl
  rw [f_X9_chance] at hr
  refine lv_aload_n hx hb dX9_chance_0 rfl (lv_at hl 0 rfl) ?_
  refine lv_iload_n hx hb dX9_chance_1 rfl (lv_at hl 1 rfl) ?_
  obtain ⟨o1, ho1, hr⟩ := br_bind hr
  refine fwRV (As := [.int a1]) (rest := []) (C := RX9) hx hb hml hown hts (m_X9_isHeir l D am ac g  a1 o1 ho1) (cw_X9_isHeir hts q1348 ⟨Nat.le_of_ble_eq_true rfl, Nat.le_of_ble_eq_true rfl⟩) hG hP hP 0 8 rfl rfl rfl hl.1 rfl (Nat.le_of_ble_eq_true rfl) dX9_chance_2 ⟨Nat.le_of_ble_eq_true rfl, Nat.le_of_ble_eq_true rfl⟩ ?_
  have hi2 := br_ite hr
  refine lv_if_ne (tgt := 14) hx hb dX9_chance_5 (by decide) (fun c2 => ?_) (fun c2 => ?_)
  · have hr := hi2.2 c2
    refine lv_iload_n hx hb dX9_chance_14 rfl (lv_at hl 2 rfl) ?_
    have hi3 := br_ite hr
    refine lv_if_lt (tgt := 22) hx hb dX9_chance_15 (by decide) (fun c3 => ?_) (fun c3 => ?_)
    · have hr := hi3.1 c3
      refine lv_aload_n hx hb dX9_chance_22 rfl (lv_at hl 0 rfl) ?_
      refine lv_bipush (v := (-4)) hx hb dX9_chance_23 rfl ?_
      obtain ⟨o4, ho4, hr⟩ := br_bind hr
      refine fwWVs (As := [.int (-4)]) (rest := []) (C := RX9) hx hb hml hown hts (m_X9_noWide l D am ac g (-4 : Int32) _ o4 ho4) (cw_X9_noWide hts q1524 ⟨Nat.le_of_ble_eq_true rfl, Nat.le_of_ble_eq_true rfl⟩) hG hS hA rfl 0 8 rfl rfl rfl hl.1 rfl (Nat.le_of_ble_eq_true rfl) dX9_chance_25 ⟨Nat.le_of_ble_eq_true rfl, Nat.le_of_ble_eq_true rfl⟩ (fun H locs hS => ?_)
      have hP := hS.1
      obtain rfl := Option.some.inj hr
      refine W.widen (k := rm_X9_chance.cells) (n := rm_X9_chance.slots) (Nat.le_of_ble_eq_true rfl) (Nat.le_of_ble_eq_true rfl) ?_
      exact W.lret hx hb hrt (fun t ht _ => hS.q ht rfl) hS.2.2.2.2 dX9_chance_28 hlk
    · have hr := hi3.2 c3
      refine lv_iload_n hx hb dX9_chance_18 rfl (lv_at hl 3 rfl) ?_
      have hi5 := br_ite hr
      refine lv_if_ge (tgt := 29) hx hb dX9_chance_19 (by decide) (fun c5 => ?_) (fun c5 => ?_)
      · have hr := hi5.1 c5
        refine lv_iload_n hx hb dX9_chance_29 rfl (lv_at hl 2 rfl) ?_
        refine lv_iconst (v := 2) hx hb dX9_chance_30 rfl ?_
        have hi6 := br_ite hr
        refine lv_icmp_gt (tgt := 40) hx hb dX9_chance_31 (by decide) (fun c6 => ?_) (fun c6 => ?_)
        · have hr := hi6.1 c6
          refine lv_aload_n hx hb dX9_chance_40 rfl (lv_at hl 0 rfl) ?_
          refine lv_bipush (v := (-6)) hx hb dX9_chance_41 rfl ?_
          obtain ⟨o7, ho7, hr⟩ := br_bind hr
          refine fwWVs (As := [.int (-6)]) (rest := []) (C := RX9) hx hb hml hown hts (m_X9_noWide l D am ac g (-6 : Int32) _ o7 ho7) (cw_X9_noWide hts q1524 ⟨Nat.le_of_ble_eq_true rfl, Nat.le_of_ble_eq_true rfl⟩) hG hS hA rfl 0 8 rfl rfl rfl hl.1 rfl (Nat.le_of_ble_eq_true rfl) dX9_chance_43 ⟨Nat.le_of_ble_eq_true rfl, Nat.le_of_ble_eq_true rfl⟩ (fun H locs hS => ?_)
          have hP := hS.1
          obtain rfl := Option.some.inj hr
          refine W.widen (k := rm_X9_chance.cells) (n := rm_X9_chance.slots) (Nat.le_of_ble_eq_true rfl) (Nat.le_of_ble_eq_true rfl) ?_
          exact W.lret hx hb hrt (fun t ht _ => hS.q ht rfl) hS.2.2.2.2 dX9_chance_46 hlk
        · have hr := hi6.2 c6
          refine lv_iload_n hx hb dX9_chance_34 rfl (lv_at hl 3 rfl) ?_
          refine lv_bipush (v := 40) hx hb dX9_chance_35 rfl ?_
          have hi8 := br_ite hr
          refine lv_icmp_le (tgt := 47) hx hb dX9_chance_37 (by decide) (fun c8 => ?_) (fun c8 => ?_)
          · have hr := hi8.1 c8
            refine lv_iload hx hb dX9_chance_47 (lv_at hl 4 rfl) ?_
            refine lv_iconst (v := 0) hx hb dX9_chance_49 rfl ?_
            refine lv_iconst (v := 1) hx hb dX9_chance_50 rfl ?_
            obtain ⟨o9, ho9, hr⟩ := br_bind hr
            refine fwS (As := [.int a4, .int 0, .int 1]) (rest := []) hx hb hml hown hts (m_X9_isIn l a4 0 1 o9 ho9) (cw_X9_isIn hts q1290 ⟨Nat.le_of_ble_eq_true rfl, Nat.le_of_ble_eq_true rfl⟩) rfl hl.1 rfl (Nat.le_of_ble_eq_true rfl) dX9_chance_51 ⟨Nat.le_of_ble_eq_true rfl, Nat.le_of_ble_eq_true rfl⟩ ?_
            have hi10 := br_ite hr
            refine lv_if_ne (tgt := 64) hx hb dX9_chance_54 (by decide) (fun c10 => ?_) (fun c10 => ?_)
            · have hr := hi10.2 c10
              refine lv_lconst (v := 1) hx hb dX9_chance_64 rfl ?_
              refine lv_lstore (lv' := [(5, .long 1), (0, .ref (am 0)), (1, .int a1), (2, .int a2), (3, .int a3), (4, .int a4)]) hx hb dX9_chance_65 hl (by decide) rfl (fun ls hl => ?_)
              refine lv_iconst (v := 0) hx hb dX9_chance_67 rfl ?_
              refine lv_istore (lv' := [(7, .int 0), (5, .long 1), (0, .ref (am 0)), (1, .int a1), (2, .int a2), (3, .int a3), (4, .int a4)]) hx hb dX9_chance_68 hl (by decide) rfl (fun ls hl => ?_)
              have L11 : ∀ (n : Nat) (x7_11 : Int32) (x5_11 : Int64) (o11 : Int64), f_X9_chance_L70 g a2 n x7_11 x5_11 = some o11 → ∀ (H : Heap) (locs : List Loc) ls, lv_has ls 8 [(7, .int x7_11), (5, .long x5_11), (0, .ref (am 0)), (1, .int a1), (2, .int a2), (3, .int a3), (4, .int a4)] → Stt D (va_A (wM am ac g) s.heap.size) s.heap (wM am ac g) H locs → (∀ (H : Heap) (locs : List Loc) ls, lv_has ls 8 [(5, .long o11), (0, .ref (am 0)), (1, .int a1), (2, .int a2), (3, .int a3), (4, .int a4)] → Stt D (va_A (wM am ac g) s.heap.size) s.heap (wM am ac g) H locs → WW p l e rm_X9_chance s m [.ref (am 0), .int a1, .int a2, .int a3, .int a4] below meth c D (wM am ac r0.2) (va_A (wM am ac g) s.heap.size) (some (.long r0.1)) H locs 0 0 110 ls []) → WW p l e rm_X9_chance s m [.ref (am 0), .int a1, .int a2, .int a3, .int a4] below meth c D (wM am ac r0.2) (va_A (wM am ac g) s.heap.size) (some (.long r0.1)) H locs 0 0 70 ls [] := by
                intro n
                induction n with
                | zero => intro x7_11 x5_11 o11 hr; rw [f_X9_chance_L70] at hr; cases hr
                | succ n ih =>
                  intro x7_11 x5_11 o11 hr H locs ls hl hS kx
                  have hP := hS.1
                  rw [f_X9_chance_L70] at hr
                  refine lv_iload hx hb dX9_chance_70 (lv_at hl 0 rfl) ?_
                  refine lv_iload_n hx hb dX9_chance_72 rfl (lv_at hl 4 rfl) ?_
                  have hi12 := br_ite hr
                  refine lv_icmp_ge (tgt := 110) hx hb dX9_chance_73 (by decide) (fun c12 => ?_) (fun c12 => ?_)
                  · have hr := hi12.1 c12
                    obtain rfl := Option.some.inj hr
                    exact kx _ _ ls (lv_sub hl [1, 2, 3, 4, 5, 6] rfl) hS
                  · have hr := hi12.2 c12
                    refine lv_aload_n hx hb dX9_chance_76 rfl (lv_at hl 2 rfl) ?_
                    refine va_get (D := D) (ci := 8) (v := .int (mG_left g)) (C := RX9) (T := TX9) (N := 26) hx hb hts in_X9 hown hG.1 hP 0 rfl rfl 0 (by decide) (hts _ q1180) (fun _ h9 => h9) rfl dX9_chance_77 ?_
                    obtain ⟨o13, ho13, hr⟩ := br_bind hr
                    refine fwS (As := [.int (mG_left g)]) (rest := []) hx hb hml hown hts (m_X9_bits l (mG_left g) o13 ho13) (cw_X9_bits hts q1338 ⟨Nat.le_of_ble_eq_true rfl, Nat.le_of_ble_eq_true rfl⟩) rfl hl.1 rfl (Nat.le_of_ble_eq_true rfl) dX9_chance_80 ⟨Nat.le_of_ble_eq_true rfl, Nat.le_of_ble_eq_true rfl⟩ ?_
                    refine lv_iload hx hb dX9_chance_83 (lv_at hl 0 rfl) ?_
                    have hi14 := br_ite hr
                    refine lv_icmp_le (tgt := 110) hx hb dX9_chance_85 (by decide) (fun c14 => ?_) (fun c14 => ?_)
                    · have hr := hi14.1 c14
                      obtain rfl := Option.some.inj hr
                      exact kx _ _ ls (lv_sub hl [1, 2, 3, 4, 5, 6] rfl) hS
                    · have hr := hi14.2 c14
                      refine lv_lload hx hb dX9_chance_88 (lv_at hl 1 rfl) ?_
                      refine lv_aload_n hx hb dX9_chance_90 rfl (lv_at hl 2 rfl) ?_
                      refine va_get (D := D) (ci := 8) (v := .int (mG_left g)) (C := RX9) (T := TX9) (N := 26) hx hb hts in_X9 hown hG.1 hP 0 rfl rfl 0 (by decide) (hts _ q1180) (fun _ h9 => h9) rfl dX9_chance_91 ?_
                      obtain ⟨o15, ho15, hr⟩ := br_bind hr
                      refine fwS (As := [.int (mG_left g)]) (rest := [.long x5_11]) hx hb hml hown hts (m_X9_bits l (mG_left g) o15 ho15) (cw_X9_bits hts q1338 ⟨Nat.le_of_ble_eq_true rfl, Nat.le_of_ble_eq_true rfl⟩) rfl hl.1 rfl (Nat.le_of_ble_eq_true rfl) dX9_chance_94 ⟨Nat.le_of_ble_eq_true rfl, Nat.le_of_ble_eq_true rfl⟩ ?_
                      refine lv_iload hx hb dX9_chance_97 (lv_at hl 0 rfl) ?_
                      refine lv_isub hx hb dX9_chance_99 ?_
                      refine lv_i2l (v := (Int32.toInt64 (o15 - x7_11))) hx hb dX9_chance_100 rfl ?_
                      refine lv_lmul hx hb dX9_chance_101 ?_
                      refine lv_topl (fun v16 hv16 => ?_)
                      have hr := br_letv hr hv16
                      refine lv_lstore (lv' := [(5, .long v16), (7, .int x7_11), (0, .ref (am 0)), (1, .int a1), (2, .int a2), (3, .int a3), (4, .int a4)]) hx hb dX9_chance_102 hl (by decide) rfl (fun ls hl => ?_)
                      obtain ⟨v17, hv17, hr⟩ := br_let hr
                      refine lv_iinc (v := v17) (lv' := [(7, .int v17), (5, .long v16), (0, .ref (am 0)), (1, .int a1), (2, .int a2), (3, .int a3), (4, .int a4)]) hx hb dX9_chance_104 hl (k := 1) rfl (hv17 ▸ rfl) (by decide) rfl (fun ls hl => ?_)
                      refine lv_goto (tgt := 70) hx hb dX9_chance_107 (by decide) ?_
                      exact ih v17 v16 _ hr _ _ ls (lv_sub hl [0, 1, 2, 3, 4, 5, 6] rfl) hS kx
              obtain ⟨o11, ho11, hr⟩ := br_bind hr
              refine L11 1000 0 1 o11 ho11 _ _ ls (lv_sub hl [0, 1, 2, 3, 4, 5, 6] rfl) hS (fun H locs ls hl hS => ?_)
              have hP := hS.1
              refine lv_aload_n hx hb dX9_chance_110 rfl (lv_at hl 1 rfl) ?_
              refine lv_aload_n hx hb dX9_chance_111 rfl (lv_at hl 1 rfl) ?_
              refine va_get (D := D) (ci := 8) (v := .int (mG_left g)) (C := RX9) (T := TX9) (N := 26) hx hb hts in_X9 hown hG.1 hP 0 rfl rfl 0 (by decide) (hts _ q1180) (fun _ h9 => h9) rfl dX9_chance_112 ?_
              refine lv_iload_n hx hb dX9_chance_115 rfl (lv_at hl 2 rfl) ?_
              refine lv_iload_n hx hb dX9_chance_116 rfl (lv_at hl 4 rfl) ?_
              refine lv_iload_n hx hb dX9_chance_117 rfl (lv_at hl 3 rfl) ?_
              obtain ⟨o18, ho18, hr⟩ := br_bind hr
              refine fwRV (As := [.int (mG_left g), .int a1, .int a3, .int a2]) (rest := []) (C := RX9) hx hb hml hown hts (m_X9_waysFor l D am ac g 4  (mG_left g) a1 a3 a2 o18 ho18) (cw_X9_waysFor 4 hts q1529 ⟨Nat.le_of_ble_eq_true rfl, Nat.le_of_ble_eq_true rfl⟩) hG hP hP 0 8 rfl rfl rfl hl.1 rfl (Nat.le_of_ble_eq_true rfl) dX9_chance_118 ⟨Nat.le_of_ble_eq_true rfl, Nat.le_of_ble_eq_true rfl⟩ ?_
              refine lv_lload hx hb dX9_chance_121 (lv_at hl 0 rfl) ?_
              refine lv_iload hx hb dX9_chance_123 (lv_at hl 5 rfl) ?_
              obtain ⟨o19, ho19, hr⟩ := br_bind hr
              refine fwS (As := [.long o18, .long o11, .int a4]) (rest := []) hx hb hml hown hts (m_X9_partOf l o18 o11 a4 o19 ho19) (cw_X9_partOf hts q1533 ⟨Nat.le_of_ble_eq_true rfl, Nat.le_of_ble_eq_true rfl⟩) rfl hl.1 rfl (Nat.le_of_ble_eq_true rfl) dX9_chance_125 ⟨Nat.le_of_ble_eq_true rfl, Nat.le_of_ble_eq_true rfl⟩ ?_
              obtain rfl := Option.some.inj hr
              refine W.widen (k := rm_X9_chance.cells) (n := rm_X9_chance.slots) (Nat.le_of_ble_eq_true rfl) (Nat.le_of_ble_eq_true rfl) ?_
              exact W.lret hx hb hrt (fun t ht _ => hS.q ht rfl) hS.2.2.2.2 dX9_chance_128 hlk
            · have hr := hi10.1 c10
              refine lv_aload_n hx hb dX9_chance_57 rfl (lv_at hl 0 rfl) ?_
              refine lv_bipush (v := (-2)) hx hb dX9_chance_58 rfl ?_
              obtain ⟨o20, ho20, hr⟩ := br_bind hr
              refine fwWVs (As := [.int (-2)]) (rest := []) (C := RX9) hx hb hml hown hts (m_X9_noWide l D am ac g (-2 : Int32) _ o20 ho20) (cw_X9_noWide hts q1524 ⟨Nat.le_of_ble_eq_true rfl, Nat.le_of_ble_eq_true rfl⟩) hG hS hA rfl 0 8 rfl rfl rfl hl.1 rfl (Nat.le_of_ble_eq_true rfl) dX9_chance_60 ⟨Nat.le_of_ble_eq_true rfl, Nat.le_of_ble_eq_true rfl⟩ (fun H locs hS => ?_)
              have hP := hS.1
              obtain rfl := Option.some.inj hr
              refine W.widen (k := rm_X9_chance.cells) (n := rm_X9_chance.slots) (Nat.le_of_ble_eq_true rfl) (Nat.le_of_ble_eq_true rfl) ?_
              exact W.lret hx hb hrt (fun t ht _ => hS.q ht rfl) hS.2.2.2.2 dX9_chance_63 hlk
          · have hr := hi8.2 c8
            refine lv_aload_n hx hb dX9_chance_40 rfl (lv_at hl 0 rfl) ?_
            refine lv_bipush (v := (-6)) hx hb dX9_chance_41 rfl ?_
            obtain ⟨o21, ho21, hr⟩ := br_bind hr
            refine fwWVs (As := [.int (-6)]) (rest := []) (C := RX9) hx hb hml hown hts (m_X9_noWide l D am ac g (-6 : Int32) _ o21 ho21) (cw_X9_noWide hts q1524 ⟨Nat.le_of_ble_eq_true rfl, Nat.le_of_ble_eq_true rfl⟩) hG hS hA rfl 0 8 rfl rfl rfl hl.1 rfl (Nat.le_of_ble_eq_true rfl) dX9_chance_43 ⟨Nat.le_of_ble_eq_true rfl, Nat.le_of_ble_eq_true rfl⟩ (fun H locs hS => ?_)
            have hP := hS.1
            obtain rfl := Option.some.inj hr
            refine W.widen (k := rm_X9_chance.cells) (n := rm_X9_chance.slots) (Nat.le_of_ble_eq_true rfl) (Nat.le_of_ble_eq_true rfl) ?_
            exact W.lret hx hb hrt (fun t ht _ => hS.q ht rfl) hS.2.2.2.2 dX9_chance_46 hlk
      · have hr := hi5.2 c5
        refine lv_aload_n hx hb dX9_chance_22 rfl (lv_at hl 0 rfl) ?_
        refine lv_bipush (v := (-4)) hx hb dX9_chance_23 rfl ?_
        obtain ⟨o22, ho22, hr⟩ := br_bind hr
        refine fwWVs (As := [.int (-4)]) (rest := []) (C := RX9) hx hb hml hown hts (m_X9_noWide l D am ac g (-4 : Int32) _ o22 ho22) (cw_X9_noWide hts q1524 ⟨Nat.le_of_ble_eq_true rfl, Nat.le_of_ble_eq_true rfl⟩) hG hS hA rfl 0 8 rfl rfl rfl hl.1 rfl (Nat.le_of_ble_eq_true rfl) dX9_chance_25 ⟨Nat.le_of_ble_eq_true rfl, Nat.le_of_ble_eq_true rfl⟩ (fun H locs hS => ?_)
        have hP := hS.1
        obtain rfl := Option.some.inj hr
        refine W.widen (k := rm_X9_chance.cells) (n := rm_X9_chance.slots) (Nat.le_of_ble_eq_true rfl) (Nat.le_of_ble_eq_true rfl) ?_
        exact W.lret hx hb hrt (fun t ht _ => hS.q ht rfl) hS.2.2.2.2 dX9_chance_28 hlk
  · have hr := hi2.1 c2
    refine lv_aload_n hx hb dX9_chance_8 rfl (lv_at hl 0 rfl) ?_
    refine lv_iconst (v := (-1)) hx hb dX9_chance_9 rfl ?_
    obtain ⟨o23, ho23, hr⟩ := br_bind hr
    refine fwWVs (As := [.int (-1)]) (rest := []) (C := RX9) hx hb hml hown hts (m_X9_noWide l D am ac g (-1 : Int32) _ o23 ho23) (cw_X9_noWide hts q1524 ⟨Nat.le_of_ble_eq_true rfl, Nat.le_of_ble_eq_true rfl⟩) hG hS hA rfl 0 8 rfl rfl rfl hl.1 rfl (Nat.le_of_ble_eq_true rfl) dX9_chance_10 ⟨Nat.le_of_ble_eq_true rfl, Nat.le_of_ble_eq_true rfl⟩ (fun H locs hS => ?_)
    have hP := hS.1
    obtain rfl := Option.some.inj hr
    refine W.widen (k := rm_X9_chance.cells) (n := rm_X9_chance.slots) (Nat.le_of_ble_eq_true rfl) (Nat.le_of_ble_eq_true rfl) ?_
    exact W.lret hx hb hrt (fun t ht _ => hS.q ht rfl) hS.2.2.2.2 dX9_chance_13 hlk
theorem cw_X9_chance {R : Room} {s : State} {args : Array Value} {own : String} {index : Nat} (hts : ∀ w ∈ lw_all, w.before args s = true) (hlink : Cond.methodLink own index yX9_chance ∈ lw_all) (hR : rm_X9_chance.frames + 1 ≤ R.frames ∧ 8 + (8 + 11) + rm_X9_chance.locals ≤ R.locals) : CallW R s args own RX9 index yX9_chance cX9_chance 8 (some FieldType.long) (ws_ yX9_chance cX9_chance 8 (some FieldType.long)) rm_X9_chance rm_X9_chance.cells rm_X9_chance.slots 4 :=
  cwV 4 hts (lw_V hlink q1521 q1522 q111 q1523) rfl rfl rfl (by decide +kernel) hR
def f_X9_mean (g : MS) (a1 : Int32) : Option (Int64 × MS) := Option.bind (f_X9_isIn a1 0 1) fun o1 => if o1 = 0 then Option.bind (f_X9_noWide g (-2 : Int32)) fun o3 => some (o3.1, o3.2) else Option.bind (f_X9_sharesOf g (mG_left g)) fun o4 => Option.bind (f_X9_partOf (Int32.toInt64 o4) (Int32.toInt64 (mG_many g)) a1) fun o5 => some (o5, g)
abbrev rm_X9_mean : Room := ({ frames := 7, cells := 0, slots := 0, locals := 159 })
set_option maxHeartbeats 4000000 in
theorem m_X9_mean (l : Launch) (D : va_G) (am : Nat → Nat) (ac : Nat → ClassId) (g : MS) (a1 : Int32) (sz : Nat) (r0 : Int64 × MS) (hr : f_X9_mean g a1 = some r0) : WM l yX9_mean cX9_mean 2 (some FieldType.long) rm_X9_mean [.ref (am 0), .int a1] D ac (wM am ac g) (wM am ac r0.2) sz (some (.long r0.1)) := by
  refine fw_of (by decide) (Nat.le_of_ble_eq_true rfl) ?_
  intro p e s m below meth c ls hx hb hrt hts hown hlk hml _ hU hl
  obtain ⟨rfl, hP, hG, hD⟩ := hU
  have hA : ∀ q : Nat, s.heap.size ≤ q → va_A (wM am ac g) s.heap.size q := fun q h => Or.inr h
  have hS := Stt.start hP hD
  show WW p l e rm_X9_mean s m [.ref (am 0), .int a1] below meth c D (wM am ac r0.2) (va_A (wM am ac g) s.heap.size) (some (.long r0.1)) s.heap [] 0 0 0 ls []
  have hl : lv_has ls 2 [(0, .ref (am 0)), (1, .int a1)] := hl
  rw [f_X9_mean] at hr
  refine lv_iload_n hx hb dX9_mean_0 rfl (lv_at hl 1 rfl) ?_
  refine lv_iconst (v := 0) hx hb dX9_mean_1 rfl ?_
  refine lv_iconst (v := 1) hx hb dX9_mean_2 rfl ?_
  obtain ⟨o1, ho1, hr⟩ := br_bind hr
  refine fwS (As := [.int a1, .int 0, .int 1]) (rest := []) hx hb hml hown hts (m_X9_isIn l a1 0 1 o1 ho1) (cw_X9_isIn hts q1290 ⟨Nat.le_of_ble_eq_true rfl, Nat.le_of_ble_eq_true rfl⟩) rfl hl.1 rfl (Nat.le_of_ble_eq_true rfl) dX9_mean_3 ⟨Nat.le_of_ble_eq_true rfl, Nat.le_of_ble_eq_true rfl⟩ ?_
  have hi2 := br_ite hr
  refine lv_if_eq (tgt := 30) hx hb dX9_mean_6 (by decide) (fun c2 => ?_) (fun c2 => ?_)
  · have hr := hi2.1 c2
    refine lv_aload_n hx hb dX9_mean_30 rfl (lv_at hl 0 rfl) ?_
    refine lv_bipush (v := (-2)) hx hb dX9_mean_31 rfl ?_
    obtain ⟨o3, ho3, hr⟩ := br_bind hr
    refine fwWVs (As := [.int (-2)]) (rest := []) (C := RX9) hx hb hml hown hts (m_X9_noWide l D am ac g (-2 : Int32) _ o3 ho3) (cw_X9_noWide hts q1524 ⟨Nat.le_of_ble_eq_true rfl, Nat.le_of_ble_eq_true rfl⟩) hG hS hA rfl 0 8 rfl rfl rfl hl.1 rfl (Nat.le_of_ble_eq_true rfl) dX9_mean_33 ⟨Nat.le_of_ble_eq_true rfl, Nat.le_of_ble_eq_true rfl⟩ (fun H locs hS => ?_)
    have hP := hS.1
    obtain rfl := Option.some.inj hr
    refine W.widen (k := rm_X9_mean.cells) (n := rm_X9_mean.slots) (Nat.le_of_ble_eq_true rfl) (Nat.le_of_ble_eq_true rfl) ?_
    exact W.lret hx hb hrt (fun t ht _ => hS.q ht rfl) hS.2.2.2.2 dX9_mean_36 hlk
  · have hr := hi2.2 c2
    refine lv_aload_n hx hb dX9_mean_9 rfl (lv_at hl 0 rfl) ?_
    refine lv_aload_n hx hb dX9_mean_10 rfl (lv_at hl 0 rfl) ?_
    refine va_get (D := D) (ci := 8) (v := .int (mG_left g)) (C := RX9) (T := TX9) (N := 26) hx hb hts in_X9 hown hG.1 hP 0 rfl rfl 0 (by decide) (hts _ q1180) (fun _ h9 => h9) rfl dX9_mean_11 ?_
    obtain ⟨o4, ho4, hr⟩ := br_bind hr
    refine fwRV (As := [.int (mG_left g)]) (rest := []) (C := RX9) hx hb hml hown hts (m_X9_sharesOf l D am ac g  (mG_left g) o4 ho4) (cw_X9_sharesOf hts q1401 ⟨Nat.le_of_ble_eq_true rfl, Nat.le_of_ble_eq_true rfl⟩) hG hP hP 0 8 rfl rfl rfl hl.1 rfl (Nat.le_of_ble_eq_true rfl) dX9_mean_14 ⟨Nat.le_of_ble_eq_true rfl, Nat.le_of_ble_eq_true rfl⟩ ?_
    refine lv_i2l (v := (Int32.toInt64 o4)) hx hb dX9_mean_17 rfl ?_
    refine lv_aload_n hx hb dX9_mean_18 rfl (lv_at hl 0 rfl) ?_
    refine va_get (D := D) (ci := 8) (v := .int (mG_many g)) (C := RX9) (T := TX9) (N := 26) hx hb hts in_X9 hown hG.1 hP 0 rfl rfl 2 (by decide) (hts _ q1182) (fun _ h9 => h9) rfl dX9_mean_19 ?_
    refine lv_i2l (v := (Int32.toInt64 (mG_many g))) hx hb dX9_mean_22 rfl ?_
    refine lv_iload_n hx hb dX9_mean_23 rfl (lv_at hl 1 rfl) ?_
    obtain ⟨o5, ho5, hr⟩ := br_bind hr
    refine fwS (As := [.long (Int32.toInt64 o4), .long (Int32.toInt64 (mG_many g)), .int a1]) (rest := []) hx hb hml hown hts (m_X9_partOf l (Int32.toInt64 o4) (Int32.toInt64 (mG_many g)) a1 o5 ho5) (cw_X9_partOf hts q1533 ⟨Nat.le_of_ble_eq_true rfl, Nat.le_of_ble_eq_true rfl⟩) rfl hl.1 rfl (Nat.le_of_ble_eq_true rfl) dX9_mean_24 ⟨Nat.le_of_ble_eq_true rfl, Nat.le_of_ble_eq_true rfl⟩ ?_
    refine lv_goto (tgt := 36) hx hb dX9_mean_27 (by decide) ?_
    obtain rfl := Option.some.inj hr
    refine W.widen (k := rm_X9_mean.cells) (n := rm_X9_mean.slots) (Nat.le_of_ble_eq_true rfl) (Nat.le_of_ble_eq_true rfl) ?_
    exact W.lret hx hb hrt (fun t ht _ => hS.q ht rfl) hS.2.2.2.2 dX9_mean_36 hlk
theorem cw_X9_mean {R : Room} {s : State} {args : Array Value} {own : String} {index : Nat} (hts : ∀ w ∈ lw_all, w.before args s = true) (hlink : Cond.methodLink own index yX9_mean ∈ lw_all) (hR : rm_X9_mean.frames + 1 ≤ R.frames ∧ 8 + (2 + 11) + rm_X9_mean.locals ≤ R.locals) : CallW R s args own RX9 index yX9_mean cX9_mean 2 (some FieldType.long) (ws_ yX9_mean cX9_mean 2 (some FieldType.long)) rm_X9_mean rm_X9_mean.cells rm_X9_mean.slots 1 :=
  cwV 1 hts (lw_V hlink q1540 q1541 q111 q1542) rfl rfl rfl (by decide +kernel) hR
def f_X9_whatIs_L57 (g : MS) (a1 : Int32) (a2 : Int32) (x4_5 : Int32) : Nat → Int32 → Int32 → Option (Int32)
  | 0, _, _ => none
  | n + 1, x6_9, x5_9 => if (mG_rowMany g) ≤ x6_9 then some x5_9 else Option.bind (α := Int32) (if x6_9 = 0 then some (mG_left g) else some ((mG_left g) &&& (((1 : Int32) <<< ((x6_9 - 1) &&& 31)) ^^^ (-1)))) fun o12 => Option.bind (α := Int32) (if a2 = 0 then some x4_5 else if a1 < 0 ∨ 5 ≤ Int32.toNatClampNeg a1 then none else some (mG_kind g (Int32.toNatClampNeg a1))) fun o14 => Option.bind (α := Int32) (if a2 = 1 then some x4_5 else if a1 < 0 ∨ 5 ≤ Int32.toNatClampNeg a1 then none else some (mG_figure g (Int32.toNatClampNeg a1))) fun o17 => Option.bind (f_X9_shareBy o12 o14 o17) fun o19 => if x6_9 < 0 ∨ 16 ≤ Int32.toNatClampNeg x6_9 then none else if o19 = (mG_row g (Int32.toNatClampNeg x6_9)) then Option.bind (some ((x5_9 &&& 1) : Int32)) fun v24 => Option.bind (some ((x6_9 + 1) : Int32)) fun v25 => f_X9_whatIs_L57 g a1 a2 x4_5 n v25 v24 else Option.bind (some ((x5_9 &&& 0) : Int32)) fun v22 => Option.bind (some ((x6_9 + 1) : Int32)) fun v23 => f_X9_whatIs_L57 g a1 a2 x4_5 n v23 v22
def f_X9_whatIs_L35 (g : MS) (a1 : Int32) (a2 : Int32) : Nat → Int32 → Int32 → Option (Int32)
  | 0, _, _ => none
  | n + 1, x4_5, x3_5 => Option.bind (α := Int32) (if a2 = 0 then some 6 else some 10) fun o7 => if o7 ≤ x4_5 then some x3_5 else Option.bind (f_X9_whatIs_L57 g a1 a2 x4_5 1000 0 1) fun o9 => if o9 = 0 then Option.bind (some ((x3_5 ||| 0) : Int32)) fun v27 => Option.bind (some ((x4_5 + 1) : Int32)) fun v28 => f_X9_whatIs_L35 g a1 a2 n v28 v27 else Option.bind (some ((x3_5 ||| ((1 : Int32) <<< (x4_5 &&& 31))) : Int32)) fun v29 => Option.bind (some ((x4_5 + 1) : Int32)) fun v30 => f_X9_whatIs_L35 g a1 a2 n v30 v29
def f_X9_whatIs (g : MS) (a1 : Int32) (a2 : Int32) : Option (Int32 × MS) := Option.bind (f_X9_isHeir g a1) fun o1 => if o1 = 0 then Option.bind (f_X9_no g (-1 : Int32)) fun o32 => some (o32.1, o32.2) else Option.bind (f_X9_isIn a2 0 1) fun o3 => if o3 = 0 then Option.bind (f_X9_no g (-2 : Int32)) fun o31 => some (o31.1, o31.2) else Option.bind (f_X9_whatIs_L35 g a1 a2 1000 0 0) fun o5 => some (o5, g)
abbrev rm_X9_whatIs : Room := ({ frames := 5, cells := 0, slots := 0, locals := 114 })
set_option maxHeartbeats 4000000 in
theorem m_X9_whatIs (l : Launch) (D : va_G) (am : Nat → Nat) (ac : Nat → ClassId) (g : MS) (a1 : Int32) (a2 : Int32) (sz : Nat) (r0 : Int32 × MS) (hr : f_X9_whatIs g a1 a2 = some r0) : WM l yX9_whatIs cX9_whatIs 7 (some FieldType.int) rm_X9_whatIs [.ref (am 0), .int a1, .int a2] D ac (wM am ac g) (wM am ac r0.2) sz (some (.int r0.1)) := by
  refine fw_of (by decide) (Nat.le_of_ble_eq_true rfl) ?_
  intro p e s m below meth c ls hx hb hrt hts hown hlk hml _ hU hl
  obtain ⟨rfl, hP, hG, hD⟩ := hU
  have hA : ∀ q : Nat, s.heap.size ≤ q → va_A (wM am ac g) s.heap.size q := fun q h => Or.inr h
  have hS := Stt.start hP hD
  show WW p l e rm_X9_whatIs s m [.ref (am 0), .int a1, .int a2] below meth c D (wM am ac r0.2) (va_A (wM am ac g) s.heap.size) (some (.int r0.1)) s.heap [] 0 0 0 ls []
  have hl : lv_has ls 7 [(0, .ref (am 0)), (1, .int a1), (2, .int a2)] := hl
  rw [f_X9_whatIs] at hr
  refine lv_aload_n hx hb dX9_whatIs_0 rfl (lv_at hl 0 rfl) ?_
  refine lv_iload_n hx hb dX9_whatIs_1 rfl (lv_at hl 1 rfl) ?_
  obtain ⟨o1, ho1, hr⟩ := br_bind hr
  refine fwRV (As := [.int a1]) (rest := []) (C := RX9) hx hb hml hown hts (m_X9_isHeir l D am ac g  a1 o1 ho1) (cw_X9_isHeir hts q1348 ⟨Nat.le_of_ble_eq_true rfl, Nat.le_of_ble_eq_true rfl⟩) hG hP hP 0 8 rfl rfl rfl hl.1 rfl (Nat.le_of_ble_eq_true rfl) dX9_whatIs_2 ⟨Nat.le_of_ble_eq_true rfl, Nat.le_of_ble_eq_true rfl⟩ ?_
  have hi2 := br_ite hr
  refine lv_if_ne (tgt := 14) hx hb dX9_whatIs_5 (by decide) (fun c2 => ?_) (fun c2 => ?_)
  · have hr := hi2.2 c2
    refine lv_iload_n hx hb dX9_whatIs_14 rfl (lv_at hl 2 rfl) ?_
    refine lv_iconst (v := 0) hx hb dX9_whatIs_15 rfl ?_
    refine lv_iconst (v := 1) hx hb dX9_whatIs_16 rfl ?_
    obtain ⟨o3, ho3, hr⟩ := br_bind hr
    refine fwS (As := [.int a2, .int 0, .int 1]) (rest := []) hx hb hml hown hts (m_X9_isIn l a2 0 1 o3 ho3) (cw_X9_isIn hts q1290 ⟨Nat.le_of_ble_eq_true rfl, Nat.le_of_ble_eq_true rfl⟩) rfl hl.1 rfl (Nat.le_of_ble_eq_true rfl) dX9_whatIs_17 ⟨Nat.le_of_ble_eq_true rfl, Nat.le_of_ble_eq_true rfl⟩ ?_
    have hi4 := br_ite hr
    refine lv_if_ne (tgt := 30) hx hb dX9_whatIs_20 (by decide) (fun c4 => ?_) (fun c4 => ?_)
    · have hr := hi4.2 c4
      refine lv_iconst (v := 0) hx hb dX9_whatIs_30 rfl ?_
      refine lv_istore_n (lv' := [(3, .int 0), (0, .ref (am 0)), (1, .int a1), (2, .int a2)]) hx hb dX9_whatIs_31 rfl hl (by decide) rfl (fun ls hl => ?_)
      refine lv_iconst (v := 0) hx hb dX9_whatIs_32 rfl ?_
      refine lv_istore (lv' := [(4, .int 0), (3, .int 0), (0, .ref (am 0)), (1, .int a1), (2, .int a2)]) hx hb dX9_whatIs_33 hl (by decide) rfl (fun ls hl => ?_)
      have L5 : ∀ (n : Nat) (x4_5 : Int32) (x3_5 : Int32) (o5 : Int32), f_X9_whatIs_L35 g a1 a2 n x4_5 x3_5 = some o5 → ∀ (H : Heap) (locs : List Loc) ls, lv_has ls 7 [(4, .int x4_5), (3, .int x3_5), (0, .ref (am 0)), (1, .int a1), (2, .int a2)] → Stt D (va_A (wM am ac g) s.heap.size) s.heap (wM am ac g) H locs → (∀ (H : Heap) (locs : List Loc) ls, lv_has ls 7 [(3, .int o5)] → Stt D (va_A (wM am ac g) s.heap.size) s.heap (wM am ac g) H locs → WW p l e rm_X9_whatIs s m [.ref (am 0), .int a1, .int a2] below meth c D (wM am ac r0.2) (va_A (wM am ac g) s.heap.size) (some (.int r0.1)) H locs 0 0 173 ls []) → WW p l e rm_X9_whatIs s m [.ref (am 0), .int a1, .int a2] below meth c D (wM am ac r0.2) (va_A (wM am ac g) s.heap.size) (some (.int r0.1)) H locs 0 0 35 ls [] := by
        intro n
        induction n with
        | zero => intro x4_5 x3_5 o5 hr; rw [f_X9_whatIs_L35] at hr; cases hr
        | succ n ih =>
          intro x4_5 x3_5 o5 hr H locs ls hl hS kx
          have hP := hS.1
          rw [f_X9_whatIs_L35] at hr
          refine lv_iload hx hb dX9_whatIs_35 (lv_at hl 0 rfl) ?_
          refine lv_iload_n hx hb dX9_whatIs_37 rfl (lv_at hl 4 rfl) ?_
          obtain ⟨o7, ho7, hr⟩ := br_bind hr
          have J7 : ∀ (H : Heap) (locs : List Loc) ls, lv_has ls 7 [(4, .int x4_5), (3, .int x3_5), (0, .ref (am 0)), (1, .int a1), (2, .int a2)] → Stt D (va_A (wM am ac g) s.heap.size) s.heap (wM am ac g) H locs → WW p l e rm_X9_whatIs s m [.ref (am 0), .int a1, .int a2] below meth c D (wM am ac r0.2) (va_A (wM am ac g) s.heap.size) (some (.int r0.1)) H locs 0 0 48 ls [.int o7, .int x4_5] := by
            intro H locs ls hl hS
            have hP := hS.1
            have hi8 := br_ite hr
            refine lv_icmp_ge (tgt := 173) hx hb dX9_whatIs_48 (by decide) (fun c8 => ?_) (fun c8 => ?_)
            · have hr := hi8.1 c8
              obtain rfl := Option.some.inj hr
              exact kx _ _ ls (lv_sub hl [1] rfl) hS
            · have hr := hi8.2 c8
              refine lv_iconst (v := 1) hx hb dX9_whatIs_51 rfl ?_
              refine lv_istore (lv' := [(5, .int 1), (4, .int x4_5), (3, .int x3_5), (0, .ref (am 0)), (1, .int a1), (2, .int a2)]) hx hb dX9_whatIs_52 hl (by decide) rfl (fun ls hl => ?_)
              refine lv_iconst (v := 0) hx hb dX9_whatIs_54 rfl ?_
              refine lv_istore (lv' := [(6, .int 0), (5, .int 1), (4, .int x4_5), (3, .int x3_5), (0, .ref (am 0)), (1, .int a1), (2, .int a2)]) hx hb dX9_whatIs_55 hl (by decide) rfl (fun ls hl => ?_)
              have L9 : ∀ (n : Nat) (x6_9 : Int32) (x5_9 : Int32) (o9 : Int32), f_X9_whatIs_L57 g a1 a2 x4_5 n x6_9 x5_9 = some o9 → ∀ (H : Heap) (locs : List Loc) ls, lv_has ls 7 [(6, .int x6_9), (5, .int x5_9), (4, .int x4_5), (3, .int x3_5), (0, .ref (am 0)), (1, .int a1), (2, .int a2)] → Stt D (va_A (wM am ac g) s.heap.size) s.heap (wM am ac g) H locs → (∀ (H : Heap) (locs : List Loc) ls, lv_has ls 7 [(5, .int o9), (4, .int x4_5), (3, .int x3_5), (0, .ref (am 0)), (1, .int a1), (2, .int a2)] → Stt D (va_A (wM am ac g) s.heap.size) s.heap (wM am ac g) H locs → WW p l e rm_X9_whatIs s m [.ref (am 0), .int a1, .int a2] below meth c D (wM am ac r0.2) (va_A (wM am ac g) s.heap.size) (some (.int r0.1)) H locs 0 0 151 ls []) → WW p l e rm_X9_whatIs s m [.ref (am 0), .int a1, .int a2] below meth c D (wM am ac r0.2) (va_A (wM am ac g) s.heap.size) (some (.int r0.1)) H locs 0 0 57 ls [] := by
                intro n
                induction n with
                | zero => intro x6_9 x5_9 o9 hr; rw [f_X9_whatIs_L57] at hr; cases hr
                | succ n ih =>
                  intro x6_9 x5_9 o9 hr H locs ls hl hS kx
                  have hP := hS.1
                  rw [f_X9_whatIs_L57] at hr
                  refine lv_iload hx hb dX9_whatIs_57 (lv_at hl 0 rfl) ?_
                  refine lv_aload_n hx hb dX9_whatIs_59 rfl (lv_at hl 4 rfl) ?_
                  refine va_get (D := D) (ci := 8) (v := .int (mG_rowMany g)) (C := RX9) (T := TX9) (N := 26) hx hb hts in_X9 hown hG.1 hP 0 rfl rfl 20 (by decide) (hts _ q1200) (fun _ h9 => h9) rfl dX9_whatIs_60 ?_
                  have hi10 := br_ite hr
                  refine lv_icmp_ge (tgt := 151) hx hb dX9_whatIs_63 (by decide) (fun c10 => ?_) (fun c10 => ?_)
                  · have hr := hi10.1 c10
                    obtain rfl := Option.some.inj hr
                    exact kx _ _ ls (lv_sub hl [1, 2, 3, 4, 5, 6] rfl) hS
                  · have hr := hi10.2 c10
                    refine lv_iload hx hb dX9_whatIs_66 (lv_at hl 1 rfl) ?_
                    refine lv_iload hx hb dX9_whatIs_68 (lv_at hl 0 rfl) ?_
                    obtain ⟨o12, ho12, hr⟩ := br_bind hr
                    have J12 : ∀ (H : Heap) (locs : List Loc) ls, lv_has ls 7 [(6, .int x6_9), (4, .int x4_5), (3, .int x3_5), (0, .ref (am 0)), (1, .int a1), (2, .int a2)] → Stt D (va_A (wM am ac g) s.heap.size) s.heap (wM am ac g) H locs → WW p l e rm_X9_whatIs s m [.ref (am 0), .int a1, .int a2] below meth c D (wM am ac r0.2) (va_A (wM am ac g) s.heap.size) (some (.int r0.1)) H locs 0 0 93 ls [.int o12, .int x5_9] := by
                      intro H locs ls hl hS
                      have hP := hS.1
                      refine lv_iload_n hx hb dX9_whatIs_93 rfl (lv_at hl 5 rfl) ?_
                      obtain ⟨o14, ho14, hr⟩ := br_bind hr
                      have J14 : ∀ (H : Heap) (locs : List Loc) ls, lv_has ls 7 [(6, .int x6_9), (4, .int x4_5), (3, .int x3_5), (0, .ref (am 0)), (1, .int a1), (2, .int a2)] → Stt D (va_A (wM am ac g) s.heap.size) s.heap (wM am ac g) H locs → WW p l e rm_X9_whatIs s m [.ref (am 0), .int a1, .int a2] below meth c D (wM am ac r0.2) (va_A (wM am ac g) s.heap.size) (some (.int r0.1)) H locs 0 0 108 ls [.int o14, .int o12, .int x5_9] := by
                        intro H locs ls hl hS
                        have hP := hS.1
                        refine lv_iload_n hx hb dX9_whatIs_108 rfl (lv_at hl 5 rfl) ?_
                        refine lv_iconst (v := 1) hx hb dX9_whatIs_109 rfl ?_
                        obtain ⟨o17, ho17, hr⟩ := br_bind hr
                        have J17 : ∀ (H : Heap) (locs : List Loc) ls, lv_has ls 7 [(6, .int x6_9), (4, .int x4_5), (3, .int x3_5), (0, .ref (am 0)), (1, .int a1), (2, .int a2)] → Stt D (va_A (wM am ac g) s.heap.size) s.heap (wM am ac g) H locs → WW p l e rm_X9_whatIs s m [.ref (am 0), .int a1, .int a2] below meth c D (wM am ac r0.2) (va_A (wM am ac g) s.heap.size) (some (.int r0.1)) H locs 0 0 124 ls [.int o17, .int o14, .int o12, .int x5_9] := by
                          intro H locs ls hl hS
                          have hP := hS.1
                          obtain ⟨o19, ho19, hr⟩ := br_bind hr
                          refine fwS (As := [.int o12, .int o14, .int o17]) (rest := [.int x5_9]) hx hb hml hown hts (m_X9_shareBy l o12 o14 o17 o19 ho19) (cw_X9_shareBy hts q1356 ⟨Nat.le_of_ble_eq_true rfl, Nat.le_of_ble_eq_true rfl⟩) rfl hl.1 rfl (Nat.le_of_ble_eq_true rfl) dX9_whatIs_124 ⟨Nat.le_of_ble_eq_true rfl, Nat.le_of_ble_eq_true rfl⟩ ?_
                          refine lv_aload_n hx hb dX9_whatIs_127 rfl (lv_at hl 3 rfl) ?_
                          refine va_get (D := D) (ci := 8) (v := .ref (am 8)) (C := RX9) (T := TX9) (N := 26) hx hb hts in_X9 hown hG.1 hP 0 rfl rfl 17 (by decide) (hts _ q1197) (fun _ h9 => h9) rfl dX9_whatIs_128 ?_
                          refine lv_iload hx hb dX9_whatIs_131 (lv_at hl 0 rfl) ?_
                          obtain ⟨c20, hr⟩ := br_none hr
                          refine va_iald hx hb hG.1 hP 8 0 rfl rfl c20 dX9_whatIs_133 ?_
                          have hi21 := br_ite hr
                          refine lv_icmp_ne (tgt := 141) hx hb dX9_whatIs_134 (by decide) (fun c21 => ?_) (fun c21 => ?_)
                          · have hr := hi21.2 c21
                            refine lv_iconst (v := 0) hx hb dX9_whatIs_141 rfl ?_
                            refine lv_iand hx hb dX9_whatIs_142 ?_
                            refine lv_topi (fun v22 hv22 => ?_)
                            have hr := br_letv hr hv22
                            refine lv_istore (lv' := [(5, .int v22), (6, .int x6_9), (4, .int x4_5), (3, .int x3_5), (0, .ref (am 0)), (1, .int a1), (2, .int a2)]) hx hb dX9_whatIs_143 hl (by decide) rfl (fun ls hl => ?_)
                            obtain ⟨v23, hv23, hr⟩ := br_let hr
                            refine lv_iinc (v := v23) (lv' := [(6, .int v23), (5, .int v22), (4, .int x4_5), (3, .int x3_5), (0, .ref (am 0)), (1, .int a1), (2, .int a2)]) hx hb dX9_whatIs_145 hl (k := 1) rfl (hv23 ▸ rfl) (by decide) rfl (fun ls hl => ?_)
                            refine lv_goto (tgt := 57) hx hb dX9_whatIs_148 (by decide) ?_
                            exact ih v23 v22 _ hr _ _ ls (lv_sub hl [0, 1, 2, 3, 4, 5, 6] rfl) hS kx
                          · have hr := hi21.1 c21
                            refine lv_iconst (v := 1) hx hb dX9_whatIs_137 rfl ?_
                            refine lv_goto (tgt := 142) hx hb dX9_whatIs_138 (by decide) ?_
                            refine lv_iand hx hb dX9_whatIs_142 ?_
                            refine lv_topi (fun v24 hv24 => ?_)
                            have hr := br_letv hr hv24
                            refine lv_istore (lv' := [(5, .int v24), (6, .int x6_9), (4, .int x4_5), (3, .int x3_5), (0, .ref (am 0)), (1, .int a1), (2, .int a2)]) hx hb dX9_whatIs_143 hl (by decide) rfl (fun ls hl => ?_)
                            obtain ⟨v25, hv25, hr⟩ := br_let hr
                            refine lv_iinc (v := v25) (lv' := [(6, .int v25), (5, .int v24), (4, .int x4_5), (3, .int x3_5), (0, .ref (am 0)), (1, .int a1), (2, .int a2)]) hx hb dX9_whatIs_145 hl (k := 1) rfl (hv25 ▸ rfl) (by decide) rfl (fun ls hl => ?_)
                            refine lv_goto (tgt := 57) hx hb dX9_whatIs_148 (by decide) ?_
                            exact ih v25 v24 _ hr _ _ ls (lv_sub hl [0, 1, 2, 3, 4, 5, 6] rfl) hS kx
                        have hr := ho17
                        have hi16 := br_ite hr
                        refine lv_icmp_ne (tgt := 118) hx hb dX9_whatIs_110 (by decide) (fun c16 => ?_) (fun c16 => ?_)
                        · have hr := hi16.2 c16
                          refine lv_aload_n hx hb dX9_whatIs_118 rfl (lv_at hl 3 rfl) ?_
                          refine va_get (D := D) (ci := 8) (v := .ref (am 2)) (C := RX9) (T := TX9) (N := 26) hx hb hts in_X9 hown hG.1 hP 0 rfl rfl 10 (by decide) (hts _ q1190) (fun _ h9 => h9) rfl dX9_whatIs_119 ?_
                          refine lv_iload_n hx hb dX9_whatIs_122 rfl (lv_at hl 4 rfl) ?_
                          obtain ⟨c18, hr⟩ := br_none hr
                          refine va_iald hx hb hG.1 hP 2 0 rfl rfl c18 dX9_whatIs_123 ?_
                          obtain rfl := Option.some.inj hr
                          exact J17 _ _ ls (lv_sub hl [0, 1, 2, 3, 4, 5] rfl) hS
                        · have hr := hi16.1 c16
                          refine lv_iload hx hb dX9_whatIs_113 (lv_at hl 1 rfl) ?_
                          refine lv_goto (tgt := 124) hx hb dX9_whatIs_115 (by decide) ?_
                          obtain rfl := Option.some.inj hr
                          exact J17 _ _ ls (lv_sub hl [0, 1, 2, 3, 4, 5] rfl) hS
                      have hr := ho14
                      have hi13 := br_ite hr
                      refine lv_if_ne (tgt := 102) hx hb dX9_whatIs_94 (by decide) (fun c13 => ?_) (fun c13 => ?_)
                      · have hr := hi13.2 c13
                        refine lv_aload_n hx hb dX9_whatIs_102 rfl (lv_at hl 3 rfl) ?_
                        refine va_get (D := D) (ci := 8) (v := .ref (am 1)) (C := RX9) (T := TX9) (N := 26) hx hb hts in_X9 hown hG.1 hP 0 rfl rfl 9 (by decide) (hts _ q1189) (fun _ h9 => h9) rfl dX9_whatIs_103 ?_
                        refine lv_iload_n hx hb dX9_whatIs_106 rfl (lv_at hl 4 rfl) ?_
                        obtain ⟨c15, hr⟩ := br_none hr
                        refine va_iald hx hb hG.1 hP 1 0 rfl rfl c15 dX9_whatIs_107 ?_
                        obtain rfl := Option.some.inj hr
                        exact J14 _ _ ls (lv_sub hl [0, 1, 2, 3, 4, 5] rfl) hS
                      · have hr := hi13.1 c13
                        refine lv_iload hx hb dX9_whatIs_97 (lv_at hl 1 rfl) ?_
                        refine lv_goto (tgt := 108) hx hb dX9_whatIs_99 (by decide) ?_
                        obtain rfl := Option.some.inj hr
                        exact J14 _ _ ls (lv_sub hl [0, 1, 2, 3, 4, 5] rfl) hS
                    have hr := ho12
                    have hi11 := br_ite hr
                    refine lv_if_ne (tgt := 80) hx hb dX9_whatIs_70 (by decide) (fun c11 => ?_) (fun c11 => ?_)
                    · have hr := hi11.2 c11
                      refine lv_aload_n hx hb dX9_whatIs_80 rfl (lv_at hl 4 rfl) ?_
                      refine va_get (D := D) (ci := 8) (v := .int (mG_left g)) (C := RX9) (T := TX9) (N := 26) hx hb hts in_X9 hown hG.1 hP 0 rfl rfl 0 (by decide) (hts _ q1180) (fun _ h9 => h9) rfl dX9_whatIs_81 ?_
                      refine lv_iconst (v := 1) hx hb dX9_whatIs_84 rfl ?_
                      refine lv_iload hx hb dX9_whatIs_85 (lv_at hl 0 rfl) ?_
                      refine lv_iconst (v := 1) hx hb dX9_whatIs_87 rfl ?_
                      refine lv_isub hx hb dX9_whatIs_88 ?_
                      refine lv_ishl hx hb dX9_whatIs_89 ?_
                      refine lv_iconst (v := (-1)) hx hb dX9_whatIs_90 rfl ?_
                      refine lv_ixor hx hb dX9_whatIs_91 ?_
                      refine lv_iand hx hb dX9_whatIs_92 ?_
                      obtain rfl := Option.some.inj hr
                      exact J12 _ _ ls (lv_sub hl [0, 2, 3, 4, 5, 6] rfl) hS
                    · have hr := hi11.1 c11
                      refine lv_aload_n hx hb dX9_whatIs_73 rfl (lv_at hl 4 rfl) ?_
                      refine va_get (D := D) (ci := 8) (v := .int (mG_left g)) (C := RX9) (T := TX9) (N := 26) hx hb hts in_X9 hown hG.1 hP 0 rfl rfl 0 (by decide) (hts _ q1180) (fun _ h9 => h9) rfl dX9_whatIs_74 ?_
                      refine lv_goto (tgt := 93) hx hb dX9_whatIs_77 (by decide) ?_
                      obtain rfl := Option.some.inj hr
                      exact J12 _ _ ls (lv_sub hl [0, 2, 3, 4, 5, 6] rfl) hS
              obtain ⟨o9, ho9, hr⟩ := br_bind hr
              refine L9 1000 0 1 o9 ho9 _ _ ls (lv_sub hl [0, 1, 2, 3, 4, 5, 6] rfl) hS (fun H locs ls hl hS => ?_)
              have hP := hS.1
              refine lv_iload_n hx hb dX9_whatIs_151 rfl (lv_at hl 2 rfl) ?_
              refine lv_iload hx hb dX9_whatIs_152 (lv_at hl 0 rfl) ?_
              have hi26 := br_ite hr
              refine lv_if_eq (tgt := 164) hx hb dX9_whatIs_154 (by decide) (fun c26 => ?_) (fun c26 => ?_)
              · have hr := hi26.1 c26
                refine lv_iconst (v := 0) hx hb dX9_whatIs_164 rfl ?_
                refine lv_ior hx hb dX9_whatIs_165 ?_
                refine lv_topi (fun v27 hv27 => ?_)
                have hr := br_letv hr hv27
                refine lv_istore_n (lv' := [(3, .int v27), (5, .int o9), (4, .int x4_5), (0, .ref (am 0)), (1, .int a1), (2, .int a2)]) hx hb dX9_whatIs_166 rfl hl (by decide) rfl (fun ls hl => ?_)
                obtain ⟨v28, hv28, hr⟩ := br_let hr
                refine lv_iinc (v := v28) (lv' := [(4, .int v28), (3, .int v27), (5, .int o9), (0, .ref (am 0)), (1, .int a1), (2, .int a2)]) hx hb dX9_whatIs_167 hl (k := 2) rfl (hv28 ▸ rfl) (by decide) rfl (fun ls hl => ?_)
                refine lv_goto (tgt := 35) hx hb dX9_whatIs_170 (by decide) ?_
                exact ih v28 v27 _ hr _ _ ls (lv_sub hl [0, 1, 3, 4, 5] rfl) hS kx
              · have hr := hi26.2 c26
                refine lv_iconst (v := 1) hx hb dX9_whatIs_157 rfl ?_
                refine lv_iload hx hb dX9_whatIs_158 (lv_at hl 1 rfl) ?_
                refine lv_ishl hx hb dX9_whatIs_160 ?_
                refine lv_goto (tgt := 165) hx hb dX9_whatIs_161 (by decide) ?_
                refine lv_ior hx hb dX9_whatIs_165 ?_
                refine lv_topi (fun v29 hv29 => ?_)
                have hr := br_letv hr hv29
                refine lv_istore_n (lv' := [(3, .int v29), (5, .int o9), (4, .int x4_5), (0, .ref (am 0)), (1, .int a1), (2, .int a2)]) hx hb dX9_whatIs_166 rfl hl (by decide) rfl (fun ls hl => ?_)
                obtain ⟨v30, hv30, hr⟩ := br_let hr
                refine lv_iinc (v := v30) (lv' := [(4, .int v30), (3, .int v29), (5, .int o9), (0, .ref (am 0)), (1, .int a1), (2, .int a2)]) hx hb dX9_whatIs_167 hl (k := 2) rfl (hv30 ▸ rfl) (by decide) rfl (fun ls hl => ?_)
                refine lv_goto (tgt := 35) hx hb dX9_whatIs_170 (by decide) ?_
                exact ih v30 v29 _ hr _ _ ls (lv_sub hl [0, 1, 3, 4, 5] rfl) hS kx
          have hr := ho7
          have hi6 := br_ite hr
          refine lv_if_ne (tgt := 46) hx hb dX9_whatIs_38 (by decide) (fun c6 => ?_) (fun c6 => ?_)
          · have hr := hi6.2 c6
            refine lv_bipush (v := 10) hx hb dX9_whatIs_46 rfl ?_
            obtain rfl := Option.some.inj hr
            exact J7 _ _ ls (lv_sub hl [0, 1, 2, 3, 4] rfl) hS
          · have hr := hi6.1 c6
            refine lv_bipush (v := 6) hx hb dX9_whatIs_41 rfl ?_
            refine lv_goto (tgt := 48) hx hb dX9_whatIs_43 (by decide) ?_
            obtain rfl := Option.some.inj hr
            exact J7 _ _ ls (lv_sub hl [0, 1, 2, 3, 4] rfl) hS
      obtain ⟨o5, ho5, hr⟩ := br_bind hr
      refine L5 1000 0 0 o5 ho5 _ _ ls (lv_sub hl [0, 1, 2, 3, 4] rfl) hS (fun H locs ls hl hS => ?_)
      have hP := hS.1
      refine lv_iload_n hx hb dX9_whatIs_173 rfl (lv_at hl 0 rfl) ?_
      obtain rfl := Option.some.inj hr
      refine W.widen (k := rm_X9_whatIs.cells) (n := rm_X9_whatIs.slots) (Nat.le_of_ble_eq_true rfl) (Nat.le_of_ble_eq_true rfl) ?_
      exact W.iret hx hb hrt (fun t ht _ => hS.q ht rfl) hS.2.2.2.2 dX9_whatIs_174 hlk
    · have hr := hi4.1 c4
      refine lv_aload_n hx hb dX9_whatIs_23 rfl (lv_at hl 0 rfl) ?_
      refine lv_bipush (v := (-2)) hx hb dX9_whatIs_24 rfl ?_
      obtain ⟨o31, ho31, hr⟩ := br_bind hr
      refine fwWVs (As := [.int (-2)]) (rest := []) (C := RX9) hx hb hml hown hts (m_X9_no l D am ac g (-2 : Int32) _ o31 ho31) (cw_X9_no hts q1263 ⟨Nat.le_of_ble_eq_true rfl, Nat.le_of_ble_eq_true rfl⟩) hG hS hA rfl 0 8 rfl rfl rfl hl.1 rfl (Nat.le_of_ble_eq_true rfl) dX9_whatIs_26 ⟨Nat.le_of_ble_eq_true rfl, Nat.le_of_ble_eq_true rfl⟩ (fun H locs hS => ?_)
      have hP := hS.1
      obtain rfl := Option.some.inj hr
      refine W.widen (k := rm_X9_whatIs.cells) (n := rm_X9_whatIs.slots) (Nat.le_of_ble_eq_true rfl) (Nat.le_of_ble_eq_true rfl) ?_
      exact W.iret hx hb hrt (fun t ht _ => hS.q ht rfl) hS.2.2.2.2 dX9_whatIs_29 hlk
  · have hr := hi2.1 c2
    refine lv_aload_n hx hb dX9_whatIs_8 rfl (lv_at hl 0 rfl) ?_
    refine lv_iconst (v := (-1)) hx hb dX9_whatIs_9 rfl ?_
    obtain ⟨o32, ho32, hr⟩ := br_bind hr
    refine fwWVs (As := [.int (-1)]) (rest := []) (C := RX9) hx hb hml hown hts (m_X9_no l D am ac g (-1 : Int32) _ o32 ho32) (cw_X9_no hts q1263 ⟨Nat.le_of_ble_eq_true rfl, Nat.le_of_ble_eq_true rfl⟩) hG hS hA rfl 0 8 rfl rfl rfl hl.1 rfl (Nat.le_of_ble_eq_true rfl) dX9_whatIs_10 ⟨Nat.le_of_ble_eq_true rfl, Nat.le_of_ble_eq_true rfl⟩ (fun H locs hS => ?_)
    have hP := hS.1
    obtain rfl := Option.some.inj hr
    refine W.widen (k := rm_X9_whatIs.cells) (n := rm_X9_whatIs.slots) (Nat.le_of_ble_eq_true rfl) (Nat.le_of_ble_eq_true rfl) ?_
    exact W.iret hx hb hrt (fun t ht _ => hS.q ht rfl) hS.2.2.2.2 dX9_whatIs_13 hlk
theorem cw_X9_whatIs {R : Room} {s : State} {args : Array Value} {own : String} {index : Nat} (hts : ∀ w ∈ lw_all, w.before args s = true) (hlink : Cond.methodLink own index yX9_whatIs ∈ lw_all) (hR : rm_X9_whatIs.frames + 1 ≤ R.frames ∧ 8 + (7 + 11) + rm_X9_whatIs.locals ≤ R.locals) : CallW R s args own RX9 index yX9_whatIs cX9_whatIs 7 (some FieldType.int) (ws_ yX9_whatIs cX9_whatIs 7 (some FieldType.int)) rm_X9_whatIs rm_X9_whatIs.cells rm_X9_whatIs.slots 2 :=
  cwV 2 hts (lw_V hlink q1544 q1545 q111 q1546) rfl rfl rfl (by decide +kernel) hR
def f_X9_row (g : MS) (a1 : Int32) : Option (Int32 × MS) := Option.bind (f_X9_wrongBy a1 99) fun o1 => Option.bind (α := Int32) (if o1 = 0 then if (mG_rowMany g) = 16 then some (-6) else some o1 else some o1) fun o3 => if o3 = 0 then if (mG_rowMany g) < 0 ∨ 16 ≤ Int32.toNatClampNeg (mG_rowMany g) then none else Option.bind (some (mS_row g (upd (mG_row g) (Int32.toNatClampNeg (mG_rowMany g)) a1))) fun g7 => Option.bind (some (mS_rowMany g7 ((mG_rowMany g7) + 1))) fun g8 => some ((mG_rowMany g8), g8) else Option.bind (f_X9_no g o3) fun o9 => some (o9.1, o9.2)
abbrev rm_X9_row : Room := ({ frames := 2, cells := 0, slots := 0, locals := 39 })
set_option maxHeartbeats 4000000 in
theorem m_X9_row (l : Launch) (D : va_G) (am : Nat → Nat) (ac : Nat → ClassId) (g : MS) (a1 : Int32) (sz : Nat) (r0 : Int32 × MS) (hr : f_X9_row g a1 = some r0) : WM l yX9_row cX9_row 3 (some FieldType.int) rm_X9_row [.ref (am 0), .int a1] D ac (wM am ac g) (wM am ac r0.2) sz (some (.int r0.1)) := by
  refine fw_of (by decide) (Nat.le_of_ble_eq_true rfl) ?_
  intro p e s m below meth c ls hx hb hrt hts hown hlk hml _ hU hl
  obtain ⟨rfl, hP, hG, hD⟩ := hU
  have hA : ∀ q : Nat, s.heap.size ≤ q → va_A (wM am ac g) s.heap.size q := fun q h => Or.inr h
  have hS := Stt.start hP hD
  show WW p l e rm_X9_row s m [.ref (am 0), .int a1] below meth c D (wM am ac r0.2) (va_A (wM am ac g) s.heap.size) (some (.int r0.1)) s.heap [] 0 0 0 ls []
  have hl : lv_has ls 3 [(0, .ref (am 0)), (1, .int a1)] := hl
  rw [f_X9_row] at hr
  refine lv_iload_n hx hb dX9_row_0 rfl (lv_at hl 1 rfl) ?_
  refine lv_bipush (v := 99) hx hb dX9_row_1 rfl ?_
  obtain ⟨o1, ho1, hr⟩ := br_bind hr
  refine fwS (As := [.int a1, .int 99]) (rest := []) hx hb hml hown hts (m_X9_wrongBy l a1 99 o1 ho1) (cw_X9_wrongBy hts q1390 ⟨Nat.le_of_ble_eq_true rfl, Nat.le_of_ble_eq_true rfl⟩) rfl hl.1 rfl (Nat.le_of_ble_eq_true rfl) dX9_row_3 ⟨Nat.le_of_ble_eq_true rfl, Nat.le_of_ble_eq_true rfl⟩ ?_
  refine lv_istore_n (lv' := [(2, .int o1), (0, .ref (am 0)), (1, .int a1)]) hx hb dX9_row_6 rfl hl (by decide) rfl (fun ls hl => ?_)
  refine lv_iload_n hx hb dX9_row_7 rfl (lv_at hl 0 rfl) ?_
  obtain ⟨o3, ho3, hr⟩ := br_bind hr
  have J3 : ∀ (H : Heap) (locs : List Loc) ls, lv_has ls 3 [(2, .int o3), (0, .ref (am 0)), (1, .int a1)] → Stt D (va_A (wM am ac g) s.heap.size) s.heap (wM am ac g) H locs → WW p l e rm_X9_row s m [.ref (am 0), .int a1] below meth c D (wM am ac r0.2) (va_A (wM am ac g) s.heap.size) (some (.int r0.1)) H locs 0 0 23 ls [] := by
    intro H locs ls hl hS
    have hP := hS.1
    refine lv_iload_n hx hb dX9_row_23 rfl (lv_at hl 0 rfl) ?_
    have hi5 := br_ite hr
    refine lv_if_eq (tgt := 33) hx hb dX9_row_24 (by decide) (fun c5 => ?_) (fun c5 => ?_)
    · have hr := hi5.1 c5
      refine lv_aload_n hx hb dX9_row_33 rfl (lv_at hl 1 rfl) ?_
      refine va_get (D := D) (ci := 8) (v := .ref (am 8)) (C := RX9) (T := TX9) (N := 26) hx hb hts in_X9 hown hG.1 hP 0 rfl rfl 17 (by decide) (hts _ q1197) (fun _ h9 => h9) rfl dX9_row_34 ?_
      refine lv_aload_n hx hb dX9_row_37 rfl (lv_at hl 1 rfl) ?_
      refine va_get (D := D) (ci := 8) (v := .int (mG_rowMany g)) (C := RX9) (T := TX9) (N := 26) hx hb hts in_X9 hown hG.1 hP 0 rfl rfl 20 (by decide) (hts _ q1200) (fun _ h9 => h9) rfl dX9_row_38 ?_
      refine lv_iload_n hx hb dX9_row_41 rfl (lv_at hl 2 rfl) ?_
      obtain ⟨c6, hr⟩ := br_none hr
      obtain ⟨g7, hg7, hr⟩ := br_let hr
      refine fw_iast hx hb hG hS 8 rfl c6 dX9_row_42 (wn := wM am ac g7) (by rw [hg7]; rfl) (fun H locs hS => ?_)
      have hP := hS.1
      refine lv_aload_n hx hb dX9_row_43 rfl (lv_at hl 1 rfl) ?_
      refine lv_dup hx hb dX9_row_44 rfl ?_
      refine va_get (D := D) (ci := 8) (v := .int (mG_rowMany g7)) (C := RX9) (T := TX9) (N := 26) hx hb hts in_X9 hown hG.1 hP 0 rfl rfl 20 (by decide) (hts _ q1200) (fun _ h9 => h9) rfl dX9_row_45 ?_
      refine lv_iconst (v := 1) hx hb dX9_row_48 rfl ?_
      refine lv_iadd hx hb dX9_row_49 ?_
      obtain ⟨g8, hg8, hr⟩ := br_let hr
      refine fw_put (D := D) (ci := 8) (x := .int ((mG_rowMany g7) + 1)) (C := RX9) (T := TX9) (N := 26) hx hb hts in_X9 tyX9 tyX9_ok nmX9 hown hG hS 0 rfl rfl 20 (by decide) (hts _ q1200) (fun _ h9 => h9) rfl (tyX9_ok 20 (by decide)) rfl rfl (Nat.le_of_ble_eq_true rfl) dX9_row_50 (wn := wM am ac g8) (by rw [hg8]; rfl) (fun H locs hS => ?_)
      have hP := hS.1
      refine lv_aload_n hx hb dX9_row_53 rfl (lv_at hl 1 rfl) ?_
      refine va_get (D := D) (ci := 8) (v := .int (mG_rowMany g8)) (C := RX9) (T := TX9) (N := 26) hx hb hts in_X9 hown hG.1 hP 0 rfl rfl 20 (by decide) (hts _ q1200) (fun _ h9 => h9) rfl dX9_row_54 ?_
      obtain rfl := Option.some.inj hr
      refine W.widen (k := rm_X9_row.cells) (n := rm_X9_row.slots) (Nat.le_of_ble_eq_true rfl) (Nat.le_of_ble_eq_true rfl) ?_
      exact W.iret hx hb hrt (fun t ht _ => hS.q ht rfl) hS.2.2.2.2 dX9_row_57 hlk
    · have hr := hi5.2 c5
      refine lv_aload_n hx hb dX9_row_27 rfl (lv_at hl 1 rfl) ?_
      refine lv_iload_n hx hb dX9_row_28 rfl (lv_at hl 0 rfl) ?_
      obtain ⟨o9, ho9, hr⟩ := br_bind hr
      refine fwWVs (As := [.int o3]) (rest := []) (C := RX9) hx hb hml hown hts (m_X9_no l D am ac g o3 _ o9 ho9) (cw_X9_no hts q1263 ⟨Nat.le_of_ble_eq_true rfl, Nat.le_of_ble_eq_true rfl⟩) hG hS hA rfl 0 8 rfl rfl rfl hl.1 rfl (Nat.le_of_ble_eq_true rfl) dX9_row_29 ⟨Nat.le_of_ble_eq_true rfl, Nat.le_of_ble_eq_true rfl⟩ (fun H locs hS => ?_)
      have hP := hS.1
      obtain rfl := Option.some.inj hr
      refine W.widen (k := rm_X9_row.cells) (n := rm_X9_row.slots) (Nat.le_of_ble_eq_true rfl) (Nat.le_of_ble_eq_true rfl) ?_
      exact W.iret hx hb hrt (fun t ht _ => hS.q ht rfl) hS.2.2.2.2 dX9_row_32 hlk
  have hr := ho3
  have hi2 := br_ite hr
  refine lv_if_ne (tgt := 23) hx hb dX9_row_8 (by decide) (fun c2 => ?_) (fun c2 => ?_)
  · have hr := hi2.2 c2
    obtain rfl := Option.some.inj hr
    exact J3 _ _ ls (lv_sub hl [0, 1, 2] rfl) hS
  · have hr := hi2.1 c2
    refine lv_aload_n hx hb dX9_row_11 rfl (lv_at hl 1 rfl) ?_
    refine va_get (D := D) (ci := 8) (v := .int (mG_rowMany g)) (C := RX9) (T := TX9) (N := 26) hx hb hts in_X9 hown hG.1 hP 0 rfl rfl 20 (by decide) (hts _ q1200) (fun _ h9 => h9) rfl dX9_row_12 ?_
    refine lv_bipush (v := 16) hx hb dX9_row_15 rfl ?_
    have hi4 := br_ite hr
    refine lv_icmp_ne (tgt := 23) hx hb dX9_row_17 (by decide) (fun c4 => ?_) (fun c4 => ?_)
    · have hr := hi4.2 c4
      obtain rfl := Option.some.inj hr
      exact J3 _ _ ls (lv_sub hl [0, 1, 2] rfl) hS
    · have hr := hi4.1 c4
      refine lv_bipush (v := (-6)) hx hb dX9_row_20 rfl ?_
      refine lv_istore_n (lv' := [(2, .int (-6)), (0, .ref (am 0)), (1, .int a1)]) hx hb dX9_row_22 rfl hl (by decide) rfl (fun ls hl => ?_)
      obtain rfl := Option.some.inj hr
      exact J3 _ _ ls (lv_sub hl [0, 1, 2] rfl) hS
theorem cw_X9_row {R : Room} {s : State} {args : Array Value} {own : String} {index : Nat} (hts : ∀ w ∈ lw_all, w.before args s = true) (hlink : Cond.methodLink own index yX9_row ∈ lw_all) (hR : rm_X9_row.frames + 1 ≤ R.frames ∧ 8 + (3 + 11) + rm_X9_row.locals ≤ R.locals) : CallW R s args own RX9 index yX9_row cX9_row 3 (some FieldType.int) (ws_ yX9_row cX9_row 3 (some FieldType.int)) rm_X9_row rm_X9_row.cells rm_X9_row.slots 1 :=
  cwV 1 hts (lw_V hlink q1548 q1549 q111 q1550) rfl rfl rfl (by decide +kernel) hR
def f_X9_judge_L12 (v1 : Int32) (g2 : MS) : Nat → Int32 → Option ((Int32 × MS) ⊕ (Unit))
  | 0, _ => none
  | n + 1, x2_3 => if v1 ≤ x2_3 then some (Sum.inr ()) else Option.bind (f_X9_isHeir g2 x2_3) fun o5 => if o5 = 0 then some (Sum.inl (x2_3, g2)) else Option.bind (f_X9_shareOf g2 (mG_left g2) x2_3) fun o7 => if x2_3 < 0 ∨ 16 ≤ Int32.toNatClampNeg x2_3 then none else if o7 = (mG_row g2 (Int32.toNatClampNeg x2_3)) then Option.bind (some ((x2_3 + 1) : Int32)) fun v10 => f_X9_judge_L12 v1 g2 n v10 else some (Sum.inl (x2_3, g2))
def f_X9_judge (g : MS) : Option (Int32 × MS) := Option.bind (some ((mG_rowMany g) : Int32)) fun v1 => Option.bind (some (mS_rowMany g (0 : Int32))) fun g2 => bsR (f_X9_judge_L12 v1 g2 1000 0) fun t3 => some ((-9), g2)
abbrev rm_X9_judge : Room := ({ frames := 6, cells := 0, slots := 0, locals := 136 })
set_option maxHeartbeats 4000000 in
theorem m_X9_judge (l : Launch) (D : va_G) (am : Nat → Nat) (ac : Nat → ClassId) (g : MS) (sz : Nat) (r0 : Int32 × MS) (hr : f_X9_judge g = some r0) : WM l yX9_judge cX9_judge 3 (some FieldType.int) rm_X9_judge [.ref (am 0)] D ac (wM am ac g) (wM am ac r0.2) sz (some (.int r0.1)) := by
  refine fw_of (by decide) (Nat.le_of_ble_eq_true rfl) ?_
  intro p e s m below meth c ls hx hb hrt hts hown hlk hml _ hU hl
  obtain ⟨rfl, hP, hG, hD⟩ := hU
  have hA : ∀ q : Nat, s.heap.size ≤ q → va_A (wM am ac g) s.heap.size q := fun q h => Or.inr h
  have hS := Stt.start hP hD
  show WW p l e rm_X9_judge s m [.ref (am 0)] below meth c D (wM am ac r0.2) (va_A (wM am ac g) s.heap.size) (some (.int r0.1)) s.heap [] 0 0 0 ls []
  have hl : lv_has ls 3 [(0, .ref (am 0))] := hl
  rw [f_X9_judge] at hr
  refine lv_aload_n hx hb dX9_judge_0 rfl (lv_at hl 0 rfl) ?_
  refine va_get (D := D) (ci := 8) (v := .int (mG_rowMany g)) (C := RX9) (T := TX9) (N := 26) hx hb hts in_X9 hown hG.1 hP 0 rfl rfl 20 (by decide) (hts _ q1200) (fun _ h9 => h9) rfl dX9_judge_1 ?_
  refine lv_topi (fun v1 hv1 => ?_)
  have hr := br_letv hr hv1
  refine lv_istore_n (lv' := [(1, .int v1), (0, .ref (am 0))]) hx hb dX9_judge_4 rfl hl (by decide) rfl (fun ls hl => ?_)
  refine lv_aload_n hx hb dX9_judge_5 rfl (lv_at hl 1 rfl) ?_
  refine lv_iconst (v := 0) hx hb dX9_judge_6 rfl ?_
  obtain ⟨g2, hg2, hr⟩ := br_let hr
  refine fw_put (D := D) (ci := 8) (x := .int 0) (C := RX9) (T := TX9) (N := 26) hx hb hts in_X9 tyX9 tyX9_ok nmX9 hown hG hS 0 rfl rfl 20 (by decide) (hts _ q1200) (fun _ h9 => h9) rfl (tyX9_ok 20 (by decide)) rfl rfl (Nat.le_of_ble_eq_true rfl) dX9_judge_7 (wn := wM am ac g2) (by rw [hg2]; rfl) (fun H locs hS => ?_)
  have hP := hS.1
  refine lv_iconst (v := 0) hx hb dX9_judge_10 rfl ?_
  refine lv_istore_n (lv' := [(2, .int 0), (1, .int v1), (0, .ref (am 0))]) hx hb dX9_judge_11 rfl hl (by decide) rfl (fun ls hl => ?_)
  have L3 : ∀ (n : Nat) (x2_3 : Int32) (o3 : (Int32 × MS) ⊕ (Unit)), f_X9_judge_L12 v1 g2 n x2_3 = some o3 → (∀ r, o3 = Sum.inl r → some r = some r0) → ∀ (H : Heap) (locs : List Loc) ls, lv_has ls 3 [(2, .int x2_3), (1, .int v1), (0, .ref (am 0))] → Stt D (va_A (wM am ac g) s.heap.size) s.heap (wM am ac g2) H locs → (∀ t3, o3 = Sum.inr t3 → ∀ (H : Heap) (locs : List Loc) ls, lv_has ls 3 [] → Stt D (va_A (wM am ac g) s.heap.size) s.heap (wM am ac g2) H locs → WW p l e rm_X9_judge s m [.ref (am 0)] below meth c D (wM am ac r0.2) (va_A (wM am ac g) s.heap.size) (some (.int r0.1)) H locs 0 0 51 ls []) → WW p l e rm_X9_judge s m [.ref (am 0)] below meth c D (wM am ac r0.2) (va_A (wM am ac g) s.heap.size) (some (.int r0.1)) H locs 0 0 12 ls [] := by
    intro n
    induction n with
    | zero => intro x2_3 o3 hr; rw [f_X9_judge_L12] at hr; cases hr
    | succ n ih =>
      intro x2_3 o3 hr hret H locs ls hl hS kx
      have hP := hS.1
      rw [f_X9_judge_L12] at hr
      refine lv_iload_n hx hb dX9_judge_12 rfl (lv_at hl 0 rfl) ?_
      refine lv_iload_n hx hb dX9_judge_13 rfl (lv_at hl 1 rfl) ?_
      have hi4 := br_ite hr
      refine lv_icmp_ge (tgt := 51) hx hb dX9_judge_14 (by decide) (fun c4 => ?_) (fun c4 => ?_)
      · have hr := hi4.1 c4
        exact kx _ (Option.some.inj hr).symm _ _ ls (lv_sub hl [] rfl) hS
      · have hr := hi4.2 c4
        refine lv_aload_n hx hb dX9_judge_17 rfl (lv_at hl 2 rfl) ?_
        refine lv_iload_n hx hb dX9_judge_18 rfl (lv_at hl 0 rfl) ?_
        obtain ⟨o5, ho5, hr⟩ := br_bind hr
        refine fwRV (As := [.int x2_3]) (rest := []) (C := RX9) hx hb hml hown hts (m_X9_isHeir l D am ac g2  x2_3 o5 ho5) (cw_X9_isHeir hts q1348 ⟨Nat.le_of_ble_eq_true rfl, Nat.le_of_ble_eq_true rfl⟩) hG hP hP 0 8 rfl rfl rfl hl.1 rfl (Nat.le_of_ble_eq_true rfl) dX9_judge_19 ⟨Nat.le_of_ble_eq_true rfl, Nat.le_of_ble_eq_true rfl⟩ ?_
        have hi6 := br_ite hr
        refine lv_if_eq (tgt := 43) hx hb dX9_judge_22 (by decide) (fun c6 => ?_) (fun c6 => ?_)
        · have hr := hi6.1 c6
          refine lv_iload_n hx hb dX9_judge_43 rfl (lv_at hl 0 rfl) ?_
          have hr := hret _ (Option.some.inj hr).symm
          obtain rfl := Option.some.inj hr
          refine W.widen (k := rm_X9_judge.cells) (n := rm_X9_judge.slots) (Nat.le_of_ble_eq_true rfl) (Nat.le_of_ble_eq_true rfl) ?_
          exact W.iret hx hb hrt (fun t ht _ => hS.q ht rfl) hS.2.2.2.2 dX9_judge_44 hlk
        · have hr := hi6.2 c6
          refine lv_aload_n hx hb dX9_judge_25 rfl (lv_at hl 2 rfl) ?_
          refine lv_aload_n hx hb dX9_judge_26 rfl (lv_at hl 2 rfl) ?_
          refine va_get (D := D) (ci := 8) (v := .int (mG_left g2)) (C := RX9) (T := TX9) (N := 26) hx hb hts in_X9 hown hG.1 hP 0 rfl rfl 0 (by decide) (hts _ q1180) (fun _ h9 => h9) rfl dX9_judge_27 ?_
          refine lv_iload_n hx hb dX9_judge_30 rfl (lv_at hl 0 rfl) ?_
          obtain ⟨o7, ho7, hr⟩ := br_bind hr
          refine fwRV (As := [.int (mG_left g2), .int x2_3]) (rest := []) (C := RX9) hx hb hml hown hts (m_X9_shareOf l D am ac g2  (mG_left g2) x2_3 o7 ho7) (cw_X9_shareOf hts q1352 ⟨Nat.le_of_ble_eq_true rfl, Nat.le_of_ble_eq_true rfl⟩) hG hP hP 0 8 rfl rfl rfl hl.1 rfl (Nat.le_of_ble_eq_true rfl) dX9_judge_31 ⟨Nat.le_of_ble_eq_true rfl, Nat.le_of_ble_eq_true rfl⟩ ?_
          refine lv_aload_n hx hb dX9_judge_34 rfl (lv_at hl 2 rfl) ?_
          refine va_get (D := D) (ci := 8) (v := .ref (am 8)) (C := RX9) (T := TX9) (N := 26) hx hb hts in_X9 hown hG.1 hP 0 rfl rfl 17 (by decide) (hts _ q1197) (fun _ h9 => h9) rfl dX9_judge_35 ?_
          refine lv_iload_n hx hb dX9_judge_38 rfl (lv_at hl 0 rfl) ?_
          obtain ⟨c8, hr⟩ := br_none hr
          refine va_iald hx hb hG.1 hP 8 0 rfl rfl c8 dX9_judge_39 ?_
          have hi9 := br_ite hr
          refine lv_icmp_eq (tgt := 45) hx hb dX9_judge_40 (by decide) (fun c9 => ?_) (fun c9 => ?_)
          · have hr := hi9.1 c9
            obtain ⟨v10, hv10, hr⟩ := br_let hr
            refine lv_iinc (v := v10) (lv' := [(2, .int v10), (1, .int v1), (0, .ref (am 0))]) hx hb dX9_judge_45 hl (k := 0) rfl (hv10 ▸ rfl) (by decide) rfl (fun ls hl => ?_)
            refine lv_goto (tgt := 12) hx hb dX9_judge_48 (by decide) ?_
            exact ih v10 _ hr hret _ _ ls (lv_sub hl [0, 1, 2] rfl) hS kx
          · have hr := hi9.2 c9
            refine lv_iload_n hx hb dX9_judge_43 rfl (lv_at hl 0 rfl) ?_
            have hr := hret _ (Option.some.inj hr).symm
            obtain rfl := Option.some.inj hr
            refine W.widen (k := rm_X9_judge.cells) (n := rm_X9_judge.slots) (Nat.le_of_ble_eq_true rfl) (Nat.le_of_ble_eq_true rfl) ?_
            exact W.iret hx hb hrt (fun t ht _ => hS.q ht rfl) hS.2.2.2.2 dX9_judge_44 hlk
  obtain ⟨o3, ho3, hl3, hk3⟩ := br_bsR hr
  refine L3 1000 0 o3 ho3 (fun r hq => hl3 r hq) _ _ ls (lv_sub hl [0, 1, 2] rfl) hS (fun t3 hq3 H locs ls hl hS => ?_)
  have hP := hS.1
  have hr := hk3 t3 hq3
  refine lv_bipush (v := (-9)) hx hb dX9_judge_51 rfl ?_
  obtain rfl := Option.some.inj hr
  refine W.widen (k := rm_X9_judge.cells) (n := rm_X9_judge.slots) (Nat.le_of_ble_eq_true rfl) (Nat.le_of_ble_eq_true rfl) ?_
  exact W.iret hx hb hrt (fun t ht _ => hS.q ht rfl) hS.2.2.2.2 dX9_judge_53 hlk
theorem cw_X9_judge {R : Room} {s : State} {args : Array Value} {own : String} {index : Nat} (hts : ∀ w ∈ lw_all, w.before args s = true) (hlink : Cond.methodLink own index yX9_judge ∈ lw_all) (hR : rm_X9_judge.frames + 1 ≤ R.frames ∧ 8 + (3 + 11) + rm_X9_judge.locals ≤ R.locals) : CallW R s args own RX9 index yX9_judge cX9_judge 3 (some FieldType.int) (ws_ yX9_judge cX9_judge 3 (some FieldType.int)) rm_X9_judge rm_X9_judge.cells rm_X9_judge.slots 0 :=
  cwV 0 hts (lw_V hlink q1552 q1553 q111 q1554) rfl rfl rfl (by decide +kernel) hR
def f_X9_clear (g : MS) : Option (Int32 × MS) := Option.bind (some ((mG_rowMany g) : Int32)) fun v1 => Option.bind (some (mS_rowMany g (0 : Int32))) fun g2 => some (v1, g2)
abbrev rm_X9_clear : Room := ({ frames := 1, cells := 0, slots := 0, locals := 18 })
set_option maxHeartbeats 4000000 in
theorem m_X9_clear (l : Launch) (D : va_G) (am : Nat → Nat) (ac : Nat → ClassId) (g : MS) (sz : Nat) (r0 : Int32 × MS) (hr : f_X9_clear g = some r0) : WM l yX9_clear cX9_clear 2 (some FieldType.int) rm_X9_clear [.ref (am 0)] D ac (wM am ac g) (wM am ac r0.2) sz (some (.int r0.1)) := by
  refine fw_of (by decide) (Nat.le_of_ble_eq_true rfl) ?_
  intro p e s m below meth c ls hx hb hrt hts hown hlk hml _ hU hl
  obtain ⟨rfl, hP, hG, hD⟩ := hU
  have hA : ∀ q : Nat, s.heap.size ≤ q → va_A (wM am ac g) s.heap.size q := fun q h => Or.inr h
  have hS := Stt.start hP hD
  show WW p l e rm_X9_clear s m [.ref (am 0)] below meth c D (wM am ac r0.2) (va_A (wM am ac g) s.heap.size) (some (.int r0.1)) s.heap [] 0 0 0 ls []
  have hl : lv_has ls 2 [(0, .ref (am 0))] := hl
  rw [f_X9_clear] at hr
  refine lv_aload_n hx hb dX9_clear_0 rfl (lv_at hl 0 rfl) ?_
  refine va_get (D := D) (ci := 8) (v := .int (mG_rowMany g)) (C := RX9) (T := TX9) (N := 26) hx hb hts in_X9 hown hG.1 hP 0 rfl rfl 20 (by decide) (hts _ q1200) (fun _ h9 => h9) rfl dX9_clear_1 ?_
  refine lv_topi (fun v1 hv1 => ?_)
  have hr := br_letv hr hv1
  refine lv_istore_n (lv' := [(1, .int v1), (0, .ref (am 0))]) hx hb dX9_clear_4 rfl hl (by decide) rfl (fun ls hl => ?_)
  refine lv_aload_n hx hb dX9_clear_5 rfl (lv_at hl 1 rfl) ?_
  refine lv_iconst (v := 0) hx hb dX9_clear_6 rfl ?_
  obtain ⟨g2, hg2, hr⟩ := br_let hr
  refine fw_put (D := D) (ci := 8) (x := .int 0) (C := RX9) (T := TX9) (N := 26) hx hb hts in_X9 tyX9 tyX9_ok nmX9 hown hG hS 0 rfl rfl 20 (by decide) (hts _ q1200) (fun _ h9 => h9) rfl (tyX9_ok 20 (by decide)) rfl rfl (Nat.le_of_ble_eq_true rfl) dX9_clear_7 (wn := wM am ac g2) (by rw [hg2]; rfl) (fun H locs hS => ?_)
  have hP := hS.1
  refine lv_iload_n hx hb dX9_clear_10 rfl (lv_at hl 0 rfl) ?_
  obtain rfl := Option.some.inj hr
  refine W.widen (k := rm_X9_clear.cells) (n := rm_X9_clear.slots) (Nat.le_of_ble_eq_true rfl) (Nat.le_of_ble_eq_true rfl) ?_
  exact W.iret hx hb hrt (fun t ht _ => hS.q ht rfl) hS.2.2.2.2 dX9_clear_11 hlk
theorem cw_X9_clear {R : Room} {s : State} {args : Array Value} {own : String} {index : Nat} (hts : ∀ w ∈ lw_all, w.before args s = true) (hlink : Cond.methodLink own index yX9_clear ∈ lw_all) (hR : rm_X9_clear.frames + 1 ≤ R.frames ∧ 8 + (2 + 11) + rm_X9_clear.locals ≤ R.locals) : CallW R s args own RX9 index yX9_clear cX9_clear 2 (some FieldType.int) (ws_ yX9_clear cX9_clear 2 (some FieldType.int)) rm_X9_clear rm_X9_clear.cells rm_X9_clear.slots 0 :=
  cwV 0 hts (lw_V hlink q1556 q1557 q111 q1558) rfl rfl rfl (by decide +kernel) hR
def f_X9_drawn (g : MS) (a1 : Int32) : Option (Int32 × MS) := Option.bind (some ((((mG_seed g) * 1664525) + 1013904223) : Int32)) fun v1 => Option.bind (some (mS_seed g v1)) fun g2 => if a1 = 0 then none else some (((((mG_seed g2) &&& 2147483647) / 256) - (((mG_seed g2) &&& 2147483647) / 256) / a1 * a1), g2)
abbrev rm_X9_drawn : Room := ({ frames := 1, cells := 0, slots := 0, locals := 18 })
set_option maxHeartbeats 4000000 in
theorem m_X9_drawn (l : Launch) (D : va_G) (am : Nat → Nat) (ac : Nat → ClassId) (g : MS) (a1 : Int32) (sz : Nat) (r0 : Int32 × MS) (hr : f_X9_drawn g a1 = some r0) : WM l yX9_drawn cX9_drawn 2 (some FieldType.int) rm_X9_drawn [.ref (am 0), .int a1] D ac (wM am ac g) (wM am ac r0.2) sz (some (.int r0.1)) := by
  refine fw_of (by decide) (Nat.le_of_ble_eq_true rfl) ?_
  intro p e s m below meth c ls hx hb hrt hts hown hlk hml _ hU hl
  obtain ⟨rfl, hP, hG, hD⟩ := hU
  have hA : ∀ q : Nat, s.heap.size ≤ q → va_A (wM am ac g) s.heap.size q := fun q h => Or.inr h
  have hS := Stt.start hP hD
  show WW p l e rm_X9_drawn s m [.ref (am 0), .int a1] below meth c D (wM am ac r0.2) (va_A (wM am ac g) s.heap.size) (some (.int r0.1)) s.heap [] 0 0 0 ls []
  have hl : lv_has ls 2 [(0, .ref (am 0)), (1, .int a1)] := hl
  rw [f_X9_drawn] at hr
  refine lv_aload_n hx hb dX9_drawn_0 rfl (lv_at hl 0 rfl) ?_
  refine lv_aload_n hx hb dX9_drawn_1 rfl (lv_at hl 0 rfl) ?_
  refine va_get (D := D) (ci := 8) (v := .int (mG_seed g)) (C := RX9) (T := TX9) (N := 26) hx hb hts in_X9 hown hG.1 hP 0 rfl rfl 25 (by decide) (hts _ q1205) (fun _ h9 => h9) rfl dX9_drawn_2 ?_
  refine lv_ldc (v := 1664525) hx hb hown (hts _ q1567) dX9_drawn_5 ?_
  refine lv_imul hx hb dX9_drawn_7 ?_
  refine lv_ldc (v := 1013904223) hx hb hown (hts _ q1568) dX9_drawn_8 ?_
  refine lv_iadd hx hb dX9_drawn_10 ?_
  refine lv_topi (fun v1 hv1 => ?_)
  have hr := br_letv hr hv1
  obtain ⟨g2, hg2, hr⟩ := br_let hr
  refine fw_put (D := D) (ci := 8) (x := .int v1) (C := RX9) (T := TX9) (N := 26) hx hb hts in_X9 tyX9 tyX9_ok nmX9 hown hG hS 0 rfl rfl 25 (by decide) (hts _ q1205) (fun _ h9 => h9) rfl (tyX9_ok 25 (by decide)) rfl rfl (Nat.le_of_ble_eq_true rfl) dX9_drawn_11 (wn := wM am ac g2) (by rw [hg2]; rfl) (fun H locs hS => ?_)
  have hP := hS.1
  refine lv_aload_n hx hb dX9_drawn_14 rfl (lv_at hl 0 rfl) ?_
  refine va_get (D := D) (ci := 8) (v := .int (mG_seed g2)) (C := RX9) (T := TX9) (N := 26) hx hb hts in_X9 hown hG.1 hP 0 rfl rfl 25 (by decide) (hts _ q1205) (fun _ h9 => h9) rfl dX9_drawn_15 ?_
  refine lv_ldc (v := 2147483647) hx hb hown (hts _ q1569) dX9_drawn_18 ?_
  refine lv_iand hx hb dX9_drawn_20 ?_
  refine lv_sipush (v := 256) hx hb dX9_drawn_21 rfl ?_
  refine lv_idiv hx hb dX9_drawn_24 (by decide) ?_
  refine lv_iload_n hx hb dX9_drawn_25 rfl (lv_at hl 1 rfl) ?_
  obtain ⟨c3, hr⟩ := br_none hr
  refine lv_irem hx hb dX9_drawn_26 c3 ?_
  obtain rfl := Option.some.inj hr
  refine W.widen (k := rm_X9_drawn.cells) (n := rm_X9_drawn.slots) (Nat.le_of_ble_eq_true rfl) (Nat.le_of_ble_eq_true rfl) ?_
  exact W.iret hx hb hrt (fun t ht _ => hS.q ht rfl) hS.2.2.2.2 dX9_drawn_27 hlk
theorem cw_X9_drawn {R : Room} {s : State} {args : Array Value} {own : String} {index : Nat} (hts : ∀ w ∈ lw_all, w.before args s = true) (hlink : Cond.methodLink own index yX9_drawn ∈ lw_all) (hR : rm_X9_drawn.frames + 1 ≤ R.frames ∧ 8 + (2 + 11) + rm_X9_drawn.locals ≤ R.locals) : CallW R s args own RX9 index yX9_drawn cX9_drawn 2 (some FieldType.int) (ws_ yX9_drawn cX9_drawn 2 (some FieldType.int)) rm_X9_drawn rm_X9_drawn.cells rm_X9_drawn.slots 1 :=
  cwV 1 hts (lw_V hlink q1565 qs100 q111 q1566) rfl rfl rfl (by decide +kernel) hR
def f_X9_lots_L67 : Nat → Int32 → Int32 → MS → Option (Int32 × MS)
  | 0, _, _, _ => none
  | n + 1, x7_9, x6_9, g_9 => if 6 ≤ x7_9 then some (x6_9, g_9) else Option.bind (f_X9_drawn g_9 (4 : Int32)) fun o11 => Option.bind (f_X9_drawn o11.2 (25 : Int32)) fun o12 => Option.bind (f_X9_canBite x6_9 o11.1 o12.1) fun o13 => if o13 = 0 then Option.bind (some ((x7_9 + 1) : Int32)) fun v15 => f_X9_lots_L67 n v15 x6_9 o12.2 else Option.bind (f_X9_bite o11.1 o12.1) fun o16 => Option.bind (some ((x6_9 &&& (o16 ^^^ (-1))) : Int32)) fun v17 => Option.bind (some ((x7_9 + 1) : Int32)) fun v18 => f_X9_lots_L67 n v18 v17 o12.2
def f_X9_lots_L52 (a1 : Int32) (a3 : Int32) : Nat → Int32 → Int32 → MS → Option (Int32 × MS)
  | 0, _, _, _ => none
  | n + 1, x5_6, x4_6, g_6 => if a1 ≤ x5_6 then some (x4_6, g_6) else Option.bind (some ((mG_left g_6) : Int32)) fun v8 => Option.bind (f_X9_lots_L67 1000 0 v8 g_6) fun o9 => if a3 = 0 then Option.bind (f_X9_sharesOf o9.2 o9.1) fun o26 => Option.bind (some ((x4_6 + o26) : Int32)) fun v27 => Option.bind (some ((x5_6 + 1) : Int32)) fun v28 => f_X9_lots_L52 a1 a3 n v28 v27 o9.2 else Option.bind (f_X9_deed o9.1) fun o20 => if o20 = 0 then Option.bind (some ((x4_6 + 1) : Int32)) fun v24 => Option.bind (some ((x5_6 + 1) : Int32)) fun v25 => f_X9_lots_L52 a1 a3 n v25 v24 o9.2 else Option.bind (some ((x4_6 + 0) : Int32)) fun v22 => Option.bind (some ((x5_6 + 1) : Int32)) fun v23 => f_X9_lots_L52 a1 a3 n v23 v22 o9.2
def f_X9_lots (g : MS) (a1 : Int32) (a2 : Int32) (a3 : Int32) : Option (Int32 × MS) := if 1 ≤ a1 then if a1 ≤ 20 then Option.bind (f_X9_isIn a3 0 1) fun o3 => if o3 = 0 then Option.bind (f_X9_no g (-2 : Int32)) fun o29 => some (o29.1, o29.2) else Option.bind (some (mS_seed g a2)) fun g5 => Option.bind (f_X9_lots_L52 a1 a3 1000 0 0 g5) fun o6 => some (o6.1, o6.2) else Option.bind (f_X9_no g (-6 : Int32)) fun o30 => some (o30.1, o30.2) else Option.bind (f_X9_no g (-4 : Int32)) fun o31 => some (o31.1, o31.2)
abbrev rm_X9_lots : Room := ({ frames := 7, cells := 0, slots := 0, locals := 159 })
set_option maxHeartbeats 4000000 in
theorem m_X9_lots (l : Launch) (D : va_G) (am : Nat → Nat) (ac : Nat → ClassId) (g : MS) (a1 : Int32) (a2 : Int32) (a3 : Int32) (sz : Nat) (r0 : Int32 × MS) (hr : f_X9_lots g a1 a2 a3 = some r0) : WM l yX9_lots cX9_lots 10 (some FieldType.int) rm_X9_lots [.ref (am 0), .int a1, .int a2, .int a3] D ac (wM am ac g) (wM am ac r0.2) sz (some (.int r0.1)) := by
  refine fw_of (by decide) (Nat.le_of_ble_eq_true rfl) ?_
  intro p e s m below meth c ls hx hb hrt hts hown hlk hml _ hU hl
  obtain ⟨rfl, hP, hG, hD⟩ := hU
  have hA : ∀ q : Nat, s.heap.size ≤ q → va_A (wM am ac g) s.heap.size q := fun q h => Or.inr h
  have hS := Stt.start hP hD
  show WW p l e rm_X9_lots s m [.ref (am 0), .int a1, .int a2, .int a3] below meth c D (wM am ac r0.2) (va_A (wM am ac g) s.heap.size) (some (.int r0.1)) s.heap [] 0 0 0 ls []
  have hl : lv_has ls 10 [(0, .ref (am 0)), (1, .int a1), (2, .int a2), (3, .int a3)] := hl
  rw [f_X9_lots] at hr
  refine lv_iload_n hx hb dX9_lots_0 rfl (lv_at hl 1 rfl) ?_
  refine lv_iconst (v := 1) hx hb dX9_lots_1 rfl ?_
  have hi1 := br_ite hr
  refine lv_icmp_ge (tgt := 12) hx hb dX9_lots_2 (by decide) (fun c1 => ?_) (fun c1 => ?_)
  · have hr := hi1.1 c1
    refine lv_iload_n hx hb dX9_lots_12 rfl (lv_at hl 1 rfl) ?_
    refine lv_bipush (v := 20) hx hb dX9_lots_13 rfl ?_
    have hi2 := br_ite hr
    refine lv_icmp_le (tgt := 25) hx hb dX9_lots_15 (by decide) (fun c2 => ?_) (fun c2 => ?_)
    · have hr := hi2.1 c2
      refine lv_iload_n hx hb dX9_lots_25 rfl (lv_at hl 3 rfl) ?_
      refine lv_iconst (v := 0) hx hb dX9_lots_26 rfl ?_
      refine lv_iconst (v := 1) hx hb dX9_lots_27 rfl ?_
      obtain ⟨o3, ho3, hr⟩ := br_bind hr
      refine fwS (As := [.int a3, .int 0, .int 1]) (rest := []) hx hb hml hown hts (m_X9_isIn l a3 0 1 o3 ho3) (cw_X9_isIn hts q1290 ⟨Nat.le_of_ble_eq_true rfl, Nat.le_of_ble_eq_true rfl⟩) rfl hl.1 rfl (Nat.le_of_ble_eq_true rfl) dX9_lots_28 ⟨Nat.le_of_ble_eq_true rfl, Nat.le_of_ble_eq_true rfl⟩ ?_
      have hi4 := br_ite hr
      refine lv_if_ne (tgt := 41) hx hb dX9_lots_31 (by decide) (fun c4 => ?_) (fun c4 => ?_)
      · have hr := hi4.2 c4
        refine lv_aload_n hx hb dX9_lots_41 rfl (lv_at hl 0 rfl) ?_
        refine lv_iload_n hx hb dX9_lots_42 rfl (lv_at hl 2 rfl) ?_
        obtain ⟨g5, hg5, hr⟩ := br_let hr
        refine fw_put (D := D) (ci := 8) (x := .int a2) (C := RX9) (T := TX9) (N := 26) hx hb hts in_X9 tyX9 tyX9_ok nmX9 hown hG hS 0 rfl rfl 25 (by decide) (hts _ q1205) (fun _ h9 => h9) rfl (tyX9_ok 25 (by decide)) rfl rfl (Nat.le_of_ble_eq_true rfl) dX9_lots_43 (wn := wM am ac g5) (by rw [hg5]; rfl) (fun H locs hS => ?_)
        have hP := hS.1
        refine lv_iconst (v := 0) hx hb dX9_lots_46 rfl ?_
        refine lv_istore (lv' := [(4, .int 0), (0, .ref (am 0)), (1, .int a1), (2, .int a2), (3, .int a3)]) hx hb dX9_lots_47 hl (by decide) rfl (fun ls hl => ?_)
        refine lv_iconst (v := 0) hx hb dX9_lots_49 rfl ?_
        refine lv_istore (lv' := [(5, .int 0), (4, .int 0), (0, .ref (am 0)), (1, .int a1), (2, .int a2), (3, .int a3)]) hx hb dX9_lots_50 hl (by decide) rfl (fun ls hl => ?_)
        have L6 : ∀ (n : Nat) (x5_6 : Int32) (x4_6 : Int32) (g_6 : MS) (o6 : Int32 × MS), f_X9_lots_L52 a1 a3 n x5_6 x4_6 g_6 = some o6 → ∀ (H : Heap) (locs : List Loc) ls, lv_has ls 10 [(5, .int x5_6), (4, .int x4_6), (0, .ref (am 0)), (1, .int a1), (3, .int a3)] → Stt D (va_A (wM am ac g) s.heap.size) s.heap (wM am ac g_6) H locs → (∀ (H : Heap) (locs : List Loc) ls, lv_has ls 10 [(4, .int o6.1)] → Stt D (va_A (wM am ac g) s.heap.size) s.heap (wM am ac o6.2) H locs → WW p l e rm_X9_lots s m [.ref (am 0), .int a1, .int a2, .int a3] below meth c D (wM am ac r0.2) (va_A (wM am ac g) s.heap.size) (some (.int r0.1)) H locs 0 0 163 ls []) → WW p l e rm_X9_lots s m [.ref (am 0), .int a1, .int a2, .int a3] below meth c D (wM am ac r0.2) (va_A (wM am ac g) s.heap.size) (some (.int r0.1)) H locs 0 0 52 ls [] := by
          intro n
          induction n with
          | zero => intro x5_6 x4_6 g_6 o6 hr; rw [f_X9_lots_L52] at hr; cases hr
          | succ n ih =>
            intro x5_6 x4_6 g_6 o6 hr H locs ls hl hS kx
            have hP := hS.1
            rw [f_X9_lots_L52] at hr
            refine lv_iload hx hb dX9_lots_52 (lv_at hl 0 rfl) ?_
            refine lv_iload_n hx hb dX9_lots_54 rfl (lv_at hl 3 rfl) ?_
            have hi7 := br_ite hr
            refine lv_icmp_ge (tgt := 163) hx hb dX9_lots_55 (by decide) (fun c7 => ?_) (fun c7 => ?_)
            · have hr := hi7.1 c7
              obtain rfl := Option.some.inj hr
              exact kx _ _ ls (lv_sub hl [1] rfl) hS
            · have hr := hi7.2 c7
              refine lv_aload_n hx hb dX9_lots_58 rfl (lv_at hl 2 rfl) ?_
              refine va_get (D := D) (ci := 8) (v := .int (mG_left g_6)) (C := RX9) (T := TX9) (N := 26) hx hb hts in_X9 hown hG.1 hP 0 rfl rfl 0 (by decide) (hts _ q1180) (fun _ h9 => h9) rfl dX9_lots_59 ?_
              refine lv_topi (fun v8 hv8 => ?_)
              have hr := br_letv hr hv8
              refine lv_istore (lv' := [(6, .int v8), (5, .int x5_6), (4, .int x4_6), (0, .ref (am 0)), (1, .int a1), (3, .int a3)]) hx hb dX9_lots_62 hl (by decide) rfl (fun ls hl => ?_)
              refine lv_iconst (v := 0) hx hb dX9_lots_64 rfl ?_
              refine lv_istore (lv' := [(7, .int 0), (6, .int v8), (5, .int x5_6), (4, .int x4_6), (0, .ref (am 0)), (1, .int a1), (3, .int a3)]) hx hb dX9_lots_65 hl (by decide) rfl (fun ls hl => ?_)
              have L9 : ∀ (n : Nat) (x7_9 : Int32) (x6_9 : Int32) (g_9 : MS) (o9 : Int32 × MS), f_X9_lots_L67 n x7_9 x6_9 g_9 = some o9 → ∀ (H : Heap) (locs : List Loc) ls, lv_has ls 10 [(7, .int x7_9), (6, .int x6_9), (5, .int x5_6), (4, .int x4_6), (0, .ref (am 0)), (1, .int a1), (3, .int a3)] → Stt D (va_A (wM am ac g) s.heap.size) s.heap (wM am ac g_9) H locs → (∀ (H : Heap) (locs : List Loc) ls, lv_has ls 10 [(6, .int o9.1), (5, .int x5_6), (4, .int x4_6), (0, .ref (am 0)), (1, .int a1), (3, .int a3)] → Stt D (va_A (wM am ac g) s.heap.size) s.heap (wM am ac o9.2) H locs → WW p l e rm_X9_lots s m [.ref (am 0), .int a1, .int a2, .int a3] below meth c D (wM am ac r0.2) (va_A (wM am ac g) s.heap.size) (some (.int r0.1)) H locs 0 0 126 ls []) → WW p l e rm_X9_lots s m [.ref (am 0), .int a1, .int a2, .int a3] below meth c D (wM am ac r0.2) (va_A (wM am ac g) s.heap.size) (some (.int r0.1)) H locs 0 0 67 ls [] := by
                intro n
                induction n with
                | zero => intro x7_9 x6_9 g_9 o9 hr; rw [f_X9_lots_L67] at hr; cases hr
                | succ n ih =>
                  intro x7_9 x6_9 g_9 o9 hr H locs ls hl hS kx
                  have hP := hS.1
                  rw [f_X9_lots_L67] at hr
                  refine lv_iload hx hb dX9_lots_67 (lv_at hl 0 rfl) ?_
                  refine lv_bipush (v := 6) hx hb dX9_lots_69 rfl ?_
                  have hi10 := br_ite hr
                  refine lv_icmp_ge (tgt := 126) hx hb dX9_lots_71 (by decide) (fun c10 => ?_) (fun c10 => ?_)
                  · have hr := hi10.1 c10
                    obtain rfl := Option.some.inj hr
                    exact kx _ _ ls (lv_sub hl [1, 2, 3, 4, 5, 6] rfl) hS
                  · have hr := hi10.2 c10
                    refine lv_aload_n hx hb dX9_lots_74 rfl (lv_at hl 4 rfl) ?_
                    refine lv_iconst (v := 4) hx hb dX9_lots_75 rfl ?_
                    obtain ⟨o11, ho11, hr⟩ := br_bind hr
                    refine fwWVs (As := [.int 4]) (rest := []) (C := RX9) hx hb hml hown hts (m_X9_drawn l D am ac g_9 (4 : Int32) _ o11 ho11) (cw_X9_drawn hts q1563 ⟨Nat.le_of_ble_eq_true rfl, Nat.le_of_ble_eq_true rfl⟩) hG hS hA rfl 0 8 rfl rfl rfl hl.1 rfl (Nat.le_of_ble_eq_true rfl) dX9_lots_76 ⟨Nat.le_of_ble_eq_true rfl, Nat.le_of_ble_eq_true rfl⟩ (fun H locs hS => ?_)
                    have hP := hS.1
                    refine lv_istore (lv' := [(8, .int o11.1), (7, .int x7_9), (6, .int x6_9), (5, .int x5_6), (4, .int x4_6), (0, .ref (am 0)), (1, .int a1), (3, .int a3)]) hx hb dX9_lots_79 hl (by decide) rfl (fun ls hl => ?_)
                    refine lv_aload_n hx hb dX9_lots_81 rfl (lv_at hl 5 rfl) ?_
                    refine lv_bipush (v := 25) hx hb dX9_lots_82 rfl ?_
                    obtain ⟨o12, ho12, hr⟩ := br_bind hr
                    refine fwWVs (As := [.int 25]) (rest := []) (C := RX9) hx hb hml hown hts (m_X9_drawn l D am ac o11.2 (25 : Int32) _ o12 ho12) (cw_X9_drawn hts q1563 ⟨Nat.le_of_ble_eq_true rfl, Nat.le_of_ble_eq_true rfl⟩) hG hS hA rfl 0 8 rfl rfl rfl hl.1 rfl (Nat.le_of_ble_eq_true rfl) dX9_lots_84 ⟨Nat.le_of_ble_eq_true rfl, Nat.le_of_ble_eq_true rfl⟩ (fun H locs hS => ?_)
                    have hP := hS.1
                    refine lv_istore (lv' := [(9, .int o12.1), (8, .int o11.1), (7, .int x7_9), (6, .int x6_9), (5, .int x5_6), (4, .int x4_6), (0, .ref (am 0)), (1, .int a1), (3, .int a3)]) hx hb dX9_lots_87 hl (by decide) rfl (fun ls hl => ?_)
                    refine lv_iload hx hb dX9_lots_89 (lv_at hl 3 rfl) ?_
                    refine lv_iload hx hb dX9_lots_91 (lv_at hl 1 rfl) ?_
                    refine lv_iload hx hb dX9_lots_93 (lv_at hl 0 rfl) ?_
                    obtain ⟨o13, ho13, hr⟩ := br_bind hr
                    refine fwS (As := [.int x6_9, .int o11.1, .int o12.1]) (rest := []) hx hb hml hown hts (m_X9_canBite l x6_9 o11.1 o12.1 o13 ho13) (cw_X9_canBite hts q1304 ⟨Nat.le_of_ble_eq_true rfl, Nat.le_of_ble_eq_true rfl⟩) rfl hl.1 rfl (Nat.le_of_ble_eq_true rfl) dX9_lots_95 ⟨Nat.le_of_ble_eq_true rfl, Nat.le_of_ble_eq_true rfl⟩ ?_
                    have hi14 := br_ite hr
                    refine lv_if_eq (tgt := 116) hx hb dX9_lots_98 (by decide) (fun c14 => ?_) (fun c14 => ?_)
                    · have hr := hi14.1 c14
                      refine lv_iload hx hb dX9_lots_116 (lv_at hl 3 rfl) ?_
                      refine lv_istore (lv' := [(6, .int x6_9), (9, .int o12.1), (8, .int o11.1), (7, .int x7_9), (5, .int x5_6), (4, .int x4_6), (0, .ref (am 0)), (1, .int a1), (3, .int a3)]) hx hb dX9_lots_118 hl (by decide) rfl (fun ls hl => ?_)
                      obtain ⟨v15, hv15, hr⟩ := br_let hr
                      refine lv_iinc (v := v15) (lv' := [(7, .int v15), (6, .int x6_9), (9, .int o12.1), (8, .int o11.1), (5, .int x5_6), (4, .int x4_6), (0, .ref (am 0)), (1, .int a1), (3, .int a3)]) hx hb dX9_lots_120 hl (k := 3) rfl (hv15 ▸ rfl) (by decide) rfl (fun ls hl => ?_)
                      refine lv_goto (tgt := 67) hx hb dX9_lots_123 (by decide) ?_
                      exact ih v15 x6_9 o12.2 _ hr _ _ ls (lv_sub hl [0, 1, 4, 5, 6, 7, 8] rfl) hS kx
                    · have hr := hi14.2 c14
                      refine lv_iload hx hb dX9_lots_101 (lv_at hl 3 rfl) ?_
                      refine lv_iload hx hb dX9_lots_103 (lv_at hl 1 rfl) ?_
                      refine lv_iload hx hb dX9_lots_105 (lv_at hl 0 rfl) ?_
                      obtain ⟨o16, ho16, hr⟩ := br_bind hr
                      refine fwS (As := [.int o11.1, .int o12.1]) (rest := [.int x6_9]) hx hb hml hown hts (m_X9_bite l o11.1 o12.1 o16 ho16) (cw_X9_bite hts q1307 ⟨Nat.le_of_ble_eq_true rfl, Nat.le_of_ble_eq_true rfl⟩) rfl hl.1 rfl (Nat.le_of_ble_eq_true rfl) dX9_lots_107 ⟨Nat.le_of_ble_eq_true rfl, Nat.le_of_ble_eq_true rfl⟩ ?_
                      refine lv_iconst (v := (-1)) hx hb dX9_lots_110 rfl ?_
                      refine lv_ixor hx hb dX9_lots_111 ?_
                      refine lv_iand hx hb dX9_lots_112 ?_
                      refine lv_goto (tgt := 118) hx hb dX9_lots_113 (by decide) ?_
                      refine lv_topi (fun v17 hv17 => ?_)
                      have hr := br_letv hr hv17
                      refine lv_istore (lv' := [(6, .int v17), (9, .int o12.1), (8, .int o11.1), (7, .int x7_9), (5, .int x5_6), (4, .int x4_6), (0, .ref (am 0)), (1, .int a1), (3, .int a3)]) hx hb dX9_lots_118 hl (by decide) rfl (fun ls hl => ?_)
                      obtain ⟨v18, hv18, hr⟩ := br_let hr
                      refine lv_iinc (v := v18) (lv' := [(7, .int v18), (6, .int v17), (9, .int o12.1), (8, .int o11.1), (5, .int x5_6), (4, .int x4_6), (0, .ref (am 0)), (1, .int a1), (3, .int a3)]) hx hb dX9_lots_120 hl (k := 3) rfl (hv18 ▸ rfl) (by decide) rfl (fun ls hl => ?_)
                      refine lv_goto (tgt := 67) hx hb dX9_lots_123 (by decide) ?_
                      exact ih v18 v17 o12.2 _ hr _ _ ls (lv_sub hl [0, 1, 4, 5, 6, 7, 8] rfl) hS kx
              obtain ⟨o9, ho9, hr⟩ := br_bind hr
              refine L9 1000 0 v8 g_6 o9 ho9 _ _ ls (lv_sub hl [0, 1, 2, 3, 4, 5, 6] rfl) hS (fun H locs ls hl hS => ?_)
              have hP := hS.1
              refine lv_iload hx hb dX9_lots_126 (lv_at hl 2 rfl) ?_
              refine lv_iload_n hx hb dX9_lots_128 rfl (lv_at hl 5 rfl) ?_
              have hi19 := br_ite hr
              refine lv_if_ne (tgt := 141) hx hb dX9_lots_129 (by decide) (fun c19 => ?_) (fun c19 => ?_)
              · have hr := hi19.2 c19
                refine lv_iload hx hb dX9_lots_141 (lv_at hl 0 rfl) ?_
                obtain ⟨o20, ho20, hr⟩ := br_bind hr
                refine fwS (As := [.int o9.1]) (rest := [.int x4_6]) hx hb hml hown hts (m_X9_deed l o9.1 o20 ho20) (cw_X9_deed hts q1359 ⟨Nat.le_of_ble_eq_true rfl, Nat.le_of_ble_eq_true rfl⟩) rfl hl.1 rfl (Nat.le_of_ble_eq_true rfl) dX9_lots_143 ⟨Nat.le_of_ble_eq_true rfl, Nat.le_of_ble_eq_true rfl⟩ ?_
                have hi21 := br_ite hr
                refine lv_if_ne (tgt := 153) hx hb dX9_lots_146 (by decide) (fun c21 => ?_) (fun c21 => ?_)
                · have hr := hi21.2 c21
                  refine lv_iconst (v := 0) hx hb dX9_lots_153 rfl ?_
                  refine lv_iadd hx hb dX9_lots_154 ?_
                  refine lv_topi (fun v22 hv22 => ?_)
                  have hr := br_letv hr hv22
                  refine lv_istore (lv' := [(4, .int v22), (6, .int o9.1), (5, .int x5_6), (0, .ref (am 0)), (1, .int a1), (3, .int a3)]) hx hb dX9_lots_155 hl (by decide) rfl (fun ls hl => ?_)
                  obtain ⟨v23, hv23, hr⟩ := br_let hr
                  refine lv_iinc (v := v23) (lv' := [(5, .int v23), (4, .int v22), (6, .int o9.1), (0, .ref (am 0)), (1, .int a1), (3, .int a3)]) hx hb dX9_lots_157 hl (k := 2) rfl (hv23 ▸ rfl) (by decide) rfl (fun ls hl => ?_)
                  refine lv_goto (tgt := 52) hx hb dX9_lots_160 (by decide) ?_
                  exact ih v23 v22 o9.2 _ hr _ _ ls (lv_sub hl [0, 1, 3, 4, 5] rfl) hS kx
                · have hr := hi21.1 c21
                  refine lv_iconst (v := 1) hx hb dX9_lots_149 rfl ?_
                  refine lv_goto (tgt := 154) hx hb dX9_lots_150 (by decide) ?_
                  refine lv_iadd hx hb dX9_lots_154 ?_
                  refine lv_topi (fun v24 hv24 => ?_)
                  have hr := br_letv hr hv24
                  refine lv_istore (lv' := [(4, .int v24), (6, .int o9.1), (5, .int x5_6), (0, .ref (am 0)), (1, .int a1), (3, .int a3)]) hx hb dX9_lots_155 hl (by decide) rfl (fun ls hl => ?_)
                  obtain ⟨v25, hv25, hr⟩ := br_let hr
                  refine lv_iinc (v := v25) (lv' := [(5, .int v25), (4, .int v24), (6, .int o9.1), (0, .ref (am 0)), (1, .int a1), (3, .int a3)]) hx hb dX9_lots_157 hl (k := 2) rfl (hv25 ▸ rfl) (by decide) rfl (fun ls hl => ?_)
                  refine lv_goto (tgt := 52) hx hb dX9_lots_160 (by decide) ?_
                  exact ih v25 v24 o9.2 _ hr _ _ ls (lv_sub hl [0, 1, 3, 4, 5] rfl) hS kx
              · have hr := hi19.1 c19
                refine lv_aload_n hx hb dX9_lots_132 rfl (lv_at hl 3 rfl) ?_
                refine lv_iload hx hb dX9_lots_133 (lv_at hl 0 rfl) ?_
                obtain ⟨o26, ho26, hr⟩ := br_bind hr
                refine fwRV (As := [.int o9.1]) (rest := [.int x4_6]) (C := RX9) hx hb hml hown hts (m_X9_sharesOf l D am ac o9.2  o9.1 o26 ho26) (cw_X9_sharesOf hts q1401 ⟨Nat.le_of_ble_eq_true rfl, Nat.le_of_ble_eq_true rfl⟩) hG hP hP 0 8 rfl rfl rfl hl.1 rfl (Nat.le_of_ble_eq_true rfl) dX9_lots_135 ⟨Nat.le_of_ble_eq_true rfl, Nat.le_of_ble_eq_true rfl⟩ ?_
                refine lv_goto (tgt := 154) hx hb dX9_lots_138 (by decide) ?_
                refine lv_iadd hx hb dX9_lots_154 ?_
                refine lv_topi (fun v27 hv27 => ?_)
                have hr := br_letv hr hv27
                refine lv_istore (lv' := [(4, .int v27), (6, .int o9.1), (5, .int x5_6), (0, .ref (am 0)), (1, .int a1), (3, .int a3)]) hx hb dX9_lots_155 hl (by decide) rfl (fun ls hl => ?_)
                obtain ⟨v28, hv28, hr⟩ := br_let hr
                refine lv_iinc (v := v28) (lv' := [(5, .int v28), (4, .int v27), (6, .int o9.1), (0, .ref (am 0)), (1, .int a1), (3, .int a3)]) hx hb dX9_lots_157 hl (k := 2) rfl (hv28 ▸ rfl) (by decide) rfl (fun ls hl => ?_)
                refine lv_goto (tgt := 52) hx hb dX9_lots_160 (by decide) ?_
                exact ih v28 v27 o9.2 _ hr _ _ ls (lv_sub hl [0, 1, 3, 4, 5] rfl) hS kx
        obtain ⟨o6, ho6, hr⟩ := br_bind hr
        refine L6 1000 0 0 g5 o6 ho6 _ _ ls (lv_sub hl [0, 1, 2, 3, 5] rfl) hS (fun H locs ls hl hS => ?_)
        have hP := hS.1
        refine lv_iload hx hb dX9_lots_163 (lv_at hl 0 rfl) ?_
        obtain rfl := Option.some.inj hr
        refine W.widen (k := rm_X9_lots.cells) (n := rm_X9_lots.slots) (Nat.le_of_ble_eq_true rfl) (Nat.le_of_ble_eq_true rfl) ?_
        exact W.iret hx hb hrt (fun t ht _ => hS.q ht rfl) hS.2.2.2.2 dX9_lots_165 hlk
      · have hr := hi4.1 c4
        refine lv_aload_n hx hb dX9_lots_34 rfl (lv_at hl 0 rfl) ?_
        refine lv_bipush (v := (-2)) hx hb dX9_lots_35 rfl ?_
        obtain ⟨o29, ho29, hr⟩ := br_bind hr
        refine fwWVs (As := [.int (-2)]) (rest := []) (C := RX9) hx hb hml hown hts (m_X9_no l D am ac g (-2 : Int32) _ o29 ho29) (cw_X9_no hts q1263 ⟨Nat.le_of_ble_eq_true rfl, Nat.le_of_ble_eq_true rfl⟩) hG hS hA rfl 0 8 rfl rfl rfl hl.1 rfl (Nat.le_of_ble_eq_true rfl) dX9_lots_37 ⟨Nat.le_of_ble_eq_true rfl, Nat.le_of_ble_eq_true rfl⟩ (fun H locs hS => ?_)
        have hP := hS.1
        obtain rfl := Option.some.inj hr
        refine W.widen (k := rm_X9_lots.cells) (n := rm_X9_lots.slots) (Nat.le_of_ble_eq_true rfl) (Nat.le_of_ble_eq_true rfl) ?_
        exact W.iret hx hb hrt (fun t ht _ => hS.q ht rfl) hS.2.2.2.2 dX9_lots_40 hlk
    · have hr := hi2.2 c2
      refine lv_aload_n hx hb dX9_lots_18 rfl (lv_at hl 0 rfl) ?_
      refine lv_bipush (v := (-6)) hx hb dX9_lots_19 rfl ?_
      obtain ⟨o30, ho30, hr⟩ := br_bind hr
      refine fwWVs (As := [.int (-6)]) (rest := []) (C := RX9) hx hb hml hown hts (m_X9_no l D am ac g (-6 : Int32) _ o30 ho30) (cw_X9_no hts q1263 ⟨Nat.le_of_ble_eq_true rfl, Nat.le_of_ble_eq_true rfl⟩) hG hS hA rfl 0 8 rfl rfl rfl hl.1 rfl (Nat.le_of_ble_eq_true rfl) dX9_lots_21 ⟨Nat.le_of_ble_eq_true rfl, Nat.le_of_ble_eq_true rfl⟩ (fun H locs hS => ?_)
      have hP := hS.1
      obtain rfl := Option.some.inj hr
      refine W.widen (k := rm_X9_lots.cells) (n := rm_X9_lots.slots) (Nat.le_of_ble_eq_true rfl) (Nat.le_of_ble_eq_true rfl) ?_
      exact W.iret hx hb hrt (fun t ht _ => hS.q ht rfl) hS.2.2.2.2 dX9_lots_24 hlk
  · have hr := hi1.2 c1
    refine lv_aload_n hx hb dX9_lots_5 rfl (lv_at hl 0 rfl) ?_
    refine lv_bipush (v := (-4)) hx hb dX9_lots_6 rfl ?_
    obtain ⟨o31, ho31, hr⟩ := br_bind hr
    refine fwWVs (As := [.int (-4)]) (rest := []) (C := RX9) hx hb hml hown hts (m_X9_no l D am ac g (-4 : Int32) _ o31 ho31) (cw_X9_no hts q1263 ⟨Nat.le_of_ble_eq_true rfl, Nat.le_of_ble_eq_true rfl⟩) hG hS hA rfl 0 8 rfl rfl rfl hl.1 rfl (Nat.le_of_ble_eq_true rfl) dX9_lots_8 ⟨Nat.le_of_ble_eq_true rfl, Nat.le_of_ble_eq_true rfl⟩ (fun H locs hS => ?_)
    have hP := hS.1
    obtain rfl := Option.some.inj hr
    refine W.widen (k := rm_X9_lots.cells) (n := rm_X9_lots.slots) (Nat.le_of_ble_eq_true rfl) (Nat.le_of_ble_eq_true rfl) ?_
    exact W.iret hx hb hrt (fun t ht _ => hS.q ht rfl) hS.2.2.2.2 dX9_lots_11 hlk
theorem cw_X9_lots {R : Room} {s : State} {args : Array Value} {own : String} {index : Nat} (hts : ∀ w ∈ lw_all, w.before args s = true) (hlink : Cond.methodLink own index yX9_lots ∈ lw_all) (hR : rm_X9_lots.frames + 1 ≤ R.frames ∧ 8 + (10 + 11) + rm_X9_lots.locals ≤ R.locals) : CallW R s args own RX9 index yX9_lots cX9_lots 10 (some FieldType.int) (ws_ yX9_lots cX9_lots 10 (some FieldType.int)) rm_X9_lots rm_X9_lots.cells rm_X9_lots.slots 3 :=
  cwV 3 hts (lw_V hlink q1560 q1561 q111 q1562) rfl rfl rfl (by decide +kernel) hR
def f_X9_image_L26 : Nat → Int32 → MS → Option (MS)
  | 0, _, _ => none
  | n + 1, x1_4, g_4 => if 5 ≤ x1_4 then some g_4 else if x1_4 < 0 ∨ 5 ≤ Int32.toNatClampNeg x1_4 then none else if x1_4 < 0 ∨ 5 ≤ Int32.toNatClampNeg x1_4 then none else Option.bind (some (mS_imageKind g_4 (upd (mG_imageKind g_4) (Int32.toNatClampNeg x1_4) (mG_kind g_4 (Int32.toNatClampNeg x1_4))))) fun g8 => if x1_4 < 0 ∨ 5 ≤ Int32.toNatClampNeg x1_4 then none else if x1_4 < 0 ∨ 5 ≤ Int32.toNatClampNeg x1_4 then none else Option.bind (some (mS_imageFigure g8 (upd (mG_imageFigure g8) (Int32.toNatClampNeg x1_4) (mG_figure g8 (Int32.toNatClampNeg x1_4))))) fun g11 => Option.bind (some ((x1_4 + 1) : Int32)) fun v12 => f_X9_image_L26 n v12 g11
def f_X9_image (g : MS) : Option (Int32 × MS) := Option.bind (some (mS_imageLeft g (mG_left g))) fun g1 => Option.bind (some (mS_imageBites g1 (mG_bites g1))) fun g2 => Option.bind (some (mS_imageMany g2 (mG_many g2))) fun g3 => Option.bind (f_X9_image_L26 1000 0 g3) fun o4 => Option.bind (some (mS_hasImage o4 (1 : Int32))) fun g13 => some ((mG_bites g13), g13)
abbrev rm_X9_image : Room := ({ frames := 1, cells := 0, slots := 0, locals := 18 })
set_option maxHeartbeats 4000000 in
theorem m_X9_image (l : Launch) (D : va_G) (am : Nat → Nat) (ac : Nat → ClassId) (g : MS) (sz : Nat) (r0 : Int32 × MS) (hr : f_X9_image g = some r0) : WM l yX9_image cX9_image 2 (some FieldType.int) rm_X9_image [.ref (am 0)] D ac (wM am ac g) (wM am ac r0.2) sz (some (.int r0.1)) := by
  refine fw_of (by decide) (Nat.le_of_ble_eq_true rfl) ?_
  intro p e s m below meth c ls hx hb hrt hts hown hlk hml _ hU hl
  obtain ⟨rfl, hP, hG, hD⟩ := hU
  have hA : ∀ q : Nat, s.heap.size ≤ q → va_A (wM am ac g) s.heap.size q := fun q h => Or.inr h
  have hS := Stt.start hP hD
  show WW p l e rm_X9_image s m [.ref (am 0)] below meth c D (wM am ac r0.2) (va_A (wM am ac g) s.heap.size) (some (.int r0.1)) s.heap [] 0 0 0 ls []
  have hl : lv_has ls 2 [(0, .ref (am 0))] := hl
  rw [f_X9_image] at hr
  refine lv_aload_n hx hb dX9_image_0 rfl (lv_at hl 0 rfl) ?_
  refine lv_aload_n hx hb dX9_image_1 rfl (lv_at hl 0 rfl) ?_
  refine va_get (D := D) (ci := 8) (v := .int (mG_left g)) (C := RX9) (T := TX9) (N := 26) hx hb hts in_X9 hown hG.1 hP 0 rfl rfl 0 (by decide) (hts _ q1180) (fun _ h9 => h9) rfl dX9_image_2 ?_
  obtain ⟨g1, hg1, hr⟩ := br_let hr
  refine fw_put (D := D) (ci := 8) (x := .int (mG_left g)) (C := RX9) (T := TX9) (N := 26) hx hb hts in_X9 tyX9 tyX9_ok nmX9 hown hG hS 0 rfl rfl 3 (by decide) (hts _ q1183) (fun _ h9 => h9) rfl (tyX9_ok 3 (by decide)) rfl rfl (Nat.le_of_ble_eq_true rfl) dX9_image_5 (wn := wM am ac g1) (by rw [hg1]; rfl) (fun H locs hS => ?_)
  have hP := hS.1
  refine lv_aload_n hx hb dX9_image_8 rfl (lv_at hl 0 rfl) ?_
  refine lv_aload_n hx hb dX9_image_9 rfl (lv_at hl 0 rfl) ?_
  refine va_get (D := D) (ci := 8) (v := .int (mG_bites g1)) (C := RX9) (T := TX9) (N := 26) hx hb hts in_X9 hown hG.1 hP 0 rfl rfl 1 (by decide) (hts _ q1181) (fun _ h9 => h9) rfl dX9_image_10 ?_
  obtain ⟨g2, hg2, hr⟩ := br_let hr
  refine fw_put (D := D) (ci := 8) (x := .int (mG_bites g1)) (C := RX9) (T := TX9) (N := 26) hx hb hts in_X9 tyX9 tyX9_ok nmX9 hown hG hS 0 rfl rfl 4 (by decide) (hts _ q1184) (fun _ h9 => h9) rfl (tyX9_ok 4 (by decide)) rfl rfl (Nat.le_of_ble_eq_true rfl) dX9_image_13 (wn := wM am ac g2) (by rw [hg2]; rfl) (fun H locs hS => ?_)
  have hP := hS.1
  refine lv_aload_n hx hb dX9_image_16 rfl (lv_at hl 0 rfl) ?_
  refine lv_aload_n hx hb dX9_image_17 rfl (lv_at hl 0 rfl) ?_
  refine va_get (D := D) (ci := 8) (v := .int (mG_many g2)) (C := RX9) (T := TX9) (N := 26) hx hb hts in_X9 hown hG.1 hP 0 rfl rfl 2 (by decide) (hts _ q1182) (fun _ h9 => h9) rfl dX9_image_18 ?_
  obtain ⟨g3, hg3, hr⟩ := br_let hr
  refine fw_put (D := D) (ci := 8) (x := .int (mG_many g2)) (C := RX9) (T := TX9) (N := 26) hx hb hts in_X9 tyX9 tyX9_ok nmX9 hown hG hS 0 rfl rfl 5 (by decide) (hts _ q1185) (fun _ h9 => h9) rfl (tyX9_ok 5 (by decide)) rfl rfl (Nat.le_of_ble_eq_true rfl) dX9_image_21 (wn := wM am ac g3) (by rw [hg3]; rfl) (fun H locs hS => ?_)
  have hP := hS.1
  refine lv_iconst (v := 0) hx hb dX9_image_24 rfl ?_
  refine lv_istore_n (lv' := [(1, .int 0), (0, .ref (am 0))]) hx hb dX9_image_25 rfl hl (by decide) rfl (fun ls hl => ?_)
  have L4 : ∀ (n : Nat) (x1_4 : Int32) (g_4 : MS) (o4 : MS), f_X9_image_L26 n x1_4 g_4 = some o4 → ∀ (H : Heap) (locs : List Loc) ls, lv_has ls 2 [(1, .int x1_4), (0, .ref (am 0))] → Stt D (va_A (wM am ac g) s.heap.size) s.heap (wM am ac g_4) H locs → (∀ (H : Heap) (locs : List Loc) ls, lv_has ls 2 [(0, .ref (am 0))] → Stt D (va_A (wM am ac g) s.heap.size) s.heap (wM am ac o4) H locs → WW p l e rm_X9_image s m [.ref (am 0)] below meth c D (wM am ac r0.2) (va_A (wM am ac g) s.heap.size) (some (.int r0.1)) H locs 0 0 61 ls []) → WW p l e rm_X9_image s m [.ref (am 0)] below meth c D (wM am ac r0.2) (va_A (wM am ac g) s.heap.size) (some (.int r0.1)) H locs 0 0 26 ls [] := by
    intro n
    induction n with
    | zero => intro x1_4 g_4 o4 hr; rw [f_X9_image_L26] at hr; cases hr
    | succ n ih =>
      intro x1_4 g_4 o4 hr H locs ls hl hS kx
      have hP := hS.1
      rw [f_X9_image_L26] at hr
      refine lv_iload_n hx hb dX9_image_26 rfl (lv_at hl 0 rfl) ?_
      refine lv_iconst (v := 5) hx hb dX9_image_27 rfl ?_
      have hi5 := br_ite hr
      refine lv_icmp_ge (tgt := 61) hx hb dX9_image_28 (by decide) (fun c5 => ?_) (fun c5 => ?_)
      · have hr := hi5.1 c5
        obtain rfl := Option.some.inj hr
        exact kx _ _ ls (lv_sub hl [1] rfl) hS
      · have hr := hi5.2 c5
        refine lv_aload_n hx hb dX9_image_31 rfl (lv_at hl 1 rfl) ?_
        refine va_get (D := D) (ci := 8) (v := .ref (am 3)) (C := RX9) (T := TX9) (N := 26) hx hb hts in_X9 hown hG.1 hP 0 rfl rfl 11 (by decide) (hts _ q1191) (fun _ h9 => h9) rfl dX9_image_32 ?_
        refine lv_iload_n hx hb dX9_image_35 rfl (lv_at hl 0 rfl) ?_
        refine lv_aload_n hx hb dX9_image_36 rfl (lv_at hl 1 rfl) ?_
        refine va_get (D := D) (ci := 8) (v := .ref (am 1)) (C := RX9) (T := TX9) (N := 26) hx hb hts in_X9 hown hG.1 hP 0 rfl rfl 9 (by decide) (hts _ q1189) (fun _ h9 => h9) rfl dX9_image_37 ?_
        refine lv_iload_n hx hb dX9_image_40 rfl (lv_at hl 0 rfl) ?_
        obtain ⟨c6, hr⟩ := br_none hr
        refine va_iald hx hb hG.1 hP 1 0 rfl rfl c6 dX9_image_41 ?_
        obtain ⟨c7, hr⟩ := br_none hr
        obtain ⟨g8, hg8, hr⟩ := br_let hr
        refine fw_iast hx hb hG hS 3 rfl c7 dX9_image_42 (wn := wM am ac g8) (by rw [hg8]; rfl) (fun H locs hS => ?_)
        have hP := hS.1
        refine lv_aload_n hx hb dX9_image_43 rfl (lv_at hl 1 rfl) ?_
        refine va_get (D := D) (ci := 8) (v := .ref (am 4)) (C := RX9) (T := TX9) (N := 26) hx hb hts in_X9 hown hG.1 hP 0 rfl rfl 12 (by decide) (hts _ q1192) (fun _ h9 => h9) rfl dX9_image_44 ?_
        refine lv_iload_n hx hb dX9_image_47 rfl (lv_at hl 0 rfl) ?_
        refine lv_aload_n hx hb dX9_image_48 rfl (lv_at hl 1 rfl) ?_
        refine va_get (D := D) (ci := 8) (v := .ref (am 2)) (C := RX9) (T := TX9) (N := 26) hx hb hts in_X9 hown hG.1 hP 0 rfl rfl 10 (by decide) (hts _ q1190) (fun _ h9 => h9) rfl dX9_image_49 ?_
        refine lv_iload_n hx hb dX9_image_52 rfl (lv_at hl 0 rfl) ?_
        obtain ⟨c9, hr⟩ := br_none hr
        refine va_iald hx hb hG.1 hP 2 0 rfl rfl c9 dX9_image_53 ?_
        obtain ⟨c10, hr⟩ := br_none hr
        obtain ⟨g11, hg11, hr⟩ := br_let hr
        refine fw_iast hx hb hG hS 4 rfl c10 dX9_image_54 (wn := wM am ac g11) (by rw [hg11]; rfl) (fun H locs hS => ?_)
        have hP := hS.1
        obtain ⟨v12, hv12, hr⟩ := br_let hr
        refine lv_iinc (v := v12) (lv' := [(1, .int v12), (0, .ref (am 0))]) hx hb dX9_image_55 hl (k := 0) rfl (hv12 ▸ rfl) (by decide) rfl (fun ls hl => ?_)
        refine lv_goto (tgt := 26) hx hb dX9_image_58 (by decide) ?_
        exact ih v12 g11 _ hr _ _ ls (lv_sub hl [0, 1] rfl) hS kx
  obtain ⟨o4, ho4, hr⟩ := br_bind hr
  refine L4 1000 0 g3 o4 ho4 _ _ ls (lv_sub hl [0, 1] rfl) hS (fun H locs ls hl hS => ?_)
  have hP := hS.1
  refine lv_aload_n hx hb dX9_image_61 rfl (lv_at hl 0 rfl) ?_
  refine lv_iconst (v := 1) hx hb dX9_image_62 rfl ?_
  obtain ⟨g13, hg13, hr⟩ := br_let hr
  refine fw_put (D := D) (ci := 8) (x := .int 1) (C := RX9) (T := TX9) (N := 26) hx hb hts in_X9 tyX9 tyX9_ok nmX9 hown hG hS 0 rfl rfl 15 (by decide) (hts _ q1195) (fun _ h9 => h9) rfl (tyX9_ok 15 (by decide)) rfl rfl (Nat.le_of_ble_eq_true rfl) dX9_image_63 (wn := wM am ac g13) (by rw [hg13]; rfl) (fun H locs hS => ?_)
  have hP := hS.1
  refine lv_aload_n hx hb dX9_image_66 rfl (lv_at hl 0 rfl) ?_
  refine va_get (D := D) (ci := 8) (v := .int (mG_bites g13)) (C := RX9) (T := TX9) (N := 26) hx hb hts in_X9 hown hG.1 hP 0 rfl rfl 1 (by decide) (hts _ q1181) (fun _ h9 => h9) rfl dX9_image_67 ?_
  obtain rfl := Option.some.inj hr
  refine W.widen (k := rm_X9_image.cells) (n := rm_X9_image.slots) (Nat.le_of_ble_eq_true rfl) (Nat.le_of_ble_eq_true rfl) ?_
  exact W.iret hx hb hrt (fun t ht _ => hS.q ht rfl) hS.2.2.2.2 dX9_image_70 hlk
theorem cw_X9_image {R : Room} {s : State} {args : Array Value} {own : String} {index : Nat} (hts : ∀ w ∈ lw_all, w.before args s = true) (hlink : Cond.methodLink own index yX9_image ∈ lw_all) (hR : rm_X9_image.frames + 1 ≤ R.frames ∧ 8 + (2 + 11) + rm_X9_image.locals ≤ R.locals) : CallW R s args own RX9 index yX9_image cX9_image 2 (some FieldType.int) (ws_ yX9_image cX9_image 2 (some FieldType.int)) rm_X9_image rm_X9_image.cells rm_X9_image.slots 0 :=
  cwV 0 hts (lw_V hlink q1571 q1572 q111 q1573) rfl rfl rfl (by decide +kernel) hR
def f_X9_on_L40 : Nat → Int32 → MS → Option (MS)
  | 0, _, _ => none
  | n + 1, x1_5, g_5 => if 5 ≤ x1_5 then some g_5 else if x1_5 < 0 ∨ 5 ≤ Int32.toNatClampNeg x1_5 then none else if x1_5 < 0 ∨ 5 ≤ Int32.toNatClampNeg x1_5 then none else Option.bind (some (mS_kind g_5 (upd (mG_kind g_5) (Int32.toNatClampNeg x1_5) (mG_imageKind g_5 (Int32.toNatClampNeg x1_5))))) fun g9 => if x1_5 < 0 ∨ 5 ≤ Int32.toNatClampNeg x1_5 then none else if x1_5 < 0 ∨ 5 ≤ Int32.toNatClampNeg x1_5 then none else Option.bind (some (mS_figure g9 (upd (mG_figure g9) (Int32.toNatClampNeg x1_5) (mG_imageFigure g9 (Int32.toNatClampNeg x1_5))))) fun g12 => Option.bind (some ((x1_5 + 1) : Int32)) fun v13 => f_X9_on_L40 n v13 g12
def f_X9_on (g : MS) : Option (Int32 × MS) := if (mG_hasImage g) = 0 then Option.bind (f_X9_no g (-3 : Int32)) fun o14 => some (o14.1, o14.2) else Option.bind (some (mS_left g (mG_imageLeft g))) fun g2 => Option.bind (some (mS_bites g2 (mG_imageBites g2))) fun g3 => Option.bind (some (mS_many g3 (mG_imageMany g3))) fun g4 => Option.bind (f_X9_on_L40 1000 0 g4) fun o5 => some ((mG_bites o5), o5)
abbrev rm_X9_on : Room := ({ frames := 2, cells := 0, slots := 0, locals := 39 })
set_option maxHeartbeats 4000000 in
theorem m_X9_on (l : Launch) (D : va_G) (am : Nat → Nat) (ac : Nat → ClassId) (g : MS) (sz : Nat) (r0 : Int32 × MS) (hr : f_X9_on g = some r0) : WM l yX9_on cX9_on 2 (some FieldType.int) rm_X9_on [.ref (am 0)] D ac (wM am ac g) (wM am ac r0.2) sz (some (.int r0.1)) := by
  refine fw_of (by decide) (Nat.le_of_ble_eq_true rfl) ?_
  intro p e s m below meth c ls hx hb hrt hts hown hlk hml _ hU hl
  obtain ⟨rfl, hP, hG, hD⟩ := hU
  have hA : ∀ q : Nat, s.heap.size ≤ q → va_A (wM am ac g) s.heap.size q := fun q h => Or.inr h
  have hS := Stt.start hP hD
  show WW p l e rm_X9_on s m [.ref (am 0)] below meth c D (wM am ac r0.2) (va_A (wM am ac g) s.heap.size) (some (.int r0.1)) s.heap [] 0 0 0 ls []
  have hl : lv_has ls 2 [(0, .ref (am 0))] := hl
  rw [f_X9_on] at hr
  refine lv_aload_n hx hb dX9_on_0 rfl (lv_at hl 0 rfl) ?_
  refine va_get (D := D) (ci := 8) (v := .int (mG_hasImage g)) (C := RX9) (T := TX9) (N := 26) hx hb hts in_X9 hown hG.1 hP 0 rfl rfl 15 (by decide) (hts _ q1195) (fun _ h9 => h9) rfl dX9_on_1 ?_
  have hi1 := br_ite hr
  refine lv_if_ne (tgt := 14) hx hb dX9_on_4 (by decide) (fun c1 => ?_) (fun c1 => ?_)
  · have hr := hi1.2 c1
    refine lv_aload_n hx hb dX9_on_14 rfl (lv_at hl 0 rfl) ?_
    refine lv_aload_n hx hb dX9_on_15 rfl (lv_at hl 0 rfl) ?_
    refine va_get (D := D) (ci := 8) (v := .int (mG_imageLeft g)) (C := RX9) (T := TX9) (N := 26) hx hb hts in_X9 hown hG.1 hP 0 rfl rfl 3 (by decide) (hts _ q1183) (fun _ h9 => h9) rfl dX9_on_16 ?_
    obtain ⟨g2, hg2, hr⟩ := br_let hr
    refine fw_put (D := D) (ci := 8) (x := .int (mG_imageLeft g)) (C := RX9) (T := TX9) (N := 26) hx hb hts in_X9 tyX9 tyX9_ok nmX9 hown hG hS 0 rfl rfl 0 (by decide) (hts _ q1180) (fun _ h9 => h9) rfl (tyX9_ok 0 (by decide)) rfl rfl (Nat.le_of_ble_eq_true rfl) dX9_on_19 (wn := wM am ac g2) (by rw [hg2]; rfl) (fun H locs hS => ?_)
    have hP := hS.1
    refine lv_aload_n hx hb dX9_on_22 rfl (lv_at hl 0 rfl) ?_
    refine lv_aload_n hx hb dX9_on_23 rfl (lv_at hl 0 rfl) ?_
    refine va_get (D := D) (ci := 8) (v := .int (mG_imageBites g2)) (C := RX9) (T := TX9) (N := 26) hx hb hts in_X9 hown hG.1 hP 0 rfl rfl 4 (by decide) (hts _ q1184) (fun _ h9 => h9) rfl dX9_on_24 ?_
    obtain ⟨g3, hg3, hr⟩ := br_let hr
    refine fw_put (D := D) (ci := 8) (x := .int (mG_imageBites g2)) (C := RX9) (T := TX9) (N := 26) hx hb hts in_X9 tyX9 tyX9_ok nmX9 hown hG hS 0 rfl rfl 1 (by decide) (hts _ q1181) (fun _ h9 => h9) rfl (tyX9_ok 1 (by decide)) rfl rfl (Nat.le_of_ble_eq_true rfl) dX9_on_27 (wn := wM am ac g3) (by rw [hg3]; rfl) (fun H locs hS => ?_)
    have hP := hS.1
    refine lv_aload_n hx hb dX9_on_30 rfl (lv_at hl 0 rfl) ?_
    refine lv_aload_n hx hb dX9_on_31 rfl (lv_at hl 0 rfl) ?_
    refine va_get (D := D) (ci := 8) (v := .int (mG_imageMany g3)) (C := RX9) (T := TX9) (N := 26) hx hb hts in_X9 hown hG.1 hP 0 rfl rfl 5 (by decide) (hts _ q1185) (fun _ h9 => h9) rfl dX9_on_32 ?_
    obtain ⟨g4, hg4, hr⟩ := br_let hr
    refine fw_put (D := D) (ci := 8) (x := .int (mG_imageMany g3)) (C := RX9) (T := TX9) (N := 26) hx hb hts in_X9 tyX9 tyX9_ok nmX9 hown hG hS 0 rfl rfl 2 (by decide) (hts _ q1182) (fun _ h9 => h9) rfl (tyX9_ok 2 (by decide)) rfl rfl (Nat.le_of_ble_eq_true rfl) dX9_on_35 (wn := wM am ac g4) (by rw [hg4]; rfl) (fun H locs hS => ?_)
    have hP := hS.1
    refine lv_iconst (v := 0) hx hb dX9_on_38 rfl ?_
    refine lv_istore_n (lv' := [(1, .int 0), (0, .ref (am 0))]) hx hb dX9_on_39 rfl hl (by decide) rfl (fun ls hl => ?_)
    have L5 : ∀ (n : Nat) (x1_5 : Int32) (g_5 : MS) (o5 : MS), f_X9_on_L40 n x1_5 g_5 = some o5 → ∀ (H : Heap) (locs : List Loc) ls, lv_has ls 2 [(1, .int x1_5), (0, .ref (am 0))] → Stt D (va_A (wM am ac g) s.heap.size) s.heap (wM am ac g_5) H locs → (∀ (H : Heap) (locs : List Loc) ls, lv_has ls 2 [(0, .ref (am 0))] → Stt D (va_A (wM am ac g) s.heap.size) s.heap (wM am ac o5) H locs → WW p l e rm_X9_on s m [.ref (am 0)] below meth c D (wM am ac r0.2) (va_A (wM am ac g) s.heap.size) (some (.int r0.1)) H locs 0 0 75 ls []) → WW p l e rm_X9_on s m [.ref (am 0)] below meth c D (wM am ac r0.2) (va_A (wM am ac g) s.heap.size) (some (.int r0.1)) H locs 0 0 40 ls [] := by
      intro n
      induction n with
      | zero => intro x1_5 g_5 o5 hr; rw [f_X9_on_L40] at hr; cases hr
      | succ n ih =>
        intro x1_5 g_5 o5 hr H locs ls hl hS kx
        have hP := hS.1
        rw [f_X9_on_L40] at hr
        refine lv_iload_n hx hb dX9_on_40 rfl (lv_at hl 0 rfl) ?_
        refine lv_iconst (v := 5) hx hb dX9_on_41 rfl ?_
        have hi6 := br_ite hr
        refine lv_icmp_ge (tgt := 75) hx hb dX9_on_42 (by decide) (fun c6 => ?_) (fun c6 => ?_)
        · have hr := hi6.1 c6
          obtain rfl := Option.some.inj hr
          exact kx _ _ ls (lv_sub hl [1] rfl) hS
        · have hr := hi6.2 c6
          refine lv_aload_n hx hb dX9_on_45 rfl (lv_at hl 1 rfl) ?_
          refine va_get (D := D) (ci := 8) (v := .ref (am 1)) (C := RX9) (T := TX9) (N := 26) hx hb hts in_X9 hown hG.1 hP 0 rfl rfl 9 (by decide) (hts _ q1189) (fun _ h9 => h9) rfl dX9_on_46 ?_
          refine lv_iload_n hx hb dX9_on_49 rfl (lv_at hl 0 rfl) ?_
          refine lv_aload_n hx hb dX9_on_50 rfl (lv_at hl 1 rfl) ?_
          refine va_get (D := D) (ci := 8) (v := .ref (am 3)) (C := RX9) (T := TX9) (N := 26) hx hb hts in_X9 hown hG.1 hP 0 rfl rfl 11 (by decide) (hts _ q1191) (fun _ h9 => h9) rfl dX9_on_51 ?_
          refine lv_iload_n hx hb dX9_on_54 rfl (lv_at hl 0 rfl) ?_
          obtain ⟨c7, hr⟩ := br_none hr
          refine va_iald hx hb hG.1 hP 3 0 rfl rfl c7 dX9_on_55 ?_
          obtain ⟨c8, hr⟩ := br_none hr
          obtain ⟨g9, hg9, hr⟩ := br_let hr
          refine fw_iast hx hb hG hS 1 rfl c8 dX9_on_56 (wn := wM am ac g9) (by rw [hg9]; rfl) (fun H locs hS => ?_)
          have hP := hS.1
          refine lv_aload_n hx hb dX9_on_57 rfl (lv_at hl 1 rfl) ?_
          refine va_get (D := D) (ci := 8) (v := .ref (am 2)) (C := RX9) (T := TX9) (N := 26) hx hb hts in_X9 hown hG.1 hP 0 rfl rfl 10 (by decide) (hts _ q1190) (fun _ h9 => h9) rfl dX9_on_58 ?_
          refine lv_iload_n hx hb dX9_on_61 rfl (lv_at hl 0 rfl) ?_
          refine lv_aload_n hx hb dX9_on_62 rfl (lv_at hl 1 rfl) ?_
          refine va_get (D := D) (ci := 8) (v := .ref (am 4)) (C := RX9) (T := TX9) (N := 26) hx hb hts in_X9 hown hG.1 hP 0 rfl rfl 12 (by decide) (hts _ q1192) (fun _ h9 => h9) rfl dX9_on_63 ?_
          refine lv_iload_n hx hb dX9_on_66 rfl (lv_at hl 0 rfl) ?_
          obtain ⟨c10, hr⟩ := br_none hr
          refine va_iald hx hb hG.1 hP 4 0 rfl rfl c10 dX9_on_67 ?_
          obtain ⟨c11, hr⟩ := br_none hr
          obtain ⟨g12, hg12, hr⟩ := br_let hr
          refine fw_iast hx hb hG hS 2 rfl c11 dX9_on_68 (wn := wM am ac g12) (by rw [hg12]; rfl) (fun H locs hS => ?_)
          have hP := hS.1
          obtain ⟨v13, hv13, hr⟩ := br_let hr
          refine lv_iinc (v := v13) (lv' := [(1, .int v13), (0, .ref (am 0))]) hx hb dX9_on_69 hl (k := 0) rfl (hv13 ▸ rfl) (by decide) rfl (fun ls hl => ?_)
          refine lv_goto (tgt := 40) hx hb dX9_on_72 (by decide) ?_
          exact ih v13 g12 _ hr _ _ ls (lv_sub hl [0, 1] rfl) hS kx
    obtain ⟨o5, ho5, hr⟩ := br_bind hr
    refine L5 1000 0 g4 o5 ho5 _ _ ls (lv_sub hl [0, 1] rfl) hS (fun H locs ls hl hS => ?_)
    have hP := hS.1
    refine lv_aload_n hx hb dX9_on_75 rfl (lv_at hl 0 rfl) ?_
    refine va_get (D := D) (ci := 8) (v := .int (mG_bites o5)) (C := RX9) (T := TX9) (N := 26) hx hb hts in_X9 hown hG.1 hP 0 rfl rfl 1 (by decide) (hts _ q1181) (fun _ h9 => h9) rfl dX9_on_76 ?_
    obtain rfl := Option.some.inj hr
    refine W.widen (k := rm_X9_on.cells) (n := rm_X9_on.slots) (Nat.le_of_ble_eq_true rfl) (Nat.le_of_ble_eq_true rfl) ?_
    exact W.iret hx hb hrt (fun t ht _ => hS.q ht rfl) hS.2.2.2.2 dX9_on_79 hlk
  · have hr := hi1.1 c1
    refine lv_aload_n hx hb dX9_on_7 rfl (lv_at hl 0 rfl) ?_
    refine lv_bipush (v := (-3)) hx hb dX9_on_8 rfl ?_
    obtain ⟨o14, ho14, hr⟩ := br_bind hr
    refine fwWVs (As := [.int (-3)]) (rest := []) (C := RX9) hx hb hml hown hts (m_X9_no l D am ac g (-3 : Int32) _ o14 ho14) (cw_X9_no hts q1263 ⟨Nat.le_of_ble_eq_true rfl, Nat.le_of_ble_eq_true rfl⟩) hG hS hA rfl 0 8 rfl rfl rfl hl.1 rfl (Nat.le_of_ble_eq_true rfl) dX9_on_10 ⟨Nat.le_of_ble_eq_true rfl, Nat.le_of_ble_eq_true rfl⟩ (fun H locs hS => ?_)
    have hP := hS.1
    obtain rfl := Option.some.inj hr
    refine W.widen (k := rm_X9_on.cells) (n := rm_X9_on.slots) (Nat.le_of_ble_eq_true rfl) (Nat.le_of_ble_eq_true rfl) ?_
    exact W.iret hx hb hrt (fun t ht _ => hS.q ht rfl) hS.2.2.2.2 dX9_on_13 hlk
theorem cw_X9_on {R : Room} {s : State} {args : Array Value} {own : String} {index : Nat} (hts : ∀ w ∈ lw_all, w.before args s = true) (hlink : Cond.methodLink own index yX9_on ∈ lw_all) (hR : rm_X9_on.frames + 1 ≤ R.frames ∧ 8 + (2 + 11) + rm_X9_on.locals ≤ R.locals) : CallW R s args own RX9 index yX9_on cX9_on 2 (some FieldType.int) (ws_ yX9_on cX9_on 2 (some FieldType.int)) rm_X9_on rm_X9_on.cells rm_X9_on.slots 0 :=
  cwV 0 hts (lw_V hlink q1575 q1576 q111 q1577) rfl rfl rfl (by decide +kernel) hR
def f_X9_count (g : MS) (a1 : Int32) : Option (Int32) := Option.bind (f_X9_isIn a1 11 16) fun o1 => if o1 = 0 then if a1 = 0 then some (mG_many g) else if a1 = 1 then some (mG_bites g) else if a1 = 2 then some (mG_left g) else if a1 = 3 then Option.bind (f_X9_bits (mG_left g)) fun o11 => some o11 else if a1 = 4 then Option.bind (f_X9_sharesOf g (mG_left g)) fun o12 => some o12 else if a1 = 5 then Option.bind (f_X9_deed (mG_left g)) fun o13 => if o13 = 0 then some 1 else some 0 else if a1 = 6 then some (mG_rowMany g) else if a1 = 7 then some (mG_letterMany g) else some (-9) else if (a1 - 10) < 0 ∨ 7 ≤ Int32.toNatClampNeg (a1 - 10) then none else some (mG_refused g (Int32.toNatClampNeg (a1 - 10)))
abbrev rm_X9_count : Room := ({ frames := 7, cells := 0, slots := 0, locals := 159 })
set_option maxHeartbeats 4000000 in
theorem m_X9_count (l : Launch) (D : va_G) (am : Nat → Nat) (ac : Nat → ClassId) (g : MS) (a1 : Int32) (r0 : Int32) (hr : f_X9_count g a1 = some r0) : PM l yX9_count cX9_count 2 (some FieldType.int) rm_X9_count [.ref (am 0), .int a1] (RP D ac (wM am ac g)) (some (.int r0)) := by
  refine fw_of (by decide) (Nat.le_of_ble_eq_true rfl) ?_
  intro p e s m below meth c ls hx hb hrt hts hown hlk hml _ hU hl
  obtain ⟨hP, hG⟩ := hU
  have hl : lv_has ls 2 [(0, .ref (am 0)), (1, .int a1)] := hl
  rw [f_X9_count] at hr
  refine lv_iload_n hx hb dX9_count_0 rfl (lv_at hl 1 rfl) ?_
  refine lv_bipush (v := 11) hx hb dX9_count_1 rfl ?_
  refine lv_bipush (v := 16) hx hb dX9_count_3 rfl ?_
  obtain ⟨o1, ho1, hr⟩ := br_bind hr
  refine fwS (As := [.int a1, .int 11, .int 16]) (rest := []) hx hb hml hown hts (m_X9_isIn l a1 11 16 o1 ho1) (cw_X9_isIn hts q1290 ⟨Nat.le_of_ble_eq_true rfl, Nat.le_of_ble_eq_true rfl⟩) rfl hl.1 rfl (Nat.le_of_ble_eq_true rfl) dX9_count_5 ⟨Nat.le_of_ble_eq_true rfl, Nat.le_of_ble_eq_true rfl⟩ ?_
  have hi2 := br_ite hr
  refine lv_if_eq (tgt := 21) hx hb dX9_count_8 (by decide) (fun c2 => ?_) (fun c2 => ?_)
  · have hr := hi2.1 c2
    refine lv_iload_n hx hb dX9_count_21 rfl (lv_at hl 1 rfl) ?_
    have hi3 := br_ite hr
    by_cases c3 : a1 = 0
    · have hr := hi3.1 c3
      refine lv_tableIn (tgt := 68) hx hb dX9_count_22 (by rw [c3]; decide) (by rw [c3]; decide) (by rw [c3]; rfl) (by decide) ?_
      refine lv_aload_n hx hb dX9_count_68 rfl (lv_at hl 0 rfl) ?_
      refine va_get (D := D) (ci := 8) (v := .int (mG_many g)) (C := RX9) (T := TX9) (N := 26) hx hb hts in_X9 hown hG.1 hP 0 rfl rfl 2 (by decide) (hts _ q1182) (fun _ h9 => h9) rfl dX9_count_69 ?_
      exact W.iret hx hb hrt (fun t ht _ => ⟨ret_i hr, ht⟩) noB dX9_count_72 hlk
    have hr := hi3.2 c3
    have hi4 := br_ite hr
    by_cases c4 : a1 = 1
    · have hr := hi4.1 c4
      refine lv_tableIn (tgt := 73) hx hb dX9_count_22 (by rw [c4]; decide) (by rw [c4]; decide) (by rw [c4]; rfl) (by decide) ?_
      refine lv_aload_n hx hb dX9_count_73 rfl (lv_at hl 0 rfl) ?_
      refine va_get (D := D) (ci := 8) (v := .int (mG_bites g)) (C := RX9) (T := TX9) (N := 26) hx hb hts in_X9 hown hG.1 hP 0 rfl rfl 1 (by decide) (hts _ q1181) (fun _ h9 => h9) rfl dX9_count_74 ?_
      exact W.iret hx hb hrt (fun t ht _ => ⟨ret_i hr, ht⟩) noB dX9_count_77 hlk
    have hr := hi4.2 c4
    have hi5 := br_ite hr
    by_cases c5 : a1 = 2
    · have hr := hi5.1 c5
      refine lv_tableIn (tgt := 78) hx hb dX9_count_22 (by rw [c5]; decide) (by rw [c5]; decide) (by rw [c5]; rfl) (by decide) ?_
      refine lv_aload_n hx hb dX9_count_78 rfl (lv_at hl 0 rfl) ?_
      refine va_get (D := D) (ci := 8) (v := .int (mG_left g)) (C := RX9) (T := TX9) (N := 26) hx hb hts in_X9 hown hG.1 hP 0 rfl rfl 0 (by decide) (hts _ q1180) (fun _ h9 => h9) rfl dX9_count_79 ?_
      exact W.iret hx hb hrt (fun t ht _ => ⟨ret_i hr, ht⟩) noB dX9_count_82 hlk
    have hr := hi5.2 c5
    have hi6 := br_ite hr
    by_cases c6 : a1 = 3
    · have hr := hi6.1 c6
      refine lv_tableIn (tgt := 83) hx hb dX9_count_22 (by rw [c6]; decide) (by rw [c6]; decide) (by rw [c6]; rfl) (by decide) ?_
      refine lv_aload_n hx hb dX9_count_83 rfl (lv_at hl 0 rfl) ?_
      refine va_get (D := D) (ci := 8) (v := .int (mG_left g)) (C := RX9) (T := TX9) (N := 26) hx hb hts in_X9 hown hG.1 hP 0 rfl rfl 0 (by decide) (hts _ q1180) (fun _ h9 => h9) rfl dX9_count_84 ?_
      obtain ⟨o11, ho11, hr⟩ := br_bind hr
      refine fwS (As := [.int (mG_left g)]) (rest := []) hx hb hml hown hts (m_X9_bits l (mG_left g) o11 ho11) (cw_X9_bits hts q1338 ⟨Nat.le_of_ble_eq_true rfl, Nat.le_of_ble_eq_true rfl⟩) rfl hl.1 rfl (Nat.le_of_ble_eq_true rfl) dX9_count_87 ⟨Nat.le_of_ble_eq_true rfl, Nat.le_of_ble_eq_true rfl⟩ ?_
      exact W.iret hx hb hrt (fun t ht _ => ⟨ret_i hr, ht⟩) noB dX9_count_90 hlk
    have hr := hi6.2 c6
    have hi7 := br_ite hr
    by_cases c7 : a1 = 4
    · have hr := hi7.1 c7
      refine lv_tableIn (tgt := 91) hx hb dX9_count_22 (by rw [c7]; decide) (by rw [c7]; decide) (by rw [c7]; rfl) (by decide) ?_
      refine lv_aload_n hx hb dX9_count_91 rfl (lv_at hl 0 rfl) ?_
      refine lv_aload_n hx hb dX9_count_92 rfl (lv_at hl 0 rfl) ?_
      refine va_get (D := D) (ci := 8) (v := .int (mG_left g)) (C := RX9) (T := TX9) (N := 26) hx hb hts in_X9 hown hG.1 hP 0 rfl rfl 0 (by decide) (hts _ q1180) (fun _ h9 => h9) rfl dX9_count_93 ?_
      obtain ⟨o12, ho12, hr⟩ := br_bind hr
      refine fwRV (As := [.int (mG_left g)]) (rest := []) (C := RX9) hx hb hml hown hts (m_X9_sharesOf l D am ac g  (mG_left g) o12 ho12) (cw_X9_sharesOf hts q1401 ⟨Nat.le_of_ble_eq_true rfl, Nat.le_of_ble_eq_true rfl⟩) hG hP hP 0 8 rfl rfl rfl hl.1 rfl (Nat.le_of_ble_eq_true rfl) dX9_count_96 ⟨Nat.le_of_ble_eq_true rfl, Nat.le_of_ble_eq_true rfl⟩ ?_
      exact W.iret hx hb hrt (fun t ht _ => ⟨ret_i hr, ht⟩) noB dX9_count_99 hlk
    have hr := hi7.2 c7
    have hi8 := br_ite hr
    by_cases c8 : a1 = 5
    · have hr := hi8.1 c8
      refine lv_tableIn (tgt := 100) hx hb dX9_count_22 (by rw [c8]; decide) (by rw [c8]; decide) (by rw [c8]; rfl) (by decide) ?_
      refine lv_aload_n hx hb dX9_count_100 rfl (lv_at hl 0 rfl) ?_
      refine va_get (D := D) (ci := 8) (v := .int (mG_left g)) (C := RX9) (T := TX9) (N := 26) hx hb hts in_X9 hown hG.1 hP 0 rfl rfl 0 (by decide) (hts _ q1180) (fun _ h9 => h9) rfl dX9_count_101 ?_
      obtain ⟨o13, ho13, hr⟩ := br_bind hr
      refine fwS (As := [.int (mG_left g)]) (rest := []) hx hb hml hown hts (m_X9_deed l (mG_left g) o13 ho13) (cw_X9_deed hts q1359 ⟨Nat.le_of_ble_eq_true rfl, Nat.le_of_ble_eq_true rfl⟩) rfl hl.1 rfl (Nat.le_of_ble_eq_true rfl) dX9_count_104 ⟨Nat.le_of_ble_eq_true rfl, Nat.le_of_ble_eq_true rfl⟩ ?_
      have hi14 := br_ite hr
      refine lv_if_ne (tgt := 114) hx hb dX9_count_107 (by decide) (fun c14 => ?_) (fun c14 => ?_)
      · have hr := hi14.2 c14
        refine lv_iconst (v := 0) hx hb dX9_count_114 rfl ?_
        exact W.iret hx hb hrt (fun t ht _ => ⟨ret_i hr, ht⟩) noB dX9_count_115 hlk
      · have hr := hi14.1 c14
        refine lv_iconst (v := 1) hx hb dX9_count_110 rfl ?_
        refine lv_goto (tgt := 115) hx hb dX9_count_111 (by decide) ?_
        exact W.iret hx hb hrt (fun t ht _ => ⟨ret_i hr, ht⟩) noB dX9_count_115 hlk
    have hr := hi8.2 c8
    have hi9 := br_ite hr
    by_cases c9 : a1 = 6
    · have hr := hi9.1 c9
      refine lv_tableIn (tgt := 116) hx hb dX9_count_22 (by rw [c9]; decide) (by rw [c9]; decide) (by rw [c9]; rfl) (by decide) ?_
      refine lv_aload_n hx hb dX9_count_116 rfl (lv_at hl 0 rfl) ?_
      refine va_get (D := D) (ci := 8) (v := .int (mG_rowMany g)) (C := RX9) (T := TX9) (N := 26) hx hb hts in_X9 hown hG.1 hP 0 rfl rfl 20 (by decide) (hts _ q1200) (fun _ h9 => h9) rfl dX9_count_117 ?_
      exact W.iret hx hb hrt (fun t ht _ => ⟨ret_i hr, ht⟩) noB dX9_count_120 hlk
    have hr := hi9.2 c9
    have hi10 := br_ite hr
    by_cases c10 : a1 = 7
    · have hr := hi10.1 c10
      refine lv_tableIn (tgt := 121) hx hb dX9_count_22 (by rw [c10]; decide) (by rw [c10]; decide) (by rw [c10]; rfl) (by decide) ?_
      refine lv_aload_n hx hb dX9_count_121 rfl (lv_at hl 0 rfl) ?_
      refine va_get (D := D) (ci := 8) (v := .int (mG_letterMany g)) (C := RX9) (T := TX9) (N := 26) hx hb hts in_X9 hown hG.1 hP 0 rfl rfl 19 (by decide) (hts _ q1199) (fun _ h9 => h9) rfl dX9_count_122 ?_
      exact W.iret hx hb hrt (fun t ht _ => ⟨ret_i hr, ht⟩) noB dX9_count_125 hlk
    have hr := hi10.2 c10
    refine lv_tableOut (tgt := 126) hx hb dX9_count_22 (by have n3 := lv_neT (a := 0) c3 rfl; have n4 := lv_neT (a := 1) c4 rfl; have n5 := lv_neT (a := 2) c5 rfl; have n6 := lv_neT (a := 3) c6 rfl; have n7 := lv_neT (a := 4) c7 rfl; have n8 := lv_neT (a := 5) c8 rfl; have n9 := lv_neT (a := 6) c9 rfl; have n10 := lv_neT (a := 7) c10 rfl; omega) (by decide) ?_
    refine lv_bipush (v := (-9)) hx hb dX9_count_126 rfl ?_
    exact W.iret hx hb hrt (fun t ht _ => ⟨ret_i hr, ht⟩) noB dX9_count_128 hlk
  · have hr := hi2.2 c2
    refine lv_aload_n hx hb dX9_count_11 rfl (lv_at hl 0 rfl) ?_
    refine va_get (D := D) (ci := 8) (v := .ref (am 9)) (C := RX9) (T := TX9) (N := 26) hx hb hts in_X9 hown hG.1 hP 0 rfl rfl 18 (by decide) (hts _ q1198) (fun _ h9 => h9) rfl dX9_count_12 ?_
    refine lv_iload_n hx hb dX9_count_15 rfl (lv_at hl 1 rfl) ?_
    refine lv_bipush (v := 10) hx hb dX9_count_16 rfl ?_
    refine lv_isub hx hb dX9_count_18 ?_
    obtain ⟨c15, hr⟩ := br_none hr
    refine va_iald hx hb hG.1 hP 9 0 rfl rfl c15 dX9_count_19 ?_
    exact W.iret hx hb hrt (fun t ht _ => ⟨ret_i hr, ht⟩) noB dX9_count_20 hlk
theorem cw_X9_count {R : Room} {s : State} {args : Array Value} {own : String} {index : Nat} (hts : ∀ w ∈ lw_all, w.before args s = true) (hlink : Cond.methodLink own index yX9_count ∈ lw_all) (hR : rm_X9_count.frames + 1 ≤ R.frames ∧ 8 + (2 + 11) + rm_X9_count.locals ≤ R.locals) : CallW R s args own RX9 index yX9_count cX9_count 2 (some FieldType.int) (ws_ yX9_count cX9_count 2 (some FieldType.int)) rm_X9_count rm_X9_count.cells rm_X9_count.slots 1 :=
  cwV 1 hts (lw_V hlink q1579 q1580 q111 q1581) rfl rfl rfl (by decide +kernel) hR