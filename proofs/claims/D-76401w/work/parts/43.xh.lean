def f_X0_far (g : XS) (ex : Int32) : Option (Int64 × XS) := Option.bind (f_X0_refuse g ex) fun o1 => some (((4000000000000000000 : Int64) - (Int32.toInt64 o1.1)), o1.2)
abbrev rm_X0_far : Room := ({ frames := 8, cells := 0, slots := 0, locals := 400 })
theorem cw_X0_far {R : Room} {s : State} {args : Array Value} {own : String} {index : Nat} (hts : ∀ w ∈ lw_all, w.before args s = true) (hlink : Cond.methodLink own index yX0_far ∈ lw_all) (hR : rm_X0_far.frames + 1 ≤ R.frames ∧ 8 + (2 + 11) + rm_X0_far.locals ≤ R.locals) : CallW R s args own RX0 index yX0_far cX0_far 2 (some FieldType.long) (ws_ yX0_far cX0_far 2 (some FieldType.long)) rm_X0_far rm_X0_far.cells rm_X0_far.slots 1 :=
  cwV 1 hts (lw_V hlink q1128 qs73 q102 q1129) rfl rfl rfl (by decide +kernel) hR
set_option maxHeartbeats 4000000 in
theorem m_X0_far (l : Launch) (D : va_G) (ax : Nat → Nat) (ac : Nat → ClassId) (g : XS) (q_ ci_ : Nat) (hci : ci_ = 9 ∨ ci_ = 11) (ex : Int32) (sz : Nat) (r0 : Int64 × XS) (hr : f_X0_far g ex = some r0) : WM l yX0_far cX0_far 2 (some FieldType.long) rm_X0_far [.ref (ax 0), .ref q_] D ac (wX ax ac g ++ [(q_, .inr (ci_, [.int ex]))]) (wX ax ac r0.2 ++ [(q_, .inr (ci_, [.int ex]))]) sz (some (.long r0.1)) := by
  refine fw_of (by decide) (Nat.le_of_ble_eq_true rfl) ?_
  intro p e s m below meth c ls hx hb hrt hts hown hlk hml _ hU hl
  obtain ⟨rfl, hP, hG, hD⟩ := hU
  have hA : ∀ q : Nat, s.heap.size ≤ q → (va_A (wX ax ac g ++ [(q_, .inr (ci_, [.int ex]))]) s.heap.size) q := fun q h => Or.inr h
  have hS := Stt.start hP hD
  show WW p l e rm_X0_far s m [.ref (ax 0), .ref q_] below meth c D (wX ax ac r0.2 ++ [(q_, .inr (ci_, [.int ex]))]) (va_A (wX ax ac g ++ [(q_, .inr (ci_, [.int ex]))]) s.heap.size) (some (.long r0.1)) s.heap [] 0 0 0 ls []
  have hl : lv_has ls 2 [(0, .ref (ax 0)), (1, .ref q_)] := hl
  rw [f_X0_far] at hr
  refine lv_ldc2 (v := 4000000000000000000) hx hb hown (hts _ q1130) dX0_far_0 ?_
  refine lv_aload_n hx hb dX0_far_3 rfl (lv_at hl 0 rfl) ?_
  refine lv_aload_n hx hb dX0_far_4 rfl (lv_at hl 1 rfl) ?_
  refine fw_number hx hb hml hown hts q987 hG hci (hP.pick [26] rfl) hl.1 (Nat.le_of_ble_eq_true rfl) (Nat.le_of_ble_eq_true rfl) (Nat.le_of_ble_eq_true rfl) dX0_far_5 ⟨Nat.le_of_ble_eq_true rfl, Nat.le_of_ble_eq_true rfl⟩ ?_
  obtain ⟨o1, ho1, hr⟩ := br_bind hr
  refine fwWV (As := [.int ex]) (rest := [.long 4000000000000000000]) (C := RX0) hx hb hml hown hts (m_X0_refuse l D ax ac g ex _ o1 ho1) (cw_X0_refuse hts q996 ⟨Nat.le_of_ble_eq_true rfl, Nat.le_of_ble_eq_true rfl⟩) hG hS hA ixX nd_X (pk_XS ax ac _ _) (ad_X ax ac _ _) 0 0 rfl rfl rfl hl.1 rfl (Nat.le_of_ble_eq_true rfl) dX0_far_8 ⟨Nat.le_of_ble_eq_true rfl, Nat.le_of_ble_eq_true rfl⟩ (wn := wX ax ac o1.2 ++ [(q_, .inr (ci_, [.int ex]))]) (rep_XS ax ac _ _ _) (fun H locs hS => ?_)
  have hP := hS.1
  refine lv_i2l (v := (Int32.toInt64 o1.1)) hx hb dX0_far_11 rfl ?_
  refine lv_lsub hx hb dX0_far_12 ?_
  obtain rfl := Option.some.inj hr
  refine W.widen (k := rm_X0_far.cells) (n := rm_X0_far.slots) (Nat.le_of_ble_eq_true rfl) (Nat.le_of_ble_eq_true rfl) ?_
  exact W.lret hx hb hrt (fun t ht _ => hS.q ht rfl) hS.2.2.2.2 dX0_far_13 hlk
def f_X0_chanceTold (g : XS) (a1 : Int32) (a2 : Int32) (a3 : Int32) (a4 : Int32) : Option (Int64 × XS) := bH (f_X0_mustBeHeir g a1) (fun o1 => Option.bind (f_X0_far o1.2 o1.1) fun o2 => some (o2.1, o2.2)) fun o1 => Option.bind (α := Int32) (if a2 < 0 then some 0 else if a3 < 0 then some 0 else some 1) fun o4 => bH (f_X0_must o4 (-4 : Int32)) (fun o6 => Option.bind (f_X0_far o1 o6) fun o7 => some (o7.1, o7.2)) fun o6 => Option.bind (α := Int32) (if 2 < a2 then some 0 else if 40 < a3 then some 0 else some 1) fun o9 => bH (f_X0_must o9 (-6 : Int32)) (fun o11 => Option.bind (f_X0_far o1 o11) fun o12 => some (o12.1, o12.2)) fun o11 => bH (f_X0_mustBeBit a4) (fun o13 => Option.bind (f_X0_far o1 o13) fun o14 => some (o14.1, o14.2)) fun o13 => Option.bind (f_X0_chancePart o1 a1 a2 a3 a4) fun o15 => some (o15.1, o15.2)
abbrev rm_X0_chanceTold : Room := ({ frames := 15, cells := 4, slots := 28, locals := 589 })
theorem cw_X0_chanceTold {R : Room} {s : State} {args : Array Value} {own : String} {index : Nat} (hts : ∀ w ∈ lw_all, w.before args s = true) (hlink : Cond.methodLink own index yX0_chanceTold ∈ lw_all) (hR : rm_X0_chanceTold.frames + 1 ≤ R.frames ∧ 8 + (6 + 11) + rm_X0_chanceTold.locals ≤ R.locals) : vx_CVW R s args own RX0 index yX0_chanceTold cX0_chanceTold 6 (some FieldType.long) [(0, 58, 59, 319)] (wsW_ yX0_chanceTold cX0_chanceTold 6 (some FieldType.long) [(0, 58, 59, 319)]) rm_X0_chanceTold rm_X0_chanceTold.cells rm_X0_chanceTold.slots 4 :=
  vx_cwVW 4 hts (lw_VW hlink q1110 qs70 q102 q1111) rfl rfl rfl (by decide +kernel) hR
set_option maxHeartbeats 4000000 in
theorem m_X0_chanceTold (l : Launch) (hst : l.stackTraces = false) (D : va_G) (ax : Nat → Nat) (ac : Nat → ClassId) (g : XS) (a1 : Int32) (a2 : Int32) (a3 : Int32) (a4 : Int32) (sz : Nat) (r0 : Int64 × XS) (hr : f_X0_chanceTold g a1 a2 a3 a4 = some r0) : HM l yX0_chanceTold cX0_chanceTold 6 (some FieldType.long) [(0, 58, 59, 319)] rm_X0_chanceTold [.ref (ax 0), .int a1, .int a2, .int a3, .int a4] D ac (wX ax ac g) (wX ax ac r0.2) sz (some (.long r0.1)) := by
  refine fw_ofH (by decide) (Nat.le_of_ble_eq_true rfl) ?_
  intro p e s m below meth c ls hx hb hrt hts hown hlk hml _ htab hU hl
  obtain ⟨⟨rfl, hP, hG, hD⟩, hZ⟩ := hU
  have hA : ∀ q : Nat, s.heap.size ≤ q → (va_A (wX ax ac g) s.heap.size) q := fun q h => Or.inr h
  have hS := Stt.start hP hD
  show WW p l e rm_X0_chanceTold s m [.ref (ax 0), .int a1, .int a2, .int a3, .int a4] below meth c D (wX ax ac r0.2) (va_A (wX ax ac g) s.heap.size) (some (.long r0.1)) s.heap [] 0 0 0 ls []
  have hl : lv_has ls 6 [(0, .ref (ax 0)), (1, .int a1), (2, .int a2), (3, .int a3), (4, .int a4)] := hl
  rw [f_X0_chanceTold] at hr
  refine lv_aload_n hx hb dX0_chanceTold_0 rfl (lv_at hl 0 rfl) ?_
  refine lv_iload_n hx hb dX0_chanceTold_1 rfl (lv_at hl 1 rfl) ?_
  rcases Or.symm (br_bH hr) with ⟨o1, ho1, hr⟩ | ⟨o1, ho1, hr⟩
  · refine fwTVx (As := [.int a1]) (rest := []) (C := RX0) hx hb hml hown hts (m_X0_mustBeHeir l hst D ax ac g a1 _ _ ho1) (cw_X0_mustBeHeir hts q659 ⟨Nat.le_of_ble_eq_true rfl, Nat.le_of_ble_eq_true rfl⟩) hG hZ hS hA ixX nd_X (pk_X ax ac _) (ad_X ax ac _ _) 0 0 rfl rfl rfl hl.1 rfl (Nat.le_of_ble_eq_true rfl) dX0_chanceTold_2 ⟨Nat.le_of_ble_eq_true rfl, Nat.le_of_ble_eq_true rfl⟩ (wn := wX ax ac o1.2) (rep_X ax ac _ _) (fun q_ ci_ H locs hci hS => ?_)
    refine fw_catch hown hts hG htab rfl hci hS ?_
    have hP := hS.1
    refine W.widen (k := 1) (n := 7) (by first | exact Nat.le_refl _ | (dsimp only [rm_X0_mustBeHeir]; omega)) (by first | exact Nat.le_refl _ | (dsimp only [rm_X0_mustBeHeir]; omega)) ?_
    refine lv_astore (lv' := [(5, .ref q_), (0, .ref (ax 0)), (1, .int a1), (2, .int a2), (3, .int a3), (4, .int a4)]) hx hb dX0_chanceTold_59 hl (by decide) rfl (fun ls hl => ?_)
    refine lv_aload_n hx hb dX0_chanceTold_61 rfl (lv_at hl 1 rfl) ?_
    refine lv_aload hx hb dX0_chanceTold_62 (lv_at hl 0 rfl) ?_
    obtain ⟨o2, ho2, hr⟩ := br_bind hr
    refine fwWVs (As := [.ref q_]) (rest := []) (C := RX0) hx hb hml hown hts (m_X0_far l D ax ac o1.2 q_ ci_ hci o1.1 _ o2 ho2) (cw_X0_far hts q1126 ⟨Nat.le_of_ble_eq_true rfl, Nat.le_of_ble_eq_true rfl⟩) hG hS hA rfl 0 0 rfl rfl rfl hl.1 rfl (Nat.le_of_ble_eq_true rfl) dX0_chanceTold_64 ⟨Nat.le_of_ble_eq_true rfl, Nat.le_of_ble_eq_true rfl⟩ (fun H locs hS => ?_)
    have hP := hS.1
    obtain rfl := Option.some.inj hr
    have hS := hS.perm (ws' := wX ax ac o2.2) [0, 1, 2, 3, 4, 5, 6, 7, 8, 9, 10, 11, 12, 13, 14, 15, 16, 17, 18, 19, 20, 21, 22, 23, 24, 25] (by decide) rfl
    refine W.widen (k := rm_X0_chanceTold.cells) (n := rm_X0_chanceTold.slots) (Nat.le_of_ble_eq_true rfl) (Nat.le_of_ble_eq_true rfl) ?_
    exact W.lret hx hb hrt (fun t ht _ => hS.q ht rfl) hS.2.2.2.2 dX0_chanceTold_67 hlk
  refine fwTVo (As := [.int a1]) (rest := []) (C := RX0) hx hb hml hown hts (m_X0_mustBeHeir l hst D ax ac g a1 _ _ ho1) (cw_X0_mustBeHeir hts q659 ⟨Nat.le_of_ble_eq_true rfl, Nat.le_of_ble_eq_true rfl⟩) hG hZ hS hA ixX nd_X (pk_X ax ac _) (ad_X ax ac _ _) 0 0 rfl rfl rfl hl.1 rfl (Nat.le_of_ble_eq_true rfl) dX0_chanceTold_2 ⟨Nat.le_of_ble_eq_true rfl, Nat.le_of_ble_eq_true rfl⟩ (wn := wX ax ac o1) (rep_X ax ac _ _) (fun H locs hS => ?_)
  have hP := hS.1
  refine W.widen (k := 1) (n := 7) (by first | exact Nat.le_refl _ | (dsimp only [rm_X0_mustBeHeir]; omega)) (by first | exact Nat.le_refl _ | (dsimp only [rm_X0_mustBeHeir]; omega)) ?_
  refine lv_iload_n hx hb dX0_chanceTold_5 rfl (lv_at hl 2 rfl) ?_
  obtain ⟨o4, ho4, hr⟩ := br_bind hr
  have J4 : ∀ (H : Heap) (locs : List Loc) ls, lv_has ls 6 [(0, .ref (ax 0)), (1, .int a1), (2, .int a2), (3, .int a3), (4, .int a4)] → Stt D (va_A (wX ax ac g) s.heap.size) s.heap (wX ax ac o1) H locs → WW p l e rm_X0_chanceTold s m [.ref (ax 0), .int a1, .int a2, .int a3, .int a4] below meth c D (wX ax ac r0.2) (va_A (wX ax ac g) s.heap.size) (some (.long r0.1)) H locs 1 7 18 ls [.int o4] := by
    intro H locs ls hl hS
    have hP := hS.1
    refine lv_bipush (v := (-4)) hx hb dX0_chanceTold_18 rfl ?_
    rcases Or.symm (br_bH hr) with ⟨o6, ho6, hr⟩ | ⟨o6, ho6, hr⟩
    · refine fwTSx (As := [.int o4, .int (-4)]) (rest := []) hx hb hml hown hts (m_X0_must l hst D ac o4 (-4 : Int32) _ _ ho6) (cw_X0_must hts q315 ⟨Nat.le_of_ble_eq_true rfl, Nat.le_of_ble_eq_true rfl⟩) hG hZ hS hA [] rfl rfl rfl rfl hl.1 rfl (Nat.le_of_ble_eq_true rfl) dX0_chanceTold_20 ⟨Nat.le_of_ble_eq_true rfl, Nat.le_of_ble_eq_true rfl⟩ (wn := wX ax ac o1) rfl (fun q_ ci_ H locs hci hS => ?_)
      refine fw_catch hown hts hG htab rfl hci hS ?_
      have hP := hS.1
      refine W.widen (k := 2) (n := 14) (by first | exact Nat.le_refl _ | (dsimp only [rm_X0_must]; omega)) (by first | exact Nat.le_refl _ | (dsimp only [rm_X0_must]; omega)) ?_
      refine lv_astore (lv' := [(5, .ref q_), (0, .ref (ax 0)), (1, .int a1), (2, .int a2), (3, .int a3), (4, .int a4)]) hx hb dX0_chanceTold_59 hl (by decide) rfl (fun ls hl => ?_)
      refine lv_aload_n hx hb dX0_chanceTold_61 rfl (lv_at hl 1 rfl) ?_
      refine lv_aload hx hb dX0_chanceTold_62 (lv_at hl 0 rfl) ?_
      obtain ⟨o7, ho7, hr⟩ := br_bind hr
      refine fwWVs (As := [.ref q_]) (rest := []) (C := RX0) hx hb hml hown hts (m_X0_far l D ax ac o1 q_ ci_ hci o6 _ o7 ho7) (cw_X0_far hts q1126 ⟨Nat.le_of_ble_eq_true rfl, Nat.le_of_ble_eq_true rfl⟩) hG hS hA rfl 0 0 rfl rfl rfl hl.1 rfl (Nat.le_of_ble_eq_true rfl) dX0_chanceTold_64 ⟨Nat.le_of_ble_eq_true rfl, Nat.le_of_ble_eq_true rfl⟩ (fun H locs hS => ?_)
      have hP := hS.1
      obtain rfl := Option.some.inj hr
      have hS := hS.perm (ws' := wX ax ac o7.2) [0, 1, 2, 3, 4, 5, 6, 7, 8, 9, 10, 11, 12, 13, 14, 15, 16, 17, 18, 19, 20, 21, 22, 23, 24, 25] (by decide) rfl
      refine W.widen (k := rm_X0_chanceTold.cells) (n := rm_X0_chanceTold.slots) (Nat.le_of_ble_eq_true rfl) (Nat.le_of_ble_eq_true rfl) ?_
      exact W.lret hx hb hrt (fun t ht _ => hS.q ht rfl) hS.2.2.2.2 dX0_chanceTold_67 hlk
    refine fwTSo (As := [.int o4, .int (-4)]) (rest := []) hx hb hml hown hts (m_X0_must l hst D ac o4 (-4 : Int32) _ _ ho6) (cw_X0_must hts q315 ⟨Nat.le_of_ble_eq_true rfl, Nat.le_of_ble_eq_true rfl⟩) hG hZ hS hA [] rfl rfl rfl rfl hl.1 rfl (Nat.le_of_ble_eq_true rfl) dX0_chanceTold_20 ⟨Nat.le_of_ble_eq_true rfl, Nat.le_of_ble_eq_true rfl⟩ (wn := wX ax ac o1) rfl (fun H locs hS => ?_)
    have hP := hS.1
    refine W.widen (k := 2) (n := 14) (by first | exact Nat.le_refl _ | (dsimp only [rm_X0_must]; omega)) (by first | exact Nat.le_refl _ | (dsimp only [rm_X0_must]; omega)) ?_
    refine lv_iload_n hx hb dX0_chanceTold_23 rfl (lv_at hl 2 rfl) ?_
    refine lv_iconst (v := 2) hx hb dX0_chanceTold_24 rfl ?_
    obtain ⟨o9, ho9, hr⟩ := br_bind hr
    have J9 : ∀ (H : Heap) (locs : List Loc) ls, lv_has ls 6 [(0, .ref (ax 0)), (1, .int a1), (2, .int a2), (3, .int a3), (4, .int a4)] → Stt D (va_A (wX ax ac g) s.heap.size) s.heap (wX ax ac o1) H locs → WW p l e rm_X0_chanceTold s m [.ref (ax 0), .int a1, .int a2, .int a3, .int a4] below meth c D (wX ax ac r0.2) (va_A (wX ax ac g) s.heap.size) (some (.long r0.1)) H locs 2 14 39 ls [.int o9] := by
      intro H locs ls hl hS
      have hP := hS.1
      refine lv_bipush (v := (-6)) hx hb dX0_chanceTold_39 rfl ?_
      rcases Or.symm (br_bH hr) with ⟨o11, ho11, hr⟩ | ⟨o11, ho11, hr⟩
      · refine fwTSx (As := [.int o9, .int (-6)]) (rest := []) hx hb hml hown hts (m_X0_must l hst D ac o9 (-6 : Int32) _ _ ho11) (cw_X0_must hts q315 ⟨Nat.le_of_ble_eq_true rfl, Nat.le_of_ble_eq_true rfl⟩) hG hZ hS hA [] rfl rfl rfl rfl hl.1 rfl (Nat.le_of_ble_eq_true rfl) dX0_chanceTold_41 ⟨Nat.le_of_ble_eq_true rfl, Nat.le_of_ble_eq_true rfl⟩ (wn := wX ax ac o1) rfl (fun q_ ci_ H locs hci hS => ?_)
        refine fw_catch hown hts hG htab rfl hci hS ?_
        have hP := hS.1
        refine W.widen (k := 3) (n := 21) (by first | exact Nat.le_refl _ | (dsimp only [rm_X0_must]; omega)) (by first | exact Nat.le_refl _ | (dsimp only [rm_X0_must]; omega)) ?_
        refine lv_astore (lv' := [(5, .ref q_), (0, .ref (ax 0)), (1, .int a1), (2, .int a2), (3, .int a3), (4, .int a4)]) hx hb dX0_chanceTold_59 hl (by decide) rfl (fun ls hl => ?_)
        refine lv_aload_n hx hb dX0_chanceTold_61 rfl (lv_at hl 1 rfl) ?_
        refine lv_aload hx hb dX0_chanceTold_62 (lv_at hl 0 rfl) ?_
        obtain ⟨o12, ho12, hr⟩ := br_bind hr
        refine fwWVs (As := [.ref q_]) (rest := []) (C := RX0) hx hb hml hown hts (m_X0_far l D ax ac o1 q_ ci_ hci o11 _ o12 ho12) (cw_X0_far hts q1126 ⟨Nat.le_of_ble_eq_true rfl, Nat.le_of_ble_eq_true rfl⟩) hG hS hA rfl 0 0 rfl rfl rfl hl.1 rfl (Nat.le_of_ble_eq_true rfl) dX0_chanceTold_64 ⟨Nat.le_of_ble_eq_true rfl, Nat.le_of_ble_eq_true rfl⟩ (fun H locs hS => ?_)
        have hP := hS.1
        obtain rfl := Option.some.inj hr
        have hS := hS.perm (ws' := wX ax ac o12.2) [0, 1, 2, 3, 4, 5, 6, 7, 8, 9, 10, 11, 12, 13, 14, 15, 16, 17, 18, 19, 20, 21, 22, 23, 24, 25] (by decide) rfl
        refine W.widen (k := rm_X0_chanceTold.cells) (n := rm_X0_chanceTold.slots) (Nat.le_of_ble_eq_true rfl) (Nat.le_of_ble_eq_true rfl) ?_
        exact W.lret hx hb hrt (fun t ht _ => hS.q ht rfl) hS.2.2.2.2 dX0_chanceTold_67 hlk
      refine fwTSo (As := [.int o9, .int (-6)]) (rest := []) hx hb hml hown hts (m_X0_must l hst D ac o9 (-6 : Int32) _ _ ho11) (cw_X0_must hts q315 ⟨Nat.le_of_ble_eq_true rfl, Nat.le_of_ble_eq_true rfl⟩) hG hZ hS hA [] rfl rfl rfl rfl hl.1 rfl (Nat.le_of_ble_eq_true rfl) dX0_chanceTold_41 ⟨Nat.le_of_ble_eq_true rfl, Nat.le_of_ble_eq_true rfl⟩ (wn := wX ax ac o1) rfl (fun H locs hS => ?_)
      have hP := hS.1
      refine W.widen (k := 3) (n := 21) (by first | exact Nat.le_refl _ | (dsimp only [rm_X0_must]; omega)) (by first | exact Nat.le_refl _ | (dsimp only [rm_X0_must]; omega)) ?_
      refine lv_iload hx hb dX0_chanceTold_44 (lv_at hl 4 rfl) ?_
      rcases Or.symm (br_bH hr) with ⟨o13, ho13, hr⟩ | ⟨o13, ho13, hr⟩
      · refine fwTSx (As := [.int a4]) (rest := []) hx hb hml hown hts (m_X0_mustBeBit l hst D ac a4 _ _ ho13) (cw_X0_mustBeBit hts q773 ⟨Nat.le_of_ble_eq_true rfl, Nat.le_of_ble_eq_true rfl⟩) hG hZ hS hA [] rfl rfl rfl rfl hl.1 rfl (Nat.le_of_ble_eq_true rfl) dX0_chanceTold_46 ⟨Nat.le_of_ble_eq_true rfl, Nat.le_of_ble_eq_true rfl⟩ (wn := wX ax ac o1) rfl (fun q_ ci_ H locs hci hS => ?_)
        refine fw_catch hown hts hG htab rfl hci hS ?_
        have hP := hS.1
        refine W.widen (k := 4) (n := 28) (by first | exact Nat.le_refl _ | (dsimp only [rm_X0_mustBeBit]; omega)) (by first | exact Nat.le_refl _ | (dsimp only [rm_X0_mustBeBit]; omega)) ?_
        refine lv_astore (lv' := [(5, .ref q_), (0, .ref (ax 0)), (1, .int a1), (2, .int a2), (3, .int a3), (4, .int a4)]) hx hb dX0_chanceTold_59 hl (by decide) rfl (fun ls hl => ?_)
        refine lv_aload_n hx hb dX0_chanceTold_61 rfl (lv_at hl 1 rfl) ?_
        refine lv_aload hx hb dX0_chanceTold_62 (lv_at hl 0 rfl) ?_
        obtain ⟨o14, ho14, hr⟩ := br_bind hr
        refine fwWVs (As := [.ref q_]) (rest := []) (C := RX0) hx hb hml hown hts (m_X0_far l D ax ac o1 q_ ci_ hci o13 _ o14 ho14) (cw_X0_far hts q1126 ⟨Nat.le_of_ble_eq_true rfl, Nat.le_of_ble_eq_true rfl⟩) hG hS hA rfl 0 0 rfl rfl rfl hl.1 rfl (Nat.le_of_ble_eq_true rfl) dX0_chanceTold_64 ⟨Nat.le_of_ble_eq_true rfl, Nat.le_of_ble_eq_true rfl⟩ (fun H locs hS => ?_)
        have hP := hS.1
        obtain rfl := Option.some.inj hr
        have hS := hS.perm (ws' := wX ax ac o14.2) [0, 1, 2, 3, 4, 5, 6, 7, 8, 9, 10, 11, 12, 13, 14, 15, 16, 17, 18, 19, 20, 21, 22, 23, 24, 25] (by decide) rfl
        refine W.widen (k := rm_X0_chanceTold.cells) (n := rm_X0_chanceTold.slots) (Nat.le_of_ble_eq_true rfl) (Nat.le_of_ble_eq_true rfl) ?_
        exact W.lret hx hb hrt (fun t ht _ => hS.q ht rfl) hS.2.2.2.2 dX0_chanceTold_67 hlk
      refine fwTSo (As := [.int a4]) (rest := []) hx hb hml hown hts (m_X0_mustBeBit l hst D ac a4 _ _ ho13) (cw_X0_mustBeBit hts q773 ⟨Nat.le_of_ble_eq_true rfl, Nat.le_of_ble_eq_true rfl⟩) hG hZ hS hA [] rfl rfl rfl rfl hl.1 rfl (Nat.le_of_ble_eq_true rfl) dX0_chanceTold_46 ⟨Nat.le_of_ble_eq_true rfl, Nat.le_of_ble_eq_true rfl⟩ (wn := wX ax ac o1) rfl (fun H locs hS => ?_)
      have hP := hS.1
      refine W.widen (k := 4) (n := 28) (by first | exact Nat.le_refl _ | (dsimp only [rm_X0_mustBeBit]; omega)) (by first | exact Nat.le_refl _ | (dsimp only [rm_X0_mustBeBit]; omega)) ?_
      refine lv_aload_n hx hb dX0_chanceTold_49 rfl (lv_at hl 0 rfl) ?_
      refine lv_iload_n hx hb dX0_chanceTold_50 rfl (lv_at hl 1 rfl) ?_
      refine lv_iload_n hx hb dX0_chanceTold_51 rfl (lv_at hl 2 rfl) ?_
      refine lv_iload_n hx hb dX0_chanceTold_52 rfl (lv_at hl 3 rfl) ?_
      refine lv_iload hx hb dX0_chanceTold_53 (lv_at hl 4 rfl) ?_
      obtain ⟨o15, ho15, hr⟩ := br_bind hr
      refine fwWVs (As := [.int a1, .int a2, .int a3, .int a4]) (rest := []) (C := RX0) hx hb hml hown hts (m_X0_chancePart l D ax ac o1 a1 a2 a3 a4 _ o15 ho15) (cw_X0_chancePart hts q1112 ⟨Nat.le_of_ble_eq_true rfl, Nat.le_of_ble_eq_true rfl⟩) hG hS hA rfl 0 0 rfl rfl rfl hl.1 rfl (Nat.le_of_ble_eq_true rfl) dX0_chanceTold_55 ⟨Nat.le_of_ble_eq_true rfl, Nat.le_of_ble_eq_true rfl⟩ (fun H locs hS => ?_)
      have hP := hS.1
      obtain rfl := Option.some.inj hr
      refine W.widen (k := rm_X0_chanceTold.cells) (n := rm_X0_chanceTold.slots) (Nat.le_of_ble_eq_true rfl) (Nat.le_of_ble_eq_true rfl) ?_
      exact W.lret hx hb hrt (fun t ht _ => hS.q ht rfl) hS.2.2.2.2 dX0_chanceTold_58 hlk
    have hr := ho9
    have hi8 := br_ite hr
    refine lv_icmp_gt (tgt := 38) hx hb dX0_chanceTold_25 (by decide) (fun c8 => ?_) (fun c8 => ?_)
    · have hr := hi8.1 c8
      refine lv_iconst (v := 0) hx hb dX0_chanceTold_38 rfl ?_
      obtain rfl := Option.some.inj hr
      exact J9 _ _ ls (lv_sub hl [0, 1, 2, 3, 4] rfl) hS
    · have hr := hi8.2 c8
      refine lv_iload_n hx hb dX0_chanceTold_28 rfl (lv_at hl 3 rfl) ?_
      refine lv_bipush (v := 40) hx hb dX0_chanceTold_29 rfl ?_
      have hi10 := br_ite hr
      refine lv_icmp_gt (tgt := 38) hx hb dX0_chanceTold_31 (by decide) (fun c10 => ?_) (fun c10 => ?_)
      · have hr := hi10.1 c10
        refine lv_iconst (v := 0) hx hb dX0_chanceTold_38 rfl ?_
        obtain rfl := Option.some.inj hr
        exact J9 _ _ ls (lv_sub hl [0, 1, 2, 3, 4] rfl) hS
      · have hr := hi10.2 c10
        refine lv_iconst (v := 1) hx hb dX0_chanceTold_34 rfl ?_
        refine lv_goto (tgt := 39) hx hb dX0_chanceTold_35 (by decide) ?_
        obtain rfl := Option.some.inj hr
        exact J9 _ _ ls (lv_sub hl [0, 1, 2, 3, 4] rfl) hS
  have hr := ho4
  have hi3 := br_ite hr
  refine lv_if_lt (tgt := 17) hx hb dX0_chanceTold_6 (by decide) (fun c3 => ?_) (fun c3 => ?_)
  · have hr := hi3.1 c3
    refine lv_iconst (v := 0) hx hb dX0_chanceTold_17 rfl ?_
    obtain rfl := Option.some.inj hr
    exact J4 _ _ ls (lv_sub hl [0, 1, 2, 3, 4] rfl) hS
  · have hr := hi3.2 c3
    refine lv_iload_n hx hb dX0_chanceTold_9 rfl (lv_at hl 3 rfl) ?_
    have hi5 := br_ite hr
    refine lv_if_lt (tgt := 17) hx hb dX0_chanceTold_10 (by decide) (fun c5 => ?_) (fun c5 => ?_)
    · have hr := hi5.1 c5
      refine lv_iconst (v := 0) hx hb dX0_chanceTold_17 rfl ?_
      obtain rfl := Option.some.inj hr
      exact J4 _ _ ls (lv_sub hl [0, 1, 2, 3, 4] rfl) hS
    · have hr := hi5.2 c5
      refine lv_iconst (v := 1) hx hb dX0_chanceTold_13 rfl ?_
      refine lv_goto (tgt := 18) hx hb dX0_chanceTold_14 (by decide) ?_
      obtain rfl := Option.some.inj hr
      exact J4 _ _ ls (lv_sub hl [0, 1, 2, 3, 4] rfl) hS
def f_X0_meanTold (g : XS) (a1 : Int32) : Option (Int64 × XS) := bH (f_X0_mustBeBit a1) (fun o1 => Option.bind (f_X0_far g o1) fun o2 => some (o2.1, o2.2)) fun o1 => Option.bind (f_X8_allShares (xG_core0 g)) fun o3 => Option.bind (f_X0_partOf (Int32.toInt64 o3) (Int32.toInt64 (if (1 : Int32) < (cG_heirs (xG_core0 g)) then (cG_heirs (xG_core0 g)) else (1 : Int32))) a1) fun o4 => some (o4, g)
abbrev rm_X0_meanTold : Room := ({ frames := 11, cells := 1, slots := 7, locals := 443 })
theorem cw_X0_meanTold {R : Room} {s : State} {args : Array Value} {own : String} {index : Nat} (hts : ∀ w ∈ lw_all, w.before args s = true) (hlink : Cond.methodLink own index yX0_meanTold ∈ lw_all) (hR : rm_X0_meanTold.frames + 1 ≤ R.frames ∧ 8 + (3 + 11) + rm_X0_meanTold.locals ≤ R.locals) : vx_CVW R s args own RX0 index yX0_meanTold cX0_meanTold 3 (some FieldType.long) [(0, 28, 29, 319)] (wsW_ yX0_meanTold cX0_meanTold 3 (some FieldType.long) [(0, 28, 29, 319)]) rm_X0_meanTold rm_X0_meanTold.cells rm_X0_meanTold.slots 1 :=
  vx_cwVW 1 hts (lw_VW hlink q1137 qs74 q102 q1138) rfl rfl rfl (by decide +kernel) hR
set_option maxHeartbeats 4000000 in
theorem m_X0_meanTold (l : Launch) (hst : l.stackTraces = false) (D : va_G) (ax : Nat → Nat) (ac : Nat → ClassId) (g : XS) (a1 : Int32) (sz : Nat) (r0 : Int64 × XS) (hr : f_X0_meanTold g a1 = some r0) : HM l yX0_meanTold cX0_meanTold 3 (some FieldType.long) [(0, 28, 29, 319)] rm_X0_meanTold [.ref (ax 0), .int a1] D ac (wX ax ac g) (wX ax ac r0.2) sz (some (.long r0.1)) := by
  refine fw_ofH (by decide) (Nat.le_of_ble_eq_true rfl) ?_
  intro p e s m below meth c ls hx hb hrt hts hown hlk hml _ htab hU hl
  obtain ⟨⟨rfl, hP, hG, hD⟩, hZ⟩ := hU
  have hA : ∀ q : Nat, s.heap.size ≤ q → (va_A (wX ax ac g) s.heap.size) q := fun q h => Or.inr h
  have hS := Stt.start hP hD
  show WW p l e rm_X0_meanTold s m [.ref (ax 0), .int a1] below meth c D (wX ax ac r0.2) (va_A (wX ax ac g) s.heap.size) (some (.long r0.1)) s.heap [] 0 0 0 ls []
  have hl : lv_has ls 3 [(0, .ref (ax 0)), (1, .int a1)] := hl
  rw [f_X0_meanTold] at hr
  refine lv_iload_n hx hb dX0_meanTold_0 rfl (lv_at hl 1 rfl) ?_
  rcases Or.symm (br_bH hr) with ⟨o1, ho1, hr⟩ | ⟨o1, ho1, hr⟩
  · refine fwTSx (As := [.int a1]) (rest := []) hx hb hml hown hts (m_X0_mustBeBit l hst D ac a1 _ _ ho1) (cw_X0_mustBeBit hts q773 ⟨Nat.le_of_ble_eq_true rfl, Nat.le_of_ble_eq_true rfl⟩) hG hZ hS hA [] rfl rfl rfl rfl hl.1 rfl (Nat.le_of_ble_eq_true rfl) dX0_meanTold_1 ⟨Nat.le_of_ble_eq_true rfl, Nat.le_of_ble_eq_true rfl⟩ (wn := wX ax ac g) rfl (fun q_ ci_ H locs hci hS => ?_)
    refine fw_catch hown hts hG htab rfl hci hS ?_
    have hP := hS.1
    refine W.widen (k := 1) (n := 7) (by first | exact Nat.le_refl _ | (dsimp only [rm_X0_mustBeBit]; omega)) (by first | exact Nat.le_refl _ | (dsimp only [rm_X0_mustBeBit]; omega)) ?_
    refine lv_astore_n (lv' := [(2, .ref q_), (0, .ref (ax 0)), (1, .int a1)]) hx hb dX0_meanTold_29 rfl hl (by decide) rfl (fun ls hl => ?_)
    refine lv_aload_n hx hb dX0_meanTold_30 rfl (lv_at hl 1 rfl) ?_
    refine lv_aload_n hx hb dX0_meanTold_31 rfl (lv_at hl 0 rfl) ?_
    obtain ⟨o2, ho2, hr⟩ := br_bind hr
    refine fwWVs (As := [.ref q_]) (rest := []) (C := RX0) hx hb hml hown hts (m_X0_far l D ax ac g q_ ci_ hci o1 _ o2 ho2) (cw_X0_far hts q1126 ⟨Nat.le_of_ble_eq_true rfl, Nat.le_of_ble_eq_true rfl⟩) hG hS hA rfl 0 0 rfl rfl rfl hl.1 rfl (Nat.le_of_ble_eq_true rfl) dX0_meanTold_32 ⟨Nat.le_of_ble_eq_true rfl, Nat.le_of_ble_eq_true rfl⟩ (fun H locs hS => ?_)
    have hP := hS.1
    obtain rfl := Option.some.inj hr
    have hS := hS.perm (ws' := wX ax ac o2.2) [0, 1, 2, 3, 4, 5, 6, 7, 8, 9, 10, 11, 12, 13, 14, 15, 16, 17, 18, 19, 20, 21, 22, 23, 24, 25] (by decide) rfl
    refine W.widen (k := rm_X0_meanTold.cells) (n := rm_X0_meanTold.slots) (Nat.le_of_ble_eq_true rfl) (Nat.le_of_ble_eq_true rfl) ?_
    exact W.lret hx hb hrt (fun t ht _ => hS.q ht rfl) hS.2.2.2.2 dX0_meanTold_35 hlk
  refine fwTSo (As := [.int a1]) (rest := []) hx hb hml hown hts (m_X0_mustBeBit l hst D ac a1 _ _ ho1) (cw_X0_mustBeBit hts q773 ⟨Nat.le_of_ble_eq_true rfl, Nat.le_of_ble_eq_true rfl⟩) hG hZ hS hA [] rfl rfl rfl rfl hl.1 rfl (Nat.le_of_ble_eq_true rfl) dX0_meanTold_1 ⟨Nat.le_of_ble_eq_true rfl, Nat.le_of_ble_eq_true rfl⟩ (wn := wX ax ac g) rfl (fun H locs hS => ?_)
  have hP := hS.1
  refine W.widen (k := 1) (n := 7) (by first | exact Nat.le_refl _ | (dsimp only [rm_X0_mustBeBit]; omega)) (by first | exact Nat.le_refl _ | (dsimp only [rm_X0_mustBeBit]; omega)) ?_
  refine lv_aload_n hx hb dX0_meanTold_4 rfl (lv_at hl 0 rfl) ?_
  refine va_get (D := D) (ci := 0) (v := .ref (ax 1)) (C := RX0) (T := TX0) (N := 17) hx hb hts in_X0 hown hG.1 hP 0 rfl rfl 1 (by decide) (hts _ q234) (fun _ h9 => h9) rfl dX0_meanTold_5 ?_
  obtain ⟨o3, ho3, hr⟩ := br_bind hr
  refine fwRV (As := []) (rest := []) (C := RX8) hx hb hml hown hts (m_X8_allShares l D ax ac (ax 1) (ax 2) (ax 3) (xG_core0 g) o3 ho3) (cw_X8_allShares hts q776 ⟨Nat.le_of_ble_eq_true rfl, Nat.le_of_ble_eq_true rfl⟩) hG hP (hP.pick [1, 2, 3, 11, 12, 13, 14, 15, 16] rfl) 1 7 rfl rfl rfl hl.1 rfl (Nat.le_of_ble_eq_true rfl) dX0_meanTold_8 ⟨Nat.le_of_ble_eq_true rfl, Nat.le_of_ble_eq_true rfl⟩ ?_
  refine lv_i2l (v := (Int32.toInt64 o3)) hx hb dX0_meanTold_11 rfl ?_
  refine lv_iconst (v := 1) hx hb dX0_meanTold_12 rfl ?_
  refine lv_aload_n hx hb dX0_meanTold_13 rfl (lv_at hl 0 rfl) ?_
  refine va_get (D := D) (ci := 0) (v := .ref (ax 1)) (C := RX0) (T := TX0) (N := 17) hx hb hts in_X0 hown hG.1 hP 0 rfl rfl 1 (by decide) (hts _ q234) (fun _ h9 => h9) rfl dX0_meanTold_14 ?_
  refine va_getN (D := D) (ci := 7) (v := .int (cG_heirs (xG_core0 g))) (C := RX8) (T := TX8) (N := 8) hx hb hts in_X8 hown hG.1 hP 1 rfl rfl 1 (by decide) (va_Nw.use rfl (hG.2.1 _ nq196)) (fun _ h9 => h9) rfl dX0_meanTold_17 ?_
  refine va_mmax hx hb (hml.trans hl.1.symm) hown (hts _ q817) (hts _ q608) (hts _ q126) (hts _ q609) (Nat.le_of_ble_eq_true rfl) (Nat.le_of_ble_eq_true rfl) (Nat.le_of_ble_eq_true rfl) (Nat.le_of_ble_eq_true rfl) dX0_meanTold_20 ?_
  refine lv_i2l (v := (Int32.toInt64 (if (1 : Int32) < (cG_heirs (xG_core0 g)) then (cG_heirs (xG_core0 g)) else (1 : Int32)))) hx hb dX0_meanTold_23 rfl ?_
  refine lv_iload_n hx hb dX0_meanTold_24 rfl (lv_at hl 1 rfl) ?_
  obtain ⟨o4, ho4, hr⟩ := br_bind hr
  refine fwS (As := [.long (Int32.toInt64 o3), .long (Int32.toInt64 (if (1 : Int32) < (cG_heirs (xG_core0 g)) then (cG_heirs (xG_core0 g)) else (1 : Int32))), .int a1]) (rest := []) hx hb hml hown hts (m_X0_partOf l (Int32.toInt64 o3) (Int32.toInt64 (if (1 : Int32) < (cG_heirs (xG_core0 g)) then (cG_heirs (xG_core0 g)) else (1 : Int32))) a1 o4 ho4) (cw_X0_partOf hts q1120 ⟨Nat.le_of_ble_eq_true rfl, Nat.le_of_ble_eq_true rfl⟩) rfl hl.1 rfl (Nat.le_of_ble_eq_true rfl) dX0_meanTold_25 ⟨Nat.le_of_ble_eq_true rfl, Nat.le_of_ble_eq_true rfl⟩ ?_
  obtain rfl := Option.some.inj hr
  refine W.widen (k := rm_X0_meanTold.cells) (n := rm_X0_meanTold.slots) (Nat.le_of_ble_eq_true rfl) (Nat.le_of_ble_eq_true rfl) ?_
  exact W.lret hx hb hrt (fun t ht _ => hS.q ht rfl) hS.2.2.2.2 dX0_meanTold_28 hlk
def f_X0_act (g : XS) (a1 : Int32) (a2 : Int32) (a3 : Int32) (a4 : Int32) : Option (Int32 × XS) := bH (f_X0_doIt g a1 a2 a3 a4) (fun o1 => Option.bind (f_X0_refuse o1.2 o1.1) fun o2 => some (o2.1, o2.2)) fun o1 => some (o1.1, o1.2)
abbrev rm_X0_act : Room := ({ frames := 43, cells := 700, slots := 4000, locals := 2072 })
theorem cw_X0_act {R : Room} {s : State} {args : Array Value} {own : String} {index : Nat} (hts : ∀ w ∈ lw_all, w.before args s = true) (hlink : Cond.methodLink own index yX0_act ∈ lw_all) (hR : rm_X0_act.frames + 1 ≤ R.frames ∧ 8 + (6 + 11) + rm_X0_act.locals ≤ R.locals) : vx_CVW R s args own RX0 index yX0_act cX0_act 6 (some FieldType.int) [(0, 9, 10, 319)] (wsW_ yX0_act cX0_act 6 (some FieldType.int) [(0, 9, 10, 319)]) rm_X0_act rm_X0_act.cells rm_X0_act.slots 4 :=
  vx_cwVW 4 hts (lw_VW hlink q296 qs0 q102 q297) rfl rfl rfl (by decide +kernel) hR
set_option maxHeartbeats 4000000 in
theorem m_X0_act (l : Launch) (hst : l.stackTraces = false) (D : va_G) (ax : Nat → Nat) (ac : Nat → ClassId) (g : XS) (a1 : Int32) (a2 : Int32) (a3 : Int32) (a4 : Int32) (sz : Nat) (r0 : Int32 × XS) (hr : f_X0_act g a1 a2 a3 a4 = some r0) : HM l yX0_act cX0_act 6 (some FieldType.int) [(0, 9, 10, 319)] rm_X0_act [.ref (ax 0), .int a1, .int a2, .int a3, .int a4] D ac (wX ax ac g) (wX ax ac r0.2) sz (some (.int r0.1)) := by
  refine fw_ofH (by decide) (Nat.le_of_ble_eq_true rfl) ?_
  intro p e s m below meth c ls hx hb hrt hts hown hlk hml _ htab hU hl
  obtain ⟨⟨rfl, hP, hG, hD⟩, hZ⟩ := hU
  have hA : ∀ q : Nat, s.heap.size ≤ q → (va_A (wX ax ac g) s.heap.size) q := fun q h => Or.inr h
  have hS := Stt.start hP hD
  show WW p l e rm_X0_act s m [.ref (ax 0), .int a1, .int a2, .int a3, .int a4] below meth c D (wX ax ac r0.2) (va_A (wX ax ac g) s.heap.size) (some (.int r0.1)) s.heap [] 0 0 0 ls []
  have hl : lv_has ls 6 [(0, .ref (ax 0)), (1, .int a1), (2, .int a2), (3, .int a3), (4, .int a4)] := hl
  rw [f_X0_act] at hr
  refine lv_aload_n hx hb dX0_act_0 rfl (lv_at hl 0 rfl) ?_
  refine lv_iload_n hx hb dX0_act_1 rfl (lv_at hl 1 rfl) ?_
  refine lv_iload_n hx hb dX0_act_2 rfl (lv_at hl 2 rfl) ?_
  refine lv_iload_n hx hb dX0_act_3 rfl (lv_at hl 3 rfl) ?_
  refine lv_iload hx hb dX0_act_4 (lv_at hl 4 rfl) ?_
  rcases Or.symm (br_bH hr) with ⟨o1, ho1, hr⟩ | ⟨o1, ho1, hr⟩
  · refine fwTVx (As := [.int a1, .int a2, .int a3, .int a4]) (rest := []) (C := RX0) hx hb hml hown hts (m_X0_doIt l hst D ax ac g a1 a2 a3 a4 _ _ ho1) (cw_X0_doIt hts q299 ⟨Nat.le_of_ble_eq_true rfl, Nat.le_of_ble_eq_true rfl⟩) hG hZ hS hA ixX nd_X (pk_X ax ac _) (ad_X ax ac _ _) 0 0 rfl rfl rfl hl.1 rfl (Nat.le_of_ble_eq_true rfl) dX0_act_6 ⟨Nat.le_of_ble_eq_true rfl, Nat.le_of_ble_eq_true rfl⟩ (wn := wX ax ac o1.2) (rep_X ax ac _ _) (fun q_ ci_ H locs hci hS => ?_)
    refine fw_catch hown hts hG htab rfl hci hS ?_
    have hP := hS.1
    refine W.widen (k := 700) (n := 4000) (by first | exact Nat.le_refl _ | (dsimp only [rm_X0_doIt]; omega)) (by first | exact Nat.le_refl _ | (dsimp only [rm_X0_doIt]; omega)) ?_
    refine lv_astore (lv' := [(5, .ref q_), (0, .ref (ax 0)), (1, .int a1), (2, .int a2), (3, .int a3), (4, .int a4)]) hx hb dX0_act_10 hl (by decide) rfl (fun ls hl => ?_)
    refine lv_aload_n hx hb dX0_act_12 rfl (lv_at hl 1 rfl) ?_
    refine lv_aload hx hb dX0_act_13 (lv_at hl 0 rfl) ?_
    refine fw_number hx hb hml hown hts q987 hG hci (hP.pick [26] rfl) hl.1 (Nat.le_of_ble_eq_true rfl) (Nat.le_of_ble_eq_true rfl) (Nat.le_of_ble_eq_true rfl) dX0_act_15 ⟨Nat.le_of_ble_eq_true rfl, Nat.le_of_ble_eq_true rfl⟩ ?_
    obtain ⟨o2, ho2, hr⟩ := br_bind hr
    refine fwWV (As := [.int o1.1]) (rest := []) (C := RX0) hx hb hml hown hts (m_X0_refuse l D ax ac o1.2 o1.1 _ o2 ho2) (cw_X0_refuse hts q996 ⟨Nat.le_of_ble_eq_true rfl, Nat.le_of_ble_eq_true rfl⟩) hG hS hA ixX nd_X (pk_XS ax ac _ _) (ad_X ax ac _ _) 0 0 rfl rfl rfl hl.1 rfl (Nat.le_of_ble_eq_true rfl) dX0_act_18 ⟨Nat.le_of_ble_eq_true rfl, Nat.le_of_ble_eq_true rfl⟩ (wn := wX ax ac o2.2 ++ [(q_, .inr (ci_, [.int o1.1]))]) (rep_XS ax ac _ _ _) (fun H locs hS => ?_)
    have hP := hS.1
    obtain rfl := Option.some.inj hr
    have hS := hS.perm (ws' := wX ax ac o2.2) [0, 1, 2, 3, 4, 5, 6, 7, 8, 9, 10, 11, 12, 13, 14, 15, 16, 17, 18, 19, 20, 21, 22, 23, 24, 25] (by decide) rfl
    refine W.widen (k := rm_X0_act.cells) (n := rm_X0_act.slots) (Nat.le_of_ble_eq_true rfl) (Nat.le_of_ble_eq_true rfl) ?_
    exact W.iret hx hb hrt (fun t ht _ => hS.q ht rfl) hS.2.2.2.2 dX0_act_21 hlk
  refine fwTVo (As := [.int a1, .int a2, .int a3, .int a4]) (rest := []) (C := RX0) hx hb hml hown hts (m_X0_doIt l hst D ax ac g a1 a2 a3 a4 _ _ ho1) (cw_X0_doIt hts q299 ⟨Nat.le_of_ble_eq_true rfl, Nat.le_of_ble_eq_true rfl⟩) hG hZ hS hA ixX nd_X (pk_X ax ac _) (ad_X ax ac _ _) 0 0 rfl rfl rfl hl.1 rfl (Nat.le_of_ble_eq_true rfl) dX0_act_6 ⟨Nat.le_of_ble_eq_true rfl, Nat.le_of_ble_eq_true rfl⟩ (wn := wX ax ac o1.2) (rep_X ax ac _ _) (fun H locs hS => ?_)
  have hP := hS.1
  refine W.widen (k := 700) (n := 4000) (by first | exact Nat.le_refl _ | (dsimp only [rm_X0_doIt]; omega)) (by first | exact Nat.le_refl _ | (dsimp only [rm_X0_doIt]; omega)) ?_
  obtain rfl := Option.some.inj hr
  refine W.widen (k := rm_X0_act.cells) (n := rm_X0_act.slots) (Nat.le_of_ble_eq_true rfl) (Nat.le_of_ble_eq_true rfl) ?_
  exact W.iret hx hb hrt (fun t ht _ => hS.q ht rfl) hS.2.2.2.2 dX0_act_9 hlk
def f_X0_actFar (g : XS) (a1 : Int32) (a2 : Int32) (a3 : Int32) (a4 : Int32) : Option (Int32 × XS) := bH (f_X0_doIt g a1 a2 a3 a4) (fun o1 => Option.bind (f_X0_refuse o1.2 o1.1) fun o2 => some (((1000000000 : Int32) - o2.1), o2.2)) fun o1 => some (o1.1, o1.2)
abbrev rm_X0_actFar : Room := ({ frames := 43, cells := 700, slots := 4000, locals := 2072 })
theorem cw_X0_actFar {R : Room} {s : State} {args : Array Value} {own : String} {index : Nat} (hts : ∀ w ∈ lw_all, w.before args s = true) (hlink : Cond.methodLink own index yX0_actFar ∈ lw_all) (hR : rm_X0_actFar.frames + 1 ≤ R.frames ∧ 8 + (6 + 11) + rm_X0_actFar.locals ≤ R.locals) : vx_CVW R s args own RX0 index yX0_actFar cX0_actFar 6 (some FieldType.int) [(0, 9, 10, 319)] (wsW_ yX0_actFar cX0_actFar 6 (some FieldType.int) [(0, 9, 10, 319)]) rm_X0_actFar rm_X0_actFar.cells rm_X0_actFar.slots 4 :=
  vx_cwVW 4 hts (lw_VW hlink q1090 qs69 q102 q1091) rfl rfl rfl (by decide +kernel) hR
set_option maxHeartbeats 4000000 in
theorem m_X0_actFar (l : Launch) (hst : l.stackTraces = false) (D : va_G) (ax : Nat → Nat) (ac : Nat → ClassId) (g : XS) (a1 : Int32) (a2 : Int32) (a3 : Int32) (a4 : Int32) (sz : Nat) (r0 : Int32 × XS) (hr : f_X0_actFar g a1 a2 a3 a4 = some r0) : HM l yX0_actFar cX0_actFar 6 (some FieldType.int) [(0, 9, 10, 319)] rm_X0_actFar [.ref (ax 0), .int a1, .int a2, .int a3, .int a4] D ac (wX ax ac g) (wX ax ac r0.2) sz (some (.int r0.1)) := by
  refine fw_ofH (by decide) (Nat.le_of_ble_eq_true rfl) ?_
  intro p e s m below meth c ls hx hb hrt hts hown hlk hml _ htab hU hl
  obtain ⟨⟨rfl, hP, hG, hD⟩, hZ⟩ := hU
  have hA : ∀ q : Nat, s.heap.size ≤ q → (va_A (wX ax ac g) s.heap.size) q := fun q h => Or.inr h
  have hS := Stt.start hP hD
  show WW p l e rm_X0_actFar s m [.ref (ax 0), .int a1, .int a2, .int a3, .int a4] below meth c D (wX ax ac r0.2) (va_A (wX ax ac g) s.heap.size) (some (.int r0.1)) s.heap [] 0 0 0 ls []
  have hl : lv_has ls 6 [(0, .ref (ax 0)), (1, .int a1), (2, .int a2), (3, .int a3), (4, .int a4)] := hl
  rw [f_X0_actFar] at hr
  refine lv_aload_n hx hb dX0_actFar_0 rfl (lv_at hl 0 rfl) ?_
  refine lv_iload_n hx hb dX0_actFar_1 rfl (lv_at hl 1 rfl) ?_
  refine lv_iload_n hx hb dX0_actFar_2 rfl (lv_at hl 2 rfl) ?_
  refine lv_iload_n hx hb dX0_actFar_3 rfl (lv_at hl 3 rfl) ?_
  refine lv_iload hx hb dX0_actFar_4 (lv_at hl 4 rfl) ?_
  rcases Or.symm (br_bH hr) with ⟨o1, ho1, hr⟩ | ⟨o1, ho1, hr⟩
  · refine fwTVx (As := [.int a1, .int a2, .int a3, .int a4]) (rest := []) (C := RX0) hx hb hml hown hts (m_X0_doIt l hst D ax ac g a1 a2 a3 a4 _ _ ho1) (cw_X0_doIt hts q299 ⟨Nat.le_of_ble_eq_true rfl, Nat.le_of_ble_eq_true rfl⟩) hG hZ hS hA ixX nd_X (pk_X ax ac _) (ad_X ax ac _ _) 0 0 rfl rfl rfl hl.1 rfl (Nat.le_of_ble_eq_true rfl) dX0_actFar_6 ⟨Nat.le_of_ble_eq_true rfl, Nat.le_of_ble_eq_true rfl⟩ (wn := wX ax ac o1.2) (rep_X ax ac _ _) (fun q_ ci_ H locs hci hS => ?_)
    refine fw_catch hown hts hG htab rfl hci hS ?_
    have hP := hS.1
    refine W.widen (k := 700) (n := 4000) (by first | exact Nat.le_refl _ | (dsimp only [rm_X0_doIt]; omega)) (by first | exact Nat.le_refl _ | (dsimp only [rm_X0_doIt]; omega)) ?_
    refine lv_astore (lv' := [(5, .ref q_), (0, .ref (ax 0)), (1, .int a1), (2, .int a2), (3, .int a3), (4, .int a4)]) hx hb dX0_actFar_10 hl (by decide) rfl (fun ls hl => ?_)
    refine lv_ldc (v := 1000000000) hx hb hown (hts _ q895) dX0_actFar_12 ?_
    refine lv_aload_n hx hb dX0_actFar_14 rfl (lv_at hl 1 rfl) ?_
    refine lv_aload hx hb dX0_actFar_15 (lv_at hl 0 rfl) ?_
    refine fw_number hx hb hml hown hts q987 hG hci (hP.pick [26] rfl) hl.1 (Nat.le_of_ble_eq_true rfl) (Nat.le_of_ble_eq_true rfl) (Nat.le_of_ble_eq_true rfl) dX0_actFar_17 ⟨Nat.le_of_ble_eq_true rfl, Nat.le_of_ble_eq_true rfl⟩ ?_
    obtain ⟨o2, ho2, hr⟩ := br_bind hr
    refine fwWV (As := [.int o1.1]) (rest := [.int 1000000000]) (C := RX0) hx hb hml hown hts (m_X0_refuse l D ax ac o1.2 o1.1 _ o2 ho2) (cw_X0_refuse hts q996 ⟨Nat.le_of_ble_eq_true rfl, Nat.le_of_ble_eq_true rfl⟩) hG hS hA ixX nd_X (pk_XS ax ac _ _) (ad_X ax ac _ _) 0 0 rfl rfl rfl hl.1 rfl (Nat.le_of_ble_eq_true rfl) dX0_actFar_20 ⟨Nat.le_of_ble_eq_true rfl, Nat.le_of_ble_eq_true rfl⟩ (wn := wX ax ac o2.2 ++ [(q_, .inr (ci_, [.int o1.1]))]) (rep_XS ax ac _ _ _) (fun H locs hS => ?_)
    have hP := hS.1
    refine lv_isub hx hb dX0_actFar_23 ?_
    obtain rfl := Option.some.inj hr
    have hS := hS.perm (ws' := wX ax ac o2.2) [0, 1, 2, 3, 4, 5, 6, 7, 8, 9, 10, 11, 12, 13, 14, 15, 16, 17, 18, 19, 20, 21, 22, 23, 24, 25] (by decide) rfl
    refine W.widen (k := rm_X0_actFar.cells) (n := rm_X0_actFar.slots) (Nat.le_of_ble_eq_true rfl) (Nat.le_of_ble_eq_true rfl) ?_
    exact W.iret hx hb hrt (fun t ht _ => hS.q ht rfl) hS.2.2.2.2 dX0_actFar_24 hlk
  refine fwTVo (As := [.int a1, .int a2, .int a3, .int a4]) (rest := []) (C := RX0) hx hb hml hown hts (m_X0_doIt l hst D ax ac g a1 a2 a3 a4 _ _ ho1) (cw_X0_doIt hts q299 ⟨Nat.le_of_ble_eq_true rfl, Nat.le_of_ble_eq_true rfl⟩) hG hZ hS hA ixX nd_X (pk_X ax ac _) (ad_X ax ac _ _) 0 0 rfl rfl rfl hl.1 rfl (Nat.le_of_ble_eq_true rfl) dX0_actFar_6 ⟨Nat.le_of_ble_eq_true rfl, Nat.le_of_ble_eq_true rfl⟩ (wn := wX ax ac o1.2) (rep_X ax ac _ _) (fun H locs hS => ?_)
  have hP := hS.1
  refine W.widen (k := 700) (n := 4000) (by first | exact Nat.le_refl _ | (dsimp only [rm_X0_doIt]; omega)) (by first | exact Nat.le_refl _ | (dsimp only [rm_X0_doIt]; omega)) ?_
  obtain rfl := Option.some.inj hr
  refine W.widen (k := rm_X0_actFar.cells) (n := rm_X0_actFar.slots) (Nat.le_of_ble_eq_true rfl) (Nat.le_of_ble_eq_true rfl) ?_
  exact W.iret hx hb hrt (fun t ht _ => hS.q ht rfl) hS.2.2.2.2 dX0_actFar_9 hlk
def f_X0_letter (g : XS) (a1 : Int32) : Option ((Int32 × XS) ⊕ (Int32 × XS)) := Option.bind (f_X0_act g (0 : Int32) a1 (0 : Int32) (0 : Int32)) fun o1 => some (Sum.inl (o1.1, o1.2))
abbrev rm_X0_letter : Room := ({ frames := 44, cells := 700, slots := 4000, locals := 2097 })
theorem cw_X0_letter {R : Room} {s : State} {args : Array Value} {own : String} {index : Nat} (hts : ∀ w ∈ lw_all, w.before args s = true) (hlink : Cond.methodLink own index yX0_letter ∈ lw_all) (hR : rm_X0_letter.frames + 1 ≤ R.frames ∧ 8 + (2 + 11) + rm_X0_letter.locals ≤ R.locals) : CallW R s args own RX0 index yX0_letter cX0_letter 2 (some FieldType.int) (ws_ yX0_letter cX0_letter 2 (some FieldType.int)) rm_X0_letter rm_X0_letter.cells rm_X0_letter.slots 1 :=
  cwV 1 hts (lw_V hlink q291 q292 q102 q293) rfl rfl rfl (by decide +kernel) hR
set_option maxHeartbeats 4000000 in
theorem m_X0_letter (l : Launch) (hst : l.stackTraces = false) (D : va_G) (ax : Nat → Nat) (ac : Nat → ClassId) (g : XS) (a1 : Int32) (sz : Nat) (r0 : (Int32 × XS) ⊕ (Int32 × XS)) (hr : f_X0_letter g a1 = some r0) : TM l yX0_letter cX0_letter 2 (some FieldType.int) rm_X0_letter [.ref (ax 0), .int a1] D ac (wX ax ac g) sz (Sum.map (fun u => (wX ax ac u.2, (some (.int u.1)))) (fun u => (wX ax ac u.2, u.1)) r0) := by
  generalize hoc : (Sum.map (fun u => (wX ax ac u.2, (some (.int u.1)))) (fun u => (wX ax ac u.2, u.1)) r0 : Oc) = oc
  refine fw_ofT (by decide) (Nat.le_of_ble_eq_true rfl) ?_
  intro p e s m below meth c ls hx hb hrt hts hown hlk hml _ hnt hU hl
  obtain ⟨⟨rfl, hP, hG, hD⟩, hZ⟩ := hU
  have hA : ∀ q : Nat, s.heap.size ≤ q → (va_A (wX ax ac g) s.heap.size) q := fun q h => Or.inr h
  have hS := Stt.start hP hD
  show WT p l e rm_X0_letter s m [.ref (ax 0), .int a1] below meth c D (va_A (wX ax ac g) s.heap.size) oc s.heap [] 0 0 0 ls []
  have hl : lv_has ls 2 [(0, .ref (ax 0)), (1, .int a1)] := hl
  rw [f_X0_letter] at hr
  refine lv_aload_n hx hb dX0_letter_0 rfl (lv_at hl 0 rfl) ?_
  refine lv_iconst (v := 0) hx hb dX0_letter_1 rfl ?_
  refine lv_iload_n hx hb dX0_letter_2 rfl (lv_at hl 1 rfl) ?_
  refine lv_iconst (v := 0) hx hb dX0_letter_3 rfl ?_
  refine lv_iconst (v := 0) hx hb dX0_letter_4 rfl ?_
  obtain ⟨o1, ho1, hr⟩ := br_bind hr
  refine fwHV (As := [.int 0, .int a1, .int 0, .int 0]) (rest := []) (C := RX0) hx hb hml hown hts (m_X0_act l hst D ax ac g (0 : Int32) a1 (0 : Int32) (0 : Int32) _ o1 ho1) (cw_X0_act hts q294 ⟨Nat.le_of_ble_eq_true rfl, Nat.le_of_ble_eq_true rfl⟩) hG hZ hS hA ixX nd_X (pk_X ax ac _) (ad_X ax ac _ _) 0 0 rfl rfl rfl hl.1 rfl (Nat.le_of_ble_eq_true rfl) dX0_letter_5 ⟨Nat.le_of_ble_eq_true rfl, Nat.le_of_ble_eq_true rfl⟩ (wn := wX ax ac o1.2) (rep_X ax ac _ _) (fun H locs hS => ?_)
  have hP := hS.1
  refine W.widen (k := 700) (n := 4000) (by first | exact Nat.le_refl _ | (dsimp only [rm_X0_act]; omega)) (by first | exact Nat.le_refl _ | (dsimp only [rm_X0_act]; omega)) ?_
  obtain rfl := Option.some.inj hr
  refine W.widen (k := rm_X0_letter.cells) (n := rm_X0_letter.slots) (Nat.le_of_ble_eq_true rfl) (Nat.le_of_ble_eq_true rfl) ?_
  subst hoc
  exact xx_ret (W.iret hx hb hrt (fun t ht _ => hS.q ht rfl) hS.2.2.2.2 dX0_letter_8 hlk)
def f_X0_core (g : XS) : Option ((Int32 × XS) ⊕ (Int32 × XS)) := Option.bind (f_X0_act g (1 : Int32) (0 : Int32) (0 : Int32) (0 : Int32)) fun o1 => some (Sum.inl (o1.1, o1.2))
abbrev rm_X0_core : Room := ({ frames := 44, cells := 700, slots := 4000, locals := 2097 })
theorem cw_X0_core {R : Room} {s : State} {args : Array Value} {own : String} {index : Nat} (hts : ∀ w ∈ lw_all, w.before args s = true) (hlink : Cond.methodLink own index yX0_core ∈ lw_all) (hR : rm_X0_core.frames + 1 ≤ R.frames ∧ 8 + (1 + 11) + rm_X0_core.locals ≤ R.locals) : CallW R s args own RX0 index yX0_core cX0_core 1 (some FieldType.int) (ws_ yX0_core cX0_core 1 (some FieldType.int)) rm_X0_core rm_X0_core.cells rm_X0_core.slots 0 :=
  cwV 0 hts (lw_V hlink q1001 q1002 q102 q1003) rfl rfl rfl (by decide +kernel) hR
set_option maxHeartbeats 4000000 in
theorem m_X0_core (l : Launch) (hst : l.stackTraces = false) (D : va_G) (ax : Nat → Nat) (ac : Nat → ClassId) (g : XS) (sz : Nat) (r0 : (Int32 × XS) ⊕ (Int32 × XS)) (hr : f_X0_core g = some r0) : TM l yX0_core cX0_core 1 (some FieldType.int) rm_X0_core [.ref (ax 0)] D ac (wX ax ac g) sz (Sum.map (fun u => (wX ax ac u.2, (some (.int u.1)))) (fun u => (wX ax ac u.2, u.1)) r0) := by
  generalize hoc : (Sum.map (fun u => (wX ax ac u.2, (some (.int u.1)))) (fun u => (wX ax ac u.2, u.1)) r0 : Oc) = oc
  refine fw_ofT (by decide) (Nat.le_of_ble_eq_true rfl) ?_
  intro p e s m below meth c ls hx hb hrt hts hown hlk hml _ hnt hU hl
  obtain ⟨⟨rfl, hP, hG, hD⟩, hZ⟩ := hU
  have hA : ∀ q : Nat, s.heap.size ≤ q → (va_A (wX ax ac g) s.heap.size) q := fun q h => Or.inr h
  have hS := Stt.start hP hD
  show WT p l e rm_X0_core s m [.ref (ax 0)] below meth c D (va_A (wX ax ac g) s.heap.size) oc s.heap [] 0 0 0 ls []
  have hl : lv_has ls 1 [(0, .ref (ax 0))] := hl
  rw [f_X0_core] at hr
  refine lv_aload_n hx hb dX0_core_0 rfl (lv_at hl 0 rfl) ?_
  refine lv_iconst (v := 1) hx hb dX0_core_1 rfl ?_
  refine lv_iconst (v := 0) hx hb dX0_core_2 rfl ?_
  refine lv_iconst (v := 0) hx hb dX0_core_3 rfl ?_
  refine lv_iconst (v := 0) hx hb dX0_core_4 rfl ?_
  obtain ⟨o1, ho1, hr⟩ := br_bind hr
  refine fwHV (As := [.int 1, .int 0, .int 0, .int 0]) (rest := []) (C := RX0) hx hb hml hown hts (m_X0_act l hst D ax ac g (1 : Int32) (0 : Int32) (0 : Int32) (0 : Int32) _ o1 ho1) (cw_X0_act hts q294 ⟨Nat.le_of_ble_eq_true rfl, Nat.le_of_ble_eq_true rfl⟩) hG hZ hS hA ixX nd_X (pk_X ax ac _) (ad_X ax ac _ _) 0 0 rfl rfl rfl hl.1 rfl (Nat.le_of_ble_eq_true rfl) dX0_core_5 ⟨Nat.le_of_ble_eq_true rfl, Nat.le_of_ble_eq_true rfl⟩ (wn := wX ax ac o1.2) (rep_X ax ac _ _) (fun H locs hS => ?_)
  have hP := hS.1
  refine W.widen (k := 700) (n := 4000) (by first | exact Nat.le_refl _ | (dsimp only [rm_X0_act]; omega)) (by first | exact Nat.le_refl _ | (dsimp only [rm_X0_act]; omega)) ?_
  obtain rfl := Option.some.inj hr
  refine W.widen (k := rm_X0_core.cells) (n := rm_X0_core.slots) (Nat.le_of_ble_eq_true rfl) (Nat.le_of_ble_eq_true rfl) ?_
  subst hoc
  exact xx_ret (W.iret hx hb hrt (fun t ht _ => hS.q ht rfl) hS.2.2.2.2 dX0_core_8 hlk)
def f_X0_cell (g : XS) (a1 : Int32) (a2 : Int32) : Option ((Int32 × XS) ⊕ (Int32 × XS)) := Option.bind (f_X0_act g (2 : Int32) a1 a2 (0 : Int32)) fun o1 => some (Sum.inl (o1.1, o1.2))
abbrev rm_X0_cell : Room := ({ frames := 44, cells := 700, slots := 4000, locals := 2097 })
theorem cw_X0_cell {R : Room} {s : State} {args : Array Value} {own : String} {index : Nat} (hts : ∀ w ∈ lw_all, w.before args s = true) (hlink : Cond.methodLink own index yX0_cell ∈ lw_all) (hR : rm_X0_cell.frames + 1 ≤ R.frames ∧ 8 + (3 + 11) + rm_X0_cell.locals ≤ R.locals) : CallW R s args own RX0 index yX0_cell cX0_cell 3 (some FieldType.int) (ws_ yX0_cell cX0_cell 3 (some FieldType.int)) rm_X0_cell rm_X0_cell.cells rm_X0_cell.slots 2 :=
  cwV 2 hts (lw_V hlink q1005 q1006 q102 q1007) rfl rfl rfl (by decide +kernel) hR
set_option maxHeartbeats 4000000 in
theorem m_X0_cell (l : Launch) (hst : l.stackTraces = false) (D : va_G) (ax : Nat → Nat) (ac : Nat → ClassId) (g : XS) (a1 : Int32) (a2 : Int32) (sz : Nat) (r0 : (Int32 × XS) ⊕ (Int32 × XS)) (hr : f_X0_cell g a1 a2 = some r0) : TM l yX0_cell cX0_cell 3 (some FieldType.int) rm_X0_cell [.ref (ax 0), .int a1, .int a2] D ac (wX ax ac g) sz (Sum.map (fun u => (wX ax ac u.2, (some (.int u.1)))) (fun u => (wX ax ac u.2, u.1)) r0) := by
  generalize hoc : (Sum.map (fun u => (wX ax ac u.2, (some (.int u.1)))) (fun u => (wX ax ac u.2, u.1)) r0 : Oc) = oc
  refine fw_ofT (by decide) (Nat.le_of_ble_eq_true rfl) ?_
  intro p e s m below meth c ls hx hb hrt hts hown hlk hml _ hnt hU hl
  obtain ⟨⟨rfl, hP, hG, hD⟩, hZ⟩ := hU
  have hA : ∀ q : Nat, s.heap.size ≤ q → (va_A (wX ax ac g) s.heap.size) q := fun q h => Or.inr h
  have hS := Stt.start hP hD
  show WT p l e rm_X0_cell s m [.ref (ax 0), .int a1, .int a2] below meth c D (va_A (wX ax ac g) s.heap.size) oc s.heap [] 0 0 0 ls []
  have hl : lv_has ls 3 [(0, .ref (ax 0)), (1, .int a1), (2, .int a2)] := hl
  rw [f_X0_cell] at hr
  refine lv_aload_n hx hb dX0_cell_0 rfl (lv_at hl 0 rfl) ?_
  refine lv_iconst (v := 2) hx hb dX0_cell_1 rfl ?_
  refine lv_iload_n hx hb dX0_cell_2 rfl (lv_at hl 1 rfl) ?_
  refine lv_iload_n hx hb dX0_cell_3 rfl (lv_at hl 2 rfl) ?_
  refine lv_iconst (v := 0) hx hb dX0_cell_4 rfl ?_
  obtain ⟨o1, ho1, hr⟩ := br_bind hr
  refine fwHV (As := [.int 2, .int a1, .int a2, .int 0]) (rest := []) (C := RX0) hx hb hml hown hts (m_X0_act l hst D ax ac g (2 : Int32) a1 a2 (0 : Int32) _ o1 ho1) (cw_X0_act hts q294 ⟨Nat.le_of_ble_eq_true rfl, Nat.le_of_ble_eq_true rfl⟩) hG hZ hS hA ixX nd_X (pk_X ax ac _) (ad_X ax ac _ _) 0 0 rfl rfl rfl hl.1 rfl (Nat.le_of_ble_eq_true rfl) dX0_cell_5 ⟨Nat.le_of_ble_eq_true rfl, Nat.le_of_ble_eq_true rfl⟩ (wn := wX ax ac o1.2) (rep_X ax ac _ _) (fun H locs hS => ?_)
  have hP := hS.1
  refine W.widen (k := 700) (n := 4000) (by first | exact Nat.le_refl _ | (dsimp only [rm_X0_act]; omega)) (by first | exact Nat.le_refl _ | (dsimp only [rm_X0_act]; omega)) ?_
  obtain rfl := Option.some.inj hr
  refine W.widen (k := rm_X0_cell.cells) (n := rm_X0_cell.slots) (Nat.le_of_ble_eq_true rfl) (Nat.le_of_ble_eq_true rfl) ?_
  subst hoc
  exact xx_ret (W.iret hx hb hrt (fun t ht _ => hS.q ht rfl) hS.2.2.2.2 dX0_cell_8 hlk)
def f_X0_heir (g : XS) (a1 : Int32) (a2 : Int32) : Option ((Int32 × XS) ⊕ (Int32 × XS)) := Option.bind (f_X0_act g (3 : Int32) a1 a2 (0 : Int32)) fun o1 => some (Sum.inl (o1.1, o1.2))
abbrev rm_X0_heir : Room := ({ frames := 44, cells := 700, slots := 4000, locals := 2097 })
theorem cw_X0_heir {R : Room} {s : State} {args : Array Value} {own : String} {index : Nat} (hts : ∀ w ∈ lw_all, w.before args s = true) (hlink : Cond.methodLink own index yX0_heir ∈ lw_all) (hR : rm_X0_heir.frames + 1 ≤ R.frames ∧ 8 + (3 + 11) + rm_X0_heir.locals ≤ R.locals) : CallW R s args own RX0 index yX0_heir cX0_heir 3 (some FieldType.int) (ws_ yX0_heir cX0_heir 3 (some FieldType.int)) rm_X0_heir rm_X0_heir.cells rm_X0_heir.slots 2 :=
  cwV 2 hts (lw_V hlink q1009 q1010 q102 q1011) rfl rfl rfl (by decide +kernel) hR
set_option maxHeartbeats 4000000 in
theorem m_X0_heir (l : Launch) (hst : l.stackTraces = false) (D : va_G) (ax : Nat → Nat) (ac : Nat → ClassId) (g : XS) (a1 : Int32) (a2 : Int32) (sz : Nat) (r0 : (Int32 × XS) ⊕ (Int32 × XS)) (hr : f_X0_heir g a1 a2 = some r0) : TM l yX0_heir cX0_heir 3 (some FieldType.int) rm_X0_heir [.ref (ax 0), .int a1, .int a2] D ac (wX ax ac g) sz (Sum.map (fun u => (wX ax ac u.2, (some (.int u.1)))) (fun u => (wX ax ac u.2, u.1)) r0) := by
  generalize hoc : (Sum.map (fun u => (wX ax ac u.2, (some (.int u.1)))) (fun u => (wX ax ac u.2, u.1)) r0 : Oc) = oc
  refine fw_ofT (by decide) (Nat.le_of_ble_eq_true rfl) ?_
  intro p e s m below meth c ls hx hb hrt hts hown hlk hml _ hnt hU hl
  obtain ⟨⟨rfl, hP, hG, hD⟩, hZ⟩ := hU
  have hA : ∀ q : Nat, s.heap.size ≤ q → (va_A (wX ax ac g) s.heap.size) q := fun q h => Or.inr h
  have hS := Stt.start hP hD
  show WT p l e rm_X0_heir s m [.ref (ax 0), .int a1, .int a2] below meth c D (va_A (wX ax ac g) s.heap.size) oc s.heap [] 0 0 0 ls []
  have hl : lv_has ls 3 [(0, .ref (ax 0)), (1, .int a1), (2, .int a2)] := hl
  rw [f_X0_heir] at hr
  refine lv_aload_n hx hb dX0_heir_0 rfl (lv_at hl 0 rfl) ?_
  refine lv_iconst (v := 3) hx hb dX0_heir_1 rfl ?_
  refine lv_iload_n hx hb dX0_heir_2 rfl (lv_at hl 1 rfl) ?_
  refine lv_iload_n hx hb dX0_heir_3 rfl (lv_at hl 2 rfl) ?_
  refine lv_iconst (v := 0) hx hb dX0_heir_4 rfl ?_
  obtain ⟨o1, ho1, hr⟩ := br_bind hr
  refine fwHV (As := [.int 3, .int a1, .int a2, .int 0]) (rest := []) (C := RX0) hx hb hml hown hts (m_X0_act l hst D ax ac g (3 : Int32) a1 a2 (0 : Int32) _ o1 ho1) (cw_X0_act hts q294 ⟨Nat.le_of_ble_eq_true rfl, Nat.le_of_ble_eq_true rfl⟩) hG hZ hS hA ixX nd_X (pk_X ax ac _) (ad_X ax ac _ _) 0 0 rfl rfl rfl hl.1 rfl (Nat.le_of_ble_eq_true rfl) dX0_heir_5 ⟨Nat.le_of_ble_eq_true rfl, Nat.le_of_ble_eq_true rfl⟩ (wn := wX ax ac o1.2) (rep_X ax ac _ _) (fun H locs hS => ?_)
  have hP := hS.1
  refine W.widen (k := 700) (n := 4000) (by first | exact Nat.le_refl _ | (dsimp only [rm_X0_act]; omega)) (by first | exact Nat.le_refl _ | (dsimp only [rm_X0_act]; omega)) ?_
  obtain rfl := Option.some.inj hr
  refine W.widen (k := rm_X0_heir.cells) (n := rm_X0_heir.slots) (Nat.le_of_ble_eq_true rfl) (Nat.le_of_ble_eq_true rfl) ?_
  subst hoc
  exact xx_ret (W.iret hx hb hrt (fun t ht _ => hS.q ht rfl) hS.2.2.2.2 dX0_heir_8 hlk)
def f_X0_bites (g : XS) (a1 : Int32) (a2 : Int32) : Option ((Int32 × XS) ⊕ (Int32 × XS)) := Option.bind (f_X0_act g (4 : Int32) a1 a2 (0 : Int32)) fun o1 => some (Sum.inl (o1.1, o1.2))
abbrev rm_X0_bites : Room := ({ frames := 44, cells := 700, slots := 4000, locals := 2097 })
theorem cw_X0_bites {R : Room} {s : State} {args : Array Value} {own : String} {index : Nat} (hts : ∀ w ∈ lw_all, w.before args s = true) (hlink : Cond.methodLink own index yX0_bites ∈ lw_all) (hR : rm_X0_bites.frames + 1 ≤ R.frames ∧ 8 + (3 + 11) + rm_X0_bites.locals ≤ R.locals) : CallW R s args own RX0 index yX0_bites cX0_bites 3 (some FieldType.int) (ws_ yX0_bites cX0_bites 3 (some FieldType.int)) rm_X0_bites rm_X0_bites.cells rm_X0_bites.slots 2 :=
  cwV 2 hts (lw_V hlink q1013 q1014 q102 q1015) rfl rfl rfl (by decide +kernel) hR
set_option maxHeartbeats 4000000 in
theorem m_X0_bites (l : Launch) (hst : l.stackTraces = false) (D : va_G) (ax : Nat → Nat) (ac : Nat → ClassId) (g : XS) (a1 : Int32) (a2 : Int32) (sz : Nat) (r0 : (Int32 × XS) ⊕ (Int32 × XS)) (hr : f_X0_bites g a1 a2 = some r0) : TM l yX0_bites cX0_bites 3 (some FieldType.int) rm_X0_bites [.ref (ax 0), .int a1, .int a2] D ac (wX ax ac g) sz (Sum.map (fun u => (wX ax ac u.2, (some (.int u.1)))) (fun u => (wX ax ac u.2, u.1)) r0) := by
  generalize hoc : (Sum.map (fun u => (wX ax ac u.2, (some (.int u.1)))) (fun u => (wX ax ac u.2, u.1)) r0 : Oc) = oc
  refine fw_ofT (by decide) (Nat.le_of_ble_eq_true rfl) ?_
  intro p e s m below meth c ls hx hb hrt hts hown hlk hml _ hnt hU hl
  obtain ⟨⟨rfl, hP, hG, hD⟩, hZ⟩ := hU
  have hA : ∀ q : Nat, s.heap.size ≤ q → (va_A (wX ax ac g) s.heap.size) q := fun q h => Or.inr h
  have hS := Stt.start hP hD
  show WT p l e rm_X0_bites s m [.ref (ax 0), .int a1, .int a2] below meth c D (va_A (wX ax ac g) s.heap.size) oc s.heap [] 0 0 0 ls []
  have hl : lv_has ls 3 [(0, .ref (ax 0)), (1, .int a1), (2, .int a2)] := hl
  rw [f_X0_bites] at hr
  refine lv_aload_n hx hb dX0_bites_0 rfl (lv_at hl 0 rfl) ?_
  refine lv_iconst (v := 4) hx hb dX0_bites_1 rfl ?_
  refine lv_iload_n hx hb dX0_bites_2 rfl (lv_at hl 1 rfl) ?_
  refine lv_iload_n hx hb dX0_bites_3 rfl (lv_at hl 2 rfl) ?_
  refine lv_iconst (v := 0) hx hb dX0_bites_4 rfl ?_
  obtain ⟨o1, ho1, hr⟩ := br_bind hr
  refine fwHV (As := [.int 4, .int a1, .int a2, .int 0]) (rest := []) (C := RX0) hx hb hml hown hts (m_X0_act l hst D ax ac g (4 : Int32) a1 a2 (0 : Int32) _ o1 ho1) (cw_X0_act hts q294 ⟨Nat.le_of_ble_eq_true rfl, Nat.le_of_ble_eq_true rfl⟩) hG hZ hS hA ixX nd_X (pk_X ax ac _) (ad_X ax ac _ _) 0 0 rfl rfl rfl hl.1 rfl (Nat.le_of_ble_eq_true rfl) dX0_bites_5 ⟨Nat.le_of_ble_eq_true rfl, Nat.le_of_ble_eq_true rfl⟩ (wn := wX ax ac o1.2) (rep_X ax ac _ _) (fun H locs hS => ?_)
  have hP := hS.1
  refine W.widen (k := 700) (n := 4000) (by first | exact Nat.le_refl _ | (dsimp only [rm_X0_act]; omega)) (by first | exact Nat.le_refl _ | (dsimp only [rm_X0_act]; omega)) ?_
  obtain rfl := Option.some.inj hr
  refine W.widen (k := rm_X0_bites.cells) (n := rm_X0_bites.slots) (Nat.le_of_ble_eq_true rfl) (Nat.le_of_ble_eq_true rfl) ?_
  subst hoc
  exact xx_ret (W.iret hx hb hrt (fun t ht _ => hS.q ht rfl) hS.2.2.2.2 dX0_bites_8 hlk)
def f_X0_heals (g : XS) (a1 : Int32) : Option ((Int32 × XS) ⊕ (Int32 × XS)) := Option.bind (f_X0_act g (5 : Int32) a1 (0 : Int32) (0 : Int32)) fun o1 => some (Sum.inl (o1.1, o1.2))
abbrev rm_X0_heals : Room := ({ frames := 44, cells := 700, slots := 4000, locals := 2097 })
theorem cw_X0_heals {R : Room} {s : State} {args : Array Value} {own : String} {index : Nat} (hts : ∀ w ∈ lw_all, w.before args s = true) (hlink : Cond.methodLink own index yX0_heals ∈ lw_all) (hR : rm_X0_heals.frames + 1 ≤ R.frames ∧ 8 + (2 + 11) + rm_X0_heals.locals ≤ R.locals) : CallW R s args own RX0 index yX0_heals cX0_heals 2 (some FieldType.int) (ws_ yX0_heals cX0_heals 2 (some FieldType.int)) rm_X0_heals rm_X0_heals.cells rm_X0_heals.slots 1 :=
  cwV 1 hts (lw_V hlink q1017 q1018 q102 q1019) rfl rfl rfl (by decide +kernel) hR
set_option maxHeartbeats 4000000 in
theorem m_X0_heals (l : Launch) (hst : l.stackTraces = false) (D : va_G) (ax : Nat → Nat) (ac : Nat → ClassId) (g : XS) (a1 : Int32) (sz : Nat) (r0 : (Int32 × XS) ⊕ (Int32 × XS)) (hr : f_X0_heals g a1 = some r0) : TM l yX0_heals cX0_heals 2 (some FieldType.int) rm_X0_heals [.ref (ax 0), .int a1] D ac (wX ax ac g) sz (Sum.map (fun u => (wX ax ac u.2, (some (.int u.1)))) (fun u => (wX ax ac u.2, u.1)) r0) := by
  generalize hoc : (Sum.map (fun u => (wX ax ac u.2, (some (.int u.1)))) (fun u => (wX ax ac u.2, u.1)) r0 : Oc) = oc
  refine fw_ofT (by decide) (Nat.le_of_ble_eq_true rfl) ?_
  intro p e s m below meth c ls hx hb hrt hts hown hlk hml _ hnt hU hl
  obtain ⟨⟨rfl, hP, hG, hD⟩, hZ⟩ := hU
  have hA : ∀ q : Nat, s.heap.size ≤ q → (va_A (wX ax ac g) s.heap.size) q := fun q h => Or.inr h
  have hS := Stt.start hP hD
  show WT p l e rm_X0_heals s m [.ref (ax 0), .int a1] below meth c D (va_A (wX ax ac g) s.heap.size) oc s.heap [] 0 0 0 ls []
  have hl : lv_has ls 2 [(0, .ref (ax 0)), (1, .int a1)] := hl
  rw [f_X0_heals] at hr
  refine lv_aload_n hx hb dX0_heals_0 rfl (lv_at hl 0 rfl) ?_
  refine lv_iconst (v := 5) hx hb dX0_heals_1 rfl ?_
  refine lv_iload_n hx hb dX0_heals_2 rfl (lv_at hl 1 rfl) ?_
  refine lv_iconst (v := 0) hx hb dX0_heals_3 rfl ?_
  refine lv_iconst (v := 0) hx hb dX0_heals_4 rfl ?_
  obtain ⟨o1, ho1, hr⟩ := br_bind hr
  refine fwHV (As := [.int 5, .int a1, .int 0, .int 0]) (rest := []) (C := RX0) hx hb hml hown hts (m_X0_act l hst D ax ac g (5 : Int32) a1 (0 : Int32) (0 : Int32) _ o1 ho1) (cw_X0_act hts q294 ⟨Nat.le_of_ble_eq_true rfl, Nat.le_of_ble_eq_true rfl⟩) hG hZ hS hA ixX nd_X (pk_X ax ac _) (ad_X ax ac _ _) 0 0 rfl rfl rfl hl.1 rfl (Nat.le_of_ble_eq_true rfl) dX0_heals_5 ⟨Nat.le_of_ble_eq_true rfl, Nat.le_of_ble_eq_true rfl⟩ (wn := wX ax ac o1.2) (rep_X ax ac _ _) (fun H locs hS => ?_)
  have hP := hS.1
  refine W.widen (k := 700) (n := 4000) (by first | exact Nat.le_refl _ | (dsimp only [rm_X0_act]; omega)) (by first | exact Nat.le_refl _ | (dsimp only [rm_X0_act]; omega)) ?_
  obtain rfl := Option.some.inj hr
  refine W.widen (k := rm_X0_heals.cells) (n := rm_X0_heals.slots) (Nat.le_of_ble_eq_true rfl) (Nat.le_of_ble_eq_true rfl) ?_
  subst hoc
  exact xx_ret (W.iret hx hb hrt (fun t ht _ => hS.q ht rfl) hS.2.2.2.2 dX0_heals_8 hlk)
def f_X0_rolls (g : XS) (a1 : Int32) : Option ((Int32 × XS) ⊕ (Int32 × XS)) := Option.bind (f_X0_act g (6 : Int32) a1 (0 : Int32) (0 : Int32)) fun o1 => some (Sum.inl (o1.1, o1.2))
abbrev rm_X0_rolls : Room := ({ frames := 44, cells := 700, slots := 4000, locals := 2097 })
theorem cw_X0_rolls {R : Room} {s : State} {args : Array Value} {own : String} {index : Nat} (hts : ∀ w ∈ lw_all, w.before args s = true) (hlink : Cond.methodLink own index yX0_rolls ∈ lw_all) (hR : rm_X0_rolls.frames + 1 ≤ R.frames ∧ 8 + (2 + 11) + rm_X0_rolls.locals ≤ R.locals) : CallW R s args own RX0 index yX0_rolls cX0_rolls 2 (some FieldType.int) (ws_ yX0_rolls cX0_rolls 2 (some FieldType.int)) rm_X0_rolls rm_X0_rolls.cells rm_X0_rolls.slots 1 :=
  cwV 1 hts (lw_V hlink q1021 q1022 q102 q1023) rfl rfl rfl (by decide +kernel) hR
set_option maxHeartbeats 4000000 in
theorem m_X0_rolls (l : Launch) (hst : l.stackTraces = false) (D : va_G) (ax : Nat → Nat) (ac : Nat → ClassId) (g : XS) (a1 : Int32) (sz : Nat) (r0 : (Int32 × XS) ⊕ (Int32 × XS)) (hr : f_X0_rolls g a1 = some r0) : TM l yX0_rolls cX0_rolls 2 (some FieldType.int) rm_X0_rolls [.ref (ax 0), .int a1] D ac (wX ax ac g) sz (Sum.map (fun u => (wX ax ac u.2, (some (.int u.1)))) (fun u => (wX ax ac u.2, u.1)) r0) := by
  generalize hoc : (Sum.map (fun u => (wX ax ac u.2, (some (.int u.1)))) (fun u => (wX ax ac u.2, u.1)) r0 : Oc) = oc
  refine fw_ofT (by decide) (Nat.le_of_ble_eq_true rfl) ?_
  intro p e s m below meth c ls hx hb hrt hts hown hlk hml _ hnt hU hl
  obtain ⟨⟨rfl, hP, hG, hD⟩, hZ⟩ := hU
  have hA : ∀ q : Nat, s.heap.size ≤ q → (va_A (wX ax ac g) s.heap.size) q := fun q h => Or.inr h
  have hS := Stt.start hP hD
  show WT p l e rm_X0_rolls s m [.ref (ax 0), .int a1] below meth c D (va_A (wX ax ac g) s.heap.size) oc s.heap [] 0 0 0 ls []
  have hl : lv_has ls 2 [(0, .ref (ax 0)), (1, .int a1)] := hl
  rw [f_X0_rolls] at hr
  refine lv_aload_n hx hb dX0_rolls_0 rfl (lv_at hl 0 rfl) ?_
  refine lv_bipush (v := 6) hx hb dX0_rolls_1 rfl ?_
  refine lv_iload_n hx hb dX0_rolls_3 rfl (lv_at hl 1 rfl) ?_
  refine lv_iconst (v := 0) hx hb dX0_rolls_4 rfl ?_
  refine lv_iconst (v := 0) hx hb dX0_rolls_5 rfl ?_
  obtain ⟨o1, ho1, hr⟩ := br_bind hr
  refine fwHV (As := [.int 6, .int a1, .int 0, .int 0]) (rest := []) (C := RX0) hx hb hml hown hts (m_X0_act l hst D ax ac g (6 : Int32) a1 (0 : Int32) (0 : Int32) _ o1 ho1) (cw_X0_act hts q294 ⟨Nat.le_of_ble_eq_true rfl, Nat.le_of_ble_eq_true rfl⟩) hG hZ hS hA ixX nd_X (pk_X ax ac _) (ad_X ax ac _ _) 0 0 rfl rfl rfl hl.1 rfl (Nat.le_of_ble_eq_true rfl) dX0_rolls_6 ⟨Nat.le_of_ble_eq_true rfl, Nat.le_of_ble_eq_true rfl⟩ (wn := wX ax ac o1.2) (rep_X ax ac _ _) (fun H locs hS => ?_)
  have hP := hS.1
  refine W.widen (k := 700) (n := 4000) (by first | exact Nat.le_refl _ | (dsimp only [rm_X0_act]; omega)) (by first | exact Nat.le_refl _ | (dsimp only [rm_X0_act]; omega)) ?_
  obtain rfl := Option.some.inj hr
  refine W.widen (k := rm_X0_rolls.cells) (n := rm_X0_rolls.slots) (Nat.le_of_ble_eq_true rfl) (Nat.le_of_ble_eq_true rfl) ?_
  subst hoc
  exact xx_ret (W.iret hx hb hrt (fun t ht _ => hS.q ht rfl) hS.2.2.2.2 dX0_rolls_9 hlk)
def f_X0_turn (g : XS) (a1 : Int32) (a2 : Int32) (a3 : Int32) : Option ((Int32 × XS) ⊕ (Int32 × XS)) := Option.bind (f_X0_act g (7 : Int32) a1 a2 a3) fun o1 => some (Sum.inl (o1.1, o1.2))
abbrev rm_X0_turn : Room := ({ frames := 44, cells := 700, slots := 4000, locals := 2097 })
theorem cw_X0_turn {R : Room} {s : State} {args : Array Value} {own : String} {index : Nat} (hts : ∀ w ∈ lw_all, w.before args s = true) (hlink : Cond.methodLink own index yX0_turn ∈ lw_all) (hR : rm_X0_turn.frames + 1 ≤ R.frames ∧ 8 + (4 + 11) + rm_X0_turn.locals ≤ R.locals) : CallW R s args own RX0 index yX0_turn cX0_turn 4 (some FieldType.int) (ws_ yX0_turn cX0_turn 4 (some FieldType.int)) rm_X0_turn rm_X0_turn.cells rm_X0_turn.slots 3 :=
  cwV 3 hts (lw_V hlink q1025 q1026 q102 q1027) rfl rfl rfl (by decide +kernel) hR
set_option maxHeartbeats 4000000 in
theorem m_X0_turn (l : Launch) (hst : l.stackTraces = false) (D : va_G) (ax : Nat → Nat) (ac : Nat → ClassId) (g : XS) (a1 : Int32) (a2 : Int32) (a3 : Int32) (sz : Nat) (r0 : (Int32 × XS) ⊕ (Int32 × XS)) (hr : f_X0_turn g a1 a2 a3 = some r0) : TM l yX0_turn cX0_turn 4 (some FieldType.int) rm_X0_turn [.ref (ax 0), .int a1, .int a2, .int a3] D ac (wX ax ac g) sz (Sum.map (fun u => (wX ax ac u.2, (some (.int u.1)))) (fun u => (wX ax ac u.2, u.1)) r0) := by
  generalize hoc : (Sum.map (fun u => (wX ax ac u.2, (some (.int u.1)))) (fun u => (wX ax ac u.2, u.1)) r0 : Oc) = oc
  refine fw_ofT (by decide) (Nat.le_of_ble_eq_true rfl) ?_
  intro p e s m below meth c ls hx hb hrt hts hown hlk hml _ hnt hU hl
  obtain ⟨⟨rfl, hP, hG, hD⟩, hZ⟩ := hU
  have hA : ∀ q : Nat, s.heap.size ≤ q → (va_A (wX ax ac g) s.heap.size) q := fun q h => Or.inr h
  have hS := Stt.start hP hD
  show WT p l e rm_X0_turn s m [.ref (ax 0), .int a1, .int a2, .int a3] below meth c D (va_A (wX ax ac g) s.heap.size) oc s.heap [] 0 0 0 ls []
  have hl : lv_has ls 4 [(0, .ref (ax 0)), (1, .int a1), (2, .int a2), (3, .int a3)] := hl
  rw [f_X0_turn] at hr
  refine lv_aload_n hx hb dX0_turn_0 rfl (lv_at hl 0 rfl) ?_
  refine lv_bipush (v := 7) hx hb dX0_turn_1 rfl ?_
  refine lv_iload_n hx hb dX0_turn_3 rfl (lv_at hl 1 rfl) ?_
  refine lv_iload_n hx hb dX0_turn_4 rfl (lv_at hl 2 rfl) ?_
  refine lv_iload_n hx hb dX0_turn_5 rfl (lv_at hl 3 rfl) ?_
  obtain ⟨o1, ho1, hr⟩ := br_bind hr
  refine fwHV (As := [.int 7, .int a1, .int a2, .int a3]) (rest := []) (C := RX0) hx hb hml hown hts (m_X0_act l hst D ax ac g (7 : Int32) a1 a2 a3 _ o1 ho1) (cw_X0_act hts q294 ⟨Nat.le_of_ble_eq_true rfl, Nat.le_of_ble_eq_true rfl⟩) hG hZ hS hA ixX nd_X (pk_X ax ac _) (ad_X ax ac _ _) 0 0 rfl rfl rfl hl.1 rfl (Nat.le_of_ble_eq_true rfl) dX0_turn_6 ⟨Nat.le_of_ble_eq_true rfl, Nat.le_of_ble_eq_true rfl⟩ (wn := wX ax ac o1.2) (rep_X ax ac _ _) (fun H locs hS => ?_)
  have hP := hS.1
  refine W.widen (k := 700) (n := 4000) (by first | exact Nat.le_refl _ | (dsimp only [rm_X0_act]; omega)) (by first | exact Nat.le_refl _ | (dsimp only [rm_X0_act]; omega)) ?_
  obtain rfl := Option.some.inj hr
  refine W.widen (k := rm_X0_turn.cells) (n := rm_X0_turn.slots) (Nat.le_of_ble_eq_true rfl) (Nat.le_of_ble_eq_true rfl) ?_
  subst hoc
  exact xx_ret (W.iret hx hb hrt (fun t ht _ => hS.q ht rfl) hS.2.2.2.2 dX0_turn_9 hlk)
def f_X0_anew (g : XS) : Option ((Int32 × XS) ⊕ (Int32 × XS)) := Option.bind (f_X0_act g (8 : Int32) (0 : Int32) (0 : Int32) (0 : Int32)) fun o1 => some (Sum.inl (o1.1, o1.2))
abbrev rm_X0_anew : Room := ({ frames := 44, cells := 700, slots := 4000, locals := 2097 })
theorem cw_X0_anew {R : Room} {s : State} {args : Array Value} {own : String} {index : Nat} (hts : ∀ w ∈ lw_all, w.before args s = true) (hlink : Cond.methodLink own index yX0_anew ∈ lw_all) (hR : rm_X0_anew.frames + 1 ≤ R.frames ∧ 8 + (1 + 11) + rm_X0_anew.locals ≤ R.locals) : CallW R s args own RX0 index yX0_anew cX0_anew 1 (some FieldType.int) (ws_ yX0_anew cX0_anew 1 (some FieldType.int)) rm_X0_anew rm_X0_anew.cells rm_X0_anew.slots 0 :=
  cwV 0 hts (lw_V hlink q1029 q1030 q102 q1031) rfl rfl rfl (by decide +kernel) hR
set_option maxHeartbeats 4000000 in
theorem m_X0_anew (l : Launch) (hst : l.stackTraces = false) (D : va_G) (ax : Nat → Nat) (ac : Nat → ClassId) (g : XS) (sz : Nat) (r0 : (Int32 × XS) ⊕ (Int32 × XS)) (hr : f_X0_anew g = some r0) : TM l yX0_anew cX0_anew 1 (some FieldType.int) rm_X0_anew [.ref (ax 0)] D ac (wX ax ac g) sz (Sum.map (fun u => (wX ax ac u.2, (some (.int u.1)))) (fun u => (wX ax ac u.2, u.1)) r0) := by
  generalize hoc : (Sum.map (fun u => (wX ax ac u.2, (some (.int u.1)))) (fun u => (wX ax ac u.2, u.1)) r0 : Oc) = oc
  refine fw_ofT (by decide) (Nat.le_of_ble_eq_true rfl) ?_
  intro p e s m below meth c ls hx hb hrt hts hown hlk hml _ hnt hU hl
  obtain ⟨⟨rfl, hP, hG, hD⟩, hZ⟩ := hU
  have hA : ∀ q : Nat, s.heap.size ≤ q → (va_A (wX ax ac g) s.heap.size) q := fun q h => Or.inr h
  have hS := Stt.start hP hD
  show WT p l e rm_X0_anew s m [.ref (ax 0)] below meth c D (va_A (wX ax ac g) s.heap.size) oc s.heap [] 0 0 0 ls []
  have hl : lv_has ls 1 [(0, .ref (ax 0))] := hl
  rw [f_X0_anew] at hr
  refine lv_aload_n hx hb dX0_anew_0 rfl (lv_at hl 0 rfl) ?_
  refine lv_bipush (v := 8) hx hb dX0_anew_1 rfl ?_
  refine lv_iconst (v := 0) hx hb dX0_anew_3 rfl ?_
  refine lv_iconst (v := 0) hx hb dX0_anew_4 rfl ?_
  refine lv_iconst (v := 0) hx hb dX0_anew_5 rfl ?_
  obtain ⟨o1, ho1, hr⟩ := br_bind hr
  refine fwHV (As := [.int 8, .int 0, .int 0, .int 0]) (rest := []) (C := RX0) hx hb hml hown hts (m_X0_act l hst D ax ac g (8 : Int32) (0 : Int32) (0 : Int32) (0 : Int32) _ o1 ho1) (cw_X0_act hts q294 ⟨Nat.le_of_ble_eq_true rfl, Nat.le_of_ble_eq_true rfl⟩) hG hZ hS hA ixX nd_X (pk_X ax ac _) (ad_X ax ac _ _) 0 0 rfl rfl rfl hl.1 rfl (Nat.le_of_ble_eq_true rfl) dX0_anew_6 ⟨Nat.le_of_ble_eq_true rfl, Nat.le_of_ble_eq_true rfl⟩ (wn := wX ax ac o1.2) (rep_X ax ac _ _) (fun H locs hS => ?_)
  have hP := hS.1
  refine W.widen (k := 700) (n := 4000) (by first | exact Nat.le_refl _ | (dsimp only [rm_X0_act]; omega)) (by first | exact Nat.le_refl _ | (dsimp only [rm_X0_act]; omega)) ?_
  obtain rfl := Option.some.inj hr
  refine W.widen (k := rm_X0_anew.cells) (n := rm_X0_anew.slots) (Nat.le_of_ble_eq_true rfl) (Nat.le_of_ble_eq_true rfl) ?_
  subst hoc
  exact xx_ret (W.iret hx hb hrt (fun t ht _ => hS.q ht rfl) hS.2.2.2.2 dX0_anew_9 hlk)
def f_X0_shares (g : XS) (a1 : Int32) : Option ((Int32 × XS) ⊕ (Int32 × XS)) := Option.bind (f_X0_act g (9 : Int32) a1 (0 : Int32) (0 : Int32)) fun o1 => some (Sum.inl (o1.1, o1.2))
abbrev rm_X0_shares : Room := ({ frames := 44, cells := 700, slots := 4000, locals := 2097 })
theorem cw_X0_shares {R : Room} {s : State} {args : Array Value} {own : String} {index : Nat} (hts : ∀ w ∈ lw_all, w.before args s = true) (hlink : Cond.methodLink own index yX0_shares ∈ lw_all) (hR : rm_X0_shares.frames + 1 ≤ R.frames ∧ 8 + (2 + 11) + rm_X0_shares.locals ≤ R.locals) : CallW R s args own RX0 index yX0_shares cX0_shares 2 (some FieldType.int) (ws_ yX0_shares cX0_shares 2 (some FieldType.int)) rm_X0_shares rm_X0_shares.cells rm_X0_shares.slots 1 :=
  cwV 1 hts (lw_V hlink q1033 q1034 q102 q1035) rfl rfl rfl (by decide +kernel) hR
set_option maxHeartbeats 4000000 in
theorem m_X0_shares (l : Launch) (hst : l.stackTraces = false) (D : va_G) (ax : Nat → Nat) (ac : Nat → ClassId) (g : XS) (a1 : Int32) (sz : Nat) (r0 : (Int32 × XS) ⊕ (Int32 × XS)) (hr : f_X0_shares g a1 = some r0) : TM l yX0_shares cX0_shares 2 (some FieldType.int) rm_X0_shares [.ref (ax 0), .int a1] D ac (wX ax ac g) sz (Sum.map (fun u => (wX ax ac u.2, (some (.int u.1)))) (fun u => (wX ax ac u.2, u.1)) r0) := by
  generalize hoc : (Sum.map (fun u => (wX ax ac u.2, (some (.int u.1)))) (fun u => (wX ax ac u.2, u.1)) r0 : Oc) = oc
  refine fw_ofT (by decide) (Nat.le_of_ble_eq_true rfl) ?_
  intro p e s m below meth c ls hx hb hrt hts hown hlk hml _ hnt hU hl
  obtain ⟨⟨rfl, hP, hG, hD⟩, hZ⟩ := hU
  have hA : ∀ q : Nat, s.heap.size ≤ q → (va_A (wX ax ac g) s.heap.size) q := fun q h => Or.inr h
  have hS := Stt.start hP hD
  show WT p l e rm_X0_shares s m [.ref (ax 0), .int a1] below meth c D (va_A (wX ax ac g) s.heap.size) oc s.heap [] 0 0 0 ls []
  have hl : lv_has ls 2 [(0, .ref (ax 0)), (1, .int a1)] := hl
  rw [f_X0_shares] at hr
  refine lv_aload_n hx hb dX0_shares_0 rfl (lv_at hl 0 rfl) ?_
  refine lv_bipush (v := 9) hx hb dX0_shares_1 rfl ?_
  refine lv_iload_n hx hb dX0_shares_3 rfl (lv_at hl 1 rfl) ?_
  refine lv_iconst (v := 0) hx hb dX0_shares_4 rfl ?_
  refine lv_iconst (v := 0) hx hb dX0_shares_5 rfl ?_
  obtain ⟨o1, ho1, hr⟩ := br_bind hr
  refine fwHV (As := [.int 9, .int a1, .int 0, .int 0]) (rest := []) (C := RX0) hx hb hml hown hts (m_X0_act l hst D ax ac g (9 : Int32) a1 (0 : Int32) (0 : Int32) _ o1 ho1) (cw_X0_act hts q294 ⟨Nat.le_of_ble_eq_true rfl, Nat.le_of_ble_eq_true rfl⟩) hG hZ hS hA ixX nd_X (pk_X ax ac _) (ad_X ax ac _ _) 0 0 rfl rfl rfl hl.1 rfl (Nat.le_of_ble_eq_true rfl) dX0_shares_6 ⟨Nat.le_of_ble_eq_true rfl, Nat.le_of_ble_eq_true rfl⟩ (wn := wX ax ac o1.2) (rep_X ax ac _ _) (fun H locs hS => ?_)
  have hP := hS.1
  refine W.widen (k := 700) (n := 4000) (by first | exact Nat.le_refl _ | (dsimp only [rm_X0_act]; omega)) (by first | exact Nat.le_refl _ | (dsimp only [rm_X0_act]; omega)) ?_
  obtain rfl := Option.some.inj hr
  refine W.widen (k := rm_X0_shares.cells) (n := rm_X0_shares.slots) (Nat.le_of_ble_eq_true rfl) (Nat.le_of_ble_eq_true rfl) ?_
  subst hoc
  exact xx_ret (W.iret hx hb hrt (fun t ht _ => hS.q ht rfl) hS.2.2.2.2 dX0_shares_9 hlk)
def f_X0_pieces (g : XS) (a1 : Int32) : Option ((Int32 × XS) ⊕ (Int32 × XS)) := Option.bind (f_X0_act g (10 : Int32) a1 (0 : Int32) (0 : Int32)) fun o1 => some (Sum.inl (o1.1, o1.2))
abbrev rm_X0_pieces : Room := ({ frames := 44, cells := 700, slots := 4000, locals := 2097 })
theorem cw_X0_pieces {R : Room} {s : State} {args : Array Value} {own : String} {index : Nat} (hts : ∀ w ∈ lw_all, w.before args s = true) (hlink : Cond.methodLink own index yX0_pieces ∈ lw_all) (hR : rm_X0_pieces.frames + 1 ≤ R.frames ∧ 8 + (2 + 11) + rm_X0_pieces.locals ≤ R.locals) : CallW R s args own RX0 index yX0_pieces cX0_pieces 2 (some FieldType.int) (ws_ yX0_pieces cX0_pieces 2 (some FieldType.int)) rm_X0_pieces rm_X0_pieces.cells rm_X0_pieces.slots 1 :=
  cwV 1 hts (lw_V hlink q1037 q1038 q102 q1039) rfl rfl rfl (by decide +kernel) hR
set_option maxHeartbeats 4000000 in
theorem m_X0_pieces (l : Launch) (hst : l.stackTraces = false) (D : va_G) (ax : Nat → Nat) (ac : Nat → ClassId) (g : XS) (a1 : Int32) (sz : Nat) (r0 : (Int32 × XS) ⊕ (Int32 × XS)) (hr : f_X0_pieces g a1 = some r0) : TM l yX0_pieces cX0_pieces 2 (some FieldType.int) rm_X0_pieces [.ref (ax 0), .int a1] D ac (wX ax ac g) sz (Sum.map (fun u => (wX ax ac u.2, (some (.int u.1)))) (fun u => (wX ax ac u.2, u.1)) r0) := by
  generalize hoc : (Sum.map (fun u => (wX ax ac u.2, (some (.int u.1)))) (fun u => (wX ax ac u.2, u.1)) r0 : Oc) = oc
  refine fw_ofT (by decide) (Nat.le_of_ble_eq_true rfl) ?_
  intro p e s m below meth c ls hx hb hrt hts hown hlk hml _ hnt hU hl
  obtain ⟨⟨rfl, hP, hG, hD⟩, hZ⟩ := hU
  have hA : ∀ q : Nat, s.heap.size ≤ q → (va_A (wX ax ac g) s.heap.size) q := fun q h => Or.inr h
  have hS := Stt.start hP hD
  show WT p l e rm_X0_pieces s m [.ref (ax 0), .int a1] below meth c D (va_A (wX ax ac g) s.heap.size) oc s.heap [] 0 0 0 ls []
  have hl : lv_has ls 2 [(0, .ref (ax 0)), (1, .int a1)] := hl
  rw [f_X0_pieces] at hr
  refine lv_aload_n hx hb dX0_pieces_0 rfl (lv_at hl 0 rfl) ?_
  refine lv_bipush (v := 10) hx hb dX0_pieces_1 rfl ?_
  refine lv_iload_n hx hb dX0_pieces_3 rfl (lv_at hl 1 rfl) ?_
  refine lv_iconst (v := 0) hx hb dX0_pieces_4 rfl ?_
  refine lv_iconst (v := 0) hx hb dX0_pieces_5 rfl ?_
  obtain ⟨o1, ho1, hr⟩ := br_bind hr
  refine fwHV (As := [.int 10, .int a1, .int 0, .int 0]) (rest := []) (C := RX0) hx hb hml hown hts (m_X0_act l hst D ax ac g (10 : Int32) a1 (0 : Int32) (0 : Int32) _ o1 ho1) (cw_X0_act hts q294 ⟨Nat.le_of_ble_eq_true rfl, Nat.le_of_ble_eq_true rfl⟩) hG hZ hS hA ixX nd_X (pk_X ax ac _) (ad_X ax ac _ _) 0 0 rfl rfl rfl hl.1 rfl (Nat.le_of_ble_eq_true rfl) dX0_pieces_6 ⟨Nat.le_of_ble_eq_true rfl, Nat.le_of_ble_eq_true rfl⟩ (wn := wX ax ac o1.2) (rep_X ax ac _ _) (fun H locs hS => ?_)
  have hP := hS.1
  refine W.widen (k := 700) (n := 4000) (by first | exact Nat.le_refl _ | (dsimp only [rm_X0_act]; omega)) (by first | exact Nat.le_refl _ | (dsimp only [rm_X0_act]; omega)) ?_
  obtain rfl := Option.some.inj hr
  refine W.widen (k := rm_X0_pieces.cells) (n := rm_X0_pieces.slots) (Nat.le_of_ble_eq_true rfl) (Nat.le_of_ble_eq_true rfl) ?_
  subst hoc
  exact xx_ret (W.iret hx hb hrt (fun t ht _ => hS.q ht rfl) hS.2.2.2.2 dX0_pieces_9 hlk)
def f_X0_edge (g : XS) (a1 : Int32) : Option ((Int32 × XS) ⊕ (Int32 × XS)) := Option.bind (f_X0_act g (11 : Int32) a1 (0 : Int32) (0 : Int32)) fun o1 => some (Sum.inl (o1.1, o1.2))
abbrev rm_X0_edge : Room := ({ frames := 44, cells := 700, slots := 4000, locals := 2097 })
theorem cw_X0_edge {R : Room} {s : State} {args : Array Value} {own : String} {index : Nat} (hts : ∀ w ∈ lw_all, w.before args s = true) (hlink : Cond.methodLink own index yX0_edge ∈ lw_all) (hR : rm_X0_edge.frames + 1 ≤ R.frames ∧ 8 + (2 + 11) + rm_X0_edge.locals ≤ R.locals) : CallW R s args own RX0 index yX0_edge cX0_edge 2 (some FieldType.int) (ws_ yX0_edge cX0_edge 2 (some FieldType.int)) rm_X0_edge rm_X0_edge.cells rm_X0_edge.slots 1 :=
  cwV 1 hts (lw_V hlink q1041 q1042 q102 q1043) rfl rfl rfl (by decide +kernel) hR
set_option maxHeartbeats 4000000 in
theorem m_X0_edge (l : Launch) (hst : l.stackTraces = false) (D : va_G) (ax : Nat → Nat) (ac : Nat → ClassId) (g : XS) (a1 : Int32) (sz : Nat) (r0 : (Int32 × XS) ⊕ (Int32 × XS)) (hr : f_X0_edge g a1 = some r0) : TM l yX0_edge cX0_edge 2 (some FieldType.int) rm_X0_edge [.ref (ax 0), .int a1] D ac (wX ax ac g) sz (Sum.map (fun u => (wX ax ac u.2, (some (.int u.1)))) (fun u => (wX ax ac u.2, u.1)) r0) := by
  generalize hoc : (Sum.map (fun u => (wX ax ac u.2, (some (.int u.1)))) (fun u => (wX ax ac u.2, u.1)) r0 : Oc) = oc
  refine fw_ofT (by decide) (Nat.le_of_ble_eq_true rfl) ?_
  intro p e s m below meth c ls hx hb hrt hts hown hlk hml _ hnt hU hl
  obtain ⟨⟨rfl, hP, hG, hD⟩, hZ⟩ := hU
  have hA : ∀ q : Nat, s.heap.size ≤ q → (va_A (wX ax ac g) s.heap.size) q := fun q h => Or.inr h
  have hS := Stt.start hP hD
  show WT p l e rm_X0_edge s m [.ref (ax 0), .int a1] below meth c D (va_A (wX ax ac g) s.heap.size) oc s.heap [] 0 0 0 ls []
  have hl : lv_has ls 2 [(0, .ref (ax 0)), (1, .int a1)] := hl
  rw [f_X0_edge] at hr
  refine lv_aload_n hx hb dX0_edge_0 rfl (lv_at hl 0 rfl) ?_
  refine lv_bipush (v := 11) hx hb dX0_edge_1 rfl ?_
  refine lv_iload_n hx hb dX0_edge_3 rfl (lv_at hl 1 rfl) ?_
  refine lv_iconst (v := 0) hx hb dX0_edge_4 rfl ?_
  refine lv_iconst (v := 0) hx hb dX0_edge_5 rfl ?_
  obtain ⟨o1, ho1, hr⟩ := br_bind hr
  refine fwHV (As := [.int 11, .int a1, .int 0, .int 0]) (rest := []) (C := RX0) hx hb hml hown hts (m_X0_act l hst D ax ac g (11 : Int32) a1 (0 : Int32) (0 : Int32) _ o1 ho1) (cw_X0_act hts q294 ⟨Nat.le_of_ble_eq_true rfl, Nat.le_of_ble_eq_true rfl⟩) hG hZ hS hA ixX nd_X (pk_X ax ac _) (ad_X ax ac _ _) 0 0 rfl rfl rfl hl.1 rfl (Nat.le_of_ble_eq_true rfl) dX0_edge_6 ⟨Nat.le_of_ble_eq_true rfl, Nat.le_of_ble_eq_true rfl⟩ (wn := wX ax ac o1.2) (rep_X ax ac _ _) (fun H locs hS => ?_)
  have hP := hS.1
  refine W.widen (k := 700) (n := 4000) (by first | exact Nat.le_refl _ | (dsimp only [rm_X0_act]; omega)) (by first | exact Nat.le_refl _ | (dsimp only [rm_X0_act]; omega)) ?_
  obtain rfl := Option.some.inj hr
  refine W.widen (k := rm_X0_edge.cells) (n := rm_X0_edge.slots) (Nat.le_of_ble_eq_true rfl) (Nat.le_of_ble_eq_true rfl) ?_
  subst hoc
  exact xx_ret (W.iret hx hb hrt (fun t ht _ => hS.q ht rfl) hS.2.2.2.2 dX0_edge_9 hlk)
def f_X0_best (g : XS) (a1 : Int32) (a2 : Int32) : Option ((Int32 × XS) ⊕ (Int32 × XS)) := Option.bind (f_X0_act g (12 : Int32) a1 a2 (0 : Int32)) fun o1 => some (Sum.inl (o1.1, o1.2))
abbrev rm_X0_best : Room := ({ frames := 44, cells := 700, slots := 4000, locals := 2097 })
theorem cw_X0_best {R : Room} {s : State} {args : Array Value} {own : String} {index : Nat} (hts : ∀ w ∈ lw_all, w.before args s = true) (hlink : Cond.methodLink own index yX0_best ∈ lw_all) (hR : rm_X0_best.frames + 1 ≤ R.frames ∧ 8 + (3 + 11) + rm_X0_best.locals ≤ R.locals) : CallW R s args own RX0 index yX0_best cX0_best 3 (some FieldType.int) (ws_ yX0_best cX0_best 3 (some FieldType.int)) rm_X0_best rm_X0_best.cells rm_X0_best.slots 2 :=
  cwV 2 hts (lw_V hlink q1045 q1046 q102 q1047) rfl rfl rfl (by decide +kernel) hR
set_option maxHeartbeats 4000000 in
theorem m_X0_best (l : Launch) (hst : l.stackTraces = false) (D : va_G) (ax : Nat → Nat) (ac : Nat → ClassId) (g : XS) (a1 : Int32) (a2 : Int32) (sz : Nat) (r0 : (Int32 × XS) ⊕ (Int32 × XS)) (hr : f_X0_best g a1 a2 = some r0) : TM l yX0_best cX0_best 3 (some FieldType.int) rm_X0_best [.ref (ax 0), .int a1, .int a2] D ac (wX ax ac g) sz (Sum.map (fun u => (wX ax ac u.2, (some (.int u.1)))) (fun u => (wX ax ac u.2, u.1)) r0) := by
  generalize hoc : (Sum.map (fun u => (wX ax ac u.2, (some (.int u.1)))) (fun u => (wX ax ac u.2, u.1)) r0 : Oc) = oc
  refine fw_ofT (by decide) (Nat.le_of_ble_eq_true rfl) ?_
  intro p e s m below meth c ls hx hb hrt hts hown hlk hml _ hnt hU hl
  obtain ⟨⟨rfl, hP, hG, hD⟩, hZ⟩ := hU
  have hA : ∀ q : Nat, s.heap.size ≤ q → (va_A (wX ax ac g) s.heap.size) q := fun q h => Or.inr h
  have hS := Stt.start hP hD
  show WT p l e rm_X0_best s m [.ref (ax 0), .int a1, .int a2] below meth c D (va_A (wX ax ac g) s.heap.size) oc s.heap [] 0 0 0 ls []
  have hl : lv_has ls 3 [(0, .ref (ax 0)), (1, .int a1), (2, .int a2)] := hl
  rw [f_X0_best] at hr
  refine lv_aload_n hx hb dX0_best_0 rfl (lv_at hl 0 rfl) ?_
  refine lv_bipush (v := 12) hx hb dX0_best_1 rfl ?_
  refine lv_iload_n hx hb dX0_best_3 rfl (lv_at hl 1 rfl) ?_
  refine lv_iload_n hx hb dX0_best_4 rfl (lv_at hl 2 rfl) ?_
  refine lv_iconst (v := 0) hx hb dX0_best_5 rfl ?_
  obtain ⟨o1, ho1, hr⟩ := br_bind hr
  refine fwHV (As := [.int 12, .int a1, .int a2, .int 0]) (rest := []) (C := RX0) hx hb hml hown hts (m_X0_act l hst D ax ac g (12 : Int32) a1 a2 (0 : Int32) _ o1 ho1) (cw_X0_act hts q294 ⟨Nat.le_of_ble_eq_true rfl, Nat.le_of_ble_eq_true rfl⟩) hG hZ hS hA ixX nd_X (pk_X ax ac _) (ad_X ax ac _ _) 0 0 rfl rfl rfl hl.1 rfl (Nat.le_of_ble_eq_true rfl) dX0_best_6 ⟨Nat.le_of_ble_eq_true rfl, Nat.le_of_ble_eq_true rfl⟩ (wn := wX ax ac o1.2) (rep_X ax ac _ _) (fun H locs hS => ?_)
  have hP := hS.1
  refine W.widen (k := 700) (n := 4000) (by first | exact Nat.le_refl _ | (dsimp only [rm_X0_act]; omega)) (by first | exact Nat.le_refl _ | (dsimp only [rm_X0_act]; omega)) ?_
  obtain rfl := Option.some.inj hr
  refine W.widen (k := rm_X0_best.cells) (n := rm_X0_best.slots) (Nat.le_of_ble_eq_true rfl) (Nat.le_of_ble_eq_true rfl) ?_
  subst hoc
  exact xx_ret (W.iret hx hb hrt (fun t ht _ => hS.q ht rfl) hS.2.2.2.2 dX0_best_9 hlk)
def f_X0_worst (g : XS) (a1 : Int32) (a2 : Int32) : Option ((Int32 × XS) ⊕ (Int32 × XS)) := Option.bind (f_X0_act g (13 : Int32) a1 a2 (0 : Int32)) fun o1 => some (Sum.inl (o1.1, o1.2))
abbrev rm_X0_worst : Room := ({ frames := 44, cells := 700, slots := 4000, locals := 2097 })
theorem cw_X0_worst {R : Room} {s : State} {args : Array Value} {own : String} {index : Nat} (hts : ∀ w ∈ lw_all, w.before args s = true) (hlink : Cond.methodLink own index yX0_worst ∈ lw_all) (hR : rm_X0_worst.frames + 1 ≤ R.frames ∧ 8 + (3 + 11) + rm_X0_worst.locals ≤ R.locals) : CallW R s args own RX0 index yX0_worst cX0_worst 3 (some FieldType.int) (ws_ yX0_worst cX0_worst 3 (some FieldType.int)) rm_X0_worst rm_X0_worst.cells rm_X0_worst.slots 2 :=
  cwV 2 hts (lw_V hlink q1049 q1050 q102 q1051) rfl rfl rfl (by decide +kernel) hR
set_option maxHeartbeats 4000000 in
theorem m_X0_worst (l : Launch) (hst : l.stackTraces = false) (D : va_G) (ax : Nat → Nat) (ac : Nat → ClassId) (g : XS) (a1 : Int32) (a2 : Int32) (sz : Nat) (r0 : (Int32 × XS) ⊕ (Int32 × XS)) (hr : f_X0_worst g a1 a2 = some r0) : TM l yX0_worst cX0_worst 3 (some FieldType.int) rm_X0_worst [.ref (ax 0), .int a1, .int a2] D ac (wX ax ac g) sz (Sum.map (fun u => (wX ax ac u.2, (some (.int u.1)))) (fun u => (wX ax ac u.2, u.1)) r0) := by
  generalize hoc : (Sum.map (fun u => (wX ax ac u.2, (some (.int u.1)))) (fun u => (wX ax ac u.2, u.1)) r0 : Oc) = oc
  refine fw_ofT (by decide) (Nat.le_of_ble_eq_true rfl) ?_
  intro p e s m below meth c ls hx hb hrt hts hown hlk hml _ hnt hU hl
  obtain ⟨⟨rfl, hP, hG, hD⟩, hZ⟩ := hU
  have hA : ∀ q : Nat, s.heap.size ≤ q → (va_A (wX ax ac g) s.heap.size) q := fun q h => Or.inr h
  have hS := Stt.start hP hD
  show WT p l e rm_X0_worst s m [.ref (ax 0), .int a1, .int a2] below meth c D (va_A (wX ax ac g) s.heap.size) oc s.heap [] 0 0 0 ls []
  have hl : lv_has ls 3 [(0, .ref (ax 0)), (1, .int a1), (2, .int a2)] := hl
  rw [f_X0_worst] at hr
  refine lv_aload_n hx hb dX0_worst_0 rfl (lv_at hl 0 rfl) ?_
  refine lv_bipush (v := 13) hx hb dX0_worst_1 rfl ?_
  refine lv_iload_n hx hb dX0_worst_3 rfl (lv_at hl 1 rfl) ?_
  refine lv_iload_n hx hb dX0_worst_4 rfl (lv_at hl 2 rfl) ?_
  refine lv_iconst (v := 0) hx hb dX0_worst_5 rfl ?_
  obtain ⟨o1, ho1, hr⟩ := br_bind hr
  refine fwHV (As := [.int 13, .int a1, .int a2, .int 0]) (rest := []) (C := RX0) hx hb hml hown hts (m_X0_act l hst D ax ac g (13 : Int32) a1 a2 (0 : Int32) _ o1 ho1) (cw_X0_act hts q294 ⟨Nat.le_of_ble_eq_true rfl, Nat.le_of_ble_eq_true rfl⟩) hG hZ hS hA ixX nd_X (pk_X ax ac _) (ad_X ax ac _ _) 0 0 rfl rfl rfl hl.1 rfl (Nat.le_of_ble_eq_true rfl) dX0_worst_6 ⟨Nat.le_of_ble_eq_true rfl, Nat.le_of_ble_eq_true rfl⟩ (wn := wX ax ac o1.2) (rep_X ax ac _ _) (fun H locs hS => ?_)
  have hP := hS.1
  refine W.widen (k := 700) (n := 4000) (by first | exact Nat.le_refl _ | (dsimp only [rm_X0_act]; omega)) (by first | exact Nat.le_refl _ | (dsimp only [rm_X0_act]; omega)) ?_
  obtain rfl := Option.some.inj hr
  refine W.widen (k := rm_X0_worst.cells) (n := rm_X0_worst.slots) (Nat.le_of_ble_eq_true rfl) (Nat.le_of_ble_eq_true rfl) ?_
  subst hoc
  exact xx_ret (W.iret hx hb hrt (fun t ht _ => hS.q ht rfl) hS.2.2.2.2 dX0_worst_9 hlk)
def f_X0_fewest (g : XS) (a1 : Int32) (a2 : Int32) (a3 : Int32) : Option ((Int32 × XS) ⊕ (Int32 × XS)) := Option.bind (f_X0_act g (14 : Int32) a1 a2 a3) fun o1 => some (Sum.inl (o1.1, o1.2))
abbrev rm_X0_fewest : Room := ({ frames := 44, cells := 700, slots := 4000, locals := 2097 })
theorem cw_X0_fewest {R : Room} {s : State} {args : Array Value} {own : String} {index : Nat} (hts : ∀ w ∈ lw_all, w.before args s = true) (hlink : Cond.methodLink own index yX0_fewest ∈ lw_all) (hR : rm_X0_fewest.frames + 1 ≤ R.frames ∧ 8 + (4 + 11) + rm_X0_fewest.locals ≤ R.locals) : CallW R s args own RX0 index yX0_fewest cX0_fewest 4 (some FieldType.int) (ws_ yX0_fewest cX0_fewest 4 (some FieldType.int)) rm_X0_fewest rm_X0_fewest.cells rm_X0_fewest.slots 3 :=
  cwV 3 hts (lw_V hlink q1053 q1054 q102 q1055) rfl rfl rfl (by decide +kernel) hR
set_option maxHeartbeats 4000000 in
theorem m_X0_fewest (l : Launch) (hst : l.stackTraces = false) (D : va_G) (ax : Nat → Nat) (ac : Nat → ClassId) (g : XS) (a1 : Int32) (a2 : Int32) (a3 : Int32) (sz : Nat) (r0 : (Int32 × XS) ⊕ (Int32 × XS)) (hr : f_X0_fewest g a1 a2 a3 = some r0) : TM l yX0_fewest cX0_fewest 4 (some FieldType.int) rm_X0_fewest [.ref (ax 0), .int a1, .int a2, .int a3] D ac (wX ax ac g) sz (Sum.map (fun u => (wX ax ac u.2, (some (.int u.1)))) (fun u => (wX ax ac u.2, u.1)) r0) := by
  generalize hoc : (Sum.map (fun u => (wX ax ac u.2, (some (.int u.1)))) (fun u => (wX ax ac u.2, u.1)) r0 : Oc) = oc
  refine fw_ofT (by decide) (Nat.le_of_ble_eq_true rfl) ?_
  intro p e s m below meth c ls hx hb hrt hts hown hlk hml _ hnt hU hl
  obtain ⟨⟨rfl, hP, hG, hD⟩, hZ⟩ := hU
  have hA : ∀ q : Nat, s.heap.size ≤ q → (va_A (wX ax ac g) s.heap.size) q := fun q h => Or.inr h
  have hS := Stt.start hP hD
  show WT p l e rm_X0_fewest s m [.ref (ax 0), .int a1, .int a2, .int a3] below meth c D (va_A (wX ax ac g) s.heap.size) oc s.heap [] 0 0 0 ls []
  have hl : lv_has ls 4 [(0, .ref (ax 0)), (1, .int a1), (2, .int a2), (3, .int a3)] := hl
  rw [f_X0_fewest] at hr
  refine lv_aload_n hx hb dX0_fewest_0 rfl (lv_at hl 0 rfl) ?_
  refine lv_bipush (v := 14) hx hb dX0_fewest_1 rfl ?_
  refine lv_iload_n hx hb dX0_fewest_3 rfl (lv_at hl 1 rfl) ?_
  refine lv_iload_n hx hb dX0_fewest_4 rfl (lv_at hl 2 rfl) ?_
  refine lv_iload_n hx hb dX0_fewest_5 rfl (lv_at hl 3 rfl) ?_
  obtain ⟨o1, ho1, hr⟩ := br_bind hr
  refine fwHV (As := [.int 14, .int a1, .int a2, .int a3]) (rest := []) (C := RX0) hx hb hml hown hts (m_X0_act l hst D ax ac g (14 : Int32) a1 a2 a3 _ o1 ho1) (cw_X0_act hts q294 ⟨Nat.le_of_ble_eq_true rfl, Nat.le_of_ble_eq_true rfl⟩) hG hZ hS hA ixX nd_X (pk_X ax ac _) (ad_X ax ac _ _) 0 0 rfl rfl rfl hl.1 rfl (Nat.le_of_ble_eq_true rfl) dX0_fewest_6 ⟨Nat.le_of_ble_eq_true rfl, Nat.le_of_ble_eq_true rfl⟩ (wn := wX ax ac o1.2) (rep_X ax ac _ _) (fun H locs hS => ?_)
  have hP := hS.1
  refine W.widen (k := 700) (n := 4000) (by first | exact Nat.le_refl _ | (dsimp only [rm_X0_act]; omega)) (by first | exact Nat.le_refl _ | (dsimp only [rm_X0_act]; omega)) ?_
  obtain rfl := Option.some.inj hr
  refine W.widen (k := rm_X0_fewest.cells) (n := rm_X0_fewest.slots) (Nat.le_of_ble_eq_true rfl) (Nat.le_of_ble_eq_true rfl) ?_
  subst hoc
  exact xx_ret (W.iret hx hb hrt (fun t ht _ => hS.q ht rfl) hS.2.2.2.2 dX0_fewest_9 hlk)
def f_X0_safe (g : XS) : Option ((Int32 × XS) ⊕ (Int32 × XS)) := Option.bind (f_X0_act g (15 : Int32) (0 : Int32) (0 : Int32) (0 : Int32)) fun o1 => some (Sum.inl (o1.1, o1.2))
abbrev rm_X0_safe : Room := ({ frames := 44, cells := 700, slots := 4000, locals := 2097 })
theorem cw_X0_safe {R : Room} {s : State} {args : Array Value} {own : String} {index : Nat} (hts : ∀ w ∈ lw_all, w.before args s = true) (hlink : Cond.methodLink own index yX0_safe ∈ lw_all) (hR : rm_X0_safe.frames + 1 ≤ R.frames ∧ 8 + (1 + 11) + rm_X0_safe.locals ≤ R.locals) : CallW R s args own RX0 index yX0_safe cX0_safe 1 (some FieldType.int) (ws_ yX0_safe cX0_safe 1 (some FieldType.int)) rm_X0_safe rm_X0_safe.cells rm_X0_safe.slots 0 :=
  cwV 0 hts (lw_V hlink q1057 q1058 q102 q1059) rfl rfl rfl (by decide +kernel) hR
set_option maxHeartbeats 4000000 in
theorem m_X0_safe (l : Launch) (hst : l.stackTraces = false) (D : va_G) (ax : Nat → Nat) (ac : Nat → ClassId) (g : XS) (sz : Nat) (r0 : (Int32 × XS) ⊕ (Int32 × XS)) (hr : f_X0_safe g = some r0) : TM l yX0_safe cX0_safe 1 (some FieldType.int) rm_X0_safe [.ref (ax 0)] D ac (wX ax ac g) sz (Sum.map (fun u => (wX ax ac u.2, (some (.int u.1)))) (fun u => (wX ax ac u.2, u.1)) r0) := by
  generalize hoc : (Sum.map (fun u => (wX ax ac u.2, (some (.int u.1)))) (fun u => (wX ax ac u.2, u.1)) r0 : Oc) = oc
  refine fw_ofT (by decide) (Nat.le_of_ble_eq_true rfl) ?_
  intro p e s m below meth c ls hx hb hrt hts hown hlk hml _ hnt hU hl
  obtain ⟨⟨rfl, hP, hG, hD⟩, hZ⟩ := hU
  have hA : ∀ q : Nat, s.heap.size ≤ q → (va_A (wX ax ac g) s.heap.size) q := fun q h => Or.inr h
  have hS := Stt.start hP hD
  show WT p l e rm_X0_safe s m [.ref (ax 0)] below meth c D (va_A (wX ax ac g) s.heap.size) oc s.heap [] 0 0 0 ls []
  have hl : lv_has ls 1 [(0, .ref (ax 0))] := hl
  rw [f_X0_safe] at hr
  refine lv_aload_n hx hb dX0_safe_0 rfl (lv_at hl 0 rfl) ?_
  refine lv_bipush (v := 15) hx hb dX0_safe_1 rfl ?_
  refine lv_iconst (v := 0) hx hb dX0_safe_3 rfl ?_
  refine lv_iconst (v := 0) hx hb dX0_safe_4 rfl ?_
  refine lv_iconst (v := 0) hx hb dX0_safe_5 rfl ?_
  obtain ⟨o1, ho1, hr⟩ := br_bind hr
  refine fwHV (As := [.int 15, .int 0, .int 0, .int 0]) (rest := []) (C := RX0) hx hb hml hown hts (m_X0_act l hst D ax ac g (15 : Int32) (0 : Int32) (0 : Int32) (0 : Int32) _ o1 ho1) (cw_X0_act hts q294 ⟨Nat.le_of_ble_eq_true rfl, Nat.le_of_ble_eq_true rfl⟩) hG hZ hS hA ixX nd_X (pk_X ax ac _) (ad_X ax ac _ _) 0 0 rfl rfl rfl hl.1 rfl (Nat.le_of_ble_eq_true rfl) dX0_safe_6 ⟨Nat.le_of_ble_eq_true rfl, Nat.le_of_ble_eq_true rfl⟩ (wn := wX ax ac o1.2) (rep_X ax ac _ _) (fun H locs hS => ?_)
  have hP := hS.1
  refine W.widen (k := 700) (n := 4000) (by first | exact Nat.le_refl _ | (dsimp only [rm_X0_act]; omega)) (by first | exact Nat.le_refl _ | (dsimp only [rm_X0_act]; omega)) ?_
  obtain rfl := Option.some.inj hr
  refine W.widen (k := rm_X0_safe.cells) (n := rm_X0_safe.slots) (Nat.le_of_ble_eq_true rfl) (Nat.le_of_ble_eq_true rfl) ?_
  subst hoc
  exact xx_ret (W.iret hx hb hrt (fun t ht _ => hS.q ht rfl) hS.2.2.2.2 dX0_safe_9 hlk)
def f_X0_can (g : XS) (a1 : Int32) : Option ((Int32 × XS) ⊕ (Int32 × XS)) := Option.bind (f_X0_act g (16 : Int32) a1 (0 : Int32) (0 : Int32)) fun o1 => some (Sum.inl (o1.1, o1.2))
abbrev rm_X0_can : Room := ({ frames := 44, cells := 700, slots := 4000, locals := 2097 })
theorem cw_X0_can {R : Room} {s : State} {args : Array Value} {own : String} {index : Nat} (hts : ∀ w ∈ lw_all, w.before args s = true) (hlink : Cond.methodLink own index yX0_can ∈ lw_all) (hR : rm_X0_can.frames + 1 ≤ R.frames ∧ 8 + (2 + 11) + rm_X0_can.locals ≤ R.locals) : CallW R s args own RX0 index yX0_can cX0_can 2 (some FieldType.int) (ws_ yX0_can cX0_can 2 (some FieldType.int)) rm_X0_can rm_X0_can.cells rm_X0_can.slots 1 :=
  cwV 1 hts (lw_V hlink q1061 q1062 q102 q1063) rfl rfl rfl (by decide +kernel) hR
set_option maxHeartbeats 4000000 in
theorem m_X0_can (l : Launch) (hst : l.stackTraces = false) (D : va_G) (ax : Nat → Nat) (ac : Nat → ClassId) (g : XS) (a1 : Int32) (sz : Nat) (r0 : (Int32 × XS) ⊕ (Int32 × XS)) (hr : f_X0_can g a1 = some r0) : TM l yX0_can cX0_can 2 (some FieldType.int) rm_X0_can [.ref (ax 0), .int a1] D ac (wX ax ac g) sz (Sum.map (fun u => (wX ax ac u.2, (some (.int u.1)))) (fun u => (wX ax ac u.2, u.1)) r0) := by
  generalize hoc : (Sum.map (fun u => (wX ax ac u.2, (some (.int u.1)))) (fun u => (wX ax ac u.2, u.1)) r0 : Oc) = oc
  refine fw_ofT (by decide) (Nat.le_of_ble_eq_true rfl) ?_
  intro p e s m below meth c ls hx hb hrt hts hown hlk hml _ hnt hU hl
  obtain ⟨⟨rfl, hP, hG, hD⟩, hZ⟩ := hU
  have hA : ∀ q : Nat, s.heap.size ≤ q → (va_A (wX ax ac g) s.heap.size) q := fun q h => Or.inr h
  have hS := Stt.start hP hD
  show WT p l e rm_X0_can s m [.ref (ax 0), .int a1] below meth c D (va_A (wX ax ac g) s.heap.size) oc s.heap [] 0 0 0 ls []
  have hl : lv_has ls 2 [(0, .ref (ax 0)), (1, .int a1)] := hl
  rw [f_X0_can] at hr
  refine lv_aload_n hx hb dX0_can_0 rfl (lv_at hl 0 rfl) ?_
  refine lv_bipush (v := 16) hx hb dX0_can_1 rfl ?_
  refine lv_iload_n hx hb dX0_can_3 rfl (lv_at hl 1 rfl) ?_
  refine lv_iconst (v := 0) hx hb dX0_can_4 rfl ?_
  refine lv_iconst (v := 0) hx hb dX0_can_5 rfl ?_
  obtain ⟨o1, ho1, hr⟩ := br_bind hr
  refine fwHV (As := [.int 16, .int a1, .int 0, .int 0]) (rest := []) (C := RX0) hx hb hml hown hts (m_X0_act l hst D ax ac g (16 : Int32) a1 (0 : Int32) (0 : Int32) _ o1 ho1) (cw_X0_act hts q294 ⟨Nat.le_of_ble_eq_true rfl, Nat.le_of_ble_eq_true rfl⟩) hG hZ hS hA ixX nd_X (pk_X ax ac _) (ad_X ax ac _ _) 0 0 rfl rfl rfl hl.1 rfl (Nat.le_of_ble_eq_true rfl) dX0_can_6 ⟨Nat.le_of_ble_eq_true rfl, Nat.le_of_ble_eq_true rfl⟩ (wn := wX ax ac o1.2) (rep_X ax ac _ _) (fun H locs hS => ?_)
  have hP := hS.1
  refine W.widen (k := 700) (n := 4000) (by first | exact Nat.le_refl _ | (dsimp only [rm_X0_act]; omega)) (by first | exact Nat.le_refl _ | (dsimp only [rm_X0_act]; omega)) ?_
  obtain rfl := Option.some.inj hr
  refine W.widen (k := rm_X0_can.cells) (n := rm_X0_can.slots) (Nat.le_of_ble_eq_true rfl) (Nat.le_of_ble_eq_true rfl) ?_
  subst hoc
  exact xx_ret (W.iret hx hb hrt (fun t ht _ => hS.q ht rfl) hS.2.2.2.2 dX0_can_9 hlk)
def f_X0_ways (g : XS) (a1 : Int32) : Option ((Int32 × XS) ⊕ (Int32 × XS)) := Option.bind (f_X0_act g (17 : Int32) a1 (0 : Int32) (0 : Int32)) fun o1 => some (Sum.inl (o1.1, o1.2))
abbrev rm_X0_ways : Room := ({ frames := 44, cells := 700, slots := 4000, locals := 2097 })
theorem cw_X0_ways {R : Room} {s : State} {args : Array Value} {own : String} {index : Nat} (hts : ∀ w ∈ lw_all, w.before args s = true) (hlink : Cond.methodLink own index yX0_ways ∈ lw_all) (hR : rm_X0_ways.frames + 1 ≤ R.frames ∧ 8 + (2 + 11) + rm_X0_ways.locals ≤ R.locals) : CallW R s args own RX0 index yX0_ways cX0_ways 2 (some FieldType.int) (ws_ yX0_ways cX0_ways 2 (some FieldType.int)) rm_X0_ways rm_X0_ways.cells rm_X0_ways.slots 1 :=
  cwV 1 hts (lw_V hlink q1065 q1066 q102 q1067) rfl rfl rfl (by decide +kernel) hR
set_option maxHeartbeats 4000000 in
theorem m_X0_ways (l : Launch) (hst : l.stackTraces = false) (D : va_G) (ax : Nat → Nat) (ac : Nat → ClassId) (g : XS) (a1 : Int32) (sz : Nat) (r0 : (Int32 × XS) ⊕ (Int32 × XS)) (hr : f_X0_ways g a1 = some r0) : TM l yX0_ways cX0_ways 2 (some FieldType.int) rm_X0_ways [.ref (ax 0), .int a1] D ac (wX ax ac g) sz (Sum.map (fun u => (wX ax ac u.2, (some (.int u.1)))) (fun u => (wX ax ac u.2, u.1)) r0) := by
  generalize hoc : (Sum.map (fun u => (wX ax ac u.2, (some (.int u.1)))) (fun u => (wX ax ac u.2, u.1)) r0 : Oc) = oc
  refine fw_ofT (by decide) (Nat.le_of_ble_eq_true rfl) ?_
  intro p e s m below meth c ls hx hb hrt hts hown hlk hml _ hnt hU hl
  obtain ⟨⟨rfl, hP, hG, hD⟩, hZ⟩ := hU
  have hA : ∀ q : Nat, s.heap.size ≤ q → (va_A (wX ax ac g) s.heap.size) q := fun q h => Or.inr h
  have hS := Stt.start hP hD
  show WT p l e rm_X0_ways s m [.ref (ax 0), .int a1] below meth c D (va_A (wX ax ac g) s.heap.size) oc s.heap [] 0 0 0 ls []
  have hl : lv_has ls 2 [(0, .ref (ax 0)), (1, .int a1)] := hl
  rw [f_X0_ways] at hr
  refine lv_aload_n hx hb dX0_ways_0 rfl (lv_at hl 0 rfl) ?_
  refine lv_bipush (v := 17) hx hb dX0_ways_1 rfl ?_
  refine lv_iload_n hx hb dX0_ways_3 rfl (lv_at hl 1 rfl) ?_
  refine lv_iconst (v := 0) hx hb dX0_ways_4 rfl ?_
  refine lv_iconst (v := 0) hx hb dX0_ways_5 rfl ?_
  obtain ⟨o1, ho1, hr⟩ := br_bind hr
  refine fwHV (As := [.int 17, .int a1, .int 0, .int 0]) (rest := []) (C := RX0) hx hb hml hown hts (m_X0_act l hst D ax ac g (17 : Int32) a1 (0 : Int32) (0 : Int32) _ o1 ho1) (cw_X0_act hts q294 ⟨Nat.le_of_ble_eq_true rfl, Nat.le_of_ble_eq_true rfl⟩) hG hZ hS hA ixX nd_X (pk_X ax ac _) (ad_X ax ac _ _) 0 0 rfl rfl rfl hl.1 rfl (Nat.le_of_ble_eq_true rfl) dX0_ways_6 ⟨Nat.le_of_ble_eq_true rfl, Nat.le_of_ble_eq_true rfl⟩ (wn := wX ax ac o1.2) (rep_X ax ac _ _) (fun H locs hS => ?_)
  have hP := hS.1
  refine W.widen (k := 700) (n := 4000) (by first | exact Nat.le_refl _ | (dsimp only [rm_X0_act]; omega)) (by first | exact Nat.le_refl _ | (dsimp only [rm_X0_act]; omega)) ?_
  obtain rfl := Option.some.inj hr
  refine W.widen (k := rm_X0_ways.cells) (n := rm_X0_ways.slots) (Nat.le_of_ble_eq_true rfl) (Nat.le_of_ble_eq_true rfl) ?_
  subst hoc
  exact xx_ret (W.iret hx hb hrt (fun t ht _ => hS.q ht rfl) hS.2.2.2.2 dX0_ways_9 hlk)
def f_X0_alike (g : XS) (a1 : Int32) : Option ((Int32 × XS) ⊕ (Int32 × XS)) := Option.bind (f_X0_act g (18 : Int32) a1 (0 : Int32) (0 : Int32)) fun o1 => some (Sum.inl (o1.1, o1.2))
abbrev rm_X0_alike : Room := ({ frames := 44, cells := 700, slots := 4000, locals := 2097 })
theorem cw_X0_alike {R : Room} {s : State} {args : Array Value} {own : String} {index : Nat} (hts : ∀ w ∈ lw_all, w.before args s = true) (hlink : Cond.methodLink own index yX0_alike ∈ lw_all) (hR : rm_X0_alike.frames + 1 ≤ R.frames ∧ 8 + (2 + 11) + rm_X0_alike.locals ≤ R.locals) : CallW R s args own RX0 index yX0_alike cX0_alike 2 (some FieldType.int) (ws_ yX0_alike cX0_alike 2 (some FieldType.int)) rm_X0_alike rm_X0_alike.cells rm_X0_alike.slots 1 :=
  cwV 1 hts (lw_V hlink q1069 q1070 q102 q1071) rfl rfl rfl (by decide +kernel) hR
set_option maxHeartbeats 4000000 in
theorem m_X0_alike (l : Launch) (hst : l.stackTraces = false) (D : va_G) (ax : Nat → Nat) (ac : Nat → ClassId) (g : XS) (a1 : Int32) (sz : Nat) (r0 : (Int32 × XS) ⊕ (Int32 × XS)) (hr : f_X0_alike g a1 = some r0) : TM l yX0_alike cX0_alike 2 (some FieldType.int) rm_X0_alike [.ref (ax 0), .int a1] D ac (wX ax ac g) sz (Sum.map (fun u => (wX ax ac u.2, (some (.int u.1)))) (fun u => (wX ax ac u.2, u.1)) r0) := by
  generalize hoc : (Sum.map (fun u => (wX ax ac u.2, (some (.int u.1)))) (fun u => (wX ax ac u.2, u.1)) r0 : Oc) = oc
  refine fw_ofT (by decide) (Nat.le_of_ble_eq_true rfl) ?_
  intro p e s m below meth c ls hx hb hrt hts hown hlk hml _ hnt hU hl
  obtain ⟨⟨rfl, hP, hG, hD⟩, hZ⟩ := hU
  have hA : ∀ q : Nat, s.heap.size ≤ q → (va_A (wX ax ac g) s.heap.size) q := fun q h => Or.inr h
  have hS := Stt.start hP hD
  show WT p l e rm_X0_alike s m [.ref (ax 0), .int a1] below meth c D (va_A (wX ax ac g) s.heap.size) oc s.heap [] 0 0 0 ls []
  have hl : lv_has ls 2 [(0, .ref (ax 0)), (1, .int a1)] := hl
  rw [f_X0_alike] at hr
  refine lv_aload_n hx hb dX0_alike_0 rfl (lv_at hl 0 rfl) ?_
  refine lv_bipush (v := 18) hx hb dX0_alike_1 rfl ?_
  refine lv_iload_n hx hb dX0_alike_3 rfl (lv_at hl 1 rfl) ?_
  refine lv_iconst (v := 0) hx hb dX0_alike_4 rfl ?_
  refine lv_iconst (v := 0) hx hb dX0_alike_5 rfl ?_
  obtain ⟨o1, ho1, hr⟩ := br_bind hr
  refine fwHV (As := [.int 18, .int a1, .int 0, .int 0]) (rest := []) (C := RX0) hx hb hml hown hts (m_X0_act l hst D ax ac g (18 : Int32) a1 (0 : Int32) (0 : Int32) _ o1 ho1) (cw_X0_act hts q294 ⟨Nat.le_of_ble_eq_true rfl, Nat.le_of_ble_eq_true rfl⟩) hG hZ hS hA ixX nd_X (pk_X ax ac _) (ad_X ax ac _ _) 0 0 rfl rfl rfl hl.1 rfl (Nat.le_of_ble_eq_true rfl) dX0_alike_6 ⟨Nat.le_of_ble_eq_true rfl, Nat.le_of_ble_eq_true rfl⟩ (wn := wX ax ac o1.2) (rep_X ax ac _ _) (fun H locs hS => ?_)
  have hP := hS.1
  refine W.widen (k := 700) (n := 4000) (by first | exact Nat.le_refl _ | (dsimp only [rm_X0_act]; omega)) (by first | exact Nat.le_refl _ | (dsimp only [rm_X0_act]; omega)) ?_
  obtain rfl := Option.some.inj hr
  refine W.widen (k := rm_X0_alike.cells) (n := rm_X0_alike.slots) (Nat.le_of_ble_eq_true rfl) (Nat.le_of_ble_eq_true rfl) ?_
  subst hoc
  exact xx_ret (W.iret hx hb hrt (fun t ht _ => hS.q ht rfl) hS.2.2.2.2 dX0_alike_9 hlk)
def f_X0_settles (g : XS) (a1 : Int32) : Option ((Int32 × XS) ⊕ (Int32 × XS)) := Option.bind (f_X0_act g (19 : Int32) a1 (0 : Int32) (0 : Int32)) fun o1 => some (Sum.inl (o1.1, o1.2))
abbrev rm_X0_settles : Room := ({ frames := 44, cells := 700, slots := 4000, locals := 2097 })
theorem cw_X0_settles {R : Room} {s : State} {args : Array Value} {own : String} {index : Nat} (hts : ∀ w ∈ lw_all, w.before args s = true) (hlink : Cond.methodLink own index yX0_settles ∈ lw_all) (hR : rm_X0_settles.frames + 1 ≤ R.frames ∧ 8 + (2 + 11) + rm_X0_settles.locals ≤ R.locals) : CallW R s args own RX0 index yX0_settles cX0_settles 2 (some FieldType.int) (ws_ yX0_settles cX0_settles 2 (some FieldType.int)) rm_X0_settles rm_X0_settles.cells rm_X0_settles.slots 1 :=
  cwV 1 hts (lw_V hlink q1073 q1074 q102 q1075) rfl rfl rfl (by decide +kernel) hR
set_option maxHeartbeats 4000000 in
theorem m_X0_settles (l : Launch) (hst : l.stackTraces = false) (D : va_G) (ax : Nat → Nat) (ac : Nat → ClassId) (g : XS) (a1 : Int32) (sz : Nat) (r0 : (Int32 × XS) ⊕ (Int32 × XS)) (hr : f_X0_settles g a1 = some r0) : TM l yX0_settles cX0_settles 2 (some FieldType.int) rm_X0_settles [.ref (ax 0), .int a1] D ac (wX ax ac g) sz (Sum.map (fun u => (wX ax ac u.2, (some (.int u.1)))) (fun u => (wX ax ac u.2, u.1)) r0) := by
  generalize hoc : (Sum.map (fun u => (wX ax ac u.2, (some (.int u.1)))) (fun u => (wX ax ac u.2, u.1)) r0 : Oc) = oc
  refine fw_ofT (by decide) (Nat.le_of_ble_eq_true rfl) ?_
  intro p e s m below meth c ls hx hb hrt hts hown hlk hml _ hnt hU hl
  obtain ⟨⟨rfl, hP, hG, hD⟩, hZ⟩ := hU
  have hA : ∀ q : Nat, s.heap.size ≤ q → (va_A (wX ax ac g) s.heap.size) q := fun q h => Or.inr h
  have hS := Stt.start hP hD
  show WT p l e rm_X0_settles s m [.ref (ax 0), .int a1] below meth c D (va_A (wX ax ac g) s.heap.size) oc s.heap [] 0 0 0 ls []
  have hl : lv_has ls 2 [(0, .ref (ax 0)), (1, .int a1)] := hl
  rw [f_X0_settles] at hr
  refine lv_aload_n hx hb dX0_settles_0 rfl (lv_at hl 0 rfl) ?_
  refine lv_bipush (v := 19) hx hb dX0_settles_1 rfl ?_
  refine lv_iload_n hx hb dX0_settles_3 rfl (lv_at hl 1 rfl) ?_
  refine lv_iconst (v := 0) hx hb dX0_settles_4 rfl ?_
  refine lv_iconst (v := 0) hx hb dX0_settles_5 rfl ?_
  obtain ⟨o1, ho1, hr⟩ := br_bind hr
  refine fwHV (As := [.int 19, .int a1, .int 0, .int 0]) (rest := []) (C := RX0) hx hb hml hown hts (m_X0_act l hst D ax ac g (19 : Int32) a1 (0 : Int32) (0 : Int32) _ o1 ho1) (cw_X0_act hts q294 ⟨Nat.le_of_ble_eq_true rfl, Nat.le_of_ble_eq_true rfl⟩) hG hZ hS hA ixX nd_X (pk_X ax ac _) (ad_X ax ac _ _) 0 0 rfl rfl rfl hl.1 rfl (Nat.le_of_ble_eq_true rfl) dX0_settles_6 ⟨Nat.le_of_ble_eq_true rfl, Nat.le_of_ble_eq_true rfl⟩ (wn := wX ax ac o1.2) (rep_X ax ac _ _) (fun H locs hS => ?_)
  have hP := hS.1
  refine W.widen (k := 700) (n := 4000) (by first | exact Nat.le_refl _ | (dsimp only [rm_X0_act]; omega)) (by first | exact Nat.le_refl _ | (dsimp only [rm_X0_act]; omega)) ?_
  obtain rfl := Option.some.inj hr
  refine W.widen (k := rm_X0_settles.cells) (n := rm_X0_settles.slots) (Nat.le_of_ble_eq_true rfl) (Nat.le_of_ble_eq_true rfl) ?_
  subst hoc
  exact xx_ret (W.iret hx hb hrt (fun t ht _ => hS.q ht rfl) hS.2.2.2.2 dX0_settles_9 hlk)
def f_X0_pips (g : XS) (a1 : Int32) : Option ((Int32 × XS) ⊕ (Int32 × XS)) := Option.bind (f_X0_act g (20 : Int32) a1 (0 : Int32) (0 : Int32)) fun o1 => some (Sum.inl (o1.1, o1.2))
abbrev rm_X0_pips : Room := ({ frames := 44, cells := 700, slots := 4000, locals := 2097 })
theorem cw_X0_pips {R : Room} {s : State} {args : Array Value} {own : String} {index : Nat} (hts : ∀ w ∈ lw_all, w.before args s = true) (hlink : Cond.methodLink own index yX0_pips ∈ lw_all) (hR : rm_X0_pips.frames + 1 ≤ R.frames ∧ 8 + (2 + 11) + rm_X0_pips.locals ≤ R.locals) : CallW R s args own RX0 index yX0_pips cX0_pips 2 (some FieldType.int) (ws_ yX0_pips cX0_pips 2 (some FieldType.int)) rm_X0_pips rm_X0_pips.cells rm_X0_pips.slots 1 :=
  cwV 1 hts (lw_V hlink q1077 q1078 q102 q1079) rfl rfl rfl (by decide +kernel) hR
set_option maxHeartbeats 4000000 in
theorem m_X0_pips (l : Launch) (hst : l.stackTraces = false) (D : va_G) (ax : Nat → Nat) (ac : Nat → ClassId) (g : XS) (a1 : Int32) (sz : Nat) (r0 : (Int32 × XS) ⊕ (Int32 × XS)) (hr : f_X0_pips g a1 = some r0) : TM l yX0_pips cX0_pips 2 (some FieldType.int) rm_X0_pips [.ref (ax 0), .int a1] D ac (wX ax ac g) sz (Sum.map (fun u => (wX ax ac u.2, (some (.int u.1)))) (fun u => (wX ax ac u.2, u.1)) r0) := by
  generalize hoc : (Sum.map (fun u => (wX ax ac u.2, (some (.int u.1)))) (fun u => (wX ax ac u.2, u.1)) r0 : Oc) = oc
  refine fw_ofT (by decide) (Nat.le_of_ble_eq_true rfl) ?_
  intro p e s m below meth c ls hx hb hrt hts hown hlk hml _ hnt hU hl
  obtain ⟨⟨rfl, hP, hG, hD⟩, hZ⟩ := hU
  have hA : ∀ q : Nat, s.heap.size ≤ q → (va_A (wX ax ac g) s.heap.size) q := fun q h => Or.inr h
  have hS := Stt.start hP hD
  show WT p l e rm_X0_pips s m [.ref (ax 0), .int a1] below meth c D (va_A (wX ax ac g) s.heap.size) oc s.heap [] 0 0 0 ls []
  have hl : lv_has ls 2 [(0, .ref (ax 0)), (1, .int a1)] := hl
  rw [f_X0_pips] at hr
  refine lv_aload_n hx hb dX0_pips_0 rfl (lv_at hl 0 rfl) ?_
  refine lv_bipush (v := 20) hx hb dX0_pips_1 rfl ?_
  refine lv_iload_n hx hb dX0_pips_3 rfl (lv_at hl 1 rfl) ?_
  refine lv_iconst (v := 0) hx hb dX0_pips_4 rfl ?_
  refine lv_iconst (v := 0) hx hb dX0_pips_5 rfl ?_
  obtain ⟨o1, ho1, hr⟩ := br_bind hr
  refine fwHV (As := [.int 20, .int a1, .int 0, .int 0]) (rest := []) (C := RX0) hx hb hml hown hts (m_X0_act l hst D ax ac g (20 : Int32) a1 (0 : Int32) (0 : Int32) _ o1 ho1) (cw_X0_act hts q294 ⟨Nat.le_of_ble_eq_true rfl, Nat.le_of_ble_eq_true rfl⟩) hG hZ hS hA ixX nd_X (pk_X ax ac _) (ad_X ax ac _ _) 0 0 rfl rfl rfl hl.1 rfl (Nat.le_of_ble_eq_true rfl) dX0_pips_6 ⟨Nat.le_of_ble_eq_true rfl, Nat.le_of_ble_eq_true rfl⟩ (wn := wX ax ac o1.2) (rep_X ax ac _ _) (fun H locs hS => ?_)
  have hP := hS.1
  refine W.widen (k := 700) (n := 4000) (by first | exact Nat.le_refl _ | (dsimp only [rm_X0_act]; omega)) (by first | exact Nat.le_refl _ | (dsimp only [rm_X0_act]; omega)) ?_
  obtain rfl := Option.some.inj hr
  refine W.widen (k := rm_X0_pips.cells) (n := rm_X0_pips.slots) (Nat.le_of_ble_eq_true rfl) (Nat.le_of_ble_eq_true rfl) ?_
  subst hoc
  exact xx_ret (W.iret hx hb hrt (fun t ht _ => hS.q ht rfl) hS.2.2.2.2 dX0_pips_9 hlk)
def f_X0_grudge (g : XS) (a1 : Int32) : Option ((Int32 × XS) ⊕ (Int32 × XS)) := Option.bind (f_X0_act g (21 : Int32) a1 (0 : Int32) (0 : Int32)) fun o1 => some (Sum.inl (o1.1, o1.2))
abbrev rm_X0_grudge : Room := ({ frames := 44, cells := 700, slots := 4000, locals := 2097 })
theorem cw_X0_grudge {R : Room} {s : State} {args : Array Value} {own : String} {index : Nat} (hts : ∀ w ∈ lw_all, w.before args s = true) (hlink : Cond.methodLink own index yX0_grudge ∈ lw_all) (hR : rm_X0_grudge.frames + 1 ≤ R.frames ∧ 8 + (2 + 11) + rm_X0_grudge.locals ≤ R.locals) : CallW R s args own RX0 index yX0_grudge cX0_grudge 2 (some FieldType.int) (ws_ yX0_grudge cX0_grudge 2 (some FieldType.int)) rm_X0_grudge rm_X0_grudge.cells rm_X0_grudge.slots 1 :=
  cwV 1 hts (lw_V hlink q1081 q1082 q102 q1083) rfl rfl rfl (by decide +kernel) hR
set_option maxHeartbeats 4000000 in
theorem m_X0_grudge (l : Launch) (hst : l.stackTraces = false) (D : va_G) (ax : Nat → Nat) (ac : Nat → ClassId) (g : XS) (a1 : Int32) (sz : Nat) (r0 : (Int32 × XS) ⊕ (Int32 × XS)) (hr : f_X0_grudge g a1 = some r0) : TM l yX0_grudge cX0_grudge 2 (some FieldType.int) rm_X0_grudge [.ref (ax 0), .int a1] D ac (wX ax ac g) sz (Sum.map (fun u => (wX ax ac u.2, (some (.int u.1)))) (fun u => (wX ax ac u.2, u.1)) r0) := by
  generalize hoc : (Sum.map (fun u => (wX ax ac u.2, (some (.int u.1)))) (fun u => (wX ax ac u.2, u.1)) r0 : Oc) = oc
  refine fw_ofT (by decide) (Nat.le_of_ble_eq_true rfl) ?_
  intro p e s m below meth c ls hx hb hrt hts hown hlk hml _ hnt hU hl
  obtain ⟨⟨rfl, hP, hG, hD⟩, hZ⟩ := hU
  have hA : ∀ q : Nat, s.heap.size ≤ q → (va_A (wX ax ac g) s.heap.size) q := fun q h => Or.inr h
  have hS := Stt.start hP hD
  show WT p l e rm_X0_grudge s m [.ref (ax 0), .int a1] below meth c D (va_A (wX ax ac g) s.heap.size) oc s.heap [] 0 0 0 ls []
  have hl : lv_has ls 2 [(0, .ref (ax 0)), (1, .int a1)] := hl
  rw [f_X0_grudge] at hr
  refine lv_aload_n hx hb dX0_grudge_0 rfl (lv_at hl 0 rfl) ?_
  refine lv_bipush (v := 21) hx hb dX0_grudge_1 rfl ?_
  refine lv_iload_n hx hb dX0_grudge_3 rfl (lv_at hl 1 rfl) ?_
  refine lv_iconst (v := 0) hx hb dX0_grudge_4 rfl ?_
  refine lv_iconst (v := 0) hx hb dX0_grudge_5 rfl ?_
  obtain ⟨o1, ho1, hr⟩ := br_bind hr
  refine fwHV (As := [.int 21, .int a1, .int 0, .int 0]) (rest := []) (C := RX0) hx hb hml hown hts (m_X0_act l hst D ax ac g (21 : Int32) a1 (0 : Int32) (0 : Int32) _ o1 ho1) (cw_X0_act hts q294 ⟨Nat.le_of_ble_eq_true rfl, Nat.le_of_ble_eq_true rfl⟩) hG hZ hS hA ixX nd_X (pk_X ax ac _) (ad_X ax ac _ _) 0 0 rfl rfl rfl hl.1 rfl (Nat.le_of_ble_eq_true rfl) dX0_grudge_6 ⟨Nat.le_of_ble_eq_true rfl, Nat.le_of_ble_eq_true rfl⟩ (wn := wX ax ac o1.2) (rep_X ax ac _ _) (fun H locs hS => ?_)
  have hP := hS.1
  refine W.widen (k := 700) (n := 4000) (by first | exact Nat.le_refl _ | (dsimp only [rm_X0_act]; omega)) (by first | exact Nat.le_refl _ | (dsimp only [rm_X0_act]; omega)) ?_
  obtain rfl := Option.some.inj hr
  refine W.widen (k := rm_X0_grudge.cells) (n := rm_X0_grudge.slots) (Nat.le_of_ble_eq_true rfl) (Nat.le_of_ble_eq_true rfl) ?_
  subst hoc
  exact xx_ret (W.iret hx hb hrt (fun t ht _ => hS.q ht rfl) hS.2.2.2.2 dX0_grudge_9 hlk)
def f_X0_gain (g : XS) (a1 : Int32) (a2 : Int32) : Option ((Int32 × XS) ⊕ (Int32 × XS)) := Option.bind (f_X0_actFar g (22 : Int32) a1 a2 (0 : Int32)) fun o1 => some (Sum.inl (o1.1, o1.2))
abbrev rm_X0_gain : Room := ({ frames := 44, cells := 700, slots := 4000, locals := 2097 })
theorem cw_X0_gain {R : Room} {s : State} {args : Array Value} {own : String} {index : Nat} (hts : ∀ w ∈ lw_all, w.before args s = true) (hlink : Cond.methodLink own index yX0_gain ∈ lw_all) (hR : rm_X0_gain.frames + 1 ≤ R.frames ∧ 8 + (3 + 11) + rm_X0_gain.locals ≤ R.locals) : CallW R s args own RX0 index yX0_gain cX0_gain 3 (some FieldType.int) (ws_ yX0_gain cX0_gain 3 (some FieldType.int)) rm_X0_gain rm_X0_gain.cells rm_X0_gain.slots 2 :=
  cwV 2 hts (lw_V hlink q1085 q1086 q102 q1087) rfl rfl rfl (by decide +kernel) hR
set_option maxHeartbeats 4000000 in
theorem m_X0_gain (l : Launch) (hst : l.stackTraces = false) (D : va_G) (ax : Nat → Nat) (ac : Nat → ClassId) (g : XS) (a1 : Int32) (a2 : Int32) (sz : Nat) (r0 : (Int32 × XS) ⊕ (Int32 × XS)) (hr : f_X0_gain g a1 a2 = some r0) : TM l yX0_gain cX0_gain 3 (some FieldType.int) rm_X0_gain [.ref (ax 0), .int a1, .int a2] D ac (wX ax ac g) sz (Sum.map (fun u => (wX ax ac u.2, (some (.int u.1)))) (fun u => (wX ax ac u.2, u.1)) r0) := by
  generalize hoc : (Sum.map (fun u => (wX ax ac u.2, (some (.int u.1)))) (fun u => (wX ax ac u.2, u.1)) r0 : Oc) = oc
  refine fw_ofT (by decide) (Nat.le_of_ble_eq_true rfl) ?_
  intro p e s m below meth c ls hx hb hrt hts hown hlk hml _ hnt hU hl
  obtain ⟨⟨rfl, hP, hG, hD⟩, hZ⟩ := hU
  have hA : ∀ q : Nat, s.heap.size ≤ q → (va_A (wX ax ac g) s.heap.size) q := fun q h => Or.inr h
  have hS := Stt.start hP hD
  show WT p l e rm_X0_gain s m [.ref (ax 0), .int a1, .int a2] below meth c D (va_A (wX ax ac g) s.heap.size) oc s.heap [] 0 0 0 ls []
  have hl : lv_has ls 3 [(0, .ref (ax 0)), (1, .int a1), (2, .int a2)] := hl
  rw [f_X0_gain] at hr
  refine lv_aload_n hx hb dX0_gain_0 rfl (lv_at hl 0 rfl) ?_
  refine lv_bipush (v := 22) hx hb dX0_gain_1 rfl ?_
  refine lv_iload_n hx hb dX0_gain_3 rfl (lv_at hl 1 rfl) ?_
  refine lv_iload_n hx hb dX0_gain_4 rfl (lv_at hl 2 rfl) ?_
  refine lv_iconst (v := 0) hx hb dX0_gain_5 rfl ?_
  obtain ⟨o1, ho1, hr⟩ := br_bind hr
  refine fwHV (As := [.int 22, .int a1, .int a2, .int 0]) (rest := []) (C := RX0) hx hb hml hown hts (m_X0_actFar l hst D ax ac g (22 : Int32) a1 a2 (0 : Int32) _ o1 ho1) (cw_X0_actFar hts q1088 ⟨Nat.le_of_ble_eq_true rfl, Nat.le_of_ble_eq_true rfl⟩) hG hZ hS hA ixX nd_X (pk_X ax ac _) (ad_X ax ac _ _) 0 0 rfl rfl rfl hl.1 rfl (Nat.le_of_ble_eq_true rfl) dX0_gain_6 ⟨Nat.le_of_ble_eq_true rfl, Nat.le_of_ble_eq_true rfl⟩ (wn := wX ax ac o1.2) (rep_X ax ac _ _) (fun H locs hS => ?_)
  have hP := hS.1
  refine W.widen (k := 700) (n := 4000) (by first | exact Nat.le_refl _ | (dsimp only [rm_X0_actFar]; omega)) (by first | exact Nat.le_refl _ | (dsimp only [rm_X0_actFar]; omega)) ?_
  obtain rfl := Option.some.inj hr
  refine W.widen (k := rm_X0_gain.cells) (n := rm_X0_gain.slots) (Nat.le_of_ble_eq_true rfl) (Nat.le_of_ble_eq_true rfl) ?_
  subst hoc
  exact xx_ret (W.iret hx hb hrt (fun t ht _ => hS.q ht rfl) hS.2.2.2.2 dX0_gain_9 hlk)
def f_X0_join (g : XS) (a1 : Int32) : Option ((Int32 × XS) ⊕ (Int32 × XS)) := Option.bind (f_X0_act g (23 : Int32) a1 (0 : Int32) (0 : Int32)) fun o1 => some (Sum.inl (o1.1, o1.2))
abbrev rm_X0_join : Room := ({ frames := 44, cells := 700, slots := 4000, locals := 2097 })
theorem cw_X0_join {R : Room} {s : State} {args : Array Value} {own : String} {index : Nat} (hts : ∀ w ∈ lw_all, w.before args s = true) (hlink : Cond.methodLink own index yX0_join ∈ lw_all) (hR : rm_X0_join.frames + 1 ≤ R.frames ∧ 8 + (2 + 11) + rm_X0_join.locals ≤ R.locals) : CallW R s args own RX0 index yX0_join cX0_join 2 (some FieldType.int) (ws_ yX0_join cX0_join 2 (some FieldType.int)) rm_X0_join rm_X0_join.cells rm_X0_join.slots 1 :=
  cwV 1 hts (lw_V hlink q1093 q1094 q102 q1095) rfl rfl rfl (by decide +kernel) hR
set_option maxHeartbeats 4000000 in
theorem m_X0_join (l : Launch) (hst : l.stackTraces = false) (D : va_G) (ax : Nat → Nat) (ac : Nat → ClassId) (g : XS) (a1 : Int32) (sz : Nat) (r0 : (Int32 × XS) ⊕ (Int32 × XS)) (hr : f_X0_join g a1 = some r0) : TM l yX0_join cX0_join 2 (some FieldType.int) rm_X0_join [.ref (ax 0), .int a1] D ac (wX ax ac g) sz (Sum.map (fun u => (wX ax ac u.2, (some (.int u.1)))) (fun u => (wX ax ac u.2, u.1)) r0) := by
  generalize hoc : (Sum.map (fun u => (wX ax ac u.2, (some (.int u.1)))) (fun u => (wX ax ac u.2, u.1)) r0 : Oc) = oc
  refine fw_ofT (by decide) (Nat.le_of_ble_eq_true rfl) ?_
  intro p e s m below meth c ls hx hb hrt hts hown hlk hml _ hnt hU hl
  obtain ⟨⟨rfl, hP, hG, hD⟩, hZ⟩ := hU
  have hA : ∀ q : Nat, s.heap.size ≤ q → (va_A (wX ax ac g) s.heap.size) q := fun q h => Or.inr h
  have hS := Stt.start hP hD
  show WT p l e rm_X0_join s m [.ref (ax 0), .int a1] below meth c D (va_A (wX ax ac g) s.heap.size) oc s.heap [] 0 0 0 ls []
  have hl : lv_has ls 2 [(0, .ref (ax 0)), (1, .int a1)] := hl
  rw [f_X0_join] at hr
  refine lv_aload_n hx hb dX0_join_0 rfl (lv_at hl 0 rfl) ?_
  refine lv_bipush (v := 23) hx hb dX0_join_1 rfl ?_
  refine lv_iload_n hx hb dX0_join_3 rfl (lv_at hl 1 rfl) ?_
  refine lv_iconst (v := 0) hx hb dX0_join_4 rfl ?_
  refine lv_iconst (v := 0) hx hb dX0_join_5 rfl ?_
  obtain ⟨o1, ho1, hr⟩ := br_bind hr
  refine fwHV (As := [.int 23, .int a1, .int 0, .int 0]) (rest := []) (C := RX0) hx hb hml hown hts (m_X0_act l hst D ax ac g (23 : Int32) a1 (0 : Int32) (0 : Int32) _ o1 ho1) (cw_X0_act hts q294 ⟨Nat.le_of_ble_eq_true rfl, Nat.le_of_ble_eq_true rfl⟩) hG hZ hS hA ixX nd_X (pk_X ax ac _) (ad_X ax ac _ _) 0 0 rfl rfl rfl hl.1 rfl (Nat.le_of_ble_eq_true rfl) dX0_join_6 ⟨Nat.le_of_ble_eq_true rfl, Nat.le_of_ble_eq_true rfl⟩ (wn := wX ax ac o1.2) (rep_X ax ac _ _) (fun H locs hS => ?_)
  have hP := hS.1
  refine W.widen (k := 700) (n := 4000) (by first | exact Nat.le_refl _ | (dsimp only [rm_X0_act]; omega)) (by first | exact Nat.le_refl _ | (dsimp only [rm_X0_act]; omega)) ?_
  obtain rfl := Option.some.inj hr
  refine W.widen (k := rm_X0_join.cells) (n := rm_X0_join.slots) (Nat.le_of_ble_eq_true rfl) (Nat.le_of_ble_eq_true rfl) ?_
  subst hoc
  exact xx_ret (W.iret hx hb hrt (fun t ht _ => hS.q ht rfl) hS.2.2.2.2 dX0_join_9 hlk)
def f_X0_bridge (g : XS) (a1 : Int32) : Option ((Int32 × XS) ⊕ (Int32 × XS)) := Option.bind (f_X0_act g (24 : Int32) a1 (0 : Int32) (0 : Int32)) fun o1 => some (Sum.inl (o1.1, o1.2))
abbrev rm_X0_bridge : Room := ({ frames := 44, cells := 700, slots := 4000, locals := 2097 })
theorem cw_X0_bridge {R : Room} {s : State} {args : Array Value} {own : String} {index : Nat} (hts : ∀ w ∈ lw_all, w.before args s = true) (hlink : Cond.methodLink own index yX0_bridge ∈ lw_all) (hR : rm_X0_bridge.frames + 1 ≤ R.frames ∧ 8 + (2 + 11) + rm_X0_bridge.locals ≤ R.locals) : CallW R s args own RX0 index yX0_bridge cX0_bridge 2 (some FieldType.int) (ws_ yX0_bridge cX0_bridge 2 (some FieldType.int)) rm_X0_bridge rm_X0_bridge.cells rm_X0_bridge.slots 1 :=
  cwV 1 hts (lw_V hlink q1097 q1098 q102 q1099) rfl rfl rfl (by decide +kernel) hR
set_option maxHeartbeats 4000000 in
theorem m_X0_bridge (l : Launch) (hst : l.stackTraces = false) (D : va_G) (ax : Nat → Nat) (ac : Nat → ClassId) (g : XS) (a1 : Int32) (sz : Nat) (r0 : (Int32 × XS) ⊕ (Int32 × XS)) (hr : f_X0_bridge g a1 = some r0) : TM l yX0_bridge cX0_bridge 2 (some FieldType.int) rm_X0_bridge [.ref (ax 0), .int a1] D ac (wX ax ac g) sz (Sum.map (fun u => (wX ax ac u.2, (some (.int u.1)))) (fun u => (wX ax ac u.2, u.1)) r0) := by
  generalize hoc : (Sum.map (fun u => (wX ax ac u.2, (some (.int u.1)))) (fun u => (wX ax ac u.2, u.1)) r0 : Oc) = oc
  refine fw_ofT (by decide) (Nat.le_of_ble_eq_true rfl) ?_
  intro p e s m below meth c ls hx hb hrt hts hown hlk hml _ hnt hU hl
  obtain ⟨⟨rfl, hP, hG, hD⟩, hZ⟩ := hU
  have hA : ∀ q : Nat, s.heap.size ≤ q → (va_A (wX ax ac g) s.heap.size) q := fun q h => Or.inr h
  have hS := Stt.start hP hD
  show WT p l e rm_X0_bridge s m [.ref (ax 0), .int a1] below meth c D (va_A (wX ax ac g) s.heap.size) oc s.heap [] 0 0 0 ls []
  have hl : lv_has ls 2 [(0, .ref (ax 0)), (1, .int a1)] := hl
  rw [f_X0_bridge] at hr
  refine lv_aload_n hx hb dX0_bridge_0 rfl (lv_at hl 0 rfl) ?_
  refine lv_bipush (v := 24) hx hb dX0_bridge_1 rfl ?_
  refine lv_iload_n hx hb dX0_bridge_3 rfl (lv_at hl 1 rfl) ?_
  refine lv_iconst (v := 0) hx hb dX0_bridge_4 rfl ?_
  refine lv_iconst (v := 0) hx hb dX0_bridge_5 rfl ?_
  obtain ⟨o1, ho1, hr⟩ := br_bind hr
  refine fwHV (As := [.int 24, .int a1, .int 0, .int 0]) (rest := []) (C := RX0) hx hb hml hown hts (m_X0_act l hst D ax ac g (24 : Int32) a1 (0 : Int32) (0 : Int32) _ o1 ho1) (cw_X0_act hts q294 ⟨Nat.le_of_ble_eq_true rfl, Nat.le_of_ble_eq_true rfl⟩) hG hZ hS hA ixX nd_X (pk_X ax ac _) (ad_X ax ac _ _) 0 0 rfl rfl rfl hl.1 rfl (Nat.le_of_ble_eq_true rfl) dX0_bridge_6 ⟨Nat.le_of_ble_eq_true rfl, Nat.le_of_ble_eq_true rfl⟩ (wn := wX ax ac o1.2) (rep_X ax ac _ _) (fun H locs hS => ?_)
  have hP := hS.1
  refine W.widen (k := 700) (n := 4000) (by first | exact Nat.le_refl _ | (dsimp only [rm_X0_act]; omega)) (by first | exact Nat.le_refl _ | (dsimp only [rm_X0_act]; omega)) ?_
  obtain rfl := Option.some.inj hr
  refine W.widen (k := rm_X0_bridge.cells) (n := rm_X0_bridge.slots) (Nat.le_of_ble_eq_true rfl) (Nat.le_of_ble_eq_true rfl) ?_
  subst hoc
  exact xx_ret (W.iret hx hb hrt (fun t ht _ => hS.q ht rfl) hS.2.2.2.2 dX0_bridge_9 hlk)
def f_X0_two (g : XS) (a1 : Int32) (a2 : Int32) : Option ((Int32 × XS) ⊕ (Int32 × XS)) := Option.bind (f_X0_act g (25 : Int32) a1 a2 (0 : Int32)) fun o1 => some (Sum.inl (o1.1, o1.2))
abbrev rm_X0_two : Room := ({ frames := 44, cells := 700, slots := 4000, locals := 2097 })
theorem cw_X0_two {R : Room} {s : State} {args : Array Value} {own : String} {index : Nat} (hts : ∀ w ∈ lw_all, w.before args s = true) (hlink : Cond.methodLink own index yX0_two ∈ lw_all) (hR : rm_X0_two.frames + 1 ≤ R.frames ∧ 8 + (3 + 11) + rm_X0_two.locals ≤ R.locals) : CallW R s args own RX0 index yX0_two cX0_two 3 (some FieldType.int) (ws_ yX0_two cX0_two 3 (some FieldType.int)) rm_X0_two rm_X0_two.cells rm_X0_two.slots 2 :=
  cwV 2 hts (lw_V hlink q1101 q1102 q102 q1103) rfl rfl rfl (by decide +kernel) hR
set_option maxHeartbeats 4000000 in
theorem m_X0_two (l : Launch) (hst : l.stackTraces = false) (D : va_G) (ax : Nat → Nat) (ac : Nat → ClassId) (g : XS) (a1 : Int32) (a2 : Int32) (sz : Nat) (r0 : (Int32 × XS) ⊕ (Int32 × XS)) (hr : f_X0_two g a1 a2 = some r0) : TM l yX0_two cX0_two 3 (some FieldType.int) rm_X0_two [.ref (ax 0), .int a1, .int a2] D ac (wX ax ac g) sz (Sum.map (fun u => (wX ax ac u.2, (some (.int u.1)))) (fun u => (wX ax ac u.2, u.1)) r0) := by
  generalize hoc : (Sum.map (fun u => (wX ax ac u.2, (some (.int u.1)))) (fun u => (wX ax ac u.2, u.1)) r0 : Oc) = oc
  refine fw_ofT (by decide) (Nat.le_of_ble_eq_true rfl) ?_
  intro p e s m below meth c ls hx hb hrt hts hown hlk hml _ hnt hU hl
  obtain ⟨⟨rfl, hP, hG, hD⟩, hZ⟩ := hU
  have hA : ∀ q : Nat, s.heap.size ≤ q → (va_A (wX ax ac g) s.heap.size) q := fun q h => Or.inr h
  have hS := Stt.start hP hD
  show WT p l e rm_X0_two s m [.ref (ax 0), .int a1, .int a2] below meth c D (va_A (wX ax ac g) s.heap.size) oc s.heap [] 0 0 0 ls []
  have hl : lv_has ls 3 [(0, .ref (ax 0)), (1, .int a1), (2, .int a2)] := hl
  rw [f_X0_two] at hr
  refine lv_aload_n hx hb dX0_two_0 rfl (lv_at hl 0 rfl) ?_
  refine lv_bipush (v := 25) hx hb dX0_two_1 rfl ?_
  refine lv_iload_n hx hb dX0_two_3 rfl (lv_at hl 1 rfl) ?_
  refine lv_iload_n hx hb dX0_two_4 rfl (lv_at hl 2 rfl) ?_
  refine lv_iconst (v := 0) hx hb dX0_two_5 rfl ?_
  obtain ⟨o1, ho1, hr⟩ := br_bind hr
  refine fwHV (As := [.int 25, .int a1, .int a2, .int 0]) (rest := []) (C := RX0) hx hb hml hown hts (m_X0_act l hst D ax ac g (25 : Int32) a1 a2 (0 : Int32) _ o1 ho1) (cw_X0_act hts q294 ⟨Nat.le_of_ble_eq_true rfl, Nat.le_of_ble_eq_true rfl⟩) hG hZ hS hA ixX nd_X (pk_X ax ac _) (ad_X ax ac _ _) 0 0 rfl rfl rfl hl.1 rfl (Nat.le_of_ble_eq_true rfl) dX0_two_6 ⟨Nat.le_of_ble_eq_true rfl, Nat.le_of_ble_eq_true rfl⟩ (wn := wX ax ac o1.2) (rep_X ax ac _ _) (fun H locs hS => ?_)
  have hP := hS.1
  refine W.widen (k := 700) (n := 4000) (by first | exact Nat.le_refl _ | (dsimp only [rm_X0_act]; omega)) (by first | exact Nat.le_refl _ | (dsimp only [rm_X0_act]; omega)) ?_
  obtain rfl := Option.some.inj hr
  refine W.widen (k := rm_X0_two.cells) (n := rm_X0_two.slots) (Nat.le_of_ble_eq_true rfl) (Nat.le_of_ble_eq_true rfl) ?_
  subst hoc
  exact xx_ret (W.iret hx hb hrt (fun t ht _ => hS.q ht rfl) hS.2.2.2.2 dX0_two_9 hlk)
def f_X0_chance (g : XS) (a1 : Int32) (a2 : Int32) (a3 : Int32) (a4 : Int32) : Option ((Int64 × XS) ⊕ (Int32 × XS)) := Option.bind (f_X0_chanceTold g a1 a2 a3 a4) fun o1 => some (Sum.inl (o1.1, o1.2))
abbrev rm_X0_chance : Room := ({ frames := 16, cells := 4, slots := 28, locals := 614 })
theorem cw_X0_chance {R : Room} {s : State} {args : Array Value} {own : String} {index : Nat} (hts : ∀ w ∈ lw_all, w.before args s = true) (hlink : Cond.methodLink own index yX0_chance ∈ lw_all) (hR : rm_X0_chance.frames + 1 ≤ R.frames ∧ 8 + (5 + 11) + rm_X0_chance.locals ≤ R.locals) : CallW R s args own RX0 index yX0_chance cX0_chance 5 (some FieldType.long) (ws_ yX0_chance cX0_chance 5 (some FieldType.long)) rm_X0_chance rm_X0_chance.cells rm_X0_chance.slots 4 :=
  cwV 4 hts (lw_V hlink q1105 q1106 q102 q1107) rfl rfl rfl (by decide +kernel) hR
set_option maxHeartbeats 4000000 in
theorem m_X0_chance (l : Launch) (hst : l.stackTraces = false) (D : va_G) (ax : Nat → Nat) (ac : Nat → ClassId) (g : XS) (a1 : Int32) (a2 : Int32) (a3 : Int32) (a4 : Int32) (sz : Nat) (r0 : (Int64 × XS) ⊕ (Int32 × XS)) (hr : f_X0_chance g a1 a2 a3 a4 = some r0) : TM l yX0_chance cX0_chance 5 (some FieldType.long) rm_X0_chance [.ref (ax 0), .int a1, .int a2, .int a3, .int a4] D ac (wX ax ac g) sz (Sum.map (fun u => (wX ax ac u.2, (some (.long u.1)))) (fun u => (wX ax ac u.2, u.1)) r0) := by
  generalize hoc : (Sum.map (fun u => (wX ax ac u.2, (some (.long u.1)))) (fun u => (wX ax ac u.2, u.1)) r0 : Oc) = oc
  refine fw_ofT (by decide) (Nat.le_of_ble_eq_true rfl) ?_
  intro p e s m below meth c ls hx hb hrt hts hown hlk hml _ hnt hU hl
  obtain ⟨⟨rfl, hP, hG, hD⟩, hZ⟩ := hU
  have hA : ∀ q : Nat, s.heap.size ≤ q → (va_A (wX ax ac g) s.heap.size) q := fun q h => Or.inr h
  have hS := Stt.start hP hD
  show WT p l e rm_X0_chance s m [.ref (ax 0), .int a1, .int a2, .int a3, .int a4] below meth c D (va_A (wX ax ac g) s.heap.size) oc s.heap [] 0 0 0 ls []
  have hl : lv_has ls 5 [(0, .ref (ax 0)), (1, .int a1), (2, .int a2), (3, .int a3), (4, .int a4)] := hl
  rw [f_X0_chance] at hr
  refine lv_aload_n hx hb dX0_chance_0 rfl (lv_at hl 0 rfl) ?_
  refine lv_iload_n hx hb dX0_chance_1 rfl (lv_at hl 1 rfl) ?_
  refine lv_iload_n hx hb dX0_chance_2 rfl (lv_at hl 2 rfl) ?_
  refine lv_iload_n hx hb dX0_chance_3 rfl (lv_at hl 3 rfl) ?_
  refine lv_iload hx hb dX0_chance_4 (lv_at hl 4 rfl) ?_
  obtain ⟨o1, ho1, hr⟩ := br_bind hr
  refine fwHV (As := [.int a1, .int a2, .int a3, .int a4]) (rest := []) (C := RX0) hx hb hml hown hts (m_X0_chanceTold l hst D ax ac g a1 a2 a3 a4 _ o1 ho1) (cw_X0_chanceTold hts q1108 ⟨Nat.le_of_ble_eq_true rfl, Nat.le_of_ble_eq_true rfl⟩) hG hZ hS hA ixX nd_X (pk_X ax ac _) (ad_X ax ac _ _) 0 0 rfl rfl rfl hl.1 rfl (Nat.le_of_ble_eq_true rfl) dX0_chance_6 ⟨Nat.le_of_ble_eq_true rfl, Nat.le_of_ble_eq_true rfl⟩ (wn := wX ax ac o1.2) (rep_X ax ac _ _) (fun H locs hS => ?_)
  have hP := hS.1
  refine W.widen (k := 4) (n := 28) (by first | exact Nat.le_refl _ | (dsimp only [rm_X0_chanceTold]; omega)) (by first | exact Nat.le_refl _ | (dsimp only [rm_X0_chanceTold]; omega)) ?_
  obtain rfl := Option.some.inj hr
  refine W.widen (k := rm_X0_chance.cells) (n := rm_X0_chance.slots) (Nat.le_of_ble_eq_true rfl) (Nat.le_of_ble_eq_true rfl) ?_
  subst hoc
  exact xx_ret (W.lret hx hb hrt (fun t ht _ => hS.q ht rfl) hS.2.2.2.2 dX0_chance_9 hlk)
def f_X0_mean (g : XS) (a1 : Int32) : Option ((Int64 × XS) ⊕ (Int32 × XS)) := Option.bind (f_X0_meanTold g a1) fun o1 => some (Sum.inl (o1.1, o1.2))
abbrev rm_X0_mean : Room := ({ frames := 12, cells := 1, slots := 7, locals := 465 })
theorem cw_X0_mean {R : Room} {s : State} {args : Array Value} {own : String} {index : Nat} (hts : ∀ w ∈ lw_all, w.before args s = true) (hlink : Cond.methodLink own index yX0_mean ∈ lw_all) (hR : rm_X0_mean.frames + 1 ≤ R.frames ∧ 8 + (2 + 11) + rm_X0_mean.locals ≤ R.locals) : CallW R s args own RX0 index yX0_mean cX0_mean 2 (some FieldType.long) (ws_ yX0_mean cX0_mean 2 (some FieldType.long)) rm_X0_mean rm_X0_mean.cells rm_X0_mean.slots 1 :=
  cwV 1 hts (lw_V hlink q1132 q1133 q102 q1134) rfl rfl rfl (by decide +kernel) hR
set_option maxHeartbeats 4000000 in
theorem m_X0_mean (l : Launch) (hst : l.stackTraces = false) (D : va_G) (ax : Nat → Nat) (ac : Nat → ClassId) (g : XS) (a1 : Int32) (sz : Nat) (r0 : (Int64 × XS) ⊕ (Int32 × XS)) (hr : f_X0_mean g a1 = some r0) : TM l yX0_mean cX0_mean 2 (some FieldType.long) rm_X0_mean [.ref (ax 0), .int a1] D ac (wX ax ac g) sz (Sum.map (fun u => (wX ax ac u.2, (some (.long u.1)))) (fun u => (wX ax ac u.2, u.1)) r0) := by
  generalize hoc : (Sum.map (fun u => (wX ax ac u.2, (some (.long u.1)))) (fun u => (wX ax ac u.2, u.1)) r0 : Oc) = oc
  refine fw_ofT (by decide) (Nat.le_of_ble_eq_true rfl) ?_
  intro p e s m below meth c ls hx hb hrt hts hown hlk hml _ hnt hU hl
  obtain ⟨⟨rfl, hP, hG, hD⟩, hZ⟩ := hU
  have hA : ∀ q : Nat, s.heap.size ≤ q → (va_A (wX ax ac g) s.heap.size) q := fun q h => Or.inr h
  have hS := Stt.start hP hD
  show WT p l e rm_X0_mean s m [.ref (ax 0), .int a1] below meth c D (va_A (wX ax ac g) s.heap.size) oc s.heap [] 0 0 0 ls []
  have hl : lv_has ls 2 [(0, .ref (ax 0)), (1, .int a1)] := hl
  rw [f_X0_mean] at hr
  refine lv_aload_n hx hb dX0_mean_0 rfl (lv_at hl 0 rfl) ?_
  refine lv_iload_n hx hb dX0_mean_1 rfl (lv_at hl 1 rfl) ?_
  obtain ⟨o1, ho1, hr⟩ := br_bind hr
  refine fwHV (As := [.int a1]) (rest := []) (C := RX0) hx hb hml hown hts (m_X0_meanTold l hst D ax ac g a1 _ o1 ho1) (cw_X0_meanTold hts q1135 ⟨Nat.le_of_ble_eq_true rfl, Nat.le_of_ble_eq_true rfl⟩) hG hZ hS hA ixX nd_X (pk_X ax ac _) (ad_X ax ac _ _) 0 0 rfl rfl rfl hl.1 rfl (Nat.le_of_ble_eq_true rfl) dX0_mean_2 ⟨Nat.le_of_ble_eq_true rfl, Nat.le_of_ble_eq_true rfl⟩ (wn := wX ax ac o1.2) (rep_X ax ac _ _) (fun H locs hS => ?_)
  have hP := hS.1
  refine W.widen (k := 1) (n := 7) (by first | exact Nat.le_refl _ | (dsimp only [rm_X0_meanTold]; omega)) (by first | exact Nat.le_refl _ | (dsimp only [rm_X0_meanTold]; omega)) ?_
  obtain rfl := Option.some.inj hr
  refine W.widen (k := rm_X0_mean.cells) (n := rm_X0_mean.slots) (Nat.le_of_ble_eq_true rfl) (Nat.le_of_ble_eq_true rfl) ?_
  subst hoc
  exact xx_ret (W.lret hx hb hrt (fun t ht _ => hS.q ht rfl) hS.2.2.2.2 dX0_mean_5 hlk)
def f_X0_whatIs (g : XS) (a1 : Int32) (a2 : Int32) : Option ((Int32 × XS) ⊕ (Int32 × XS)) := Option.bind (f_X0_act g (26 : Int32) a1 a2 (0 : Int32)) fun o1 => some (Sum.inl (o1.1, o1.2))
abbrev rm_X0_whatIs : Room := ({ frames := 44, cells := 700, slots := 4000, locals := 2097 })
theorem cw_X0_whatIs {R : Room} {s : State} {args : Array Value} {own : String} {index : Nat} (hts : ∀ w ∈ lw_all, w.before args s = true) (hlink : Cond.methodLink own index yX0_whatIs ∈ lw_all) (hR : rm_X0_whatIs.frames + 1 ≤ R.frames ∧ 8 + (3 + 11) + rm_X0_whatIs.locals ≤ R.locals) : CallW R s args own RX0 index yX0_whatIs cX0_whatIs 3 (some FieldType.int) (ws_ yX0_whatIs cX0_whatIs 3 (some FieldType.int)) rm_X0_whatIs rm_X0_whatIs.cells rm_X0_whatIs.slots 2 :=
  cwV 2 hts (lw_V hlink q1140 q1141 q102 q1142) rfl rfl rfl (by decide +kernel) hR
set_option maxHeartbeats 4000000 in
theorem m_X0_whatIs (l : Launch) (hst : l.stackTraces = false) (D : va_G) (ax : Nat → Nat) (ac : Nat → ClassId) (g : XS) (a1 : Int32) (a2 : Int32) (sz : Nat) (r0 : (Int32 × XS) ⊕ (Int32 × XS)) (hr : f_X0_whatIs g a1 a2 = some r0) : TM l yX0_whatIs cX0_whatIs 3 (some FieldType.int) rm_X0_whatIs [.ref (ax 0), .int a1, .int a2] D ac (wX ax ac g) sz (Sum.map (fun u => (wX ax ac u.2, (some (.int u.1)))) (fun u => (wX ax ac u.2, u.1)) r0) := by
  generalize hoc : (Sum.map (fun u => (wX ax ac u.2, (some (.int u.1)))) (fun u => (wX ax ac u.2, u.1)) r0 : Oc) = oc
  refine fw_ofT (by decide) (Nat.le_of_ble_eq_true rfl) ?_
  intro p e s m below meth c ls hx hb hrt hts hown hlk hml _ hnt hU hl
  obtain ⟨⟨rfl, hP, hG, hD⟩, hZ⟩ := hU
  have hA : ∀ q : Nat, s.heap.size ≤ q → (va_A (wX ax ac g) s.heap.size) q := fun q h => Or.inr h
  have hS := Stt.start hP hD
  show WT p l e rm_X0_whatIs s m [.ref (ax 0), .int a1, .int a2] below meth c D (va_A (wX ax ac g) s.heap.size) oc s.heap [] 0 0 0 ls []
  have hl : lv_has ls 3 [(0, .ref (ax 0)), (1, .int a1), (2, .int a2)] := hl
  rw [f_X0_whatIs] at hr
  refine lv_aload_n hx hb dX0_whatIs_0 rfl (lv_at hl 0 rfl) ?_
  refine lv_bipush (v := 26) hx hb dX0_whatIs_1 rfl ?_
  refine lv_iload_n hx hb dX0_whatIs_3 rfl (lv_at hl 1 rfl) ?_
  refine lv_iload_n hx hb dX0_whatIs_4 rfl (lv_at hl 2 rfl) ?_
  refine lv_iconst (v := 0) hx hb dX0_whatIs_5 rfl ?_
  obtain ⟨o1, ho1, hr⟩ := br_bind hr
  refine fwHV (As := [.int 26, .int a1, .int a2, .int 0]) (rest := []) (C := RX0) hx hb hml hown hts (m_X0_act l hst D ax ac g (26 : Int32) a1 a2 (0 : Int32) _ o1 ho1) (cw_X0_act hts q294 ⟨Nat.le_of_ble_eq_true rfl, Nat.le_of_ble_eq_true rfl⟩) hG hZ hS hA ixX nd_X (pk_X ax ac _) (ad_X ax ac _ _) 0 0 rfl rfl rfl hl.1 rfl (Nat.le_of_ble_eq_true rfl) dX0_whatIs_6 ⟨Nat.le_of_ble_eq_true rfl, Nat.le_of_ble_eq_true rfl⟩ (wn := wX ax ac o1.2) (rep_X ax ac _ _) (fun H locs hS => ?_)
  have hP := hS.1
  refine W.widen (k := 700) (n := 4000) (by first | exact Nat.le_refl _ | (dsimp only [rm_X0_act]; omega)) (by first | exact Nat.le_refl _ | (dsimp only [rm_X0_act]; omega)) ?_
  obtain rfl := Option.some.inj hr
  refine W.widen (k := rm_X0_whatIs.cells) (n := rm_X0_whatIs.slots) (Nat.le_of_ble_eq_true rfl) (Nat.le_of_ble_eq_true rfl) ?_
  subst hoc
  exact xx_ret (W.iret hx hb hrt (fun t ht _ => hS.q ht rfl) hS.2.2.2.2 dX0_whatIs_9 hlk)
def f_X0_row (g : XS) (a1 : Int32) : Option ((Int32 × XS) ⊕ (Int32 × XS)) := Option.bind (f_X0_act g (27 : Int32) a1 (0 : Int32) (0 : Int32)) fun o1 => some (Sum.inl (o1.1, o1.2))
abbrev rm_X0_row : Room := ({ frames := 44, cells := 700, slots := 4000, locals := 2097 })
theorem cw_X0_row {R : Room} {s : State} {args : Array Value} {own : String} {index : Nat} (hts : ∀ w ∈ lw_all, w.before args s = true) (hlink : Cond.methodLink own index yX0_row ∈ lw_all) (hR : rm_X0_row.frames + 1 ≤ R.frames ∧ 8 + (2 + 11) + rm_X0_row.locals ≤ R.locals) : CallW R s args own RX0 index yX0_row cX0_row 2 (some FieldType.int) (ws_ yX0_row cX0_row 2 (some FieldType.int)) rm_X0_row rm_X0_row.cells rm_X0_row.slots 1 :=
  cwV 1 hts (lw_V hlink q1144 q1145 q102 q1146) rfl rfl rfl (by decide +kernel) hR
set_option maxHeartbeats 4000000 in
theorem m_X0_row (l : Launch) (hst : l.stackTraces = false) (D : va_G) (ax : Nat → Nat) (ac : Nat → ClassId) (g : XS) (a1 : Int32) (sz : Nat) (r0 : (Int32 × XS) ⊕ (Int32 × XS)) (hr : f_X0_row g a1 = some r0) : TM l yX0_row cX0_row 2 (some FieldType.int) rm_X0_row [.ref (ax 0), .int a1] D ac (wX ax ac g) sz (Sum.map (fun u => (wX ax ac u.2, (some (.int u.1)))) (fun u => (wX ax ac u.2, u.1)) r0) := by
  generalize hoc : (Sum.map (fun u => (wX ax ac u.2, (some (.int u.1)))) (fun u => (wX ax ac u.2, u.1)) r0 : Oc) = oc
  refine fw_ofT (by decide) (Nat.le_of_ble_eq_true rfl) ?_
  intro p e s m below meth c ls hx hb hrt hts hown hlk hml _ hnt hU hl
  obtain ⟨⟨rfl, hP, hG, hD⟩, hZ⟩ := hU
  have hA : ∀ q : Nat, s.heap.size ≤ q → (va_A (wX ax ac g) s.heap.size) q := fun q h => Or.inr h
  have hS := Stt.start hP hD
  show WT p l e rm_X0_row s m [.ref (ax 0), .int a1] below meth c D (va_A (wX ax ac g) s.heap.size) oc s.heap [] 0 0 0 ls []
  have hl : lv_has ls 2 [(0, .ref (ax 0)), (1, .int a1)] := hl
  rw [f_X0_row] at hr
  refine lv_aload_n hx hb dX0_row_0 rfl (lv_at hl 0 rfl) ?_
  refine lv_bipush (v := 27) hx hb dX0_row_1 rfl ?_
  refine lv_iload_n hx hb dX0_row_3 rfl (lv_at hl 1 rfl) ?_
  refine lv_iconst (v := 0) hx hb dX0_row_4 rfl ?_
  refine lv_iconst (v := 0) hx hb dX0_row_5 rfl ?_
  obtain ⟨o1, ho1, hr⟩ := br_bind hr
  refine fwHV (As := [.int 27, .int a1, .int 0, .int 0]) (rest := []) (C := RX0) hx hb hml hown hts (m_X0_act l hst D ax ac g (27 : Int32) a1 (0 : Int32) (0 : Int32) _ o1 ho1) (cw_X0_act hts q294 ⟨Nat.le_of_ble_eq_true rfl, Nat.le_of_ble_eq_true rfl⟩) hG hZ hS hA ixX nd_X (pk_X ax ac _) (ad_X ax ac _ _) 0 0 rfl rfl rfl hl.1 rfl (Nat.le_of_ble_eq_true rfl) dX0_row_6 ⟨Nat.le_of_ble_eq_true rfl, Nat.le_of_ble_eq_true rfl⟩ (wn := wX ax ac o1.2) (rep_X ax ac _ _) (fun H locs hS => ?_)
  have hP := hS.1
  refine W.widen (k := 700) (n := 4000) (by first | exact Nat.le_refl _ | (dsimp only [rm_X0_act]; omega)) (by first | exact Nat.le_refl _ | (dsimp only [rm_X0_act]; omega)) ?_
  obtain rfl := Option.some.inj hr
  refine W.widen (k := rm_X0_row.cells) (n := rm_X0_row.slots) (Nat.le_of_ble_eq_true rfl) (Nat.le_of_ble_eq_true rfl) ?_
  subst hoc
  exact xx_ret (W.iret hx hb hrt (fun t ht _ => hS.q ht rfl) hS.2.2.2.2 dX0_row_9 hlk)
def f_X0_judge (g : XS) : Option ((Int32 × XS) ⊕ (Int32 × XS)) := Option.bind (f_X0_act g (28 : Int32) (0 : Int32) (0 : Int32) (0 : Int32)) fun o1 => some (Sum.inl (o1.1, o1.2))
abbrev rm_X0_judge : Room := ({ frames := 44, cells := 700, slots := 4000, locals := 2097 })
theorem cw_X0_judge {R : Room} {s : State} {args : Array Value} {own : String} {index : Nat} (hts : ∀ w ∈ lw_all, w.before args s = true) (hlink : Cond.methodLink own index yX0_judge ∈ lw_all) (hR : rm_X0_judge.frames + 1 ≤ R.frames ∧ 8 + (1 + 11) + rm_X0_judge.locals ≤ R.locals) : CallW R s args own RX0 index yX0_judge cX0_judge 1 (some FieldType.int) (ws_ yX0_judge cX0_judge 1 (some FieldType.int)) rm_X0_judge rm_X0_judge.cells rm_X0_judge.slots 0 :=
  cwV 0 hts (lw_V hlink q1148 q1149 q102 q1150) rfl rfl rfl (by decide +kernel) hR
set_option maxHeartbeats 4000000 in
theorem m_X0_judge (l : Launch) (hst : l.stackTraces = false) (D : va_G) (ax : Nat → Nat) (ac : Nat → ClassId) (g : XS) (sz : Nat) (r0 : (Int32 × XS) ⊕ (Int32 × XS)) (hr : f_X0_judge g = some r0) : TM l yX0_judge cX0_judge 1 (some FieldType.int) rm_X0_judge [.ref (ax 0)] D ac (wX ax ac g) sz (Sum.map (fun u => (wX ax ac u.2, (some (.int u.1)))) (fun u => (wX ax ac u.2, u.1)) r0) := by
  generalize hoc : (Sum.map (fun u => (wX ax ac u.2, (some (.int u.1)))) (fun u => (wX ax ac u.2, u.1)) r0 : Oc) = oc
  refine fw_ofT (by decide) (Nat.le_of_ble_eq_true rfl) ?_
  intro p e s m below meth c ls hx hb hrt hts hown hlk hml _ hnt hU hl
  obtain ⟨⟨rfl, hP, hG, hD⟩, hZ⟩ := hU
  have hA : ∀ q : Nat, s.heap.size ≤ q → (va_A (wX ax ac g) s.heap.size) q := fun q h => Or.inr h
  have hS := Stt.start hP hD
  show WT p l e rm_X0_judge s m [.ref (ax 0)] below meth c D (va_A (wX ax ac g) s.heap.size) oc s.heap [] 0 0 0 ls []
  have hl : lv_has ls 1 [(0, .ref (ax 0))] := hl
  rw [f_X0_judge] at hr
  refine lv_aload_n hx hb dX0_judge_0 rfl (lv_at hl 0 rfl) ?_
  refine lv_bipush (v := 28) hx hb dX0_judge_1 rfl ?_
  refine lv_iconst (v := 0) hx hb dX0_judge_3 rfl ?_
  refine lv_iconst (v := 0) hx hb dX0_judge_4 rfl ?_
  refine lv_iconst (v := 0) hx hb dX0_judge_5 rfl ?_
  obtain ⟨o1, ho1, hr⟩ := br_bind hr
  refine fwHV (As := [.int 28, .int 0, .int 0, .int 0]) (rest := []) (C := RX0) hx hb hml hown hts (m_X0_act l hst D ax ac g (28 : Int32) (0 : Int32) (0 : Int32) (0 : Int32) _ o1 ho1) (cw_X0_act hts q294 ⟨Nat.le_of_ble_eq_true rfl, Nat.le_of_ble_eq_true rfl⟩) hG hZ hS hA ixX nd_X (pk_X ax ac _) (ad_X ax ac _ _) 0 0 rfl rfl rfl hl.1 rfl (Nat.le_of_ble_eq_true rfl) dX0_judge_6 ⟨Nat.le_of_ble_eq_true rfl, Nat.le_of_ble_eq_true rfl⟩ (wn := wX ax ac o1.2) (rep_X ax ac _ _) (fun H locs hS => ?_)
  have hP := hS.1
  refine W.widen (k := 700) (n := 4000) (by first | exact Nat.le_refl _ | (dsimp only [rm_X0_act]; omega)) (by first | exact Nat.le_refl _ | (dsimp only [rm_X0_act]; omega)) ?_
  obtain rfl := Option.some.inj hr
  refine W.widen (k := rm_X0_judge.cells) (n := rm_X0_judge.slots) (Nat.le_of_ble_eq_true rfl) (Nat.le_of_ble_eq_true rfl) ?_
  subst hoc
  exact xx_ret (W.iret hx hb hrt (fun t ht _ => hS.q ht rfl) hS.2.2.2.2 dX0_judge_9 hlk)
def f_X0_clear (g : XS) : Option ((Int32 × XS) ⊕ (Int32 × XS)) := Option.bind (f_X0_act g (29 : Int32) (0 : Int32) (0 : Int32) (0 : Int32)) fun o1 => some (Sum.inl (o1.1, o1.2))
abbrev rm_X0_clear : Room := ({ frames := 44, cells := 700, slots := 4000, locals := 2097 })
theorem cw_X0_clear {R : Room} {s : State} {args : Array Value} {own : String} {index : Nat} (hts : ∀ w ∈ lw_all, w.before args s = true) (hlink : Cond.methodLink own index yX0_clear ∈ lw_all) (hR : rm_X0_clear.frames + 1 ≤ R.frames ∧ 8 + (1 + 11) + rm_X0_clear.locals ≤ R.locals) : CallW R s args own RX0 index yX0_clear cX0_clear 1 (some FieldType.int) (ws_ yX0_clear cX0_clear 1 (some FieldType.int)) rm_X0_clear rm_X0_clear.cells rm_X0_clear.slots 0 :=
  cwV 0 hts (lw_V hlink q1152 q1153 q102 q1154) rfl rfl rfl (by decide +kernel) hR
set_option maxHeartbeats 4000000 in
theorem m_X0_clear (l : Launch) (hst : l.stackTraces = false) (D : va_G) (ax : Nat → Nat) (ac : Nat → ClassId) (g : XS) (sz : Nat) (r0 : (Int32 × XS) ⊕ (Int32 × XS)) (hr : f_X0_clear g = some r0) : TM l yX0_clear cX0_clear 1 (some FieldType.int) rm_X0_clear [.ref (ax 0)] D ac (wX ax ac g) sz (Sum.map (fun u => (wX ax ac u.2, (some (.int u.1)))) (fun u => (wX ax ac u.2, u.1)) r0) := by
  generalize hoc : (Sum.map (fun u => (wX ax ac u.2, (some (.int u.1)))) (fun u => (wX ax ac u.2, u.1)) r0 : Oc) = oc
  refine fw_ofT (by decide) (Nat.le_of_ble_eq_true rfl) ?_
  intro p e s m below meth c ls hx hb hrt hts hown hlk hml _ hnt hU hl
  obtain ⟨⟨rfl, hP, hG, hD⟩, hZ⟩ := hU
  have hA : ∀ q : Nat, s.heap.size ≤ q → (va_A (wX ax ac g) s.heap.size) q := fun q h => Or.inr h
  have hS := Stt.start hP hD
  show WT p l e rm_X0_clear s m [.ref (ax 0)] below meth c D (va_A (wX ax ac g) s.heap.size) oc s.heap [] 0 0 0 ls []
  have hl : lv_has ls 1 [(0, .ref (ax 0))] := hl
  rw [f_X0_clear] at hr
  refine lv_aload_n hx hb dX0_clear_0 rfl (lv_at hl 0 rfl) ?_
  refine lv_bipush (v := 29) hx hb dX0_clear_1 rfl ?_
  refine lv_iconst (v := 0) hx hb dX0_clear_3 rfl ?_
  refine lv_iconst (v := 0) hx hb dX0_clear_4 rfl ?_
  refine lv_iconst (v := 0) hx hb dX0_clear_5 rfl ?_
  obtain ⟨o1, ho1, hr⟩ := br_bind hr
  refine fwHV (As := [.int 29, .int 0, .int 0, .int 0]) (rest := []) (C := RX0) hx hb hml hown hts (m_X0_act l hst D ax ac g (29 : Int32) (0 : Int32) (0 : Int32) (0 : Int32) _ o1 ho1) (cw_X0_act hts q294 ⟨Nat.le_of_ble_eq_true rfl, Nat.le_of_ble_eq_true rfl⟩) hG hZ hS hA ixX nd_X (pk_X ax ac _) (ad_X ax ac _ _) 0 0 rfl rfl rfl hl.1 rfl (Nat.le_of_ble_eq_true rfl) dX0_clear_6 ⟨Nat.le_of_ble_eq_true rfl, Nat.le_of_ble_eq_true rfl⟩ (wn := wX ax ac o1.2) (rep_X ax ac _ _) (fun H locs hS => ?_)
  have hP := hS.1
  refine W.widen (k := 700) (n := 4000) (by first | exact Nat.le_refl _ | (dsimp only [rm_X0_act]; omega)) (by first | exact Nat.le_refl _ | (dsimp only [rm_X0_act]; omega)) ?_
  obtain rfl := Option.some.inj hr
  refine W.widen (k := rm_X0_clear.cells) (n := rm_X0_clear.slots) (Nat.le_of_ble_eq_true rfl) (Nat.le_of_ble_eq_true rfl) ?_
  subst hoc
  exact xx_ret (W.iret hx hb hrt (fun t ht _ => hS.q ht rfl) hS.2.2.2.2 dX0_clear_9 hlk)
def f_X0_lots (g : XS) (a1 : Int32) (a2 : Int32) (a3 : Int32) : Option ((Int32 × XS) ⊕ (Int32 × XS)) := Option.bind (f_X0_act g (30 : Int32) a1 a2 a3) fun o1 => some (Sum.inl (o1.1, o1.2))
abbrev rm_X0_lots : Room := ({ frames := 44, cells := 700, slots := 4000, locals := 2097 })
theorem cw_X0_lots {R : Room} {s : State} {args : Array Value} {own : String} {index : Nat} (hts : ∀ w ∈ lw_all, w.before args s = true) (hlink : Cond.methodLink own index yX0_lots ∈ lw_all) (hR : rm_X0_lots.frames + 1 ≤ R.frames ∧ 8 + (4 + 11) + rm_X0_lots.locals ≤ R.locals) : CallW R s args own RX0 index yX0_lots cX0_lots 4 (some FieldType.int) (ws_ yX0_lots cX0_lots 4 (some FieldType.int)) rm_X0_lots rm_X0_lots.cells rm_X0_lots.slots 3 :=
  cwV 3 hts (lw_V hlink q1156 q1157 q102 q1158) rfl rfl rfl (by decide +kernel) hR
set_option maxHeartbeats 4000000 in
theorem m_X0_lots (l : Launch) (hst : l.stackTraces = false) (D : va_G) (ax : Nat → Nat) (ac : Nat → ClassId) (g : XS) (a1 : Int32) (a2 : Int32) (a3 : Int32) (sz : Nat) (r0 : (Int32 × XS) ⊕ (Int32 × XS)) (hr : f_X0_lots g a1 a2 a3 = some r0) : TM l yX0_lots cX0_lots 4 (some FieldType.int) rm_X0_lots [.ref (ax 0), .int a1, .int a2, .int a3] D ac (wX ax ac g) sz (Sum.map (fun u => (wX ax ac u.2, (some (.int u.1)))) (fun u => (wX ax ac u.2, u.1)) r0) := by
  generalize hoc : (Sum.map (fun u => (wX ax ac u.2, (some (.int u.1)))) (fun u => (wX ax ac u.2, u.1)) r0 : Oc) = oc
  refine fw_ofT (by decide) (Nat.le_of_ble_eq_true rfl) ?_
  intro p e s m below meth c ls hx hb hrt hts hown hlk hml _ hnt hU hl
  obtain ⟨⟨rfl, hP, hG, hD⟩, hZ⟩ := hU
  have hA : ∀ q : Nat, s.heap.size ≤ q → (va_A (wX ax ac g) s.heap.size) q := fun q h => Or.inr h
  have hS := Stt.start hP hD
  show WT p l e rm_X0_lots s m [.ref (ax 0), .int a1, .int a2, .int a3] below meth c D (va_A (wX ax ac g) s.heap.size) oc s.heap [] 0 0 0 ls []
  have hl : lv_has ls 4 [(0, .ref (ax 0)), (1, .int a1), (2, .int a2), (3, .int a3)] := hl
  rw [f_X0_lots] at hr
  refine lv_aload_n hx hb dX0_lots_0 rfl (lv_at hl 0 rfl) ?_
  refine lv_bipush (v := 30) hx hb dX0_lots_1 rfl ?_
  refine lv_iload_n hx hb dX0_lots_3 rfl (lv_at hl 1 rfl) ?_
  refine lv_iload_n hx hb dX0_lots_4 rfl (lv_at hl 2 rfl) ?_
  refine lv_iload_n hx hb dX0_lots_5 rfl (lv_at hl 3 rfl) ?_
  obtain ⟨o1, ho1, hr⟩ := br_bind hr
  refine fwHV (As := [.int 30, .int a1, .int a2, .int a3]) (rest := []) (C := RX0) hx hb hml hown hts (m_X0_act l hst D ax ac g (30 : Int32) a1 a2 a3 _ o1 ho1) (cw_X0_act hts q294 ⟨Nat.le_of_ble_eq_true rfl, Nat.le_of_ble_eq_true rfl⟩) hG hZ hS hA ixX nd_X (pk_X ax ac _) (ad_X ax ac _ _) 0 0 rfl rfl rfl hl.1 rfl (Nat.le_of_ble_eq_true rfl) dX0_lots_6 ⟨Nat.le_of_ble_eq_true rfl, Nat.le_of_ble_eq_true rfl⟩ (wn := wX ax ac o1.2) (rep_X ax ac _ _) (fun H locs hS => ?_)
  have hP := hS.1
  refine W.widen (k := 700) (n := 4000) (by first | exact Nat.le_refl _ | (dsimp only [rm_X0_act]; omega)) (by first | exact Nat.le_refl _ | (dsimp only [rm_X0_act]; omega)) ?_
  obtain rfl := Option.some.inj hr
  refine W.widen (k := rm_X0_lots.cells) (n := rm_X0_lots.slots) (Nat.le_of_ble_eq_true rfl) (Nat.le_of_ble_eq_true rfl) ?_
  subst hoc
  exact xx_ret (W.iret hx hb hrt (fun t ht _ => hS.q ht rfl) hS.2.2.2.2 dX0_lots_9 hlk)
def f_X0_image (g : XS) : Option ((Int32 × XS) ⊕ (Int32 × XS)) := Option.bind (f_X0_act g (31 : Int32) (0 : Int32) (0 : Int32) (0 : Int32)) fun o1 => some (Sum.inl (o1.1, o1.2))
abbrev rm_X0_image : Room := ({ frames := 44, cells := 700, slots := 4000, locals := 2097 })
theorem cw_X0_image {R : Room} {s : State} {args : Array Value} {own : String} {index : Nat} (hts : ∀ w ∈ lw_all, w.before args s = true) (hlink : Cond.methodLink own index yX0_image ∈ lw_all) (hR : rm_X0_image.frames + 1 ≤ R.frames ∧ 8 + (1 + 11) + rm_X0_image.locals ≤ R.locals) : CallW R s args own RX0 index yX0_image cX0_image 1 (some FieldType.int) (ws_ yX0_image cX0_image 1 (some FieldType.int)) rm_X0_image rm_X0_image.cells rm_X0_image.slots 0 :=
  cwV 0 hts (lw_V hlink q1160 q1161 q102 q1162) rfl rfl rfl (by decide +kernel) hR
set_option maxHeartbeats 4000000 in
theorem m_X0_image (l : Launch) (hst : l.stackTraces = false) (D : va_G) (ax : Nat → Nat) (ac : Nat → ClassId) (g : XS) (sz : Nat) (r0 : (Int32 × XS) ⊕ (Int32 × XS)) (hr : f_X0_image g = some r0) : TM l yX0_image cX0_image 1 (some FieldType.int) rm_X0_image [.ref (ax 0)] D ac (wX ax ac g) sz (Sum.map (fun u => (wX ax ac u.2, (some (.int u.1)))) (fun u => (wX ax ac u.2, u.1)) r0) := by
  generalize hoc : (Sum.map (fun u => (wX ax ac u.2, (some (.int u.1)))) (fun u => (wX ax ac u.2, u.1)) r0 : Oc) = oc
  refine fw_ofT (by decide) (Nat.le_of_ble_eq_true rfl) ?_
  intro p e s m below meth c ls hx hb hrt hts hown hlk hml _ hnt hU hl
  obtain ⟨⟨rfl, hP, hG, hD⟩, hZ⟩ := hU
  have hA : ∀ q : Nat, s.heap.size ≤ q → (va_A (wX ax ac g) s.heap.size) q := fun q h => Or.inr h
  have hS := Stt.start hP hD
  show WT p l e rm_X0_image s m [.ref (ax 0)] below meth c D (va_A (wX ax ac g) s.heap.size) oc s.heap [] 0 0 0 ls []
  have hl : lv_has ls 1 [(0, .ref (ax 0))] := hl
  rw [f_X0_image] at hr
  refine lv_aload_n hx hb dX0_image_0 rfl (lv_at hl 0 rfl) ?_
  refine lv_bipush (v := 31) hx hb dX0_image_1 rfl ?_
  refine lv_iconst (v := 0) hx hb dX0_image_3 rfl ?_
  refine lv_iconst (v := 0) hx hb dX0_image_4 rfl ?_
  refine lv_iconst (v := 0) hx hb dX0_image_5 rfl ?_
  obtain ⟨o1, ho1, hr⟩ := br_bind hr
  refine fwHV (As := [.int 31, .int 0, .int 0, .int 0]) (rest := []) (C := RX0) hx hb hml hown hts (m_X0_act l hst D ax ac g (31 : Int32) (0 : Int32) (0 : Int32) (0 : Int32) _ o1 ho1) (cw_X0_act hts q294 ⟨Nat.le_of_ble_eq_true rfl, Nat.le_of_ble_eq_true rfl⟩) hG hZ hS hA ixX nd_X (pk_X ax ac _) (ad_X ax ac _ _) 0 0 rfl rfl rfl hl.1 rfl (Nat.le_of_ble_eq_true rfl) dX0_image_6 ⟨Nat.le_of_ble_eq_true rfl, Nat.le_of_ble_eq_true rfl⟩ (wn := wX ax ac o1.2) (rep_X ax ac _ _) (fun H locs hS => ?_)
  have hP := hS.1
  refine W.widen (k := 700) (n := 4000) (by first | exact Nat.le_refl _ | (dsimp only [rm_X0_act]; omega)) (by first | exact Nat.le_refl _ | (dsimp only [rm_X0_act]; omega)) ?_
  obtain rfl := Option.some.inj hr
  refine W.widen (k := rm_X0_image.cells) (n := rm_X0_image.slots) (Nat.le_of_ble_eq_true rfl) (Nat.le_of_ble_eq_true rfl) ?_
  subst hoc
  exact xx_ret (W.iret hx hb hrt (fun t ht _ => hS.q ht rfl) hS.2.2.2.2 dX0_image_9 hlk)
def f_X0_on (g : XS) : Option ((Int32 × XS) ⊕ (Int32 × XS)) := Option.bind (f_X0_act g (32 : Int32) (0 : Int32) (0 : Int32) (0 : Int32)) fun o1 => some (Sum.inl (o1.1, o1.2))
abbrev rm_X0_on : Room := ({ frames := 44, cells := 700, slots := 4000, locals := 2097 })
theorem cw_X0_on {R : Room} {s : State} {args : Array Value} {own : String} {index : Nat} (hts : ∀ w ∈ lw_all, w.before args s = true) (hlink : Cond.methodLink own index yX0_on ∈ lw_all) (hR : rm_X0_on.frames + 1 ≤ R.frames ∧ 8 + (1 + 11) + rm_X0_on.locals ≤ R.locals) : CallW R s args own RX0 index yX0_on cX0_on 1 (some FieldType.int) (ws_ yX0_on cX0_on 1 (some FieldType.int)) rm_X0_on rm_X0_on.cells rm_X0_on.slots 0 :=
  cwV 0 hts (lw_V hlink q1164 q1165 q102 q1166) rfl rfl rfl (by decide +kernel) hR
set_option maxHeartbeats 4000000 in
theorem m_X0_on (l : Launch) (hst : l.stackTraces = false) (D : va_G) (ax : Nat → Nat) (ac : Nat → ClassId) (g : XS) (sz : Nat) (r0 : (Int32 × XS) ⊕ (Int32 × XS)) (hr : f_X0_on g = some r0) : TM l yX0_on cX0_on 1 (some FieldType.int) rm_X0_on [.ref (ax 0)] D ac (wX ax ac g) sz (Sum.map (fun u => (wX ax ac u.2, (some (.int u.1)))) (fun u => (wX ax ac u.2, u.1)) r0) := by
  generalize hoc : (Sum.map (fun u => (wX ax ac u.2, (some (.int u.1)))) (fun u => (wX ax ac u.2, u.1)) r0 : Oc) = oc
  refine fw_ofT (by decide) (Nat.le_of_ble_eq_true rfl) ?_
  intro p e s m below meth c ls hx hb hrt hts hown hlk hml _ hnt hU hl
  obtain ⟨⟨rfl, hP, hG, hD⟩, hZ⟩ := hU
  have hA : ∀ q : Nat, s.heap.size ≤ q → (va_A (wX ax ac g) s.heap.size) q := fun q h => Or.inr h
  have hS := Stt.start hP hD
  show WT p l e rm_X0_on s m [.ref (ax 0)] below meth c D (va_A (wX ax ac g) s.heap.size) oc s.heap [] 0 0 0 ls []
  have hl : lv_has ls 1 [(0, .ref (ax 0))] := hl
  rw [f_X0_on] at hr
  refine lv_aload_n hx hb dX0_on_0 rfl (lv_at hl 0 rfl) ?_
  refine lv_bipush (v := 32) hx hb dX0_on_1 rfl ?_
  refine lv_iconst (v := 0) hx hb dX0_on_3 rfl ?_
  refine lv_iconst (v := 0) hx hb dX0_on_4 rfl ?_
  refine lv_iconst (v := 0) hx hb dX0_on_5 rfl ?_
  obtain ⟨o1, ho1, hr⟩ := br_bind hr
  refine fwHV (As := [.int 32, .int 0, .int 0, .int 0]) (rest := []) (C := RX0) hx hb hml hown hts (m_X0_act l hst D ax ac g (32 : Int32) (0 : Int32) (0 : Int32) (0 : Int32) _ o1 ho1) (cw_X0_act hts q294 ⟨Nat.le_of_ble_eq_true rfl, Nat.le_of_ble_eq_true rfl⟩) hG hZ hS hA ixX nd_X (pk_X ax ac _) (ad_X ax ac _ _) 0 0 rfl rfl rfl hl.1 rfl (Nat.le_of_ble_eq_true rfl) dX0_on_6 ⟨Nat.le_of_ble_eq_true rfl, Nat.le_of_ble_eq_true rfl⟩ (wn := wX ax ac o1.2) (rep_X ax ac _ _) (fun H locs hS => ?_)
  have hP := hS.1
  refine W.widen (k := 700) (n := 4000) (by first | exact Nat.le_refl _ | (dsimp only [rm_X0_act]; omega)) (by first | exact Nat.le_refl _ | (dsimp only [rm_X0_act]; omega)) ?_
  obtain rfl := Option.some.inj hr
  refine W.widen (k := rm_X0_on.cells) (n := rm_X0_on.slots) (Nat.le_of_ble_eq_true rfl) (Nat.le_of_ble_eq_true rfl) ?_
  subst hoc
  exact xx_ret (W.iret hx hb hrt (fun t ht _ => hS.q ht rfl) hS.2.2.2.2 dX0_on_9 hlk)
