def f_X0_ofCore (g : XS) (a1 : Int32) (a2 : Int32) (a3 : Int32) (a4 : Int32) : Option ((Int32 × XS) ⊕ (Int32 × XS)) := if a1 = 0 then bX (f_X0_letterIt g a2) (fun b9 => (b9.1, b9.2)) fun o9 => some (Sum.inl (o9.1, o9.2)) else if a1 = 1 then bX (f_X0_readCore g) (fun b10 => (b10.1, b10.2)) fun o10 => some (Sum.inl (o10.1, o10.2)) else if a1 = 2 then bX (f_X0_cellAsked g a2 a3) (fun b11 => (b11.1, b11.2)) fun o11 => some (Sum.inl (o11.1, o11.2)) else if a1 = 3 then bX (f_X0_heirAsked g a2 a3) (fun b12 => (b12.1, b12.2)) fun o12 => some (Sum.inl (o12.1, o12.2)) else if a1 = 4 then bX (f_X0_biteIt g a2 a3) (fun b13 => (b13.1, b13.2)) fun o13 => some (Sum.inl (o13.1, o13.2)) else if a1 = 5 then bX (f_X0_healIt g a2) (fun b14 => (b14.1, b14.2)) fun o14 => some (Sum.inl (o14.1, o14.2)) else if a1 = 6 then bX (f_X0_rollIt g a2) (fun b15 => (b15.1, b15.2)) fun o15 => some (Sum.inl (o15.1, o15.2)) else if a1 = 7 then bX (f_X0_turnIt g a2 a3 a4) (fun b16 => (b16.1, b16.2)) fun o16 => some (Sum.inl (o16.1, o16.2)) else Option.bind (f_X0_allAnew g) fun o17 => some (Sum.inl (o17.1, o17.2))
abbrev rm_X0_ofCore : Room := ({ frames := 41, cells := 700, slots := 4000, locals := 2024 })
theorem cw_X0_ofCore {R : Room} {s : State} {args : Array Value} {own : String} {index : Nat} (hts : ∀ w ∈ lw_all, w.before args s = true) (hlink : Cond.methodLink own index yX0_ofCore ∈ lw_all) (hR : rm_X0_ofCore.frames + 1 ≤ R.frames ∧ 8 + (5 + 11) + rm_X0_ofCore.locals ≤ R.locals) : CallW R s args own RX0 index yX0_ofCore cX0_ofCore 5 (some FieldType.int) (ws_ yX0_ofCore cX0_ofCore 5 (some FieldType.int)) rm_X0_ofCore rm_X0_ofCore.cells rm_X0_ofCore.slots 4 :=
  cwV 4 hts (lw_V hlink q305 qs2 q102 q306) rfl rfl rfl (by decide +kernel) hR
set_option maxHeartbeats 4000000 in
theorem m_X0_ofCore (l : Launch) (hst : l.stackTraces = false) (D : va_G) (ax : Nat → Nat) (ac : Nat → ClassId) (g : XS) (a1 : Int32) (a2 : Int32) (a3 : Int32) (a4 : Int32) (sz : Nat) (r0 : (Int32 × XS) ⊕ (Int32 × XS)) (hr : f_X0_ofCore g a1 a2 a3 a4 = some r0) : TM l yX0_ofCore cX0_ofCore 5 (some FieldType.int) rm_X0_ofCore [.ref (ax 0), .int a1, .int a2, .int a3, .int a4] D ac (wX ax ac g) sz (Sum.map (fun u => (wX ax ac u.2, (some (.int u.1)))) (fun u => (wX ax ac u.2, u.1)) r0) := by
  generalize hoc : (Sum.map (fun u => (wX ax ac u.2, (some (.int u.1)))) (fun u => (wX ax ac u.2, u.1)) r0 : Oc) = oc
  refine fw_ofT (by decide) (Nat.le_of_ble_eq_true rfl) ?_
  intro p e s m below meth c ls hx hb hrt hts hown hlk hml _ hnt hU hl
  obtain ⟨⟨rfl, hP, hG, hD⟩, hZ⟩ := hU
  have hA : ∀ q : Nat, s.heap.size ≤ q → (va_A (wX ax ac g) s.heap.size) q := fun q h => Or.inr h
  have hS := Stt.start hP hD
  show WT p l e rm_X0_ofCore s m [.ref (ax 0), .int a1, .int a2, .int a3, .int a4] below meth c D (va_A (wX ax ac g) s.heap.size) oc s.heap [] 0 0 0 ls []
  have hl : lv_has ls 5 [(0, .ref (ax 0)), (1, .int a1), (2, .int a2), (3, .int a3), (4, .int a4)] := hl
  rw [f_X0_ofCore] at hr
  refine lv_iload_n hx hb dX0_ofCore_0 rfl (lv_at hl 1 rfl) ?_
  have hi1 := br_ite hr
  by_cases c1 : a1 = 0
  · have hr := hi1.1 c1
    refine lv_tableIn (tgt := 48) hx hb dX0_ofCore_1 (by rw [c1]; decide) (by rw [c1]; decide) (by rw [c1]; rfl) (by decide) ?_
    refine lv_aload_n hx hb dX0_ofCore_48 rfl (lv_at hl 0 rfl) ?_
    refine lv_iload_n hx hb dX0_ofCore_49 rfl (lv_at hl 2 rfl) ?_
    rcases Or.symm (br_bX hr) with ⟨o9, ho9, rfl⟩ | ⟨o9, ho9, hr⟩
    · refine fwTVx (As := [.int a2]) (rest := []) (C := RX0) hx hb hml hown hts (m_X0_letterIt l hst D ax ac g a2 _ _ ho9) (cw_X0_letterIt hts q307 ⟨Nat.le_of_ble_eq_true rfl, Nat.le_of_ble_eq_true rfl⟩) hG hZ hS hA ixX nd_X (pk_X ax ac _) (ad_X ax ac _ _) 0 0 rfl rfl rfl hl.1 rfl (Nat.le_of_ble_eq_true rfl) dX0_ofCore_50 ⟨Nat.le_of_ble_eq_true rfl, Nat.le_of_ble_eq_true rfl⟩ (wn := wX ax ac o9.2) (rep_X ax ac _ _) (fun q_ ci_ H locs hci hS => ?_)
      subst hoc; exact fw_xout hnt hlk hG hci hS (Nat.le_of_ble_eq_true rfl) (Nat.le_of_ble_eq_true rfl)
    refine fwTVo (As := [.int a2]) (rest := []) (C := RX0) hx hb hml hown hts (m_X0_letterIt l hst D ax ac g a2 _ _ ho9) (cw_X0_letterIt hts q307 ⟨Nat.le_of_ble_eq_true rfl, Nat.le_of_ble_eq_true rfl⟩) hG hZ hS hA ixX nd_X (pk_X ax ac _) (ad_X ax ac _ _) 0 0 rfl rfl rfl hl.1 rfl (Nat.le_of_ble_eq_true rfl) dX0_ofCore_50 ⟨Nat.le_of_ble_eq_true rfl, Nat.le_of_ble_eq_true rfl⟩ (wn := wX ax ac o9.2) (rep_X ax ac _ _) (fun H locs hS => ?_)
    have hP := hS.1
    refine W.widen (k := 3) (n := 21) (by first | exact Nat.le_refl _ | (dsimp only [rm_X0_letterIt]; omega)) (by first | exact Nat.le_refl _ | (dsimp only [rm_X0_letterIt]; omega)) ?_
    obtain rfl := Option.some.inj hr
    refine W.widen (k := rm_X0_ofCore.cells) (n := rm_X0_ofCore.slots) (Nat.le_of_ble_eq_true rfl) (Nat.le_of_ble_eq_true rfl) ?_
    subst hoc
    exact xx_ret (W.iret hx hb hrt (fun t ht _ => hS.q ht rfl) hS.2.2.2.2 dX0_ofCore_53 hlk)
  have hr := hi1.2 c1
  have hi2 := br_ite hr
  by_cases c2 : a1 = 1
  · have hr := hi2.1 c2
    refine lv_tableIn (tgt := 54) hx hb dX0_ofCore_1 (by rw [c2]; decide) (by rw [c2]; decide) (by rw [c2]; rfl) (by decide) ?_
    refine lv_aload_n hx hb dX0_ofCore_54 rfl (lv_at hl 0 rfl) ?_
    rcases Or.symm (br_bX hr) with ⟨o10, ho10, rfl⟩ | ⟨o10, ho10, hr⟩
    · refine fwTVx (As := []) (rest := []) (C := RX0) hx hb hml hown hts (m_X0_readCore l hst D ax ac g _ _ ho10) (cw_X0_readCore hts q387 ⟨Nat.le_of_ble_eq_true rfl, Nat.le_of_ble_eq_true rfl⟩) hG hZ hS hA ixX nd_X (pk_X ax ac _) (ad_X ax ac _ _) 0 0 rfl rfl rfl hl.1 rfl (Nat.le_of_ble_eq_true rfl) dX0_ofCore_55 ⟨Nat.le_of_ble_eq_true rfl, Nat.le_of_ble_eq_true rfl⟩ (wn := wX ax ac o10.2) (rep_X ax ac _ _) (fun q_ ci_ H locs hci hS => ?_)
      subst hoc; exact fw_xout hnt hlk hG hci hS (Nat.le_of_ble_eq_true rfl) (Nat.le_of_ble_eq_true rfl)
    refine fwTVo (As := []) (rest := []) (C := RX0) hx hb hml hown hts (m_X0_readCore l hst D ax ac g _ _ ho10) (cw_X0_readCore hts q387 ⟨Nat.le_of_ble_eq_true rfl, Nat.le_of_ble_eq_true rfl⟩) hG hZ hS hA ixX nd_X (pk_X ax ac _) (ad_X ax ac _ _) 0 0 rfl rfl rfl hl.1 rfl (Nat.le_of_ble_eq_true rfl) dX0_ofCore_55 ⟨Nat.le_of_ble_eq_true rfl, Nat.le_of_ble_eq_true rfl⟩ (wn := wX ax ac o10.2) (rep_X ax ac _ _) (fun H locs hS => ?_)
    have hP := hS.1
    refine W.widen (k := 700) (n := 4000) (by first | exact Nat.le_refl _ | (dsimp only [rm_X0_readCore]; omega)) (by first | exact Nat.le_refl _ | (dsimp only [rm_X0_readCore]; omega)) ?_
    obtain rfl := Option.some.inj hr
    refine W.widen (k := rm_X0_ofCore.cells) (n := rm_X0_ofCore.slots) (Nat.le_of_ble_eq_true rfl) (Nat.le_of_ble_eq_true rfl) ?_
    subst hoc
    exact xx_ret (W.iret hx hb hrt (fun t ht _ => hS.q ht rfl) hS.2.2.2.2 dX0_ofCore_58 hlk)
  have hr := hi2.2 c2
  have hi3 := br_ite hr
  by_cases c3 : a1 = 2
  · have hr := hi3.1 c3
    refine lv_tableIn (tgt := 59) hx hb dX0_ofCore_1 (by rw [c3]; decide) (by rw [c3]; decide) (by rw [c3]; rfl) (by decide) ?_
    refine lv_aload_n hx hb dX0_ofCore_59 rfl (lv_at hl 0 rfl) ?_
    refine lv_iload_n hx hb dX0_ofCore_60 rfl (lv_at hl 2 rfl) ?_
    refine lv_iload_n hx hb dX0_ofCore_61 rfl (lv_at hl 3 rfl) ?_
    rcases Or.symm (br_bX hr) with ⟨o11, ho11, rfl⟩ | ⟨o11, ho11, hr⟩
    · refine fwTVx (As := [.int a2, .int a3]) (rest := []) (C := RX0) hx hb hml hown hts (m_X0_cellAsked l hst D ax ac g a2 a3 _ _ ho11) (cw_X0_cellAsked hts q641 ⟨Nat.le_of_ble_eq_true rfl, Nat.le_of_ble_eq_true rfl⟩) hG hZ hS hA ixX nd_X (pk_X ax ac _) (ad_X ax ac _ _) 0 0 rfl rfl rfl hl.1 rfl (Nat.le_of_ble_eq_true rfl) dX0_ofCore_62 ⟨Nat.le_of_ble_eq_true rfl, Nat.le_of_ble_eq_true rfl⟩ (wn := wX ax ac o11.2) (rep_X ax ac _ _) (fun q_ ci_ H locs hci hS => ?_)
      subst hoc; exact fw_xout hnt hlk hG hci hS (Nat.le_of_ble_eq_true rfl) (Nat.le_of_ble_eq_true rfl)
    refine fwTVo (As := [.int a2, .int a3]) (rest := []) (C := RX0) hx hb hml hown hts (m_X0_cellAsked l hst D ax ac g a2 a3 _ _ ho11) (cw_X0_cellAsked hts q641 ⟨Nat.le_of_ble_eq_true rfl, Nat.le_of_ble_eq_true rfl⟩) hG hZ hS hA ixX nd_X (pk_X ax ac _) (ad_X ax ac _ _) 0 0 rfl rfl rfl hl.1 rfl (Nat.le_of_ble_eq_true rfl) dX0_ofCore_62 ⟨Nat.le_of_ble_eq_true rfl, Nat.le_of_ble_eq_true rfl⟩ (wn := wX ax ac o11.2) (rep_X ax ac _ _) (fun H locs hS => ?_)
    have hP := hS.1
    refine W.widen (k := 2) (n := 14) (by first | exact Nat.le_refl _ | (dsimp only [rm_X0_cellAsked]; omega)) (by first | exact Nat.le_refl _ | (dsimp only [rm_X0_cellAsked]; omega)) ?_
    obtain rfl := Option.some.inj hr
    refine W.widen (k := rm_X0_ofCore.cells) (n := rm_X0_ofCore.slots) (Nat.le_of_ble_eq_true rfl) (Nat.le_of_ble_eq_true rfl) ?_
    subst hoc
    exact xx_ret (W.iret hx hb hrt (fun t ht _ => hS.q ht rfl) hS.2.2.2.2 dX0_ofCore_65 hlk)
  have hr := hi3.2 c3
  have hi4 := br_ite hr
  by_cases c4 : a1 = 3
  · have hr := hi4.1 c4
    refine lv_tableIn (tgt := 66) hx hb dX0_ofCore_1 (by rw [c4]; decide) (by rw [c4]; decide) (by rw [c4]; rfl) (by decide) ?_
    refine lv_aload_n hx hb dX0_ofCore_66 rfl (lv_at hl 0 rfl) ?_
    refine lv_iload_n hx hb dX0_ofCore_67 rfl (lv_at hl 2 rfl) ?_
    refine lv_iload_n hx hb dX0_ofCore_68 rfl (lv_at hl 3 rfl) ?_
    rcases Or.symm (br_bX hr) with ⟨o12, ho12, rfl⟩ | ⟨o12, ho12, hr⟩
    · refine fwTVx (As := [.int a2, .int a3]) (rest := []) (C := RX0) hx hb hml hown hts (m_X0_heirAsked l hst D ax ac g a2 a3 _ _ ho12) (cw_X0_heirAsked hts q655 ⟨Nat.le_of_ble_eq_true rfl, Nat.le_of_ble_eq_true rfl⟩) hG hZ hS hA ixX nd_X (pk_X ax ac _) (ad_X ax ac _ _) 0 0 rfl rfl rfl hl.1 rfl (Nat.le_of_ble_eq_true rfl) dX0_ofCore_69 ⟨Nat.le_of_ble_eq_true rfl, Nat.le_of_ble_eq_true rfl⟩ (wn := wX ax ac o12.2) (rep_X ax ac _ _) (fun q_ ci_ H locs hci hS => ?_)
      subst hoc; exact fw_xout hnt hlk hG hci hS (Nat.le_of_ble_eq_true rfl) (Nat.le_of_ble_eq_true rfl)
    refine fwTVo (As := [.int a2, .int a3]) (rest := []) (C := RX0) hx hb hml hown hts (m_X0_heirAsked l hst D ax ac g a2 a3 _ _ ho12) (cw_X0_heirAsked hts q655 ⟨Nat.le_of_ble_eq_true rfl, Nat.le_of_ble_eq_true rfl⟩) hG hZ hS hA ixX nd_X (pk_X ax ac _) (ad_X ax ac _ _) 0 0 rfl rfl rfl hl.1 rfl (Nat.le_of_ble_eq_true rfl) dX0_ofCore_69 ⟨Nat.le_of_ble_eq_true rfl, Nat.le_of_ble_eq_true rfl⟩ (wn := wX ax ac o12.2) (rep_X ax ac _ _) (fun H locs hS => ?_)
    have hP := hS.1
    refine W.widen (k := 2) (n := 14) (by first | exact Nat.le_refl _ | (dsimp only [rm_X0_heirAsked]; omega)) (by first | exact Nat.le_refl _ | (dsimp only [rm_X0_heirAsked]; omega)) ?_
    obtain rfl := Option.some.inj hr
    refine W.widen (k := rm_X0_ofCore.cells) (n := rm_X0_ofCore.slots) (Nat.le_of_ble_eq_true rfl) (Nat.le_of_ble_eq_true rfl) ?_
    subst hoc
    exact xx_ret (W.iret hx hb hrt (fun t ht _ => hS.q ht rfl) hS.2.2.2.2 dX0_ofCore_72 hlk)
  have hr := hi4.2 c4
  have hi5 := br_ite hr
  by_cases c5 : a1 = 4
  · have hr := hi5.1 c5
    refine lv_tableIn (tgt := 73) hx hb dX0_ofCore_1 (by rw [c5]; decide) (by rw [c5]; decide) (by rw [c5]; rfl) (by decide) ?_
    refine lv_aload_n hx hb dX0_ofCore_73 rfl (lv_at hl 0 rfl) ?_
    refine lv_iload_n hx hb dX0_ofCore_74 rfl (lv_at hl 2 rfl) ?_
    refine lv_iload_n hx hb dX0_ofCore_75 rfl (lv_at hl 3 rfl) ?_
    rcases Or.symm (br_bX hr) with ⟨o13, ho13, rfl⟩ | ⟨o13, ho13, hr⟩
    · refine fwTVx (As := [.int a2, .int a3]) (rest := []) (C := RX0) hx hb hml hown hts (m_X0_biteIt l hst D ax ac g a2 a3 _ _ ho13) (cw_X0_biteIt hts q737 ⟨Nat.le_of_ble_eq_true rfl, Nat.le_of_ble_eq_true rfl⟩) hG hZ hS hA ixX nd_X (pk_X ax ac _) (ad_X ax ac _ _) 0 0 rfl rfl rfl hl.1 rfl (Nat.le_of_ble_eq_true rfl) dX0_ofCore_76 ⟨Nat.le_of_ble_eq_true rfl, Nat.le_of_ble_eq_true rfl⟩ (wn := wX ax ac o13.2) (rep_X ax ac _ _) (fun q_ ci_ H locs hci hS => ?_)
      subst hoc; exact fw_xout hnt hlk hG hci hS (Nat.le_of_ble_eq_true rfl) (Nat.le_of_ble_eq_true rfl)
    refine fwTVo (As := [.int a2, .int a3]) (rest := []) (C := RX0) hx hb hml hown hts (m_X0_biteIt l hst D ax ac g a2 a3 _ _ ho13) (cw_X0_biteIt hts q737 ⟨Nat.le_of_ble_eq_true rfl, Nat.le_of_ble_eq_true rfl⟩) hG hZ hS hA ixX nd_X (pk_X ax ac _) (ad_X ax ac _ _) 0 0 rfl rfl rfl hl.1 rfl (Nat.le_of_ble_eq_true rfl) dX0_ofCore_76 ⟨Nat.le_of_ble_eq_true rfl, Nat.le_of_ble_eq_true rfl⟩ (wn := wX ax ac o13.2) (rep_X ax ac _ _) (fun H locs hS => ?_)
    have hP := hS.1
    refine W.widen (k := 3) (n := 21) (by first | exact Nat.le_refl _ | (dsimp only [rm_X0_biteIt]; omega)) (by first | exact Nat.le_refl _ | (dsimp only [rm_X0_biteIt]; omega)) ?_
    obtain rfl := Option.some.inj hr
    refine W.widen (k := rm_X0_ofCore.cells) (n := rm_X0_ofCore.slots) (Nat.le_of_ble_eq_true rfl) (Nat.le_of_ble_eq_true rfl) ?_
    subst hoc
    exact xx_ret (W.iret hx hb hrt (fun t ht _ => hS.q ht rfl) hS.2.2.2.2 dX0_ofCore_79 hlk)
  have hr := hi5.2 c5
  have hi6 := br_ite hr
  by_cases c6 : a1 = 5
  · have hr := hi6.1 c6
    refine lv_tableIn (tgt := 80) hx hb dX0_ofCore_1 (by rw [c6]; decide) (by rw [c6]; decide) (by rw [c6]; rfl) (by decide) ?_
    refine lv_aload_n hx hb dX0_ofCore_80 rfl (lv_at hl 0 rfl) ?_
    refine lv_iload_n hx hb dX0_ofCore_81 rfl (lv_at hl 2 rfl) ?_
    rcases Or.symm (br_bX hr) with ⟨o14, ho14, rfl⟩ | ⟨o14, ho14, hr⟩
    · refine fwTVx (As := [.int a2]) (rest := []) (C := RX0) hx hb hml hown hts (m_X0_healIt l hst D ax ac g a2 _ _ ho14) (cw_X0_healIt hts q744 ⟨Nat.le_of_ble_eq_true rfl, Nat.le_of_ble_eq_true rfl⟩) hG hZ hS hA ixX nd_X (pk_X ax ac _) (ad_X ax ac _ _) 0 0 rfl rfl rfl hl.1 rfl (Nat.le_of_ble_eq_true rfl) dX0_ofCore_82 ⟨Nat.le_of_ble_eq_true rfl, Nat.le_of_ble_eq_true rfl⟩ (wn := wX ax ac o14.2) (rep_X ax ac _ _) (fun q_ ci_ H locs hci hS => ?_)
      subst hoc; exact fw_xout hnt hlk hG hci hS (Nat.le_of_ble_eq_true rfl) (Nat.le_of_ble_eq_true rfl)
    refine fwTVo (As := [.int a2]) (rest := []) (C := RX0) hx hb hml hown hts (m_X0_healIt l hst D ax ac g a2 _ _ ho14) (cw_X0_healIt hts q744 ⟨Nat.le_of_ble_eq_true rfl, Nat.le_of_ble_eq_true rfl⟩) hG hZ hS hA ixX nd_X (pk_X ax ac _) (ad_X ax ac _ _) 0 0 rfl rfl rfl hl.1 rfl (Nat.le_of_ble_eq_true rfl) dX0_ofCore_82 ⟨Nat.le_of_ble_eq_true rfl, Nat.le_of_ble_eq_true rfl⟩ (wn := wX ax ac o14.2) (rep_X ax ac _ _) (fun H locs hS => ?_)
    have hP := hS.1
    refine W.widen (k := 2) (n := 14) (by first | exact Nat.le_refl _ | (dsimp only [rm_X0_healIt]; omega)) (by first | exact Nat.le_refl _ | (dsimp only [rm_X0_healIt]; omega)) ?_
    obtain rfl := Option.some.inj hr
    refine W.widen (k := rm_X0_ofCore.cells) (n := rm_X0_ofCore.slots) (Nat.le_of_ble_eq_true rfl) (Nat.le_of_ble_eq_true rfl) ?_
    subst hoc
    exact xx_ret (W.iret hx hb hrt (fun t ht _ => hS.q ht rfl) hS.2.2.2.2 dX0_ofCore_85 hlk)
  have hr := hi6.2 c6
  have hi7 := br_ite hr
  by_cases c7 : a1 = 6
  · have hr := hi7.1 c7
    refine lv_tableIn (tgt := 86) hx hb dX0_ofCore_1 (by rw [c7]; decide) (by rw [c7]; decide) (by rw [c7]; rfl) (by decide) ?_
    refine lv_aload_n hx hb dX0_ofCore_86 rfl (lv_at hl 0 rfl) ?_
    refine lv_iload_n hx hb dX0_ofCore_87 rfl (lv_at hl 2 rfl) ?_
    rcases Or.symm (br_bX hr) with ⟨o15, ho15, rfl⟩ | ⟨o15, ho15, hr⟩
    · refine fwTVx (As := [.int a2]) (rest := []) (C := RX0) hx hb hml hown hts (m_X0_rollIt l hst D ax ac g a2 _ _ ho15) (cw_X0_rollIt hts q749 ⟨Nat.le_of_ble_eq_true rfl, Nat.le_of_ble_eq_true rfl⟩) hG hZ hS hA ixX nd_X (pk_X ax ac _) (ad_X ax ac _ _) 0 0 rfl rfl rfl hl.1 rfl (Nat.le_of_ble_eq_true rfl) dX0_ofCore_88 ⟨Nat.le_of_ble_eq_true rfl, Nat.le_of_ble_eq_true rfl⟩ (wn := wX ax ac o15.2) (rep_X ax ac _ _) (fun q_ ci_ H locs hci hS => ?_)
      subst hoc; exact fw_xout hnt hlk hG hci hS (Nat.le_of_ble_eq_true rfl) (Nat.le_of_ble_eq_true rfl)
    refine fwTVo (As := [.int a2]) (rest := []) (C := RX0) hx hb hml hown hts (m_X0_rollIt l hst D ax ac g a2 _ _ ho15) (cw_X0_rollIt hts q749 ⟨Nat.le_of_ble_eq_true rfl, Nat.le_of_ble_eq_true rfl⟩) hG hZ hS hA ixX nd_X (pk_X ax ac _) (ad_X ax ac _ _) 0 0 rfl rfl rfl hl.1 rfl (Nat.le_of_ble_eq_true rfl) dX0_ofCore_88 ⟨Nat.le_of_ble_eq_true rfl, Nat.le_of_ble_eq_true rfl⟩ (wn := wX ax ac o15.2) (rep_X ax ac _ _) (fun H locs hS => ?_)
    have hP := hS.1
    refine W.widen (k := 2) (n := 14) (by first | exact Nat.le_refl _ | (dsimp only [rm_X0_rollIt]; omega)) (by first | exact Nat.le_refl _ | (dsimp only [rm_X0_rollIt]; omega)) ?_
    obtain rfl := Option.some.inj hr
    refine W.widen (k := rm_X0_ofCore.cells) (n := rm_X0_ofCore.slots) (Nat.le_of_ble_eq_true rfl) (Nat.le_of_ble_eq_true rfl) ?_
    subst hoc
    exact xx_ret (W.iret hx hb hrt (fun t ht _ => hS.q ht rfl) hS.2.2.2.2 dX0_ofCore_91 hlk)
  have hr := hi7.2 c7
  have hi8 := br_ite hr
  by_cases c8 : a1 = 7
  · have hr := hi8.1 c8
    refine lv_tableIn (tgt := 92) hx hb dX0_ofCore_1 (by rw [c8]; decide) (by rw [c8]; decide) (by rw [c8]; rfl) (by decide) ?_
    refine lv_aload_n hx hb dX0_ofCore_92 rfl (lv_at hl 0 rfl) ?_
    refine lv_iload_n hx hb dX0_ofCore_93 rfl (lv_at hl 2 rfl) ?_
    refine lv_iload_n hx hb dX0_ofCore_94 rfl (lv_at hl 3 rfl) ?_
    refine lv_iload hx hb dX0_ofCore_95 (lv_at hl 4 rfl) ?_
    rcases Or.symm (br_bX hr) with ⟨o16, ho16, rfl⟩ | ⟨o16, ho16, hr⟩
    · refine fwTVx (As := [.int a2, .int a3, .int a4]) (rest := []) (C := RX0) hx hb hml hown hts (m_X0_turnIt l hst D ax ac g a2 a3 a4 _ _ ho16) (cw_X0_turnIt hts q754 ⟨Nat.le_of_ble_eq_true rfl, Nat.le_of_ble_eq_true rfl⟩) hG hZ hS hA ixX nd_X (pk_X ax ac _) (ad_X ax ac _ _) 0 0 rfl rfl rfl hl.1 rfl (Nat.le_of_ble_eq_true rfl) dX0_ofCore_97 ⟨Nat.le_of_ble_eq_true rfl, Nat.le_of_ble_eq_true rfl⟩ (wn := wX ax ac o16.2) (rep_X ax ac _ _) (fun q_ ci_ H locs hci hS => ?_)
      subst hoc; exact fw_xout hnt hlk hG hci hS (Nat.le_of_ble_eq_true rfl) (Nat.le_of_ble_eq_true rfl)
    refine fwTVo (As := [.int a2, .int a3, .int a4]) (rest := []) (C := RX0) hx hb hml hown hts (m_X0_turnIt l hst D ax ac g a2 a3 a4 _ _ ho16) (cw_X0_turnIt hts q754 ⟨Nat.le_of_ble_eq_true rfl, Nat.le_of_ble_eq_true rfl⟩) hG hZ hS hA ixX nd_X (pk_X ax ac _) (ad_X ax ac _ _) 0 0 rfl rfl rfl hl.1 rfl (Nat.le_of_ble_eq_true rfl) dX0_ofCore_97 ⟨Nat.le_of_ble_eq_true rfl, Nat.le_of_ble_eq_true rfl⟩ (wn := wX ax ac o16.2) (rep_X ax ac _ _) (fun H locs hS => ?_)
    have hP := hS.1
    refine W.widen (k := 4) (n := 28) (by first | exact Nat.le_refl _ | (dsimp only [rm_X0_turnIt]; omega)) (by first | exact Nat.le_refl _ | (dsimp only [rm_X0_turnIt]; omega)) ?_
    obtain rfl := Option.some.inj hr
    refine W.widen (k := rm_X0_ofCore.cells) (n := rm_X0_ofCore.slots) (Nat.le_of_ble_eq_true rfl) (Nat.le_of_ble_eq_true rfl) ?_
    subst hoc
    exact xx_ret (W.iret hx hb hrt (fun t ht _ => hS.q ht rfl) hS.2.2.2.2 dX0_ofCore_100 hlk)
  have hr := hi8.2 c8
  refine lv_tableOut (tgt := 101) hx hb dX0_ofCore_1 (by have n1 := lv_neT (a := 0) c1 rfl; have n2 := lv_neT (a := 1) c2 rfl; have n3 := lv_neT (a := 2) c3 rfl; have n4 := lv_neT (a := 3) c4 rfl; have n5 := lv_neT (a := 4) c5 rfl; have n6 := lv_neT (a := 5) c6 rfl; have n7 := lv_neT (a := 6) c7 rfl; have n8 := lv_neT (a := 7) c8 rfl; omega) (by decide) ?_
  refine lv_aload_n hx hb dX0_ofCore_101 rfl (lv_at hl 0 rfl) ?_
  obtain ⟨o17, ho17, hr⟩ := br_bind hr
  refine fwWVs (As := []) (rest := []) (C := RX0) hx hb hml hown hts (m_X0_allAnew l D ax ac g _ o17 ho17) (cw_X0_allAnew hts q760 ⟨Nat.le_of_ble_eq_true rfl, Nat.le_of_ble_eq_true rfl⟩) hG hS hA rfl 0 0 rfl rfl rfl hl.1 rfl (Nat.le_of_ble_eq_true rfl) dX0_ofCore_102 ⟨Nat.le_of_ble_eq_true rfl, Nat.le_of_ble_eq_true rfl⟩ (fun H locs hS => ?_)
  have hP := hS.1
  obtain rfl := Option.some.inj hr
  refine W.widen (k := rm_X0_ofCore.cells) (n := rm_X0_ofCore.slots) (Nat.le_of_ble_eq_true rfl) (Nat.le_of_ble_eq_true rfl) ?_
  subst hoc
  exact xx_ret (W.iret hx hb hrt (fun t ht _ => hS.q ht rfl) hS.2.2.2.2 dX0_ofCore_105 hlk)
def f_X0_doIt (g : XS) (a1 : Int32) (a2 : Int32) (a3 : Int32) (a4 : Int32) : Option ((Int32 × XS) ⊕ (Int32 × XS)) := if 9 ≤ a1 then if 18 ≤ a1 then bX (f_X0_ofRest g a1 a2 a3 a4) (fun b3 => (b3.1, b3.2)) fun o3 => some (Sum.inl (o3.1, o3.2)) else bX (f_X0_ofBites g a1 a2 a3 a4) (fun b4 => (b4.1, b4.2)) fun o4 => some (Sum.inl (o4.1, o4.2)) else bX (f_X0_ofCore g a1 a2 a3 a4) (fun b5 => (b5.1, b5.2)) fun o5 => some (Sum.inl (o5.1, o5.2))
abbrev rm_X0_doIt : Room := ({ frames := 42, cells := 700, slots := 4000, locals := 2048 })
theorem cw_X0_doIt {R : Room} {s : State} {args : Array Value} {own : String} {index : Nat} (hts : ∀ w ∈ lw_all, w.before args s = true) (hlink : Cond.methodLink own index yX0_doIt ∈ lw_all) (hR : rm_X0_doIt.frames + 1 ≤ R.frames ∧ 8 + (5 + 11) + rm_X0_doIt.locals ≤ R.locals) : CallW R s args own RX0 index yX0_doIt cX0_doIt 5 (some FieldType.int) (ws_ yX0_doIt cX0_doIt 5 (some FieldType.int)) rm_X0_doIt rm_X0_doIt.cells rm_X0_doIt.slots 4 :=
  cwV 4 hts (lw_V hlink q301 qs1 q102 q302) rfl rfl rfl (by decide +kernel) hR
set_option maxHeartbeats 4000000 in
theorem m_X0_doIt (l : Launch) (hst : l.stackTraces = false) (D : va_G) (ax : Nat → Nat) (ac : Nat → ClassId) (g : XS) (a1 : Int32) (a2 : Int32) (a3 : Int32) (a4 : Int32) (sz : Nat) (r0 : (Int32 × XS) ⊕ (Int32 × XS)) (hr : f_X0_doIt g a1 a2 a3 a4 = some r0) : TM l yX0_doIt cX0_doIt 5 (some FieldType.int) rm_X0_doIt [.ref (ax 0), .int a1, .int a2, .int a3, .int a4] D ac (wX ax ac g) sz (Sum.map (fun u => (wX ax ac u.2, (some (.int u.1)))) (fun u => (wX ax ac u.2, u.1)) r0) := by
  generalize hoc : (Sum.map (fun u => (wX ax ac u.2, (some (.int u.1)))) (fun u => (wX ax ac u.2, u.1)) r0 : Oc) = oc
  refine fw_ofT (by decide) (Nat.le_of_ble_eq_true rfl) ?_
  intro p e s m below meth c ls hx hb hrt hts hown hlk hml _ hnt hU hl
  obtain ⟨⟨rfl, hP, hG, hD⟩, hZ⟩ := hU
  have hA : ∀ q : Nat, s.heap.size ≤ q → (va_A (wX ax ac g) s.heap.size) q := fun q h => Or.inr h
  have hS := Stt.start hP hD
  show WT p l e rm_X0_doIt s m [.ref (ax 0), .int a1, .int a2, .int a3, .int a4] below meth c D (va_A (wX ax ac g) s.heap.size) oc s.heap [] 0 0 0 ls []
  have hl : lv_has ls 5 [(0, .ref (ax 0)), (1, .int a1), (2, .int a2), (3, .int a3), (4, .int a4)] := hl
  rw [f_X0_doIt] at hr
  refine lv_iload_n hx hb dX0_doIt_0 rfl (lv_at hl 1 rfl) ?_
  refine lv_bipush (v := 9) hx hb dX0_doIt_1 rfl ?_
  have hi1 := br_ite hr
  refine lv_icmp_ge (tgt := 18) hx hb dX0_doIt_3 (by decide) (fun c1 => ?_) (fun c1 => ?_)
  · have hr := hi1.1 c1
    refine lv_iload_n hx hb dX0_doIt_18 rfl (lv_at hl 1 rfl) ?_
    refine lv_bipush (v := 18) hx hb dX0_doIt_19 rfl ?_
    have hi2 := br_ite hr
    refine lv_icmp_ge (tgt := 36) hx hb dX0_doIt_21 (by decide) (fun c2 => ?_) (fun c2 => ?_)
    · have hr := hi2.1 c2
      refine lv_aload_n hx hb dX0_doIt_36 rfl (lv_at hl 0 rfl) ?_
      refine lv_iload_n hx hb dX0_doIt_37 rfl (lv_at hl 1 rfl) ?_
      refine lv_iload_n hx hb dX0_doIt_38 rfl (lv_at hl 2 rfl) ?_
      refine lv_iload_n hx hb dX0_doIt_39 rfl (lv_at hl 3 rfl) ?_
      refine lv_iload hx hb dX0_doIt_40 (lv_at hl 4 rfl) ?_
      rcases Or.symm (br_bX hr) with ⟨o3, ho3, rfl⟩ | ⟨o3, ho3, hr⟩
      · refine fwTVx (As := [.int a1, .int a2, .int a3, .int a4]) (rest := []) (C := RX0) hx hb hml hown hts (m_X0_ofRest l hst D ax ac g a1 a2 a3 a4 _ _ ho3) (cw_X0_ofRest hts q870 ⟨Nat.le_of_ble_eq_true rfl, Nat.le_of_ble_eq_true rfl⟩) hG hZ hS hA ixX nd_X (pk_X ax ac _) (ad_X ax ac _ _) 0 0 rfl rfl rfl hl.1 rfl (Nat.le_of_ble_eq_true rfl) dX0_doIt_42 ⟨Nat.le_of_ble_eq_true rfl, Nat.le_of_ble_eq_true rfl⟩ (wn := wX ax ac o3.2) (rep_X ax ac _ _) (fun q_ ci_ H locs hci hS => ?_)
        subst hoc; exact fw_xout hnt hlk hG hci hS (Nat.le_of_ble_eq_true rfl) (Nat.le_of_ble_eq_true rfl)
      refine fwTVo (As := [.int a1, .int a2, .int a3, .int a4]) (rest := []) (C := RX0) hx hb hml hown hts (m_X0_ofRest l hst D ax ac g a1 a2 a3 a4 _ _ ho3) (cw_X0_ofRest hts q870 ⟨Nat.le_of_ble_eq_true rfl, Nat.le_of_ble_eq_true rfl⟩) hG hZ hS hA ixX nd_X (pk_X ax ac _) (ad_X ax ac _ _) 0 0 rfl rfl rfl hl.1 rfl (Nat.le_of_ble_eq_true rfl) dX0_doIt_42 ⟨Nat.le_of_ble_eq_true rfl, Nat.le_of_ble_eq_true rfl⟩ (wn := wX ax ac o3.2) (rep_X ax ac _ _) (fun H locs hS => ?_)
      have hP := hS.1
      refine W.widen (k := 123) (n := 741) (by first | exact Nat.le_refl _ | (dsimp only [rm_X0_ofRest]; omega)) (by first | exact Nat.le_refl _ | (dsimp only [rm_X0_ofRest]; omega)) ?_
      obtain rfl := Option.some.inj hr
      refine W.widen (k := rm_X0_doIt.cells) (n := rm_X0_doIt.slots) (Nat.le_of_ble_eq_true rfl) (Nat.le_of_ble_eq_true rfl) ?_
      subst hoc
      exact xx_ret (W.iret hx hb hrt (fun t ht _ => hS.q ht rfl) hS.2.2.2.2 dX0_doIt_45 hlk)
    · have hr := hi2.2 c2
      refine lv_aload_n hx hb dX0_doIt_24 rfl (lv_at hl 0 rfl) ?_
      refine lv_iload_n hx hb dX0_doIt_25 rfl (lv_at hl 1 rfl) ?_
      refine lv_iload_n hx hb dX0_doIt_26 rfl (lv_at hl 2 rfl) ?_
      refine lv_iload_n hx hb dX0_doIt_27 rfl (lv_at hl 3 rfl) ?_
      refine lv_iload hx hb dX0_doIt_28 (lv_at hl 4 rfl) ?_
      rcases Or.symm (br_bX hr) with ⟨o4, ho4, rfl⟩ | ⟨o4, ho4, hr⟩
      · refine fwTVx (As := [.int a1, .int a2, .int a3, .int a4]) (rest := []) (C := RX0) hx hb hml hown hts (m_X0_ofBites l hst D ax ac g a1 a2 a3 a4 _ _ ho4) (cw_X0_ofBites hts q765 ⟨Nat.le_of_ble_eq_true rfl, Nat.le_of_ble_eq_true rfl⟩) hG hZ hS hA ixX nd_X (pk_X ax ac _) (ad_X ax ac _ _) 0 0 rfl rfl rfl hl.1 rfl (Nat.le_of_ble_eq_true rfl) dX0_doIt_30 ⟨Nat.le_of_ble_eq_true rfl, Nat.le_of_ble_eq_true rfl⟩ (wn := wX ax ac o4.2) (rep_X ax ac _ _) (fun q_ ci_ H locs hci hS => ?_)
        subst hoc; exact fw_xout hnt hlk hG hci hS (Nat.le_of_ble_eq_true rfl) (Nat.le_of_ble_eq_true rfl)
      refine fwTVo (As := [.int a1, .int a2, .int a3, .int a4]) (rest := []) (C := RX0) hx hb hml hown hts (m_X0_ofBites l hst D ax ac g a1 a2 a3 a4 _ _ ho4) (cw_X0_ofBites hts q765 ⟨Nat.le_of_ble_eq_true rfl, Nat.le_of_ble_eq_true rfl⟩) hG hZ hS hA ixX nd_X (pk_X ax ac _) (ad_X ax ac _ _) 0 0 rfl rfl rfl hl.1 rfl (Nat.le_of_ble_eq_true rfl) dX0_doIt_30 ⟨Nat.le_of_ble_eq_true rfl, Nat.le_of_ble_eq_true rfl⟩ (wn := wX ax ac o4.2) (rep_X ax ac _ _) (fun H locs hS => ?_)
      have hP := hS.1
      refine W.widen (k := 5) (n := 32) (by first | exact Nat.le_refl _ | (dsimp only [rm_X0_ofBites]; omega)) (by first | exact Nat.le_refl _ | (dsimp only [rm_X0_ofBites]; omega)) ?_
      refine lv_goto (tgt := 45) hx hb dX0_doIt_33 (by decide) ?_
      obtain rfl := Option.some.inj hr
      refine W.widen (k := rm_X0_doIt.cells) (n := rm_X0_doIt.slots) (Nat.le_of_ble_eq_true rfl) (Nat.le_of_ble_eq_true rfl) ?_
      subst hoc
      exact xx_ret (W.iret hx hb hrt (fun t ht _ => hS.q ht rfl) hS.2.2.2.2 dX0_doIt_45 hlk)
  · have hr := hi1.2 c1
    refine lv_aload_n hx hb dX0_doIt_6 rfl (lv_at hl 0 rfl) ?_
    refine lv_iload_n hx hb dX0_doIt_7 rfl (lv_at hl 1 rfl) ?_
    refine lv_iload_n hx hb dX0_doIt_8 rfl (lv_at hl 2 rfl) ?_
    refine lv_iload_n hx hb dX0_doIt_9 rfl (lv_at hl 3 rfl) ?_
    refine lv_iload hx hb dX0_doIt_10 (lv_at hl 4 rfl) ?_
    rcases Or.symm (br_bX hr) with ⟨o5, ho5, rfl⟩ | ⟨o5, ho5, hr⟩
    · refine fwTVx (As := [.int a1, .int a2, .int a3, .int a4]) (rest := []) (C := RX0) hx hb hml hown hts (m_X0_ofCore l hst D ax ac g a1 a2 a3 a4 _ _ ho5) (cw_X0_ofCore hts q303 ⟨Nat.le_of_ble_eq_true rfl, Nat.le_of_ble_eq_true rfl⟩) hG hZ hS hA ixX nd_X (pk_X ax ac _) (ad_X ax ac _ _) 0 0 rfl rfl rfl hl.1 rfl (Nat.le_of_ble_eq_true rfl) dX0_doIt_12 ⟨Nat.le_of_ble_eq_true rfl, Nat.le_of_ble_eq_true rfl⟩ (wn := wX ax ac o5.2) (rep_X ax ac _ _) (fun q_ ci_ H locs hci hS => ?_)
      subst hoc; exact fw_xout hnt hlk hG hci hS (Nat.le_of_ble_eq_true rfl) (Nat.le_of_ble_eq_true rfl)
    refine fwTVo (As := [.int a1, .int a2, .int a3, .int a4]) (rest := []) (C := RX0) hx hb hml hown hts (m_X0_ofCore l hst D ax ac g a1 a2 a3 a4 _ _ ho5) (cw_X0_ofCore hts q303 ⟨Nat.le_of_ble_eq_true rfl, Nat.le_of_ble_eq_true rfl⟩) hG hZ hS hA ixX nd_X (pk_X ax ac _) (ad_X ax ac _ _) 0 0 rfl rfl rfl hl.1 rfl (Nat.le_of_ble_eq_true rfl) dX0_doIt_12 ⟨Nat.le_of_ble_eq_true rfl, Nat.le_of_ble_eq_true rfl⟩ (wn := wX ax ac o5.2) (rep_X ax ac _ _) (fun H locs hS => ?_)
    have hP := hS.1
    refine W.widen (k := 700) (n := 4000) (by first | exact Nat.le_refl _ | (dsimp only [rm_X0_ofCore]; omega)) (by first | exact Nat.le_refl _ | (dsimp only [rm_X0_ofCore]; omega)) ?_
    refine lv_goto (tgt := 45) hx hb dX0_doIt_15 (by decide) ?_
    obtain rfl := Option.some.inj hr
    refine W.widen (k := rm_X0_doIt.cells) (n := rm_X0_doIt.slots) (Nat.le_of_ble_eq_true rfl) (Nat.le_of_ble_eq_true rfl) ?_
    subst hoc
    exact xx_ret (W.iret hx hb hrt (fun t ht _ => hS.q ht rfl) hS.2.2.2.2 dX0_doIt_45 hlk)
