/-! READING LETTERS: what heirTold, told, statement and readCore answer -/
def f_X12_heirTold (g : XS) (rd : RS) (a1 : Int32) : Option ((TL × RS) ⊕ (Int32 × RS)) := Option.bind (f_X12_here g rd) fun o1 => Option.bind (f_X0_kindOf o1) fun o2 => Option.bind (α := Int32) (if o2 < 0 then some 0 else some 1) fun o4 => bX (f_X12_mustStand g rd o4) (fun b5 => (b5.1, b5.2)) fun o5 => Option.bind (some (rS_at o5 ((rG_at o5) + 1))) fun rd6 => if o2 < 0 ∨ 6 ≤ Int32.toNatClampNeg o2 then none else Option.bind (kd0 (Int32.toNatClampNeg o2)) fun k7 => bX (f_X12_digit g rd6) (fun b8 => (b8.1, b8.2)) fun o8 => some (Sum.inl ((1, a1, k7, o8.1, 0), o8.2))
def f_X12_told (g : XS) (rd : RS) (a1 : Int32) (a2 : Int32) : Option ((TL × RS) ⊕ (Int32 × RS)) := if a1 = 108 then bX (f_X12_pair g rd) (fun b2 => (b2.1, b2.2)) fun o2 => some (Sum.inl ((2, a2, 0, o2.1, 0), o2.2)) else bX (f_X12_digit g rd) (fun b3 => (b3.1, b3.2)) fun o3 => if a1 = 114 then some (Sum.inl ((3, a2, 0, o3.1, 0), o3.2)) else bX (f_X12_pair g o3.2) (fun b5 => (b5.1, b5.2)) fun o5 => some (Sum.inl ((4, a2, 0, o3.1, o5.1), o5.2))
def f_X12_statement (g : XS) (rd : RS) : Option ((TL × RS) ⊕ (Int32 × RS)) := Option.bind (some ((rG_at rd) : Int32)) fun v1 => Option.bind (f_X12_here g rd) fun o2 => Option.bind (α := Int32) (if o2 = 104 then some 1 else if o2 = 98 then some 1 else if o2 = 108 then some 1 else if o2 = 114 then some 1 else if o2 = 110 then some 1 else some 0) fun o3 => bX (f_X12_mustStand g rd o3) (fun b4 => (b4.1, b4.2)) fun o4 => Option.bind (some (rS_at o4 ((rG_at o4) + 1))) fun rd5 => bX (if o2 = 110 then some (Sum.inl ((0, v1, 0, 0, 0), rd5)) else if o2 = 104 then f_X12_heirTold g rd5 v1 else f_X12_told g rd5 o2 v1) (fun b6 => (b6.1, b6.2)) fun o6 => bX (f_X12_take g o6.2 59) (fun b7 => (b7.1, b7.2)) fun o7 => some (Sum.inl (o6.1, o7))
/-- the statements, one after another; l: those that are read -/
def f_X0_readCore_L22 (g : XS) : Nat → Int32 → RS → List TL → Option ((Int32 × RS × List TL) ⊕ Int32)
  | 0, _, _, _ => none
  | n + 1, x3, rd, l => bX (f_X12_statement g rd) (fun b1 => b1.1) fun o1 => if x3 < 0 ∨ 96 ≤ Int32.toNatClampNeg x3 then none else Option.bind (some (x3 + 1)) fun v2 => if (rG_at o1.2) < (rG_size o1.2) then f_X0_readCore_L22 g n v2 o1.2 (l ++ [o1.1]) else some (Sum.inl (v2, o1.2, l ++ [o1.1]))
/-- what they do to a core -/
def f_X0_readCore_L58 : List TL → CV → Option (CV ⊕ (Int32 × CV))
  | [], cv => some (Sum.inl cv)
  | t :: l, cv => Option.bind (f_X14_comes cv t) fun o1 => if o1.1 = 0 then some (Sum.inr ((-2000 : Int32) - t.2.1, o1.2)) else f_X0_readCore_L58 l o1.2
def f_X0_readCore (g : XS) : Option ((Int32 × XS) ⊕ (Int32 × XS)) := Option.bind (some (xS_letterMany g (0 : Int32))) fun g1 => bX (f_X0_readCore_L22 g1 1000 0 ((xG_letterMany g), 0) []) (fun b2 => (b2, g1)) fun o2 => Option.bind (f_X8_set (xG_mind g1) (xG_core0 g1)) fun o3 => bX (f_X0_readCore_L58 o2.2.2 o3) (fun b4 => (b4.1, xS_mind g1 b4.2)) fun o4 => Option.bind (some (xS_mind g1 o4)) fun g5 => Option.bind (f_X8_set (xG_core0 g5) (xG_mind g5)) fun o6 => Option.bind (some (xS_core0 g5 o6)) fun g7 => some (Sum.inl (o2.1, g7))
/-- what stands between is left out -/
theorem Stt.mid {D : va_G} {A0 : Nat → Prop} {H0 H : Heap} {A M B : va_W} {locs : List Loc} (hS : Stt D A0 H0 (A ++ M ++ B) H locs) : Stt D A0 H0 (A ++ B) H locs := by
  have key : ∀ (k : Nat) (q : Nat × va_E), (A ++ B)[k]? = some q → (A ++ M ++ B)[if k < A.length then k else k + M.length]? = some q := by
    intro k q h
    by_cases hk : k < A.length
    · rw [if_pos hk, List.append_assoc, List.getElem?_append_left hk]
      rw [List.getElem?_append_left hk] at h
      exact h
    · rw [if_neg hk, List.getElem?_append_right (by rw [List.length_append]; omega), List.length_append]
      rw [List.getElem?_append_right (by omega)] at h
      rw [show k + M.length - (A.length + M.length) = k - A.length by omega]
      exact h
  refine ⟨fun k q h => hS.1 _ q (key k q h), ⟨fun i j p q h1 h2 e => ?_, fun k q h => hS.2.1.2 _ q (key k q h)⟩, hS.2.2⟩
  have h3 := hS.2.1.1 _ _ p q (key i p h1) (key j q h2) e
  by_cases hi : i < A.length <;> by_cases hj : j < A.length
  · rw [if_pos hi, if_pos hj] at h3; exact h3
  · rw [if_pos hi, if_neg hj] at h3; omega
  · rw [if_neg hi, if_pos hj] at h3; omega
  · rw [if_neg hi, if_neg hj] at h3; omega
abbrev rm_X12_told : Room := ({ frames := 12, cells := 4, slots := 24, locals := 230 })
theorem cw_X12_told {R : Room} {s : State} {args : Array Value} {own : String} {index : Nat} (hts : ∀ w ∈ lw_all, w.before args s = true) (hlink : Cond.methodLink own index yX12_told ∈ lw_all) (hR : rm_X12_told.frames + 1 ≤ R.frames ∧ 8 + (4 + 11) + rm_X12_told.locals ≤ R.locals) : CallW R s args own RX12 index yX12_told cX12_told 4 (some (FieldType.object "CoresAreWills$Told")) (ws_ yX12_told cX12_told 4 (some (FieldType.object "CoresAreWills$Told"))) rm_X12_told rm_X12_told.cells rm_X12_told.slots 2 :=
  cwV 2 hts (lw_V hlink q488 qs11 q117 q489) rfl rfl rfl (by decide +kernel) hR
set_option maxHeartbeats 4000000 in
theorem m_X12_told (l : Launch) (hst : l.stackTraces = false) (D : va_G) (ax : Nat → Nat) (ac : Nat → ClassId) (g : XS) (rq : Nat) (rd : RS) (a1 : Int32) (a2 : Int32) (sz : Nat) (r0 : (TL × RS) ⊕ (Int32 × RS)) (hr : f_X12_told g rd a1 a2 = some r0) : TMn l yX12_told cX12_told 4 (some (FieldType.object "CoresAreWills$Told")) rm_X12_told [.ref rq, .int a1, .int a2] D ac (wX ax ac g ++ wR ax rq rd) sz (Sum.map (fun u => (wX ax ac g ++ wR ax rq u.2, wT ax u.1)) (fun u => (wX ax ac g ++ wR ax rq u.2, u.1)) r0) := by
  generalize hoc : (Sum.map (fun u => (wX ax ac g ++ wR ax rq u.2, wT ax u.1)) (fun u => (wX ax ac g ++ wR ax rq u.2, u.1)) r0 : On) = oc
  refine fw_ofT (by decide) (Nat.le_of_ble_eq_true rfl) ?_
  intro p e s m below meth c ls hx hb hrt hts hown hlk hml _ hnt hU hl
  obtain ⟨⟨rfl, hP, hG, hD⟩, hZ⟩ := hU
  have hA : ∀ q : Nat, s.heap.size ≤ q → (va_A (wX ax ac g ++ wR ax rq rd) s.heap.size) q := fun q h => Or.inr h
  have hS := Stt.start hP hD
  show WTn p l e rm_X12_told s m [.ref rq, .int a1, .int a2] below meth c D (va_A (wX ax ac g ++ wR ax rq rd) s.heap.size) oc s.heap [] 0 0 0 ls []
  have hl : lv_has ls 4 [(0, .ref rq), (1, .int a1), (2, .int a2)] := hl
  rw [f_X12_told] at hr
  refine lv_iload_n hx hb dX12_told_0 rfl (lv_at hl 1 rfl) ?_
  refine lv_bipush (v := 108) hx hb dX12_told_1 rfl ?_
  have hi1 := br_ite hr
  refine lv_icmp_ne (tgt := 19) hx hb dX12_told_3 (by decide) (fun c1 => ?_) (fun c1 => ?_)
  · have hr := hi1.2 c1
    refine lv_aload_n hx hb dX12_told_19 rfl (lv_at hl 0 rfl) ?_
    rcases Or.symm (br_bX hr) with ⟨o3, ho3, rfl⟩ | ⟨o3, ho3, hr⟩
    · refine fwTVx (As := []) (rest := []) (C := RX12) hx hb hml hown hts (m_X12_digit l hst D ax ac g rq rd _ _ ho3) (cw_X12_digit hts q465 ⟨Nat.le_of_ble_eq_true rfl, Nat.le_of_ble_eq_true rfl⟩) hG hZ hS hA ixR nd_R (pk_XR ax ac _ _ _) (ad_XR ax ac _ _ _ _ _) 26 10 rfl rfl rfl hl.1 rfl (Nat.le_of_ble_eq_true rfl) dX12_told_20 ⟨Nat.le_of_ble_eq_true rfl, Nat.le_of_ble_eq_true rfl⟩ (wn := wX ax ac g ++ wR ax rq o3.2) (rep_XR ax ac _ _ _ _ _) (fun q_ ci_ H locs hci hS => ?_)
      subst hoc; exact fw_xoutn hnt hlk hG hci hS (Nat.le_of_ble_eq_true rfl) (Nat.le_of_ble_eq_true rfl)
    refine fwTVo (As := []) (rest := []) (C := RX12) hx hb hml hown hts (m_X12_digit l hst D ax ac g rq rd _ _ ho3) (cw_X12_digit hts q465 ⟨Nat.le_of_ble_eq_true rfl, Nat.le_of_ble_eq_true rfl⟩) hG hZ hS hA ixR nd_R (pk_XR ax ac _ _ _) (ad_XR ax ac _ _ _ _ _) 26 10 rfl rfl rfl hl.1 rfl (Nat.le_of_ble_eq_true rfl) dX12_told_20 ⟨Nat.le_of_ble_eq_true rfl, Nat.le_of_ble_eq_true rfl⟩ (wn := wX ax ac g ++ wR ax rq o3.2) (rep_XR ax ac _ _ _ _ _) (fun H locs hS => ?_)
    have hP := hS.1
    refine W.widen (k := 1) (n := 7) (Nat.le_of_ble_eq_true rfl) (Nat.le_of_ble_eq_true rfl) ?_
    refine lv_istore_n (lv' := [(3, .int o3.1), (0, .ref rq), (1, .int a1), (2, .int a2)]) hx hb dX12_told_23 rfl hl (by decide) rfl (fun ls hl => ?_)
    refine lv_iload_n hx hb dX12_told_24 rfl (lv_at hl 2 rfl) ?_
    refine lv_bipush (v := 114) hx hb dX12_told_25 rfl ?_
    have hi2 := br_ite hr
    refine lv_icmp_ne (tgt := 42) hx hb dX12_told_27 (by decide) (fun c2 => ?_) (fun c2 => ?_)
    · have hr := hi2.2 c2
      refine fw_new (D := D) (ac := ac) (C := RX19) (T := TX19) (N := 3) (ci := 16) (fs := f0_X19) hx hb hts in_X19 tyX19 tyX19_ok hown (hts _ q516) (hts _ q517) (hts _ q124) hG hS hA rfl (fun j hj => by rcases (show j = 0 ∨ j = 1 ∨ j = 2 by omega) with rfl | rfl | rfl <;> rfl) (Nat.le_of_ble_eq_true rfl) (Nat.le_of_ble_eq_true rfl) dX12_told_42 (fun nq H hS => ?_)
      have hP := hS.1
      refine W.widen (k := 2) (n := 10) (Nat.le_of_ble_eq_true rfl) (Nat.le_of_ble_eq_true rfl) ?_
      refine lv_dup hx hb dX12_told_45 rfl ?_
      refine lv_iload_n hx hb dX12_told_46 rfl (lv_at hl 3 rfl) ?_
      refine lv_iload_n hx hb dX12_told_47 rfl (lv_at hl 0 rfl) ?_
      refine lv_aload_n hx hb dX12_told_48 rfl (lv_at hl 1 rfl) ?_
      rcases Or.symm (br_bX hr) with ⟨o5, ho5, rfl⟩ | ⟨o5, ho5, hr⟩
      · refine fwTVx (As := []) (rest := [.int o3.1, .int a2, .ref nq, .ref nq]) (C := RX12) hx hb hml hown hts (m_X12_pair l hst D ax ac g rq o3.2 _ _ ho5) (cw_X12_pair hts q492 ⟨Nat.le_of_ble_eq_true rfl, Nat.le_of_ble_eq_true rfl⟩) hG hZ hS hA ixR nd_R (pk_XRS ax ac _ _ _ _) (ad_XR ax ac _ _ _ _ _) 26 10 rfl rfl rfl hl.1 rfl (Nat.le_of_ble_eq_true rfl) dX12_told_49 ⟨Nat.le_of_ble_eq_true rfl, Nat.le_of_ble_eq_true rfl⟩ (wn := wX ax ac g ++ wR ax rq o5.2 ++ [(nq, .inr (16, f0_X19))]) (rep_XRS ax ac _ _ _ _ _ _) (fun q_ ci_ H locs hci hS => ?_)
        have hS := Stt.mid hS
        subst hoc; exact fw_xoutn hnt hlk hG hci hS (Nat.le_of_ble_eq_true rfl) (Nat.le_of_ble_eq_true rfl)
      refine fwTVo (As := []) (rest := [.int o3.1, .int a2, .ref nq, .ref nq]) (C := RX12) hx hb hml hown hts (m_X12_pair l hst D ax ac g rq o3.2 _ _ ho5) (cw_X12_pair hts q492 ⟨Nat.le_of_ble_eq_true rfl, Nat.le_of_ble_eq_true rfl⟩) hG hZ hS hA ixR nd_R (pk_XRS ax ac _ _ _ _) (ad_XR ax ac _ _ _ _ _) 26 10 rfl rfl rfl hl.1 rfl (Nat.le_of_ble_eq_true rfl) dX12_told_49 ⟨Nat.le_of_ble_eq_true rfl, Nat.le_of_ble_eq_true rfl⟩ (wn := wX ax ac g ++ wR ax rq o5.2 ++ [(nq, .inr (16, f0_X19))]) (rep_XRS ax ac _ _ _ _ _ _) (fun H locs hS => ?_)
      have hP := hS.1
      refine W.widen (k := 4) (n := 24) (Nat.le_of_ble_eq_true rfl) (Nat.le_of_ble_eq_true rfl) ?_
      refine fwNI (As := [.int a2, .int o3.1, .int o5.1]) (rest := [.ref nq]) (ws := wX ax ac g ++ wR ax rq o5.2) hx hb hml hown hts (m_X19_init l D ax ac nq a2 o3.1 o5.1 H.size) (cwi_X19_init hts q518 ⟨Nat.le_of_ble_eq_true rfl, Nat.le_of_ble_eq_true rfl⟩) hG hS hA rfl hl.1 rfl (Nat.le_of_ble_eq_true rfl) dX12_told_52 ⟨Nat.le_of_ble_eq_true rfl, Nat.le_of_ble_eq_true rfl⟩ (fun u H locs hS => ?_)
      have hS : Stt D (va_A (wX ax ac g ++ wR ax rq rd) s.heap.size) s.heap (wX ax ac g ++ wR ax rq o5.2 ++ [(nq, wT ax (4, a2, 0, o3.1, o5.1))]) H locs := hS
      have hP := hS.1
      obtain rfl := Option.some.inj hr
      refine W.widen (k := rm_X12_told.cells) (n := rm_X12_told.slots) (Nat.le_of_ble_eq_true rfl) (Nat.le_of_ble_eq_true rfl) ?_
      subst hoc
      exact xx_ret (W.aret hx hb hrt (Or.inl ⟨_, rfl⟩) (Or.inr ⟨_, rfl⟩) (fun t ht _ => ⟨⟨nq, rfl, by rw [ht]; exact hS.1, hS.2.1⟩, hS.2.2.F ht⟩) hS.2.2.2.2 dX12_told_55 hlk)
    · have hr := hi2.1 c2
      refine fw_new (D := D) (ac := ac) (C := RX18) (T := TX18) (N := 2) (ci := 15) (fs := f0_X18) hx hb hts in_X18 tyX18 tyX18_ok hown (hts _ q505) (hts _ q506) (hts _ q123) hG hS hA rfl (fun j hj => by rcases (show j = 0 ∨ j = 1 by omega) with rfl | rfl <;> rfl) (Nat.le_of_ble_eq_true rfl) (Nat.le_of_ble_eq_true rfl) dX12_told_30 (fun nq H hS => ?_)
      have hP := hS.1
      refine W.widen (k := 2) (n := 9) (Nat.le_of_ble_eq_true rfl) (Nat.le_of_ble_eq_true rfl) ?_
      refine lv_dup hx hb dX12_told_33 rfl ?_
      refine lv_iload_n hx hb dX12_told_34 rfl (lv_at hl 3 rfl) ?_
      refine lv_iload_n hx hb dX12_told_35 rfl (lv_at hl 0 rfl) ?_
      refine fwNI (As := [.int a2, .int o3.1]) (rest := [.ref nq]) (ws := wX ax ac g ++ wR ax rq o3.2) hx hb hml hown hts (m_X18_init l D ax ac nq a2 o3.1 H.size) (cwi_X18_init hts q507 ⟨Nat.le_of_ble_eq_true rfl, Nat.le_of_ble_eq_true rfl⟩) hG hS hA rfl hl.1 rfl (Nat.le_of_ble_eq_true rfl) dX12_told_36 ⟨Nat.le_of_ble_eq_true rfl, Nat.le_of_ble_eq_true rfl⟩ (fun u H locs hS => ?_)
      have hS : Stt D (va_A (wX ax ac g ++ wR ax rq rd) s.heap.size) s.heap (wX ax ac g ++ wR ax rq o3.2 ++ [(nq, wT ax (3, a2, 0, o3.1, 0))]) H locs := hS
      have hP := hS.1
      refine lv_goto (tgt := 55) hx hb dX12_told_39 (by decide) ?_
      obtain rfl := Option.some.inj hr
      refine W.widen (k := rm_X12_told.cells) (n := rm_X12_told.slots) (Nat.le_of_ble_eq_true rfl) (Nat.le_of_ble_eq_true rfl) ?_
      subst hoc
      exact xx_ret (W.aret hx hb hrt (Or.inl ⟨_, rfl⟩) (Or.inr ⟨_, rfl⟩) (fun t ht _ => ⟨⟨nq, rfl, by rw [ht]; exact hS.1, hS.2.1⟩, hS.2.2.F ht⟩) hS.2.2.2.2 dX12_told_55 hlk)
  · have hr := hi1.1 c1
    refine fw_new (D := D) (ac := ac) (C := RX17) (T := TX17) (N := 2) (ci := 14) (fs := f0_X17) hx hb hts in_X17 tyX17 tyX17_ok hown (hts _ q490) (hts _ q491) (hts _ q122) hG hS hA rfl (fun j hj => by rcases (show j = 0 ∨ j = 1 by omega) with rfl | rfl <;> rfl) (Nat.le_of_ble_eq_true rfl) (Nat.le_of_ble_eq_true rfl) dX12_told_6 (fun nq H hS => ?_)
    have hP := hS.1
    refine W.widen (k := 1) (n := 2) (Nat.le_of_ble_eq_true rfl) (Nat.le_of_ble_eq_true rfl) ?_
    refine lv_dup hx hb dX12_told_9 rfl ?_
    refine lv_iload_n hx hb dX12_told_10 rfl (lv_at hl 2 rfl) ?_
    refine lv_aload_n hx hb dX12_told_11 rfl (lv_at hl 0 rfl) ?_
    rcases Or.symm (br_bX hr) with ⟨o2, ho2, rfl⟩ | ⟨o2, ho2, hr⟩
    · refine fwTVx (As := []) (rest := [.int a2, .ref nq, .ref nq]) (C := RX12) hx hb hml hown hts (m_X12_pair l hst D ax ac g rq rd _ _ ho2) (cw_X12_pair hts q492 ⟨Nat.le_of_ble_eq_true rfl, Nat.le_of_ble_eq_true rfl⟩) hG hZ hS hA ixR nd_R (pk_XRS ax ac _ _ _ _) (ad_XR ax ac _ _ _ _ _) 26 10 rfl rfl rfl hl.1 rfl (Nat.le_of_ble_eq_true rfl) dX12_told_12 ⟨Nat.le_of_ble_eq_true rfl, Nat.le_of_ble_eq_true rfl⟩ (wn := wX ax ac g ++ wR ax rq o2.2 ++ [(nq, .inr (14, f0_X17))]) (rep_XRS ax ac _ _ _ _ _ _) (fun q_ ci_ H locs hci hS => ?_)
      have hS := Stt.mid hS
      subst hoc; exact fw_xoutn hnt hlk hG hci hS (Nat.le_of_ble_eq_true rfl) (Nat.le_of_ble_eq_true rfl)
    refine fwTVo (As := []) (rest := [.int a2, .ref nq, .ref nq]) (C := RX12) hx hb hml hown hts (m_X12_pair l hst D ax ac g rq rd _ _ ho2) (cw_X12_pair hts q492 ⟨Nat.le_of_ble_eq_true rfl, Nat.le_of_ble_eq_true rfl⟩) hG hZ hS hA ixR nd_R (pk_XRS ax ac _ _ _ _) (ad_XR ax ac _ _ _ _ _) 26 10 rfl rfl rfl hl.1 rfl (Nat.le_of_ble_eq_true rfl) dX12_told_12 ⟨Nat.le_of_ble_eq_true rfl, Nat.le_of_ble_eq_true rfl⟩ (wn := wX ax ac g ++ wR ax rq o2.2 ++ [(nq, .inr (14, f0_X17))]) (rep_XRS ax ac _ _ _ _ _ _) (fun H locs hS => ?_)
    have hP := hS.1
    refine W.widen (k := 3) (n := 16) (Nat.le_of_ble_eq_true rfl) (Nat.le_of_ble_eq_true rfl) ?_
    refine fwNI (As := [.int a2, .int o2.1]) (rest := [.ref nq]) (ws := wX ax ac g ++ wR ax rq o2.2) hx hb hml hown hts (m_X17_init l D ax ac nq a2 o2.1 H.size) (cwi_X17_init hts q496 ⟨Nat.le_of_ble_eq_true rfl, Nat.le_of_ble_eq_true rfl⟩) hG hS hA rfl hl.1 rfl (Nat.le_of_ble_eq_true rfl) dX12_told_15 ⟨Nat.le_of_ble_eq_true rfl, Nat.le_of_ble_eq_true rfl⟩ (fun u H locs hS => ?_)
    have hS : Stt D (va_A (wX ax ac g ++ wR ax rq rd) s.heap.size) s.heap (wX ax ac g ++ wR ax rq o2.2 ++ [(nq, wT ax (2, a2, 0, o2.1, 0))]) H locs := hS
    have hP := hS.1
    obtain rfl := Option.some.inj hr
    refine W.widen (k := rm_X12_told.cells) (n := rm_X12_told.slots) (Nat.le_of_ble_eq_true rfl) (Nat.le_of_ble_eq_true rfl) ?_
    subst hoc
    exact xx_ret (W.aret hx hb hrt (Or.inl ⟨_, rfl⟩) (Or.inr ⟨_, rfl⟩) (fun t ht _ => ⟨⟨nq, rfl, by rw [ht]; exact hS.1, hS.2.1⟩, hS.2.2.F ht⟩) hS.2.2.2.2 dX12_told_18 hlk)
abbrev rm_X12_heirTold : Room := ({ frames := 12, cells := 3, slots := 17, locals := 230 })
theorem cw_X12_heirTold {R : Room} {s : State} {args : Array Value} {own : String} {index : Nat} (hts : ∀ w ∈ lw_all, w.before args s = true) (hlink : Cond.methodLink own index yX12_heirTold ∈ lw_all) (hR : rm_X12_heirTold.frames + 1 ≤ R.frames ∧ 8 + (3 + 11) + rm_X12_heirTold.locals ≤ R.locals) : CallW R s args own RX12 index yX12_heirTold cX12_heirTold 3 (some (FieldType.object "CoresAreWills$Told")) (ws_ yX12_heirTold cX12_heirTold 3 (some (FieldType.object "CoresAreWills$Told"))) rm_X12_heirTold rm_X12_heirTold.cells rm_X12_heirTold.slots 1 :=
  cwV 1 hts (lw_V hlink q457 qs8 q117 q458) rfl rfl rfl (by decide +kernel) hR
set_option maxHeartbeats 4000000 in
theorem m_X12_heirTold (l : Launch) (hst : l.stackTraces = false) (D : va_G) (ax : Nat → Nat) (ac : Nat → ClassId) (g : XS) (rq : Nat) (rd : RS) (a1 : Int32) (sz : Nat) (r0 : (TL × RS) ⊕ (Int32 × RS)) (hr : f_X12_heirTold g rd a1 = some r0) : TMn l yX12_heirTold cX12_heirTold 3 (some (FieldType.object "CoresAreWills$Told")) rm_X12_heirTold [.ref rq, .int a1] D ac (wX ax ac g ++ wR ax rq rd) sz (Sum.map (fun u => (wX ax ac g ++ wR ax rq u.2, wT ax u.1)) (fun u => (wX ax ac g ++ wR ax rq u.2, u.1)) r0) := by
  generalize hoc : (Sum.map (fun u => (wX ax ac g ++ wR ax rq u.2, wT ax u.1)) (fun u => (wX ax ac g ++ wR ax rq u.2, u.1)) r0 : On) = oc
  refine fw_ofT (by decide) (Nat.le_of_ble_eq_true rfl) ?_
  intro p e s m below meth c ls hx hb hrt hts hown hlk hml _ hnt hU hl
  obtain ⟨⟨rfl, hP, hG, hD⟩, hZ⟩ := hU
  have hA : ∀ q : Nat, s.heap.size ≤ q → (va_A (wX ax ac g ++ wR ax rq rd) s.heap.size) q := fun q h => Or.inr h
  have hS := Stt.start hP hD
  show WTn p l e rm_X12_heirTold s m [.ref rq, .int a1] below meth c D (va_A (wX ax ac g ++ wR ax rq rd) s.heap.size) oc s.heap [] 0 0 0 ls []
  have hl : lv_has ls 3 [(0, .ref rq), (1, .int a1)] := hl
  rw [f_X12_heirTold] at hr
  refine lv_aload_n hx hb dX12_heirTold_0 rfl (lv_at hl 0 rfl) ?_
  refine va_get (D := D) (ci := 10) (v := .ref (ax 0)) (C := RX12) (T := TX12) (N := 3) hx hb hts in_X12 hown hG.1 hP 26 rfl rfl 2 (by decide) (hts _ q401) (fun _ h9 => h9) rfl dX12_heirTold_1 ?_
  refine lv_aload_n hx hb dX12_heirTold_4 rfl (lv_at hl 0 rfl) ?_
  obtain ⟨o1, ho1, hr⟩ := br_bind hr
  refine fwRV (As := []) (rest := [.ref (ax 0)]) (C := RX12) hx hb hml hown hts (m_X12_here l D ax ac g rq rd o1 ho1) (cw_X12_here hts q415 ⟨Nat.le_of_ble_eq_true rfl, Nat.le_of_ble_eq_true rfl⟩) hG hP hP 26 10 rfl rfl rfl hl.1 rfl (Nat.le_of_ble_eq_true rfl) dX12_heirTold_5 ⟨Nat.le_of_ble_eq_true rfl, Nat.le_of_ble_eq_true rfl⟩ ?_
  obtain ⟨o2, ho2, hr⟩ := br_bind hr
  refine fwPVN (As := [.int o1]) (rest := []) (C := RX0) hx hb hml hown hts (m_X0_kindOf l (ax 0) o1 o2 ho2) (cwvn_X0_kindOf hts (hG.2.1 _ nq459) ⟨Nat.le_of_ble_eq_true rfl, Nat.le_of_ble_eq_true rfl⟩) hG hP 0 0 rfl rfl rfl hl.1 rfl (Nat.le_of_ble_eq_true rfl) dX12_heirTold_8 ⟨Nat.le_of_ble_eq_true rfl, Nat.le_of_ble_eq_true rfl⟩ ?_
  refine lv_istore_n (lv' := [(2, .int o2), (0, .ref rq), (1, .int a1)]) hx hb dX12_heirTold_11 rfl hl (by decide) rfl (fun ls hl => ?_)
  refine lv_aload_n hx hb dX12_heirTold_12 rfl (lv_at hl 1 rfl) ?_
  refine lv_iload_n hx hb dX12_heirTold_13 rfl (lv_at hl 0 rfl) ?_
  obtain ⟨o4, ho4, hr⟩ := br_bind hr
  have J : ∀ ls, lv_has ls 3 [(2, .int o2), (0, .ref rq), (1, .int a1)] → WTn p l e rm_X12_heirTold s m [.ref rq, .int a1] below meth c D (va_A (wX ax ac g ++ wR ax rq rd) s.heap.size) oc s.heap [] 0 0 22 ls [.int o4, .ref rq] := by
    intro ls hl
    rcases Or.symm (br_bX hr) with ⟨o5, ho5, rfl⟩ | ⟨o5, ho5, hr⟩
    · refine fwTVx (As := [.int o4]) (rest := []) (C := RX12) hx hb hml hown hts (m_X12_mustStand l hst D ax ac g rq rd o4 _ _ ho5) (cw_X12_mustStand hts q419 ⟨Nat.le_of_ble_eq_true rfl, Nat.le_of_ble_eq_true rfl⟩) hG hZ hS hA ixR nd_R (pk_XR ax ac _ _ _) (ad_XR ax ac _ _ _ _ _) 26 10 rfl rfl rfl hl.1 rfl (Nat.le_of_ble_eq_true rfl) dX12_heirTold_22 ⟨Nat.le_of_ble_eq_true rfl, Nat.le_of_ble_eq_true rfl⟩ (wn := wX ax ac g ++ wR ax rq o5.2) (rep_XR ax ac _ _ _ _ _) (fun q_ ci_ H locs hci hS => ?_)
      subst hoc; exact fw_xoutn hnt hlk hG hci hS (Nat.le_of_ble_eq_true rfl) (Nat.le_of_ble_eq_true rfl)
    refine fwTVo (As := [.int o4]) (rest := []) (C := RX12) hx hb hml hown hts (m_X12_mustStand l hst D ax ac g rq rd o4 _ _ ho5) (cw_X12_mustStand hts q419 ⟨Nat.le_of_ble_eq_true rfl, Nat.le_of_ble_eq_true rfl⟩) hG hZ hS hA ixR nd_R (pk_XR ax ac _ _ _) (ad_XR ax ac _ _ _ _ _) 26 10 rfl rfl rfl hl.1 rfl (Nat.le_of_ble_eq_true rfl) dX12_heirTold_22 ⟨Nat.le_of_ble_eq_true rfl, Nat.le_of_ble_eq_true rfl⟩ (wn := wX ax ac g ++ wR ax rq o5) (rep_XR ax ac _ _ _ _ _) (fun H locs hS => ?_)
    have hP := hS.1
    refine W.widen (k := 1) (n := 7) (Nat.le_of_ble_eq_true rfl) (Nat.le_of_ble_eq_true rfl) ?_
    refine lv_aload_n hx hb dX12_heirTold_25 rfl (lv_at hl 1 rfl) ?_
    refine lv_dup hx hb dX12_heirTold_26 rfl ?_
    refine va_get (D := D) (ci := 10) (v := .int (rG_at o5)) (C := RX12) (T := TX12) (N := 3) hx hb hts in_X12 hown hG.1 hP 26 rfl rfl 1 (by decide) (hts _ q399) (fun _ h9 => h9) rfl dX12_heirTold_27 ?_
    refine lv_iconst (v := 1) hx hb dX12_heirTold_30 rfl ?_
    refine lv_iadd hx hb dX12_heirTold_31 ?_
    obtain ⟨rd6, hrd6, hr⟩ := br_let hr
    refine fw_put (D := D) (ci := 10) (x := .int ((rG_at o5) + 1)) (C := RX12) (T := TX12) (N := 3) hx hb hts in_X12 tyX12 tyX12_ok nmX12 hown hG hS 26 rfl rfl 1 (by decide) (hts _ q399) (fun _ h9 => h9) rfl (tyX12_ok 1 (by decide)) rfl rfl (Nat.le_of_ble_eq_true rfl) dX12_heirTold_32 (wn := wX ax ac g ++ wR ax rq rd6) (by rw [hrd6]; rfl) (fun H locs hS => ?_)
    have hP := hS.1
    refine fw_new (D := D) (ac := ac) (C := RX16) (T := TX16) (N := 3) (ci := 13) (fs := f0_X16) hx hb hts in_X16 tyX16 tyX16_ok hown (hts _ q463) (hts _ q464) (hts _ q121) hG hS hA rfl (fun j hj => by rcases (show j = 0 ∨ j = 1 ∨ j = 2 by omega) with rfl | rfl | rfl <;> rfl) (Nat.le_of_ble_eq_true rfl) (Nat.le_of_ble_eq_true rfl) dX12_heirTold_35 (fun nq H hS => ?_)
    have hP := hS.1
    refine W.widen (k := 2) (n := 10) (Nat.le_of_ble_eq_true rfl) (Nat.le_of_ble_eq_true rfl) ?_
    refine lv_dup hx hb dX12_heirTold_38 rfl ?_
    refine lv_iload_n hx hb dX12_heirTold_39 rfl (lv_at hl 2 rfl) ?_
    refine lv_aload_n hx hb dX12_heirTold_40 rfl (lv_at hl 1 rfl) ?_
    refine va_get (D := D) (ci := 10) (v := .ref (ax 0)) (C := RX12) (T := TX12) (N := 3) hx hb hts in_X12 hown hG.1 hP 26 rfl rfl 2 (by decide) (hts _ q401) (fun _ h9 => h9) rfl dX12_heirTold_41 ?_
    refine va_getN (D := D) (ci := 0) (v := .ref (ax 10)) (C := RX0) (T := TX0) (N := 17) hx hb hts in_X0 hown hG.1 hP 0 rfl rfl 0 (by decide) (va_Nw.use rfl (hG.2.1 _ nq232)) (fun _ h9 => h9) rfl dX12_heirTold_44 ?_
    refine lv_iload_n hx hb dX12_heirTold_47 rfl (lv_at hl 0 rfl) ?_
    obtain ⟨c6, hr⟩ := br_none hr
    obtain ⟨k7, hk7, hr⟩ := br_bind hr
    refine fw_kald hx hb hG hP 10 rfl c6 hk7 dX12_heirTold_48 ?_
    refine lv_aload_n hx hb dX12_heirTold_49 rfl (lv_at hl 1 rfl) ?_
    rcases Or.symm (br_bX hr) with ⟨o8, ho8, rfl⟩ | ⟨o8, ho8, hr⟩
    · refine fwTVx (As := []) (rest := [.ref (ax (11 + k7.val)), .int a1, .ref nq, .ref nq]) (C := RX12) hx hb hml hown hts (m_X12_digit l hst D ax ac g rq rd6 _ _ ho8) (cw_X12_digit hts q465 ⟨Nat.le_of_ble_eq_true rfl, Nat.le_of_ble_eq_true rfl⟩) hG hZ hS hA ixR nd_R (pk_XRS ax ac _ _ _ _) (ad_XR ax ac _ _ _ _ _) 26 10 rfl rfl rfl hl.1 rfl (Nat.le_of_ble_eq_true rfl) dX12_heirTold_50 ⟨Nat.le_of_ble_eq_true rfl, Nat.le_of_ble_eq_true rfl⟩ (wn := wX ax ac g ++ wR ax rq o8.2 ++ [(nq, .inr (13, f0_X16))]) (rep_XRS ax ac _ _ _ _ _ _) (fun q_ ci_ H locs hci hS => ?_)
      have hS := Stt.mid hS
      subst hoc; exact fw_xoutn hnt hlk hG hci hS (Nat.le_of_ble_eq_true rfl) (Nat.le_of_ble_eq_true rfl)
    refine fwTVo (As := []) (rest := [.ref (ax (11 + k7.val)), .int a1, .ref nq, .ref nq]) (C := RX12) hx hb hml hown hts (m_X12_digit l hst D ax ac g rq rd6 _ _ ho8) (cw_X12_digit hts q465 ⟨Nat.le_of_ble_eq_true rfl, Nat.le_of_ble_eq_true rfl⟩) hG hZ hS hA ixR nd_R (pk_XRS ax ac _ _ _ _) (ad_XR ax ac _ _ _ _ _) 26 10 rfl rfl rfl hl.1 rfl (Nat.le_of_ble_eq_true rfl) dX12_heirTold_50 ⟨Nat.le_of_ble_eq_true rfl, Nat.le_of_ble_eq_true rfl⟩ (wn := wX ax ac g ++ wR ax rq o8.2 ++ [(nq, .inr (13, f0_X16))]) (rep_XRS ax ac _ _ _ _ _ _) (fun H locs hS => ?_)
    have hP := hS.1
    refine W.widen (k := 3) (n := 17) (Nat.le_of_ble_eq_true rfl) (Nat.le_of_ble_eq_true rfl) ?_
    refine fwNI (As := [.int a1, .ref (ax (11 + k7.val)), .int o8.1]) (rest := [.ref nq]) (ws := wX ax ac g ++ wR ax rq o8.2) hx hb hml hown hts (m_X16_init l D ax ac nq a1 k7 o8.1 H.size) (cwi_X16_init hts q474 ⟨Nat.le_of_ble_eq_true rfl, Nat.le_of_ble_eq_true rfl⟩) hG hS hA rfl hl.1 rfl (Nat.le_of_ble_eq_true rfl) dX12_heirTold_53 ⟨Nat.le_of_ble_eq_true rfl, Nat.le_of_ble_eq_true rfl⟩ (fun u H locs hS => ?_)
    have hS : Stt D (va_A (wX ax ac g ++ wR ax rq rd) s.heap.size) s.heap (wX ax ac g ++ wR ax rq o8.2 ++ [(nq, wT ax (1, a1, k7, o8.1, 0))]) H locs := hS
    have hP := hS.1
    obtain rfl := Option.some.inj hr
    refine W.widen (k := rm_X12_heirTold.cells) (n := rm_X12_heirTold.slots) (Nat.le_of_ble_eq_true rfl) (Nat.le_of_ble_eq_true rfl) ?_
    subst hoc
    exact xx_ret (W.aret hx hb hrt (Or.inl ⟨_, rfl⟩) (Or.inr ⟨_, rfl⟩) (fun t ht _ => ⟨⟨nq, rfl, by rw [ht]; exact hS.1, hS.2.1⟩, hS.2.2.F ht⟩) hS.2.2.2.2 dX12_heirTold_56 hlk)
  have hr := ho4
  have hi2 := br_ite hr
  refine lv_if_lt (tgt := 21) hx hb dX12_heirTold_14 (by decide) (fun c2 => ?_) (fun c2 => ?_)
  · have hr := hi2.1 c2
    refine lv_iconst (v := 0) hx hb dX12_heirTold_21 rfl ?_
    obtain rfl := Option.some.inj hr
    exact J ls hl
  · have hr := hi2.2 c2
    refine lv_iconst (v := 1) hx hb dX12_heirTold_17 rfl ?_
    refine lv_goto (tgt := 22) hx hb dX12_heirTold_18 (by decide) ?_
    obtain rfl := Option.some.inj hr
    exact J ls hl
abbrev rm_X12_statement : Room := ({ frames := 14, cells := 6, slots := 38, locals := 270 })
theorem cw_X12_statement {R : Room} {s : State} {args : Array Value} {own : String} {index : Nat} (hts : ∀ w ∈ lw_all, w.before args s = true) (hlink : Cond.methodLink own index yX12_statement ∈ lw_all) (hR : rm_X12_statement.frames + 1 ≤ R.frames ∧ 8 + (4 + 11) + rm_X12_statement.locals ≤ R.locals) : CallW R s args own RX12 index yX12_statement cX12_statement 4 (some (FieldType.object "CoresAreWills$Told")) (ws_ yX12_statement cX12_statement 4 (some (FieldType.object "CoresAreWills$Told"))) rm_X12_statement rm_X12_statement.cells rm_X12_statement.slots 0 :=
  cwV 0 hts (lw_V hlink q412 q413 q117 q414) rfl rfl rfl (by decide +kernel) hR
set_option maxHeartbeats 4000000 in
theorem m_X12_statement (l : Launch) (hst : l.stackTraces = false) (D : va_G) (ax : Nat → Nat) (ac : Nat → ClassId) (g : XS) (rq : Nat) (rd : RS) (sz : Nat) (r0 : (TL × RS) ⊕ (Int32 × RS)) (hr : f_X12_statement g rd = some r0) : TMn l yX12_statement cX12_statement 4 (some (FieldType.object "CoresAreWills$Told")) rm_X12_statement [.ref rq] D ac (wX ax ac g ++ wR ax rq rd) sz (Sum.map (fun u => (wX ax ac g ++ wR ax rq u.2, wT ax u.1)) (fun u => (wX ax ac g ++ wR ax rq u.2, u.1)) r0) := by
  generalize hoc : (Sum.map (fun u => (wX ax ac g ++ wR ax rq u.2, wT ax u.1)) (fun u => (wX ax ac g ++ wR ax rq u.2, u.1)) r0 : On) = oc
  refine fw_ofT (by decide) (Nat.le_of_ble_eq_true rfl) ?_
  intro p e s m below meth c ls hx hb hrt hts hown hlk hml _ hnt hU hl
  obtain ⟨⟨rfl, hP, hG, hD⟩, hZ⟩ := hU
  have hA : ∀ q : Nat, s.heap.size ≤ q → (va_A (wX ax ac g ++ wR ax rq rd) s.heap.size) q := fun q h => Or.inr h
  have hS := Stt.start hP hD
  show WTn p l e rm_X12_statement s m [.ref rq] below meth c D (va_A (wX ax ac g ++ wR ax rq rd) s.heap.size) oc s.heap [] 0 0 0 ls []
  have hl : lv_has ls 4 [(0, .ref rq)] := hl
  rw [f_X12_statement] at hr
  refine lv_aload_n hx hb dX12_statement_0 rfl (lv_at hl 0 rfl) ?_
  refine va_get (D := D) (ci := 10) (v := .int (rG_at rd)) (C := RX12) (T := TX12) (N := 3) hx hb hts in_X12 hown hG.1 hP 26 rfl rfl 1 (by decide) (hts _ q399) (fun _ h9 => h9) rfl dX12_statement_1 ?_
  obtain ⟨v1, hv1, hr⟩ := br_let hr
  rw [← hv1]
  refine lv_istore_n (lv' := [(1, .int v1), (0, .ref rq)]) hx hb dX12_statement_4 rfl hl (by decide) rfl (fun ls hl => ?_)
  refine lv_aload_n hx hb dX12_statement_5 rfl (lv_at hl 1 rfl) ?_
  obtain ⟨o2, ho2, hr⟩ := br_bind hr
  refine fwRV (As := []) (rest := []) (C := RX12) hx hb hml hown hts (m_X12_here l D ax ac g rq rd o2 ho2) (cw_X12_here hts q415 ⟨Nat.le_of_ble_eq_true rfl, Nat.le_of_ble_eq_true rfl⟩) hG hP hP 26 10 rfl rfl rfl hl.1 rfl (Nat.le_of_ble_eq_true rfl) dX12_statement_6 ⟨Nat.le_of_ble_eq_true rfl, Nat.le_of_ble_eq_true rfl⟩ ?_
  refine lv_istore_n (lv' := [(2, .int o2), (1, .int v1), (0, .ref rq)]) hx hb dX12_statement_9 rfl hl (by decide) rfl (fun ls hl => ?_)
  refine lv_aload_n hx hb dX12_statement_10 rfl (lv_at hl 2 rfl) ?_
  obtain ⟨o3, ho3, hr⟩ := br_bind hr
  have J : ∀ ls, lv_has ls 4 [(2, .int o2), (1, .int v1), (0, .ref rq)] → WTn p l e rm_X12_statement s m [.ref rq] below meth c D (va_A (wX ax ac g ++ wR ax rq rd) s.heap.size) oc s.heap [] 0 0 46 ls [.int o3, .ref rq] := by
    intro ls hl
    rcases Or.symm (br_bX hr) with ⟨o4, ho4, rfl⟩ | ⟨o4, ho4, hr⟩
    · refine fwTVx (As := [.int o3]) (rest := []) (C := RX12) hx hb hml hown hts (m_X12_mustStand l hst D ax ac g rq rd o3 _ _ ho4) (cw_X12_mustStand hts q419 ⟨Nat.le_of_ble_eq_true rfl, Nat.le_of_ble_eq_true rfl⟩) hG hZ hS hA ixR nd_R (pk_XR ax ac _ _ _) (ad_XR ax ac _ _ _ _ _) 26 10 rfl rfl rfl hl.1 rfl (Nat.le_of_ble_eq_true rfl) dX12_statement_46 ⟨Nat.le_of_ble_eq_true rfl, Nat.le_of_ble_eq_true rfl⟩ (wn := wX ax ac g ++ wR ax rq o4.2) (rep_XR ax ac _ _ _ _ _) (fun q_ ci_ H locs hci hS => ?_)
      subst hoc; exact fw_xoutn hnt hlk hG hci hS (Nat.le_of_ble_eq_true rfl) (Nat.le_of_ble_eq_true rfl)
    refine fwTVo (As := [.int o3]) (rest := []) (C := RX12) hx hb hml hown hts (m_X12_mustStand l hst D ax ac g rq rd o3 _ _ ho4) (cw_X12_mustStand hts q419 ⟨Nat.le_of_ble_eq_true rfl, Nat.le_of_ble_eq_true rfl⟩) hG hZ hS hA ixR nd_R (pk_XR ax ac _ _ _) (ad_XR ax ac _ _ _ _ _) 26 10 rfl rfl rfl hl.1 rfl (Nat.le_of_ble_eq_true rfl) dX12_statement_46 ⟨Nat.le_of_ble_eq_true rfl, Nat.le_of_ble_eq_true rfl⟩ (wn := wX ax ac g ++ wR ax rq o4) (rep_XR ax ac _ _ _ _ _) (fun H locs hS => ?_)
    have hP := hS.1
    refine W.widen (k := 1) (n := 7) (Nat.le_of_ble_eq_true rfl) (Nat.le_of_ble_eq_true rfl) ?_
    refine lv_aload_n hx hb dX12_statement_49 rfl (lv_at hl 2 rfl) ?_
    refine lv_dup hx hb dX12_statement_50 rfl ?_
    refine va_get (D := D) (ci := 10) (v := .int (rG_at o4)) (C := RX12) (T := TX12) (N := 3) hx hb hts in_X12 hown hG.1 hP 26 rfl rfl 1 (by decide) (hts _ q399) (fun _ h9 => h9) rfl dX12_statement_51 ?_
    refine lv_iconst (v := 1) hx hb dX12_statement_54 rfl ?_
    refine lv_iadd hx hb dX12_statement_55 ?_
    obtain ⟨rd5, hrd5, hr⟩ := br_let hr
    refine fw_put (D := D) (ci := 10) (x := .int ((rG_at o4) + 1)) (C := RX12) (T := TX12) (N := 3) hx hb hts in_X12 tyX12 tyX12_ok nmX12 hown hG hS 26 rfl rfl 1 (by decide) (hts _ q399) (fun _ h9 => h9) rfl (tyX12_ok 1 (by decide)) rfl rfl (Nat.le_of_ble_eq_true rfl) dX12_statement_56 (wn := wX ax ac g ++ wR ax rq rd5) (by rw [hrd5]; rfl) (fun H locs hS => ?_)
    have hP := hS.1
    refine lv_iload_n hx hb dX12_statement_59 rfl (lv_at hl 0 rfl) ?_
    refine lv_bipush (v := 110) hx hb dX12_statement_60 rfl ?_
    have K : ∀ (o6 : TL × RS) (nq : Nat) (H : Heap) (locs : List Loc), (bX (f_X12_take g o6.2 59) (fun b7 => (b7.1, b7.2)) fun o7 => some (Sum.inl (o6.1, o7))) = some r0 → Stt D (va_A (wX ax ac g ++ wR ax rq rd) s.heap.size) s.heap (wX ax ac g ++ wR ax rq o6.2 ++ [(nq, wT ax o6.1)]) H locs → WTn p l e rm_X12_statement s m [.ref rq] below meth c D (va_A (wX ax ac g ++ wR ax rq rd) s.heap.size) oc H locs 5 31 96 ls [.ref nq] := by
      intro o6 nq H locs hr hS
      refine lv_astore_n (lv' := [(3, .ref nq), (2, .int o2), (1, .int v1), (0, .ref rq)]) hx hb dX12_statement_96 rfl hl (by decide) rfl (fun ls hl => ?_)
      refine lv_aload_n hx hb dX12_statement_97 rfl (lv_at hl 3 rfl) ?_
      refine lv_bipush (v := 59) hx hb dX12_statement_98 rfl ?_
      rcases Or.symm (br_bX hr) with ⟨o7, ho7, rfl⟩ | ⟨o7, ho7, hr⟩
      · refine fwTVx (As := [.int 59]) (rest := []) (C := RX12) hx hb hml hown hts (m_X12_take l hst D ax ac g rq o6.2 59 _ _ ho7) (cw_X12_take hts q530 ⟨Nat.le_of_ble_eq_true rfl, Nat.le_of_ble_eq_true rfl⟩) hG hZ hS hA ixR nd_R (pk_XRS ax ac _ _ _ _) (ad_XR ax ac _ _ _ _ _) 26 10 rfl rfl rfl hl.1 rfl (Nat.le_of_ble_eq_true rfl) dX12_statement_100 ⟨Nat.le_of_ble_eq_true rfl, Nat.le_of_ble_eq_true rfl⟩ (wn := wX ax ac g ++ wR ax rq o7.2 ++ [(nq, wT ax o6.1)]) (rep_XRS ax ac _ _ _ _ _ _) (fun q_ ci_ H locs hci hS => ?_)
        have hS := Stt.mid hS
        subst hoc; exact fw_xoutn hnt hlk hG hci hS (Nat.le_of_ble_eq_true rfl) (Nat.le_of_ble_eq_true rfl)
      refine fwTVo (As := [.int 59]) (rest := []) (C := RX12) hx hb hml hown hts (m_X12_take l hst D ax ac g rq o6.2 59 _ _ ho7) (cw_X12_take hts q530 ⟨Nat.le_of_ble_eq_true rfl, Nat.le_of_ble_eq_true rfl⟩) hG hZ hS hA ixR nd_R (pk_XRS ax ac _ _ _ _) (ad_XR ax ac _ _ _ _ _) 26 10 rfl rfl rfl hl.1 rfl (Nat.le_of_ble_eq_true rfl) dX12_statement_100 ⟨Nat.le_of_ble_eq_true rfl, Nat.le_of_ble_eq_true rfl⟩ (wn := wX ax ac g ++ wR ax rq o7 ++ [(nq, wT ax o6.1)]) (rep_XRS ax ac _ _ _ _ _ _) (fun H locs hS => ?_)
      have hP := hS.1
      refine lv_aload_n hx hb dX12_statement_103 rfl (lv_at hl 0 rfl) ?_
      obtain rfl := Option.some.inj hr
      refine W.widen (k := rm_X12_statement.cells) (n := rm_X12_statement.slots) (Nat.le_of_ble_eq_true rfl) (Nat.le_of_ble_eq_true rfl) ?_
      subst hoc
      exact xx_ret (W.aret hx hb hrt (Or.inl ⟨_, rfl⟩) (Or.inr ⟨_, rfl⟩) (fun t ht _ => ⟨⟨nq, rfl, by rw [ht]; exact hS.1, hS.2.1⟩, hS.2.2.F ht⟩) hS.2.2.2.2 dX12_statement_104 hlk)
    have hq := br_bX hr
    refine lv_icmp_ne (tgt := 76) hx hb dX12_statement_62 (by decide) (fun c5 => ?_) (fun c5 => ?_)
    · rw [if_neg c5] at hq
      refine lv_iload_n hx hb dX12_statement_76 rfl (lv_at hl 0 rfl) ?_
      refine lv_bipush (v := 104) hx hb dX12_statement_77 rfl ?_
      refine lv_icmp_ne (tgt := 90) hx hb dX12_statement_79 (by decide) (fun c6 => ?_) (fun c6 => ?_)
      · rw [if_neg c6] at hq
        refine lv_aload_n hx hb dX12_statement_90 rfl (lv_at hl 2 rfl) ?_
        refine lv_iload_n hx hb dX12_statement_91 rfl (lv_at hl 0 rfl) ?_
        refine lv_iload_n hx hb dX12_statement_92 rfl (lv_at hl 1 rfl) ?_
        rcases Or.symm hq with ⟨o6, ho6, rfl⟩ | ⟨o6, ho6, hr⟩
        · refine fwTVnx (As := [.int o2, .int v1]) (rest := []) (C := RX12) hx hb hml hown hts (m_X12_told l hst D ax ac g rq rd5 o2 v1 _ _ ho6) (cw_X12_told hts q486 ⟨Nat.le_of_ble_eq_true rfl, Nat.le_of_ble_eq_true rfl⟩) hG hZ hS hA ixR nd_R (pk_XR ax ac _ _ _) (ad_XR ax ac _ _ _ _ _) 26 10 rfl rfl rfl hl.1 rfl (Nat.le_of_ble_eq_true rfl) dX12_statement_93 ⟨Nat.le_of_ble_eq_true rfl, Nat.le_of_ble_eq_true rfl⟩ (wn := wX ax ac g ++ wR ax rq o6.2) (rep_XR ax ac _ _ _ _ _) (fun q_ ci_ H locs hci hS => ?_)
          subst hoc; exact fw_xoutn hnt hlk hG hci hS (Nat.le_of_ble_eq_true rfl) (Nat.le_of_ble_eq_true rfl)
        refine fwTVno (As := [.int o2, .int v1]) (rest := []) (C := RX12) hx hb hml hown hts (m_X12_told l hst D ax ac g rq rd5 o2 v1 _ _ ho6) (cw_X12_told hts q486 ⟨Nat.le_of_ble_eq_true rfl, Nat.le_of_ble_eq_true rfl⟩) hG hZ hS hA ixR nd_R (pk_XR ax ac _ _ _) (ad_XR ax ac _ _ _ _ _) 26 10 rfl rfl rfl hl.1 rfl (Nat.le_of_ble_eq_true rfl) dX12_statement_93 ⟨Nat.le_of_ble_eq_true rfl, Nat.le_of_ble_eq_true rfl⟩ (wn := wX ax ac g ++ wR ax rq o6.2) (rep_XR ax ac _ _ _ _ _) (fun nq H locs hS => ?_)
        refine W.widen (k := 5) (n := 31) (Nat.le_of_ble_eq_true rfl) (Nat.le_of_ble_eq_true rfl) ?_
        exact K o6 nq H locs hr hS
      · rw [if_pos c6] at hq
        refine lv_aload_n hx hb dX12_statement_82 rfl (lv_at hl 2 rfl) ?_
        refine lv_iload_n hx hb dX12_statement_83 rfl (lv_at hl 1 rfl) ?_
        rcases Or.symm hq with ⟨o6, ho6, rfl⟩ | ⟨o6, ho6, hr⟩
        · refine fwTVnx (As := [.int v1]) (rest := []) (C := RX12) hx hb hml hown hts (m_X12_heirTold l hst D ax ac g rq rd5 v1 _ _ ho6) (cw_X12_heirTold hts q455 ⟨Nat.le_of_ble_eq_true rfl, Nat.le_of_ble_eq_true rfl⟩) hG hZ hS hA ixR nd_R (pk_XR ax ac _ _ _) (ad_XR ax ac _ _ _ _ _) 26 10 rfl rfl rfl hl.1 rfl (Nat.le_of_ble_eq_true rfl) dX12_statement_84 ⟨Nat.le_of_ble_eq_true rfl, Nat.le_of_ble_eq_true rfl⟩ (wn := wX ax ac g ++ wR ax rq o6.2) (rep_XR ax ac _ _ _ _ _) (fun q_ ci_ H locs hci hS => ?_)
          subst hoc; exact fw_xoutn hnt hlk hG hci hS (Nat.le_of_ble_eq_true rfl) (Nat.le_of_ble_eq_true rfl)
        refine fwTVno (As := [.int v1]) (rest := []) (C := RX12) hx hb hml hown hts (m_X12_heirTold l hst D ax ac g rq rd5 v1 _ _ ho6) (cw_X12_heirTold hts q455 ⟨Nat.le_of_ble_eq_true rfl, Nat.le_of_ble_eq_true rfl⟩) hG hZ hS hA ixR nd_R (pk_XR ax ac _ _ _) (ad_XR ax ac _ _ _ _ _) 26 10 rfl rfl rfl hl.1 rfl (Nat.le_of_ble_eq_true rfl) dX12_statement_84 ⟨Nat.le_of_ble_eq_true rfl, Nat.le_of_ble_eq_true rfl⟩ (wn := wX ax ac g ++ wR ax rq o6.2) (rep_XR ax ac _ _ _ _ _) (fun nq H locs hS => ?_)
        refine lv_goto (tgt := 96) hx hb dX12_statement_87 (by decide) ?_
        refine W.widen (k := 5) (n := 31) (Nat.le_of_ble_eq_true rfl) (Nat.le_of_ble_eq_true rfl) ?_
        exact K o6 nq H locs hr hS
    · rw [if_pos c5] at hq
      rcases Or.symm hq with ⟨o6, ho6, rfl⟩ | ⟨o6, ho6, hr⟩
      · cases ho6
      obtain rfl := Sum.inl.inj (Option.some.inj ho6)
      refine fw_new (D := D) (ac := ac) (C := RX15) (T := TX15) (N := 1) (ci := 12) (fs := f0_X15) hx hb hts in_X15 tyX15 tyX15_ok hown (hts _ q441) (hts _ q442) (hts _ q120) hG hS hA rfl (fun j hj => by rcases (show j = 0 from Nat.lt_one_iff.mp hj) with rfl; rfl) (Nat.le_of_ble_eq_true rfl) (Nat.le_of_ble_eq_true rfl) dX12_statement_65 (fun nq H hS => ?_)
      have hP := hS.1
      refine lv_dup hx hb dX12_statement_68 rfl ?_
      refine lv_iload_n hx hb dX12_statement_69 rfl (lv_at hl 1 rfl) ?_
      refine fwNI (As := [.int v1]) (rest := [.ref nq]) (ws := wX ax ac g ++ wR ax rq rd5) hx hb hml hown hts (m_X15_init l D ax ac nq v1 H.size) (cwi_X15_init hts q443 ⟨Nat.le_of_ble_eq_true rfl, Nat.le_of_ble_eq_true rfl⟩) hG hS hA rfl hl.1 rfl (Nat.le_of_ble_eq_true rfl) dX12_statement_70 ⟨Nat.le_of_ble_eq_true rfl, Nat.le_of_ble_eq_true rfl⟩ (fun u H locs hS => ?_)
      have hS : Stt D (va_A (wX ax ac g ++ wR ax rq rd) s.heap.size) s.heap (wX ax ac g ++ wR ax rq rd5 ++ [(nq, wT ax (0, v1, 0, 0, 0))]) H locs := hS
      have hP := hS.1
      refine lv_goto (tgt := 96) hx hb dX12_statement_73 (by decide) ?_
      refine W.widen (k := 5) (n := 31) (Nat.le_of_ble_eq_true rfl) (Nat.le_of_ble_eq_true rfl) ?_
      exact K ((0, v1, 0, 0, 0), rd5) nq H locs hr hS
  have hr := ho3
  refine lv_iload_n hx hb dX12_statement_11 rfl (lv_at hl 0 rfl) ?_
  refine lv_bipush (v := 104) hx hb dX12_statement_12 rfl ?_
  have hi0 := br_ite hr
  refine lv_icmp_eq (tgt := 41) hx hb dX12_statement_14 (by decide) (fun c0 => ?_) (fun c0 => ?_)
  · have hr := hi0.1 c0
    refine lv_iconst (v := 1) hx hb dX12_statement_41 rfl ?_
    refine lv_goto (tgt := 46) hx hb dX12_statement_42 (by decide) ?_
    obtain rfl := Option.some.inj hr
    exact J ls hl
  have hr := hi0.2 c0
  refine lv_iload_n hx hb dX12_statement_17 rfl (lv_at hl 0 rfl) ?_
  refine lv_bipush (v := 98) hx hb dX12_statement_18 rfl ?_
  have hi1 := br_ite hr
  refine lv_icmp_eq (tgt := 41) hx hb dX12_statement_20 (by decide) (fun c1 => ?_) (fun c1 => ?_)
  · have hr := hi1.1 c1
    refine lv_iconst (v := 1) hx hb dX12_statement_41 rfl ?_
    refine lv_goto (tgt := 46) hx hb dX12_statement_42 (by decide) ?_
    obtain rfl := Option.some.inj hr
    exact J ls hl
  have hr := hi1.2 c1
  refine lv_iload_n hx hb dX12_statement_23 rfl (lv_at hl 0 rfl) ?_
  refine lv_bipush (v := 108) hx hb dX12_statement_24 rfl ?_
  have hi2 := br_ite hr
  refine lv_icmp_eq (tgt := 41) hx hb dX12_statement_26 (by decide) (fun c2 => ?_) (fun c2 => ?_)
  · have hr := hi2.1 c2
    refine lv_iconst (v := 1) hx hb dX12_statement_41 rfl ?_
    refine lv_goto (tgt := 46) hx hb dX12_statement_42 (by decide) ?_
    obtain rfl := Option.some.inj hr
    exact J ls hl
  have hr := hi2.2 c2
  refine lv_iload_n hx hb dX12_statement_29 rfl (lv_at hl 0 rfl) ?_
  refine lv_bipush (v := 114) hx hb dX12_statement_30 rfl ?_
  have hi3 := br_ite hr
  refine lv_icmp_eq (tgt := 41) hx hb dX12_statement_32 (by decide) (fun c3 => ?_) (fun c3 => ?_)
  · have hr := hi3.1 c3
    refine lv_iconst (v := 1) hx hb dX12_statement_41 rfl ?_
    refine lv_goto (tgt := 46) hx hb dX12_statement_42 (by decide) ?_
    obtain rfl := Option.some.inj hr
    exact J ls hl
  have hr := hi3.2 c3
  refine lv_iload_n hx hb dX12_statement_35 rfl (lv_at hl 0 rfl) ?_
  refine lv_bipush (v := 110) hx hb dX12_statement_36 rfl ?_
  have hi4 := br_ite hr
  refine lv_icmp_ne (tgt := 45) hx hb dX12_statement_38 (by decide) (fun c4 => ?_) (fun c4 => ?_)
  · have hr := hi4.2 c4
    refine lv_iconst (v := 0) hx hb dX12_statement_45 rfl ?_
    obtain rfl := Option.some.inj hr
    exact J ls hl
  · have hr := hi4.1 c4
    refine lv_iconst (v := 1) hx hb dX12_statement_41 rfl ?_
    refine lv_goto (tgt := 46) hx hb dX12_statement_42 (by decide) ?_
    obtain rfl := Option.some.inj hr
    exact J ls hl
