def f_X8_isInChancery (cv : CV) : Option (Int32) := if (cG_deed cv) = 0 then some 1 else some 0
abbrev rm_X8_isInChancery : Room := ({ frames := 1, cells := 0, slots := 0, locals := 17 })
theorem cw_X8_isInChancery {R : Room} {s : State} {args : Array Value} {own : String} {index : Nat} (hts : ∀ w ∈ lw_all, w.before args s = true) (hlink : Cond.methodLink own index yX8_isInChancery ∈ lw_all) (hR : rm_X8_isInChancery.frames + 1 ≤ R.frames ∧ 8 + (1 + 11) + rm_X8_isInChancery.locals ≤ R.locals) : CallW R s args own RX8 index yX8_isInChancery cX8_isInChancery 1 (some FieldType.boolean) (ws_ yX8_isInChancery cX8_isInChancery 1 (some FieldType.boolean)) rm_X8_isInChancery rm_X8_isInChancery.cells rm_X8_isInChancery.slots 0 :=
  cwV 0 hts (lw_V hlink q689 q690 q110 q691) rfl rfl rfl (by decide +kernel) hR
set_option maxHeartbeats 4000000 in
theorem m_X8_isInChancery (l : Launch) (D : va_G) (ax : Nat → Nat) (ac : Nat → ClassId) (b kq fq : Nat) (cv : CV) (r0 : Int32) (hr : f_X8_isInChancery cv = some r0) : PM l yX8_isInChancery cX8_isInChancery 1 (some FieldType.boolean) rm_X8_isInChancery [.ref b] (RP D ac (wC ax b kq fq ac cv)) (some (.int r0)) := by
  refine fw_of (by decide) (Nat.le_of_ble_eq_true rfl) ?_
  intro p e s m below meth c ls hx hb hrt hts hown hlk hml _ hU hl
  obtain ⟨hP, hG⟩ := hU
  have hl : lv_has ls 1 [(0, .ref b)] := hl
  rw [f_X8_isInChancery] at hr
  refine lv_aload_n hx hb dX8_isInChancery_0 rfl (lv_at hl 0 rfl) ?_
  refine va_get (D := D) (ci := 7) (v := .int (cG_deed cv)) (C := RX8) (T := TX8) (N := 8) hx hb hts in_X8 hown hG.1 hP 0 rfl rfl 5 (by decide) (hts _ q204) (fun _ h9 => h9) rfl dX8_isInChancery_1 ?_
  have hi1 := br_ite hr
  refine lv_if_ne (tgt := 11) hx hb dX8_isInChancery_4 (by decide) (fun c1 => ?_) (fun c1 => ?_)
  · have hr := hi1.2 c1
    refine lv_iconst (v := 0) hx hb dX8_isInChancery_11 rfl ?_
    exact W.zret hx hb hrt rfl (fun t ht _ => ⟨ret_i hr, ht⟩) noB dX8_isInChancery_12 hlk
  · have hr := hi1.1 c1
    refine lv_iconst (v := 1) hx hb dX8_isInChancery_7 rfl ?_
    refine lv_goto (tgt := 12) hx hb dX8_isInChancery_8 (by decide) ?_
    exact W.zret hx hb hrt rfl (fun t ht _ => ⟨ret_i hr, ht⟩) noB dX8_isInChancery_12 hlk
def f_X8_canBite (cv : CV) (a1 : Int32) (a2 : Int32) : Option (Int32) := Option.bind (f_X0_cellsOf a1 a2) fun o1 => if o1 = 0 then some 0 else if (o1 &&& ((cG_left cv) ^^^ (-1))) = 0 then some 1 else some 0
abbrev rm_X8_canBite : Room := ({ frames := 2, cells := 0, slots := 0, locals := 45 })
theorem cw_X8_canBite {R : Room} {s : State} {args : Array Value} {own : String} {index : Nat} (hts : ∀ w ∈ lw_all, w.before args s = true) (hlink : Cond.methodLink own index yX8_canBite ∈ lw_all) (hR : rm_X8_canBite.frames + 1 ≤ R.frames ∧ 8 + (4 + 11) + rm_X8_canBite.locals ≤ R.locals) : CallW R s args own RX8 index yX8_canBite cX8_canBite 4 (some FieldType.boolean) (ws_ yX8_canBite cX8_canBite 4 (some FieldType.boolean)) rm_X8_canBite rm_X8_canBite.cells rm_X8_canBite.slots 2 :=
  cwV 2 hts (lw_V hlink q560 q561 q110 q562) rfl rfl rfl (by decide +kernel) hR
set_option maxHeartbeats 4000000 in
theorem m_X8_canBite (l : Launch) (D : va_G) (ax : Nat → Nat) (ac : Nat → ClassId) (b kq fq : Nat) (cv : CV) (a1 : Int32) (a2 : Int32) (r0 : Int32) (hr : f_X8_canBite cv a1 a2 = some r0) : PM l yX8_canBite cX8_canBite 4 (some FieldType.boolean) rm_X8_canBite [.ref b, .int a1, .int a2] (RP D ac (wC ax b kq fq ac cv)) (some (.int r0)) := by
  refine fw_of (by decide) (Nat.le_of_ble_eq_true rfl) ?_
  intro p e s m below meth c ls hx hb hrt hts hown hlk hml _ hU hl
  obtain ⟨hP, hG⟩ := hU
  have hl : lv_has ls 4 [(0, .ref b), (1, .int a1), (2, .int a2)] := hl
  rw [f_X8_canBite] at hr
  refine lv_iload_n hx hb dX8_canBite_0 rfl (lv_at hl 1 rfl) ?_
  refine lv_iload_n hx hb dX8_canBite_1 rfl (lv_at hl 2 rfl) ?_
  obtain ⟨o1, ho1, hr⟩ := br_bind hr
  refine fwSN (As := [.int a1, .int a2]) (rest := []) hx hb hml hown hts (m_X0_cellsOf l a1 a2 o1 ho1) (cwn_X0_cellsOf hts (hG.2.1 _ nq563) ⟨Nat.le_of_ble_eq_true rfl, Nat.le_of_ble_eq_true rfl⟩) rfl hl.1 rfl (Nat.le_of_ble_eq_true rfl) dX8_canBite_2 ⟨Nat.le_of_ble_eq_true rfl, Nat.le_of_ble_eq_true rfl⟩ ?_
  refine lv_istore_n (lv' := [(3, .int o1), (0, .ref b), (1, .int a1), (2, .int a2)]) hx hb dX8_canBite_5 rfl hl (by decide) rfl (fun ls hl => ?_)
  refine lv_iload_n hx hb dX8_canBite_6 rfl (lv_at hl 0 rfl) ?_
  have hi2 := br_ite hr
  refine lv_if_eq (tgt := 25) hx hb dX8_canBite_7 (by decide) (fun c2 => ?_) (fun c2 => ?_)
  · have hr := hi2.1 c2
    refine lv_iconst (v := 0) hx hb dX8_canBite_25 rfl ?_
    exact W.zret hx hb hrt rfl (fun t ht _ => ⟨ret_i hr, ht⟩) noB dX8_canBite_26 hlk
  · have hr := hi2.2 c2
    refine lv_iload_n hx hb dX8_canBite_10 rfl (lv_at hl 0 rfl) ?_
    refine lv_aload_n hx hb dX8_canBite_11 rfl (lv_at hl 1 rfl) ?_
    refine va_get (D := D) (ci := 7) (v := .int (cG_left cv)) (C := RX8) (T := TX8) (N := 8) hx hb hts in_X8 hown hG.1 hP 0 rfl rfl 0 (by decide) (hts _ q190) (fun _ h9 => h9) rfl dX8_canBite_12 ?_
    refine lv_iconst (v := (-1)) hx hb dX8_canBite_15 rfl ?_
    refine lv_ixor hx hb dX8_canBite_16 ?_
    refine lv_iand hx hb dX8_canBite_17 ?_
    have hi3 := br_ite hr
    refine lv_if_ne (tgt := 25) hx hb dX8_canBite_18 (by decide) (fun c3 => ?_) (fun c3 => ?_)
    · have hr := hi3.2 c3
      refine lv_iconst (v := 0) hx hb dX8_canBite_25 rfl ?_
      exact W.zret hx hb hrt rfl (fun t ht _ => ⟨ret_i hr, ht⟩) noB dX8_canBite_26 hlk
    · have hr := hi3.1 c3
      refine lv_iconst (v := 1) hx hb dX8_canBite_21 rfl ?_
      refine lv_goto (tgt := 26) hx hb dX8_canBite_22 (by decide) ?_
      exact W.zret hx hb hrt rfl (fun t ht _ => ⟨ret_i hr, ht⟩) noB dX8_canBite_26 hlk
def f_X8_leave_L27 (a1 : Int32) : Nat → Int32 → Int32 → Int32 → CV → Option (CV)
  | 0, _, _, _, _ => none
  | n + 1, x4_5, x3_5, x2_5, cv_5 => if 25 ≤ x4_5 then some cv_5 else Option.bind (f_X0_has x3_5 x4_5) fun o7 => if o7 = 0 then Option.bind (some ((x4_5 + 1) : Int32)) fun v9 => f_X8_leave_L27 a1 n v9 x3_5 x2_5 cv_5 else Option.bind (f_X0_heapOf x4_5 a1) fun o10 => Option.bind (f_X0_manyIn o10) fun o11 => Option.bind (some ((x3_5 &&& (o10 ^^^ (-1))) : Int32)) fun v12 => Option.bind (some (cS_pieceMany cv_5 ((cG_pieceMany cv_5) + 1))) fun cv13 => Option.bind (α := Int32) (if (cG_leastPiece cv13) = 0 then some o11 else some (if o11 < (cG_leastPiece cv13) then o11 else (cG_leastPiece cv13))) fun o15 => Option.bind (some (cS_leastPiece cv13 o15)) fun cv16 => Option.bind (α := Int32) (if o11 ≤ x2_5 then if o11 = x2_5 then some 0 else some (cG_deed cv16) else some o10) fun o18 => Option.bind (some (cS_deed cv16 o18)) fun cv20 => Option.bind (some ((if x2_5 < o11 then o11 else x2_5) : Int32)) fun v21 => Option.bind (some ((x4_5 + 1) : Int32)) fun v22 => f_X8_leave_L27 a1 n v22 v12 v21 cv20
def f_X8_leave (cv : CV) (a1 : Int32) : Option (CV) := Option.bind (some (cS_left cv a1)) fun cv1 => Option.bind (some (cS_deed cv1 (0 : Int32))) fun cv2 => Option.bind (some (cS_pieceMany cv2 (0 : Int32))) fun cv3 => Option.bind (some (cS_leastPiece cv3 (0 : Int32))) fun cv4 => Option.bind (f_X8_leave_L27 a1 1000 0 a1 0 cv4) fun o5 => some o5
abbrev rm_X8_leave : Room := ({ frames := 4, cells := 0, slots := 0, locals := 91 })
theorem cw_X8_leave {R : Room} {s : State} {args : Array Value} {own : String} {index : Nat} (hts : ∀ w ∈ lw_all, w.before args s = true) (hlink : Cond.methodLink own index yX8_leave ∈ lw_all) (hR : rm_X8_leave.frames + 1 ≤ R.frames ∧ 8 + (7 + 11) + rm_X8_leave.locals ≤ R.locals) : CallW R s args own RX8 index yX8_leave cX8_leave 7 (some (FieldType.object "CoresAreWills$Core")) (ws_ yX8_leave cX8_leave 7 (some (FieldType.object "CoresAreWills$Core"))) rm_X8_leave rm_X8_leave.cells rm_X8_leave.slots 1 :=
  cwV 1 hts (lw_V hlink q585 q586 q110 q587) rfl rfl rfl (by decide +kernel) hR
set_option maxHeartbeats 4000000 in
theorem m_X8_leave (l : Launch) (D : va_G) (ax : Nat → Nat) (ac : Nat → ClassId) (b kq fq : Nat) (cv : CV) (a1 : Int32) (sz : Nat) (r0 : CV) (hr : f_X8_leave cv a1 = some r0) : WM l yX8_leave cX8_leave 7 (some (FieldType.object "CoresAreWills$Core")) rm_X8_leave [.ref b, .int a1] D ac (wC ax b kq fq ac cv) (wC ax b kq fq ac r0) sz (some (.ref b)) := by
  refine fw_of (by decide) (Nat.le_of_ble_eq_true rfl) ?_
  intro p e s m below meth c ls hx hb hrt hts hown hlk hml _ hU hl
  obtain ⟨rfl, hP, hG, hD⟩ := hU
  have hA : ∀ q : Nat, s.heap.size ≤ q → (va_A (wC ax b kq fq ac cv) s.heap.size) q := fun q h => Or.inr h
  have hS := Stt.start hP hD
  show WW p l e rm_X8_leave s m [.ref b, .int a1] below meth c D (wC ax b kq fq ac r0) (va_A (wC ax b kq fq ac cv) s.heap.size) (some (.ref b)) s.heap [] 0 0 0 ls []
  have hl : lv_has ls 7 [(0, .ref b), (1, .int a1)] := hl
  rw [f_X8_leave] at hr
  refine lv_aload_n hx hb dX8_leave_0 rfl (lv_at hl 0 rfl) ?_
  refine lv_iload_n hx hb dX8_leave_1 rfl (lv_at hl 1 rfl) ?_
  obtain ⟨cv1, hcv1, hr⟩ := br_let hr
  refine fw_put (D := D) (ci := 7) (x := .int a1) (C := RX8) (T := TX8) (N := 8) hx hb hts in_X8 tyX8 tyX8_ok nmX8 hown hG hS 0 rfl rfl 0 (by decide) (hts _ q190) (fun _ h9 => h9) rfl (tyX8_ok 0 (by decide)) rfl rfl (Nat.le_of_ble_eq_true rfl) dX8_leave_2 (wn := wC ax b kq fq ac cv1) (by rw [hcv1]; rfl) (fun H locs hS => ?_)
  have hP := hS.1
  refine lv_aload_n hx hb dX8_leave_5 rfl (lv_at hl 0 rfl) ?_
  refine lv_iconst (v := 0) hx hb dX8_leave_6 rfl ?_
  obtain ⟨cv2, hcv2, hr⟩ := br_let hr
  refine fw_put (D := D) (ci := 7) (x := .int 0) (C := RX8) (T := TX8) (N := 8) hx hb hts in_X8 tyX8 tyX8_ok nmX8 hown hG hS 0 rfl rfl 5 (by decide) (hts _ q204) (fun _ h9 => h9) rfl (tyX8_ok 5 (by decide)) rfl rfl (Nat.le_of_ble_eq_true rfl) dX8_leave_7 (wn := wC ax b kq fq ac cv2) (by rw [hcv2]; rfl) (fun H locs hS => ?_)
  have hP := hS.1
  refine lv_aload_n hx hb dX8_leave_10 rfl (lv_at hl 0 rfl) ?_
  refine lv_iconst (v := 0) hx hb dX8_leave_11 rfl ?_
  obtain ⟨cv3, hcv3, hr⟩ := br_let hr
  refine fw_put (D := D) (ci := 7) (x := .int 0) (C := RX8) (T := TX8) (N := 8) hx hb hts in_X8 tyX8 tyX8_ok nmX8 hown hG hS 0 rfl rfl 6 (by decide) (hts _ q209) (fun _ h9 => h9) rfl (tyX8_ok 6 (by decide)) rfl rfl (Nat.le_of_ble_eq_true rfl) dX8_leave_12 (wn := wC ax b kq fq ac cv3) (by rw [hcv3]; rfl) (fun H locs hS => ?_)
  have hP := hS.1
  refine lv_aload_n hx hb dX8_leave_15 rfl (lv_at hl 0 rfl) ?_
  refine lv_iconst (v := 0) hx hb dX8_leave_16 rfl ?_
  obtain ⟨cv4, hcv4, hr⟩ := br_let hr
  refine fw_put (D := D) (ci := 7) (x := .int 0) (C := RX8) (T := TX8) (N := 8) hx hb hts in_X8 tyX8 tyX8_ok nmX8 hown hG hS 0 rfl rfl 7 (by decide) (hts _ q212) (fun _ h9 => h9) rfl (tyX8_ok 7 (by decide)) rfl rfl (Nat.le_of_ble_eq_true rfl) dX8_leave_17 (wn := wC ax b kq fq ac cv4) (by rw [hcv4]; rfl) (fun H locs hS => ?_)
  have hP := hS.1
  refine lv_iconst (v := 0) hx hb dX8_leave_20 rfl ?_
  refine lv_istore_n (lv' := [(2, .int 0), (0, .ref b), (1, .int a1)]) hx hb dX8_leave_21 rfl hl (by decide) rfl (fun ls hl => ?_)
  refine lv_iload_n hx hb dX8_leave_22 rfl (lv_at hl 2 rfl) ?_
  refine lv_istore_n (lv' := [(3, .int a1), (2, .int 0), (0, .ref b), (1, .int a1)]) hx hb dX8_leave_23 rfl hl (by decide) rfl (fun ls hl => ?_)
  refine lv_iconst (v := 0) hx hb dX8_leave_24 rfl ?_
  refine lv_istore (lv' := [(4, .int 0), (3, .int a1), (2, .int 0), (0, .ref b), (1, .int a1)]) hx hb dX8_leave_25 hl (by decide) rfl (fun ls hl => ?_)
  have L5 : ∀ (n : Nat) (x4_5 : Int32) (x3_5 : Int32) (x2_5 : Int32) (cv_5 : CV) (o5 : CV), f_X8_leave_L27 a1 n x4_5 x3_5 x2_5 cv_5 = some o5 → ∀ (H : Heap) (locs : List Loc) ls, lv_has ls 7 [(4, .int x4_5), (3, .int x3_5), (2, .int x2_5), (0, .ref b), (1, .int a1)] → Stt D (va_A (wC ax b kq fq ac cv) s.heap.size) s.heap (wC ax b kq fq ac cv_5) H locs → (∀ (H : Heap) (locs : List Loc) ls, lv_has ls 7 [(0, .ref b)] → Stt D (va_A (wC ax b kq fq ac cv) s.heap.size) s.heap (wC ax b kq fq ac o5) H locs → WW p l e rm_X8_leave s m [.ref b, .int a1] below meth c D (wC ax b kq fq ac r0) (va_A (wC ax b kq fq ac cv) s.heap.size) (some (.ref b)) H locs 0 0 142 ls []) → WW p l e rm_X8_leave s m [.ref b, .int a1] below meth c D (wC ax b kq fq ac r0) (va_A (wC ax b kq fq ac cv) s.heap.size) (some (.ref b)) H locs 0 0 27 ls [] := by
    intro n
    induction n with
    | zero => intro x4_5 x3_5 x2_5 cv_5 o5 hr; rw [f_X8_leave_L27] at hr; cases hr
    | succ n ih =>
      intro x4_5 x3_5 x2_5 cv_5 o5 hr H locs ls hl hS kx
      have hP := hS.1
      rw [f_X8_leave_L27] at hr
      refine lv_iload hx hb dX8_leave_27 (lv_at hl 0 rfl) ?_
      refine lv_bipush (v := 25) hx hb dX8_leave_29 rfl ?_
      have hi6 := br_ite hr
      refine lv_icmp_ge (tgt := 142) hx hb dX8_leave_31 (by decide) (fun c6 => ?_) (fun c6 => ?_)
      · have hr := hi6.1 c6
        obtain rfl := Option.some.inj hr
        exact kx _ _ ls (lv_sub hl [3] rfl) hS
      · have hr := hi6.2 c6
        refine lv_iload_n hx hb dX8_leave_34 rfl (lv_at hl 1 rfl) ?_
        refine lv_iload hx hb dX8_leave_35 (lv_at hl 0 rfl) ?_
        obtain ⟨o7, ho7, hr⟩ := br_bind hr
        refine fwSN (As := [.int x3_5, .int x4_5]) (rest := []) hx hb hml hown hts (m_X0_has l x3_5 x4_5 o7 ho7) (cwn_X0_has hts (hG.2.1 _ nq588) ⟨Nat.le_of_ble_eq_true rfl, Nat.le_of_ble_eq_true rfl⟩) rfl hl.1 rfl (Nat.le_of_ble_eq_true rfl) dX8_leave_37 ⟨Nat.le_of_ble_eq_true rfl, Nat.le_of_ble_eq_true rfl⟩ ?_
        have hi8 := br_ite hr
        refine lv_if_eq (tgt := 136) hx hb dX8_leave_40 (by decide) (fun c8 => ?_) (fun c8 => ?_)
        · have hr := hi8.1 c8
          obtain ⟨v9, hv9, hr⟩ := br_let hr
          refine lv_iinc (v := v9) (lv' := [(4, .int v9), (3, .int x3_5), (2, .int x2_5), (0, .ref b), (1, .int a1)]) hx hb dX8_leave_136 hl (k := 0) rfl (hv9 ▸ rfl) (by decide) rfl (fun ls hl => ?_)
          refine lv_goto (tgt := 27) hx hb dX8_leave_139 (by decide) ?_
          exact ih v9 x3_5 x2_5 cv_5 _ hr _ _ ls (lv_sub hl [0, 1, 2, 3, 4] rfl) hS kx
        · have hr := hi8.2 c8
          refine lv_iload hx hb dX8_leave_43 (lv_at hl 0 rfl) ?_
          refine lv_iload_n hx hb dX8_leave_45 rfl (lv_at hl 4 rfl) ?_
          obtain ⟨o10, ho10, hr⟩ := br_bind hr
          refine fwSN (As := [.int x4_5, .int a1]) (rest := []) hx hb hml hown hts (m_X0_heapOf l x4_5 a1 o10 ho10) (cwn_X0_heapOf hts (hG.2.1 _ nq591) ⟨Nat.le_of_ble_eq_true rfl, Nat.le_of_ble_eq_true rfl⟩) rfl hl.1 rfl (Nat.le_of_ble_eq_true rfl) dX8_leave_46 ⟨Nat.le_of_ble_eq_true rfl, Nat.le_of_ble_eq_true rfl⟩ ?_
          refine lv_istore (lv' := [(5, .int o10), (4, .int x4_5), (3, .int x3_5), (2, .int x2_5), (0, .ref b), (1, .int a1)]) hx hb dX8_leave_49 hl (by decide) rfl (fun ls hl => ?_)
          refine lv_iload hx hb dX8_leave_51 (lv_at hl 0 rfl) ?_
          obtain ⟨o11, ho11, hr⟩ := br_bind hr
          refine fwSN (As := [.int o10]) (rest := []) hx hb hml hown hts (m_X0_manyIn l o10 o11 ho11) (cwn_X0_manyIn hts (hG.2.1 _ nq601) ⟨Nat.le_of_ble_eq_true rfl, Nat.le_of_ble_eq_true rfl⟩) rfl hl.1 rfl (Nat.le_of_ble_eq_true rfl) dX8_leave_53 ⟨Nat.le_of_ble_eq_true rfl, Nat.le_of_ble_eq_true rfl⟩ ?_
          refine lv_istore (lv' := [(6, .int o11), (5, .int o10), (4, .int x4_5), (3, .int x3_5), (2, .int x2_5), (0, .ref b), (1, .int a1)]) hx hb dX8_leave_56 hl (by decide) rfl (fun ls hl => ?_)
          refine lv_iload_n hx hb dX8_leave_58 rfl (lv_at hl 3 rfl) ?_
          refine lv_iload hx hb dX8_leave_59 (lv_at hl 1 rfl) ?_
          refine lv_iconst (v := (-1)) hx hb dX8_leave_61 rfl ?_
          refine lv_ixor hx hb dX8_leave_62 ?_
          refine lv_iand hx hb dX8_leave_63 ?_
          refine lv_topi (fun v12 hv12 => ?_)
          have hr := br_letv hr hv12
          refine lv_istore_n (lv' := [(3, .int v12), (6, .int o11), (5, .int o10), (4, .int x4_5), (2, .int x2_5), (0, .ref b), (1, .int a1)]) hx hb dX8_leave_64 rfl hl (by decide) rfl (fun ls hl => ?_)
          refine lv_aload_n hx hb dX8_leave_65 rfl (lv_at hl 5 rfl) ?_
          refine lv_dup hx hb dX8_leave_66 rfl ?_
          refine va_get (D := D) (ci := 7) (v := .int (cG_pieceMany cv_5)) (C := RX8) (T := TX8) (N := 8) hx hb hts in_X8 hown hG.1 hP 0 rfl rfl 6 (by decide) (hts _ q209) (fun _ h9 => h9) rfl dX8_leave_67 ?_
          refine lv_iconst (v := 1) hx hb dX8_leave_70 rfl ?_
          refine lv_iadd hx hb dX8_leave_71 ?_
          obtain ⟨cv13, hcv13, hr⟩ := br_let hr
          refine fw_put (D := D) (ci := 7) (x := .int ((cG_pieceMany cv_5) + 1)) (C := RX8) (T := TX8) (N := 8) hx hb hts in_X8 tyX8 tyX8_ok nmX8 hown hG hS 0 rfl rfl 6 (by decide) (hts _ q209) (fun _ h9 => h9) rfl (tyX8_ok 6 (by decide)) rfl rfl (Nat.le_of_ble_eq_true rfl) dX8_leave_72 (wn := wC ax b kq fq ac cv13) (by rw [hcv13]; rfl) (fun H locs hS => ?_)
          have hP := hS.1
          refine lv_aload_n hx hb dX8_leave_75 rfl (lv_at hl 5 rfl) ?_
          refine lv_aload_n hx hb dX8_leave_76 rfl (lv_at hl 5 rfl) ?_
          refine va_get (D := D) (ci := 7) (v := .int (cG_leastPiece cv13)) (C := RX8) (T := TX8) (N := 8) hx hb hts in_X8 hown hG.1 hP 0 rfl rfl 7 (by decide) (hts _ q212) (fun _ h9 => h9) rfl dX8_leave_77 ?_
          obtain ⟨o15, ho15, hr⟩ := br_bind hr
          have J15 : ∀ (H : Heap) (locs : List Loc) ls, lv_has ls 7 [(3, .int v12), (6, .int o11), (5, .int o10), (4, .int x4_5), (2, .int x2_5), (0, .ref b), (1, .int a1)] → Stt D (va_A (wC ax b kq fq ac cv) s.heap.size) s.heap (wC ax b kq fq ac cv13) H locs → WW p l e rm_X8_leave s m [.ref b, .int a1] below meth c D (wC ax b kq fq ac r0) (va_A (wC ax b kq fq ac cv) s.heap.size) (some (.ref b)) H locs 0 0 97 ls [.int o15, .ref b] := by
            intro H locs ls hl hS
            have hP := hS.1
            obtain ⟨cv16, hcv16, hr⟩ := br_let hr
            refine fw_put (D := D) (ci := 7) (x := .int o15) (C := RX8) (T := TX8) (N := 8) hx hb hts in_X8 tyX8 tyX8_ok nmX8 hown hG hS 0 rfl rfl 7 (by decide) (hts _ q212) (fun _ h9 => h9) rfl (tyX8_ok 7 (by decide)) rfl rfl (Nat.le_of_ble_eq_true rfl) dX8_leave_97 (wn := wC ax b kq fq ac cv16) (by rw [hcv16]; rfl) (fun H locs hS => ?_)
            have hP := hS.1
            refine lv_aload_n hx hb dX8_leave_100 rfl (lv_at hl 5 rfl) ?_
            refine lv_iload hx hb dX8_leave_101 (lv_at hl 1 rfl) ?_
            refine lv_iload_n hx hb dX8_leave_103 rfl (lv_at hl 4 rfl) ?_
            obtain ⟨o18, ho18, hr⟩ := br_bind hr
            have J18 : ∀ (H : Heap) (locs : List Loc) ls, lv_has ls 7 [(3, .int v12), (6, .int o11), (4, .int x4_5), (2, .int x2_5), (0, .ref b), (1, .int a1)] → Stt D (va_A (wC ax b kq fq ac cv) s.heap.size) s.heap (wC ax b kq fq ac cv16) H locs → WW p l e rm_X8_leave s m [.ref b, .int a1] below meth c D (wC ax b kq fq ac r0) (va_A (wC ax b kq fq ac cv) s.heap.size) (some (.ref b)) H locs 0 0 126 ls [.int o18, .ref b] := by
              intro H locs ls hl hS
              have hP := hS.1
              obtain ⟨cv20, hcv20, hr⟩ := br_let hr
              refine fw_put (D := D) (ci := 7) (x := .int o18) (C := RX8) (T := TX8) (N := 8) hx hb hts in_X8 tyX8 tyX8_ok nmX8 hown hG hS 0 rfl rfl 5 (by decide) (hts _ q204) (fun _ h9 => h9) rfl (tyX8_ok 5 (by decide)) rfl rfl (Nat.le_of_ble_eq_true rfl) dX8_leave_126 (wn := wC ax b kq fq ac cv20) (by rw [hcv20]; rfl) (fun H locs hS => ?_)
              have hP := hS.1
              refine lv_iload_n hx hb dX8_leave_129 rfl (lv_at hl 3 rfl) ?_
              refine lv_iload hx hb dX8_leave_130 (lv_at hl 1 rfl) ?_
              refine va_mmax hx hb (hml.trans hl.1.symm) hown (hts _ q607) (hts _ q608) (hts _ q126) (hts _ q609) (Nat.le_of_ble_eq_true rfl) (Nat.le_of_ble_eq_true rfl) (Nat.le_of_ble_eq_true rfl) (Nat.le_of_ble_eq_true rfl) dX8_leave_132 ?_
              refine lv_topi (fun v21 hv21 => ?_)
              have hr := br_letv hr hv21
              refine lv_istore_n (lv' := [(2, .int v21), (3, .int v12), (6, .int o11), (4, .int x4_5), (0, .ref b), (1, .int a1)]) hx hb dX8_leave_135 rfl hl (by decide) rfl (fun ls hl => ?_)
              obtain ⟨v22, hv22, hr⟩ := br_let hr
              refine lv_iinc (v := v22) (lv' := [(4, .int v22), (2, .int v21), (3, .int v12), (6, .int o11), (0, .ref b), (1, .int a1)]) hx hb dX8_leave_136 hl (k := 3) rfl (hv22 ▸ rfl) (by decide) rfl (fun ls hl => ?_)
              refine lv_goto (tgt := 27) hx hb dX8_leave_139 (by decide) ?_
              exact ih v22 v12 v21 cv20 _ hr _ _ ls (lv_sub hl [0, 2, 1, 4, 5] rfl) hS kx
            have hr := ho18
            have hi17 := br_ite hr
            refine lv_icmp_le (tgt := 112) hx hb dX8_leave_104 (by decide) (fun c17 => ?_) (fun c17 => ?_)
            · have hr := hi17.1 c17
              refine lv_iload hx hb dX8_leave_112 (lv_at hl 1 rfl) ?_
              refine lv_iload_n hx hb dX8_leave_114 rfl (lv_at hl 4 rfl) ?_
              have hi19 := br_ite hr
              refine lv_icmp_ne (tgt := 122) hx hb dX8_leave_115 (by decide) (fun c19 => ?_) (fun c19 => ?_)
              · have hr := hi19.2 c19
                refine lv_aload_n hx hb dX8_leave_122 rfl (lv_at hl 5 rfl) ?_
                refine va_get (D := D) (ci := 7) (v := .int (cG_deed cv16)) (C := RX8) (T := TX8) (N := 8) hx hb hts in_X8 hown hG.1 hP 0 rfl rfl 5 (by decide) (hts _ q204) (fun _ h9 => h9) rfl dX8_leave_123 ?_
                obtain rfl := Option.some.inj hr
                exact J18 _ _ ls (lv_sub hl [0, 1, 3, 4, 5, 6] rfl) hS
              · have hr := hi19.1 c19
                refine lv_iconst (v := 0) hx hb dX8_leave_118 rfl ?_
                refine lv_goto (tgt := 126) hx hb dX8_leave_119 (by decide) ?_
                obtain rfl := Option.some.inj hr
                exact J18 _ _ ls (lv_sub hl [0, 1, 3, 4, 5, 6] rfl) hS
            · have hr := hi17.2 c17
              refine lv_iload hx hb dX8_leave_107 (lv_at hl 2 rfl) ?_
              refine lv_goto (tgt := 126) hx hb dX8_leave_109 (by decide) ?_
              obtain rfl := Option.some.inj hr
              exact J18 _ _ ls (lv_sub hl [0, 1, 3, 4, 5, 6] rfl) hS
          have hr := ho15
          have hi14 := br_ite hr
          refine lv_if_ne (tgt := 88) hx hb dX8_leave_80 (by decide) (fun c14 => ?_) (fun c14 => ?_)
          · have hr := hi14.2 c14
            refine lv_aload_n hx hb dX8_leave_88 rfl (lv_at hl 5 rfl) ?_
            refine va_get (D := D) (ci := 7) (v := .int (cG_leastPiece cv13)) (C := RX8) (T := TX8) (N := 8) hx hb hts in_X8 hown hG.1 hP 0 rfl rfl 7 (by decide) (hts _ q212) (fun _ h9 => h9) rfl dX8_leave_89 ?_
            refine lv_iload hx hb dX8_leave_92 (lv_at hl 1 rfl) ?_
            refine va_mmin hx hb (hml.trans hl.1.symm) hown (hts _ q604) (hts _ q605) (hts _ q126) (hts _ q606) (Nat.le_of_ble_eq_true rfl) (Nat.le_of_ble_eq_true rfl) (Nat.le_of_ble_eq_true rfl) (Nat.le_of_ble_eq_true rfl) dX8_leave_94 ?_
            obtain rfl := Option.some.inj hr
            exact J15 _ _ ls (lv_sub hl [0, 1, 2, 3, 4, 5, 6] rfl) hS
          · have hr := hi14.1 c14
            refine lv_iload hx hb dX8_leave_83 (lv_at hl 1 rfl) ?_
            refine lv_goto (tgt := 97) hx hb dX8_leave_85 (by decide) ?_
            obtain rfl := Option.some.inj hr
            exact J15 _ _ ls (lv_sub hl [0, 1, 2, 3, 4, 5, 6] rfl) hS
  obtain ⟨o5, ho5, hr⟩ := br_bind hr
  refine L5 1000 0 a1 0 cv4 o5 ho5 _ _ ls (lv_sub hl [0, 1, 2, 3, 4] rfl) hS (fun H locs ls hl hS => ?_)
  have hP := hS.1
  refine lv_aload_n hx hb dX8_leave_142 rfl (lv_at hl 0 rfl) ?_
  obtain rfl := Option.some.inj hr
  refine W.widen (k := rm_X8_leave.cells) (n := rm_X8_leave.slots) (Nat.le_of_ble_eq_true rfl) (Nat.le_of_ble_eq_true rfl) ?_
  exact W.aret hx hb hrt (Or.inl ⟨_, rfl⟩) (Or.inr ⟨_, rfl⟩) (fun t ht _ => hS.q ht rfl) hS.2.2.2.2 dX8_leave_143 hlk
def f_X8_bite (cv : CV) (a1 : Int32) (a2 : Int32) : Option (CV) := Option.bind (some ((if ((cG_bitten cv) + 1) < (999 : Int32) then ((cG_bitten cv) + 1) else (999 : Int32)) : Int32)) fun v1 => Option.bind (some (cS_bitten cv v1)) fun cv2 => Option.bind (f_X0_cellsOf a1 a2) fun o3 => Option.bind (f_X8_leave cv2 ((cG_left cv2) &&& (o3 ^^^ (-1)))) fun o4 => some o4
abbrev rm_X8_bite : Room := ({ frames := 5, cells := 0, slots := 0, locals := 117 })
theorem cw_X8_bite {R : Room} {s : State} {args : Array Value} {own : String} {index : Nat} (hts : ∀ w ∈ lw_all, w.before args s = true) (hlink : Cond.methodLink own index yX8_bite ∈ lw_all) (hR : rm_X8_bite.frames + 1 ≤ R.frames ∧ 8 + (3 + 11) + rm_X8_bite.locals ≤ R.locals) : CallW R s args own RX8 index yX8_bite cX8_bite 3 none (ws_ yX8_bite cX8_bite 3 none) rm_X8_bite rm_X8_bite.cells rm_X8_bite.slots 2 :=
  cwV 2 hts (lw_V hlink q614 q615 q110 q616) rfl rfl rfl (by decide +kernel) hR
set_option maxHeartbeats 4000000 in
theorem m_X8_bite (l : Launch) (D : va_G) (ax : Nat → Nat) (ac : Nat → ClassId) (b kq fq : Nat) (cv : CV) (a1 : Int32) (a2 : Int32) (sz : Nat) (r0 : CV) (hr : f_X8_bite cv a1 a2 = some r0) : WM l yX8_bite cX8_bite 3 none rm_X8_bite [.ref b, .int a1, .int a2] D ac (wC ax b kq fq ac cv) (wC ax b kq fq ac r0) sz none := by
  refine fw_of (by decide) (Nat.le_of_ble_eq_true rfl) ?_
  intro p e s m below meth c ls hx hb hrt hts hown hlk hml _ hU hl
  obtain ⟨rfl, hP, hG, hD⟩ := hU
  have hA : ∀ q : Nat, s.heap.size ≤ q → (va_A (wC ax b kq fq ac cv) s.heap.size) q := fun q h => Or.inr h
  have hS := Stt.start hP hD
  show WW p l e rm_X8_bite s m [.ref b, .int a1, .int a2] below meth c D (wC ax b kq fq ac r0) (va_A (wC ax b kq fq ac cv) s.heap.size) none s.heap [] 0 0 0 ls []
  have hl : lv_has ls 3 [(0, .ref b), (1, .int a1), (2, .int a2)] := hl
  rw [f_X8_bite] at hr
  refine lv_aload_n hx hb dX8_bite_0 rfl (lv_at hl 0 rfl) ?_
  refine lv_sipush (v := 999) hx hb dX8_bite_1 rfl ?_
  refine lv_aload_n hx hb dX8_bite_4 rfl (lv_at hl 0 rfl) ?_
  refine va_get (D := D) (ci := 7) (v := .int (cG_bitten cv)) (C := RX8) (T := TX8) (N := 8) hx hb hts in_X8 hown hG.1 hP 0 rfl rfl 4 (by decide) (hts _ q201) (fun _ h9 => h9) rfl dX8_bite_5 ?_
  refine lv_iconst (v := 1) hx hb dX8_bite_8 rfl ?_
  refine lv_iadd hx hb dX8_bite_9 ?_
  refine va_mmin hx hb (hml.trans hl.1.symm) hown (hts _ q604) (hts _ q605) (hts _ q126) (hts _ q606) (Nat.le_of_ble_eq_true rfl) (Nat.le_of_ble_eq_true rfl) (Nat.le_of_ble_eq_true rfl) (Nat.le_of_ble_eq_true rfl) dX8_bite_10 ?_
  refine lv_topi (fun v1 hv1 => ?_)
  have hr := br_letv hr hv1
  obtain ⟨cv2, hcv2, hr⟩ := br_let hr
  refine fw_put (D := D) (ci := 7) (x := .int v1) (C := RX8) (T := TX8) (N := 8) hx hb hts in_X8 tyX8 tyX8_ok nmX8 hown hG hS 0 rfl rfl 4 (by decide) (hts _ q201) (fun _ h9 => h9) rfl (tyX8_ok 4 (by decide)) rfl rfl (Nat.le_of_ble_eq_true rfl) dX8_bite_13 (wn := wC ax b kq fq ac cv2) (by rw [hcv2]; rfl) (fun H locs hS => ?_)
  have hP := hS.1
  refine lv_aload_n hx hb dX8_bite_16 rfl (lv_at hl 0 rfl) ?_
  refine lv_aload_n hx hb dX8_bite_17 rfl (lv_at hl 0 rfl) ?_
  refine va_get (D := D) (ci := 7) (v := .int (cG_left cv2)) (C := RX8) (T := TX8) (N := 8) hx hb hts in_X8 hown hG.1 hP 0 rfl rfl 0 (by decide) (hts _ q190) (fun _ h9 => h9) rfl dX8_bite_18 ?_
  refine lv_iload_n hx hb dX8_bite_21 rfl (lv_at hl 1 rfl) ?_
  refine lv_iload_n hx hb dX8_bite_22 rfl (lv_at hl 2 rfl) ?_
  obtain ⟨o3, ho3, hr⟩ := br_bind hr
  refine fwSN (As := [.int a1, .int a2]) (rest := [.int (cG_left cv2), .ref b]) hx hb hml hown hts (m_X0_cellsOf l a1 a2 o3 ho3) (cwn_X0_cellsOf hts (hG.2.1 _ nq563) ⟨Nat.le_of_ble_eq_true rfl, Nat.le_of_ble_eq_true rfl⟩) rfl hl.1 rfl (Nat.le_of_ble_eq_true rfl) dX8_bite_23 ⟨Nat.le_of_ble_eq_true rfl, Nat.le_of_ble_eq_true rfl⟩ ?_
  refine lv_iconst (v := (-1)) hx hb dX8_bite_26 rfl ?_
  refine lv_ixor hx hb dX8_bite_27 ?_
  refine lv_iand hx hb dX8_bite_28 ?_
  obtain ⟨o4, ho4, hr⟩ := br_bind hr
  refine fwWVs (As := [.int ((cG_left cv2) &&& (o3 ^^^ (-1)))]) (rest := []) (C := RX8) hx hb hml hown hts (m_X8_leave l D ax ac b kq fq cv2 ((cG_left cv2) &&& (o3 ^^^ (-1))) _ o4 ho4) (cw_X8_leave hts q617 ⟨Nat.le_of_ble_eq_true rfl, Nat.le_of_ble_eq_true rfl⟩) hG hS hA rfl 0 7 rfl rfl rfl hl.1 rfl (Nat.le_of_ble_eq_true rfl) dX8_bite_29 ⟨Nat.le_of_ble_eq_true rfl, Nat.le_of_ble_eq_true rfl⟩ (fun H locs hS => ?_)
  have hP := hS.1
  refine lv_pop hx hb dX8_bite_32 rfl ?_
  obtain rfl := Option.some.inj hr
  refine W.widen (k := rm_X8_bite.cells) (n := rm_X8_bite.slots) (Nat.le_of_ble_eq_true rfl) (Nat.le_of_ble_eq_true rfl) ?_
  exact W.vret hx hb hrt (fun t ht _ => hS.q ht rfl) hS.2.2.2.2 dX8_bite_33 hlk
def f_X8_roll_L7 (a1 : Int32) : Nat → Int32 → Int32 → Option (Int32)
  | 0, _, _ => none
  | n + 1, x3_2, x2_2 => if a1 ≤ x3_2 then some x2_2 else Option.bind (f_X0_rolled x2_2) fun o4 => Option.bind (some ((x3_2 + 1) : Int32)) fun v5 => f_X8_roll_L7 a1 n v5 o4
def f_X8_roll (cv : CV) (a1 : Int32) : Option (CV) := Option.bind (some ((cG_left cv) : Int32)) fun v1 => Option.bind (f_X8_roll_L7 a1 1000 0 v1) fun o2 => Option.bind (f_X8_leave cv o2) fun o6 => some o6
abbrev rm_X8_roll : Room := ({ frames := 5, cells := 0, slots := 0, locals := 117 })
theorem cw_X8_roll {R : Room} {s : State} {args : Array Value} {own : String} {index : Nat} (hts : ∀ w ∈ lw_all, w.before args s = true) (hlink : Cond.methodLink own index yX8_roll ∈ lw_all) (hR : rm_X8_roll.frames + 1 ≤ R.frames ∧ 8 + (4 + 11) + rm_X8_roll.locals ≤ R.locals) : CallW R s args own RX8 index yX8_roll cX8_roll 4 none (ws_ yX8_roll cX8_roll 4 none) rm_X8_roll rm_X8_roll.cells rm_X8_roll.slots 1 :=
  cwV 1 hts (lw_V hlink q633 q634 q110 q635) rfl rfl rfl (by decide +kernel) hR
set_option maxHeartbeats 4000000 in
theorem m_X8_roll (l : Launch) (D : va_G) (ax : Nat → Nat) (ac : Nat → ClassId) (b kq fq : Nat) (cv : CV) (a1 : Int32) (sz : Nat) (r0 : CV) (hr : f_X8_roll cv a1 = some r0) : WM l yX8_roll cX8_roll 4 none rm_X8_roll [.ref b, .int a1] D ac (wC ax b kq fq ac cv) (wC ax b kq fq ac r0) sz none := by
  refine fw_of (by decide) (Nat.le_of_ble_eq_true rfl) ?_
  intro p e s m below meth c ls hx hb hrt hts hown hlk hml _ hU hl
  obtain ⟨rfl, hP, hG, hD⟩ := hU
  have hA : ∀ q : Nat, s.heap.size ≤ q → (va_A (wC ax b kq fq ac cv) s.heap.size) q := fun q h => Or.inr h
  have hS := Stt.start hP hD
  show WW p l e rm_X8_roll s m [.ref b, .int a1] below meth c D (wC ax b kq fq ac r0) (va_A (wC ax b kq fq ac cv) s.heap.size) none s.heap [] 0 0 0 ls []
  have hl : lv_has ls 4 [(0, .ref b), (1, .int a1)] := hl
  rw [f_X8_roll] at hr
  refine lv_aload_n hx hb dX8_roll_0 rfl (lv_at hl 0 rfl) ?_
  refine va_get (D := D) (ci := 7) (v := .int (cG_left cv)) (C := RX8) (T := TX8) (N := 8) hx hb hts in_X8 hown hG.1 hP 0 rfl rfl 0 (by decide) (hts _ q190) (fun _ h9 => h9) rfl dX8_roll_1 ?_
  refine lv_topi (fun v1 hv1 => ?_)
  have hr := br_letv hr hv1
  refine lv_istore_n (lv' := [(2, .int v1), (0, .ref b), (1, .int a1)]) hx hb dX8_roll_4 rfl hl (by decide) rfl (fun ls hl => ?_)
  refine lv_iconst (v := 0) hx hb dX8_roll_5 rfl ?_
  refine lv_istore_n (lv' := [(3, .int 0), (2, .int v1), (0, .ref b), (1, .int a1)]) hx hb dX8_roll_6 rfl hl (by decide) rfl (fun ls hl => ?_)
  have L2 : ∀ (n : Nat) (x3_2 : Int32) (x2_2 : Int32) (o2 : Int32), f_X8_roll_L7 a1 n x3_2 x2_2 = some o2 → ∀ (H : Heap) (locs : List Loc) ls, lv_has ls 4 [(3, .int x3_2), (2, .int x2_2), (0, .ref b), (1, .int a1)] → Stt D (va_A (wC ax b kq fq ac cv) s.heap.size) s.heap (wC ax b kq fq ac cv) H locs → (∀ (H : Heap) (locs : List Loc) ls, lv_has ls 4 [(2, .int o2), (0, .ref b)] → Stt D (va_A (wC ax b kq fq ac cv) s.heap.size) s.heap (wC ax b kq fq ac cv) H locs → WW p l e rm_X8_roll s m [.ref b, .int a1] below meth c D (wC ax b kq fq ac r0) (va_A (wC ax b kq fq ac cv) s.heap.size) none H locs 0 0 23 ls []) → WW p l e rm_X8_roll s m [.ref b, .int a1] below meth c D (wC ax b kq fq ac r0) (va_A (wC ax b kq fq ac cv) s.heap.size) none H locs 0 0 7 ls [] := by
    intro n
    induction n with
    | zero => intro x3_2 x2_2 o2 hr; rw [f_X8_roll_L7] at hr; cases hr
    | succ n ih =>
      intro x3_2 x2_2 o2 hr H locs ls hl hS kx
      have hP := hS.1
      rw [f_X8_roll_L7] at hr
      refine lv_iload_n hx hb dX8_roll_7 rfl (lv_at hl 0 rfl) ?_
      refine lv_iload_n hx hb dX8_roll_8 rfl (lv_at hl 3 rfl) ?_
      have hi3 := br_ite hr
      refine lv_icmp_ge (tgt := 23) hx hb dX8_roll_9 (by decide) (fun c3 => ?_) (fun c3 => ?_)
      · have hr := hi3.1 c3
        obtain rfl := Option.some.inj hr
        exact kx _ _ ls (lv_sub hl [1, 2] rfl) hS
      · have hr := hi3.2 c3
        refine lv_iload_n hx hb dX8_roll_12 rfl (lv_at hl 1 rfl) ?_
        obtain ⟨o4, ho4, hr⟩ := br_bind hr
        refine fwSN (As := [.int x2_2]) (rest := []) hx hb hml hown hts (m_X0_rolled l x2_2 o4 ho4) (cwn_X0_rolled hts (hG.2.1 _ nq636) ⟨Nat.le_of_ble_eq_true rfl, Nat.le_of_ble_eq_true rfl⟩) rfl hl.1 rfl (Nat.le_of_ble_eq_true rfl) dX8_roll_13 ⟨Nat.le_of_ble_eq_true rfl, Nat.le_of_ble_eq_true rfl⟩ ?_
        refine lv_istore_n (lv' := [(2, .int o4), (3, .int x3_2), (0, .ref b), (1, .int a1)]) hx hb dX8_roll_16 rfl hl (by decide) rfl (fun ls hl => ?_)
        obtain ⟨v5, hv5, hr⟩ := br_let hr
        refine lv_iinc (v := v5) (lv' := [(3, .int v5), (2, .int o4), (0, .ref b), (1, .int a1)]) hx hb dX8_roll_17 hl (k := 1) rfl (hv5 ▸ rfl) (by decide) rfl (fun ls hl => ?_)
        refine lv_goto (tgt := 7) hx hb dX8_roll_20 (by decide) ?_
        exact ih v5 o4 _ hr _ _ ls (lv_sub hl [0, 1, 2, 3] rfl) hS kx
  obtain ⟨o2, ho2, hr⟩ := br_bind hr
  refine L2 1000 0 v1 o2 ho2 _ _ ls (lv_sub hl [0, 1, 2, 3] rfl) hS (fun H locs ls hl hS => ?_)
  have hP := hS.1
  refine lv_aload_n hx hb dX8_roll_23 rfl (lv_at hl 1 rfl) ?_
  refine lv_iload_n hx hb dX8_roll_24 rfl (lv_at hl 0 rfl) ?_
  obtain ⟨o6, ho6, hr⟩ := br_bind hr
  refine fwWVs (As := [.int o2]) (rest := []) (C := RX8) hx hb hml hown hts (m_X8_leave l D ax ac b kq fq cv o2 _ o6 ho6) (cw_X8_leave hts q617 ⟨Nat.le_of_ble_eq_true rfl, Nat.le_of_ble_eq_true rfl⟩) hG hS hA rfl 0 7 rfl rfl rfl hl.1 rfl (Nat.le_of_ble_eq_true rfl) dX8_roll_25 ⟨Nat.le_of_ble_eq_true rfl, Nat.le_of_ble_eq_true rfl⟩ (fun H locs hS => ?_)
  have hP := hS.1
  refine lv_pop hx hb dX8_roll_28 rfl ?_
  obtain rfl := Option.some.inj hr
  refine W.widen (k := rm_X8_roll.cells) (n := rm_X8_roll.slots) (Nat.le_of_ble_eq_true rfl) (Nat.le_of_ble_eq_true rfl) ?_
  exact W.vret hx hb hrt (fun t ht _ => hS.q ht rfl) hS.2.2.2.2 dX8_roll_29 hlk
def f_X8_shareOf (cv : CV) (a1 : Int32) : Option (Int32) := Option.bind (f_X8_isInChancery cv) fun o1 => if o1 = 0 then if a1 < 0 ∨ 5 ≤ Int32.toNatClampNeg a1 then none else Option.bind ((cG_kind cv) (Int32.toNatClampNeg a1)) fun k4 => if a1 < 0 ∨ 5 ≤ Int32.toNatClampNeg a1 then none else Option.bind (f_K_share k4 cv ((cG_figures cv) (Int32.toNatClampNeg a1))) fun o6 => some o6 else if a1 < 0 ∨ 5 ≤ Int32.toNatClampNeg a1 then none else Option.bind ((cG_kind cv) (Int32.toNatClampNeg a1)) fun k8 => if a1 < 0 ∨ 5 ≤ Int32.toNatClampNeg a1 then none else Option.bind (f_K_inChancery k8 ((cG_figures cv) (Int32.toNatClampNeg a1))) fun o10 => some o10
abbrev rm_X8_shareOf : Room := ({ frames := 8, cells := 0, slots := 0, locals := 400 })
theorem cw_X8_shareOf {R : Room} {s : State} {args : Array Value} {own : String} {index : Nat} (hts : ∀ w ∈ lw_all, w.before args s = true) (hlink : Cond.methodLink own index yX8_shareOf ∈ lw_all) (hR : rm_X8_shareOf.frames + 1 ≤ R.frames ∧ 8 + (2 + 11) + rm_X8_shareOf.locals ≤ R.locals) : CallW R s args own RX8 index yX8_shareOf cX8_shareOf 2 (some FieldType.int) (ws_ yX8_shareOf cX8_shareOf 2 (some FieldType.int)) rm_X8_shareOf rm_X8_shareOf.cells rm_X8_shareOf.slots 1 :=
  cwV 1 hts (lw_V hlink q685 q686 q110 q687) rfl rfl rfl (by decide +kernel) hR
set_option maxHeartbeats 4000000 in
theorem m_X8_shareOf (l : Launch) (D : va_G) (ax : Nat → Nat) (ac : Nat → ClassId) (b kq fq : Nat) (cv : CV) (a1 : Int32) (r0 : Int32) (hr : f_X8_shareOf cv a1 = some r0) : PM l yX8_shareOf cX8_shareOf 2 (some FieldType.int) rm_X8_shareOf [.ref b, .int a1] (RP D ac (wC ax b kq fq ac cv ++ wK ax)) (some (.int r0)) := by
  refine fw_of (by decide) (Nat.le_of_ble_eq_true rfl) ?_
  intro p e s m below meth c ls hx hb hrt hts hown hlk hml _ hU hl
  obtain ⟨hP, hG⟩ := hU
  have hl : lv_has ls 2 [(0, .ref b), (1, .int a1)] := hl
  rw [f_X8_shareOf] at hr
  refine lv_aload_n hx hb dX8_shareOf_0 rfl (lv_at hl 0 rfl) ?_
  obtain ⟨o1, ho1, hr⟩ := br_bind hr
  refine fwRV (As := []) (rest := []) (C := RX8) hx hb hml hown hts (m_X8_isInChancery l D ax ac b kq fq cv o1 ho1) (cw_X8_isInChancery hts q688 ⟨Nat.le_of_ble_eq_true rfl, Nat.le_of_ble_eq_true rfl⟩) hG hP (hP.pick [0, 1, 2] rfl) 0 7 rfl rfl rfl hl.1 rfl (Nat.le_of_ble_eq_true rfl) dX8_shareOf_1 ⟨Nat.le_of_ble_eq_true rfl, Nat.le_of_ble_eq_true rfl⟩ ?_
  have hi2 := br_ite hr
  refine lv_if_eq (tgt := 25) hx hb dX8_shareOf_4 (by decide) (fun c2 => ?_) (fun c2 => ?_)
  · have hr := hi2.1 c2
    refine lv_aload_n hx hb dX8_shareOf_25 rfl (lv_at hl 0 rfl) ?_
    refine va_get (D := D) (ci := 7) (v := .ref kq) (C := RX8) (T := TX8) (N := 8) hx hb hts in_X8 hown hG.1 hP 0 rfl rfl 2 (by decide) (hts _ q197) (fun _ h9 => h9) rfl dX8_shareOf_26 ?_
    refine lv_iload_n hx hb dX8_shareOf_29 rfl (lv_at hl 1 rfl) ?_
    obtain ⟨c3, hr⟩ := br_none hr
    obtain ⟨k4, hk4, hr⟩ := br_bind hr
    refine fw_kald hx hb hG hP 1 rfl c3 hk4 dX8_shareOf_30 ?_
    refine lv_aload_n hx hb dX8_shareOf_31 rfl (lv_at hl 0 rfl) ?_
    refine lv_aload_n hx hb dX8_shareOf_32 rfl (lv_at hl 0 rfl) ?_
    refine va_get (D := D) (ci := 7) (v := .ref fq) (C := RX8) (T := TX8) (N := 8) hx hb hts in_X8 hown hG.1 hP 0 rfl rfl 3 (by decide) (hts _ q199) (fun _ h9 => h9) rfl dX8_shareOf_33 ?_
    refine lv_iload_n hx hb dX8_shareOf_36 rfl (lv_at hl 1 rfl) ?_
    obtain ⟨c5, hr⟩ := br_none hr
    refine va_iald hx hb hG.1 hP 2 0 rfl rfl c5 dX8_shareOf_37 ?_
    obtain ⟨o6, ho6, hr⟩ := br_bind hr
    refine fw_share hx hb hml hown hts q707 hG (hP.pick [0, 1, 2] rfl) (hP.pick [3, 4, 5, 6, 7, 8] rfl) ho6 hl.1 (Nat.le_of_ble_eq_true rfl) (Nat.le_of_ble_eq_true rfl) (Nat.le_of_ble_eq_true rfl) dX8_shareOf_38 ⟨Nat.le_of_ble_eq_true rfl, Nat.le_of_ble_eq_true rfl⟩ ?_
    exact W.iret hx hb hrt (fun t ht _ => ⟨ret_i hr, ht⟩) noB dX8_shareOf_41 hlk
  · have hr := hi2.2 c2
    refine lv_aload_n hx hb dX8_shareOf_7 rfl (lv_at hl 0 rfl) ?_
    refine va_get (D := D) (ci := 7) (v := .ref kq) (C := RX8) (T := TX8) (N := 8) hx hb hts in_X8 hown hG.1 hP 0 rfl rfl 2 (by decide) (hts _ q197) (fun _ h9 => h9) rfl dX8_shareOf_8 ?_
    refine lv_iload_n hx hb dX8_shareOf_11 rfl (lv_at hl 1 rfl) ?_
    obtain ⟨c7, hr⟩ := br_none hr
    obtain ⟨k8, hk8, hr⟩ := br_bind hr
    refine fw_kald hx hb hG hP 1 rfl c7 hk8 dX8_shareOf_12 ?_
    refine lv_aload_n hx hb dX8_shareOf_13 rfl (lv_at hl 0 rfl) ?_
    refine va_get (D := D) (ci := 7) (v := .ref fq) (C := RX8) (T := TX8) (N := 8) hx hb hts in_X8 hown hG.1 hP 0 rfl rfl 3 (by decide) (hts _ q199) (fun _ h9 => h9) rfl dX8_shareOf_14 ?_
    refine lv_iload_n hx hb dX8_shareOf_17 rfl (lv_at hl 1 rfl) ?_
    obtain ⟨c9, hr⟩ := br_none hr
    refine va_iald hx hb hG.1 hP 2 0 rfl rfl c9 dX8_shareOf_18 ?_
    obtain ⟨o10, ho10, hr⟩ := br_bind hr
    refine fw_inChancery hx hb hml hown hts q692 hG (hP.pick [3, 4, 5, 6, 7, 8] rfl) ho10 hl.1 (Nat.le_of_ble_eq_true rfl) (Nat.le_of_ble_eq_true rfl) (Nat.le_of_ble_eq_true rfl) dX8_shareOf_19 ⟨Nat.le_of_ble_eq_true rfl, Nat.le_of_ble_eq_true rfl⟩ ?_
    refine lv_goto (tgt := 41) hx hb dX8_shareOf_22 (by decide) ?_
    exact W.iret hx hb hrt (fun t ht _ => ⟨ret_i hr, ht⟩) noB dX8_shareOf_41 hlk
def f_X8_allShares_L4 (cv : CV) : Nat → Int32 → Int32 → Option (Int32)
  | 0, _, _ => none
  | n + 1, x2_1, x1_1 => if (cG_heirs cv) ≤ x2_1 then some x1_1 else Option.bind (f_X8_shareOf cv x2_1) fun o3 => Option.bind (some ((x1_1 + o3) : Int32)) fun v4 => Option.bind (some ((x2_1 + 1) : Int32)) fun v5 => f_X8_allShares_L4 cv n v5 v4
def f_X8_allShares (cv : CV) : Option (Int32) := Option.bind (f_X8_allShares_L4 cv 1000 0 0) fun o1 => some o1
abbrev rm_X8_allShares : Room := ({ frames := 9, cells := 0, slots := 0, locals := 421 })
theorem cw_X8_allShares {R : Room} {s : State} {args : Array Value} {own : String} {index : Nat} (hts : ∀ w ∈ lw_all, w.before args s = true) (hlink : Cond.methodLink own index yX8_allShares ∈ lw_all) (hR : rm_X8_allShares.frames + 1 ≤ R.frames ∧ 8 + (3 + 11) + rm_X8_allShares.locals ≤ R.locals) : CallW R s args own RX8 index yX8_allShares cX8_allShares 3 (some FieldType.int) (ws_ yX8_allShares cX8_allShares 3 (some FieldType.int)) rm_X8_allShares rm_X8_allShares.cells rm_X8_allShares.slots 0 :=
  cwV 0 hts (lw_V hlink q777 q778 q110 q779) rfl rfl rfl (by decide +kernel) hR
set_option maxHeartbeats 4000000 in
theorem m_X8_allShares (l : Launch) (D : va_G) (ax : Nat → Nat) (ac : Nat → ClassId) (b kq fq : Nat) (cv : CV) (r0 : Int32) (hr : f_X8_allShares cv = some r0) : PM l yX8_allShares cX8_allShares 3 (some FieldType.int) rm_X8_allShares [.ref b] (RP D ac (wC ax b kq fq ac cv ++ wK ax)) (some (.int r0)) := by
  refine fw_of (by decide) (Nat.le_of_ble_eq_true rfl) ?_
  intro p e s m below meth c ls hx hb hrt hts hown hlk hml _ hU hl
  obtain ⟨hP, hG⟩ := hU
  have hl : lv_has ls 3 [(0, .ref b)] := hl
  rw [f_X8_allShares] at hr
  refine lv_iconst (v := 0) hx hb dX8_allShares_0 rfl ?_
  refine lv_istore_n (lv' := [(1, .int 0), (0, .ref b)]) hx hb dX8_allShares_1 rfl hl (by decide) rfl (fun ls hl => ?_)
  refine lv_iconst (v := 0) hx hb dX8_allShares_2 rfl ?_
  refine lv_istore_n (lv' := [(2, .int 0), (1, .int 0), (0, .ref b)]) hx hb dX8_allShares_3 rfl hl (by decide) rfl (fun ls hl => ?_)
  have L1 : ∀ (n : Nat) (x2_1 : Int32) (x1_1 : Int32) (o1 : Int32), f_X8_allShares_L4 cv n x2_1 x1_1 = some o1 → ∀ ls, lv_has ls 3 [(2, .int x2_1), (1, .int x1_1), (0, .ref b)] → (∀ ls, lv_has ls 3 [(1, .int o1)] → WP p l e rm_X8_allShares s m [.ref b] below meth c (some (.int r0)) 26 ls []) → WP p l e rm_X8_allShares s m [.ref b] below meth c (some (.int r0)) 4 ls [] := by
    intro n
    induction n with
    | zero => intro x2_1 x1_1 o1 hr; rw [f_X8_allShares_L4] at hr; cases hr
    | succ n ih =>
      intro x2_1 x1_1 o1 hr ls hl kx
      rw [f_X8_allShares_L4] at hr
      refine lv_iload_n hx hb dX8_allShares_4 rfl (lv_at hl 0 rfl) ?_
      refine lv_aload_n hx hb dX8_allShares_5 rfl (lv_at hl 2 rfl) ?_
      refine va_get (D := D) (ci := 7) (v := .int (cG_heirs cv)) (C := RX8) (T := TX8) (N := 8) hx hb hts in_X8 hown hG.1 hP 0 rfl rfl 1 (by decide) (hts _ q195) (fun _ h9 => h9) rfl dX8_allShares_6 ?_
      have hi2 := br_ite hr
      refine lv_icmp_ge (tgt := 26) hx hb dX8_allShares_9 (by decide) (fun c2 => ?_) (fun c2 => ?_)
      · have hr := hi2.1 c2
        obtain rfl := Option.some.inj hr
        exact kx ls (lv_sub hl [1] rfl)
      · have hr := hi2.2 c2
        refine lv_iload_n hx hb dX8_allShares_12 rfl (lv_at hl 1 rfl) ?_
        refine lv_aload_n hx hb dX8_allShares_13 rfl (lv_at hl 2 rfl) ?_
        refine lv_iload_n hx hb dX8_allShares_14 rfl (lv_at hl 0 rfl) ?_
        obtain ⟨o3, ho3, hr⟩ := br_bind hr
        refine fwRV (As := [.int x2_1]) (rest := [.int x1_1]) (C := RX8) hx hb hml hown hts (m_X8_shareOf l D ax ac b kq fq cv x2_1 o3 ho3) (cw_X8_shareOf hts q780 ⟨Nat.le_of_ble_eq_true rfl, Nat.le_of_ble_eq_true rfl⟩) hG hP hP 0 7 rfl rfl rfl hl.1 rfl (Nat.le_of_ble_eq_true rfl) dX8_allShares_15 ⟨Nat.le_of_ble_eq_true rfl, Nat.le_of_ble_eq_true rfl⟩ ?_
        refine lv_iadd hx hb dX8_allShares_18 ?_
        refine lv_topi (fun v4 hv4 => ?_)
        have hr := br_letv hr hv4
        refine lv_istore_n (lv' := [(1, .int v4), (2, .int x2_1), (0, .ref b)]) hx hb dX8_allShares_19 rfl hl (by decide) rfl (fun ls hl => ?_)
        obtain ⟨v5, hv5, hr⟩ := br_let hr
        refine lv_iinc (v := v5) (lv' := [(2, .int v5), (1, .int v4), (0, .ref b)]) hx hb dX8_allShares_20 hl (k := 1) rfl (hv5 ▸ rfl) (by decide) rfl (fun ls hl => ?_)
        refine lv_goto (tgt := 4) hx hb dX8_allShares_23 (by decide) ?_
        exact ih v5 v4 _ hr ls (lv_sub hl [0, 1, 2] rfl) kx
  obtain ⟨o1, ho1, hr⟩ := br_bind hr
  refine L1 1000 0 0 o1 ho1 ls (lv_sub hl [0, 1, 2] rfl) (fun ls hl => ?_)
  refine lv_iload_n hx hb dX8_allShares_26 rfl (lv_at hl 0 rfl) ?_
  exact W.iret hx hb hrt (fun t ht _ => ⟨ret_i hr, ht⟩) noB dX8_allShares_27 hlk
def f_X8_set (cv : CV) (ov : CV) : Option (CV) := Option.bind (some (cS_heirs cv (cG_heirs ov))) fun cv1 => Option.bind (some (cS_bitten cv1 (cG_bitten ov))) fun cv2 => Option.bind (some (cS_kind cv2 (va_cpy (cG_kind ov) (cG_kind cv2) 0 0 5))) fun cv3 => Option.bind (some (cS_figures cv3 (va_cpy (cG_figures ov) (cG_figures cv3) 0 0 5))) fun cv4 => Option.bind (some (cS_left cv4 (cG_left ov))) fun cv5 => Option.bind (some (cS_deed cv5 (cG_deed ov))) fun cv6 => Option.bind (some (cS_pieceMany cv6 (cG_pieceMany ov))) fun cv7 => Option.bind (some (cS_leastPiece cv7 (cG_leastPiece ov))) fun cv8 => some cv8
abbrev rm_X8_set : Room := ({ frames := 2, cells := 0, slots := 0, locals := 60 })
theorem cw_X8_set {R : Room} {s : State} {args : Array Value} {own : String} {index : Nat} (hts : ∀ w ∈ lw_all, w.before args s = true) (hlink : Cond.methodLink own index yX8_set ∈ lw_all) (hR : rm_X8_set.frames + 1 ≤ R.frames ∧ 8 + (2 + 11) + rm_X8_set.locals ≤ R.locals) : CallW R s args own RX8 index yX8_set cX8_set 2 (some (FieldType.object "CoresAreWills$Core")) (ws_ yX8_set cX8_set 2 (some (FieldType.object "CoresAreWills$Core"))) rm_X8_set rm_X8_set.cells rm_X8_set.slots 1 :=
  cwV 1 hts (lw_V hlink q535 q536 q110 q537) rfl rfl rfl (by decide +kernel) hR
set_option maxHeartbeats 4000000 in
theorem m_X8_set (l : Launch) (D : va_G) (ax : Nat → Nat) (ac : Nat → ClassId) (b kq fq : Nat) (cv : CV) (b2 kq2 fq2 : Nat) (ov : CV) (sz : Nat) (r0 : CV) (hr : f_X8_set cv ov = some r0) : WM l yX8_set cX8_set 2 (some (FieldType.object "CoresAreWills$Core")) rm_X8_set [.ref b, .ref b2] D ac (wC ax b kq fq ac cv ++ wC ax b2 kq2 fq2 ac ov ++ wK ax) (wC ax b kq fq ac r0 ++ wC ax b2 kq2 fq2 ac ov ++ wK ax) sz (some (.ref b)) := by
  refine fw_of (by decide) (Nat.le_of_ble_eq_true rfl) ?_
  intro p e s m below meth c ls hx hb hrt hts hown hlk hml _ hU hl
  obtain ⟨rfl, hP, hG, hD⟩ := hU
  have hA : ∀ q : Nat, s.heap.size ≤ q → (va_A (wC ax b kq fq ac cv ++ wC ax b2 kq2 fq2 ac ov ++ wK ax) s.heap.size) q := fun q h => Or.inr h
  have hS := Stt.start hP hD
  show WW p l e rm_X8_set s m [.ref b, .ref b2] below meth c D (wC ax b kq fq ac r0 ++ wC ax b2 kq2 fq2 ac ov ++ wK ax) (va_A (wC ax b kq fq ac cv ++ wC ax b2 kq2 fq2 ac ov ++ wK ax) s.heap.size) (some (.ref b)) s.heap [] 0 0 0 ls []
  have hl : lv_has ls 2 [(0, .ref b), (1, .ref b2)] := hl
  rw [f_X8_set] at hr
  refine lv_aload_n hx hb dX8_set_0 rfl (lv_at hl 0 rfl) ?_
  refine lv_aload_n hx hb dX8_set_1 rfl (lv_at hl 1 rfl) ?_
  refine va_get (D := D) (ci := 7) (v := .int (cG_heirs ov)) (C := RX8) (T := TX8) (N := 8) hx hb hts in_X8 hown hG.1 hP 3 rfl rfl 1 (by decide) (hts _ q195) (fun _ h9 => h9) rfl dX8_set_2 ?_
  obtain ⟨cv1, hcv1, hr⟩ := br_let hr
  refine fw_put (D := D) (ci := 7) (x := .int (cG_heirs ov)) (C := RX8) (T := TX8) (N := 8) hx hb hts in_X8 tyX8 tyX8_ok nmX8 hown hG hS 0 rfl rfl 1 (by decide) (hts _ q195) (fun _ h9 => h9) rfl (tyX8_ok 1 (by decide)) rfl rfl (Nat.le_of_ble_eq_true rfl) dX8_set_5 (wn := wC ax b kq fq ac cv1 ++ wC ax b2 kq2 fq2 ac ov ++ wK ax) (by rw [hcv1]; rfl) (fun H locs hS => ?_)
  have hP := hS.1
  refine lv_aload_n hx hb dX8_set_8 rfl (lv_at hl 0 rfl) ?_
  refine lv_aload_n hx hb dX8_set_9 rfl (lv_at hl 1 rfl) ?_
  refine va_get (D := D) (ci := 7) (v := .int (cG_bitten ov)) (C := RX8) (T := TX8) (N := 8) hx hb hts in_X8 hown hG.1 hP 3 rfl rfl 4 (by decide) (hts _ q201) (fun _ h9 => h9) rfl dX8_set_10 ?_
  obtain ⟨cv2, hcv2, hr⟩ := br_let hr
  refine fw_put (D := D) (ci := 7) (x := .int (cG_bitten ov)) (C := RX8) (T := TX8) (N := 8) hx hb hts in_X8 tyX8 tyX8_ok nmX8 hown hG hS 0 rfl rfl 4 (by decide) (hts _ q201) (fun _ h9 => h9) rfl (tyX8_ok 4 (by decide)) rfl rfl (Nat.le_of_ble_eq_true rfl) dX8_set_13 (wn := wC ax b kq fq ac cv2 ++ wC ax b2 kq2 fq2 ac ov ++ wK ax) (by rw [hcv2]; rfl) (fun H locs hS => ?_)
  have hP := hS.1
  refine lv_aload_n hx hb dX8_set_16 rfl (lv_at hl 1 rfl) ?_
  refine va_get (D := D) (ci := 7) (v := .ref kq2) (C := RX8) (T := TX8) (N := 8) hx hb hts in_X8 hown hG.1 hP 3 rfl rfl 2 (by decide) (hts _ q197) (fun _ h9 => h9) rfl dX8_set_17 ?_
  refine lv_iconst (v := 0) hx hb dX8_set_20 rfl ?_
  refine lv_aload_n hx hb dX8_set_21 rfl (lv_at hl 0 rfl) ?_
  refine va_get (D := D) (ci := 7) (v := .ref kq) (C := RX8) (T := TX8) (N := 8) hx hb hts in_X8 hown hG.1 hP 0 rfl rfl 2 (by decide) (hts _ q197) (fun _ h9 => h9) rfl dX8_set_22 ?_
  refine lv_iconst (v := 0) hx hb dX8_set_25 rfl ?_
  refine lv_iconst (v := 5) hx hb dX8_set_26 rfl ?_
  obtain ⟨cv3, hcv3, hr⟩ := br_let hr
  refine fw_cpyk hx hb hml hown (hts _ q538) (hts _ q540) (hts _ q539) (hts _ q125) hl.1 hG hS (hP.pick [6, 7, 8, 9, 10, 11] rfl) 4 1 rfl rfl (n := 5) 5 (by decide) (by decide) (by decide) (by decide) (Nat.le_of_ble_eq_true rfl) (Nat.le_of_ble_eq_true rfl) dX8_set_27 (wn := wC ax b kq fq ac cv3 ++ wC ax b2 kq2 fq2 ac ov ++ wK ax) (by rw [hcv3]; rfl) (fun H locs hS => ?_)
  have hP := hS.1
  refine lv_aload_n hx hb dX8_set_30 rfl (lv_at hl 1 rfl) ?_
  refine va_get (D := D) (ci := 7) (v := .ref fq2) (C := RX8) (T := TX8) (N := 8) hx hb hts in_X8 hown hG.1 hP 3 rfl rfl 3 (by decide) (hts _ q199) (fun _ h9 => h9) rfl dX8_set_31 ?_
  refine lv_iconst (v := 0) hx hb dX8_set_34 rfl ?_
  refine lv_aload_n hx hb dX8_set_35 rfl (lv_at hl 0 rfl) ?_
  refine va_get (D := D) (ci := 7) (v := .ref fq) (C := RX8) (T := TX8) (N := 8) hx hb hts in_X8 hown hG.1 hP 0 rfl rfl 3 (by decide) (hts _ q199) (fun _ h9 => h9) rfl dX8_set_36 ?_
  refine lv_iconst (v := 0) hx hb dX8_set_39 rfl ?_
  refine lv_iconst (v := 5) hx hb dX8_set_40 rfl ?_
  obtain ⟨cv4, hcv4, hr⟩ := br_let hr
  refine fw_cpyi hx hb hml hown (hts _ q538) (hts _ q540) (hts _ q539) (hts _ q125) hl.1 hG hS 5 2 rfl rfl (n := 5) 5 (by decide) (by decide) (by decide) (by decide) (Nat.le_of_ble_eq_true rfl) (Nat.le_of_ble_eq_true rfl) dX8_set_41 (wn := wC ax b kq fq ac cv4 ++ wC ax b2 kq2 fq2 ac ov ++ wK ax) (by rw [hcv4]; rfl) (fun H locs hS => ?_)
  have hP := hS.1
  refine lv_aload_n hx hb dX8_set_44 rfl (lv_at hl 0 rfl) ?_
  refine lv_aload_n hx hb dX8_set_45 rfl (lv_at hl 1 rfl) ?_
  refine va_get (D := D) (ci := 7) (v := .int (cG_left ov)) (C := RX8) (T := TX8) (N := 8) hx hb hts in_X8 hown hG.1 hP 3 rfl rfl 0 (by decide) (hts _ q190) (fun _ h9 => h9) rfl dX8_set_46 ?_
  obtain ⟨cv5, hcv5, hr⟩ := br_let hr
  refine fw_put (D := D) (ci := 7) (x := .int (cG_left ov)) (C := RX8) (T := TX8) (N := 8) hx hb hts in_X8 tyX8 tyX8_ok nmX8 hown hG hS 0 rfl rfl 0 (by decide) (hts _ q190) (fun _ h9 => h9) rfl (tyX8_ok 0 (by decide)) rfl rfl (Nat.le_of_ble_eq_true rfl) dX8_set_49 (wn := wC ax b kq fq ac cv5 ++ wC ax b2 kq2 fq2 ac ov ++ wK ax) (by rw [hcv5]; rfl) (fun H locs hS => ?_)
  have hP := hS.1
  refine lv_aload_n hx hb dX8_set_52 rfl (lv_at hl 0 rfl) ?_
  refine lv_aload_n hx hb dX8_set_53 rfl (lv_at hl 1 rfl) ?_
  refine va_get (D := D) (ci := 7) (v := .int (cG_deed ov)) (C := RX8) (T := TX8) (N := 8) hx hb hts in_X8 hown hG.1 hP 3 rfl rfl 5 (by decide) (hts _ q204) (fun _ h9 => h9) rfl dX8_set_54 ?_
  obtain ⟨cv6, hcv6, hr⟩ := br_let hr
  refine fw_put (D := D) (ci := 7) (x := .int (cG_deed ov)) (C := RX8) (T := TX8) (N := 8) hx hb hts in_X8 tyX8 tyX8_ok nmX8 hown hG hS 0 rfl rfl 5 (by decide) (hts _ q204) (fun _ h9 => h9) rfl (tyX8_ok 5 (by decide)) rfl rfl (Nat.le_of_ble_eq_true rfl) dX8_set_57 (wn := wC ax b kq fq ac cv6 ++ wC ax b2 kq2 fq2 ac ov ++ wK ax) (by rw [hcv6]; rfl) (fun H locs hS => ?_)
  have hP := hS.1
  refine lv_aload_n hx hb dX8_set_60 rfl (lv_at hl 0 rfl) ?_
  refine lv_aload_n hx hb dX8_set_61 rfl (lv_at hl 1 rfl) ?_
  refine va_get (D := D) (ci := 7) (v := .int (cG_pieceMany ov)) (C := RX8) (T := TX8) (N := 8) hx hb hts in_X8 hown hG.1 hP 3 rfl rfl 6 (by decide) (hts _ q209) (fun _ h9 => h9) rfl dX8_set_62 ?_
  obtain ⟨cv7, hcv7, hr⟩ := br_let hr
  refine fw_put (D := D) (ci := 7) (x := .int (cG_pieceMany ov)) (C := RX8) (T := TX8) (N := 8) hx hb hts in_X8 tyX8 tyX8_ok nmX8 hown hG hS 0 rfl rfl 6 (by decide) (hts _ q209) (fun _ h9 => h9) rfl (tyX8_ok 6 (by decide)) rfl rfl (Nat.le_of_ble_eq_true rfl) dX8_set_65 (wn := wC ax b kq fq ac cv7 ++ wC ax b2 kq2 fq2 ac ov ++ wK ax) (by rw [hcv7]; rfl) (fun H locs hS => ?_)
  have hP := hS.1
  refine lv_aload_n hx hb dX8_set_68 rfl (lv_at hl 0 rfl) ?_
  refine lv_aload_n hx hb dX8_set_69 rfl (lv_at hl 1 rfl) ?_
  refine va_get (D := D) (ci := 7) (v := .int (cG_leastPiece ov)) (C := RX8) (T := TX8) (N := 8) hx hb hts in_X8 hown hG.1 hP 3 rfl rfl 7 (by decide) (hts _ q212) (fun _ h9 => h9) rfl dX8_set_70 ?_
  obtain ⟨cv8, hcv8, hr⟩ := br_let hr
  refine fw_put (D := D) (ci := 7) (x := .int (cG_leastPiece ov)) (C := RX8) (T := TX8) (N := 8) hx hb hts in_X8 tyX8 tyX8_ok nmX8 hown hG hS 0 rfl rfl 7 (by decide) (hts _ q212) (fun _ h9 => h9) rfl (tyX8_ok 7 (by decide)) rfl rfl (Nat.le_of_ble_eq_true rfl) dX8_set_73 (wn := wC ax b kq fq ac cv8 ++ wC ax b2 kq2 fq2 ac ov ++ wK ax) (by rw [hcv8]; rfl) (fun H locs hS => ?_)
  have hP := hS.1
  refine lv_aload_n hx hb dX8_set_76 rfl (lv_at hl 0 rfl) ?_
  obtain rfl := Option.some.inj hr
  refine W.widen (k := rm_X8_set.cells) (n := rm_X8_set.slots) (Nat.le_of_ble_eq_true rfl) (Nat.le_of_ble_eq_true rfl) ?_
  exact W.aret hx hb hrt (Or.inl ⟨_, rfl⟩) (Or.inr ⟨_, rfl⟩) (fun t ht _ => hS.q ht rfl) hS.2.2.2.2 dX8_set_77 hlk
def f_X8_comes (cv : CV) (kk : Fin 6) (a2 : Int32) : Option (CV) := if (cG_heirs cv) < 0 ∨ 5 ≤ Int32.toNatClampNeg (cG_heirs cv) then none else Option.bind (some (cS_kind cv (va_up (cG_kind cv) (Int32.toNatClampNeg (cG_heirs cv)) (some kk)))) fun cv2 => if (cG_heirs cv2) < 0 ∨ 5 ≤ Int32.toNatClampNeg (cG_heirs cv2) then none else Option.bind (some (cS_figures cv2 (upd (cG_figures cv2) (Int32.toNatClampNeg (cG_heirs cv2)) a2))) fun cv4 => Option.bind (some (cS_heirs cv4 ((cG_heirs cv4) + 1))) fun cv5 => some cv5
abbrev rm_X8_comes : Room := ({ frames := 1, cells := 0, slots := 0, locals := 19 })
theorem cw_X8_comes {R : Room} {s : State} {args : Array Value} {own : String} {index : Nat} (hts : ∀ w ∈ lw_all, w.before args s = true) (hlink : Cond.methodLink own index yX8_comes ∈ lw_all) (hR : rm_X8_comes.frames + 1 ≤ R.frames ∧ 8 + (3 + 11) + rm_X8_comes.locals ≤ R.locals) : CallW R s args own RX8 index yX8_comes cX8_comes 3 none (ws_ yX8_comes cX8_comes 3 none) rm_X8_comes rm_X8_comes.cells rm_X8_comes.slots 2 :=
  cwV 2 hts (lw_V hlink q626 q627 q110 q628) rfl rfl rfl (by decide +kernel) hR
set_option maxHeartbeats 4000000 in
theorem m_X8_comes (l : Launch) (D : va_G) (ax : Nat → Nat) (ac : Nat → ClassId) (b kq fq : Nat) (cv : CV) (kk : Fin 6) (a2 : Int32) (sz : Nat) (r0 : CV) (hr : f_X8_comes cv kk a2 = some r0) : WM l yX8_comes cX8_comes 3 none rm_X8_comes [.ref b, .ref (ax (11 + kk.val)), .int a2] D ac (wC ax b kq fq ac cv ++ wK ax) (wC ax b kq fq ac r0 ++ wK ax) sz none := by
  refine fw_of (by decide) (Nat.le_of_ble_eq_true rfl) ?_
  intro p e s m below meth c ls hx hb hrt hts hown hlk hml _ hU hl
  obtain ⟨rfl, hP, hG, hD⟩ := hU
  have hA : ∀ q : Nat, s.heap.size ≤ q → (va_A (wC ax b kq fq ac cv ++ wK ax) s.heap.size) q := fun q h => Or.inr h
  have hS := Stt.start hP hD
  show WW p l e rm_X8_comes s m [.ref b, .ref (ax (11 + kk.val)), .int a2] below meth c D (wC ax b kq fq ac r0 ++ wK ax) (va_A (wC ax b kq fq ac cv ++ wK ax) s.heap.size) none s.heap [] 0 0 0 ls []
  have hl : lv_has ls 3 [(0, .ref b), (1, .ref (ax (11 + kk.val))), (2, .int a2)] := hl
  rw [f_X8_comes] at hr
  refine lv_aload_n hx hb dX8_comes_0 rfl (lv_at hl 0 rfl) ?_
  refine va_get (D := D) (ci := 7) (v := .ref kq) (C := RX8) (T := TX8) (N := 8) hx hb hts in_X8 hown hG.1 hP 0 rfl rfl 2 (by decide) (hts _ q197) (fun _ h9 => h9) rfl dX8_comes_1 ?_
  refine lv_aload_n hx hb dX8_comes_4 rfl (lv_at hl 0 rfl) ?_
  refine va_get (D := D) (ci := 7) (v := .int (cG_heirs cv)) (C := RX8) (T := TX8) (N := 8) hx hb hts in_X8 hown hG.1 hP 0 rfl rfl 1 (by decide) (hts _ q195) (fun _ h9 => h9) rfl dX8_comes_5 ?_
  refine lv_aload_n hx hb dX8_comes_8 rfl (lv_at hl 1 rfl) ?_
  obtain ⟨c1, hr⟩ := br_none hr
  obtain ⟨cv2, hcv2, hr⟩ := br_let hr
  refine fw_kast hx hb hG hS (hP.pick [3, 4, 5, 6, 7, 8] rfl) 1 rfl c1 dX8_comes_9 (wn := wC ax b kq fq ac cv2 ++ wK ax) (by rw [hcv2]; rfl) (fun H locs hS => ?_)
  have hP := hS.1
  refine lv_aload_n hx hb dX8_comes_10 rfl (lv_at hl 0 rfl) ?_
  refine va_get (D := D) (ci := 7) (v := .ref fq) (C := RX8) (T := TX8) (N := 8) hx hb hts in_X8 hown hG.1 hP 0 rfl rfl 3 (by decide) (hts _ q199) (fun _ h9 => h9) rfl dX8_comes_11 ?_
  refine lv_aload_n hx hb dX8_comes_14 rfl (lv_at hl 0 rfl) ?_
  refine va_get (D := D) (ci := 7) (v := .int (cG_heirs cv2)) (C := RX8) (T := TX8) (N := 8) hx hb hts in_X8 hown hG.1 hP 0 rfl rfl 1 (by decide) (hts _ q195) (fun _ h9 => h9) rfl dX8_comes_15 ?_
  refine lv_iload_n hx hb dX8_comes_18 rfl (lv_at hl 2 rfl) ?_
  obtain ⟨c3, hr⟩ := br_none hr
  obtain ⟨cv4, hcv4, hr⟩ := br_let hr
  refine fw_iast hx hb hG hS 2 rfl c3 dX8_comes_19 (wn := wC ax b kq fq ac cv4 ++ wK ax) (by rw [hcv4]; rfl) (fun H locs hS => ?_)
  have hP := hS.1
  refine lv_aload_n hx hb dX8_comes_20 rfl (lv_at hl 0 rfl) ?_
  refine lv_dup hx hb dX8_comes_21 rfl ?_
  refine va_get (D := D) (ci := 7) (v := .int (cG_heirs cv4)) (C := RX8) (T := TX8) (N := 8) hx hb hts in_X8 hown hG.1 hP 0 rfl rfl 1 (by decide) (hts _ q195) (fun _ h9 => h9) rfl dX8_comes_22 ?_
  refine lv_iconst (v := 1) hx hb dX8_comes_25 rfl ?_
  refine lv_iadd hx hb dX8_comes_26 ?_
  obtain ⟨cv5, hcv5, hr⟩ := br_let hr
  refine fw_put (D := D) (ci := 7) (x := .int ((cG_heirs cv4) + 1)) (C := RX8) (T := TX8) (N := 8) hx hb hts in_X8 tyX8 tyX8_ok nmX8 hown hG hS 0 rfl rfl 1 (by decide) (hts _ q195) (fun _ h9 => h9) rfl (tyX8_ok 1 (by decide)) rfl rfl (Nat.le_of_ble_eq_true rfl) dX8_comes_27 (wn := wC ax b kq fq ac cv5 ++ wK ax) (by rw [hcv5]; rfl) (fun H locs hS => ?_)
  have hP := hS.1
  obtain rfl := Option.some.inj hr
  refine W.widen (k := rm_X8_comes.cells) (n := rm_X8_comes.slots) (Nat.le_of_ble_eq_true rfl) (Nat.le_of_ble_eq_true rfl) ?_
  exact W.vret hx hb hrt (fun t ht _ => hS.q ht rfl) hS.2.2.2.2 dX8_comes_30 hlk