def f_X9_kindBy (a0 : Int32) : Option Int32 := if a0 = 101 then some 1 else if a0 = 107 then some 5 else if a0 = 108 then some 3 else if a0 = 110 then some 0 else if a0 = 112 then some 4 else if a0 = 119 then some 2 else some (-9)
abbrev rm_X9_kindBy : Room := ({ frames := 1, cells := 0, slots := 0, locals := 17 })
set_option maxHeartbeats 4000000 in
theorem m_X9_kindBy (l : Launch) (a0 : Int32) (r0 : Int32) (hr : f_X9_kindBy a0 = some r0) : PM l yX9_kindBy cX9_kindBy 1 (some FieldType.int) rm_X9_kindBy [.int a0] (fun _ => True) (some (.int r0)) := by
  refine fw_of (by decide) (Nat.le_of_ble_eq_true rfl) ?_
  intro p e s m below meth c ls hx hb hrt hts hown hlk hml _ _ hl
  have hl : lv_has ls 1 [(0, .int a0)] := hl
  rw [f_X9_kindBy] at hr
  refine lv_iload_n hx hb dX9_kindBy_0 rfl (lv_at hl 0 rfl) ?_
  have hi1 := br_ite hr
  by_cases c1 : a0 = 101
  · have hr := hi1.1 c1
    refine lv_tableIn (tgt := 94) hx hb dX9_kindBy_1 (by rw [c1]; decide) (by rw [c1]; decide) (by rw [c1]; rfl) (by decide) ?_
    refine lv_iconst (v := 1) hx hb dX9_kindBy_94 rfl ?_
    exact W.iret hx hb hrt (fun t ht _ => ⟨ret_i hr, ht⟩) noB dX9_kindBy_95 hlk
  have hr := hi1.2 c1
  have hi2 := br_ite hr
  by_cases c2 : a0 = 107
  · have hr := hi2.1 c2
    refine lv_tableIn (tgt := 102) hx hb dX9_kindBy_1 (by rw [c2]; decide) (by rw [c2]; decide) (by rw [c2]; rfl) (by decide) ?_
    refine lv_iconst (v := 5) hx hb dX9_kindBy_102 rfl ?_
    exact W.iret hx hb hrt (fun t ht _ => ⟨ret_i hr, ht⟩) noB dX9_kindBy_103 hlk
  have hr := hi2.2 c2
  have hi3 := br_ite hr
  by_cases c3 : a0 = 108
  · have hr := hi3.1 c3
    refine lv_tableIn (tgt := 98) hx hb dX9_kindBy_1 (by rw [c3]; decide) (by rw [c3]; decide) (by rw [c3]; rfl) (by decide) ?_
    refine lv_iconst (v := 3) hx hb dX9_kindBy_98 rfl ?_
    exact W.iret hx hb hrt (fun t ht _ => ⟨ret_i hr, ht⟩) noB dX9_kindBy_99 hlk
  have hr := hi3.2 c3
  have hi4 := br_ite hr
  by_cases c4 : a0 = 110
  · have hr := hi4.1 c4
    refine lv_tableIn (tgt := 92) hx hb dX9_kindBy_1 (by rw [c4]; decide) (by rw [c4]; decide) (by rw [c4]; rfl) (by decide) ?_
    refine lv_iconst (v := 0) hx hb dX9_kindBy_92 rfl ?_
    exact W.iret hx hb hrt (fun t ht _ => ⟨ret_i hr, ht⟩) noB dX9_kindBy_93 hlk
  have hr := hi4.2 c4
  have hi5 := br_ite hr
  by_cases c5 : a0 = 112
  · have hr := hi5.1 c5
    refine lv_tableIn (tgt := 100) hx hb dX9_kindBy_1 (by rw [c5]; decide) (by rw [c5]; decide) (by rw [c5]; rfl) (by decide) ?_
    refine lv_iconst (v := 4) hx hb dX9_kindBy_100 rfl ?_
    exact W.iret hx hb hrt (fun t ht _ => ⟨ret_i hr, ht⟩) noB dX9_kindBy_101 hlk
  have hr := hi5.2 c5
  have hi6 := br_ite hr
  by_cases c6 : a0 = 119
  · have hr := hi6.1 c6
    refine lv_tableIn (tgt := 96) hx hb dX9_kindBy_1 (by rw [c6]; decide) (by rw [c6]; decide) (by rw [c6]; rfl) (by decide) ?_
    refine lv_iconst (v := 2) hx hb dX9_kindBy_96 rfl ?_
    exact W.iret hx hb hrt (fun t ht _ => ⟨ret_i hr, ht⟩) noB dX9_kindBy_97 hlk
  have hr := hi6.2 c6
  have K7 : WP p l e rm_X9_kindBy s m [.int a0] below meth c (some (.int r0)) 104 ls [] := by
    refine lv_bipush (v := (-9)) hx hb dX9_kindBy_104 rfl ?_
    exact W.iret hx hb hrt (fun t ht _ => ⟨ret_i hr, ht⟩) noB dX9_kindBy_106 hlk
  by_cases g7 : a0.toInt < 101 ∨ 119 < a0.toInt
  · exact lv_tableOut (tgt := 104) hx hb dX9_kindBy_1 g7 (by decide) K7
  · have hz : ∀ j : Nat, j < 19 → (([0, 6, 7, 9, 11, 18] : List Nat).contains j = false) → (#[93, 103, 103, 103, 103, 103, 101, 97, 103, 91, 103, 99, 103, 103, 103, 103, 103, 103, 95] : Array Int)[j]? = some (103) := by decide
    exact lv_tableIn (tgt := 104) hx hb dX9_kindBy_1 (by omega) (by omega) (hz _ (by omega) (by have n1 := lv_neT (a := 101) c1 rfl; have n2 := lv_neT (a := 107) c2 rfl; have n3 := lv_neT (a := 108) c3 rfl; have n4 := lv_neT (a := 110) c4 rfl; have n5 := lv_neT (a := 112) c5 rfl; have n6 := lv_neT (a := 119) c6 rfl; simp; omega)) (by decide) K7
theorem cw_X9_kindBy {R : Room} {s : State} {args : Array Value} {own : String} {index : Nat} (hts : ∀ w ∈ lw_all, w.before args s = true) (hlink : Cond.methodLink own index yX9_kindBy ∈ lw_all) (hR : rm_X9_kindBy.frames + 1 ≤ R.frames ∧ 8 + (1 + 11) + rm_X9_kindBy.locals ≤ R.locals) : CallB R s args own index yX9_kindBy cX9_kindBy 1 (some FieldType.int) (ws_ yX9_kindBy cX9_kindBy 1 (some FieldType.int)) rm_X9_kindBy 0 0 1 ∧ (Cond.static yX9_kindBy).before args s = true :=
  va_cwS 1 hts (lw_S hlink q1284 q111 q1285) rfl rfl rfl (by decide +kernel) hR
def f_X9_isIn (a0 : Int32) (a1 : Int32) (a2 : Int32) : Option Int32 := if a0 < a1 then some 0 else if a2 < a0 then some 0 else some 1
abbrev rm_X9_isIn : Room := ({ frames := 1, cells := 0, slots := 0, locals := 19 })
set_option maxHeartbeats 4000000 in
theorem m_X9_isIn (l : Launch) (a0 : Int32) (a1 : Int32) (a2 : Int32) (r0 : Int32) (hr : f_X9_isIn a0 a1 a2 = some r0) : PM l yX9_isIn cX9_isIn 3 (some FieldType.boolean) rm_X9_isIn [.int a0, .int a1, .int a2] (fun _ => True) (some (.int r0)) := by
  refine fw_of (by decide) (Nat.le_of_ble_eq_true rfl) ?_
  intro p e s m below meth c ls hx hb hrt hts hown hlk hml _ _ hl
  have hl : lv_has ls 3 [(0, .int a0), (1, .int a1), (2, .int a2)] := hl
  rw [f_X9_isIn] at hr
  refine lv_iload_n hx hb dX9_isIn_0 rfl (lv_at hl 0 rfl) ?_
  refine lv_iload_n hx hb dX9_isIn_1 rfl (lv_at hl 1 rfl) ?_
  have hi1 := br_ite hr
  refine lv_icmp_lt (tgt := 14) hx hb dX9_isIn_2 (by decide) (fun c1 => ?_) (fun c1 => ?_)
  · have hr := hi1.1 c1
    refine lv_iconst (v := 0) hx hb dX9_isIn_14 rfl ?_
    exact W.zret hx hb hrt rfl (fun t ht _ => ⟨ret_i hr, ht⟩) noB dX9_isIn_15 hlk
  · have hr := hi1.2 c1
    refine lv_iload_n hx hb dX9_isIn_5 rfl (lv_at hl 0 rfl) ?_
    refine lv_iload_n hx hb dX9_isIn_6 rfl (lv_at hl 2 rfl) ?_
    have hi2 := br_ite hr
    refine lv_icmp_gt (tgt := 14) hx hb dX9_isIn_7 (by decide) (fun c2 => ?_) (fun c2 => ?_)
    · have hr := hi2.1 c2
      refine lv_iconst (v := 0) hx hb dX9_isIn_14 rfl ?_
      exact W.zret hx hb hrt rfl (fun t ht _ => ⟨ret_i hr, ht⟩) noB dX9_isIn_15 hlk
    · have hr := hi2.2 c2
      refine lv_iconst (v := 1) hx hb dX9_isIn_10 rfl ?_
      refine lv_goto (tgt := 15) hx hb dX9_isIn_11 (by decide) ?_
      exact W.zret hx hb hrt rfl (fun t ht _ => ⟨ret_i hr, ht⟩) noB dX9_isIn_15 hlk
theorem cw_X9_isIn {R : Room} {s : State} {args : Array Value} {own : String} {index : Nat} (hts : ∀ w ∈ lw_all, w.before args s = true) (hlink : Cond.methodLink own index yX9_isIn ∈ lw_all) (hR : rm_X9_isIn.frames + 1 ≤ R.frames ∧ 8 + (3 + 11) + rm_X9_isIn.locals ≤ R.locals) : CallB R s args own index yX9_isIn cX9_isIn 3 (some FieldType.boolean) (ws_ yX9_isIn cX9_isIn 3 (some FieldType.boolean)) rm_X9_isIn 0 0 3 ∧ (Cond.static yX9_isIn).before args s = true :=
  va_cwS 3 hts (lw_S hlink q1291 q111 q1292) rfl rfl rfl (by decide +kernel) hR
def f_X9_isCell (a0 : Int32) : Option Int32 := Option.bind (f_X9_isIn a0 0 24) fun o1 => rz o1
abbrev rm_X9_isCell : Room := ({ frames := 2, cells := 0, slots := 0, locals := 41 })
set_option maxHeartbeats 4000000 in
theorem m_X9_isCell (l : Launch) (a0 : Int32) (r0 : Int32) (hr : f_X9_isCell a0 = some r0) : PM l yX9_isCell cX9_isCell 1 (some FieldType.boolean) rm_X9_isCell [.int a0] (fun _ => True) (some (.int r0)) := by
  refine fw_of (by decide) (Nat.le_of_ble_eq_true rfl) ?_
  intro p e s m below meth c ls hx hb hrt hts hown hlk hml _ _ hl
  have hl : lv_has ls 1 [(0, .int a0)] := hl
  rw [f_X9_isCell] at hr
  refine lv_iload_n hx hb dX9_isCell_0 rfl (lv_at hl 0 rfl) ?_
  refine lv_iconst (v := 0) hx hb dX9_isCell_1 rfl ?_
  refine lv_bipush (v := 24) hx hb dX9_isCell_2 rfl ?_
  obtain ⟨o1, ho1, hr⟩ := br_bind hr
  refine fwS (As := [.int a0, .int 0, .int 24]) (rest := []) hx hb hml hown hts (m_X9_isIn l a0 0 24 o1 ho1) (cw_X9_isIn hts q1290 ⟨Nat.le_of_ble_eq_true rfl, Nat.le_of_ble_eq_true rfl⟩) rfl hl.1 rfl (Nat.le_of_ble_eq_true rfl) dX9_isCell_4 ⟨Nat.zero_le _, Nat.zero_le _⟩ ?_
  obtain ⟨hz, hr⟩ := rz_n hr
  exact W.zret hx hb hrt hz (fun t ht _ => ⟨ret_i hr, ht⟩) noB dX9_isCell_7 hlk
theorem cw_X9_isCell {R : Room} {s : State} {args : Array Value} {own : String} {index : Nat} (hts : ∀ w ∈ lw_all, w.before args s = true) (hlink : Cond.methodLink own index yX9_isCell ∈ lw_all) (hR : rm_X9_isCell.frames + 1 ≤ R.frames ∧ 8 + (1 + 11) + rm_X9_isCell.locals ≤ R.locals) : CallB R s args own index yX9_isCell cX9_isCell 1 (some FieldType.boolean) (ws_ yX9_isCell cX9_isCell 1 (some FieldType.boolean)) rm_X9_isCell 0 0 1 ∧ (Cond.static yX9_isCell).before args s = true :=
  va_cwS 1 hts (lw_S hlink q1302 q111 q1303) rfl rfl rfl (by decide +kernel) hR
def f_X9_bite (a0 : Int32) (a1 : Int32) : Option Int32 := Option.bind (α := Int32) (if (a0 - a0 / 2 * 2) = 1 then some 2 else some 1) fun o2 => Option.bind (α := Int32) (if a0 < 2 then some 1 else some 2) fun o4 => if 5 < ((a1 - a1 / 5 * 5) + o2) then some 0 else if ((a1 / 5) + o4) ≤ 5 then Option.bind (some (((1 : Int32) <<< (a1 &&& 31)) : Int32)) fun v7 => Option.bind (α := Int32) (if o2 = 2 then Option.bind (some ((v7 ||| ((1 : Int32) <<< ((a1 + 1) &&& 31))) : Int32)) fun v10 => some v10 else some v7) fun o9 => if o4 = 2 then some (o9 ||| (o9 <<< ((5 : Int32) &&& 31))) else some o9 else some 0
abbrev rm_X9_bite : Room := ({ frames := 1, cells := 0, slots := 0, locals := 21 })
set_option maxHeartbeats 4000000 in
theorem m_X9_bite (l : Launch) (a0 : Int32) (a1 : Int32) (r0 : Int32) (hr : f_X9_bite a0 a1 = some r0) : PM l yX9_bite cX9_bite 5 (some FieldType.int) rm_X9_bite [.int a0, .int a1] (fun _ => True) (some (.int r0)) := by
  refine fw_of (by decide) (Nat.le_of_ble_eq_true rfl) ?_
  intro p e s m below meth c ls hx hb hrt hts hown hlk hml _ _ hl
  have hl : lv_has ls 5 [(0, .int a0), (1, .int a1)] := hl
  rw [f_X9_bite] at hr
  refine lv_iload_n hx hb dX9_bite_0 rfl (lv_at hl 0 rfl) ?_
  refine lv_iconst (v := 2) hx hb dX9_bite_1 rfl ?_
  refine lv_irem hx hb dX9_bite_2 (by decide) ?_
  refine lv_iconst (v := 1) hx hb dX9_bite_3 rfl ?_
  obtain ⟨o2, ho2, hr⟩ := br_bind hr
  have J2 : ∀ ls, lv_has ls 5 [(0, .int a0), (1, .int a1)] → WP p l e rm_X9_bite s m [.int a0, .int a1] below meth c (some (.int r0)) 12 ls [.int o2] := by
    intro ls hl
    refine lv_istore_n (lv' := [(2, .int o2), (0, .int a0), (1, .int a1)]) hx hb dX9_bite_12 rfl hl (by decide) rfl (fun ls hl => ?_)
    refine lv_iload_n hx hb dX9_bite_13 rfl (lv_at hl 1 rfl) ?_
    refine lv_iconst (v := 2) hx hb dX9_bite_14 rfl ?_
    obtain ⟨o4, ho4, hr⟩ := br_bind hr
    have J4 : ∀ ls, lv_has ls 5 [(2, .int o2), (1, .int a1)] → WP p l e rm_X9_bite s m [.int a0, .int a1] below meth c (some (.int r0)) 23 ls [.int o4] := by
      intro ls hl
      refine lv_istore_n (lv' := [(3, .int o4), (2, .int o2), (1, .int a1)]) hx hb dX9_bite_23 rfl hl (by decide) rfl (fun ls hl => ?_)
      refine lv_iload_n hx hb dX9_bite_24 rfl (lv_at hl 2 rfl) ?_
      refine lv_iconst (v := 5) hx hb dX9_bite_25 rfl ?_
      refine lv_irem hx hb dX9_bite_26 (by decide) ?_
      refine lv_iload_n hx hb dX9_bite_27 rfl (lv_at hl 1 rfl) ?_
      refine lv_iadd hx hb dX9_bite_28 ?_
      refine lv_iconst (v := 5) hx hb dX9_bite_29 rfl ?_
      have hi5 := br_ite hr
      refine lv_icmp_gt (tgt := 42) hx hb dX9_bite_30 (by decide) (fun c5 => ?_) (fun c5 => ?_)
      · have hr := hi5.1 c5
        refine lv_iconst (v := 0) hx hb dX9_bite_42 rfl ?_
        exact W.iret hx hb hrt (fun t ht _ => ⟨ret_i hr, ht⟩) noB dX9_bite_43 hlk
      · have hr := hi5.2 c5
        refine lv_iload_n hx hb dX9_bite_33 rfl (lv_at hl 2 rfl) ?_
        refine lv_iconst (v := 5) hx hb dX9_bite_34 rfl ?_
        refine lv_idiv hx hb dX9_bite_35 (by decide) ?_
        refine lv_iload_n hx hb dX9_bite_36 rfl (lv_at hl 0 rfl) ?_
        refine lv_iadd hx hb dX9_bite_37 ?_
        refine lv_iconst (v := 5) hx hb dX9_bite_38 rfl ?_
        have hi6 := br_ite hr
        refine lv_icmp_le (tgt := 44) hx hb dX9_bite_39 (by decide) (fun c6 => ?_) (fun c6 => ?_)
        · have hr := hi6.1 c6
          refine lv_iconst (v := 1) hx hb dX9_bite_44 rfl ?_
          refine lv_iload_n hx hb dX9_bite_45 rfl (lv_at hl 2 rfl) ?_
          refine lv_ishl hx hb dX9_bite_46 ?_
          refine lv_topi (fun v7 hv7 => ?_)
          have hr := br_letv hr hv7
          refine lv_istore (lv' := [(4, .int v7), (3, .int o4), (2, .int o2), (1, .int a1)]) hx hb dX9_bite_47 hl (by decide) rfl (fun ls hl => ?_)
          refine lv_iload_n hx hb dX9_bite_49 rfl (lv_at hl 2 rfl) ?_
          refine lv_iconst (v := 2) hx hb dX9_bite_50 rfl ?_
          obtain ⟨o9, ho9, hr⟩ := br_bind hr
          have J9 : ∀ ls, lv_has ls 5 [(4, .int o9), (3, .int o4)] → WP p l e rm_X9_bite s m [.int a0, .int a1] below meth c (some (.int r0)) 64 ls [] := by
            intro ls hl
            refine lv_iload_n hx hb dX9_bite_64 rfl (lv_at hl 1 rfl) ?_
            refine lv_iconst (v := 2) hx hb dX9_bite_65 rfl ?_
            have hi11 := br_ite hr
            refine lv_icmp_ne (tgt := 79) hx hb dX9_bite_66 (by decide) (fun c11 => ?_) (fun c11 => ?_)
            · have hr := hi11.2 c11
              refine lv_iload hx hb dX9_bite_79 (lv_at hl 0 rfl) ?_
              exact W.iret hx hb hrt (fun t ht _ => ⟨ret_i hr, ht⟩) noB dX9_bite_81 hlk
            · have hr := hi11.1 c11
              refine lv_iload hx hb dX9_bite_69 (lv_at hl 0 rfl) ?_
              refine lv_iload hx hb dX9_bite_71 (lv_at hl 0 rfl) ?_
              refine lv_iconst (v := 5) hx hb dX9_bite_73 rfl ?_
              refine lv_ishl hx hb dX9_bite_74 ?_
              refine lv_ior hx hb dX9_bite_75 ?_
              refine lv_goto (tgt := 81) hx hb dX9_bite_76 (by decide) ?_
              exact W.iret hx hb hrt (fun t ht _ => ⟨ret_i hr, ht⟩) noB dX9_bite_81 hlk
          have hr := ho9
          have hi8 := br_ite hr
          refine lv_icmp_ne (tgt := 64) hx hb dX9_bite_51 (by decide) (fun c8 => ?_) (fun c8 => ?_)
          · have hr := hi8.2 c8
            obtain rfl := Option.some.inj hr
            exact J9 ls (lv_sub hl [0, 1] rfl)
          · have hr := hi8.1 c8
            refine lv_iload hx hb dX9_bite_54 (lv_at hl 0 rfl) ?_
            refine lv_iconst (v := 1) hx hb dX9_bite_56 rfl ?_
            refine lv_iload_n hx hb dX9_bite_57 rfl (lv_at hl 3 rfl) ?_
            refine lv_iconst (v := 1) hx hb dX9_bite_58 rfl ?_
            refine lv_iadd hx hb dX9_bite_59 ?_
            refine lv_ishl hx hb dX9_bite_60 ?_
            refine lv_ior hx hb dX9_bite_61 ?_
            refine lv_topi (fun v10 hv10 => ?_)
            have hr := br_letv hr hv10
            refine lv_istore (lv' := [(4, .int v10), (3, .int o4), (2, .int o2), (1, .int a1)]) hx hb dX9_bite_62 hl (by decide) rfl (fun ls hl => ?_)
            obtain rfl := Option.some.inj hr
            exact J9 ls (lv_sub hl [0, 1] rfl)
        · have hr := hi6.2 c6
          refine lv_iconst (v := 0) hx hb dX9_bite_42 rfl ?_
          exact W.iret hx hb hrt (fun t ht _ => ⟨ret_i hr, ht⟩) noB dX9_bite_43 hlk
    have hr := ho4
    have hi3 := br_ite hr
    refine lv_icmp_lt (tgt := 22) hx hb dX9_bite_15 (by decide) (fun c3 => ?_) (fun c3 => ?_)
    · have hr := hi3.1 c3
      refine lv_iconst (v := 1) hx hb dX9_bite_22 rfl ?_
      obtain rfl := Option.some.inj hr
      exact J4 ls (lv_sub hl [0, 2] rfl)
    · have hr := hi3.2 c3
      refine lv_iconst (v := 2) hx hb dX9_bite_18 rfl ?_
      refine lv_goto (tgt := 23) hx hb dX9_bite_19 (by decide) ?_
      obtain rfl := Option.some.inj hr
      exact J4 ls (lv_sub hl [0, 2] rfl)
  have hr := ho2
  have hi1 := br_ite hr
  refine lv_icmp_ne (tgt := 11) hx hb dX9_bite_4 (by decide) (fun c1 => ?_) (fun c1 => ?_)
  · have hr := hi1.2 c1
    refine lv_iconst (v := 1) hx hb dX9_bite_11 rfl ?_
    obtain rfl := Option.some.inj hr
    exact J2 ls (lv_sub hl [0, 1] rfl)
  · have hr := hi1.1 c1
    refine lv_iconst (v := 2) hx hb dX9_bite_7 rfl ?_
    refine lv_goto (tgt := 12) hx hb dX9_bite_8 (by decide) ?_
    obtain rfl := Option.some.inj hr
    exact J2 ls (lv_sub hl [0, 1] rfl)
theorem cw_X9_bite {R : Room} {s : State} {args : Array Value} {own : String} {index : Nat} (hts : ∀ w ∈ lw_all, w.before args s = true) (hlink : Cond.methodLink own index yX9_bite ∈ lw_all) (hR : rm_X9_bite.frames + 1 ≤ R.frames ∧ 8 + (5 + 11) + rm_X9_bite.locals ≤ R.locals) : CallB R s args own index yX9_bite cX9_bite 5 (some FieldType.int) (ws_ yX9_bite cX9_bite 5 (some FieldType.int)) rm_X9_bite 0 0 2 ∧ (Cond.static yX9_bite).before args s = true :=
  va_cwS 2 hts (lw_S hlink q1308 q111 q1309) rfl rfl rfl (by decide +kernel) hR
def f_X9_canBite (a0 : Int32) (a1 : Int32) (a2 : Int32) : Option Int32 := Option.bind (f_X9_bite a1 a2) fun o1 => if o1 = 0 then some 0 else Option.bind (f_X9_bite a1 a2) fun o3 => if (o3 &&& (a0 ^^^ (-1))) = 0 then some 1 else some 0
abbrev rm_X9_canBite : Room := ({ frames := 2, cells := 0, slots := 0, locals := 45 })
set_option maxHeartbeats 4000000 in
theorem m_X9_canBite (l : Launch) (a0 : Int32) (a1 : Int32) (a2 : Int32) (r0 : Int32) (hr : f_X9_canBite a0 a1 a2 = some r0) : PM l yX9_canBite cX9_canBite 3 (some FieldType.boolean) rm_X9_canBite [.int a0, .int a1, .int a2] (fun _ => True) (some (.int r0)) := by
  refine fw_of (by decide) (Nat.le_of_ble_eq_true rfl) ?_
  intro p e s m below meth c ls hx hb hrt hts hown hlk hml _ _ hl
  have hl : lv_has ls 3 [(0, .int a0), (1, .int a1), (2, .int a2)] := hl
  rw [f_X9_canBite] at hr
  refine lv_iload_n hx hb dX9_canBite_0 rfl (lv_at hl 1 rfl) ?_
  refine lv_iload_n hx hb dX9_canBite_1 rfl (lv_at hl 2 rfl) ?_
  obtain ⟨o1, ho1, hr⟩ := br_bind hr
  refine fwS (As := [.int a1, .int a2]) (rest := []) hx hb hml hown hts (m_X9_bite l a1 a2 o1 ho1) (cw_X9_bite hts q1307 ⟨Nat.le_of_ble_eq_true rfl, Nat.le_of_ble_eq_true rfl⟩) rfl hl.1 rfl (Nat.le_of_ble_eq_true rfl) dX9_canBite_2 ⟨Nat.zero_le _, Nat.zero_le _⟩ ?_
  have hi2 := br_ite hr
  refine lv_if_eq (tgt := 24) hx hb dX9_canBite_5 (by decide) (fun c2 => ?_) (fun c2 => ?_)
  · have hr := hi2.1 c2
    refine lv_iconst (v := 0) hx hb dX9_canBite_24 rfl ?_
    exact W.zret hx hb hrt rfl (fun t ht _ => ⟨ret_i hr, ht⟩) noB dX9_canBite_25 hlk
  · have hr := hi2.2 c2
    refine lv_iload_n hx hb dX9_canBite_8 rfl (lv_at hl 1 rfl) ?_
    refine lv_iload_n hx hb dX9_canBite_9 rfl (lv_at hl 2 rfl) ?_
    obtain ⟨o3, ho3, hr⟩ := br_bind hr
    refine fwS (As := [.int a1, .int a2]) (rest := []) hx hb hml hown hts (m_X9_bite l a1 a2 o3 ho3) (cw_X9_bite hts q1307 ⟨Nat.le_of_ble_eq_true rfl, Nat.le_of_ble_eq_true rfl⟩) rfl hl.1 rfl (Nat.le_of_ble_eq_true rfl) dX9_canBite_10 ⟨Nat.zero_le _, Nat.zero_le _⟩ ?_
    refine lv_iload_n hx hb dX9_canBite_13 rfl (lv_at hl 0 rfl) ?_
    refine lv_iconst (v := (-1)) hx hb dX9_canBite_14 rfl ?_
    refine lv_ixor hx hb dX9_canBite_15 ?_
    refine lv_iand hx hb dX9_canBite_16 ?_
    have hi4 := br_ite hr
    refine lv_if_ne (tgt := 24) hx hb dX9_canBite_17 (by decide) (fun c4 => ?_) (fun c4 => ?_)
    · have hr := hi4.2 c4
      refine lv_iconst (v := 0) hx hb dX9_canBite_24 rfl ?_
      exact W.zret hx hb hrt rfl (fun t ht _ => ⟨ret_i hr, ht⟩) noB dX9_canBite_25 hlk
    · have hr := hi4.1 c4
      refine lv_iconst (v := 1) hx hb dX9_canBite_20 rfl ?_
      refine lv_goto (tgt := 25) hx hb dX9_canBite_21 (by decide) ?_
      exact W.zret hx hb hrt rfl (fun t ht _ => ⟨ret_i hr, ht⟩) noB dX9_canBite_25 hlk
theorem cw_X9_canBite {R : Room} {s : State} {args : Array Value} {own : String} {index : Nat} (hts : ∀ w ∈ lw_all, w.before args s = true) (hlink : Cond.methodLink own index yX9_canBite ∈ lw_all) (hR : rm_X9_canBite.frames + 1 ≤ R.frames ∧ 8 + (3 + 11) + rm_X9_canBite.locals ≤ R.locals) : CallB R s args own index yX9_canBite cX9_canBite 3 (some FieldType.boolean) (ws_ yX9_canBite cX9_canBite 3 (some FieldType.boolean)) rm_X9_canBite 0 0 3 ∧ (Cond.static yX9_canBite).before args s = true :=
  va_cwS 3 hts (lw_S hlink q1305 q111 q1306) rfl rfl rfl (by decide +kernel) hR
def f_X9_least (a0 : Int32) (a1 : Int32) : Option Int32 := if a1 ≤ a0 then some a1 else some a0
abbrev rm_X9_least : Room := ({ frames := 1, cells := 0, slots := 0, locals := 18 })
set_option maxHeartbeats 4000000 in
theorem m_X9_least (l : Launch) (a0 : Int32) (a1 : Int32) (r0 : Int32) (hr : f_X9_least a0 a1 = some r0) : PM l yX9_least cX9_least 2 (some FieldType.int) rm_X9_least [.int a0, .int a1] (fun _ => True) (some (.int r0)) := by
  refine fw_of (by decide) (Nat.le_of_ble_eq_true rfl) ?_
  intro p e s m below meth c ls hx hb hrt hts hown hlk hml _ _ hl
  have hl : lv_has ls 2 [(0, .int a0), (1, .int a1)] := hl
  rw [f_X9_least] at hr
  refine lv_iload_n hx hb dX9_least_0 rfl (lv_at hl 0 rfl) ?_
  refine lv_iload_n hx hb dX9_least_1 rfl (lv_at hl 1 rfl) ?_
  have hi1 := br_ite hr
  refine lv_icmp_ge (tgt := 9) hx hb dX9_least_2 (by decide) (fun c1 => ?_) (fun c1 => ?_)
  · have hr := hi1.1 c1
    refine lv_iload_n hx hb dX9_least_9 rfl (lv_at hl 1 rfl) ?_
    exact W.iret hx hb hrt (fun t ht _ => ⟨ret_i hr, ht⟩) noB dX9_least_10 hlk
  · have hr := hi1.2 c1
    refine lv_iload_n hx hb dX9_least_5 rfl (lv_at hl 0 rfl) ?_
    refine lv_goto (tgt := 10) hx hb dX9_least_6 (by decide) ?_
    exact W.iret hx hb hrt (fun t ht _ => ⟨ret_i hr, ht⟩) noB dX9_least_10 hlk
theorem cw_X9_least {R : Room} {s : State} {args : Array Value} {own : String} {index : Nat} (hts : ∀ w ∈ lw_all, w.before args s = true) (hlink : Cond.methodLink own index yX9_least ∈ lw_all) (hR : rm_X9_least.frames + 1 ≤ R.frames ∧ 8 + (2 + 11) + rm_X9_least.locals ≤ R.locals) : CallB R s args own index yX9_least cX9_least 2 (some FieldType.int) (ws_ yX9_least cX9_least 2 (some FieldType.int)) rm_X9_least 0 0 2 ∧ (Cond.static yX9_least).before args s = true :=
  va_cwS 2 hts (lw_S hlink q1315 q111 q1316) rfl rfl rfl (by decide +kernel) hR
def f_X9_turned_L4 (a0 : Int32) : Nat → Int32 → Int32 → Option (Int32)
  | 0, _, _ => none
  | n + 1, x2_1, x1_1 => if 25 ≤ x2_1 then some x1_1 else Option.bind (some ((x1_1 ||| (((a0 >>> (x2_1 &&& 31)) &&& 1) <<< ((((((5 : Int32) * (x2_1 - x2_1 / 5 * 5)) + 5) - 1) - (x2_1 / 5)) &&& 31))) : Int32)) fun v3 => Option.bind (some ((x2_1 + 1) : Int32)) fun v4 => f_X9_turned_L4 a0 n v4 v3
def f_X9_turned (a0 : Int32) : Option Int32 := Option.bind (f_X9_turned_L4 a0 1000 0 0) fun o1 => some o1
abbrev rm_X9_turned : Room := ({ frames := 1, cells := 0, slots := 0, locals := 19 })
set_option maxHeartbeats 4000000 in
theorem m_X9_turned (l : Launch) (a0 : Int32) (r0 : Int32) (hr : f_X9_turned a0 = some r0) : PM l yX9_turned cX9_turned 3 (some FieldType.int) rm_X9_turned [.int a0] (fun _ => True) (some (.int r0)) := by
  refine fw_of (by decide) (Nat.le_of_ble_eq_true rfl) ?_
  intro p e s m below meth c ls hx hb hrt hts hown hlk hml _ _ hl
  have hl : lv_has ls 3 [(0, .int a0)] := hl
  rw [f_X9_turned] at hr
  refine lv_iconst (v := 0) hx hb dX9_turned_0 rfl ?_
  refine lv_istore_n (lv' := [(1, .int 0), (0, .int a0)]) hx hb dX9_turned_1 rfl hl (by decide) rfl (fun ls hl => ?_)
  refine lv_iconst (v := 0) hx hb dX9_turned_2 rfl ?_
  refine lv_istore_n (lv' := [(2, .int 0), (1, .int 0), (0, .int a0)]) hx hb dX9_turned_3 rfl hl (by decide) rfl (fun ls hl => ?_)
  have L1 : ∀ (n : Nat) (x2_1 : Int32) (x1_1 : Int32) (o1 : Int32), f_X9_turned_L4 a0 n x2_1 x1_1 = some o1 → ∀ ls, lv_has ls 3 [(2, .int x2_1), (1, .int x1_1), (0, .int a0)] → (∀ ls, lv_has ls 3 [(1, .int o1)] → WP p l e rm_X9_turned s m [.int a0] below meth c (some (.int r0)) 38 ls []) → WP p l e rm_X9_turned s m [.int a0] below meth c (some (.int r0)) 4 ls [] := by
    intro n
    induction n with
    | zero => intro x2_1 x1_1 o1 hr; rw [f_X9_turned_L4] at hr; cases hr
    | succ n ih =>
      intro x2_1 x1_1 o1 hr ls hl kx
      rw [f_X9_turned_L4] at hr
      refine lv_iload_n hx hb dX9_turned_4 rfl (lv_at hl 0 rfl) ?_
      refine lv_bipush (v := 25) hx hb dX9_turned_5 rfl ?_
      have hi2 := br_ite hr
      refine lv_icmp_ge (tgt := 38) hx hb dX9_turned_7 (by decide) (fun c2 => ?_) (fun c2 => ?_)
      · have hr := hi2.1 c2
        obtain rfl := Option.some.inj hr
        exact kx ls (lv_sub hl [1] rfl)
      · have hr := hi2.2 c2
        refine lv_iload_n hx hb dX9_turned_10 rfl (lv_at hl 1 rfl) ?_
        refine lv_iload_n hx hb dX9_turned_11 rfl (lv_at hl 2 rfl) ?_
        refine lv_iload_n hx hb dX9_turned_12 rfl (lv_at hl 0 rfl) ?_
        refine lv_ishr hx hb dX9_turned_13 ?_
        refine lv_iconst (v := 1) hx hb dX9_turned_14 rfl ?_
        refine lv_iand hx hb dX9_turned_15 ?_
        refine lv_iconst (v := 5) hx hb dX9_turned_16 rfl ?_
        refine lv_iload_n hx hb dX9_turned_17 rfl (lv_at hl 0 rfl) ?_
        refine lv_iconst (v := 5) hx hb dX9_turned_18 rfl ?_
        refine lv_irem hx hb dX9_turned_19 (by decide) ?_
        refine lv_imul hx hb dX9_turned_20 ?_
        refine lv_iconst (v := 5) hx hb dX9_turned_21 rfl ?_
        refine lv_iadd hx hb dX9_turned_22 ?_
        refine lv_iconst (v := 1) hx hb dX9_turned_23 rfl ?_
        refine lv_isub hx hb dX9_turned_24 ?_
        refine lv_iload_n hx hb dX9_turned_25 rfl (lv_at hl 0 rfl) ?_
        refine lv_iconst (v := 5) hx hb dX9_turned_26 rfl ?_
        refine lv_idiv hx hb dX9_turned_27 (by decide) ?_
        refine lv_isub hx hb dX9_turned_28 ?_
        refine lv_ishl hx hb dX9_turned_29 ?_
        refine lv_ior hx hb dX9_turned_30 ?_
        refine lv_topi (fun v3 hv3 => ?_)
        have hr := br_letv hr hv3
        refine lv_istore_n (lv' := [(1, .int v3), (2, .int x2_1), (0, .int a0)]) hx hb dX9_turned_31 rfl hl (by decide) rfl (fun ls hl => ?_)
        obtain ⟨v4, hv4, hr⟩ := br_let hr
        refine lv_iinc (v := v4) (lv' := [(2, .int v4), (1, .int v3), (0, .int a0)]) hx hb dX9_turned_32 hl (k := 1) rfl (hv4 ▸ rfl) (by decide) rfl (fun ls hl => ?_)
        refine lv_goto (tgt := 4) hx hb dX9_turned_35 (by decide) ?_
        exact ih v4 v3 _ hr ls (lv_sub hl [0, 1, 2] rfl) kx
  obtain ⟨o1, ho1, hr⟩ := br_bind hr
  refine L1 1000 0 0 o1 ho1 ls (lv_sub hl [0, 1, 2] rfl) (fun ls hl => ?_)
  refine lv_iload_n hx hb dX9_turned_38 rfl (lv_at hl 0 rfl) ?_
  exact W.iret hx hb hrt (fun t ht _ => ⟨ret_i hr, ht⟩) noB dX9_turned_39 hlk
theorem cw_X9_turned {R : Room} {s : State} {args : Array Value} {own : String} {index : Nat} (hts : ∀ w ∈ lw_all, w.before args s = true) (hlink : Cond.methodLink own index yX9_turned ∈ lw_all) (hR : rm_X9_turned.frames + 1 ≤ R.frames ∧ 8 + (3 + 11) + rm_X9_turned.locals ≤ R.locals) : CallB R s args own index yX9_turned cX9_turned 3 (some FieldType.int) (ws_ yX9_turned cX9_turned 3 (some FieldType.int)) rm_X9_turned 0 0 1 ∧ (Cond.static yX9_turned).before args s = true :=
  va_cwS 1 hts (lw_S hlink q1321 q111 q1322) rfl rfl rfl (by decide +kernel) hR
def f_X9_turnedBy_L4 (a1 : Int32) : Nat → Int32 → Int32 → Option (Int32)
  | 0, _, _ => none
  | n + 1, x3_1, x2_1 => if a1 ≤ x3_1 then some x2_1 else Option.bind (f_X9_turned x2_1) fun o3 => Option.bind (some ((x3_1 + 1) : Int32)) fun v4 => f_X9_turnedBy_L4 a1 n v4 o3
def f_X9_turnedBy (a0 : Int32) (a1 : Int32) : Option Int32 := Option.bind (f_X9_turnedBy_L4 a1 1000 0 a0) fun o1 => some o1
abbrev rm_X9_turnedBy : Room := ({ frames := 2, cells := 0, slots := 0, locals := 41 })
set_option maxHeartbeats 4000000 in
theorem m_X9_turnedBy (l : Launch) (a0 : Int32) (a1 : Int32) (r0 : Int32) (hr : f_X9_turnedBy a0 a1 = some r0) : PM l yX9_turnedBy cX9_turnedBy 4 (some FieldType.int) rm_X9_turnedBy [.int a0, .int a1] (fun _ => True) (some (.int r0)) := by
  refine fw_of (by decide) (Nat.le_of_ble_eq_true rfl) ?_
  intro p e s m below meth c ls hx hb hrt hts hown hlk hml _ _ hl
  have hl : lv_has ls 4 [(0, .int a0), (1, .int a1)] := hl
  rw [f_X9_turnedBy] at hr
  refine lv_iload_n hx hb dX9_turnedBy_0 rfl (lv_at hl 0 rfl) ?_
  refine lv_istore_n (lv' := [(2, .int a0), (0, .int a0), (1, .int a1)]) hx hb dX9_turnedBy_1 rfl hl (by decide) rfl (fun ls hl => ?_)
  refine lv_iconst (v := 0) hx hb dX9_turnedBy_2 rfl ?_
  refine lv_istore_n (lv' := [(3, .int 0), (2, .int a0), (0, .int a0), (1, .int a1)]) hx hb dX9_turnedBy_3 rfl hl (by decide) rfl (fun ls hl => ?_)
  have L1 : ∀ (n : Nat) (x3_1 : Int32) (x2_1 : Int32) (o1 : Int32), f_X9_turnedBy_L4 a1 n x3_1 x2_1 = some o1 → ∀ ls, lv_has ls 4 [(3, .int x3_1), (2, .int x2_1), (1, .int a1)] → (∀ ls, lv_has ls 4 [(2, .int o1)] → WP p l e rm_X9_turnedBy s m [.int a0, .int a1] below meth c (some (.int r0)) 20 ls []) → WP p l e rm_X9_turnedBy s m [.int a0, .int a1] below meth c (some (.int r0)) 4 ls [] := by
    intro n
    induction n with
    | zero => intro x3_1 x2_1 o1 hr; rw [f_X9_turnedBy_L4] at hr; cases hr
    | succ n ih =>
      intro x3_1 x2_1 o1 hr ls hl kx
      rw [f_X9_turnedBy_L4] at hr
      refine lv_iload_n hx hb dX9_turnedBy_4 rfl (lv_at hl 0 rfl) ?_
      refine lv_iload_n hx hb dX9_turnedBy_5 rfl (lv_at hl 2 rfl) ?_
      have hi2 := br_ite hr
      refine lv_icmp_ge (tgt := 20) hx hb dX9_turnedBy_6 (by decide) (fun c2 => ?_) (fun c2 => ?_)
      · have hr := hi2.1 c2
        obtain rfl := Option.some.inj hr
        exact kx ls (lv_sub hl [1] rfl)
      · have hr := hi2.2 c2
        refine lv_iload_n hx hb dX9_turnedBy_9 rfl (lv_at hl 1 rfl) ?_
        obtain ⟨o3, ho3, hr⟩ := br_bind hr
        refine fwS (As := [.int x2_1]) (rest := []) hx hb hml hown hts (m_X9_turned l x2_1 o3 ho3) (cw_X9_turned hts q1320 ⟨Nat.le_of_ble_eq_true rfl, Nat.le_of_ble_eq_true rfl⟩) rfl hl.1 rfl (Nat.le_of_ble_eq_true rfl) dX9_turnedBy_10 ⟨Nat.zero_le _, Nat.zero_le _⟩ ?_
        refine lv_istore_n (lv' := [(2, .int o3), (3, .int x3_1), (1, .int a1)]) hx hb dX9_turnedBy_13 rfl hl (by decide) rfl (fun ls hl => ?_)
        obtain ⟨v4, hv4, hr⟩ := br_let hr
        refine lv_iinc (v := v4) (lv' := [(3, .int v4), (2, .int o3), (1, .int a1)]) hx hb dX9_turnedBy_14 hl (k := 1) rfl (hv4 ▸ rfl) (by decide) rfl (fun ls hl => ?_)
        refine lv_goto (tgt := 4) hx hb dX9_turnedBy_17 (by decide) ?_
        exact ih v4 o3 _ hr ls (lv_sub hl [0, 1, 2] rfl) kx
  obtain ⟨o1, ho1, hr⟩ := br_bind hr
  refine L1 1000 0 a0 o1 ho1 ls (lv_sub hl [0, 1, 3] rfl) (fun ls hl => ?_)
  refine lv_iload_n hx hb dX9_turnedBy_20 rfl (lv_at hl 0 rfl) ?_
  exact W.iret hx hb hrt (fun t ht _ => ⟨ret_i hr, ht⟩) noB dX9_turnedBy_21 hlk
theorem cw_X9_turnedBy {R : Room} {s : State} {args : Array Value} {own : String} {index : Nat} (hts : ∀ w ∈ lw_all, w.before args s = true) (hlink : Cond.methodLink own index yX9_turnedBy ∈ lw_all) (hR : rm_X9_turnedBy.frames + 1 ≤ R.frames ∧ 8 + (4 + 11) + rm_X9_turnedBy.locals ≤ R.locals) : CallB R s args own index yX9_turnedBy cX9_turnedBy 4 (some FieldType.int) (ws_ yX9_turnedBy cX9_turnedBy 4 (some FieldType.int)) rm_X9_turnedBy 0 0 2 ∧ (Cond.static yX9_turnedBy).before args s = true :=
  va_cwS 2 hts (lw_S hlink q1318 q111 q1319) rfl rfl rfl (by decide +kernel) hR
def f_X9_besideOf_L4 : Nat → Int32 → Int32 → Option (Int32)
  | 0, _, _ => none
  | n + 1, x2_1, x1_1 => if 5 ≤ x2_1 then some x1_1 else Option.bind (some ((x1_1 ||| ((1 : Int32) <<< (((5 : Int32) * x2_1) &&& 31))) : Int32)) fun v3 => Option.bind (some ((x2_1 + 1) : Int32)) fun v4 => f_X9_besideOf_L4 n v4 v3
def f_X9_besideOf (a0 : Int32) : Option Int32 := Option.bind (f_X9_besideOf_L4 1000 0 0) fun o1 => Option.bind (some ((o1 <<< ((4 : Int32) &&& 31)) : Int32)) fun v5 => some (((((a0 <<< ((5 : Int32) &&& 31)) ||| (a0 >>> ((5 : Int32) &&& 31))) ||| ((a0 &&& (v5 ^^^ (-1))) <<< ((1 : Int32) &&& 31))) ||| ((a0 &&& (o1 ^^^ (-1))) >>> ((1 : Int32) &&& 31))) &&& 33554431)
abbrev rm_X9_besideOf : Room := ({ frames := 1, cells := 0, slots := 0, locals := 19 })
set_option maxHeartbeats 4000000 in
theorem m_X9_besideOf (l : Launch) (a0 : Int32) (r0 : Int32) (hr : f_X9_besideOf a0 = some r0) : PM l yX9_besideOf cX9_besideOf 3 (some FieldType.int) rm_X9_besideOf [.int a0] (fun _ => True) (some (.int r0)) := by
  refine fw_of (by decide) (Nat.le_of_ble_eq_true rfl) ?_
  intro p e s m below meth c ls hx hb hrt hts hown hlk hml _ _ hl
  have hl : lv_has ls 3 [(0, .int a0)] := hl
  rw [f_X9_besideOf] at hr
  refine lv_iconst (v := 0) hx hb dX9_besideOf_0 rfl ?_
  refine lv_istore_n (lv' := [(1, .int 0), (0, .int a0)]) hx hb dX9_besideOf_1 rfl hl (by decide) rfl (fun ls hl => ?_)
  refine lv_iconst (v := 0) hx hb dX9_besideOf_2 rfl ?_
  refine lv_istore_n (lv' := [(2, .int 0), (1, .int 0), (0, .int a0)]) hx hb dX9_besideOf_3 rfl hl (by decide) rfl (fun ls hl => ?_)
  have L1 : ∀ (n : Nat) (x2_1 : Int32) (x1_1 : Int32) (o1 : Int32), f_X9_besideOf_L4 n x2_1 x1_1 = some o1 → ∀ ls, lv_has ls 3 [(2, .int x2_1), (1, .int x1_1), (0, .int a0)] → (∀ ls, lv_has ls 3 [(1, .int o1), (0, .int a0)] → WP p l e rm_X9_besideOf s m [.int a0] below meth c (some (.int r0)) 23 ls []) → WP p l e rm_X9_besideOf s m [.int a0] below meth c (some (.int r0)) 4 ls [] := by
    intro n
    induction n with
    | zero => intro x2_1 x1_1 o1 hr; rw [f_X9_besideOf_L4] at hr; cases hr
    | succ n ih =>
      intro x2_1 x1_1 o1 hr ls hl kx
      rw [f_X9_besideOf_L4] at hr
      refine lv_iload_n hx hb dX9_besideOf_4 rfl (lv_at hl 0 rfl) ?_
      refine lv_iconst (v := 5) hx hb dX9_besideOf_5 rfl ?_
      have hi2 := br_ite hr
      refine lv_icmp_ge (tgt := 23) hx hb dX9_besideOf_6 (by decide) (fun c2 => ?_) (fun c2 => ?_)
      · have hr := hi2.1 c2
        obtain rfl := Option.some.inj hr
        exact kx ls (lv_sub hl [1, 2] rfl)
      · have hr := hi2.2 c2
        refine lv_iload_n hx hb dX9_besideOf_9 rfl (lv_at hl 1 rfl) ?_
        refine lv_iconst (v := 1) hx hb dX9_besideOf_10 rfl ?_
        refine lv_iconst (v := 5) hx hb dX9_besideOf_11 rfl ?_
        refine lv_iload_n hx hb dX9_besideOf_12 rfl (lv_at hl 0 rfl) ?_
        refine lv_imul hx hb dX9_besideOf_13 ?_
        refine lv_ishl hx hb dX9_besideOf_14 ?_
        refine lv_ior hx hb dX9_besideOf_15 ?_
        refine lv_topi (fun v3 hv3 => ?_)
        have hr := br_letv hr hv3
        refine lv_istore_n (lv' := [(1, .int v3), (2, .int x2_1), (0, .int a0)]) hx hb dX9_besideOf_16 rfl hl (by decide) rfl (fun ls hl => ?_)
        obtain ⟨v4, hv4, hr⟩ := br_let hr
        refine lv_iinc (v := v4) (lv' := [(2, .int v4), (1, .int v3), (0, .int a0)]) hx hb dX9_besideOf_17 hl (k := 1) rfl (hv4 ▸ rfl) (by decide) rfl (fun ls hl => ?_)
        refine lv_goto (tgt := 4) hx hb dX9_besideOf_20 (by decide) ?_
        exact ih v4 v3 _ hr ls (lv_sub hl [0, 1, 2] rfl) kx
  obtain ⟨o1, ho1, hr⟩ := br_bind hr
  refine L1 1000 0 0 o1 ho1 ls (lv_sub hl [0, 1, 2] rfl) (fun ls hl => ?_)
  refine lv_iload_n hx hb dX9_besideOf_23 rfl (lv_at hl 0 rfl) ?_
  refine lv_iconst (v := 4) hx hb dX9_besideOf_24 rfl ?_
  refine lv_ishl hx hb dX9_besideOf_25 ?_
  refine lv_topi (fun v5 hv5 => ?_)
  have hr := br_letv hr hv5
  refine lv_istore_n (lv' := [(2, .int v5), (1, .int o1), (0, .int a0)]) hx hb dX9_besideOf_26 rfl hl (by decide) rfl (fun ls hl => ?_)
  refine lv_iload_n hx hb dX9_besideOf_27 rfl (lv_at hl 2 rfl) ?_
  refine lv_iconst (v := 5) hx hb dX9_besideOf_28 rfl ?_
  refine lv_ishl hx hb dX9_besideOf_29 ?_
  refine lv_iload_n hx hb dX9_besideOf_30 rfl (lv_at hl 2 rfl) ?_
  refine lv_iconst (v := 5) hx hb dX9_besideOf_31 rfl ?_
  refine lv_ishr hx hb dX9_besideOf_32 ?_
  refine lv_ior hx hb dX9_besideOf_33 ?_
  refine lv_iload_n hx hb dX9_besideOf_34 rfl (lv_at hl 2 rfl) ?_
  refine lv_iload_n hx hb dX9_besideOf_35 rfl (lv_at hl 0 rfl) ?_
  refine lv_iconst (v := (-1)) hx hb dX9_besideOf_36 rfl ?_
  refine lv_ixor hx hb dX9_besideOf_37 ?_
  refine lv_iand hx hb dX9_besideOf_38 ?_
  refine lv_iconst (v := 1) hx hb dX9_besideOf_39 rfl ?_
  refine lv_ishl hx hb dX9_besideOf_40 ?_
  refine lv_ior hx hb dX9_besideOf_41 ?_
  refine lv_iload_n hx hb dX9_besideOf_42 rfl (lv_at hl 2 rfl) ?_
  refine lv_iload_n hx hb dX9_besideOf_43 rfl (lv_at hl 1 rfl) ?_
  refine lv_iconst (v := (-1)) hx hb dX9_besideOf_44 rfl ?_
  refine lv_ixor hx hb dX9_besideOf_45 ?_
  refine lv_iand hx hb dX9_besideOf_46 ?_
  refine lv_iconst (v := 1) hx hb dX9_besideOf_47 rfl ?_
  refine lv_ishr hx hb dX9_besideOf_48 ?_
  refine lv_ior hx hb dX9_besideOf_49 ?_
  refine lv_ldc (v := 33554431) hx hb hown (hts _ q1179) dX9_besideOf_50 ?_
  refine lv_iand hx hb dX9_besideOf_52 ?_
  exact W.iret hx hb hrt (fun t ht _ => ⟨ret_i hr, ht⟩) noB dX9_besideOf_53 hlk
theorem cw_X9_besideOf {R : Room} {s : State} {args : Array Value} {own : String} {index : Nat} (hts : ∀ w ∈ lw_all, w.before args s = true) (hlink : Cond.methodLink own index yX9_besideOf ∈ lw_all) (hR : rm_X9_besideOf.frames + 1 ≤ R.frames ∧ 8 + (3 + 11) + rm_X9_besideOf.locals ≤ R.locals) : CallB R s args own index yX9_besideOf cX9_besideOf 3 (some FieldType.int) (ws_ yX9_besideOf cX9_besideOf 3 (some FieldType.int)) rm_X9_besideOf 0 0 1 ∧ (Cond.static yX9_besideOf).before args s = true :=
  va_cwS 1 hts (lw_S hlink q1336 q111 q1337) rfl rfl rfl (by decide +kernel) hR
def f_X9_bits_L4 (a0 : Int32) : Nat → Int32 → Int32 → Option (Int32)
  | 0, _, _ => none
  | n + 1, x2_1, x1_1 => if 25 ≤ x2_1 then some x1_1 else Option.bind (some ((x1_1 + ((a0 >>> (x2_1 &&& 31)) &&& 1)) : Int32)) fun v3 => Option.bind (some ((x2_1 + 1) : Int32)) fun v4 => f_X9_bits_L4 a0 n v4 v3
def f_X9_bits (a0 : Int32) : Option Int32 := Option.bind (f_X9_bits_L4 a0 1000 0 0) fun o1 => some o1
abbrev rm_X9_bits : Room := ({ frames := 1, cells := 0, slots := 0, locals := 19 })
set_option maxHeartbeats 4000000 in
theorem m_X9_bits (l : Launch) (a0 : Int32) (r0 : Int32) (hr : f_X9_bits a0 = some r0) : PM l yX9_bits cX9_bits 3 (some FieldType.int) rm_X9_bits [.int a0] (fun _ => True) (some (.int r0)) := by
  refine fw_of (by decide) (Nat.le_of_ble_eq_true rfl) ?_
  intro p e s m below meth c ls hx hb hrt hts hown hlk hml _ _ hl
  have hl : lv_has ls 3 [(0, .int a0)] := hl
  rw [f_X9_bits] at hr
  refine lv_iconst (v := 0) hx hb dX9_bits_0 rfl ?_
  refine lv_istore_n (lv' := [(1, .int 0), (0, .int a0)]) hx hb dX9_bits_1 rfl hl (by decide) rfl (fun ls hl => ?_)
  refine lv_iconst (v := 0) hx hb dX9_bits_2 rfl ?_
  refine lv_istore_n (lv' := [(2, .int 0), (1, .int 0), (0, .int a0)]) hx hb dX9_bits_3 rfl hl (by decide) rfl (fun ls hl => ?_)
  have L1 : ∀ (n : Nat) (x2_1 : Int32) (x1_1 : Int32) (o1 : Int32), f_X9_bits_L4 a0 n x2_1 x1_1 = some o1 → ∀ ls, lv_has ls 3 [(2, .int x2_1), (1, .int x1_1), (0, .int a0)] → (∀ ls, lv_has ls 3 [(1, .int o1)] → WP p l e rm_X9_bits s m [.int a0] below meth c (some (.int r0)) 24 ls []) → WP p l e rm_X9_bits s m [.int a0] below meth c (some (.int r0)) 4 ls [] := by
    intro n
    induction n with
    | zero => intro x2_1 x1_1 o1 hr; rw [f_X9_bits_L4] at hr; cases hr
    | succ n ih =>
      intro x2_1 x1_1 o1 hr ls hl kx
      rw [f_X9_bits_L4] at hr
      refine lv_iload_n hx hb dX9_bits_4 rfl (lv_at hl 0 rfl) ?_
      refine lv_bipush (v := 25) hx hb dX9_bits_5 rfl ?_
      have hi2 := br_ite hr
      refine lv_icmp_ge (tgt := 24) hx hb dX9_bits_7 (by decide) (fun c2 => ?_) (fun c2 => ?_)
      · have hr := hi2.1 c2
        obtain rfl := Option.some.inj hr
        exact kx ls (lv_sub hl [1] rfl)
      · have hr := hi2.2 c2
        refine lv_iload_n hx hb dX9_bits_10 rfl (lv_at hl 1 rfl) ?_
        refine lv_iload_n hx hb dX9_bits_11 rfl (lv_at hl 2 rfl) ?_
        refine lv_iload_n hx hb dX9_bits_12 rfl (lv_at hl 0 rfl) ?_
        refine lv_ishr hx hb dX9_bits_13 ?_
        refine lv_iconst (v := 1) hx hb dX9_bits_14 rfl ?_
        refine lv_iand hx hb dX9_bits_15 ?_
        refine lv_iadd hx hb dX9_bits_16 ?_
        refine lv_topi (fun v3 hv3 => ?_)
        have hr := br_letv hr hv3
        refine lv_istore_n (lv' := [(1, .int v3), (2, .int x2_1), (0, .int a0)]) hx hb dX9_bits_17 rfl hl (by decide) rfl (fun ls hl => ?_)
        obtain ⟨v4, hv4, hr⟩ := br_let hr
        refine lv_iinc (v := v4) (lv' := [(2, .int v4), (1, .int v3), (0, .int a0)]) hx hb dX9_bits_18 hl (k := 1) rfl (hv4 ▸ rfl) (by decide) rfl (fun ls hl => ?_)
        refine lv_goto (tgt := 4) hx hb dX9_bits_21 (by decide) ?_
        exact ih v4 v3 _ hr ls (lv_sub hl [0, 1, 2] rfl) kx
  obtain ⟨o1, ho1, hr⟩ := br_bind hr
  refine L1 1000 0 0 o1 ho1 ls (lv_sub hl [0, 1, 2] rfl) (fun ls hl => ?_)
  refine lv_iload_n hx hb dX9_bits_24 rfl (lv_at hl 0 rfl) ?_
  exact W.iret hx hb hrt (fun t ht _ => ⟨ret_i hr, ht⟩) noB dX9_bits_25 hlk
theorem cw_X9_bits {R : Room} {s : State} {args : Array Value} {own : String} {index : Nat} (hts : ∀ w ∈ lw_all, w.before args s = true) (hlink : Cond.methodLink own index yX9_bits ∈ lw_all) (hR : rm_X9_bits.frames + 1 ≤ R.frames ∧ 8 + (3 + 11) + rm_X9_bits.locals ≤ R.locals) : CallB R s args own index yX9_bits cX9_bits 3 (some FieldType.int) (ws_ yX9_bits cX9_bits 3 (some FieldType.int)) rm_X9_bits 0 0 1 ∧ (Cond.static yX9_bits).before args s = true :=
  va_cwS 1 hts (lw_S hlink q1339 q111 q1340) rfl rfl rfl (by decide +kernel) hR
def f_X9_heapOf_L8 (a0 : Int32) : Nat → Int32 → Int32 → Option (Int32)
  | 0, _, _ => none
  | n + 1, x3_2, x2_2 => if x3_2 = 0 then some x2_2 else Option.bind (f_X9_besideOf x2_2) fun o4 => Option.bind (some (((o4 &&& a0) &&& (x2_2 ^^^ (-1))) : Int32)) fun v5 => Option.bind (some ((x2_2 ||| v5) : Int32)) fun v6 => f_X9_heapOf_L8 a0 n v5 v6
def f_X9_heapOf (a0 : Int32) (a1 : Int32) : Option Int32 := Option.bind (some ((((1 : Int32) <<< (a1 &&& 31)) &&& a0) : Int32)) fun v1 => Option.bind (f_X9_heapOf_L8 a0 1000 v1 v1) fun o2 => some o2
abbrev rm_X9_heapOf : Room := ({ frames := 2, cells := 0, slots := 0, locals := 41 })
set_option maxHeartbeats 4000000 in
theorem m_X9_heapOf (l : Launch) (a0 : Int32) (a1 : Int32) (r0 : Int32) (hr : f_X9_heapOf a0 a1 = some r0) : PM l yX9_heapOf cX9_heapOf 4 (some FieldType.int) rm_X9_heapOf [.int a0, .int a1] (fun _ => True) (some (.int r0)) := by
  refine fw_of (by decide) (Nat.le_of_ble_eq_true rfl) ?_
  intro p e s m below meth c ls hx hb hrt hts hown hlk hml _ _ hl
  have hl : lv_has ls 4 [(0, .int a0), (1, .int a1)] := hl
  rw [f_X9_heapOf] at hr
  refine lv_iconst (v := 1) hx hb dX9_heapOf_0 rfl ?_
  refine lv_iload_n hx hb dX9_heapOf_1 rfl (lv_at hl 1 rfl) ?_
  refine lv_ishl hx hb dX9_heapOf_2 ?_
  refine lv_iload_n hx hb dX9_heapOf_3 rfl (lv_at hl 0 rfl) ?_
  refine lv_iand hx hb dX9_heapOf_4 ?_
  refine lv_topi (fun v1 hv1 => ?_)
  have hr := br_letv hr hv1
  refine lv_istore_n (lv' := [(2, .int v1), (0, .int a0), (1, .int a1)]) hx hb dX9_heapOf_5 rfl hl (by decide) rfl (fun ls hl => ?_)
  refine lv_iload_n hx hb dX9_heapOf_6 rfl (lv_at hl 0 rfl) ?_
  refine lv_istore_n (lv' := [(3, .int v1), (2, .int v1), (0, .int a0), (1, .int a1)]) hx hb dX9_heapOf_7 rfl hl (by decide) rfl (fun ls hl => ?_)
  have L2 : ∀ (n : Nat) (x3_2 : Int32) (x2_2 : Int32) (o2 : Int32), f_X9_heapOf_L8 a0 n x3_2 x2_2 = some o2 → ∀ ls, lv_has ls 4 [(3, .int x3_2), (2, .int x2_2), (0, .int a0)] → (∀ ls, lv_has ls 4 [(2, .int o2)] → WP p l e rm_X9_heapOf s m [.int a0, .int a1] below meth c (some (.int r0)) 30 ls []) → WP p l e rm_X9_heapOf s m [.int a0, .int a1] below meth c (some (.int r0)) 8 ls [] := by
    intro n
    induction n with
    | zero => intro x3_2 x2_2 o2 hr; rw [f_X9_heapOf_L8] at hr; cases hr
    | succ n ih =>
      intro x3_2 x2_2 o2 hr ls hl kx
      rw [f_X9_heapOf_L8] at hr
      refine lv_iload_n hx hb dX9_heapOf_8 rfl (lv_at hl 0 rfl) ?_
      have hi3 := br_ite hr
      refine lv_if_eq (tgt := 30) hx hb dX9_heapOf_9 (by decide) (fun c3 => ?_) (fun c3 => ?_)
      · have hr := hi3.1 c3
        obtain rfl := Option.some.inj hr
        exact kx ls (lv_sub hl [1] rfl)
      · have hr := hi3.2 c3
        refine lv_iload_n hx hb dX9_heapOf_12 rfl (lv_at hl 1 rfl) ?_
        obtain ⟨o4, ho4, hr⟩ := br_bind hr
        refine fwS (As := [.int x2_2]) (rest := []) hx hb hml hown hts (m_X9_besideOf l x2_2 o4 ho4) (cw_X9_besideOf hts q1335 ⟨Nat.le_of_ble_eq_true rfl, Nat.le_of_ble_eq_true rfl⟩) rfl hl.1 rfl (Nat.le_of_ble_eq_true rfl) dX9_heapOf_13 ⟨Nat.zero_le _, Nat.zero_le _⟩ ?_
        refine lv_iload_n hx hb dX9_heapOf_16 rfl (lv_at hl 2 rfl) ?_
        refine lv_iand hx hb dX9_heapOf_17 ?_
        refine lv_iload_n hx hb dX9_heapOf_18 rfl (lv_at hl 1 rfl) ?_
        refine lv_iconst (v := (-1)) hx hb dX9_heapOf_19 rfl ?_
        refine lv_ixor hx hb dX9_heapOf_20 ?_
        refine lv_iand hx hb dX9_heapOf_21 ?_
        refine lv_topi (fun v5 hv5 => ?_)
        have hr := br_letv hr hv5
        refine lv_istore_n (lv' := [(3, .int v5), (2, .int x2_2), (0, .int a0)]) hx hb dX9_heapOf_22 rfl hl (by decide) rfl (fun ls hl => ?_)
        refine lv_iload_n hx hb dX9_heapOf_23 rfl (lv_at hl 1 rfl) ?_
        refine lv_iload_n hx hb dX9_heapOf_24 rfl (lv_at hl 0 rfl) ?_
        refine lv_ior hx hb dX9_heapOf_25 ?_
        refine lv_topi (fun v6 hv6 => ?_)
        have hr := br_letv hr hv6
        refine lv_istore_n (lv' := [(2, .int v6), (3, .int v5), (0, .int a0)]) hx hb dX9_heapOf_26 rfl hl (by decide) rfl (fun ls hl => ?_)
        refine lv_goto (tgt := 8) hx hb dX9_heapOf_27 (by decide) ?_
        exact ih v5 v6 _ hr ls (lv_sub hl [1, 0, 2] rfl) kx
  obtain ⟨o2, ho2, hr⟩ := br_bind hr
  refine L2 1000 v1 v1 o2 ho2 ls (lv_sub hl [0, 1, 2] rfl) (fun ls hl => ?_)
  refine lv_iload_n hx hb dX9_heapOf_30 rfl (lv_at hl 0 rfl) ?_
  exact W.iret hx hb hrt (fun t ht _ => ⟨ret_i hr, ht⟩) noB dX9_heapOf_31 hlk
theorem cw_X9_heapOf {R : Room} {s : State} {args : Array Value} {own : String} {index : Nat} (hts : ∀ w ∈ lw_all, w.before args s = true) (hlink : Cond.methodLink own index yX9_heapOf ∈ lw_all) (hR : rm_X9_heapOf.frames + 1 ≤ R.frames ∧ 8 + (4 + 11) + rm_X9_heapOf.locals ≤ R.locals) : CallB R s args own index yX9_heapOf cX9_heapOf 4 (some FieldType.int) (ws_ yX9_heapOf cX9_heapOf 4 (some FieldType.int)) rm_X9_heapOf 0 0 2 ∧ (Cond.static yX9_heapOf).before args s = true :=
  va_cwS 2 hts (lw_S hlink q1342 q111 q1343) rfl rfl rfl (by decide +kernel) hR
def f_X9_has (a0 : Int32) (a1 : Int32) : Option Int32 := if ((a0 >>> (a1 &&& 31)) &&& 1) = 1 then some 1 else some 0
abbrev rm_X9_has : Room := ({ frames := 1, cells := 0, slots := 0, locals := 18 })
set_option maxHeartbeats 4000000 in
theorem m_X9_has (l : Launch) (a0 : Int32) (a1 : Int32) (r0 : Int32) (hr : f_X9_has a0 a1 = some r0) : PM l yX9_has cX9_has 2 (some FieldType.boolean) rm_X9_has [.int a0, .int a1] (fun _ => True) (some (.int r0)) := by
  refine fw_of (by decide) (Nat.le_of_ble_eq_true rfl) ?_
  intro p e s m below meth c ls hx hb hrt hts hown hlk hml _ _ hl
  have hl : lv_has ls 2 [(0, .int a0), (1, .int a1)] := hl
  rw [f_X9_has] at hr
  refine lv_iload_n hx hb dX9_has_0 rfl (lv_at hl 0 rfl) ?_
  refine lv_iload_n hx hb dX9_has_1 rfl (lv_at hl 1 rfl) ?_
  refine lv_ishr hx hb dX9_has_2 ?_
  refine lv_iconst (v := 1) hx hb dX9_has_3 rfl ?_
  refine lv_iand hx hb dX9_has_4 ?_
  refine lv_iconst (v := 1) hx hb dX9_has_5 rfl ?_
  have hi1 := br_ite hr
  refine lv_icmp_ne (tgt := 13) hx hb dX9_has_6 (by decide) (fun c1 => ?_) (fun c1 => ?_)
  · have hr := hi1.2 c1
    refine lv_iconst (v := 0) hx hb dX9_has_13 rfl ?_
    exact W.zret hx hb hrt rfl (fun t ht _ => ⟨ret_i hr, ht⟩) noB dX9_has_14 hlk
  · have hr := hi1.1 c1
    refine lv_iconst (v := 1) hx hb dX9_has_9 rfl ?_
    refine lv_goto (tgt := 14) hx hb dX9_has_10 (by decide) ?_
    exact W.zret hx hb hrt rfl (fun t ht _ => ⟨ret_i hr, ht⟩) noB dX9_has_14 hlk
theorem cw_X9_has {R : Room} {s : State} {args : Array Value} {own : String} {index : Nat} (hts : ∀ w ∈ lw_all, w.before args s = true) (hlink : Cond.methodLink own index yX9_has ∈ lw_all) (hR : rm_X9_has.frames + 1 ≤ R.frames ∧ 8 + (2 + 11) + rm_X9_has.locals ≤ R.locals) : CallB R s args own index yX9_has cX9_has 2 (some FieldType.boolean) (ws_ yX9_has cX9_has 2 (some FieldType.boolean)) rm_X9_has 0 0 2 ∧ (Cond.static yX9_has).before args s = true :=
  va_cwS 2 hts (lw_S hlink q1366 q111 q1367) rfl rfl rfl (by decide +kernel) hR
def f_X9_leastOf_L2 (a0 : Int32) : Nat → Int32 → Option (Int32)
  | 0, _ => none
  | n + 1, x1_1 => Option.bind (f_X9_has a0 x1_1) fun o2 => if o2 = 0 then Option.bind (some ((x1_1 + 1) : Int32)) fun v4 => f_X9_leastOf_L2 a0 n v4 else some x1_1
def f_X9_leastOf (a0 : Int32) : Option Int32 := Option.bind (f_X9_leastOf_L2 a0 1000 0) fun o1 => some o1
abbrev rm_X9_leastOf : Room := ({ frames := 2, cells := 0, slots := 0, locals := 39 })
set_option maxHeartbeats 4000000 in
theorem m_X9_leastOf (l : Launch) (a0 : Int32) (r0 : Int32) (hr : f_X9_leastOf a0 = some r0) : PM l yX9_leastOf cX9_leastOf 2 (some FieldType.int) rm_X9_leastOf [.int a0] (fun _ => True) (some (.int r0)) := by
  refine fw_of (by decide) (Nat.le_of_ble_eq_true rfl) ?_
  intro p e s m below meth c ls hx hb hrt hts hown hlk hml _ _ hl
  have hl : lv_has ls 2 [(0, .int a0)] := hl
  rw [f_X9_leastOf] at hr
  refine lv_iconst (v := 0) hx hb dX9_leastOf_0 rfl ?_
  refine lv_istore_n (lv' := [(1, .int 0), (0, .int a0)]) hx hb dX9_leastOf_1 rfl hl (by decide) rfl (fun ls hl => ?_)
  have L1 : ∀ (n : Nat) (x1_1 : Int32) (o1 : Int32), f_X9_leastOf_L2 a0 n x1_1 = some o1 → ∀ ls, lv_has ls 2 [(1, .int x1_1), (0, .int a0)] → (∀ ls, lv_has ls 2 [(1, .int o1)] → WP p l e rm_X9_leastOf s m [.int a0] below meth c (some (.int r0)) 16 ls []) → WP p l e rm_X9_leastOf s m [.int a0] below meth c (some (.int r0)) 2 ls [] := by
    intro n
    induction n with
    | zero => intro x1_1 o1 hr; rw [f_X9_leastOf_L2] at hr; cases hr
    | succ n ih =>
      intro x1_1 o1 hr ls hl kx
      rw [f_X9_leastOf_L2] at hr
      refine lv_iload_n hx hb dX9_leastOf_2 rfl (lv_at hl 1 rfl) ?_
      refine lv_iload_n hx hb dX9_leastOf_3 rfl (lv_at hl 0 rfl) ?_
      obtain ⟨o2, ho2, hr⟩ := br_bind hr
      refine fwS (As := [.int a0, .int x1_1]) (rest := []) hx hb hml hown hts (m_X9_has l a0 x1_1 o2 ho2) (cw_X9_has hts q1365 ⟨Nat.le_of_ble_eq_true rfl, Nat.le_of_ble_eq_true rfl⟩) rfl hl.1 rfl (Nat.le_of_ble_eq_true rfl) dX9_leastOf_4 ⟨Nat.zero_le _, Nat.zero_le _⟩ ?_
      have hi3 := br_ite hr
      refine lv_if_ne (tgt := 16) hx hb dX9_leastOf_7 (by decide) (fun c3 => ?_) (fun c3 => ?_)
      · have hr := hi3.2 c3
        obtain rfl := Option.some.inj hr
        exact kx ls (lv_sub hl [0] rfl)
      · have hr := hi3.1 c3
        obtain ⟨v4, hv4, hr⟩ := br_let hr
        refine lv_iinc (v := v4) (lv' := [(1, .int v4), (0, .int a0)]) hx hb dX9_leastOf_10 hl (k := 0) rfl (hv4 ▸ rfl) (by decide) rfl (fun ls hl => ?_)
        refine lv_goto (tgt := 2) hx hb dX9_leastOf_13 (by decide) ?_
        exact ih v4 _ hr ls (lv_sub hl [0, 1] rfl) kx
  obtain ⟨o1, ho1, hr⟩ := br_bind hr
  refine L1 1000 0 o1 ho1 ls (lv_sub hl [0, 1] rfl) (fun ls hl => ?_)
  refine lv_iload_n hx hb dX9_leastOf_16 rfl (lv_at hl 0 rfl) ?_
  exact W.iret hx hb hrt (fun t ht _ => ⟨ret_i hr, ht⟩) noB dX9_leastOf_17 hlk
theorem cw_X9_leastOf {R : Room} {s : State} {args : Array Value} {own : String} {index : Nat} (hts : ∀ w ∈ lw_all, w.before args s = true) (hlink : Cond.methodLink own index yX9_leastOf ∈ lw_all) (hR : rm_X9_leastOf.frames + 1 ≤ R.frames ∧ 8 + (2 + 11) + rm_X9_leastOf.locals ≤ R.locals) : CallB R s args own index yX9_leastOf cX9_leastOf 2 (some FieldType.int) (ws_ yX9_leastOf cX9_leastOf 2 (some FieldType.int)) rm_X9_leastOf 0 0 1 ∧ (Cond.static yX9_leastOf).before args s = true :=
  va_cwS 1 hts (lw_S hlink q1363 q111 q1364) rfl rfl rfl (by decide +kernel) hR
def f_X9_deed_L6 (a0 : Int32) : Nat → Int32 → Int32 → Int32 → Option (Int32 × Int32)
  | 0, _, _, _ => none
  | n + 1, x3_1, x2_1, x1_1 => if x3_1 = 0 then some (x2_1, x1_1) else Option.bind (f_X9_leastOf x3_1) fun o3 => Option.bind (f_X9_heapOf a0 o3) fun o4 => Option.bind (f_X9_bits o4) fun o5 => Option.bind (f_X9_bits x1_1) fun o6 => Option.bind (α := Int32) (if o5 = o6 then some 0 else some x2_1) fun o8 => Option.bind (f_X9_bits o4) fun o9 => Option.bind (f_X9_bits x1_1) fun o10 => Option.bind (α := Int32 × Int32) (if o10 < o9 then some (1, o4) else some (o8, x1_1)) fun o12 => Option.bind (f_X9_leastOf x3_1) fun o13 => Option.bind (f_X9_heapOf a0 o13) fun o14 => Option.bind (some ((x3_1 &&& (o14 ^^^ (-1))) : Int32)) fun v15 => f_X9_deed_L6 a0 n v15 o12.1 o12.2
def f_X9_deed (a0 : Int32) : Option Int32 := Option.bind (f_X9_deed_L6 a0 1000 a0 0 0) fun o1 => if o1.1 = 0 then some 0 else some o1.2
abbrev rm_X9_deed : Room := ({ frames := 3, cells := 0, slots := 0, locals := 64 })
set_option maxHeartbeats 4000000 in
theorem m_X9_deed (l : Launch) (a0 : Int32) (r0 : Int32) (hr : f_X9_deed a0 = some r0) : PM l yX9_deed cX9_deed 5 (some FieldType.int) rm_X9_deed [.int a0] (fun _ => True) (some (.int r0)) := by
  refine fw_of (by decide) (Nat.le_of_ble_eq_true rfl) ?_
  intro p e s m below meth c ls hx hb hrt hts hown hlk hml _ _ hl
  have hl : lv_has ls 5 [(0, .int a0)] := hl
  rw [f_X9_deed] at hr
  refine lv_iconst (v := 0) hx hb dX9_deed_0 rfl ?_
  refine lv_istore_n (lv' := [(1, .int 0), (0, .int a0)]) hx hb dX9_deed_1 rfl hl (by decide) rfl (fun ls hl => ?_)
  refine lv_iconst (v := 0) hx hb dX9_deed_2 rfl ?_
  refine lv_istore_n (lv' := [(2, .int 0), (1, .int 0), (0, .int a0)]) hx hb dX9_deed_3 rfl hl (by decide) rfl (fun ls hl => ?_)
  refine lv_iload_n hx hb dX9_deed_4 rfl (lv_at hl 2 rfl) ?_
  refine lv_istore_n (lv' := [(3, .int a0), (2, .int 0), (1, .int 0), (0, .int a0)]) hx hb dX9_deed_5 rfl hl (by decide) rfl (fun ls hl => ?_)
  have L1 : ∀ (n : Nat) (x3_1 : Int32) (x2_1 : Int32) (x1_1 : Int32) (o1 : Int32 × Int32), f_X9_deed_L6 a0 n x3_1 x2_1 x1_1 = some o1 → ∀ ls, lv_has ls 5 [(3, .int x3_1), (2, .int x2_1), (1, .int x1_1), (0, .int a0)] → (∀ ls, lv_has ls 5 [(2, .int o1.1), (1, .int o1.2)] → WP p l e rm_X9_deed s m [.int a0] below meth c (some (.int r0)) 70 ls []) → WP p l e rm_X9_deed s m [.int a0] below meth c (some (.int r0)) 6 ls [] := by
    intro n
    induction n with
    | zero => intro x3_1 x2_1 x1_1 o1 hr; rw [f_X9_deed_L6] at hr; cases hr
    | succ n ih =>
      intro x3_1 x2_1 x1_1 o1 hr ls hl kx
      rw [f_X9_deed_L6] at hr
      refine lv_iload_n hx hb dX9_deed_6 rfl (lv_at hl 0 rfl) ?_
      have hi2 := br_ite hr
      refine lv_if_eq (tgt := 70) hx hb dX9_deed_7 (by decide) (fun c2 => ?_) (fun c2 => ?_)
      · have hr := hi2.1 c2
        obtain rfl := Option.some.inj hr
        exact kx ls (lv_sub hl [1, 2] rfl)
      · have hr := hi2.2 c2
        refine lv_iload_n hx hb dX9_deed_10 rfl (lv_at hl 3 rfl) ?_
        refine lv_iload_n hx hb dX9_deed_11 rfl (lv_at hl 0 rfl) ?_
        obtain ⟨o3, ho3, hr⟩ := br_bind hr
        refine fwS (As := [.int x3_1]) (rest := [.int a0]) hx hb hml hown hts (m_X9_leastOf l x3_1 o3 ho3) (cw_X9_leastOf hts q1362 ⟨Nat.le_of_ble_eq_true rfl, Nat.le_of_ble_eq_true rfl⟩) rfl hl.1 rfl (Nat.le_of_ble_eq_true rfl) dX9_deed_12 ⟨Nat.zero_le _, Nat.zero_le _⟩ ?_
        obtain ⟨o4, ho4, hr⟩ := br_bind hr
        refine fwS (As := [.int a0, .int o3]) (rest := []) hx hb hml hown hts (m_X9_heapOf l a0 o3 o4 ho4) (cw_X9_heapOf hts q1341 ⟨Nat.le_of_ble_eq_true rfl, Nat.le_of_ble_eq_true rfl⟩) rfl hl.1 rfl (Nat.le_of_ble_eq_true rfl) dX9_deed_15 ⟨Nat.zero_le _, Nat.zero_le _⟩ ?_
        refine lv_istore (lv' := [(4, .int o4), (3, .int x3_1), (2, .int x2_1), (1, .int x1_1), (0, .int a0)]) hx hb dX9_deed_18 hl (by decide) rfl (fun ls hl => ?_)
        refine lv_iload hx hb dX9_deed_20 (lv_at hl 0 rfl) ?_
        obtain ⟨o5, ho5, hr⟩ := br_bind hr
        refine fwS (As := [.int o4]) (rest := []) hx hb hml hown hts (m_X9_bits l o4 o5 ho5) (cw_X9_bits hts q1338 ⟨Nat.le_of_ble_eq_true rfl, Nat.le_of_ble_eq_true rfl⟩) rfl hl.1 rfl (Nat.le_of_ble_eq_true rfl) dX9_deed_22 ⟨Nat.zero_le _, Nat.zero_le _⟩ ?_
        refine lv_iload_n hx hb dX9_deed_25 rfl (lv_at hl 3 rfl) ?_
        obtain ⟨o6, ho6, hr⟩ := br_bind hr
        refine fwS (As := [.int x1_1]) (rest := [.int o5]) hx hb hml hown hts (m_X9_bits l x1_1 o6 ho6) (cw_X9_bits hts q1338 ⟨Nat.le_of_ble_eq_true rfl, Nat.le_of_ble_eq_true rfl⟩) rfl hl.1 rfl (Nat.le_of_ble_eq_true rfl) dX9_deed_26 ⟨Nat.zero_le _, Nat.zero_le _⟩ ?_
        obtain ⟨o8, ho8, hr⟩ := br_bind hr
        have J8 : ∀ ls, lv_has ls 5 [(4, .int o4), (3, .int x3_1), (2, .int o8), (1, .int x1_1), (0, .int a0)] → WP p l e rm_X9_deed s m [.int a0] below meth c (some (.int r0)) 34 ls [] := by
          intro ls hl
          refine lv_iload hx hb dX9_deed_34 (lv_at hl 0 rfl) ?_
          obtain ⟨o9, ho9, hr⟩ := br_bind hr
          refine fwS (As := [.int o4]) (rest := []) hx hb hml hown hts (m_X9_bits l o4 o9 ho9) (cw_X9_bits hts q1338 ⟨Nat.le_of_ble_eq_true rfl, Nat.le_of_ble_eq_true rfl⟩) rfl hl.1 rfl (Nat.le_of_ble_eq_true rfl) dX9_deed_36 ⟨Nat.zero_le _, Nat.zero_le _⟩ ?_
          refine lv_iload_n hx hb dX9_deed_39 rfl (lv_at hl 3 rfl) ?_
          obtain ⟨o10, ho10, hr⟩ := br_bind hr
          refine fwS (As := [.int x1_1]) (rest := [.int o9]) hx hb hml hown hts (m_X9_bits l x1_1 o10 ho10) (cw_X9_bits hts q1338 ⟨Nat.le_of_ble_eq_true rfl, Nat.le_of_ble_eq_true rfl⟩) rfl hl.1 rfl (Nat.le_of_ble_eq_true rfl) dX9_deed_40 ⟨Nat.zero_le _, Nat.zero_le _⟩ ?_
          obtain ⟨o12, ho12, hr⟩ := br_bind hr
          have J12 : ∀ ls, lv_has ls 5 [(2, .int o12.1), (1, .int o12.2), (3, .int x3_1), (0, .int a0)] → WP p l e rm_X9_deed s m [.int a0] below meth c (some (.int r0)) 54 ls [] := by
            intro ls hl
            refine lv_iload_n hx hb dX9_deed_54 rfl (lv_at hl 2 rfl) ?_
            refine lv_iload_n hx hb dX9_deed_55 rfl (lv_at hl 3 rfl) ?_
            refine lv_iload_n hx hb dX9_deed_56 rfl (lv_at hl 2 rfl) ?_
            obtain ⟨o13, ho13, hr⟩ := br_bind hr
            refine fwS (As := [.int x3_1]) (rest := [.int a0, .int x3_1]) hx hb hml hown hts (m_X9_leastOf l x3_1 o13 ho13) (cw_X9_leastOf hts q1362 ⟨Nat.le_of_ble_eq_true rfl, Nat.le_of_ble_eq_true rfl⟩) rfl hl.1 rfl (Nat.le_of_ble_eq_true rfl) dX9_deed_57 ⟨Nat.zero_le _, Nat.zero_le _⟩ ?_
            obtain ⟨o14, ho14, hr⟩ := br_bind hr
            refine fwS (As := [.int a0, .int o13]) (rest := [.int x3_1]) hx hb hml hown hts (m_X9_heapOf l a0 o13 o14 ho14) (cw_X9_heapOf hts q1341 ⟨Nat.le_of_ble_eq_true rfl, Nat.le_of_ble_eq_true rfl⟩) rfl hl.1 rfl (Nat.le_of_ble_eq_true rfl) dX9_deed_60 ⟨Nat.zero_le _, Nat.zero_le _⟩ ?_
            refine lv_iconst (v := (-1)) hx hb dX9_deed_63 rfl ?_
            refine lv_ixor hx hb dX9_deed_64 ?_
            refine lv_iand hx hb dX9_deed_65 ?_
            refine lv_topi (fun v15 hv15 => ?_)
            have hr := br_letv hr hv15
            refine lv_istore_n (lv' := [(3, .int v15), (2, .int o12.1), (1, .int o12.2), (0, .int a0)]) hx hb dX9_deed_66 rfl hl (by decide) rfl (fun ls hl => ?_)
            refine lv_goto (tgt := 6) hx hb dX9_deed_67 (by decide) ?_
            exact ih v15 o12.1 o12.2 _ hr ls (lv_sub hl [0, 1, 2, 3] rfl) kx
          have hr := ho12
          have hi11 := br_ite hr
          refine lv_icmp_gt (tgt := 49) hx hb dX9_deed_43 (by decide) (fun c11 => ?_) (fun c11 => ?_)
          · have hr := hi11.1 c11
            refine lv_iload hx hb dX9_deed_49 (lv_at hl 0 rfl) ?_
            refine lv_istore_n (lv' := [(1, .int o4), (4, .int o4), (3, .int x3_1), (2, .int o8), (0, .int a0)]) hx hb dX9_deed_51 rfl hl (by decide) rfl (fun ls hl => ?_)
            refine lv_iconst (v := 1) hx hb dX9_deed_52 rfl ?_
            refine lv_istore_n (lv' := [(2, .int 1), (1, .int o4), (4, .int o4), (3, .int x3_1), (0, .int a0)]) hx hb dX9_deed_53 rfl hl (by decide) rfl (fun ls hl => ?_)
            obtain rfl := Option.some.inj hr
            exact J12 ls (lv_sub hl [0, 1, 3, 4] rfl)
          · have hr := hi11.2 c11
            refine lv_goto (tgt := 54) hx hb dX9_deed_46 (by decide) ?_
            obtain rfl := Option.some.inj hr
            exact J12 ls (lv_sub hl [2, 3, 1, 4] rfl)
        have hr := ho8
        have hi7 := br_ite hr
        refine lv_icmp_ne (tgt := 34) hx hb dX9_deed_29 (by decide) (fun c7 => ?_) (fun c7 => ?_)
        · have hr := hi7.2 c7
          obtain rfl := Option.some.inj hr
          exact J8 ls (lv_sub hl [0, 1, 2, 3, 4] rfl)
        · have hr := hi7.1 c7
          refine lv_iconst (v := 0) hx hb dX9_deed_32 rfl ?_
          refine lv_istore_n (lv' := [(2, .int 0), (4, .int o4), (3, .int x3_1), (1, .int x1_1), (0, .int a0)]) hx hb dX9_deed_33 rfl hl (by decide) rfl (fun ls hl => ?_)
          obtain rfl := Option.some.inj hr
          exact J8 ls (lv_sub hl [1, 2, 0, 3, 4] rfl)
  obtain ⟨o1, ho1, hr⟩ := br_bind hr
  refine L1 1000 a0 0 0 o1 ho1 ls (lv_sub hl [0, 1, 2, 3] rfl) (fun ls hl => ?_)
  refine lv_iload_n hx hb dX9_deed_70 rfl (lv_at hl 0 rfl) ?_
  have hi16 := br_ite hr
  refine lv_if_eq (tgt := 78) hx hb dX9_deed_71 (by decide) (fun c16 => ?_) (fun c16 => ?_)
  · have hr := hi16.1 c16
    refine lv_iconst (v := 0) hx hb dX9_deed_78 rfl ?_
    exact W.iret hx hb hrt (fun t ht _ => ⟨ret_i hr, ht⟩) noB dX9_deed_79 hlk
  · have hr := hi16.2 c16
    refine lv_iload_n hx hb dX9_deed_74 rfl (lv_at hl 1 rfl) ?_
    refine lv_goto (tgt := 79) hx hb dX9_deed_75 (by decide) ?_
    exact W.iret hx hb hrt (fun t ht _ => ⟨ret_i hr, ht⟩) noB dX9_deed_79 hlk
theorem cw_X9_deed {R : Room} {s : State} {args : Array Value} {own : String} {index : Nat} (hts : ∀ w ∈ lw_all, w.before args s = true) (hlink : Cond.methodLink own index yX9_deed ∈ lw_all) (hR : rm_X9_deed.frames + 1 ≤ R.frames ∧ 8 + (5 + 11) + rm_X9_deed.locals ≤ R.locals) : CallB R s args own index yX9_deed cX9_deed 5 (some FieldType.int) (ws_ yX9_deed cX9_deed 5 (some FieldType.int)) rm_X9_deed 0 0 1 ∧ (Cond.static yX9_deed).before args s = true :=
  va_cwS 1 hts (lw_S hlink q1360 q111 q1361) rfl rfl rfl (by decide +kernel) hR
def f_X9_most (a0 : Int32) (a1 : Int32) : Option Int32 := if a0 ≤ a1 then some a1 else some a0
abbrev rm_X9_most : Room := ({ frames := 1, cells := 0, slots := 0, locals := 18 })
set_option maxHeartbeats 4000000 in
theorem m_X9_most (l : Launch) (a0 : Int32) (a1 : Int32) (r0 : Int32) (hr : f_X9_most a0 a1 = some r0) : PM l yX9_most cX9_most 2 (some FieldType.int) rm_X9_most [.int a0, .int a1] (fun _ => True) (some (.int r0)) := by
  refine fw_of (by decide) (Nat.le_of_ble_eq_true rfl) ?_
  intro p e s m below meth c ls hx hb hrt hts hown hlk hml _ _ hl
  have hl : lv_has ls 2 [(0, .int a0), (1, .int a1)] := hl
  rw [f_X9_most] at hr
  refine lv_iload_n hx hb dX9_most_0 rfl (lv_at hl 0 rfl) ?_
  refine lv_iload_n hx hb dX9_most_1 rfl (lv_at hl 1 rfl) ?_
  have hi1 := br_ite hr
  refine lv_icmp_le (tgt := 9) hx hb dX9_most_2 (by decide) (fun c1 => ?_) (fun c1 => ?_)
  · have hr := hi1.1 c1
    refine lv_iload_n hx hb dX9_most_9 rfl (lv_at hl 1 rfl) ?_
    exact W.iret hx hb hrt (fun t ht _ => ⟨ret_i hr, ht⟩) noB dX9_most_10 hlk
  · have hr := hi1.2 c1
    refine lv_iload_n hx hb dX9_most_5 rfl (lv_at hl 0 rfl) ?_
    refine lv_goto (tgt := 10) hx hb dX9_most_6 (by decide) ?_
    exact W.iret hx hb hrt (fun t ht _ => ⟨ret_i hr, ht⟩) noB dX9_most_10 hlk
theorem cw_X9_most {R : Room} {s : State} {args : Array Value} {own : String} {index : Nat} (hts : ∀ w ∈ lw_all, w.before args s = true) (hlink : Cond.methodLink own index yX9_most ∈ lw_all) (hR : rm_X9_most.frames + 1 ≤ R.frames ∧ 8 + (2 + 11) + rm_X9_most.locals ≤ R.locals) : CallB R s args own index yX9_most cX9_most 2 (some FieldType.int) (ws_ yX9_most cX9_most 2 (some FieldType.int)) rm_X9_most 0 0 2 ∧ (Cond.static yX9_most).before args s = true :=
  va_cwS 2 hts (lw_S hlink q1369 q111 q1370) rfl rfl rfl (by decide +kernel) hR
def f_X9_heaps_L4 (a0 : Int32) : Nat → Int32 → Int32 → Option (Int32)
  | 0, _, _ => none
  | n + 1, x2_1, x1_1 => if x2_1 = 0 then some x1_1 else Option.bind (some ((x1_1 + 1) : Int32)) fun v3 => Option.bind (f_X9_leastOf x2_1) fun o4 => Option.bind (f_X9_heapOf a0 o4) fun o5 => Option.bind (some ((x2_1 &&& (o5 ^^^ (-1))) : Int32)) fun v6 => f_X9_heaps_L4 a0 n v6 v3
def f_X9_heaps (a0 : Int32) : Option Int32 := Option.bind (f_X9_heaps_L4 a0 1000 a0 0) fun o1 => some o1
abbrev rm_X9_heaps : Room := ({ frames := 3, cells := 0, slots := 0, locals := 64 })
set_option maxHeartbeats 4000000 in
theorem m_X9_heaps (l : Launch) (a0 : Int32) (r0 : Int32) (hr : f_X9_heaps a0 = some r0) : PM l yX9_heaps cX9_heaps 3 (some FieldType.int) rm_X9_heaps [.int a0] (fun _ => True) (some (.int r0)) := by
  refine fw_of (by decide) (Nat.le_of_ble_eq_true rfl) ?_
  intro p e s m below meth c ls hx hb hrt hts hown hlk hml _ _ hl
  have hl : lv_has ls 3 [(0, .int a0)] := hl
  rw [f_X9_heaps] at hr
  refine lv_iconst (v := 0) hx hb dX9_heaps_0 rfl ?_
  refine lv_istore_n (lv' := [(1, .int 0), (0, .int a0)]) hx hb dX9_heaps_1 rfl hl (by decide) rfl (fun ls hl => ?_)
  refine lv_iload_n hx hb dX9_heaps_2 rfl (lv_at hl 1 rfl) ?_
  refine lv_istore_n (lv' := [(2, .int a0), (1, .int 0), (0, .int a0)]) hx hb dX9_heaps_3 rfl hl (by decide) rfl (fun ls hl => ?_)
  have L1 : ∀ (n : Nat) (x2_1 : Int32) (x1_1 : Int32) (o1 : Int32), f_X9_heaps_L4 a0 n x2_1 x1_1 = some o1 → ∀ ls, lv_has ls 3 [(2, .int x2_1), (1, .int x1_1), (0, .int a0)] → (∀ ls, lv_has ls 3 [(1, .int o1)] → WP p l e rm_X9_heaps s m [.int a0] below meth c (some (.int r0)) 27 ls []) → WP p l e rm_X9_heaps s m [.int a0] below meth c (some (.int r0)) 4 ls [] := by
    intro n
    induction n with
    | zero => intro x2_1 x1_1 o1 hr; rw [f_X9_heaps_L4] at hr; cases hr
    | succ n ih =>
      intro x2_1 x1_1 o1 hr ls hl kx
      rw [f_X9_heaps_L4] at hr
      refine lv_iload_n hx hb dX9_heaps_4 rfl (lv_at hl 0 rfl) ?_
      have hi2 := br_ite hr
      refine lv_if_eq (tgt := 27) hx hb dX9_heaps_5 (by decide) (fun c2 => ?_) (fun c2 => ?_)
      · have hr := hi2.1 c2
        obtain rfl := Option.some.inj hr
        exact kx ls (lv_sub hl [1] rfl)
      · have hr := hi2.2 c2
        obtain ⟨v3, hv3, hr⟩ := br_let hr
        refine lv_iinc (v := v3) (lv' := [(1, .int v3), (2, .int x2_1), (0, .int a0)]) hx hb dX9_heaps_8 hl (k := 1) rfl (hv3 ▸ rfl) (by decide) rfl (fun ls hl => ?_)
        refine lv_iload_n hx hb dX9_heaps_11 rfl (lv_at hl 1 rfl) ?_
        refine lv_iload_n hx hb dX9_heaps_12 rfl (lv_at hl 2 rfl) ?_
        refine lv_iload_n hx hb dX9_heaps_13 rfl (lv_at hl 1 rfl) ?_
        obtain ⟨o4, ho4, hr⟩ := br_bind hr
        refine fwS (As := [.int x2_1]) (rest := [.int a0, .int x2_1]) hx hb hml hown hts (m_X9_leastOf l x2_1 o4 ho4) (cw_X9_leastOf hts q1362 ⟨Nat.le_of_ble_eq_true rfl, Nat.le_of_ble_eq_true rfl⟩) rfl hl.1 rfl (Nat.le_of_ble_eq_true rfl) dX9_heaps_14 ⟨Nat.zero_le _, Nat.zero_le _⟩ ?_
        obtain ⟨o5, ho5, hr⟩ := br_bind hr
        refine fwS (As := [.int a0, .int o4]) (rest := [.int x2_1]) hx hb hml hown hts (m_X9_heapOf l a0 o4 o5 ho5) (cw_X9_heapOf hts q1341 ⟨Nat.le_of_ble_eq_true rfl, Nat.le_of_ble_eq_true rfl⟩) rfl hl.1 rfl (Nat.le_of_ble_eq_true rfl) dX9_heaps_17 ⟨Nat.zero_le _, Nat.zero_le _⟩ ?_
        refine lv_iconst (v := (-1)) hx hb dX9_heaps_20 rfl ?_
        refine lv_ixor hx hb dX9_heaps_21 ?_
        refine lv_iand hx hb dX9_heaps_22 ?_
        refine lv_topi (fun v6 hv6 => ?_)
        have hr := br_letv hr hv6
        refine lv_istore_n (lv' := [(2, .int v6), (1, .int v3), (0, .int a0)]) hx hb dX9_heaps_23 rfl hl (by decide) rfl (fun ls hl => ?_)
        refine lv_goto (tgt := 4) hx hb dX9_heaps_24 (by decide) ?_
        exact ih v6 v3 _ hr ls (lv_sub hl [0, 1, 2] rfl) kx
  obtain ⟨o1, ho1, hr⟩ := br_bind hr
  refine L1 1000 a0 0 o1 ho1 ls (lv_sub hl [0, 1, 2] rfl) (fun ls hl => ?_)
  refine lv_iload_n hx hb dX9_heaps_27 rfl (lv_at hl 0 rfl) ?_
  exact W.iret hx hb hrt (fun t ht _ => ⟨ret_i hr, ht⟩) noB dX9_heaps_28 hlk
theorem cw_X9_heaps {R : Room} {s : State} {args : Array Value} {own : String} {index : Nat} (hts : ∀ w ∈ lw_all, w.before args s = true) (hlink : Cond.methodLink own index yX9_heaps ∈ lw_all) (hR : rm_X9_heaps.frames + 1 ≤ R.frames ∧ 8 + (3 + 11) + rm_X9_heaps.locals ≤ R.locals) : CallB R s args own index yX9_heaps cX9_heaps 3 (some FieldType.int) (ws_ yX9_heaps cX9_heaps 3 (some FieldType.int)) rm_X9_heaps 0 0 1 ∧ (Cond.static yX9_heaps).before args s = true :=
  va_cwS 1 hts (lw_S hlink q1372 q111 q1373) rfl rfl rfl (by decide +kernel) hR
def f_X9_shareBy_L26 (a2 : Int32) (o1 : Int32) : Nat → Int32 → Int32 → Option (Int32)
  | 0, _, _ => none
  | n + 1, x5_3, x4_3 => if 5 ≤ x5_3 then some x4_3 else Option.bind (some ((x4_3 + ((o1 >>> ((((5 : Int32) * x5_3) + (a2 - a2 / 5 * 5)) &&& 31)) &&& 1)) : Int32)) fun v5 => Option.bind (some ((x5_3 + 1) : Int32)) fun v6 => f_X9_shareBy_L26 a2 o1 n v6 v5
def f_X9_shareBy (a0 : Int32) (a1 : Int32) (a2 : Int32) : Option Int32 := Option.bind (f_X9_deed a0) fun o1 => if o1 = 0 then if a1 = 3 then some a2 else some 0 else Option.bind (f_X9_shareBy_L26 a2 o1 1000 0 0) fun o3 => Option.bind (α := Int32) (if (o1 &&& 4) = 0 then some 0 else some 5) fun o8 => Option.bind (some ((o3 + o8) : Int32)) fun v9 => Option.bind (f_X9_bits (o1 &&& 14336)) fun o10 => Option.bind (some (((o3 / 2) + ((2 : Int32) * o10)) : Int32)) fun v11 => if a1 = 1 then some v9 else if a1 = 2 then some v11 else if a1 = 3 then some (v9 / 3) else if a1 = 4 then Option.bind (f_X9_bits a0) fun o17 => Option.bind (f_X9_most 0 (((25 : Int32) - o17) - a2)) fun o18 => some o18 else if a1 = 5 then Option.bind (f_X9_heaps a0) fun o19 => some ((v11 + o19) - 1) else some o3
abbrev rm_X9_shareBy : Room := ({ frames := 4, cells := 0, slots := 0, locals := 88 })
set_option maxHeartbeats 4000000 in
theorem m_X9_shareBy (l : Launch) (a0 : Int32) (a1 : Int32) (a2 : Int32) (r0 : Int32) (hr : f_X9_shareBy a0 a1 a2 = some r0) : PM l yX9_shareBy cX9_shareBy 7 (some FieldType.int) rm_X9_shareBy [.int a0, .int a1, .int a2] (fun _ => True) (some (.int r0)) := by
  refine fw_of (by decide) (Nat.le_of_ble_eq_true rfl) ?_
  intro p e s m below meth c ls hx hb hrt hts hown hlk hml _ _ hl
  have hl : lv_has ls 7 [(0, .int a0), (1, .int a1), (2, .int a2)] := hl
  rw [f_X9_shareBy] at hr
  refine lv_iload_n hx hb dX9_shareBy_0 rfl (lv_at hl 0 rfl) ?_
  obtain ⟨o1, ho1, hr⟩ := br_bind hr
  refine fwS (As := [.int a0]) (rest := []) hx hb hml hown hts (m_X9_deed l a0 o1 ho1) (cw_X9_deed hts q1359 ⟨Nat.le_of_ble_eq_true rfl, Nat.le_of_ble_eq_true rfl⟩) rfl hl.1 rfl (Nat.le_of_ble_eq_true rfl) dX9_shareBy_1 ⟨Nat.zero_le _, Nat.zero_le _⟩ ?_
  refine lv_istore_n (lv' := [(3, .int o1), (0, .int a0), (1, .int a1), (2, .int a2)]) hx hb dX9_shareBy_4 rfl hl (by decide) rfl (fun ls hl => ?_)
  refine lv_iload_n hx hb dX9_shareBy_5 rfl (lv_at hl 0 rfl) ?_
  have hi2 := br_ite hr
  refine lv_if_ne (tgt := 20) hx hb dX9_shareBy_6 (by decide) (fun c2 => ?_) (fun c2 => ?_)
  · have hr := hi2.2 c2
    refine lv_iconst (v := 0) hx hb dX9_shareBy_20 rfl ?_
    refine lv_istore (lv' := [(4, .int 0), (3, .int o1), (0, .int a0), (1, .int a1), (2, .int a2)]) hx hb dX9_shareBy_21 hl (by decide) rfl (fun ls hl => ?_)
    refine lv_iconst (v := 0) hx hb dX9_shareBy_23 rfl ?_
    refine lv_istore (lv' := [(5, .int 0), (4, .int 0), (3, .int o1), (0, .int a0), (1, .int a1), (2, .int a2)]) hx hb dX9_shareBy_24 hl (by decide) rfl (fun ls hl => ?_)
    have L3 : ∀ (n : Nat) (x5_3 : Int32) (x4_3 : Int32) (o3 : Int32), f_X9_shareBy_L26 a2 o1 n x5_3 x4_3 = some o3 → ∀ ls, lv_has ls 7 [(5, .int x5_3), (4, .int x4_3), (3, .int o1), (0, .int a0), (1, .int a1), (2, .int a2)] → (∀ ls, lv_has ls 7 [(4, .int o3), (3, .int o1), (0, .int a0), (1, .int a1), (2, .int a2)] → WP p l e rm_X9_shareBy s m [.int a0, .int a1, .int a2] below meth c (some (.int r0)) 55 ls []) → WP p l e rm_X9_shareBy s m [.int a0, .int a1, .int a2] below meth c (some (.int r0)) 26 ls [] := by
      intro n
      induction n with
      | zero => intro x5_3 x4_3 o3 hr; rw [f_X9_shareBy_L26] at hr; cases hr
      | succ n ih =>
        intro x5_3 x4_3 o3 hr ls hl kx
        rw [f_X9_shareBy_L26] at hr
        refine lv_iload hx hb dX9_shareBy_26 (lv_at hl 0 rfl) ?_
        refine lv_iconst (v := 5) hx hb dX9_shareBy_28 rfl ?_
        have hi4 := br_ite hr
        refine lv_icmp_ge (tgt := 55) hx hb dX9_shareBy_29 (by decide) (fun c4 => ?_) (fun c4 => ?_)
        · have hr := hi4.1 c4
          obtain rfl := Option.some.inj hr
          exact kx ls (lv_sub hl [1, 2, 3, 4, 5] rfl)
        · have hr := hi4.2 c4
          refine lv_iload hx hb dX9_shareBy_32 (lv_at hl 1 rfl) ?_
          refine lv_iload_n hx hb dX9_shareBy_34 rfl (lv_at hl 2 rfl) ?_
          refine lv_iconst (v := 5) hx hb dX9_shareBy_35 rfl ?_
          refine lv_iload hx hb dX9_shareBy_36 (lv_at hl 0 rfl) ?_
          refine lv_imul hx hb dX9_shareBy_38 ?_
          refine lv_iload_n hx hb dX9_shareBy_39 rfl (lv_at hl 5 rfl) ?_
          refine lv_iconst (v := 5) hx hb dX9_shareBy_40 rfl ?_
          refine lv_irem hx hb dX9_shareBy_41 (by decide) ?_
          refine lv_iadd hx hb dX9_shareBy_42 ?_
          refine lv_ishr hx hb dX9_shareBy_43 ?_
          refine lv_iconst (v := 1) hx hb dX9_shareBy_44 rfl ?_
          refine lv_iand hx hb dX9_shareBy_45 ?_
          refine lv_iadd hx hb dX9_shareBy_46 ?_
          refine lv_topi (fun v5 hv5 => ?_)
          have hr := br_letv hr hv5
          refine lv_istore (lv' := [(4, .int v5), (5, .int x5_3), (3, .int o1), (0, .int a0), (1, .int a1), (2, .int a2)]) hx hb dX9_shareBy_47 hl (by decide) rfl (fun ls hl => ?_)
          obtain ⟨v6, hv6, hr⟩ := br_let hr
          refine lv_iinc (v := v6) (lv' := [(5, .int v6), (4, .int v5), (3, .int o1), (0, .int a0), (1, .int a1), (2, .int a2)]) hx hb dX9_shareBy_49 hl (k := 1) rfl (hv6 ▸ rfl) (by decide) rfl (fun ls hl => ?_)
          refine lv_goto (tgt := 26) hx hb dX9_shareBy_52 (by decide) ?_
          exact ih v6 v5 _ hr ls (lv_sub hl [0, 1, 2, 3, 4, 5] rfl) kx
    obtain ⟨o3, ho3, hr⟩ := br_bind hr
    refine L3 1000 0 0 o3 ho3 ls (lv_sub hl [0, 1, 2, 3, 4, 5] rfl) (fun ls hl => ?_)
    refine lv_iload hx hb dX9_shareBy_55 (lv_at hl 0 rfl) ?_
    refine lv_iload_n hx hb dX9_shareBy_57 rfl (lv_at hl 1 rfl) ?_
    refine lv_iconst (v := 4) hx hb dX9_shareBy_58 rfl ?_
    refine lv_iand hx hb dX9_shareBy_59 ?_
    obtain ⟨o8, ho8, hr⟩ := br_bind hr
    have J8 : ∀ ls, lv_has ls 7 [(4, .int o3), (3, .int o1), (0, .int a0), (1, .int a1), (2, .int a2)] → WP p l e rm_X9_shareBy s m [.int a0, .int a1, .int a2] below meth c (some (.int r0)) 68 ls [.int o8, .int o3] := by
      intro ls hl
      refine lv_iadd hx hb dX9_shareBy_68 ?_
      refine lv_topi (fun v9 hv9 => ?_)
      have hr := br_letv hr hv9
      refine lv_istore (lv' := [(5, .int v9), (4, .int o3), (3, .int o1), (0, .int a0), (1, .int a1), (2, .int a2)]) hx hb dX9_shareBy_69 hl (by decide) rfl (fun ls hl => ?_)
      refine lv_iload hx hb dX9_shareBy_71 (lv_at hl 1 rfl) ?_
      refine lv_iconst (v := 2) hx hb dX9_shareBy_73 rfl ?_
      refine lv_idiv hx hb dX9_shareBy_74 (by decide) ?_
      refine lv_iconst (v := 2) hx hb dX9_shareBy_75 rfl ?_
      refine lv_iload_n hx hb dX9_shareBy_76 rfl (lv_at hl 2 rfl) ?_
      refine lv_sipush (v := 14336) hx hb dX9_shareBy_77 rfl ?_
      refine lv_iand hx hb dX9_shareBy_80 ?_
      obtain ⟨o10, ho10, hr⟩ := br_bind hr
      refine fwS (As := [.int (o1 &&& 14336)]) (rest := [.int 2, .int (o3 / 2)]) hx hb hml hown hts (m_X9_bits l (o1 &&& 14336) o10 ho10) (cw_X9_bits hts q1338 ⟨Nat.le_of_ble_eq_true rfl, Nat.le_of_ble_eq_true rfl⟩) rfl hl.1 rfl (Nat.le_of_ble_eq_true rfl) dX9_shareBy_81 ⟨Nat.zero_le _, Nat.zero_le _⟩ ?_
      refine lv_imul hx hb dX9_shareBy_84 ?_
      refine lv_iadd hx hb dX9_shareBy_85 ?_
      refine lv_topi (fun v11 hv11 => ?_)
      have hr := br_letv hr hv11
      refine lv_istore (lv' := [(6, .int v11), (5, .int v9), (4, .int o3), (3, .int o1), (0, .int a0), (1, .int a1), (2, .int a2)]) hx hb dX9_shareBy_86 hl (by decide) rfl (fun ls hl => ?_)
      refine lv_iload_n hx hb dX9_shareBy_88 rfl (lv_at hl 5 rfl) ?_
      have hi12 := br_ite hr
      by_cases c12 : a1 = 1
      · have hr := hi12.1 c12
        refine lv_tableIn (tgt := 124) hx hb dX9_shareBy_89 (by rw [c12]; decide) (by rw [c12]; decide) (by rw [c12]; rfl) (by decide) ?_
        refine lv_iload hx hb dX9_shareBy_124 (lv_at hl 1 rfl) ?_
        exact W.iret hx hb hrt (fun t ht _ => ⟨ret_i hr, ht⟩) noB dX9_shareBy_126 hlk
      have hr := hi12.2 c12
      have hi13 := br_ite hr
      by_cases c13 : a1 = 2
      · have hr := hi13.1 c13
        refine lv_tableIn (tgt := 127) hx hb dX9_shareBy_89 (by rw [c13]; decide) (by rw [c13]; decide) (by rw [c13]; rfl) (by decide) ?_
        refine lv_iload hx hb dX9_shareBy_127 (lv_at hl 0 rfl) ?_
        exact W.iret hx hb hrt (fun t ht _ => ⟨ret_i hr, ht⟩) noB dX9_shareBy_129 hlk
      have hr := hi13.2 c13
      have hi14 := br_ite hr
      by_cases c14 : a1 = 3
      · have hr := hi14.1 c14
        refine lv_tableIn (tgt := 130) hx hb dX9_shareBy_89 (by rw [c14]; decide) (by rw [c14]; decide) (by rw [c14]; rfl) (by decide) ?_
        refine lv_iload hx hb dX9_shareBy_130 (lv_at hl 1 rfl) ?_
        refine lv_iconst (v := 3) hx hb dX9_shareBy_132 rfl ?_
        refine lv_idiv hx hb dX9_shareBy_133 (by decide) ?_
        exact W.iret hx hb hrt (fun t ht _ => ⟨ret_i hr, ht⟩) noB dX9_shareBy_134 hlk
      have hr := hi14.2 c14
      have hi15 := br_ite hr
      by_cases c15 : a1 = 4
      · have hr := hi15.1 c15
        refine lv_tableIn (tgt := 135) hx hb dX9_shareBy_89 (by rw [c15]; decide) (by rw [c15]; decide) (by rw [c15]; rfl) (by decide) ?_
        refine lv_iconst (v := 0) hx hb dX9_shareBy_135 rfl ?_
        refine lv_bipush (v := 25) hx hb dX9_shareBy_136 rfl ?_
        refine lv_iload_n hx hb dX9_shareBy_138 rfl (lv_at hl 4 rfl) ?_
        obtain ⟨o17, ho17, hr⟩ := br_bind hr
        refine fwS (As := [.int a0]) (rest := [.int 25, .int 0]) hx hb hml hown hts (m_X9_bits l a0 o17 ho17) (cw_X9_bits hts q1338 ⟨Nat.le_of_ble_eq_true rfl, Nat.le_of_ble_eq_true rfl⟩) rfl hl.1 rfl (Nat.le_of_ble_eq_true rfl) dX9_shareBy_139 ⟨Nat.zero_le _, Nat.zero_le _⟩ ?_
        refine lv_isub hx hb dX9_shareBy_142 ?_
        refine lv_iload_n hx hb dX9_shareBy_143 rfl (lv_at hl 6 rfl) ?_
        refine lv_isub hx hb dX9_shareBy_144 ?_
        obtain ⟨o18, ho18, hr⟩ := br_bind hr
        refine fwS (As := [.int 0, .int (((25 : Int32) - o17) - a2)]) (rest := []) hx hb hml hown hts (m_X9_most l 0 (((25 : Int32) - o17) - a2) o18 ho18) (cw_X9_most hts q1368 ⟨Nat.le_of_ble_eq_true rfl, Nat.le_of_ble_eq_true rfl⟩) rfl hl.1 rfl (Nat.le_of_ble_eq_true rfl) dX9_shareBy_145 ⟨Nat.zero_le _, Nat.zero_le _⟩ ?_
        exact W.iret hx hb hrt (fun t ht _ => ⟨ret_i hr, ht⟩) noB dX9_shareBy_148 hlk
      have hr := hi15.2 c15
      have hi16 := br_ite hr
      by_cases c16 : a1 = 5
      · have hr := hi16.1 c16
        refine lv_tableIn (tgt := 149) hx hb dX9_shareBy_89 (by rw [c16]; decide) (by rw [c16]; decide) (by rw [c16]; rfl) (by decide) ?_
        refine lv_iload hx hb dX9_shareBy_149 (lv_at hl 0 rfl) ?_
        refine lv_iload_n hx hb dX9_shareBy_151 rfl (lv_at hl 4 rfl) ?_
        obtain ⟨o19, ho19, hr⟩ := br_bind hr
        refine fwS (As := [.int a0]) (rest := [.int v11]) hx hb hml hown hts (m_X9_heaps l a0 o19 ho19) (cw_X9_heaps hts q1371 ⟨Nat.le_of_ble_eq_true rfl, Nat.le_of_ble_eq_true rfl⟩) rfl hl.1 rfl (Nat.le_of_ble_eq_true rfl) dX9_shareBy_152 ⟨Nat.zero_le _, Nat.zero_le _⟩ ?_
        refine lv_iadd hx hb dX9_shareBy_155 ?_
        refine lv_iconst (v := 1) hx hb dX9_shareBy_156 rfl ?_
        refine lv_isub hx hb dX9_shareBy_157 ?_
        exact W.iret hx hb hrt (fun t ht _ => ⟨ret_i hr, ht⟩) noB dX9_shareBy_158 hlk
      have hr := hi16.2 c16
      refine lv_tableOut (tgt := 159) hx hb dX9_shareBy_89 (by have n12 := lv_neT (a := 1) c12 rfl; have n13 := lv_neT (a := 2) c13 rfl; have n14 := lv_neT (a := 3) c14 rfl; have n15 := lv_neT (a := 4) c15 rfl; have n16 := lv_neT (a := 5) c16 rfl; omega) (by decide) ?_
      refine lv_iload hx hb dX9_shareBy_159 (lv_at hl 2 rfl) ?_
      exact W.iret hx hb hrt (fun t ht _ => ⟨ret_i hr, ht⟩) noB dX9_shareBy_161 hlk
    have hr := ho8
    have hi7 := br_ite hr
    refine lv_if_eq (tgt := 67) hx hb dX9_shareBy_60 (by decide) (fun c7 => ?_) (fun c7 => ?_)
    · have hr := hi7.1 c7
      refine lv_iconst (v := 0) hx hb dX9_shareBy_67 rfl ?_
      obtain rfl := Option.some.inj hr
      exact J8 ls (lv_sub hl [0, 1, 2, 3, 4] rfl)
    · have hr := hi7.2 c7
      refine lv_iconst (v := 5) hx hb dX9_shareBy_63 rfl ?_
      refine lv_goto (tgt := 68) hx hb dX9_shareBy_64 (by decide) ?_
      obtain rfl := Option.some.inj hr
      exact J8 ls (lv_sub hl [0, 1, 2, 3, 4] rfl)
  · have hr := hi2.1 c2
    refine lv_iload_n hx hb dX9_shareBy_9 rfl (lv_at hl 2 rfl) ?_
    refine lv_iconst (v := 3) hx hb dX9_shareBy_10 rfl ?_
    have hi20 := br_ite hr
    refine lv_icmp_ne (tgt := 18) hx hb dX9_shareBy_11 (by decide) (fun c20 => ?_) (fun c20 => ?_)
    · have hr := hi20.2 c20
      refine lv_iconst (v := 0) hx hb dX9_shareBy_18 rfl ?_
      exact W.iret hx hb hrt (fun t ht _ => ⟨ret_i hr, ht⟩) noB dX9_shareBy_19 hlk
    · have hr := hi20.1 c20
      refine lv_iload_n hx hb dX9_shareBy_14 rfl (lv_at hl 3 rfl) ?_
      refine lv_goto (tgt := 19) hx hb dX9_shareBy_15 (by decide) ?_
      exact W.iret hx hb hrt (fun t ht _ => ⟨ret_i hr, ht⟩) noB dX9_shareBy_19 hlk
theorem cw_X9_shareBy {R : Room} {s : State} {args : Array Value} {own : String} {index : Nat} (hts : ∀ w ∈ lw_all, w.before args s = true) (hlink : Cond.methodLink own index yX9_shareBy ∈ lw_all) (hR : rm_X9_shareBy.frames + 1 ≤ R.frames ∧ 8 + (7 + 11) + rm_X9_shareBy.locals ≤ R.locals) : CallB R s args own index yX9_shareBy cX9_shareBy 7 (some FieldType.int) (ws_ yX9_shareBy cX9_shareBy 7 (some FieldType.int)) rm_X9_shareBy 0 0 3 ∧ (Cond.static yX9_shareBy).before args s = true :=
  va_cwS 3 hts (lw_S hlink q1357 q111 q1358) rfl rfl rfl (by decide +kernel) hR
def f_X9_wrongBy (a0 : Int32) (a1 : Int32) : Option Int32 := if 0 ≤ a0 then if a0 ≤ a1 then some 0 else some (-6) else some (-4)
abbrev rm_X9_wrongBy : Room := ({ frames := 1, cells := 0, slots := 0, locals := 18 })
set_option maxHeartbeats 4000000 in
theorem m_X9_wrongBy (l : Launch) (a0 : Int32) (a1 : Int32) (r0 : Int32) (hr : f_X9_wrongBy a0 a1 = some r0) : PM l yX9_wrongBy cX9_wrongBy 2 (some FieldType.int) rm_X9_wrongBy [.int a0, .int a1] (fun _ => True) (some (.int r0)) := by
  refine fw_of (by decide) (Nat.le_of_ble_eq_true rfl) ?_
  intro p e s m below meth c ls hx hb hrt hts hown hlk hml _ _ hl
  have hl : lv_has ls 2 [(0, .int a0), (1, .int a1)] := hl
  rw [f_X9_wrongBy] at hr
  refine lv_iload_n hx hb dX9_wrongBy_0 rfl (lv_at hl 0 rfl) ?_
  have hi1 := br_ite hr
  refine lv_if_ge (tgt := 9) hx hb dX9_wrongBy_1 (by decide) (fun c1 => ?_) (fun c1 => ?_)
  · have hr := hi1.1 c1
    refine lv_iload_n hx hb dX9_wrongBy_9 rfl (lv_at hl 0 rfl) ?_
    refine lv_iload_n hx hb dX9_wrongBy_10 rfl (lv_at hl 1 rfl) ?_
    have hi2 := br_ite hr
    refine lv_icmp_le (tgt := 19) hx hb dX9_wrongBy_11 (by decide) (fun c2 => ?_) (fun c2 => ?_)
    · have hr := hi2.1 c2
      refine lv_iconst (v := 0) hx hb dX9_wrongBy_19 rfl ?_
      exact W.iret hx hb hrt (fun t ht _ => ⟨ret_i hr, ht⟩) noB dX9_wrongBy_20 hlk
    · have hr := hi2.2 c2
      refine lv_bipush (v := (-6)) hx hb dX9_wrongBy_14 rfl ?_
      refine lv_goto (tgt := 20) hx hb dX9_wrongBy_16 (by decide) ?_
      exact W.iret hx hb hrt (fun t ht _ => ⟨ret_i hr, ht⟩) noB dX9_wrongBy_20 hlk
  · have hr := hi1.2 c1
    refine lv_bipush (v := (-4)) hx hb dX9_wrongBy_4 rfl ?_
    refine lv_goto (tgt := 20) hx hb dX9_wrongBy_6 (by decide) ?_
    exact W.iret hx hb hrt (fun t ht _ => ⟨ret_i hr, ht⟩) noB dX9_wrongBy_20 hlk
theorem cw_X9_wrongBy {R : Room} {s : State} {args : Array Value} {own : String} {index : Nat} (hts : ∀ w ∈ lw_all, w.before args s = true) (hlink : Cond.methodLink own index yX9_wrongBy ∈ lw_all) (hR : rm_X9_wrongBy.frames + 1 ≤ R.frames ∧ 8 + (2 + 11) + rm_X9_wrongBy.locals ≤ R.locals) : CallB R s args own index yX9_wrongBy cX9_wrongBy 2 (some FieldType.int) (ws_ yX9_wrongBy cX9_wrongBy 2 (some FieldType.int)) rm_X9_wrongBy 0 0 2 ∧ (Cond.static yX9_wrongBy).before args s = true :=
  va_cwS 2 hts (lw_S hlink q1391 q111 q1392) rfl rfl rfl (by decide +kernel) hR
def f_X9_leastHeap_L4 (a0 : Int32) : Nat → Int32 → Int32 → Option (Int32)
  | 0, _, _ => none
  | n + 1, x2_1, x1_1 => if 25 ≤ x2_1 then some x1_1 else Option.bind (f_X9_heapOf a0 x2_1) fun o3 => Option.bind (f_X9_bits o3) fun o4 => if o4 ≤ 0 then Option.bind (some ((x2_1 + 1) : Int32)) fun v6 => f_X9_leastHeap_L4 a0 n v6 x1_1 else if x1_1 = 0 then Option.bind (some ((x2_1 + 1) : Int32)) fun v8 => f_X9_leastHeap_L4 a0 n v8 o4 else if x1_1 ≤ o4 then Option.bind (some ((x2_1 + 1) : Int32)) fun v10 => f_X9_leastHeap_L4 a0 n v10 x1_1 else Option.bind (some ((x2_1 + 1) : Int32)) fun v11 => f_X9_leastHeap_L4 a0 n v11 o4
def f_X9_leastHeap (a0 : Int32) : Option Int32 := Option.bind (f_X9_leastHeap_L4 a0 1000 0 0) fun o1 => some o1
abbrev rm_X9_leastHeap : Room := ({ frames := 3, cells := 0, slots := 0, locals := 64 })
set_option maxHeartbeats 4000000 in
theorem m_X9_leastHeap (l : Launch) (a0 : Int32) (r0 : Int32) (hr : f_X9_leastHeap a0 = some r0) : PM l yX9_leastHeap cX9_leastHeap 4 (some FieldType.int) rm_X9_leastHeap [.int a0] (fun _ => True) (some (.int r0)) := by
  refine fw_of (by decide) (Nat.le_of_ble_eq_true rfl) ?_
  intro p e s m below meth c ls hx hb hrt hts hown hlk hml _ _ hl
  have hl : lv_has ls 4 [(0, .int a0)] := hl
  rw [f_X9_leastHeap] at hr
  refine lv_iconst (v := 0) hx hb dX9_leastHeap_0 rfl ?_
  refine lv_istore_n (lv' := [(1, .int 0), (0, .int a0)]) hx hb dX9_leastHeap_1 rfl hl (by decide) rfl (fun ls hl => ?_)
  refine lv_iconst (v := 0) hx hb dX9_leastHeap_2 rfl ?_
  refine lv_istore_n (lv' := [(2, .int 0), (1, .int 0), (0, .int a0)]) hx hb dX9_leastHeap_3 rfl hl (by decide) rfl (fun ls hl => ?_)
  have L1 : ∀ (n : Nat) (x2_1 : Int32) (x1_1 : Int32) (o1 : Int32), f_X9_leastHeap_L4 a0 n x2_1 x1_1 = some o1 → ∀ ls, lv_has ls 4 [(2, .int x2_1), (1, .int x1_1), (0, .int a0)] → (∀ ls, lv_has ls 4 [(1, .int o1)] → WP p l e rm_X9_leastHeap s m [.int a0] below meth c (some (.int r0)) 44 ls []) → WP p l e rm_X9_leastHeap s m [.int a0] below meth c (some (.int r0)) 4 ls [] := by
    intro n
    induction n with
    | zero => intro x2_1 x1_1 o1 hr; rw [f_X9_leastHeap_L4] at hr; cases hr
    | succ n ih =>
      intro x2_1 x1_1 o1 hr ls hl kx
      rw [f_X9_leastHeap_L4] at hr
      refine lv_iload_n hx hb dX9_leastHeap_4 rfl (lv_at hl 0 rfl) ?_
      refine lv_bipush (v := 25) hx hb dX9_leastHeap_5 rfl ?_
      have hi2 := br_ite hr
      refine lv_icmp_ge (tgt := 44) hx hb dX9_leastHeap_7 (by decide) (fun c2 => ?_) (fun c2 => ?_)
      · have hr := hi2.1 c2
        obtain rfl := Option.some.inj hr
        exact kx ls (lv_sub hl [1] rfl)
      · have hr := hi2.2 c2
        refine lv_iload_n hx hb dX9_leastHeap_10 rfl (lv_at hl 2 rfl) ?_
        refine lv_iload_n hx hb dX9_leastHeap_11 rfl (lv_at hl 0 rfl) ?_
        obtain ⟨o3, ho3, hr⟩ := br_bind hr
        refine fwS (As := [.int a0, .int x2_1]) (rest := []) hx hb hml hown hts (m_X9_heapOf l a0 x2_1 o3 ho3) (cw_X9_heapOf hts q1341 ⟨Nat.le_of_ble_eq_true rfl, Nat.le_of_ble_eq_true rfl⟩) rfl hl.1 rfl (Nat.le_of_ble_eq_true rfl) dX9_leastHeap_12 ⟨Nat.zero_le _, Nat.zero_le _⟩ ?_
        obtain ⟨o4, ho4, hr⟩ := br_bind hr
        refine fwS (As := [.int o3]) (rest := []) hx hb hml hown hts (m_X9_bits l o3 o4 ho4) (cw_X9_bits hts q1338 ⟨Nat.le_of_ble_eq_true rfl, Nat.le_of_ble_eq_true rfl⟩) rfl hl.1 rfl (Nat.le_of_ble_eq_true rfl) dX9_leastHeap_15 ⟨Nat.zero_le _, Nat.zero_le _⟩ ?_
        refine lv_istore_n (lv' := [(3, .int o4), (2, .int x2_1), (1, .int x1_1), (0, .int a0)]) hx hb dX9_leastHeap_18 rfl hl (by decide) rfl (fun ls hl => ?_)
        refine lv_iload_n hx hb dX9_leastHeap_19 rfl (lv_at hl 0 rfl) ?_
        have hi5 := br_ite hr
        refine lv_if_le (tgt := 36) hx hb dX9_leastHeap_20 (by decide) (fun c5 => ?_) (fun c5 => ?_)
        · have hr := hi5.1 c5
          refine lv_iload_n hx hb dX9_leastHeap_36 rfl (lv_at hl 2 rfl) ?_
          refine lv_istore_n (lv' := [(1, .int x1_1), (3, .int o4), (2, .int x2_1), (0, .int a0)]) hx hb dX9_leastHeap_37 rfl hl (by decide) rfl (fun ls hl => ?_)
          obtain ⟨v6, hv6, hr⟩ := br_let hr
          refine lv_iinc (v := v6) (lv' := [(2, .int v6), (1, .int x1_1), (3, .int o4), (0, .int a0)]) hx hb dX9_leastHeap_38 hl (k := 2) rfl (hv6 ▸ rfl) (by decide) rfl (fun ls hl => ?_)
          refine lv_goto (tgt := 4) hx hb dX9_leastHeap_41 (by decide) ?_
          exact ih v6 x1_1 _ hr ls (lv_sub hl [0, 1, 3] rfl) kx
        · have hr := hi5.2 c5
          refine lv_iload_n hx hb dX9_leastHeap_23 rfl (lv_at hl 2 rfl) ?_
          have hi7 := br_ite hr
          refine lv_if_eq (tgt := 32) hx hb dX9_leastHeap_24 (by decide) (fun c7 => ?_) (fun c7 => ?_)
          · have hr := hi7.1 c7
            refine lv_iload_n hx hb dX9_leastHeap_32 rfl (lv_at hl 0 rfl) ?_
            refine lv_goto (tgt := 37) hx hb dX9_leastHeap_33 (by decide) ?_
            refine lv_istore_n (lv' := [(1, .int o4), (3, .int o4), (2, .int x2_1), (0, .int a0)]) hx hb dX9_leastHeap_37 rfl hl (by decide) rfl (fun ls hl => ?_)
            obtain ⟨v8, hv8, hr⟩ := br_let hr
            refine lv_iinc (v := v8) (lv' := [(2, .int v8), (1, .int o4), (3, .int o4), (0, .int a0)]) hx hb dX9_leastHeap_38 hl (k := 2) rfl (hv8 ▸ rfl) (by decide) rfl (fun ls hl => ?_)
            refine lv_goto (tgt := 4) hx hb dX9_leastHeap_41 (by decide) ?_
            exact ih v8 o4 _ hr ls (lv_sub hl [0, 1, 3] rfl) kx
          · have hr := hi7.2 c7
            refine lv_iload_n hx hb dX9_leastHeap_27 rfl (lv_at hl 0 rfl) ?_
            refine lv_iload_n hx hb dX9_leastHeap_28 rfl (lv_at hl 2 rfl) ?_
            have hi9 := br_ite hr
            refine lv_icmp_ge (tgt := 36) hx hb dX9_leastHeap_29 (by decide) (fun c9 => ?_) (fun c9 => ?_)
            · have hr := hi9.1 c9
              refine lv_iload_n hx hb dX9_leastHeap_36 rfl (lv_at hl 2 rfl) ?_
              refine lv_istore_n (lv' := [(1, .int x1_1), (3, .int o4), (2, .int x2_1), (0, .int a0)]) hx hb dX9_leastHeap_37 rfl hl (by decide) rfl (fun ls hl => ?_)
              obtain ⟨v10, hv10, hr⟩ := br_let hr
              refine lv_iinc (v := v10) (lv' := [(2, .int v10), (1, .int x1_1), (3, .int o4), (0, .int a0)]) hx hb dX9_leastHeap_38 hl (k := 2) rfl (hv10 ▸ rfl) (by decide) rfl (fun ls hl => ?_)
              refine lv_goto (tgt := 4) hx hb dX9_leastHeap_41 (by decide) ?_
              exact ih v10 x1_1 _ hr ls (lv_sub hl [0, 1, 3] rfl) kx
            · have hr := hi9.2 c9
              refine lv_iload_n hx hb dX9_leastHeap_32 rfl (lv_at hl 0 rfl) ?_
              refine lv_goto (tgt := 37) hx hb dX9_leastHeap_33 (by decide) ?_
              refine lv_istore_n (lv' := [(1, .int o4), (3, .int o4), (2, .int x2_1), (0, .int a0)]) hx hb dX9_leastHeap_37 rfl hl (by decide) rfl (fun ls hl => ?_)
              obtain ⟨v11, hv11, hr⟩ := br_let hr
              refine lv_iinc (v := v11) (lv' := [(2, .int v11), (1, .int o4), (3, .int o4), (0, .int a0)]) hx hb dX9_leastHeap_38 hl (k := 2) rfl (hv11 ▸ rfl) (by decide) rfl (fun ls hl => ?_)
              refine lv_goto (tgt := 4) hx hb dX9_leastHeap_41 (by decide) ?_
              exact ih v11 o4 _ hr ls (lv_sub hl [0, 1, 3] rfl) kx
  obtain ⟨o1, ho1, hr⟩ := br_bind hr
  refine L1 1000 0 0 o1 ho1 ls (lv_sub hl [0, 1, 2] rfl) (fun ls hl => ?_)
  refine lv_iload_n hx hb dX9_leastHeap_44 rfl (lv_at hl 0 rfl) ?_
  exact W.iret hx hb hrt (fun t ht _ => ⟨ret_i hr, ht⟩) noB dX9_leastHeap_45 hlk
theorem cw_X9_leastHeap {R : Room} {s : State} {args : Array Value} {own : String} {index : Nat} (hts : ∀ w ∈ lw_all, w.before args s = true) (hlink : Cond.methodLink own index yX9_leastHeap ∈ lw_all) (hR : rm_X9_leastHeap.frames + 1 ≤ R.frames ∧ 8 + (4 + 11) + rm_X9_leastHeap.locals ≤ R.locals) : CallB R s args own index yX9_leastHeap cX9_leastHeap 4 (some FieldType.int) (ws_ yX9_leastHeap cX9_leastHeap 4 (some FieldType.int)) rm_X9_leastHeap 0 0 1 ∧ (Cond.static yX9_leastHeap).before args s = true :=
  va_cwS 1 hts (lw_S hlink q1410 q111 q1411) rfl rfl rfl (by decide +kernel) hR
def f_X9_border_L4 : Nat → Int32 → Int32 → Option (Int32)
  | 0, _, _ => none
  | n + 1, x1_1, x0_1 => if 25 ≤ x1_1 then some x0_1 else if x1_1 < 5 then Option.bind (some ((x0_1 ||| ((1 : Int32) <<< (x1_1 &&& 31))) : Int32)) fun v4 => Option.bind (some ((x1_1 + 1) : Int32)) fun v5 => f_X9_border_L4 n v5 v4 else if 20 ≤ x1_1 then Option.bind (some ((x0_1 ||| ((1 : Int32) <<< (x1_1 &&& 31))) : Int32)) fun v7 => Option.bind (some ((x1_1 + 1) : Int32)) fun v8 => f_X9_border_L4 n v8 v7 else if (x1_1 - x1_1 / 5 * 5) = 0 then Option.bind (some ((x0_1 ||| ((1 : Int32) <<< (x1_1 &&& 31))) : Int32)) fun v10 => Option.bind (some ((x1_1 + 1) : Int32)) fun v11 => f_X9_border_L4 n v11 v10 else if (x1_1 - x1_1 / 5 * 5) = 4 then Option.bind (some ((x0_1 ||| ((1 : Int32) <<< (x1_1 &&& 31))) : Int32)) fun v15 => Option.bind (some ((x1_1 + 1) : Int32)) fun v16 => f_X9_border_L4 n v16 v15 else Option.bind (some ((x0_1 ||| 0) : Int32)) fun v13 => Option.bind (some ((x1_1 + 1) : Int32)) fun v14 => f_X9_border_L4 n v14 v13
def f_X9_border : Option Int32 := Option.bind (f_X9_border_L4 1000 0 0) fun o1 => some o1
abbrev rm_X9_border : Room := ({ frames := 1, cells := 0, slots := 0, locals := 18 })
set_option maxHeartbeats 4000000 in
theorem m_X9_border (l : Launch) (r0 : Int32) (hr : f_X9_border = some r0) : PM l yX9_border cX9_border 2 (some FieldType.int) rm_X9_border [] (fun _ => True) (some (.int r0)) := by
  refine fw_of (by decide) (Nat.le_of_ble_eq_true rfl) ?_
  intro p e s m below meth c ls hx hb hrt hts hown hlk hml _ _ hl
  have hl : lv_has ls 2 [] := hl
  rw [f_X9_border] at hr
  refine lv_iconst (v := 0) hx hb dX9_border_0 rfl ?_
  refine lv_istore_n (lv' := [(0, .int 0)]) hx hb dX9_border_1 rfl hl (by decide) rfl (fun ls hl => ?_)
  refine lv_iconst (v := 0) hx hb dX9_border_2 rfl ?_
  refine lv_istore_n (lv' := [(1, .int 0), (0, .int 0)]) hx hb dX9_border_3 rfl hl (by decide) rfl (fun ls hl => ?_)
  have L1 : ∀ (n : Nat) (x1_1 : Int32) (x0_1 : Int32) (o1 : Int32), f_X9_border_L4 n x1_1 x0_1 = some o1 → ∀ ls, lv_has ls 2 [(1, .int x1_1), (0, .int x0_1)] → (∀ ls, lv_has ls 2 [(0, .int o1)] → WP p l e rm_X9_border s m [] below meth c (some (.int r0)) 50 ls []) → WP p l e rm_X9_border s m [] below meth c (some (.int r0)) 4 ls [] := by
    intro n
    induction n with
    | zero => intro x1_1 x0_1 o1 hr; rw [f_X9_border_L4] at hr; cases hr
    | succ n ih =>
      intro x1_1 x0_1 o1 hr ls hl kx
      rw [f_X9_border_L4] at hr
      refine lv_iload_n hx hb dX9_border_4 rfl (lv_at hl 0 rfl) ?_
      refine lv_bipush (v := 25) hx hb dX9_border_5 rfl ?_
      have hi2 := br_ite hr
      refine lv_icmp_ge (tgt := 50) hx hb dX9_border_7 (by decide) (fun c2 => ?_) (fun c2 => ?_)
      · have hr := hi2.1 c2
        obtain rfl := Option.some.inj hr
        exact kx ls (lv_sub hl [1] rfl)
      · have hr := hi2.2 c2
        refine lv_iload_n hx hb dX9_border_10 rfl (lv_at hl 1 rfl) ?_
        refine lv_iload_n hx hb dX9_border_11 rfl (lv_at hl 0 rfl) ?_
        refine lv_iconst (v := 5) hx hb dX9_border_12 rfl ?_
        have hi3 := br_ite hr
        refine lv_icmp_lt (tgt := 35) hx hb dX9_border_13 (by decide) (fun c3 => ?_) (fun c3 => ?_)
        · have hr := hi3.1 c3
          refine lv_iconst (v := 1) hx hb dX9_border_35 rfl ?_
          refine lv_iload_n hx hb dX9_border_36 rfl (lv_at hl 0 rfl) ?_
          refine lv_ishl hx hb dX9_border_37 ?_
          refine lv_goto (tgt := 42) hx hb dX9_border_38 (by decide) ?_
          refine lv_ior hx hb dX9_border_42 ?_
          refine lv_topi (fun v4 hv4 => ?_)
          have hr := br_letv hr hv4
          refine lv_istore_n (lv' := [(0, .int v4), (1, .int x1_1)]) hx hb dX9_border_43 rfl hl (by decide) rfl (fun ls hl => ?_)
          obtain ⟨v5, hv5, hr⟩ := br_let hr
          refine lv_iinc (v := v5) (lv' := [(1, .int v5), (0, .int v4)]) hx hb dX9_border_44 hl (k := 1) rfl (hv5 ▸ rfl) (by decide) rfl (fun ls hl => ?_)
          refine lv_goto (tgt := 4) hx hb dX9_border_47 (by decide) ?_
          exact ih v5 v4 _ hr ls (lv_sub hl [0, 1] rfl) kx
        · have hr := hi3.2 c3
          refine lv_iload_n hx hb dX9_border_16 rfl (lv_at hl 0 rfl) ?_
          refine lv_bipush (v := 20) hx hb dX9_border_17 rfl ?_
          have hi6 := br_ite hr
          refine lv_icmp_ge (tgt := 35) hx hb dX9_border_19 (by decide) (fun c6 => ?_) (fun c6 => ?_)
          · have hr := hi6.1 c6
            refine lv_iconst (v := 1) hx hb dX9_border_35 rfl ?_
            refine lv_iload_n hx hb dX9_border_36 rfl (lv_at hl 0 rfl) ?_
            refine lv_ishl hx hb dX9_border_37 ?_
            refine lv_goto (tgt := 42) hx hb dX9_border_38 (by decide) ?_
            refine lv_ior hx hb dX9_border_42 ?_
            refine lv_topi (fun v7 hv7 => ?_)
            have hr := br_letv hr hv7
            refine lv_istore_n (lv' := [(0, .int v7), (1, .int x1_1)]) hx hb dX9_border_43 rfl hl (by decide) rfl (fun ls hl => ?_)
            obtain ⟨v8, hv8, hr⟩ := br_let hr
            refine lv_iinc (v := v8) (lv' := [(1, .int v8), (0, .int v7)]) hx hb dX9_border_44 hl (k := 1) rfl (hv8 ▸ rfl) (by decide) rfl (fun ls hl => ?_)
            refine lv_goto (tgt := 4) hx hb dX9_border_47 (by decide) ?_
            exact ih v8 v7 _ hr ls (lv_sub hl [0, 1] rfl) kx
          · have hr := hi6.2 c6
            refine lv_iload_n hx hb dX9_border_22 rfl (lv_at hl 0 rfl) ?_
            refine lv_iconst (v := 5) hx hb dX9_border_23 rfl ?_
            refine lv_irem hx hb dX9_border_24 (by decide) ?_
            have hi9 := br_ite hr
            refine lv_if_eq (tgt := 35) hx hb dX9_border_25 (by decide) (fun c9 => ?_) (fun c9 => ?_)
            · have hr := hi9.1 c9
              refine lv_iconst (v := 1) hx hb dX9_border_35 rfl ?_
              refine lv_iload_n hx hb dX9_border_36 rfl (lv_at hl 0 rfl) ?_
              refine lv_ishl hx hb dX9_border_37 ?_
              refine lv_goto (tgt := 42) hx hb dX9_border_38 (by decide) ?_
              refine lv_ior hx hb dX9_border_42 ?_
              refine lv_topi (fun v10 hv10 => ?_)
              have hr := br_letv hr hv10
              refine lv_istore_n (lv' := [(0, .int v10), (1, .int x1_1)]) hx hb dX9_border_43 rfl hl (by decide) rfl (fun ls hl => ?_)
              obtain ⟨v11, hv11, hr⟩ := br_let hr
              refine lv_iinc (v := v11) (lv' := [(1, .int v11), (0, .int v10)]) hx hb dX9_border_44 hl (k := 1) rfl (hv11 ▸ rfl) (by decide) rfl (fun ls hl => ?_)
              refine lv_goto (tgt := 4) hx hb dX9_border_47 (by decide) ?_
              exact ih v11 v10 _ hr ls (lv_sub hl [0, 1] rfl) kx
            · have hr := hi9.2 c9
              refine lv_iload_n hx hb dX9_border_28 rfl (lv_at hl 0 rfl) ?_
              refine lv_iconst (v := 5) hx hb dX9_border_29 rfl ?_
              refine lv_irem hx hb dX9_border_30 (by decide) ?_
              refine lv_iconst (v := 4) hx hb dX9_border_31 rfl ?_
              have hi12 := br_ite hr
              refine lv_icmp_ne (tgt := 41) hx hb dX9_border_32 (by decide) (fun c12 => ?_) (fun c12 => ?_)
              · have hr := hi12.2 c12
                refine lv_iconst (v := 0) hx hb dX9_border_41 rfl ?_
                refine lv_ior hx hb dX9_border_42 ?_
                refine lv_topi (fun v13 hv13 => ?_)
                have hr := br_letv hr hv13
                refine lv_istore_n (lv' := [(0, .int v13), (1, .int x1_1)]) hx hb dX9_border_43 rfl hl (by decide) rfl (fun ls hl => ?_)
                obtain ⟨v14, hv14, hr⟩ := br_let hr
                refine lv_iinc (v := v14) (lv' := [(1, .int v14), (0, .int v13)]) hx hb dX9_border_44 hl (k := 1) rfl (hv14 ▸ rfl) (by decide) rfl (fun ls hl => ?_)
                refine lv_goto (tgt := 4) hx hb dX9_border_47 (by decide) ?_
                exact ih v14 v13 _ hr ls (lv_sub hl [0, 1] rfl) kx
              · have hr := hi12.1 c12
                refine lv_iconst (v := 1) hx hb dX9_border_35 rfl ?_
                refine lv_iload_n hx hb dX9_border_36 rfl (lv_at hl 0 rfl) ?_
                refine lv_ishl hx hb dX9_border_37 ?_
                refine lv_goto (tgt := 42) hx hb dX9_border_38 (by decide) ?_
                refine lv_ior hx hb dX9_border_42 ?_
                refine lv_topi (fun v15 hv15 => ?_)
                have hr := br_letv hr hv15
                refine lv_istore_n (lv' := [(0, .int v15), (1, .int x1_1)]) hx hb dX9_border_43 rfl hl (by decide) rfl (fun ls hl => ?_)
                obtain ⟨v16, hv16, hr⟩ := br_let hr
                refine lv_iinc (v := v16) (lv' := [(1, .int v16), (0, .int v15)]) hx hb dX9_border_44 hl (k := 1) rfl (hv16 ▸ rfl) (by decide) rfl (fun ls hl => ?_)
                refine lv_goto (tgt := 4) hx hb dX9_border_47 (by decide) ?_
                exact ih v16 v15 _ hr ls (lv_sub hl [0, 1] rfl) kx
  obtain ⟨o1, ho1, hr⟩ := br_bind hr
  refine L1 1000 0 0 o1 ho1 ls (lv_sub hl [0, 1] rfl) (fun ls hl => ?_)
  refine lv_iload_n hx hb dX9_border_50 rfl (lv_at hl 0 rfl) ?_
  exact W.iret hx hb hrt (fun t ht _ => ⟨ret_i hr, ht⟩) noB dX9_border_51 hlk
theorem cw_X9_border {R : Room} {s : State} {args : Array Value} {own : String} {index : Nat} (hts : ∀ w ∈ lw_all, w.before args s = true) (hlink : Cond.methodLink own index yX9_border ∈ lw_all) (hR : rm_X9_border.frames + 1 ≤ R.frames ∧ 8 + (2 + 11) + rm_X9_border.locals ≤ R.locals) : CallB R s args own index yX9_border cX9_border 2 (some FieldType.int) (ws_ yX9_border cX9_border 2 (some FieldType.int)) rm_X9_border 0 0 0 ∧ (Cond.static yX9_border).before args s = true :=
  va_cwS 0 hts (lw_S hlink q1417 q111 q1418) rfl rfl rfl (by decide +kernel) hR
def f_X9_after (a0 : Int32) (a1 : Int32) : Option Int32 := if 0 ≤ a1 then Option.bind (f_X9_bite (a1 / 100) (a1 - a1 / 100 * 100)) fun o2 => some (a0 &&& (o2 ^^^ (-1))) else some a0
abbrev rm_X9_after : Room := ({ frames := 2, cells := 0, slots := 0, locals := 45 })
set_option maxHeartbeats 4000000 in
theorem m_X9_after (l : Launch) (a0 : Int32) (a1 : Int32) (r0 : Int32) (hr : f_X9_after a0 a1 = some r0) : PM l yX9_after cX9_after 2 (some FieldType.int) rm_X9_after [.int a0, .int a1] (fun _ => True) (some (.int r0)) := by
  refine fw_of (by decide) (Nat.le_of_ble_eq_true rfl) ?_
  intro p e s m below meth c ls hx hb hrt hts hown hlk hml _ _ hl
  have hl : lv_has ls 2 [(0, .int a0), (1, .int a1)] := hl
  rw [f_X9_after] at hr
  refine lv_iload_n hx hb dX9_after_0 rfl (lv_at hl 1 rfl) ?_
  have hi1 := br_ite hr
  refine lv_if_ge (tgt := 8) hx hb dX9_after_1 (by decide) (fun c1 => ?_) (fun c1 => ?_)
  · have hr := hi1.1 c1
    refine lv_iload_n hx hb dX9_after_8 rfl (lv_at hl 0 rfl) ?_
    refine lv_iload_n hx hb dX9_after_9 rfl (lv_at hl 1 rfl) ?_
    refine lv_bipush (v := 100) hx hb dX9_after_10 rfl ?_
    refine lv_idiv hx hb dX9_after_12 (by decide) ?_
    refine lv_iload_n hx hb dX9_after_13 rfl (lv_at hl 1 rfl) ?_
    refine lv_bipush (v := 100) hx hb dX9_after_14 rfl ?_
    refine lv_irem hx hb dX9_after_16 (by decide) ?_
    obtain ⟨o2, ho2, hr⟩ := br_bind hr
    refine fwS (As := [.int (a1 / 100), .int (a1 - a1 / 100 * 100)]) (rest := [.int a0]) hx hb hml hown hts (m_X9_bite l (a1 / 100) (a1 - a1 / 100 * 100) o2 ho2) (cw_X9_bite hts q1307 ⟨Nat.le_of_ble_eq_true rfl, Nat.le_of_ble_eq_true rfl⟩) rfl hl.1 rfl (Nat.le_of_ble_eq_true rfl) dX9_after_17 ⟨Nat.zero_le _, Nat.zero_le _⟩ ?_
    refine lv_iconst (v := (-1)) hx hb dX9_after_20 rfl ?_
    refine lv_ixor hx hb dX9_after_21 ?_
    refine lv_iand hx hb dX9_after_22 ?_
    exact W.iret hx hb hrt (fun t ht _ => ⟨ret_i hr, ht⟩) noB dX9_after_23 hlk
  · have hr := hi1.2 c1
    refine lv_iload_n hx hb dX9_after_4 rfl (lv_at hl 0 rfl) ?_
    refine lv_goto (tgt := 23) hx hb dX9_after_5 (by decide) ?_
    exact W.iret hx hb hrt (fun t ht _ => ⟨ret_i hr, ht⟩) noB dX9_after_23 hlk
theorem cw_X9_after {R : Room} {s : State} {args : Array Value} {own : String} {index : Nat} (hts : ∀ w ∈ lw_all, w.before args s = true) (hlink : Cond.methodLink own index yX9_after ∈ lw_all) (hR : rm_X9_after.frames + 1 ≤ R.frames ∧ 8 + (2 + 11) + rm_X9_after.locals ≤ R.locals) : CallB R s args own index yX9_after cX9_after 2 (some FieldType.int) (ws_ yX9_after cX9_after 2 (some FieldType.int)) rm_X9_after 0 0 2 ∧ (Cond.static yX9_after).before args s = true :=
  va_cwS 2 hts (lw_S hlink q1432 q111 q1433) rfl rfl rfl (by decide +kernel) hR
def f_X9_gcd_L6 : Nat → Int64 → Int64 → Option (Int64)
  | 0, _, _ => none
  | n + 1, x6_1, x4_1 => if (lg_cmp x6_1 0) = 0 then some x4_1 else if x6_1 = 0 then none else Option.bind (some ((x4_1 - x4_1 / x6_1 * x6_1) : Int64)) fun v4 => f_X9_gcd_L6 n v4 x6_1
def f_X9_gcd (a0 : Int64) (a2 : Int64) : Option Int64 := Option.bind (f_X9_gcd_L6 1000 a2 a0) fun o1 => some o1
abbrev rm_X9_gcd : Room := ({ frames := 1, cells := 0, slots := 0, locals := 26 })
set_option maxHeartbeats 4000000 in
theorem m_X9_gcd (l : Launch) (a0 : Int64) (a2 : Int64) (r0 : Int64) (hr : f_X9_gcd a0 a2 = some r0) : PM l yX9_gcd cX9_gcd 10 (some FieldType.long) rm_X9_gcd [.long a0, .long a2] (fun _ => True) (some (.long r0)) := by
  refine fw_of (by decide) (Nat.le_of_ble_eq_true rfl) ?_
  intro p e s m below meth c ls hx hb hrt hts hown hlk hml _ _ hl
  have hl : lv_has ls 10 [(0, .long a0), (2, .long a2)] := hl
  rw [f_X9_gcd] at hr
  refine lv_lload_n hx hb dX9_gcd_0 rfl (lv_at hl 0 rfl) ?_
  refine lv_lstore (lv' := [(4, .long a0), (0, .long a0), (2, .long a2)]) hx hb dX9_gcd_1 hl (by decide) rfl (fun ls hl => ?_)
  refine lv_lload_n hx hb dX9_gcd_3 rfl (lv_at hl 2 rfl) ?_
  refine lv_lstore (lv' := [(6, .long a2), (4, .long a0), (0, .long a0), (2, .long a2)]) hx hb dX9_gcd_4 hl (by decide) rfl (fun ls hl => ?_)
  have L1 : ∀ (n : Nat) (x6_1 : Int64) (x4_1 : Int64) (o1 : Int64), f_X9_gcd_L6 n x6_1 x4_1 = some o1 → ∀ ls, lv_has ls 10 [(6, .long x6_1), (4, .long x4_1)] → (∀ ls, lv_has ls 10 [(4, .long o1)] → WP p l e rm_X9_gcd s m [.long a0, .long a2] below meth c (some (.long r0)) 31 ls []) → WP p l e rm_X9_gcd s m [.long a0, .long a2] below meth c (some (.long r0)) 6 ls [] := by
    intro n
    induction n with
    | zero => intro x6_1 x4_1 o1 hr; rw [f_X9_gcd_L6] at hr; cases hr
    | succ n ih =>
      intro x6_1 x4_1 o1 hr ls hl kx
      rw [f_X9_gcd_L6] at hr
      refine lv_lload hx hb dX9_gcd_6 (lv_at hl 0 rfl) ?_
      refine lv_lconst (v := 0) hx hb dX9_gcd_8 rfl ?_
      refine W.lcmp hx hb dX9_gcd_9 ?_
      have hi2 := br_ite hr
      refine lv_if_eq (tgt := 31) hx hb dX9_gcd_10 (by decide) (fun c2 => ?_) (fun c2 => ?_)
      · have hr := hi2.1 c2
        obtain rfl := Option.some.inj hr
        exact kx ls (lv_sub hl [1] rfl)
      · have hr := hi2.2 c2
        refine lv_lload hx hb dX9_gcd_13 (lv_at hl 1 rfl) ?_
        refine lv_lload hx hb dX9_gcd_15 (lv_at hl 0 rfl) ?_
        obtain ⟨c3, hr⟩ := br_none hr
        refine lv_lrem hx hb dX9_gcd_17 c3 ?_
        refine lv_topl (fun v4 hv4 => ?_)
        have hr := br_letv hr hv4
        refine lv_lstore (lv' := [(8, .long v4), (6, .long x6_1), (4, .long x4_1)]) hx hb dX9_gcd_18 hl (by decide) rfl (fun ls hl => ?_)
        refine lv_lload hx hb dX9_gcd_20 (lv_at hl 1 rfl) ?_
        refine lv_lstore (lv' := [(4, .long x6_1), (8, .long v4), (6, .long x6_1)]) hx hb dX9_gcd_22 hl (by decide) rfl (fun ls hl => ?_)
        refine lv_lload hx hb dX9_gcd_24 (lv_at hl 1 rfl) ?_
        refine lv_lstore (lv' := [(6, .long v4), (4, .long x6_1), (8, .long v4)]) hx hb dX9_gcd_26 hl (by decide) rfl (fun ls hl => ?_)
        refine lv_goto (tgt := 6) hx hb dX9_gcd_28 (by decide) ?_
        exact ih v4 x6_1 _ hr ls (lv_sub hl [0, 1] rfl) kx
  obtain ⟨o1, ho1, hr⟩ := br_bind hr
  refine L1 1000 a2 a0 o1 ho1 ls (lv_sub hl [0, 1] rfl) (fun ls hl => ?_)
  refine lv_lload hx hb dX9_gcd_31 (lv_at hl 0 rfl) ?_
  exact W.lret hx hb hrt (fun t ht _ => ⟨ret_l hr, ht⟩) noB dX9_gcd_33 hlk
theorem cw_X9_gcd {R : Room} {s : State} {args : Array Value} {own : String} {index : Nat} (hts : ∀ w ∈ lw_all, w.before args s = true) (hlink : Cond.methodLink own index yX9_gcd ∈ lw_all) (hR : rm_X9_gcd.frames + 1 ≤ R.frames ∧ 8 + (10 + 11) + rm_X9_gcd.locals ≤ R.locals) : CallB R s args own index yX9_gcd cX9_gcd 10 (some FieldType.long) (ws_ yX9_gcd cX9_gcd 10 (some FieldType.long)) rm_X9_gcd 0 0 2 ∧ (Cond.static yX9_gcd).before args s = true :=
  va_cwS 2 hts (lw_S hlink q1537 q111 q1538) rfl rfl rfl (by decide +kernel) hR
def f_X9_partOf (a0 : Int64) (a2 : Int64) (a4 : Int32) : Option Int64 := if (lg_cmp a0 0) = 0 then some (Int32.toInt64 a4) else Option.bind (α := Int64) (if a4 = 0 then some a0 else some a2) fun o3 => Option.bind (f_X9_gcd a0 a2) fun o4 => if o4 = 0 then none else some (o3 / o4)
abbrev rm_X9_partOf : Room := ({ frames := 2, cells := 0, slots := 0, locals := 55 })
set_option maxHeartbeats 4000000 in
theorem m_X9_partOf (l : Launch) (a0 : Int64) (a2 : Int64) (a4 : Int32) (r0 : Int64) (hr : f_X9_partOf a0 a2 a4 = some r0) : PM l yX9_partOf cX9_partOf 5 (some FieldType.long) rm_X9_partOf [.long a0, .long a2, .int a4] (fun _ => True) (some (.long r0)) := by
  refine fw_of (by decide) (Nat.le_of_ble_eq_true rfl) ?_
  intro p e s m below meth c ls hx hb hrt hts hown hlk hml _ _ hl
  have hl : lv_has ls 5 [(0, .long a0), (2, .long a2), (4, .int a4)] := hl
  rw [f_X9_partOf] at hr
  refine lv_lload_n hx hb dX9_partOf_0 rfl (lv_at hl 0 rfl) ?_
  refine lv_lconst (v := 0) hx hb dX9_partOf_1 rfl ?_
  refine W.lcmp hx hb dX9_partOf_2 ?_
  have hi1 := br_ite hr
  refine lv_if_ne (tgt := 10) hx hb dX9_partOf_3 (by decide) (fun c1 => ?_) (fun c1 => ?_)
  · have hr := hi1.2 c1
    refine lv_iload hx hb dX9_partOf_10 (lv_at hl 2 rfl) ?_
    obtain ⟨o3, ho3, hr⟩ := br_bind hr
    have J3 : ∀ ls, lv_has ls 5 [(0, .long a0), (2, .long a2)] → WP p l e rm_X9_partOf s m [.long a0, .long a2, .int a4] below meth c (some (.long r0)) 20 ls [.long o3] := by
      intro ls hl
      refine lv_lload_n hx hb dX9_partOf_20 rfl (lv_at hl 0 rfl) ?_
      refine lv_lload_n hx hb dX9_partOf_21 rfl (lv_at hl 1 rfl) ?_
      obtain ⟨o4, ho4, hr⟩ := br_bind hr
      refine fwS (As := [.long a0, .long a2]) (rest := [.long o3]) hx hb hml hown hts (m_X9_gcd l a0 a2 o4 ho4) (cw_X9_gcd hts q1536 ⟨Nat.le_of_ble_eq_true rfl, Nat.le_of_ble_eq_true rfl⟩) rfl hl.1 rfl (Nat.le_of_ble_eq_true rfl) dX9_partOf_22 ⟨Nat.zero_le _, Nat.zero_le _⟩ ?_
      obtain ⟨c5, hr⟩ := br_none hr
      refine lv_ldiv hx hb dX9_partOf_25 c5 ?_
      exact W.lret hx hb hrt (fun t ht _ => ⟨ret_l hr, ht⟩) noB dX9_partOf_26 hlk
    have hr := ho3
    have hi2 := br_ite hr
    refine lv_if_ne (tgt := 19) hx hb dX9_partOf_12 (by decide) (fun c2 => ?_) (fun c2 => ?_)
    · have hr := hi2.2 c2
      refine lv_lload_n hx hb dX9_partOf_19 rfl (lv_at hl 1 rfl) ?_
      obtain rfl := Option.some.inj hr
      exact J3 ls (lv_sub hl [0, 1] rfl)
    · have hr := hi2.1 c2
      refine lv_lload_n hx hb dX9_partOf_15 rfl (lv_at hl 0 rfl) ?_
      refine lv_goto (tgt := 20) hx hb dX9_partOf_16 (by decide) ?_
      obtain rfl := Option.some.inj hr
      exact J3 ls (lv_sub hl [0, 1] rfl)
  · have hr := hi1.1 c1
    refine lv_iload hx hb dX9_partOf_6 (lv_at hl 2 rfl) ?_
    refine lv_i2l (v := (Int32.toInt64 a4)) hx hb dX9_partOf_8 rfl ?_
    exact W.lret hx hb hrt (fun t ht _ => ⟨ret_l hr, ht⟩) noB dX9_partOf_9 hlk
theorem cw_X9_partOf {R : Room} {s : State} {args : Array Value} {own : String} {index : Nat} (hts : ∀ w ∈ lw_all, w.before args s = true) (hlink : Cond.methodLink own index yX9_partOf ∈ lw_all) (hR : rm_X9_partOf.frames + 1 ≤ R.frames ∧ 8 + (5 + 11) + rm_X9_partOf.locals ≤ R.locals) : CallB R s args own index yX9_partOf cX9_partOf 5 (some FieldType.long) (ws_ yX9_partOf cX9_partOf 5 (some FieldType.long)) rm_X9_partOf 0 0 3 ∧ (Cond.static yX9_partOf).before args s = true :=
  va_cwS 3 hts (lw_S hlink q1534 q111 q1535) rfl rfl rfl (by decide +kernel) hR