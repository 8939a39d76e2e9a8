theorem rep_rng (n : Nat) : ∀ (w1 w2 pre suf : va_W), w1.length = w2.length → pre.length = n → rep (List.range' n w1.length) w1 (pre ++ w2 ++ suf) = pre ++ w1 ++ suf := by
  intro w1
  induction w1 generalizing n with
  | nil =>
    intro w2 pre suf h _
    cases w2 with
    | nil => rfl
    | cons _ _ => cases h
  | cons w w1 ih =>
    intro w2 pre suf h hn
    cases w2 with
    | nil => cases h
    | cons x w2 =>
      have e1 : (pre ++ x :: w2 ++ suf).set n w = (pre ++ [w]) ++ w2 ++ suf := by
        subst hn
        simp
      show rep (List.range' (n + 1) w1.length) w1 ((pre ++ x :: w2 ++ suf).set n w) = _
      rw [e1, ih (n + 1) w2 (pre ++ [w]) suf (by simpa using h) (by simp [hn])]
      simp
theorem rep_pre (w1 w2 suf : va_W) (h : w1.length = w2.length) : rep (List.range' 0 w1.length) w1 (w2 ++ suf) = w1 ++ suf := rep_rng 0 w1 w2 [] suf h rfl
theorem rep_all (w1 w2 : va_W) (h : w1.length = w2.length) : rep (List.range' 0 w1.length) w1 w2 = w1 := by
  have := rep_pre w1 w2 [] h
  rwa [List.append_nil, List.append_nil] at this
theorem pk_rng (n : Nat) : ∀ (ws pre suf : va_W), pre.length = n → (List.range' n ws.length).map (fun i => (pre ++ ws ++ suf)[i]?) = ws.map some := by
  intro ws
  induction ws generalizing n with
  | nil => intro pre suf _; rfl
  | cons w ws ih =>
    intro pre suf hn
    have h1 := ih (n + 1) (pre ++ [w]) suf (by simp [hn])
    show _ :: (List.range' (n + 1) ws.length).map _ = _ :: ws.map some
    rw [← h1]
    subst hn
    congr 1
    · simp
    · simp
theorem pk_pre (ws suf : va_W) : (List.range' 0 ws.length).map (fun i => (ws ++ suf)[i]?) = ws.map some := pk_rng 0 ws [] suf rfl
theorem pk_all (ws : va_W) : (List.range' 0 ws.length).map (fun i => ws[i]?) = ws.map some := by
  have := pk_pre ws []
  rwa [List.append_nil] at this
abbrev ixX : List Nat := [0, 1, 2, 3, 4, 5, 6, 7, 8, 9, 10, 11, 12, 13, 14, 15, 16, 17, 18, 19, 20, 21, 22, 23, 24, 25]
theorem ixX_eq (ax : Nat → Nat) (ac : Nat → ClassId) (g : XS) : ixX = List.range' 0 (wX ax ac g).length := rfl
theorem rep_XS (ax : Nat → Nat) (ac : Nat → ClassId) (g h : XS) (suf : va_W) : rep ixX (wX ax ac g) (wX ax ac h ++ suf) = wX ax ac g ++ suf := by
  rw [ixX_eq ax ac g]
  exact rep_rng 0 (wX ax ac g) (wX ax ac h) [] suf rfl rfl
theorem rep_X (ax : Nat → Nat) (ac : Nat → ClassId) (g h : XS) : rep ixX (wX ax ac g) (wX ax ac h) = wX ax ac g := by
  have := rep_XS ax ac g h []
  rwa [List.append_nil, List.append_nil] at this
theorem nd_X : va_nd ixX = true := rfl
theorem pk_X (ax : Nat → Nat) (ac : Nat → ClassId) (g : XS) : ixX.map (fun i => (wX ax ac g)[i]?) = (wX ax ac g).map some := rfl
theorem pk_XS (ax : Nat → Nat) (ac : Nat → ClassId) (g : XS) (suf : va_W) : ixX.map (fun i => (wX ax ac g ++ suf)[i]?) = (wX ax ac g).map some := rfl
theorem ad_X (ax : Nat → Nat) (ac : Nat → ClassId) (g h : XS) : (wX ax ac g).map Prod.fst = (wX ax ac h).map Prod.fst := rfl
def f_X0_must (a0 : Int32) (a1 : Int32) : Option ((Unit) ⊕ (Int32)) := if a0 = 0 then some (Sum.inr a1) else some (Sum.inl ())
abbrev rm_X0_must : Room := ({ frames := 9, cells := 1, slots := 7, locals := 160 })
theorem cw_X0_must {R : Room} {s : State} {args : Array Value} {own : String} {index : Nat} (hts : ∀ w ∈ lw_all, w.before args s = true) (hlink : Cond.methodLink own index yX0_must ∈ lw_all) (hR : rm_X0_must.frames + 1 ≤ R.frames ∧ 8 + (2 + 11) + rm_X0_must.locals ≤ R.locals) : CallB R s args own index yX0_must cX0_must 2 none (ws_ yX0_must cX0_must 2 none) rm_X0_must rm_X0_must.cells rm_X0_must.slots 2 ∧ (Cond.static yX0_must).before args s = true :=
  va_cwS 2 hts (lw_S hlink q316 q102 q317) rfl rfl rfl (by decide +kernel) hR
set_option maxHeartbeats 4000000 in
theorem m_X0_must (l : Launch) (hst : l.stackTraces = false) (D : va_G) (ac : Nat → ClassId) (a0 : Int32) (a1 : Int32) (sz : Nat) (r0 : (Unit) ⊕ (Int32)) (hr : f_X0_must a0 a1 = some r0) : TM l yX0_must cX0_must 2 none rm_X0_must [.int a0, .int a1] D ac (([] : va_W)) sz (Sum.map (fun u => (([] : va_W), none)) (fun u => (([] : va_W), u)) r0) := by
  generalize hoc : (Sum.map (fun u => (([] : va_W), none)) (fun u => (([] : va_W), u)) r0 : Oc) = oc
  refine fw_ofT (by decide) (Nat.le_of_ble_eq_true rfl) ?_
  intro p e s m below meth c ls hx hb hrt hts hown hlk hml _ hnt hU hl
  obtain ⟨⟨rfl, hP, hG, hD⟩, hZ⟩ := hU
  have hA : ∀ q : Nat, s.heap.size ≤ q → (va_A (([] : va_W)) s.heap.size) q := fun q h => Or.inr h
  have hS := Stt.start hP hD
  show WT p l e rm_X0_must s m [.int a0, .int a1] below meth c D (va_A (([] : va_W)) s.heap.size) oc s.heap [] 0 0 0 ls []
  have hl : lv_has ls 2 [(0, .int a0), (1, .int a1)] := hl
  rw [f_X0_must] at hr
  refine lv_iload_n hx hb dX0_must_0 rfl (lv_at hl 0 rfl) ?_
  have hi1 := br_ite hr
  refine lv_if_ne (tgt := 13) hx hb dX0_must_1 (by decide) (fun c1 => ?_) (fun c1 => ?_)
  · have hr := hi1.2 c1
    obtain rfl := Option.some.inj hr
    refine W.widen (k := rm_X0_must.cells) (n := rm_X0_must.slots) (Nat.le_of_ble_eq_true rfl) (Nat.le_of_ble_eq_true rfl) ?_
    subst hoc
    exact xx_ret (W.vret hx hb hrt (fun t ht _ => hS.q ht rfl) hS.2.2.2.2 dX0_must_13 hlk)
  · have hr := hi1.1 c1
    refine fw_newX (C := RX11) (ci := 9) hx hb hown (hts _ q318) (hts _ q319) (hts _ q116) hS hA (Nat.le_of_ble_eq_true rfl) (Nat.le_of_ble_eq_true rfl) dX0_must_4 (fun xq H xC xK g1 g2 g3 g4 g5 g6 g7 hS => ?_)
    have hP := hS.1
    refine lv_dup hx hb dX0_must_7 rfl ?_
    refine lv_iload_n hx hb dX0_must_8 rfl (lv_at hl 1 rfl) ?_
    refine fw_xinit (C := RX11) (ci := 9) (nn := a1) (rest := [.ref xq]) hx hb hml hown hts (m_X11_init l hst D ac xq _ a1) (cwi_X11_init hts q359 ⟨Nat.le_of_ble_eq_true rfl, Nat.le_of_ble_eq_true rfl⟩) hG hZ hS hA g1 g2 g3 g4 g5 g7 hl.1 (Nat.le_of_ble_eq_true rfl) dX0_must_9 ⟨Nat.le_of_ble_eq_true rfl, Nat.le_of_ble_eq_true rfl⟩ (fun H locs hS => ?_)
    obtain rfl := Option.some.inj hr
    refine xx_athrow hx hb dX0_must_12 ?_
    subst hoc
    exact fw_xout hnt hlk hG (Or.inl rfl) hS (Nat.le_of_ble_eq_true rfl) (Nat.le_of_ble_eq_true rfl)
def f_X0_within (a0 : Int64) (a2 : Int64) (a4 : Int64) : Option ((Unit) ⊕ (Int32)) := Option.bind (α := Int32) (if (lg_cmp a0 a2) < 0 then some 0 else some 1) fun o2 => bX (f_X0_must o2 (-4 : Int32)) (fun b3 => b3) fun o3 => Option.bind (α := Int32) (if 0 < (lg_cmp a0 a4) then some 0 else some 1) fun o5 => bX (f_X0_must o5 (-6 : Int32)) (fun b6 => b6) fun o6 => some (Sum.inl ())
abbrev rm_X0_within : Room := ({ frames := 10, cells := 2, slots := 14, locals := 181 })
theorem cw_X0_within {R : Room} {s : State} {args : Array Value} {own : String} {index : Nat} (hts : ∀ w ∈ lw_all, w.before args s = true) (hlink : Cond.methodLink own index yX0_within ∈ lw_all) (hR : rm_X0_within.frames + 1 ≤ R.frames ∧ 8 + (6 + 11) + rm_X0_within.locals ≤ R.locals) : CallB R s args own index yX0_within cX0_within 6 none (ws_ yX0_within cX0_within 6 none) rm_X0_within rm_X0_within.cells rm_X0_within.slots 3 ∧ (Cond.static yX0_within).before args s = true :=
  va_cwS 3 hts (lw_S hlink q313 q102 q314) rfl rfl rfl (by decide +kernel) hR
set_option maxHeartbeats 4000000 in
theorem m_X0_within (l : Launch) (hst : l.stackTraces = false) (D : va_G) (ac : Nat → ClassId) (a0 : Int64) (a2 : Int64) (a4 : Int64) (sz : Nat) (r0 : (Unit) ⊕ (Int32)) (hr : f_X0_within a0 a2 a4 = some r0) : TM l yX0_within cX0_within 6 none rm_X0_within [.long a0, .long a2, .long a4] D ac (([] : va_W)) sz (Sum.map (fun u => (([] : va_W), none)) (fun u => (([] : va_W), u)) r0) := by
  generalize hoc : (Sum.map (fun u => (([] : va_W), none)) (fun u => (([] : va_W), u)) r0 : Oc) = oc
  refine fw_ofT (by decide) (Nat.le_of_ble_eq_true rfl) ?_
  intro p e s m below meth c ls hx hb hrt hts hown hlk hml _ hnt hU hl
  obtain ⟨⟨rfl, hP, hG, hD⟩, hZ⟩ := hU
  have hA : ∀ q : Nat, s.heap.size ≤ q → (va_A (([] : va_W)) s.heap.size) q := fun q h => Or.inr h
  have hS := Stt.start hP hD
  show WT p l e rm_X0_within s m [.long a0, .long a2, .long a4] below meth c D (va_A (([] : va_W)) s.heap.size) oc s.heap [] 0 0 0 ls []
  have hl : lv_has ls 6 [(0, .long a0), (2, .long a2), (4, .long a4)] := hl
  rw [f_X0_within] at hr
  refine lv_lload_n hx hb dX0_within_0 rfl (lv_at hl 0 rfl) ?_
  refine lv_lload_n hx hb dX0_within_1 rfl (lv_at hl 1 rfl) ?_
  refine W.lcmp hx hb dX0_within_2 ?_
  obtain ⟨o2, ho2, hr⟩ := br_bind hr
  have J2 : ∀ (H : Heap) (locs : List Loc) ls, lv_has ls 6 [(0, .long a0), (4, .long a4)] → Stt D (va_A (([] : va_W)) s.heap.size) s.heap (([] : va_W)) H locs → WT p l e rm_X0_within s m [.long a0, .long a2, .long a4] below meth c D (va_A (([] : va_W)) s.heap.size) oc H locs 0 0 11 ls [.int o2] := by
    intro H locs ls hl hS
    have hP := hS.1
    refine lv_bipush (v := (-4)) hx hb dX0_within_11 rfl ?_
    rcases Or.symm (br_bX hr) with ⟨o3, ho3, rfl⟩ | ⟨o3, ho3, hr⟩
    · refine fwTSx (As := [.int o2, .int (-4)]) (rest := []) hx hb hml hown hts (m_X0_must l hst D ac o2 (-4 : Int32) _ _ ho3) (cw_X0_must hts q315 ⟨Nat.le_of_ble_eq_true rfl, Nat.le_of_ble_eq_true rfl⟩) hG hZ hS hA [] rfl rfl rfl rfl hl.1 rfl (Nat.le_of_ble_eq_true rfl) dX0_within_13 ⟨Nat.le_of_ble_eq_true rfl, Nat.le_of_ble_eq_true rfl⟩ (wn := ([] : va_W)) rfl (fun q_ ci_ H locs hci hS => ?_)
      subst hoc; exact fw_xout hnt hlk hG hci hS (Nat.le_of_ble_eq_true rfl) (Nat.le_of_ble_eq_true rfl)
    refine fwTSo (As := [.int o2, .int (-4)]) (rest := []) hx hb hml hown hts (m_X0_must l hst D ac o2 (-4 : Int32) _ _ ho3) (cw_X0_must hts q315 ⟨Nat.le_of_ble_eq_true rfl, Nat.le_of_ble_eq_true rfl⟩) hG hZ hS hA [] rfl rfl rfl rfl hl.1 rfl (Nat.le_of_ble_eq_true rfl) dX0_within_13 ⟨Nat.le_of_ble_eq_true rfl, Nat.le_of_ble_eq_true rfl⟩ (wn := ([] : va_W)) rfl (fun H locs hS => ?_)
    have hP := hS.1
    refine W.widen (k := 1) (n := 7) (by first | exact Nat.le_refl _ | (dsimp only [rm_X0_must]; omega)) (by first | exact Nat.le_refl _ | (dsimp only [rm_X0_must]; omega)) ?_
    refine lv_lload_n hx hb dX0_within_16 rfl (lv_at hl 0 rfl) ?_
    refine lv_lload hx hb dX0_within_17 (lv_at hl 1 rfl) ?_
    refine W.lcmp hx hb dX0_within_19 ?_
    obtain ⟨o5, ho5, hr⟩ := br_bind hr
    have J5 : ∀ (H : Heap) (locs : List Loc) ls, lv_has ls 6 [] → Stt D (va_A (([] : va_W)) s.heap.size) s.heap (([] : va_W)) H locs → WT p l e rm_X0_within s m [.long a0, .long a2, .long a4] below meth c D (va_A (([] : va_W)) s.heap.size) oc H locs 1 7 28 ls [.int o5] := by
      intro H locs ls hl hS
      have hP := hS.1
      refine lv_bipush (v := (-6)) hx hb dX0_within_28 rfl ?_
      rcases Or.symm (br_bX hr) with ⟨o6, ho6, rfl⟩ | ⟨o6, ho6, hr⟩
      · refine fwTSx (As := [.int o5, .int (-6)]) (rest := []) hx hb hml hown hts (m_X0_must l hst D ac o5 (-6 : Int32) _ _ ho6) (cw_X0_must hts q315 ⟨Nat.le_of_ble_eq_true rfl, Nat.le_of_ble_eq_true rfl⟩) hG hZ hS hA [] rfl rfl rfl rfl hl.1 rfl (Nat.le_of_ble_eq_true rfl) dX0_within_30 ⟨Nat.le_of_ble_eq_true rfl, Nat.le_of_ble_eq_true rfl⟩ (wn := ([] : va_W)) rfl (fun q_ ci_ H locs hci hS => ?_)
        subst hoc; exact fw_xout hnt hlk hG hci hS (Nat.le_of_ble_eq_true rfl) (Nat.le_of_ble_eq_true rfl)
      refine fwTSo (As := [.int o5, .int (-6)]) (rest := []) hx hb hml hown hts (m_X0_must l hst D ac o5 (-6 : Int32) _ _ ho6) (cw_X0_must hts q315 ⟨Nat.le_of_ble_eq_true rfl, Nat.le_of_ble_eq_true rfl⟩) hG hZ hS hA [] rfl rfl rfl rfl hl.1 rfl (Nat.le_of_ble_eq_true rfl) dX0_within_30 ⟨Nat.le_of_ble_eq_true rfl, Nat.le_of_ble_eq_true rfl⟩ (wn := ([] : va_W)) rfl (fun H locs hS => ?_)
      have hP := hS.1
      refine W.widen (k := 2) (n := 14) (by first | exact Nat.le_refl _ | (dsimp only [rm_X0_must]; omega)) (by first | exact Nat.le_refl _ | (dsimp only [rm_X0_must]; omega)) ?_
      obtain rfl := Option.some.inj hr
      refine W.widen (k := rm_X0_within.cells) (n := rm_X0_within.slots) (Nat.le_of_ble_eq_true rfl) (Nat.le_of_ble_eq_true rfl) ?_
      subst hoc
      exact xx_ret (W.vret hx hb hrt (fun t ht _ => hS.q ht rfl) hS.2.2.2.2 dX0_within_33 hlk)
    have hr := ho5
    have hi4 := br_ite hr
    refine lv_if_gt (tgt := 27) hx hb dX0_within_20 (by decide) (fun c4 => ?_) (fun c4 => ?_)
    · have hr := hi4.1 c4
      refine lv_iconst (v := 0) hx hb dX0_within_27 rfl ?_
      obtain rfl := Option.some.inj hr
      exact J5 _ _ ls (lv_sub hl [] rfl) hS
    · have hr := hi4.2 c4
      refine lv_iconst (v := 1) hx hb dX0_within_23 rfl ?_
      refine lv_goto (tgt := 28) hx hb dX0_within_24 (by decide) ?_
      obtain rfl := Option.some.inj hr
      exact J5 _ _ ls (lv_sub hl [] rfl) hS
  have hr := ho2
  have hi1 := br_ite hr
  refine lv_if_lt (tgt := 10) hx hb dX0_within_3 (by decide) (fun c1 => ?_) (fun c1 => ?_)
  · have hr := hi1.1 c1
    refine lv_iconst (v := 0) hx hb dX0_within_10 rfl ?_
    obtain rfl := Option.some.inj hr
    exact J2 _ _ ls (lv_sub hl [0, 2] rfl) hS
  · have hr := hi1.2 c1
    refine lv_iconst (v := 1) hx hb dX0_within_6 rfl ?_
    refine lv_goto (tgt := 11) hx hb dX0_within_7 (by decide) ?_
    obtain rfl := Option.some.inj hr
    exact J2 _ _ ls (lv_sub hl [0, 2] rfl) hS
def f_X0_mustBe (a0 : Int32) (a1 : Int32) : Option ((Unit) ⊕ (Int32)) := Option.bind (f_X0_in (Int32.toInt64 a0) (0 : Int64) (Int32.toInt64 (a1 - 1))) fun o1 => bX (f_X0_must o1 (-1 : Int32)) (fun b2 => b2) fun o2 => some (Sum.inl ())
abbrev rm_X0_mustBe : Room := ({ frames := 10, cells := 1, slots := 7, locals := 181 })
theorem cw_X0_mustBe {R : Room} {s : State} {args : Array Value} {own : String} {index : Nat} (hts : ∀ w ∈ lw_all, w.before args s = true) (hlink : Cond.methodLink own index yX0_mustBe ∈ lw_all) (hR : rm_X0_mustBe.frames + 1 ≤ R.frames ∧ 8 + (2 + 11) + rm_X0_mustBe.locals ≤ R.locals) : CallB R s args own index yX0_mustBe cX0_mustBe 2 none (ws_ yX0_mustBe cX0_mustBe 2 none) rm_X0_mustBe rm_X0_mustBe.cells rm_X0_mustBe.slots 2 ∧ (Cond.static yX0_mustBe).before args s = true :=
  va_cwS 2 hts (lw_S hlink q649 q102 q650) rfl rfl rfl (by decide +kernel) hR
set_option maxHeartbeats 4000000 in
theorem m_X0_mustBe (l : Launch) (hst : l.stackTraces = false) (D : va_G) (ac : Nat → ClassId) (a0 : Int32) (a1 : Int32) (sz : Nat) (r0 : (Unit) ⊕ (Int32)) (hr : f_X0_mustBe a0 a1 = some r0) : TM l yX0_mustBe cX0_mustBe 2 none rm_X0_mustBe [.int a0, .int a1] D ac (([] : va_W)) sz (Sum.map (fun u => (([] : va_W), none)) (fun u => (([] : va_W), u)) r0) := by
  generalize hoc : (Sum.map (fun u => (([] : va_W), none)) (fun u => (([] : va_W), u)) r0 : Oc) = oc
  refine fw_ofT (by decide) (Nat.le_of_ble_eq_true rfl) ?_
  intro p e s m below meth c ls hx hb hrt hts hown hlk hml _ hnt hU hl
  obtain ⟨⟨rfl, hP, hG, hD⟩, hZ⟩ := hU
  have hA : ∀ q : Nat, s.heap.size ≤ q → (va_A (([] : va_W)) s.heap.size) q := fun q h => Or.inr h
  have hS := Stt.start hP hD
  show WT p l e rm_X0_mustBe s m [.int a0, .int a1] below meth c D (va_A (([] : va_W)) s.heap.size) oc s.heap [] 0 0 0 ls []
  have hl : lv_has ls 2 [(0, .int a0), (1, .int a1)] := hl
  rw [f_X0_mustBe] at hr
  refine lv_iload_n hx hb dX0_mustBe_0 rfl (lv_at hl 0 rfl) ?_
  refine lv_i2l (v := (Int32.toInt64 a0)) hx hb dX0_mustBe_1 rfl ?_
  refine lv_lconst (v := 0) hx hb dX0_mustBe_2 rfl ?_
  refine lv_iload_n hx hb dX0_mustBe_3 rfl (lv_at hl 1 rfl) ?_
  refine lv_iconst (v := 1) hx hb dX0_mustBe_4 rfl ?_
  refine lv_isub hx hb dX0_mustBe_5 ?_
  refine lv_i2l (v := (Int32.toInt64 (a1 - 1))) hx hb dX0_mustBe_6 rfl ?_
  obtain ⟨o1, ho1, hr⟩ := br_bind hr
  refine fwS (As := [.long (Int32.toInt64 a0), .long 0, .long (Int32.toInt64 (a1 - 1))]) (rest := []) hx hb hml hown hts (m_X0_in l (Int32.toInt64 a0) (0 : Int64) (Int32.toInt64 (a1 - 1)) o1 ho1) (cw_X0_in hts q651 ⟨Nat.le_of_ble_eq_true rfl, Nat.le_of_ble_eq_true rfl⟩) rfl hl.1 rfl (Nat.le_of_ble_eq_true rfl) dX0_mustBe_7 ⟨Nat.le_of_ble_eq_true rfl, Nat.le_of_ble_eq_true rfl⟩ ?_
  refine lv_iconst (v := (-1)) hx hb dX0_mustBe_10 rfl ?_
  rcases Or.symm (br_bX hr) with ⟨o2, ho2, rfl⟩ | ⟨o2, ho2, hr⟩
  · refine fwTSx (As := [.int o1, .int (-1)]) (rest := []) hx hb hml hown hts (m_X0_must l hst D ac o1 (-1 : Int32) _ _ ho2) (cw_X0_must hts q315 ⟨Nat.le_of_ble_eq_true rfl, Nat.le_of_ble_eq_true rfl⟩) hG hZ hS hA [] rfl rfl rfl rfl hl.1 rfl (Nat.le_of_ble_eq_true rfl) dX0_mustBe_11 ⟨Nat.le_of_ble_eq_true rfl, Nat.le_of_ble_eq_true rfl⟩ (wn := ([] : va_W)) rfl (fun q_ ci_ H locs hci hS => ?_)
    subst hoc; exact fw_xout hnt hlk hG hci hS (Nat.le_of_ble_eq_true rfl) (Nat.le_of_ble_eq_true rfl)
  refine fwTSo (As := [.int o1, .int (-1)]) (rest := []) hx hb hml hown hts (m_X0_must l hst D ac o1 (-1 : Int32) _ _ ho2) (cw_X0_must hts q315 ⟨Nat.le_of_ble_eq_true rfl, Nat.le_of_ble_eq_true rfl⟩) hG hZ hS hA [] rfl rfl rfl rfl hl.1 rfl (Nat.le_of_ble_eq_true rfl) dX0_mustBe_11 ⟨Nat.le_of_ble_eq_true rfl, Nat.le_of_ble_eq_true rfl⟩ (wn := ([] : va_W)) rfl (fun H locs hS => ?_)
  have hP := hS.1
  refine W.widen (k := 1) (n := 7) (by first | exact Nat.le_refl _ | (dsimp only [rm_X0_must]; omega)) (by first | exact Nat.le_refl _ | (dsimp only [rm_X0_must]; omega)) ?_
  obtain rfl := Option.some.inj hr
  refine W.widen (k := rm_X0_mustBe.cells) (n := rm_X0_mustBe.slots) (Nat.le_of_ble_eq_true rfl) (Nat.le_of_ble_eq_true rfl) ?_
  subst hoc
  exact xx_ret (W.vret hx hb hrt (fun t ht _ => hS.q ht rfl) hS.2.2.2.2 dX0_mustBe_14 hlk)
def f_X0_mustBeCell (a0 : Int32) : Option ((Unit) ⊕ (Int32)) := bX (f_X0_mustBe a0 (25 : Int32)) (fun b1 => b1) fun o1 => some (Sum.inl ())
abbrev rm_X0_mustBeCell : Room := ({ frames := 11, cells := 1, slots := 7, locals := 202 })
theorem cw_X0_mustBeCell {R : Room} {s : State} {args : Array Value} {own : String} {index : Nat} (hts : ∀ w ∈ lw_all, w.before args s = true) (hlink : Cond.methodLink own index yX0_mustBeCell ∈ lw_all) (hR : rm_X0_mustBeCell.frames + 1 ≤ R.frames ∧ 8 + (1 + 11) + rm_X0_mustBeCell.locals ≤ R.locals) : CallB R s args own index yX0_mustBeCell cX0_mustBeCell 1 none (ws_ yX0_mustBeCell cX0_mustBeCell 1 none) rm_X0_mustBeCell rm_X0_mustBeCell.cells rm_X0_mustBeCell.slots 1 ∧ (Cond.static yX0_mustBeCell).before args s = true :=
  va_cwS 1 hts (lw_S hlink q646 q102 q647) rfl rfl rfl (by decide +kernel) hR
set_option maxHeartbeats 4000000 in
theorem m_X0_mustBeCell (l : Launch) (hst : l.stackTraces = false) (D : va_G) (ac : Nat → ClassId) (a0 : Int32) (sz : Nat) (r0 : (Unit) ⊕ (Int32)) (hr : f_X0_mustBeCell a0 = some r0) : TM l yX0_mustBeCell cX0_mustBeCell 1 none rm_X0_mustBeCell [.int a0] D ac (([] : va_W)) sz (Sum.map (fun u => (([] : va_W), none)) (fun u => (([] : va_W), u)) r0) := by
  generalize hoc : (Sum.map (fun u => (([] : va_W), none)) (fun u => (([] : va_W), u)) r0 : Oc) = oc
  refine fw_ofT (by decide) (Nat.le_of_ble_eq_true rfl) ?_
  intro p e s m below meth c ls hx hb hrt hts hown hlk hml _ hnt hU hl
  obtain ⟨⟨rfl, hP, hG, hD⟩, hZ⟩ := hU
  have hA : ∀ q : Nat, s.heap.size ≤ q → (va_A (([] : va_W)) s.heap.size) q := fun q h => Or.inr h
  have hS := Stt.start hP hD
  show WT p l e rm_X0_mustBeCell s m [.int a0] below meth c D (va_A (([] : va_W)) s.heap.size) oc s.heap [] 0 0 0 ls []
  have hl : lv_has ls 1 [(0, .int a0)] := hl
  rw [f_X0_mustBeCell] at hr
  refine lv_iload_n hx hb dX0_mustBeCell_0 rfl (lv_at hl 0 rfl) ?_
  refine lv_bipush (v := 25) hx hb dX0_mustBeCell_1 rfl ?_
  rcases Or.symm (br_bX hr) with ⟨o1, ho1, rfl⟩ | ⟨o1, ho1, hr⟩
  · refine fwTSx (As := [.int a0, .int 25]) (rest := []) hx hb hml hown hts (m_X0_mustBe l hst D ac a0 (25 : Int32) _ _ ho1) (cw_X0_mustBe hts q648 ⟨Nat.le_of_ble_eq_true rfl, Nat.le_of_ble_eq_true rfl⟩) hG hZ hS hA [] rfl rfl rfl rfl hl.1 rfl (Nat.le_of_ble_eq_true rfl) dX0_mustBeCell_3 ⟨Nat.le_of_ble_eq_true rfl, Nat.le_of_ble_eq_true rfl⟩ (wn := ([] : va_W)) rfl (fun q_ ci_ H locs hci hS => ?_)
    subst hoc; exact fw_xout hnt hlk hG hci hS (Nat.le_of_ble_eq_true rfl) (Nat.le_of_ble_eq_true rfl)
  refine fwTSo (As := [.int a0, .int 25]) (rest := []) hx hb hml hown hts (m_X0_mustBe l hst D ac a0 (25 : Int32) _ _ ho1) (cw_X0_mustBe hts q648 ⟨Nat.le_of_ble_eq_true rfl, Nat.le_of_ble_eq_true rfl⟩) hG hZ hS hA [] rfl rfl rfl rfl hl.1 rfl (Nat.le_of_ble_eq_true rfl) dX0_mustBeCell_3 ⟨Nat.le_of_ble_eq_true rfl, Nat.le_of_ble_eq_true rfl⟩ (wn := ([] : va_W)) rfl (fun H locs hS => ?_)
  have hP := hS.1
  refine W.widen (k := 1) (n := 7) (by first | exact Nat.le_refl _ | (dsimp only [rm_X0_mustBe]; omega)) (by first | exact Nat.le_refl _ | (dsimp only [rm_X0_mustBe]; omega)) ?_
  obtain rfl := Option.some.inj hr
  refine W.widen (k := rm_X0_mustBeCell.cells) (n := rm_X0_mustBeCell.slots) (Nat.le_of_ble_eq_true rfl) (Nat.le_of_ble_eq_true rfl) ?_
  subst hoc
  exact xx_ret (W.vret hx hb hrt (fun t ht _ => hS.q ht rfl) hS.2.2.2.2 dX0_mustBeCell_6 hlk)
def f_X0_mustBeBit (a0 : Int32) : Option ((Unit) ⊕ (Int32)) := Option.bind (f_X0_in (Int32.toInt64 a0) (0 : Int64) (1 : Int64)) fun o1 => bX (f_X0_must o1 (-2 : Int32)) (fun b2 => b2) fun o2 => some (Sum.inl ())
abbrev rm_X0_mustBeBit : Room := ({ frames := 10, cells := 1, slots := 7, locals := 181 })
theorem cw_X0_mustBeBit {R : Room} {s : State} {args : Array Value} {own : String} {index : Nat} (hts : ∀ w ∈ lw_all, w.before args s = true) (hlink : Cond.methodLink own index yX0_mustBeBit ∈ lw_all) (hR : rm_X0_mustBeBit.frames + 1 ≤ R.frames ∧ 8 + (1 + 11) + rm_X0_mustBeBit.locals ≤ R.locals) : CallB R s args own index yX0_mustBeBit cX0_mustBeBit 1 none (ws_ yX0_mustBeBit cX0_mustBeBit 1 none) rm_X0_mustBeBit rm_X0_mustBeBit.cells rm_X0_mustBeBit.slots 1 ∧ (Cond.static yX0_mustBeBit).before args s = true :=
  va_cwS 1 hts (lw_S hlink q774 q102 q775) rfl rfl rfl (by decide +kernel) hR
set_option maxHeartbeats 4000000 in
theorem m_X0_mustBeBit (l : Launch) (hst : l.stackTraces = false) (D : va_G) (ac : Nat → ClassId) (a0 : Int32) (sz : Nat) (r0 : (Unit) ⊕ (Int32)) (hr : f_X0_mustBeBit a0 = some r0) : TM l yX0_mustBeBit cX0_mustBeBit 1 none rm_X0_mustBeBit [.int a0] D ac (([] : va_W)) sz (Sum.map (fun u => (([] : va_W), none)) (fun u => (([] : va_W), u)) r0) := by
  generalize hoc : (Sum.map (fun u => (([] : va_W), none)) (fun u => (([] : va_W), u)) r0 : Oc) = oc
  refine fw_ofT (by decide) (Nat.le_of_ble_eq_true rfl) ?_
  intro p e s m below meth c ls hx hb hrt hts hown hlk hml _ hnt hU hl
  obtain ⟨⟨rfl, hP, hG, hD⟩, hZ⟩ := hU
  have hA : ∀ q : Nat, s.heap.size ≤ q → (va_A (([] : va_W)) s.heap.size) q := fun q h => Or.inr h
  have hS := Stt.start hP hD
  show WT p l e rm_X0_mustBeBit s m [.int a0] below meth c D (va_A (([] : va_W)) s.heap.size) oc s.heap [] 0 0 0 ls []
  have hl : lv_has ls 1 [(0, .int a0)] := hl
  rw [f_X0_mustBeBit] at hr
  refine lv_iload_n hx hb dX0_mustBeBit_0 rfl (lv_at hl 0 rfl) ?_
  refine lv_i2l (v := (Int32.toInt64 a0)) hx hb dX0_mustBeBit_1 rfl ?_
  refine lv_lconst (v := 0) hx hb dX0_mustBeBit_2 rfl ?_
  refine lv_lconst (v := 1) hx hb dX0_mustBeBit_3 rfl ?_
  obtain ⟨o1, ho1, hr⟩ := br_bind hr
  refine fwS (As := [.long (Int32.toInt64 a0), .long 0, .long 1]) (rest := []) hx hb hml hown hts (m_X0_in l (Int32.toInt64 a0) (0 : Int64) (1 : Int64) o1 ho1) (cw_X0_in hts q651 ⟨Nat.le_of_ble_eq_true rfl, Nat.le_of_ble_eq_true rfl⟩) rfl hl.1 rfl (Nat.le_of_ble_eq_true rfl) dX0_mustBeBit_4 ⟨Nat.le_of_ble_eq_true rfl, Nat.le_of_ble_eq_true rfl⟩ ?_
  refine lv_bipush (v := (-2)) hx hb dX0_mustBeBit_7 rfl ?_
  rcases Or.symm (br_bX hr) with ⟨o2, ho2, rfl⟩ | ⟨o2, ho2, hr⟩
  · refine fwTSx (As := [.int o1, .int (-2)]) (rest := []) hx hb hml hown hts (m_X0_must l hst D ac o1 (-2 : Int32) _ _ ho2) (cw_X0_must hts q315 ⟨Nat.le_of_ble_eq_true rfl, Nat.le_of_ble_eq_true rfl⟩) hG hZ hS hA [] rfl rfl rfl rfl hl.1 rfl (Nat.le_of_ble_eq_true rfl) dX0_mustBeBit_9 ⟨Nat.le_of_ble_eq_true rfl, Nat.le_of_ble_eq_true rfl⟩ (wn := ([] : va_W)) rfl (fun q_ ci_ H locs hci hS => ?_)
    subst hoc; exact fw_xout hnt hlk hG hci hS (Nat.le_of_ble_eq_true rfl) (Nat.le_of_ble_eq_true rfl)
  refine fwTSo (As := [.int o1, .int (-2)]) (rest := []) hx hb hml hown hts (m_X0_must l hst D ac o1 (-2 : Int32) _ _ ho2) (cw_X0_must hts q315 ⟨Nat.le_of_ble_eq_true rfl, Nat.le_of_ble_eq_true rfl⟩) hG hZ hS hA [] rfl rfl rfl rfl hl.1 rfl (Nat.le_of_ble_eq_true rfl) dX0_mustBeBit_9 ⟨Nat.le_of_ble_eq_true rfl, Nat.le_of_ble_eq_true rfl⟩ (wn := ([] : va_W)) rfl (fun H locs hS => ?_)
  have hP := hS.1
  refine W.widen (k := 1) (n := 7) (by first | exact Nat.le_refl _ | (dsimp only [rm_X0_must]; omega)) (by first | exact Nat.le_refl _ | (dsimp only [rm_X0_must]; omega)) ?_
  obtain rfl := Option.some.inj hr
  refine W.widen (k := rm_X0_mustBeBit.cells) (n := rm_X0_mustBeBit.slots) (Nat.le_of_ble_eq_true rfl) (Nat.le_of_ble_eq_true rfl) ?_
  subst hoc
  exact xx_ret (W.vret hx hb hrt (fun t ht _ => hS.q ht rfl) hS.2.2.2.2 dX0_mustBeBit_12 hlk)
def f_X0_mustBeHeir (g : XS) (a1 : Int32) : Option ((XS) ⊕ (Int32 × XS)) := bX (f_X0_mustBe a1 (cG_heirs (xG_core0 g))) (fun b1 => (b1, g)) fun o1 => some (Sum.inl g)
abbrev rm_X0_mustBeHeir : Room := ({ frames := 11, cells := 1, slots := 7, locals := 202 })
theorem cw_X0_mustBeHeir {R : Room} {s : State} {args : Array Value} {own : String} {index : Nat} (hts : ∀ w ∈ lw_all, w.before args s = true) (hlink : Cond.methodLink own index yX0_mustBeHeir ∈ lw_all) (hR : rm_X0_mustBeHeir.frames + 1 ≤ R.frames ∧ 8 + (2 + 11) + rm_X0_mustBeHeir.locals ≤ R.locals) : CallW R s args own RX0 index yX0_mustBeHeir cX0_mustBeHeir 2 none (ws_ yX0_mustBeHeir cX0_mustBeHeir 2 none) rm_X0_mustBeHeir rm_X0_mustBeHeir.cells rm_X0_mustBeHeir.slots 1 :=
  cwV 1 hts (lw_V hlink q661 qs16 q102 q662) rfl rfl rfl (by decide +kernel) hR
set_option maxHeartbeats 4000000 in
theorem m_X0_mustBeHeir (l : Launch) (hst : l.stackTraces = false) (D : va_G) (ax : Nat → Nat) (ac : Nat → ClassId) (g : XS) (a1 : Int32) (sz : Nat) (r0 : (XS) ⊕ (Int32 × XS)) (hr : f_X0_mustBeHeir g a1 = some r0) : TM l yX0_mustBeHeir cX0_mustBeHeir 2 none rm_X0_mustBeHeir [.ref (ax 0), .int a1] D ac (wX ax ac g) sz (Sum.map (fun u => (wX ax ac u, none)) (fun u => (wX ax ac u.2, u.1)) r0) := by
  generalize hoc : (Sum.map (fun u => (wX ax ac u, none)) (fun u => (wX ax ac u.2, u.1)) r0 : Oc) = oc
  refine fw_ofT (by decide) (Nat.le_of_ble_eq_true rfl) ?_
  intro p e s m below meth c ls hx hb hrt hts hown hlk hml _ hnt hU hl
  obtain ⟨⟨rfl, hP, hG, hD⟩, hZ⟩ := hU
  have hA : ∀ q : Nat, s.heap.size ≤ q → (va_A (wX ax ac g) s.heap.size) q := fun q h => Or.inr h
  have hS := Stt.start hP hD
  show WT p l e rm_X0_mustBeHeir s m [.ref (ax 0), .int a1] below meth c D (va_A (wX ax ac g) s.heap.size) oc s.heap [] 0 0 0 ls []
  have hl : lv_has ls 2 [(0, .ref (ax 0)), (1, .int a1)] := hl
  rw [f_X0_mustBeHeir] at hr
  refine lv_iload_n hx hb dX0_mustBeHeir_0 rfl (lv_at hl 1 rfl) ?_
  refine lv_aload_n hx hb dX0_mustBeHeir_1 rfl (lv_at hl 0 rfl) ?_
  refine va_get (D := D) (ci := 0) (v := .ref (ax 1)) (C := RX0) (T := TX0) (N := 17) hx hb hts in_X0 hown hG.1 hP 0 rfl rfl 1 (by decide) (hts _ q234) (fun _ h9 => h9) rfl dX0_mustBeHeir_2 ?_
  refine va_getN (D := D) (ci := 7) (v := .int (cG_heirs (xG_core0 g))) (C := RX8) (T := TX8) (N := 8) hx hb hts in_X8 hown hG.1 hP 1 rfl rfl 1 (by decide) (va_Nw.use rfl (hG.2.1 _ nq196)) (fun _ h9 => h9) rfl dX0_mustBeHeir_5 ?_
  rcases Or.symm (br_bX hr) with ⟨o1, ho1, rfl⟩ | ⟨o1, ho1, hr⟩
  · refine fwTSx (As := [.int a1, .int (cG_heirs (xG_core0 g))]) (rest := []) hx hb hml hown hts (m_X0_mustBe l hst D ac a1 (cG_heirs (xG_core0 g)) _ _ ho1) (cw_X0_mustBe hts q648 ⟨Nat.le_of_ble_eq_true rfl, Nat.le_of_ble_eq_true rfl⟩) hG hZ hS hA [] rfl rfl rfl rfl hl.1 rfl (Nat.le_of_ble_eq_true rfl) dX0_mustBeHeir_8 ⟨Nat.le_of_ble_eq_true rfl, Nat.le_of_ble_eq_true rfl⟩ (wn := wX ax ac g) rfl (fun q_ ci_ H locs hci hS => ?_)
    subst hoc; exact fw_xout hnt hlk hG hci hS (Nat.le_of_ble_eq_true rfl) (Nat.le_of_ble_eq_true rfl)
  refine fwTSo (As := [.int a1, .int (cG_heirs (xG_core0 g))]) (rest := []) hx hb hml hown hts (m_X0_mustBe l hst D ac a1 (cG_heirs (xG_core0 g)) _ _ ho1) (cw_X0_mustBe hts q648 ⟨Nat.le_of_ble_eq_true rfl, Nat.le_of_ble_eq_true rfl⟩) hG hZ hS hA [] rfl rfl rfl rfl hl.1 rfl (Nat.le_of_ble_eq_true rfl) dX0_mustBeHeir_8 ⟨Nat.le_of_ble_eq_true rfl, Nat.le_of_ble_eq_true rfl⟩ (wn := wX ax ac g) rfl (fun H locs hS => ?_)
  have hP := hS.1
  refine W.widen (k := 1) (n := 7) (by first | exact Nat.le_refl _ | (dsimp only [rm_X0_mustBe]; omega)) (by first | exact Nat.le_refl _ | (dsimp only [rm_X0_mustBe]; omega)) ?_
  obtain rfl := Option.some.inj hr
  refine W.widen (k := rm_X0_mustBeHeir.cells) (n := rm_X0_mustBeHeir.slots) (Nat.le_of_ble_eq_true rfl) (Nat.le_of_ble_eq_true rfl) ?_
  subst hoc
  exact xx_ret (W.vret hx hb hrt (fun t ht _ => hS.q ht rfl) hS.2.2.2.2 dX0_mustBeHeir_11 hlk)
def f_X0_mustBeTwo (g : XS) (a1 : Int32) (a2 : Int32) : Option ((XS) ⊕ (Int32 × XS)) := bX (f_X0_mustBeHeir g a1) (fun b1 => (b1.1, b1.2)) fun o1 => bX (f_X0_mustBeHeir o1 a2) (fun b2 => (b2.1, b2.2)) fun o2 => Option.bind (α := Int32) (if a1 = a2 then some 0 else some 1) fun o4 => bX (f_X0_must o4 (-1 : Int32)) (fun b5 => (b5, o2)) fun o5 => some (Sum.inl o2)
abbrev rm_X0_mustBeTwo : Room := ({ frames := 12, cells := 3, slots := 21, locals := 223 })
theorem cw_X0_mustBeTwo {R : Room} {s : State} {args : Array Value} {own : String} {index : Nat} (hts : ∀ w ∈ lw_all, w.before args s = true) (hlink : Cond.methodLink own index yX0_mustBeTwo ∈ lw_all) (hR : rm_X0_mustBeTwo.frames + 1 ≤ R.frames ∧ 8 + (3 + 11) + rm_X0_mustBeTwo.locals ≤ R.locals) : CallW R s args own RX0 index yX0_mustBeTwo cX0_mustBeTwo 3 none (ws_ yX0_mustBeTwo cX0_mustBeTwo 3 none) rm_X0_mustBeTwo rm_X0_mustBeTwo.cells rm_X0_mustBeTwo.slots 2 :=
  cwV 2 hts (lw_V hlink q906 qs50 q102 q907) rfl rfl rfl (by decide +kernel) hR
set_option maxHeartbeats 4000000 in
theorem m_X0_mustBeTwo (l : Launch) (hst : l.stackTraces = false) (D : va_G) (ax : Nat → Nat) (ac : Nat → ClassId) (g : XS) (a1 : Int32) (a2 : Int32) (sz : Nat) (r0 : (XS) ⊕ (Int32 × XS)) (hr : f_X0_mustBeTwo g a1 a2 = some r0) : TM l yX0_mustBeTwo cX0_mustBeTwo 3 none rm_X0_mustBeTwo [.ref (ax 0), .int a1, .int a2] D ac (wX ax ac g) sz (Sum.map (fun u => (wX ax ac u, none)) (fun u => (wX ax ac u.2, u.1)) r0) := by
  generalize hoc : (Sum.map (fun u => (wX ax ac u, none)) (fun u => (wX ax ac u.2, u.1)) r0 : Oc) = oc
  refine fw_ofT (by decide) (Nat.le_of_ble_eq_true rfl) ?_
  intro p e s m below meth c ls hx hb hrt hts hown hlk hml _ hnt hU hl
  obtain ⟨⟨rfl, hP, hG, hD⟩, hZ⟩ := hU
  have hA : ∀ q : Nat, s.heap.size ≤ q → (va_A (wX ax ac g) s.heap.size) q := fun q h => Or.inr h
  have hS := Stt.start hP hD
  show WT p l e rm_X0_mustBeTwo s m [.ref (ax 0), .int a1, .int a2] below meth c D (va_A (wX ax ac g) s.heap.size) oc s.heap [] 0 0 0 ls []
  have hl : lv_has ls 3 [(0, .ref (ax 0)), (1, .int a1), (2, .int a2)] := hl
  rw [f_X0_mustBeTwo] at hr
  refine lv_aload_n hx hb dX0_mustBeTwo_0 rfl (lv_at hl 0 rfl) ?_
  refine lv_iload_n hx hb dX0_mustBeTwo_1 rfl (lv_at hl 1 rfl) ?_
  rcases Or.symm (br_bX hr) with ⟨o1, ho1, rfl⟩ | ⟨o1, ho1, hr⟩
  · refine fwTVx (As := [.int a1]) (rest := []) (C := RX0) hx hb hml hown hts (m_X0_mustBeHeir l hst D ax ac g a1 _ _ ho1) (cw_X0_mustBeHeir hts q659 ⟨Nat.le_of_ble_eq_true rfl, Nat.le_of_ble_eq_true rfl⟩) hG hZ hS hA ixX nd_X (pk_X ax ac _) (ad_X ax ac _ _) 0 0 rfl rfl rfl hl.1 rfl (Nat.le_of_ble_eq_true rfl) dX0_mustBeTwo_2 ⟨Nat.le_of_ble_eq_true rfl, Nat.le_of_ble_eq_true rfl⟩ (wn := wX ax ac o1.2) (rep_X ax ac _ _) (fun q_ ci_ H locs hci hS => ?_)
    subst hoc; exact fw_xout hnt hlk hG hci hS (Nat.le_of_ble_eq_true rfl) (Nat.le_of_ble_eq_true rfl)
  refine fwTVo (As := [.int a1]) (rest := []) (C := RX0) hx hb hml hown hts (m_X0_mustBeHeir l hst D ax ac g a1 _ _ ho1) (cw_X0_mustBeHeir hts q659 ⟨Nat.le_of_ble_eq_true rfl, Nat.le_of_ble_eq_true rfl⟩) hG hZ hS hA ixX nd_X (pk_X ax ac _) (ad_X ax ac _ _) 0 0 rfl rfl rfl hl.1 rfl (Nat.le_of_ble_eq_true rfl) dX0_mustBeTwo_2 ⟨Nat.le_of_ble_eq_true rfl, Nat.le_of_ble_eq_true rfl⟩ (wn := wX ax ac o1) (rep_X ax ac _ _) (fun H locs hS => ?_)
  have hP := hS.1
  refine W.widen (k := 1) (n := 7) (by first | exact Nat.le_refl _ | (dsimp only [rm_X0_mustBeHeir]; omega)) (by first | exact Nat.le_refl _ | (dsimp only [rm_X0_mustBeHeir]; omega)) ?_
  refine lv_aload_n hx hb dX0_mustBeTwo_5 rfl (lv_at hl 0 rfl) ?_
  refine lv_iload_n hx hb dX0_mustBeTwo_6 rfl (lv_at hl 2 rfl) ?_
  rcases Or.symm (br_bX hr) with ⟨o2, ho2, rfl⟩ | ⟨o2, ho2, hr⟩
  · refine fwTVx (As := [.int a2]) (rest := []) (C := RX0) hx hb hml hown hts (m_X0_mustBeHeir l hst D ax ac o1 a2 _ _ ho2) (cw_X0_mustBeHeir hts q659 ⟨Nat.le_of_ble_eq_true rfl, Nat.le_of_ble_eq_true rfl⟩) hG hZ hS hA ixX nd_X (pk_X ax ac _) (ad_X ax ac _ _) 0 0 rfl rfl rfl hl.1 rfl (Nat.le_of_ble_eq_true rfl) dX0_mustBeTwo_7 ⟨Nat.le_of_ble_eq_true rfl, Nat.le_of_ble_eq_true rfl⟩ (wn := wX ax ac o2.2) (rep_X ax ac _ _) (fun q_ ci_ H locs hci hS => ?_)
    subst hoc; exact fw_xout hnt hlk hG hci hS (Nat.le_of_ble_eq_true rfl) (Nat.le_of_ble_eq_true rfl)
  refine fwTVo (As := [.int a2]) (rest := []) (C := RX0) hx hb hml hown hts (m_X0_mustBeHeir l hst D ax ac o1 a2 _ _ ho2) (cw_X0_mustBeHeir hts q659 ⟨Nat.le_of_ble_eq_true rfl, Nat.le_of_ble_eq_true rfl⟩) hG hZ hS hA ixX nd_X (pk_X ax ac _) (ad_X ax ac _ _) 0 0 rfl rfl rfl hl.1 rfl (Nat.le_of_ble_eq_true rfl) dX0_mustBeTwo_7 ⟨Nat.le_of_ble_eq_true rfl, Nat.le_of_ble_eq_true rfl⟩ (wn := wX ax ac o2) (rep_X ax ac _ _) (fun H locs hS => ?_)
  have hP := hS.1
  refine W.widen (k := 2) (n := 14) (by first | exact Nat.le_refl _ | (dsimp only [rm_X0_mustBeHeir]; omega)) (by first | exact Nat.le_refl _ | (dsimp only [rm_X0_mustBeHeir]; omega)) ?_
  refine lv_iload_n hx hb dX0_mustBeTwo_10 rfl (lv_at hl 1 rfl) ?_
  refine lv_iload_n hx hb dX0_mustBeTwo_11 rfl (lv_at hl 2 rfl) ?_
  obtain ⟨o4, ho4, hr⟩ := br_bind hr
  have J4 : ∀ (H : Heap) (locs : List Loc) ls, lv_has ls 3 [] → Stt D (va_A (wX ax ac g) s.heap.size) s.heap (wX ax ac o2) H locs → WT p l e rm_X0_mustBeTwo s m [.ref (ax 0), .int a1, .int a2] below meth c D (va_A (wX ax ac g) s.heap.size) oc H locs 2 14 20 ls [.int o4] := by
    intro H locs ls hl hS
    have hP := hS.1
    refine lv_iconst (v := (-1)) hx hb dX0_mustBeTwo_20 rfl ?_
    rcases Or.symm (br_bX hr) with ⟨o5, ho5, rfl⟩ | ⟨o5, ho5, hr⟩
    · refine fwTSx (As := [.int o4, .int (-1)]) (rest := []) hx hb hml hown hts (m_X0_must l hst D ac o4 (-1 : Int32) _ _ ho5) (cw_X0_must hts q315 ⟨Nat.le_of_ble_eq_true rfl, Nat.le_of_ble_eq_true rfl⟩) hG hZ hS hA [] rfl rfl rfl rfl hl.1 rfl (Nat.le_of_ble_eq_true rfl) dX0_mustBeTwo_21 ⟨Nat.le_of_ble_eq_true rfl, Nat.le_of_ble_eq_true rfl⟩ (wn := wX ax ac o2) rfl (fun q_ ci_ H locs hci hS => ?_)
      subst hoc; exact fw_xout hnt hlk hG hci hS (Nat.le_of_ble_eq_true rfl) (Nat.le_of_ble_eq_true rfl)
    refine fwTSo (As := [.int o4, .int (-1)]) (rest := []) hx hb hml hown hts (m_X0_must l hst D ac o4 (-1 : Int32) _ _ ho5) (cw_X0_must hts q315 ⟨Nat.le_of_ble_eq_true rfl, Nat.le_of_ble_eq_true rfl⟩) hG hZ hS hA [] rfl rfl rfl rfl hl.1 rfl (Nat.le_of_ble_eq_true rfl) dX0_mustBeTwo_21 ⟨Nat.le_of_ble_eq_true rfl, Nat.le_of_ble_eq_true rfl⟩ (wn := wX ax ac o2) rfl (fun H locs hS => ?_)
    have hP := hS.1
    refine W.widen (k := 3) (n := 21) (by first | exact Nat.le_refl _ | (dsimp only [rm_X0_must]; omega)) (by first | exact Nat.le_refl _ | (dsimp only [rm_X0_must]; omega)) ?_
    obtain rfl := Option.some.inj hr
    refine W.widen (k := rm_X0_mustBeTwo.cells) (n := rm_X0_mustBeTwo.slots) (Nat.le_of_ble_eq_true rfl) (Nat.le_of_ble_eq_true rfl) ?_
    subst hoc
    exact xx_ret (W.vret hx hb hrt (fun t ht _ => hS.q ht rfl) hS.2.2.2.2 dX0_mustBeTwo_24 hlk)
  have hr := ho4
  have hi3 := br_ite hr
  refine lv_icmp_eq (tgt := 19) hx hb dX0_mustBeTwo_12 (by decide) (fun c3 => ?_) (fun c3 => ?_)
  · have hr := hi3.1 c3
    refine lv_iconst (v := 0) hx hb dX0_mustBeTwo_19 rfl ?_
    obtain rfl := Option.some.inj hr
    exact J4 _ _ ls (lv_sub hl [] rfl) hS
  · have hr := hi3.2 c3
    refine lv_iconst (v := 1) hx hb dX0_mustBeTwo_15 rfl ?_
    refine lv_goto (tgt := 20) hx hb dX0_mustBeTwo_16 (by decide) ?_
    obtain rfl := Option.some.inj hr
    exact J4 _ _ ls (lv_sub hl [] rfl) hS
def f_X0_letterIt (g : XS) (a1 : Int32) : Option ((Int32 × XS) ⊕ (Int32 × XS)) := bX (f_X0_within (Int32.toInt64 a1) (0 : Int64) (255 : Int64)) (fun b1 => (b1, g)) fun o1 => Option.bind (α := Int32) (if 96 ≤ (xG_letterMany g) then some 0 else some 1) fun o3 => bX (f_X0_must o3 (-6 : Int32)) (fun b4 => (b4, g)) fun o4 => Option.bind (some ((UInt32.toInt32 (Int32.toUInt32 a1 % 65536)) : Int32)) fun v5 => if (xG_letterMany g) < 0 ∨ 96 ≤ Int32.toNatClampNeg (xG_letterMany g) then none else Option.bind (some (xS_letters g (upd (xG_letters g) (Int32.toNatClampNeg (xG_letterMany g)) (vp_nar .char v5)))) fun g7 => Option.bind (some (xS_letterMany g7 ((xG_letterMany g7) + 1))) fun g8 => some (Sum.inl ((xG_letterMany g8), g8))
abbrev rm_X0_letterIt : Room := ({ frames := 11, cells := 3, slots := 21, locals := 206 })
theorem cw_X0_letterIt {R : Room} {s : State} {args : Array Value} {own : String} {index : Nat} (hts : ∀ w ∈ lw_all, w.before args s = true) (hlink : Cond.methodLink own index yX0_letterIt ∈ lw_all) (hR : rm_X0_letterIt.frames + 1 ≤ R.frames ∧ 8 + (2 + 11) + rm_X0_letterIt.locals ≤ R.locals) : CallW R s args own RX0 index yX0_letterIt cX0_letterIt 2 (some FieldType.int) (ws_ yX0_letterIt cX0_letterIt 2 (some FieldType.int)) rm_X0_letterIt rm_X0_letterIt.cells rm_X0_letterIt.slots 1 :=
  cwV 1 hts (lw_V hlink q309 qs3 q102 q310) rfl rfl rfl (by decide +kernel) hR
set_option maxHeartbeats 4000000 in
theorem m_X0_letterIt (l : Launch) (hst : l.stackTraces = false) (D : va_G) (ax : Nat → Nat) (ac : Nat → ClassId) (g : XS) (a1 : Int32) (sz : Nat) (r0 : (Int32 × XS) ⊕ (Int32 × XS)) (hr : f_X0_letterIt g a1 = some r0) : TM l yX0_letterIt cX0_letterIt 2 (some FieldType.int) rm_X0_letterIt [.ref (ax 0), .int a1] D ac (wX ax ac g) sz (Sum.map (fun u => (wX ax ac u.2, (some (.int u.1)))) (fun u => (wX ax ac u.2, u.1)) r0) := by
  generalize hoc : (Sum.map (fun u => (wX ax ac u.2, (some (.int u.1)))) (fun u => (wX ax ac u.2, u.1)) r0 : Oc) = oc
  refine fw_ofT (by decide) (Nat.le_of_ble_eq_true rfl) ?_
  intro p e s m below meth c ls hx hb hrt hts hown hlk hml _ hnt hU hl
  obtain ⟨⟨rfl, hP, hG, hD⟩, hZ⟩ := hU
  have hA : ∀ q : Nat, s.heap.size ≤ q → (va_A (wX ax ac g) s.heap.size) q := fun q h => Or.inr h
  have hS := Stt.start hP hD
  show WT p l e rm_X0_letterIt s m [.ref (ax 0), .int a1] below meth c D (va_A (wX ax ac g) s.heap.size) oc s.heap [] 0 0 0 ls []
  have hl : lv_has ls 2 [(0, .ref (ax 0)), (1, .int a1)] := hl
  rw [f_X0_letterIt] at hr
  refine lv_iload_n hx hb dX0_letterIt_0 rfl (lv_at hl 1 rfl) ?_
  refine lv_i2l (v := (Int32.toInt64 a1)) hx hb dX0_letterIt_1 rfl ?_
  refine lv_lconst (v := 0) hx hb dX0_letterIt_2 rfl ?_
  refine lv_ldc2 (v := 255) hx hb hown (hts _ q311) dX0_letterIt_3 ?_
  rcases Or.symm (br_bX hr) with ⟨o1, ho1, rfl⟩ | ⟨o1, ho1, hr⟩
  · refine fwTSx (As := [.long (Int32.toInt64 a1), .long 0, .long 255]) (rest := []) hx hb hml hown hts (m_X0_within l hst D ac (Int32.toInt64 a1) (0 : Int64) (255 : Int64) _ _ ho1) (cw_X0_within hts q312 ⟨Nat.le_of_ble_eq_true rfl, Nat.le_of_ble_eq_true rfl⟩) hG hZ hS hA [] rfl rfl rfl rfl hl.1 rfl (Nat.le_of_ble_eq_true rfl) dX0_letterIt_6 ⟨Nat.le_of_ble_eq_true rfl, Nat.le_of_ble_eq_true rfl⟩ (wn := wX ax ac g) rfl (fun q_ ci_ H locs hci hS => ?_)
    subst hoc; exact fw_xout hnt hlk hG hci hS (Nat.le_of_ble_eq_true rfl) (Nat.le_of_ble_eq_true rfl)
  refine fwTSo (As := [.long (Int32.toInt64 a1), .long 0, .long 255]) (rest := []) hx hb hml hown hts (m_X0_within l hst D ac (Int32.toInt64 a1) (0 : Int64) (255 : Int64) _ _ ho1) (cw_X0_within hts q312 ⟨Nat.le_of_ble_eq_true rfl, Nat.le_of_ble_eq_true rfl⟩) hG hZ hS hA [] rfl rfl rfl rfl hl.1 rfl (Nat.le_of_ble_eq_true rfl) dX0_letterIt_6 ⟨Nat.le_of_ble_eq_true rfl, Nat.le_of_ble_eq_true rfl⟩ (wn := wX ax ac g) rfl (fun H locs hS => ?_)
  have hP := hS.1
  refine W.widen (k := 2) (n := 14) (by first | exact Nat.le_refl _ | (dsimp only [rm_X0_within]; omega)) (by first | exact Nat.le_refl _ | (dsimp only [rm_X0_within]; omega)) ?_
  refine lv_aload_n hx hb dX0_letterIt_9 rfl (lv_at hl 0 rfl) ?_
  refine va_get (D := D) (ci := 0) (v := .int (xG_letterMany g)) (C := RX0) (T := TX0) (N := 17) hx hb hts in_X0 hown hG.1 hP 0 rfl rfl 8 (by decide) (hts _ q243) (fun _ h9 => h9) rfl dX0_letterIt_10 ?_
  refine lv_bipush (v := 96) hx hb dX0_letterIt_13 rfl ?_
  obtain ⟨o3, ho3, hr⟩ := br_bind hr
  have J3 : ∀ (H : Heap) (locs : List Loc) ls, lv_has ls 2 [(0, .ref (ax 0)), (1, .int a1)] → Stt D (va_A (wX ax ac g) s.heap.size) s.heap (wX ax ac g) H locs → WT p l e rm_X0_letterIt s m [.ref (ax 0), .int a1] below meth c D (va_A (wX ax ac g) s.heap.size) oc H locs 2 14 23 ls [.int o3] := by
    intro H locs ls hl hS
    have hP := hS.1
    refine lv_bipush (v := (-6)) hx hb dX0_letterIt_23 rfl ?_
    rcases Or.symm (br_bX hr) with ⟨o4, ho4, rfl⟩ | ⟨o4, ho4, hr⟩
    · refine fwTSx (As := [.int o3, .int (-6)]) (rest := []) hx hb hml hown hts (m_X0_must l hst D ac o3 (-6 : Int32) _ _ ho4) (cw_X0_must hts q315 ⟨Nat.le_of_ble_eq_true rfl, Nat.le_of_ble_eq_true rfl⟩) hG hZ hS hA [] rfl rfl rfl rfl hl.1 rfl (Nat.le_of_ble_eq_true rfl) dX0_letterIt_25 ⟨Nat.le_of_ble_eq_true rfl, Nat.le_of_ble_eq_true rfl⟩ (wn := wX ax ac g) rfl (fun q_ ci_ H locs hci hS => ?_)
      subst hoc; exact fw_xout hnt hlk hG hci hS (Nat.le_of_ble_eq_true rfl) (Nat.le_of_ble_eq_true rfl)
    refine fwTSo (As := [.int o3, .int (-6)]) (rest := []) hx hb hml hown hts (m_X0_must l hst D ac o3 (-6 : Int32) _ _ ho4) (cw_X0_must hts q315 ⟨Nat.le_of_ble_eq_true rfl, Nat.le_of_ble_eq_true rfl⟩) hG hZ hS hA [] rfl rfl rfl rfl hl.1 rfl (Nat.le_of_ble_eq_true rfl) dX0_letterIt_25 ⟨Nat.le_of_ble_eq_true rfl, Nat.le_of_ble_eq_true rfl⟩ (wn := wX ax ac g) rfl (fun H locs hS => ?_)
    have hP := hS.1
    refine W.widen (k := 3) (n := 21) (by first | exact Nat.le_refl _ | (dsimp only [rm_X0_must]; omega)) (by first | exact Nat.le_refl _ | (dsimp only [rm_X0_must]; omega)) ?_
    refine lv_aload_n hx hb dX0_letterIt_28 rfl (lv_at hl 0 rfl) ?_
    refine va_get (D := D) (ci := 0) (v := .ref (ax 18)) (C := RX0) (T := TX0) (N := 17) hx hb hts in_X0 hown hG.1 hP 0 rfl rfl 7 (by decide) (hts _ q241) (fun _ h9 => h9) rfl dX0_letterIt_29 ?_
    refine lv_aload_n hx hb dX0_letterIt_32 rfl (lv_at hl 0 rfl) ?_
    refine va_get (D := D) (ci := 0) (v := .int (xG_letterMany g)) (C := RX0) (T := TX0) (N := 17) hx hb hts in_X0 hown hG.1 hP 0 rfl rfl 8 (by decide) (hts _ q243) (fun _ h9 => h9) rfl dX0_letterIt_33 ?_
    refine lv_iload_n hx hb dX0_letterIt_36 rfl (lv_at hl 1 rfl) ?_
    refine lv_i2c (v := (UInt32.toInt32 (Int32.toUInt32 a1 % 65536))) hx hb dX0_letterIt_37 rfl ?_
    refine lv_topi (fun v5 hv5 => ?_)
    have hr := br_letv hr hv5
    obtain ⟨c6, hr⟩ := br_none hr
    obtain ⟨g7, hg7, hr⟩ := br_let hr
    refine fw_cast hx hb hG hS 18 rfl c6 dX0_letterIt_38 (wn := wX ax ac g7) (by rw [hg7]; rfl) (fun H locs hS => ?_)
    have hP := hS.1
    refine lv_aload_n hx hb dX0_letterIt_39 rfl (lv_at hl 0 rfl) ?_
    refine lv_dup hx hb dX0_letterIt_40 rfl ?_
    refine va_get (D := D) (ci := 0) (v := .int (xG_letterMany g7)) (C := RX0) (T := TX0) (N := 17) hx hb hts in_X0 hown hG.1 hP 0 rfl rfl 8 (by decide) (hts _ q243) (fun _ h9 => h9) rfl dX0_letterIt_41 ?_
    refine lv_iconst (v := 1) hx hb dX0_letterIt_44 rfl ?_
    refine lv_iadd hx hb dX0_letterIt_45 ?_
    obtain ⟨g8, hg8, hr⟩ := br_let hr
    refine fw_put (D := D) (ci := 0) (x := .int ((xG_letterMany g7) + 1)) (C := RX0) (T := TX0) (N := 17) hx hb hts in_X0 tyX0 tyX0_ok nmX0 hown hG hS 0 rfl rfl 8 (by decide) (hts _ q243) (fun _ h9 => h9) rfl (tyX0_ok 8 (by decide)) rfl rfl (Nat.le_of_ble_eq_true rfl) dX0_letterIt_46 (wn := wX ax ac g8) (by rw [hg8]; rfl) (fun H locs hS => ?_)
    have hP := hS.1
    refine lv_aload_n hx hb dX0_letterIt_49 rfl (lv_at hl 0 rfl) ?_
    refine va_get (D := D) (ci := 0) (v := .int (xG_letterMany g8)) (C := RX0) (T := TX0) (N := 17) hx hb hts in_X0 hown hG.1 hP 0 rfl rfl 8 (by decide) (hts _ q243) (fun _ h9 => h9) rfl dX0_letterIt_50 ?_
    obtain rfl := Option.some.inj hr
    refine W.widen (k := rm_X0_letterIt.cells) (n := rm_X0_letterIt.slots) (Nat.le_of_ble_eq_true rfl) (Nat.le_of_ble_eq_true rfl) ?_
    subst hoc
    exact xx_ret (W.iret hx hb hrt (fun t ht _ => hS.q ht rfl) hS.2.2.2.2 dX0_letterIt_53 hlk)
  have hr := ho3
  have hi2 := br_ite hr
  refine lv_icmp_ge (tgt := 22) hx hb dX0_letterIt_15 (by decide) (fun c2 => ?_) (fun c2 => ?_)
  · have hr := hi2.1 c2
    refine lv_iconst (v := 0) hx hb dX0_letterIt_22 rfl ?_
    obtain rfl := Option.some.inj hr
    exact J3 _ _ ls (lv_sub hl [0, 1] rfl) hS
  · have hr := hi2.2 c2
    refine lv_iconst (v := 1) hx hb dX0_letterIt_18 rfl ?_
    refine lv_goto (tgt := 23) hx hb dX0_letterIt_19 (by decide) ?_
    obtain rfl := Option.some.inj hr
    exact J3 _ _ ls (lv_sub hl [0, 1] rfl) hS
def f_X0_cellAsked (g : XS) (a1 : Int32) (a2 : Int32) : Option ((Int32 × XS) ⊕ (Int32 × XS)) := bX (f_X0_mustBeCell a1) (fun b1 => (b1, g)) fun o1 => Option.bind (f_X0_in (Int32.toInt64 a2) (0 : Int64) (2 : Int64)) fun o2 => bX (f_X0_must o2 (-2 : Int32)) (fun b3 => (b3, g)) fun o3 => Option.bind (f_X0_has (cG_left (xG_core0 g)) a1) fun o4 => if a2 = 2 then if o4 = 0 then some (Sum.inl (0, g)) else Option.bind (f_X0_heapOf a1 (cG_left (xG_core0 g))) fun o11 => Option.bind (f_X0_manyIn o11) fun o12 => some (Sum.inl (o12, g)) else if a2 = 1 then Option.bind (f_X0_besideBits a1) fun o8 => Option.bind (f_X0_manyIn (o8 &&& (cG_left (xG_core0 g)))) fun o9 => some (Sum.inl (o9, g)) else if o4 = 0 then some (Sum.inl (0, g)) else some (Sum.inl (1, g))
abbrev rm_X0_cellAsked : Room := ({ frames := 12, cells := 2, slots := 14, locals := 222 })
theorem cw_X0_cellAsked {R : Room} {s : State} {args : Array Value} {own : String} {index : Nat} (hts : ∀ w ∈ lw_all, w.before args s = true) (hlink : Cond.methodLink own index yX0_cellAsked ∈ lw_all) (hR : rm_X0_cellAsked.frames + 1 ≤ R.frames ∧ 8 + (4 + 11) + rm_X0_cellAsked.locals ≤ R.locals) : CallW R s args own RX0 index yX0_cellAsked cX0_cellAsked 4 (some FieldType.int) (ws_ yX0_cellAsked cX0_cellAsked 4 (some FieldType.int)) rm_X0_cellAsked rm_X0_cellAsked.cells rm_X0_cellAsked.slots 2 :=
  cwV 2 hts (lw_V hlink q643 qs14 q102 q644) rfl rfl rfl (by decide +kernel) hR
set_option maxHeartbeats 4000000 in
theorem m_X0_cellAsked (l : Launch) (hst : l.stackTraces = false) (D : va_G) (ax : Nat → Nat) (ac : Nat → ClassId) (g : XS) (a1 : Int32) (a2 : Int32) (sz : Nat) (r0 : (Int32 × XS) ⊕ (Int32 × XS)) (hr : f_X0_cellAsked g a1 a2 = some r0) : TM l yX0_cellAsked cX0_cellAsked 4 (some FieldType.int) rm_X0_cellAsked [.ref (ax 0), .int a1, .int a2] D ac (wX ax ac g) sz (Sum.map (fun u => (wX ax ac u.2, (some (.int u.1)))) (fun u => (wX ax ac u.2, u.1)) r0) := by
  generalize hoc : (Sum.map (fun u => (wX ax ac u.2, (some (.int u.1)))) (fun u => (wX ax ac u.2, u.1)) r0 : Oc) = oc
  refine fw_ofT (by decide) (Nat.le_of_ble_eq_true rfl) ?_
  intro p e s m below meth c ls hx hb hrt hts hown hlk hml _ hnt hU hl
  obtain ⟨⟨rfl, hP, hG, hD⟩, hZ⟩ := hU
  have hA : ∀ q : Nat, s.heap.size ≤ q → (va_A (wX ax ac g) s.heap.size) q := fun q h => Or.inr h
  have hS := Stt.start hP hD
  show WT p l e rm_X0_cellAsked s m [.ref (ax 0), .int a1, .int a2] below meth c D (va_A (wX ax ac g) s.heap.size) oc s.heap [] 0 0 0 ls []
  have hl : lv_has ls 4 [(0, .ref (ax 0)), (1, .int a1), (2, .int a2)] := hl
  rw [f_X0_cellAsked] at hr
  refine lv_iload_n hx hb dX0_cellAsked_0 rfl (lv_at hl 1 rfl) ?_
  rcases Or.symm (br_bX hr) with ⟨o1, ho1, rfl⟩ | ⟨o1, ho1, hr⟩
  · refine fwTSx (As := [.int a1]) (rest := []) hx hb hml hown hts (m_X0_mustBeCell l hst D ac a1 _ _ ho1) (cw_X0_mustBeCell hts q645 ⟨Nat.le_of_ble_eq_true rfl, Nat.le_of_ble_eq_true rfl⟩) hG hZ hS hA [] rfl rfl rfl rfl hl.1 rfl (Nat.le_of_ble_eq_true rfl) dX0_cellAsked_1 ⟨Nat.le_of_ble_eq_true rfl, Nat.le_of_ble_eq_true rfl⟩ (wn := wX ax ac g) rfl (fun q_ ci_ H locs hci hS => ?_)
    subst hoc; exact fw_xout hnt hlk hG hci hS (Nat.le_of_ble_eq_true rfl) (Nat.le_of_ble_eq_true rfl)
  refine fwTSo (As := [.int a1]) (rest := []) hx hb hml hown hts (m_X0_mustBeCell l hst D ac a1 _ _ ho1) (cw_X0_mustBeCell hts q645 ⟨Nat.le_of_ble_eq_true rfl, Nat.le_of_ble_eq_true rfl⟩) hG hZ hS hA [] rfl rfl rfl rfl hl.1 rfl (Nat.le_of_ble_eq_true rfl) dX0_cellAsked_1 ⟨Nat.le_of_ble_eq_true rfl, Nat.le_of_ble_eq_true rfl⟩ (wn := wX ax ac g) rfl (fun H locs hS => ?_)
  have hP := hS.1
  refine W.widen (k := 1) (n := 7) (by first | exact Nat.le_refl _ | (dsimp only [rm_X0_mustBeCell]; omega)) (by first | exact Nat.le_refl _ | (dsimp only [rm_X0_mustBeCell]; omega)) ?_
  refine lv_iload_n hx hb dX0_cellAsked_4 rfl (lv_at hl 2 rfl) ?_
  refine lv_i2l (v := (Int32.toInt64 a2)) hx hb dX0_cellAsked_5 rfl ?_
  refine lv_lconst (v := 0) hx hb dX0_cellAsked_6 rfl ?_
  refine lv_ldc2 (v := 2) hx hb hown (hts _ q652) dX0_cellAsked_7 ?_
  obtain ⟨o2, ho2, hr⟩ := br_bind hr
  refine fwS (As := [.long (Int32.toInt64 a2), .long 0, .long 2]) (rest := []) hx hb hml hown hts (m_X0_in l (Int32.toInt64 a2) (0 : Int64) (2 : Int64) o2 ho2) (cw_X0_in hts q651 ⟨Nat.le_of_ble_eq_true rfl, Nat.le_of_ble_eq_true rfl⟩) rfl hl.1 rfl (Nat.le_of_ble_eq_true rfl) dX0_cellAsked_10 ⟨Nat.le_of_ble_eq_true rfl, Nat.le_of_ble_eq_true rfl⟩ ?_
  refine lv_bipush (v := (-2)) hx hb dX0_cellAsked_13 rfl ?_
  rcases Or.symm (br_bX hr) with ⟨o3, ho3, rfl⟩ | ⟨o3, ho3, hr⟩
  · refine fwTSx (As := [.int o2, .int (-2)]) (rest := []) hx hb hml hown hts (m_X0_must l hst D ac o2 (-2 : Int32) _ _ ho3) (cw_X0_must hts q315 ⟨Nat.le_of_ble_eq_true rfl, Nat.le_of_ble_eq_true rfl⟩) hG hZ hS hA [] rfl rfl rfl rfl hl.1 rfl (Nat.le_of_ble_eq_true rfl) dX0_cellAsked_15 ⟨Nat.le_of_ble_eq_true rfl, Nat.le_of_ble_eq_true rfl⟩ (wn := wX ax ac g) rfl (fun q_ ci_ H locs hci hS => ?_)
    subst hoc; exact fw_xout hnt hlk hG hci hS (Nat.le_of_ble_eq_true rfl) (Nat.le_of_ble_eq_true rfl)
  refine fwTSo (As := [.int o2, .int (-2)]) (rest := []) hx hb hml hown hts (m_X0_must l hst D ac o2 (-2 : Int32) _ _ ho3) (cw_X0_must hts q315 ⟨Nat.le_of_ble_eq_true rfl, Nat.le_of_ble_eq_true rfl⟩) hG hZ hS hA [] rfl rfl rfl rfl hl.1 rfl (Nat.le_of_ble_eq_true rfl) dX0_cellAsked_15 ⟨Nat.le_of_ble_eq_true rfl, Nat.le_of_ble_eq_true rfl⟩ (wn := wX ax ac g) rfl (fun H locs hS => ?_)
  have hP := hS.1
  refine W.widen (k := 2) (n := 14) (by first | exact Nat.le_refl _ | (dsimp only [rm_X0_must]; omega)) (by first | exact Nat.le_refl _ | (dsimp only [rm_X0_must]; omega)) ?_
  refine lv_aload_n hx hb dX0_cellAsked_18 rfl (lv_at hl 0 rfl) ?_
  refine va_get (D := D) (ci := 0) (v := .ref (ax 1)) (C := RX0) (T := TX0) (N := 17) hx hb hts in_X0 hown hG.1 hP 0 rfl rfl 1 (by decide) (hts _ q234) (fun _ h9 => h9) rfl dX0_cellAsked_19 ?_
  refine va_getN (D := D) (ci := 7) (v := .int (cG_left (xG_core0 g))) (C := RX8) (T := TX8) (N := 8) hx hb hts in_X8 hown hG.1 hP 1 rfl rfl 0 (by decide) (va_Nw.use rfl (hG.2.1 _ nq193)) (fun _ h9 => h9) rfl dX0_cellAsked_22 ?_
  refine lv_iload_n hx hb dX0_cellAsked_25 rfl (lv_at hl 1 rfl) ?_
  obtain ⟨o4, ho4, hr⟩ := br_bind hr
  refine fwS (As := [.int (cG_left (xG_core0 g)), .int a1]) (rest := []) hx hb hml hown hts (m_X0_has l (cG_left (xG_core0 g)) a1 o4 ho4) (cw_X0_has hts q594 ⟨Nat.le_of_ble_eq_true rfl, Nat.le_of_ble_eq_true rfl⟩) rfl hl.1 rfl (Nat.le_of_ble_eq_true rfl) dX0_cellAsked_26 ⟨Nat.le_of_ble_eq_true rfl, Nat.le_of_ble_eq_true rfl⟩ ?_
  refine lv_istore_n (lv' := [(3, .int o4), (0, .ref (ax 0)), (1, .int a1), (2, .int a2)]) hx hb dX0_cellAsked_29 rfl hl (by decide) rfl (fun ls hl => ?_)
  refine lv_iload_n hx hb dX0_cellAsked_30 rfl (lv_at hl 3 rfl) ?_
  refine lv_iconst (v := 2) hx hb dX0_cellAsked_31 rfl ?_
  have hi5 := br_ite hr
  refine lv_icmp_ne (tgt := 58) hx hb dX0_cellAsked_32 (by decide) (fun c5 => ?_) (fun c5 => ?_)
  · have hr := hi5.2 c5
    refine lv_iload_n hx hb dX0_cellAsked_58 rfl (lv_at hl 3 rfl) ?_
    refine lv_iconst (v := 1) hx hb dX0_cellAsked_59 rfl ?_
    have hi6 := br_ite hr
    refine lv_icmp_ne (tgt := 81) hx hb dX0_cellAsked_60 (by decide) (fun c6 => ?_) (fun c6 => ?_)
    · have hr := hi6.2 c6
      refine lv_iload_n hx hb dX0_cellAsked_81 rfl (lv_at hl 0 rfl) ?_
      have hi7 := br_ite hr
      refine lv_if_eq (tgt := 89) hx hb dX0_cellAsked_82 (by decide) (fun c7 => ?_) (fun c7 => ?_)
      · have hr := hi7.1 c7
        refine lv_iconst (v := 0) hx hb dX0_cellAsked_89 rfl ?_
        obtain rfl := Option.some.inj hr
        refine W.widen (k := rm_X0_cellAsked.cells) (n := rm_X0_cellAsked.slots) (Nat.le_of_ble_eq_true rfl) (Nat.le_of_ble_eq_true rfl) ?_
        subst hoc
        exact xx_ret (W.iret hx hb hrt (fun t ht _ => hS.q ht rfl) hS.2.2.2.2 dX0_cellAsked_90 hlk)
      · have hr := hi7.2 c7
        refine lv_iconst (v := 1) hx hb dX0_cellAsked_85 rfl ?_
        refine lv_goto (tgt := 90) hx hb dX0_cellAsked_86 (by decide) ?_
        obtain rfl := Option.some.inj hr
        refine W.widen (k := rm_X0_cellAsked.cells) (n := rm_X0_cellAsked.slots) (Nat.le_of_ble_eq_true rfl) (Nat.le_of_ble_eq_true rfl) ?_
        subst hoc
        exact xx_ret (W.iret hx hb hrt (fun t ht _ => hS.q ht rfl) hS.2.2.2.2 dX0_cellAsked_90 hlk)
    · have hr := hi6.1 c6
      refine lv_iload_n hx hb dX0_cellAsked_63 rfl (lv_at hl 2 rfl) ?_
      obtain ⟨o8, ho8, hr⟩ := br_bind hr
      refine fwS (As := [.int a1]) (rest := []) hx hb hml hown hts (m_X0_besideBits l a1 o8 ho8) (cw_X0_besideBits hts q595 ⟨Nat.le_of_ble_eq_true rfl, Nat.le_of_ble_eq_true rfl⟩) rfl hl.1 rfl (Nat.le_of_ble_eq_true rfl) dX0_cellAsked_64 ⟨Nat.le_of_ble_eq_true rfl, Nat.le_of_ble_eq_true rfl⟩ ?_
      refine lv_aload_n hx hb dX0_cellAsked_67 rfl (lv_at hl 1 rfl) ?_
      refine va_get (D := D) (ci := 0) (v := .ref (ax 1)) (C := RX0) (T := TX0) (N := 17) hx hb hts in_X0 hown hG.1 hP 0 rfl rfl 1 (by decide) (hts _ q234) (fun _ h9 => h9) rfl dX0_cellAsked_68 ?_
      refine va_getN (D := D) (ci := 7) (v := .int (cG_left (xG_core0 g))) (C := RX8) (T := TX8) (N := 8) hx hb hts in_X8 hown hG.1 hP 1 rfl rfl 0 (by decide) (va_Nw.use rfl (hG.2.1 _ nq193)) (fun _ h9 => h9) rfl dX0_cellAsked_71 ?_
      refine lv_iand hx hb dX0_cellAsked_74 ?_
      obtain ⟨o9, ho9, hr⟩ := br_bind hr
      refine fwS (As := [.int (o8 &&& (cG_left (xG_core0 g)))]) (rest := []) hx hb hml hown hts (m_X0_manyIn l (o8 &&& (cG_left (xG_core0 g))) o9 ho9) (cw_X0_manyIn hts q654 ⟨Nat.le_of_ble_eq_true rfl, Nat.le_of_ble_eq_true rfl⟩) rfl hl.1 rfl (Nat.le_of_ble_eq_true rfl) dX0_cellAsked_75 ⟨Nat.le_of_ble_eq_true rfl, Nat.le_of_ble_eq_true rfl⟩ ?_
      refine lv_goto (tgt := 90) hx hb dX0_cellAsked_78 (by decide) ?_
      obtain rfl := Option.some.inj hr
      refine W.widen (k := rm_X0_cellAsked.cells) (n := rm_X0_cellAsked.slots) (Nat.le_of_ble_eq_true rfl) (Nat.le_of_ble_eq_true rfl) ?_
      subst hoc
      exact xx_ret (W.iret hx hb hrt (fun t ht _ => hS.q ht rfl) hS.2.2.2.2 dX0_cellAsked_90 hlk)
  · have hr := hi5.1 c5
    refine lv_iload_n hx hb dX0_cellAsked_35 rfl (lv_at hl 0 rfl) ?_
    have hi10 := br_ite hr
    refine lv_if_eq (tgt := 56) hx hb dX0_cellAsked_36 (by decide) (fun c10 => ?_) (fun c10 => ?_)
    · have hr := hi10.1 c10
      refine lv_iconst (v := 0) hx hb dX0_cellAsked_56 rfl ?_
      obtain rfl := Option.some.inj hr
      refine W.widen (k := rm_X0_cellAsked.cells) (n := rm_X0_cellAsked.slots) (Nat.le_of_ble_eq_true rfl) (Nat.le_of_ble_eq_true rfl) ?_
      subst hoc
      exact xx_ret (W.iret hx hb hrt (fun t ht _ => hS.q ht rfl) hS.2.2.2.2 dX0_cellAsked_57 hlk)
    · have hr := hi10.2 c10
      refine lv_iload_n hx hb dX0_cellAsked_39 rfl (lv_at hl 2 rfl) ?_
      refine lv_aload_n hx hb dX0_cellAsked_40 rfl (lv_at hl 1 rfl) ?_
      refine va_get (D := D) (ci := 0) (v := .ref (ax 1)) (C := RX0) (T := TX0) (N := 17) hx hb hts in_X0 hown hG.1 hP 0 rfl rfl 1 (by decide) (hts _ q234) (fun _ h9 => h9) rfl dX0_cellAsked_41 ?_
      refine va_getN (D := D) (ci := 7) (v := .int (cG_left (xG_core0 g))) (C := RX8) (T := TX8) (N := 8) hx hb hts in_X8 hown hG.1 hP 1 rfl rfl 0 (by decide) (va_Nw.use rfl (hG.2.1 _ nq193)) (fun _ h9 => h9) rfl dX0_cellAsked_44 ?_
      obtain ⟨o11, ho11, hr⟩ := br_bind hr
      refine fwS (As := [.int a1, .int (cG_left (xG_core0 g))]) (rest := []) hx hb hml hown hts (m_X0_heapOf l a1 (cG_left (xG_core0 g)) o11 ho11) (cw_X0_heapOf hts q653 ⟨Nat.le_of_ble_eq_true rfl, Nat.le_of_ble_eq_true rfl⟩) rfl hl.1 rfl (Nat.le_of_ble_eq_true rfl) dX0_cellAsked_47 ⟨Nat.le_of_ble_eq_true rfl, Nat.le_of_ble_eq_true rfl⟩ ?_
      obtain ⟨o12, ho12, hr⟩ := br_bind hr
      refine fwS (As := [.int o11]) (rest := []) hx hb hml hown hts (m_X0_manyIn l o11 o12 ho12) (cw_X0_manyIn hts q654 ⟨Nat.le_of_ble_eq_true rfl, Nat.le_of_ble_eq_true rfl⟩) rfl hl.1 rfl (Nat.le_of_ble_eq_true rfl) dX0_cellAsked_50 ⟨Nat.le_of_ble_eq_true rfl, Nat.le_of_ble_eq_true rfl⟩ ?_
      refine lv_goto (tgt := 57) hx hb dX0_cellAsked_53 (by decide) ?_
      obtain rfl := Option.some.inj hr
      refine W.widen (k := rm_X0_cellAsked.cells) (n := rm_X0_cellAsked.slots) (Nat.le_of_ble_eq_true rfl) (Nat.le_of_ble_eq_true rfl) ?_
      subst hoc
      exact xx_ret (W.iret hx hb hrt (fun t ht _ => hS.q ht rfl) hS.2.2.2.2 dX0_cellAsked_57 hlk)
def f_X0_heirAsked (g : XS) (a1 : Int32) (a2 : Int32) : Option ((Int32 × XS) ⊕ (Int32 × XS)) := bX (f_X0_mustBeHeir g a1) (fun b1 => (b1.1, b1.2)) fun o1 => Option.bind (f_X0_in (Int32.toInt64 a2) (0 : Int64) (2 : Int64)) fun o2 => bX (f_X0_must o2 (-2 : Int32)) (fun b3 => (b3, o1)) fun o3 => if a2 = 0 then if a1 < 0 ∨ 5 ≤ Int32.toNatClampNeg a1 then none else Option.bind ((cG_kind (xG_core0 o1)) (Int32.toNatClampNeg a1)) fun k9 => Option.bind (f_K_kind k9) fun o10 => some (Sum.inl (o10, o1)) else if a2 = 1 then if a1 < 0 ∨ 5 ≤ Int32.toNatClampNeg a1 then none else some (Sum.inl (((cG_figures (xG_core0 o1)) (Int32.toNatClampNeg a1)), o1)) else Option.bind (f_X8_shareOf (xG_core0 o1) a1) fun o6 => some (Sum.inl (o6, o1))
abbrev rm_X0_heirAsked : Room := ({ frames := 12, cells := 2, slots := 14, locals := 421 })
theorem cw_X0_heirAsked {R : Room} {s : State} {args : Array Value} {own : String} {index : Nat} (hts : ∀ w ∈ lw_all, w.before args s = true) (hlink : Cond.methodLink own index yX0_heirAsked ∈ lw_all) (hR : rm_X0_heirAsked.frames + 1 ≤ R.frames ∧ 8 + (3 + 11) + rm_X0_heirAsked.locals ≤ R.locals) : CallW R s args own RX0 index yX0_heirAsked cX0_heirAsked 3 (some FieldType.int) (ws_ yX0_heirAsked cX0_heirAsked 3 (some FieldType.int)) rm_X0_heirAsked rm_X0_heirAsked.cells rm_X0_heirAsked.slots 2 :=
  cwV 2 hts (lw_V hlink q657 qs15 q102 q658) rfl rfl rfl (by decide +kernel) hR
set_option maxHeartbeats 4000000 in
theorem m_X0_heirAsked (l : Launch) (hst : l.stackTraces = false) (D : va_G) (ax : Nat → Nat) (ac : Nat → ClassId) (g : XS) (a1 : Int32) (a2 : Int32) (sz : Nat) (r0 : (Int32 × XS) ⊕ (Int32 × XS)) (hr : f_X0_heirAsked g a1 a2 = some r0) : TM l yX0_heirAsked cX0_heirAsked 3 (some FieldType.int) rm_X0_heirAsked [.ref (ax 0), .int a1, .int a2] D ac (wX ax ac g) sz (Sum.map (fun u => (wX ax ac u.2, (some (.int u.1)))) (fun u => (wX ax ac u.2, u.1)) r0) := by
  generalize hoc : (Sum.map (fun u => (wX ax ac u.2, (some (.int u.1)))) (fun u => (wX ax ac u.2, u.1)) r0 : Oc) = oc
  refine fw_ofT (by decide) (Nat.le_of_ble_eq_true rfl) ?_
  intro p e s m below meth c ls hx hb hrt hts hown hlk hml _ hnt hU hl
  obtain ⟨⟨rfl, hP, hG, hD⟩, hZ⟩ := hU
  have hA : ∀ q : Nat, s.heap.size ≤ q → (va_A (wX ax ac g) s.heap.size) q := fun q h => Or.inr h
  have hS := Stt.start hP hD
  show WT p l e rm_X0_heirAsked s m [.ref (ax 0), .int a1, .int a2] below meth c D (va_A (wX ax ac g) s.heap.size) oc s.heap [] 0 0 0 ls []
  have hl : lv_has ls 3 [(0, .ref (ax 0)), (1, .int a1), (2, .int a2)] := hl
  rw [f_X0_heirAsked] at hr
  refine lv_aload_n hx hb dX0_heirAsked_0 rfl (lv_at hl 0 rfl) ?_
  refine lv_iload_n hx hb dX0_heirAsked_1 rfl (lv_at hl 1 rfl) ?_
  rcases Or.symm (br_bX hr) with ⟨o1, ho1, rfl⟩ | ⟨o1, ho1, hr⟩
  · refine fwTVx (As := [.int a1]) (rest := []) (C := RX0) hx hb hml hown hts (m_X0_mustBeHeir l hst D ax ac g a1 _ _ ho1) (cw_X0_mustBeHeir hts q659 ⟨Nat.le_of_ble_eq_true rfl, Nat.le_of_ble_eq_true rfl⟩) hG hZ hS hA ixX nd_X (pk_X ax ac _) (ad_X ax ac _ _) 0 0 rfl rfl rfl hl.1 rfl (Nat.le_of_ble_eq_true rfl) dX0_heirAsked_2 ⟨Nat.le_of_ble_eq_true rfl, Nat.le_of_ble_eq_true rfl⟩ (wn := wX ax ac o1.2) (rep_X ax ac _ _) (fun q_ ci_ H locs hci hS => ?_)
    subst hoc; exact fw_xout hnt hlk hG hci hS (Nat.le_of_ble_eq_true rfl) (Nat.le_of_ble_eq_true rfl)
  refine fwTVo (As := [.int a1]) (rest := []) (C := RX0) hx hb hml hown hts (m_X0_mustBeHeir l hst D ax ac g a1 _ _ ho1) (cw_X0_mustBeHeir hts q659 ⟨Nat.le_of_ble_eq_true rfl, Nat.le_of_ble_eq_true rfl⟩) hG hZ hS hA ixX nd_X (pk_X ax ac _) (ad_X ax ac _ _) 0 0 rfl rfl rfl hl.1 rfl (Nat.le_of_ble_eq_true rfl) dX0_heirAsked_2 ⟨Nat.le_of_ble_eq_true rfl, Nat.le_of_ble_eq_true rfl⟩ (wn := wX ax ac o1) (rep_X ax ac _ _) (fun H locs hS => ?_)
  have hP := hS.1
  refine W.widen (k := 1) (n := 7) (by first | exact Nat.le_refl _ | (dsimp only [rm_X0_mustBeHeir]; omega)) (by first | exact Nat.le_refl _ | (dsimp only [rm_X0_mustBeHeir]; omega)) ?_
  refine lv_iload_n hx hb dX0_heirAsked_5 rfl (lv_at hl 2 rfl) ?_
  refine lv_i2l (v := (Int32.toInt64 a2)) hx hb dX0_heirAsked_6 rfl ?_
  refine lv_lconst (v := 0) hx hb dX0_heirAsked_7 rfl ?_
  refine lv_ldc2 (v := 2) hx hb hown (hts _ q652) dX0_heirAsked_8 ?_
  obtain ⟨o2, ho2, hr⟩ := br_bind hr
  refine fwS (As := [.long (Int32.toInt64 a2), .long 0, .long 2]) (rest := []) hx hb hml hown hts (m_X0_in l (Int32.toInt64 a2) (0 : Int64) (2 : Int64) o2 ho2) (cw_X0_in hts q651 ⟨Nat.le_of_ble_eq_true rfl, Nat.le_of_ble_eq_true rfl⟩) rfl hl.1 rfl (Nat.le_of_ble_eq_true rfl) dX0_heirAsked_11 ⟨Nat.le_of_ble_eq_true rfl, Nat.le_of_ble_eq_true rfl⟩ ?_
  refine lv_bipush (v := (-2)) hx hb dX0_heirAsked_14 rfl ?_
  rcases Or.symm (br_bX hr) with ⟨o3, ho3, rfl⟩ | ⟨o3, ho3, hr⟩
  · refine fwTSx (As := [.int o2, .int (-2)]) (rest := []) hx hb hml hown hts (m_X0_must l hst D ac o2 (-2 : Int32) _ _ ho3) (cw_X0_must hts q315 ⟨Nat.le_of_ble_eq_true rfl, Nat.le_of_ble_eq_true rfl⟩) hG hZ hS hA [] rfl rfl rfl rfl hl.1 rfl (Nat.le_of_ble_eq_true rfl) dX0_heirAsked_16 ⟨Nat.le_of_ble_eq_true rfl, Nat.le_of_ble_eq_true rfl⟩ (wn := wX ax ac o1) rfl (fun q_ ci_ H locs hci hS => ?_)
    subst hoc; exact fw_xout hnt hlk hG hci hS (Nat.le_of_ble_eq_true rfl) (Nat.le_of_ble_eq_true rfl)
  refine fwTSo (As := [.int o2, .int (-2)]) (rest := []) hx hb hml hown hts (m_X0_must l hst D ac o2 (-2 : Int32) _ _ ho3) (cw_X0_must hts q315 ⟨Nat.le_of_ble_eq_true rfl, Nat.le_of_ble_eq_true rfl⟩) hG hZ hS hA [] rfl rfl rfl rfl hl.1 rfl (Nat.le_of_ble_eq_true rfl) dX0_heirAsked_16 ⟨Nat.le_of_ble_eq_true rfl, Nat.le_of_ble_eq_true rfl⟩ (wn := wX ax ac o1) rfl (fun H locs hS => ?_)
  have hP := hS.1
  refine W.widen (k := 2) (n := 14) (by first | exact Nat.le_refl _ | (dsimp only [rm_X0_must]; omega)) (by first | exact Nat.le_refl _ | (dsimp only [rm_X0_must]; omega)) ?_
  refine lv_iload_n hx hb dX0_heirAsked_19 rfl (lv_at hl 2 rfl) ?_
  have hi4 := br_ite hr
  refine lv_if_ne (tgt := 38) hx hb dX0_heirAsked_20 (by decide) (fun c4 => ?_) (fun c4 => ?_)
  · have hr := hi4.2 c4
    refine lv_iload_n hx hb dX0_heirAsked_38 rfl (lv_at hl 2 rfl) ?_
    refine lv_iconst (v := 1) hx hb dX0_heirAsked_39 rfl ?_
    have hi5 := br_ite hr
    refine lv_icmp_ne (tgt := 55) hx hb dX0_heirAsked_40 (by decide) (fun c5 => ?_) (fun c5 => ?_)
    · have hr := hi5.2 c5
      refine lv_aload_n hx hb dX0_heirAsked_55 rfl (lv_at hl 0 rfl) ?_
      refine va_get (D := D) (ci := 0) (v := .ref (ax 1)) (C := RX0) (T := TX0) (N := 17) hx hb hts in_X0 hown hG.1 hP 0 rfl rfl 1 (by decide) (hts _ q234) (fun _ h9 => h9) rfl dX0_heirAsked_56 ?_
      refine lv_iload_n hx hb dX0_heirAsked_59 rfl (lv_at hl 1 rfl) ?_
      obtain ⟨o6, ho6, hr⟩ := br_bind hr
      refine fwRV (As := [.int a1]) (rest := []) (C := RX8) hx hb hml hown hts (m_X8_shareOf l D ax ac (ax 1) (ax 2) (ax 3) (xG_core0 o1) a1 o6 ho6) (cw_X8_shareOf hts q684 ⟨Nat.le_of_ble_eq_true rfl, Nat.le_of_ble_eq_true rfl⟩) hG hP (hP.pick [1, 2, 3, 11, 12, 13, 14, 15, 16] rfl) 1 7 rfl rfl rfl hl.1 rfl (Nat.le_of_ble_eq_true rfl) dX0_heirAsked_60 ⟨Nat.le_of_ble_eq_true rfl, Nat.le_of_ble_eq_true rfl⟩ ?_
      obtain rfl := Option.some.inj hr
      refine W.widen (k := rm_X0_heirAsked.cells) (n := rm_X0_heirAsked.slots) (Nat.le_of_ble_eq_true rfl) (Nat.le_of_ble_eq_true rfl) ?_
      subst hoc
      exact xx_ret (W.iret hx hb hrt (fun t ht _ => hS.q ht rfl) hS.2.2.2.2 dX0_heirAsked_63 hlk)
    · have hr := hi5.1 c5
      refine lv_aload_n hx hb dX0_heirAsked_43 rfl (lv_at hl 0 rfl) ?_
      refine va_get (D := D) (ci := 0) (v := .ref (ax 1)) (C := RX0) (T := TX0) (N := 17) hx hb hts in_X0 hown hG.1 hP 0 rfl rfl 1 (by decide) (hts _ q234) (fun _ h9 => h9) rfl dX0_heirAsked_44 ?_
      refine va_getN (D := D) (ci := 7) (v := .ref (ax 3)) (C := RX8) (T := TX8) (N := 8) hx hb hts in_X8 hown hG.1 hP 1 rfl rfl 3 (by decide) (va_Nw.use rfl (hG.2.1 _ nq200)) (fun _ h9 => h9) rfl dX0_heirAsked_47 ?_
      refine lv_iload_n hx hb dX0_heirAsked_50 rfl (lv_at hl 1 rfl) ?_
      obtain ⟨c7, hr⟩ := br_none hr
      refine va_iald hx hb hG.1 hP 3 0 rfl rfl c7 dX0_heirAsked_51 ?_
      refine lv_goto (tgt := 63) hx hb dX0_heirAsked_52 (by decide) ?_
      obtain rfl := Option.some.inj hr
      refine W.widen (k := rm_X0_heirAsked.cells) (n := rm_X0_heirAsked.slots) (Nat.le_of_ble_eq_true rfl) (Nat.le_of_ble_eq_true rfl) ?_
      subst hoc
      exact xx_ret (W.iret hx hb hrt (fun t ht _ => hS.q ht rfl) hS.2.2.2.2 dX0_heirAsked_63 hlk)
  · have hr := hi4.1 c4
    refine lv_aload_n hx hb dX0_heirAsked_23 rfl (lv_at hl 0 rfl) ?_
    refine va_get (D := D) (ci := 0) (v := .ref (ax 1)) (C := RX0) (T := TX0) (N := 17) hx hb hts in_X0 hown hG.1 hP 0 rfl rfl 1 (by decide) (hts _ q234) (fun _ h9 => h9) rfl dX0_heirAsked_24 ?_
    refine va_getN (D := D) (ci := 7) (v := .ref (ax 2)) (C := RX8) (T := TX8) (N := 8) hx hb hts in_X8 hown hG.1 hP 1 rfl rfl 2 (by decide) (va_Nw.use rfl (hG.2.1 _ nq198)) (fun _ h9 => h9) rfl dX0_heirAsked_27 ?_
    refine lv_iload_n hx hb dX0_heirAsked_30 rfl (lv_at hl 1 rfl) ?_
    obtain ⟨c8, hr⟩ := br_none hr
    obtain ⟨k9, hk9, hr⟩ := br_bind hr
    refine fw_kald hx hb hG hP 2 rfl c8 hk9 dX0_heirAsked_31 ?_
    obtain ⟨o10, ho10, hr⟩ := br_bind hr
    refine fw_kind hx hb hml hown hts q663 hG (hP.pick [11, 12, 13, 14, 15, 16] rfl) ho10 hl.1 (Nat.le_of_ble_eq_true rfl) (Nat.le_of_ble_eq_true rfl) (Nat.le_of_ble_eq_true rfl) dX0_heirAsked_32 ⟨Nat.le_of_ble_eq_true rfl, Nat.le_of_ble_eq_true rfl⟩ ?_
    refine lv_goto (tgt := 63) hx hb dX0_heirAsked_35 (by decide) ?_
    obtain rfl := Option.some.inj hr
    refine W.widen (k := rm_X0_heirAsked.cells) (n := rm_X0_heirAsked.slots) (Nat.le_of_ble_eq_true rfl) (Nat.le_of_ble_eq_true rfl) ?_
    subst hoc
    exact xx_ret (W.iret hx hb hrt (fun t ht _ => hS.q ht rfl) hS.2.2.2.2 dX0_heirAsked_63 hlk)
def f_X0_biteIt (g : XS) (a1 : Int32) (a2 : Int32) : Option ((Int32 × XS) ⊕ (Int32 × XS)) := Option.bind (f_X0_in (Int32.toInt64 a1) (0 : Int64) (3 : Int64)) fun o1 => bX (f_X0_must o1 (-2 : Int32)) (fun b2 => (b2, g)) fun o2 => bX (f_X0_mustBeCell a2) (fun b3 => (b3, g)) fun o3 => Option.bind (f_X8_canBite (xG_core0 g) a1 a2) fun o4 => bX (f_X0_must o4 (-3 : Int32)) (fun b5 => (b5, g)) fun o5 => Option.bind (f_X8_bite (xG_core0 g) a1 a2) fun o6 => Option.bind (some (xS_core0 g o6)) fun g7 => Option.bind (f_X0_manyIn (cG_left (xG_core0 g7))) fun o8 => some (Sum.inl (o8, g7))
abbrev rm_X0_biteIt : Room := ({ frames := 12, cells := 3, slots := 21, locals := 222 })
theorem cw_X0_biteIt {R : Room} {s : State} {args : Array Value} {own : String} {index : Nat} (hts : ∀ w ∈ lw_all, w.before args s = true) (hlink : Cond.methodLink own index yX0_biteIt ∈ lw_all) (hR : rm_X0_biteIt.frames + 1 ≤ R.frames ∧ 8 + (3 + 11) + rm_X0_biteIt.locals ≤ R.locals) : CallW R s args own RX0 index yX0_biteIt cX0_biteIt 3 (some FieldType.int) (ws_ yX0_biteIt cX0_biteIt 3 (some FieldType.int)) rm_X0_biteIt rm_X0_biteIt.cells rm_X0_biteIt.slots 2 :=
  cwV 2 hts (lw_V hlink q739 qs17 q102 q740) rfl rfl rfl (by decide +kernel) hR
set_option maxHeartbeats 4000000 in
theorem m_X0_biteIt (l : Launch) (hst : l.stackTraces = false) (D : va_G) (ax : Nat → Nat) (ac : Nat → ClassId) (g : XS) (a1 : Int32) (a2 : Int32) (sz : Nat) (r0 : (Int32 × XS) ⊕ (Int32 × XS)) (hr : f_X0_biteIt g a1 a2 = some r0) : TM l yX0_biteIt cX0_biteIt 3 (some FieldType.int) rm_X0_biteIt [.ref (ax 0), .int a1, .int a2] D ac (wX ax ac g) sz (Sum.map (fun u => (wX ax ac u.2, (some (.int u.1)))) (fun u => (wX ax ac u.2, u.1)) r0) := by
  generalize hoc : (Sum.map (fun u => (wX ax ac u.2, (some (.int u.1)))) (fun u => (wX ax ac u.2, u.1)) r0 : Oc) = oc
  refine fw_ofT (by decide) (Nat.le_of_ble_eq_true rfl) ?_
  intro p e s m below meth c ls hx hb hrt hts hown hlk hml _ hnt hU hl
  obtain ⟨⟨rfl, hP, hG, hD⟩, hZ⟩ := hU
  have hA : ∀ q : Nat, s.heap.size ≤ q → (va_A (wX ax ac g) s.heap.size) q := fun q h => Or.inr h
  have hS := Stt.start hP hD
  show WT p l e rm_X0_biteIt s m [.ref (ax 0), .int a1, .int a2] below meth c D (va_A (wX ax ac g) s.heap.size) oc s.heap [] 0 0 0 ls []
  have hl : lv_has ls 3 [(0, .ref (ax 0)), (1, .int a1), (2, .int a2)] := hl
  rw [f_X0_biteIt] at hr
  refine lv_iload_n hx hb dX0_biteIt_0 rfl (lv_at hl 1 rfl) ?_
  refine lv_i2l (v := (Int32.toInt64 a1)) hx hb dX0_biteIt_1 rfl ?_
  refine lv_lconst (v := 0) hx hb dX0_biteIt_2 rfl ?_
  refine lv_ldc2 (v := 3) hx hb hown (hts _ q741) dX0_biteIt_3 ?_
  obtain ⟨o1, ho1, hr⟩ := br_bind hr
  refine fwS (As := [.long (Int32.toInt64 a1), .long 0, .long 3]) (rest := []) hx hb hml hown hts (m_X0_in l (Int32.toInt64 a1) (0 : Int64) (3 : Int64) o1 ho1) (cw_X0_in hts q651 ⟨Nat.le_of_ble_eq_true rfl, Nat.le_of_ble_eq_true rfl⟩) rfl hl.1 rfl (Nat.le_of_ble_eq_true rfl) dX0_biteIt_6 ⟨Nat.le_of_ble_eq_true rfl, Nat.le_of_ble_eq_true rfl⟩ ?_
  refine lv_bipush (v := (-2)) hx hb dX0_biteIt_9 rfl ?_
  rcases Or.symm (br_bX hr) with ⟨o2, ho2, rfl⟩ | ⟨o2, ho2, hr⟩
  · refine fwTSx (As := [.int o1, .int (-2)]) (rest := []) hx hb hml hown hts (m_X0_must l hst D ac o1 (-2 : Int32) _ _ ho2) (cw_X0_must hts q315 ⟨Nat.le_of_ble_eq_true rfl, Nat.le_of_ble_eq_true rfl⟩) hG hZ hS hA [] rfl rfl rfl rfl hl.1 rfl (Nat.le_of_ble_eq_true rfl) dX0_biteIt_11 ⟨Nat.le_of_ble_eq_true rfl, Nat.le_of_ble_eq_true rfl⟩ (wn := wX ax ac g) rfl (fun q_ ci_ H locs hci hS => ?_)
    subst hoc; exact fw_xout hnt hlk hG hci hS (Nat.le_of_ble_eq_true rfl) (Nat.le_of_ble_eq_true rfl)
  refine fwTSo (As := [.int o1, .int (-2)]) (rest := []) hx hb hml hown hts (m_X0_must l hst D ac o1 (-2 : Int32) _ _ ho2) (cw_X0_must hts q315 ⟨Nat.le_of_ble_eq_true rfl, Nat.le_of_ble_eq_true rfl⟩) hG hZ hS hA [] rfl rfl rfl rfl hl.1 rfl (Nat.le_of_ble_eq_true rfl) dX0_biteIt_11 ⟨Nat.le_of_ble_eq_true rfl, Nat.le_of_ble_eq_true rfl⟩ (wn := wX ax ac g) rfl (fun H locs hS => ?_)
  have hP := hS.1
  refine W.widen (k := 1) (n := 7) (by first | exact Nat.le_refl _ | (dsimp only [rm_X0_must]; omega)) (by first | exact Nat.le_refl _ | (dsimp only [rm_X0_must]; omega)) ?_
  refine lv_iload_n hx hb dX0_biteIt_14 rfl (lv_at hl 2 rfl) ?_
  rcases Or.symm (br_bX hr) with ⟨o3, ho3, rfl⟩ | ⟨o3, ho3, hr⟩
  · refine fwTSx (As := [.int a2]) (rest := []) hx hb hml hown hts (m_X0_mustBeCell l hst D ac a2 _ _ ho3) (cw_X0_mustBeCell hts q645 ⟨Nat.le_of_ble_eq_true rfl, Nat.le_of_ble_eq_true rfl⟩) hG hZ hS hA [] rfl rfl rfl rfl hl.1 rfl (Nat.le_of_ble_eq_true rfl) dX0_biteIt_15 ⟨Nat.le_of_ble_eq_true rfl, Nat.le_of_ble_eq_true rfl⟩ (wn := wX ax ac g) rfl (fun q_ ci_ H locs hci hS => ?_)
    subst hoc; exact fw_xout hnt hlk hG hci hS (Nat.le_of_ble_eq_true rfl) (Nat.le_of_ble_eq_true rfl)
  refine fwTSo (As := [.int a2]) (rest := []) hx hb hml hown hts (m_X0_mustBeCell l hst D ac a2 _ _ ho3) (cw_X0_mustBeCell hts q645 ⟨Nat.le_of_ble_eq_true rfl, Nat.le_of_ble_eq_true rfl⟩) hG hZ hS hA [] rfl rfl rfl rfl hl.1 rfl (Nat.le_of_ble_eq_true rfl) dX0_biteIt_15 ⟨Nat.le_of_ble_eq_true rfl, Nat.le_of_ble_eq_true rfl⟩ (wn := wX ax ac g) rfl (fun H locs hS => ?_)
  have hP := hS.1
  refine W.widen (k := 2) (n := 14) (by first | exact Nat.le_refl _ | (dsimp only [rm_X0_mustBeCell]; omega)) (by first | exact Nat.le_refl _ | (dsimp only [rm_X0_mustBeCell]; omega)) ?_
  refine lv_aload_n hx hb dX0_biteIt_18 rfl (lv_at hl 0 rfl) ?_
  refine va_get (D := D) (ci := 0) (v := .ref (ax 1)) (C := RX0) (T := TX0) (N := 17) hx hb hts in_X0 hown hG.1 hP 0 rfl rfl 1 (by decide) (hts _ q234) (fun _ h9 => h9) rfl dX0_biteIt_19 ?_
  refine lv_iload_n hx hb dX0_biteIt_22 rfl (lv_at hl 1 rfl) ?_
  refine lv_iload_n hx hb dX0_biteIt_23 rfl (lv_at hl 2 rfl) ?_
  obtain ⟨o4, ho4, hr⟩ := br_bind hr
  refine fwRV (As := [.int a1, .int a2]) (rest := []) (C := RX8) hx hb hml hown hts (m_X8_canBite l D ax ac (ax 1) (ax 2) (ax 3) (xG_core0 g) a1 a2 o4 ho4) (cw_X8_canBite hts q742 ⟨Nat.le_of_ble_eq_true rfl, Nat.le_of_ble_eq_true rfl⟩) hG hP (hP.pick [1, 2, 3] rfl) 1 7 rfl rfl rfl hl.1 rfl (Nat.le_of_ble_eq_true rfl) dX0_biteIt_24 ⟨Nat.le_of_ble_eq_true rfl, Nat.le_of_ble_eq_true rfl⟩ ?_
  refine lv_bipush (v := (-3)) hx hb dX0_biteIt_27 rfl ?_
  rcases Or.symm (br_bX hr) with ⟨o5, ho5, rfl⟩ | ⟨o5, ho5, hr⟩
  · refine fwTSx (As := [.int o4, .int (-3)]) (rest := []) hx hb hml hown hts (m_X0_must l hst D ac o4 (-3 : Int32) _ _ ho5) (cw_X0_must hts q315 ⟨Nat.le_of_ble_eq_true rfl, Nat.le_of_ble_eq_true rfl⟩) hG hZ hS hA [] rfl rfl rfl rfl hl.1 rfl (Nat.le_of_ble_eq_true rfl) dX0_biteIt_29 ⟨Nat.le_of_ble_eq_true rfl, Nat.le_of_ble_eq_true rfl⟩ (wn := wX ax ac g) rfl (fun q_ ci_ H locs hci hS => ?_)
    subst hoc; exact fw_xout hnt hlk hG hci hS (Nat.le_of_ble_eq_true rfl) (Nat.le_of_ble_eq_true rfl)
  refine fwTSo (As := [.int o4, .int (-3)]) (rest := []) hx hb hml hown hts (m_X0_must l hst D ac o4 (-3 : Int32) _ _ ho5) (cw_X0_must hts q315 ⟨Nat.le_of_ble_eq_true rfl, Nat.le_of_ble_eq_true rfl⟩) hG hZ hS hA [] rfl rfl rfl rfl hl.1 rfl (Nat.le_of_ble_eq_true rfl) dX0_biteIt_29 ⟨Nat.le_of_ble_eq_true rfl, Nat.le_of_ble_eq_true rfl⟩ (wn := wX ax ac g) rfl (fun H locs hS => ?_)
  have hP := hS.1
  refine W.widen (k := 3) (n := 21) (by first | exact Nat.le_refl _ | (dsimp only [rm_X0_must]; omega)) (by first | exact Nat.le_refl _ | (dsimp only [rm_X0_must]; omega)) ?_
  refine lv_aload_n hx hb dX0_biteIt_32 rfl (lv_at hl 0 rfl) ?_
  refine va_get (D := D) (ci := 0) (v := .ref (ax 1)) (C := RX0) (T := TX0) (N := 17) hx hb hts in_X0 hown hG.1 hP 0 rfl rfl 1 (by decide) (hts _ q234) (fun _ h9 => h9) rfl dX0_biteIt_33 ?_
  refine lv_iload_n hx hb dX0_biteIt_36 rfl (lv_at hl 1 rfl) ?_
  refine lv_iload_n hx hb dX0_biteIt_37 rfl (lv_at hl 2 rfl) ?_
  obtain ⟨o6, ho6, hr⟩ := br_bind hr
  obtain ⟨g7, hg7, hr⟩ := br_let hr
  refine fwWV (As := [.int a1, .int a2]) (rest := []) (C := RX8) hx hb hml hown hts (m_X8_bite l D ax ac (ax 1) (ax 2) (ax 3) (xG_core0 g) a1 a2 _ o6 ho6) (cw_X8_bite hts q743 ⟨Nat.le_of_ble_eq_true rfl, Nat.le_of_ble_eq_true rfl⟩) hG hS hA [1, 2, 3] rfl rfl rfl 1 7 rfl rfl rfl hl.1 rfl (Nat.le_of_ble_eq_true rfl) dX0_biteIt_38 ⟨Nat.le_of_ble_eq_true rfl, Nat.le_of_ble_eq_true rfl⟩ (wn := wX ax ac g7) (by rw [hg7]; rfl) (fun H locs hS => ?_)
  have hP := hS.1
  refine lv_aload_n hx hb dX0_biteIt_41 rfl (lv_at hl 0 rfl) ?_
  refine va_get (D := D) (ci := 0) (v := .ref (ax 1)) (C := RX0) (T := TX0) (N := 17) hx hb hts in_X0 hown hG.1 hP 0 rfl rfl 1 (by decide) (hts _ q234) (fun _ h9 => h9) rfl dX0_biteIt_42 ?_
  refine va_getN (D := D) (ci := 7) (v := .int (cG_left (xG_core0 g7))) (C := RX8) (T := TX8) (N := 8) hx hb hts in_X8 hown hG.1 hP 1 rfl rfl 0 (by decide) (va_Nw.use rfl (hG.2.1 _ nq193)) (fun _ h9 => h9) rfl dX0_biteIt_45 ?_
  obtain ⟨o8, ho8, hr⟩ := br_bind hr
  refine fwS (As := [.int (cG_left (xG_core0 g7))]) (rest := []) hx hb hml hown hts (m_X0_manyIn l (cG_left (xG_core0 g7)) o8 ho8) (cw_X0_manyIn hts q654 ⟨Nat.le_of_ble_eq_true rfl, Nat.le_of_ble_eq_true rfl⟩) rfl hl.1 rfl (Nat.le_of_ble_eq_true rfl) dX0_biteIt_48 ⟨Nat.le_of_ble_eq_true rfl, Nat.le_of_ble_eq_true rfl⟩ ?_
  obtain rfl := Option.some.inj hr
  refine W.widen (k := rm_X0_biteIt.cells) (n := rm_X0_biteIt.slots) (Nat.le_of_ble_eq_true rfl) (Nat.le_of_ble_eq_true rfl) ?_
  subst hoc
  exact xx_ret (W.iret hx hb hrt (fun t ht _ => hS.q ht rfl) hS.2.2.2.2 dX0_biteIt_51 hlk)
def f_X0_healIt (g : XS) (a1 : Int32) : Option ((Int32 × XS) ⊕ (Int32 × XS)) := bX (f_X0_mustBeCell a1) (fun b1 => (b1, g)) fun o1 => Option.bind (f_X0_has (cG_left (xG_core0 g)) a1) fun o2 => Option.bind (α := Int32) (if o2 = 0 then some 1 else some 0) fun o4 => bX (f_X0_must o4 (-3 : Int32)) (fun b5 => (b5, g)) fun o5 => Option.bind (f_X8_leave (xG_core0 g) ((cG_left (xG_core0 g)) ||| ((1 : Int32) <<< (a1 &&& 31)))) fun o6 => Option.bind (some (xS_core0 g o6)) fun g7 => Option.bind (f_X0_manyIn (cG_left (xG_core0 g7))) fun o8 => some (Sum.inl (o8, g7))
abbrev rm_X0_healIt : Room := ({ frames := 12, cells := 2, slots := 14, locals := 222 })
theorem cw_X0_healIt {R : Room} {s : State} {args : Array Value} {own : String} {index : Nat} (hts : ∀ w ∈ lw_all, w.before args s = true) (hlink : Cond.methodLink own index yX0_healIt ∈ lw_all) (hR : rm_X0_healIt.frames + 1 ≤ R.frames ∧ 8 + (2 + 11) + rm_X0_healIt.locals ≤ R.locals) : CallW R s args own RX0 index yX0_healIt cX0_healIt 2 (some FieldType.int) (ws_ yX0_healIt cX0_healIt 2 (some FieldType.int)) rm_X0_healIt rm_X0_healIt.cells rm_X0_healIt.slots 1 :=
  cwV 1 hts (lw_V hlink q746 qs18 q102 q747) rfl rfl rfl (by decide +kernel) hR
set_option maxHeartbeats 4000000 in
theorem m_X0_healIt (l : Launch) (hst : l.stackTraces = false) (D : va_G) (ax : Nat → Nat) (ac : Nat → ClassId) (g : XS) (a1 : Int32) (sz : Nat) (r0 : (Int32 × XS) ⊕ (Int32 × XS)) (hr : f_X0_healIt g a1 = some r0) : TM l yX0_healIt cX0_healIt 2 (some FieldType.int) rm_X0_healIt [.ref (ax 0), .int a1] D ac (wX ax ac g) sz (Sum.map (fun u => (wX ax ac u.2, (some (.int u.1)))) (fun u => (wX ax ac u.2, u.1)) r0) := by
  generalize hoc : (Sum.map (fun u => (wX ax ac u.2, (some (.int u.1)))) (fun u => (wX ax ac u.2, u.1)) r0 : Oc) = oc
  refine fw_ofT (by decide) (Nat.le_of_ble_eq_true rfl) ?_
  intro p e s m below meth c ls hx hb hrt hts hown hlk hml _ hnt hU hl
  obtain ⟨⟨rfl, hP, hG, hD⟩, hZ⟩ := hU
  have hA : ∀ q : Nat, s.heap.size ≤ q → (va_A (wX ax ac g) s.heap.size) q := fun q h => Or.inr h
  have hS := Stt.start hP hD
  show WT p l e rm_X0_healIt s m [.ref (ax 0), .int a1] below meth c D (va_A (wX ax ac g) s.heap.size) oc s.heap [] 0 0 0 ls []
  have hl : lv_has ls 2 [(0, .ref (ax 0)), (1, .int a1)] := hl
  rw [f_X0_healIt] at hr
  refine lv_iload_n hx hb dX0_healIt_0 rfl (lv_at hl 1 rfl) ?_
  rcases Or.symm (br_bX hr) with ⟨o1, ho1, rfl⟩ | ⟨o1, ho1, hr⟩
  · refine fwTSx (As := [.int a1]) (rest := []) hx hb hml hown hts (m_X0_mustBeCell l hst D ac a1 _ _ ho1) (cw_X0_mustBeCell hts q645 ⟨Nat.le_of_ble_eq_true rfl, Nat.le_of_ble_eq_true rfl⟩) hG hZ hS hA [] rfl rfl rfl rfl hl.1 rfl (Nat.le_of_ble_eq_true rfl) dX0_healIt_1 ⟨Nat.le_of_ble_eq_true rfl, Nat.le_of_ble_eq_true rfl⟩ (wn := wX ax ac g) rfl (fun q_ ci_ H locs hci hS => ?_)
    subst hoc; exact fw_xout hnt hlk hG hci hS (Nat.le_of_ble_eq_true rfl) (Nat.le_of_ble_eq_true rfl)
  refine fwTSo (As := [.int a1]) (rest := []) hx hb hml hown hts (m_X0_mustBeCell l hst D ac a1 _ _ ho1) (cw_X0_mustBeCell hts q645 ⟨Nat.le_of_ble_eq_true rfl, Nat.le_of_ble_eq_true rfl⟩) hG hZ hS hA [] rfl rfl rfl rfl hl.1 rfl (Nat.le_of_ble_eq_true rfl) dX0_healIt_1 ⟨Nat.le_of_ble_eq_true rfl, Nat.le_of_ble_eq_true rfl⟩ (wn := wX ax ac g) rfl (fun H locs hS => ?_)
  have hP := hS.1
  refine W.widen (k := 1) (n := 7) (by first | exact Nat.le_refl _ | (dsimp only [rm_X0_mustBeCell]; omega)) (by first | exact Nat.le_refl _ | (dsimp only [rm_X0_mustBeCell]; omega)) ?_
  refine lv_aload_n hx hb dX0_healIt_4 rfl (lv_at hl 0 rfl) ?_
  refine va_get (D := D) (ci := 0) (v := .ref (ax 1)) (C := RX0) (T := TX0) (N := 17) hx hb hts in_X0 hown hG.1 hP 0 rfl rfl 1 (by decide) (hts _ q234) (fun _ h9 => h9) rfl dX0_healIt_5 ?_
  refine va_getN (D := D) (ci := 7) (v := .int (cG_left (xG_core0 g))) (C := RX8) (T := TX8) (N := 8) hx hb hts in_X8 hown hG.1 hP 1 rfl rfl 0 (by decide) (va_Nw.use rfl (hG.2.1 _ nq193)) (fun _ h9 => h9) rfl dX0_healIt_8 ?_
  refine lv_iload_n hx hb dX0_healIt_11 rfl (lv_at hl 1 rfl) ?_
  obtain ⟨o2, ho2, hr⟩ := br_bind hr
  refine fwS (As := [.int (cG_left (xG_core0 g)), .int a1]) (rest := []) hx hb hml hown hts (m_X0_has l (cG_left (xG_core0 g)) a1 o2 ho2) (cw_X0_has hts q594 ⟨Nat.le_of_ble_eq_true rfl, Nat.le_of_ble_eq_true rfl⟩) rfl hl.1 rfl (Nat.le_of_ble_eq_true rfl) dX0_healIt_12 ⟨Nat.le_of_ble_eq_true rfl, Nat.le_of_ble_eq_true rfl⟩ ?_
  obtain ⟨o4, ho4, hr⟩ := br_bind hr
  have J4 : ∀ (H : Heap) (locs : List Loc) ls, lv_has ls 2 [(0, .ref (ax 0)), (1, .int a1)] → Stt D (va_A (wX ax ac g) s.heap.size) s.heap (wX ax ac g) H locs → WT p l e rm_X0_healIt s m [.ref (ax 0), .int a1] below meth c D (va_A (wX ax ac g) s.heap.size) oc H locs 1 7 23 ls [.int o4] := by
    intro H locs ls hl hS
    have hP := hS.1
    refine lv_bipush (v := (-3)) hx hb dX0_healIt_23 rfl ?_
    rcases Or.symm (br_bX hr) with ⟨o5, ho5, rfl⟩ | ⟨o5, ho5, hr⟩
    · refine fwTSx (As := [.int o4, .int (-3)]) (rest := []) hx hb hml hown hts (m_X0_must l hst D ac o4 (-3 : Int32) _ _ ho5) (cw_X0_must hts q315 ⟨Nat.le_of_ble_eq_true rfl, Nat.le_of_ble_eq_true rfl⟩) hG hZ hS hA [] rfl rfl rfl rfl hl.1 rfl (Nat.le_of_ble_eq_true rfl) dX0_healIt_25 ⟨Nat.le_of_ble_eq_true rfl, Nat.le_of_ble_eq_true rfl⟩ (wn := wX ax ac g) rfl (fun q_ ci_ H locs hci hS => ?_)
      subst hoc; exact fw_xout hnt hlk hG hci hS (Nat.le_of_ble_eq_true rfl) (Nat.le_of_ble_eq_true rfl)
    refine fwTSo (As := [.int o4, .int (-3)]) (rest := []) hx hb hml hown hts (m_X0_must l hst D ac o4 (-3 : Int32) _ _ ho5) (cw_X0_must hts q315 ⟨Nat.le_of_ble_eq_true rfl, Nat.le_of_ble_eq_true rfl⟩) hG hZ hS hA [] rfl rfl rfl rfl hl.1 rfl (Nat.le_of_ble_eq_true rfl) dX0_healIt_25 ⟨Nat.le_of_ble_eq_true rfl, Nat.le_of_ble_eq_true rfl⟩ (wn := wX ax ac g) rfl (fun H locs hS => ?_)
    have hP := hS.1
    refine W.widen (k := 2) (n := 14) (by first | exact Nat.le_refl _ | (dsimp only [rm_X0_must]; omega)) (by first | exact Nat.le_refl _ | (dsimp only [rm_X0_must]; omega)) ?_
    refine lv_aload_n hx hb dX0_healIt_28 rfl (lv_at hl 0 rfl) ?_
    refine va_get (D := D) (ci := 0) (v := .ref (ax 1)) (C := RX0) (T := TX0) (N := 17) hx hb hts in_X0 hown hG.1 hP 0 rfl rfl 1 (by decide) (hts _ q234) (fun _ h9 => h9) rfl dX0_healIt_29 ?_
    refine lv_aload_n hx hb dX0_healIt_32 rfl (lv_at hl 0 rfl) ?_
    refine va_get (D := D) (ci := 0) (v := .ref (ax 1)) (C := RX0) (T := TX0) (N := 17) hx hb hts in_X0 hown hG.1 hP 0 rfl rfl 1 (by decide) (hts _ q234) (fun _ h9 => h9) rfl dX0_healIt_33 ?_
    refine va_getN (D := D) (ci := 7) (v := .int (cG_left (xG_core0 g))) (C := RX8) (T := TX8) (N := 8) hx hb hts in_X8 hown hG.1 hP 1 rfl rfl 0 (by decide) (va_Nw.use rfl (hG.2.1 _ nq193)) (fun _ h9 => h9) rfl dX0_healIt_36 ?_
    refine lv_iconst (v := 1) hx hb dX0_healIt_39 rfl ?_
    refine lv_iload_n hx hb dX0_healIt_40 rfl (lv_at hl 1 rfl) ?_
    refine lv_ishl hx hb dX0_healIt_41 ?_
    refine lv_ior hx hb dX0_healIt_42 ?_
    obtain ⟨o6, ho6, hr⟩ := br_bind hr
    obtain ⟨g7, hg7, hr⟩ := br_let hr
    refine fwWV (As := [.int ((cG_left (xG_core0 g)) ||| ((1 : Int32) <<< (a1 &&& 31)))]) (rest := []) (C := RX8) hx hb hml hown hts (m_X8_leave l D ax ac (ax 1) (ax 2) (ax 3) (xG_core0 g) ((cG_left (xG_core0 g)) ||| ((1 : Int32) <<< (a1 &&& 31))) _ o6 ho6) (cw_X8_leave hts q748 ⟨Nat.le_of_ble_eq_true rfl, Nat.le_of_ble_eq_true rfl⟩) hG hS hA [1, 2, 3] rfl rfl rfl 1 7 rfl rfl rfl hl.1 rfl (Nat.le_of_ble_eq_true rfl) dX0_healIt_43 ⟨Nat.le_of_ble_eq_true rfl, Nat.le_of_ble_eq_true rfl⟩ (wn := wX ax ac g7) (by rw [hg7]; rfl) (fun H locs hS => ?_)
    have hP := hS.1
    refine lv_pop hx hb dX0_healIt_46 rfl ?_
    refine lv_aload_n hx hb dX0_healIt_47 rfl (lv_at hl 0 rfl) ?_
    refine va_get (D := D) (ci := 0) (v := .ref (ax 1)) (C := RX0) (T := TX0) (N := 17) hx hb hts in_X0 hown hG.1 hP 0 rfl rfl 1 (by decide) (hts _ q234) (fun _ h9 => h9) rfl dX0_healIt_48 ?_
    refine va_getN (D := D) (ci := 7) (v := .int (cG_left (xG_core0 g7))) (C := RX8) (T := TX8) (N := 8) hx hb hts in_X8 hown hG.1 hP 1 rfl rfl 0 (by decide) (va_Nw.use rfl (hG.2.1 _ nq193)) (fun _ h9 => h9) rfl dX0_healIt_51 ?_
    obtain ⟨o8, ho8, hr⟩ := br_bind hr
    refine fwS (As := [.int (cG_left (xG_core0 g7))]) (rest := []) hx hb hml hown hts (m_X0_manyIn l (cG_left (xG_core0 g7)) o8 ho8) (cw_X0_manyIn hts q654 ⟨Nat.le_of_ble_eq_true rfl, Nat.le_of_ble_eq_true rfl⟩) rfl hl.1 rfl (Nat.le_of_ble_eq_true rfl) dX0_healIt_54 ⟨Nat.le_of_ble_eq_true rfl, Nat.le_of_ble_eq_true rfl⟩ ?_
    obtain rfl := Option.some.inj hr
    refine W.widen (k := rm_X0_healIt.cells) (n := rm_X0_healIt.slots) (Nat.le_of_ble_eq_true rfl) (Nat.le_of_ble_eq_true rfl) ?_
    subst hoc
    exact xx_ret (W.iret hx hb hrt (fun t ht _ => hS.q ht rfl) hS.2.2.2.2 dX0_healIt_57 hlk)
  have hr := ho4
  have hi3 := br_ite hr
  refine lv_if_ne (tgt := 22) hx hb dX0_healIt_15 (by decide) (fun c3 => ?_) (fun c3 => ?_)
  · have hr := hi3.2 c3
    refine lv_iconst (v := 0) hx hb dX0_healIt_22 rfl ?_
    obtain rfl := Option.some.inj hr
    exact J4 _ _ ls (lv_sub hl [0, 1] rfl) hS
  · have hr := hi3.1 c3
    refine lv_iconst (v := 1) hx hb dX0_healIt_18 rfl ?_
    refine lv_goto (tgt := 23) hx hb dX0_healIt_19 (by decide) ?_
    obtain rfl := Option.some.inj hr
    exact J4 _ _ ls (lv_sub hl [0, 1] rfl) hS
def f_X0_rollIt (g : XS) (a1 : Int32) : Option ((Int32 × XS) ⊕ (Int32 × XS)) := bX (f_X0_within (Int32.toInt64 a1) (1 : Int64) (3 : Int64)) (fun b1 => (b1, g)) fun o1 => Option.bind (f_X8_roll (xG_core0 g) a1) fun o2 => Option.bind (some (xS_core0 g o2)) fun g3 => Option.bind (f_X0_manyIn (cG_left (xG_core0 g3))) fun o4 => some (Sum.inl (o4, g3))
abbrev rm_X0_rollIt : Room := ({ frames := 11, cells := 2, slots := 14, locals := 206 })
theorem cw_X0_rollIt {R : Room} {s : State} {args : Array Value} {own : String} {index : Nat} (hts : ∀ w ∈ lw_all, w.before args s = true) (hlink : Cond.methodLink own index yX0_rollIt ∈ lw_all) (hR : rm_X0_rollIt.frames + 1 ≤ R.frames ∧ 8 + (2 + 11) + rm_X0_rollIt.locals ≤ R.locals) : CallW R s args own RX0 index yX0_rollIt cX0_rollIt 2 (some FieldType.int) (ws_ yX0_rollIt cX0_rollIt 2 (some FieldType.int)) rm_X0_rollIt rm_X0_rollIt.cells rm_X0_rollIt.slots 1 :=
  cwV 1 hts (lw_V hlink q751 qs19 q102 q752) rfl rfl rfl (by decide +kernel) hR
set_option maxHeartbeats 4000000 in
theorem m_X0_rollIt (l : Launch) (hst : l.stackTraces = false) (D : va_G) (ax : Nat → Nat) (ac : Nat → ClassId) (g : XS) (a1 : Int32) (sz : Nat) (r0 : (Int32 × XS) ⊕ (Int32 × XS)) (hr : f_X0_rollIt g a1 = some r0) : TM l yX0_rollIt cX0_rollIt 2 (some FieldType.int) rm_X0_rollIt [.ref (ax 0), .int a1] D ac (wX ax ac g) sz (Sum.map (fun u => (wX ax ac u.2, (some (.int u.1)))) (fun u => (wX ax ac u.2, u.1)) r0) := by
  generalize hoc : (Sum.map (fun u => (wX ax ac u.2, (some (.int u.1)))) (fun u => (wX ax ac u.2, u.1)) r0 : Oc) = oc
  refine fw_ofT (by decide) (Nat.le_of_ble_eq_true rfl) ?_
  intro p e s m below meth c ls hx hb hrt hts hown hlk hml _ hnt hU hl
  obtain ⟨⟨rfl, hP, hG, hD⟩, hZ⟩ := hU
  have hA : ∀ q : Nat, s.heap.size ≤ q → (va_A (wX ax ac g) s.heap.size) q := fun q h => Or.inr h
  have hS := Stt.start hP hD
  show WT p l e rm_X0_rollIt s m [.ref (ax 0), .int a1] below meth c D (va_A (wX ax ac g) s.heap.size) oc s.heap [] 0 0 0 ls []
  have hl : lv_has ls 2 [(0, .ref (ax 0)), (1, .int a1)] := hl
  rw [f_X0_rollIt] at hr
  refine lv_iload_n hx hb dX0_rollIt_0 rfl (lv_at hl 1 rfl) ?_
  refine lv_i2l (v := (Int32.toInt64 a1)) hx hb dX0_rollIt_1 rfl ?_
  refine lv_lconst (v := 1) hx hb dX0_rollIt_2 rfl ?_
  refine lv_ldc2 (v := 3) hx hb hown (hts _ q741) dX0_rollIt_3 ?_
  rcases Or.symm (br_bX hr) with ⟨o1, ho1, rfl⟩ | ⟨o1, ho1, hr⟩
  · refine fwTSx (As := [.long (Int32.toInt64 a1), .long 1, .long 3]) (rest := []) hx hb hml hown hts (m_X0_within l hst D ac (Int32.toInt64 a1) (1 : Int64) (3 : Int64) _ _ ho1) (cw_X0_within hts q312 ⟨Nat.le_of_ble_eq_true rfl, Nat.le_of_ble_eq_true rfl⟩) hG hZ hS hA [] rfl rfl rfl rfl hl.1 rfl (Nat.le_of_ble_eq_true rfl) dX0_rollIt_6 ⟨Nat.le_of_ble_eq_true rfl, Nat.le_of_ble_eq_true rfl⟩ (wn := wX ax ac g) rfl (fun q_ ci_ H locs hci hS => ?_)
    subst hoc; exact fw_xout hnt hlk hG hci hS (Nat.le_of_ble_eq_true rfl) (Nat.le_of_ble_eq_true rfl)
  refine fwTSo (As := [.long (Int32.toInt64 a1), .long 1, .long 3]) (rest := []) hx hb hml hown hts (m_X0_within l hst D ac (Int32.toInt64 a1) (1 : Int64) (3 : Int64) _ _ ho1) (cw_X0_within hts q312 ⟨Nat.le_of_ble_eq_true rfl, Nat.le_of_ble_eq_true rfl⟩) hG hZ hS hA [] rfl rfl rfl rfl hl.1 rfl (Nat.le_of_ble_eq_true rfl) dX0_rollIt_6 ⟨Nat.le_of_ble_eq_true rfl, Nat.le_of_ble_eq_true rfl⟩ (wn := wX ax ac g) rfl (fun H locs hS => ?_)
  have hP := hS.1
  refine W.widen (k := 2) (n := 14) (by first | exact Nat.le_refl _ | (dsimp only [rm_X0_within]; omega)) (by first | exact Nat.le_refl _ | (dsimp only [rm_X0_within]; omega)) ?_
  refine lv_aload_n hx hb dX0_rollIt_9 rfl (lv_at hl 0 rfl) ?_
  refine va_get (D := D) (ci := 0) (v := .ref (ax 1)) (C := RX0) (T := TX0) (N := 17) hx hb hts in_X0 hown hG.1 hP 0 rfl rfl 1 (by decide) (hts _ q234) (fun _ h9 => h9) rfl dX0_rollIt_10 ?_
  refine lv_iload_n hx hb dX0_rollIt_13 rfl (lv_at hl 1 rfl) ?_
  obtain ⟨o2, ho2, hr⟩ := br_bind hr
  obtain ⟨g3, hg3, hr⟩ := br_let hr
  refine fwWV (As := [.int a1]) (rest := []) (C := RX8) hx hb hml hown hts (m_X8_roll l D ax ac (ax 1) (ax 2) (ax 3) (xG_core0 g) a1 _ o2 ho2) (cw_X8_roll hts q753 ⟨Nat.le_of_ble_eq_true rfl, Nat.le_of_ble_eq_true rfl⟩) hG hS hA [1, 2, 3] rfl rfl rfl 1 7 rfl rfl rfl hl.1 rfl (Nat.le_of_ble_eq_true rfl) dX0_rollIt_14 ⟨Nat.le_of_ble_eq_true rfl, Nat.le_of_ble_eq_true rfl⟩ (wn := wX ax ac g3) (by rw [hg3]; rfl) (fun H locs hS => ?_)
  have hP := hS.1
  refine lv_aload_n hx hb dX0_rollIt_17 rfl (lv_at hl 0 rfl) ?_
  refine va_get (D := D) (ci := 0) (v := .ref (ax 1)) (C := RX0) (T := TX0) (N := 17) hx hb hts in_X0 hown hG.1 hP 0 rfl rfl 1 (by decide) (hts _ q234) (fun _ h9 => h9) rfl dX0_rollIt_18 ?_
  refine va_getN (D := D) (ci := 7) (v := .int (cG_left (xG_core0 g3))) (C := RX8) (T := TX8) (N := 8) hx hb hts in_X8 hown hG.1 hP 1 rfl rfl 0 (by decide) (va_Nw.use rfl (hG.2.1 _ nq193)) (fun _ h9 => h9) rfl dX0_rollIt_21 ?_
  obtain ⟨o4, ho4, hr⟩ := br_bind hr
  refine fwS (As := [.int (cG_left (xG_core0 g3))]) (rest := []) hx hb hml hown hts (m_X0_manyIn l (cG_left (xG_core0 g3)) o4 ho4) (cw_X0_manyIn hts q654 ⟨Nat.le_of_ble_eq_true rfl, Nat.le_of_ble_eq_true rfl⟩) rfl hl.1 rfl (Nat.le_of_ble_eq_true rfl) dX0_rollIt_24 ⟨Nat.le_of_ble_eq_true rfl, Nat.le_of_ble_eq_true rfl⟩ ?_
  obtain rfl := Option.some.inj hr
  refine W.widen (k := rm_X0_rollIt.cells) (n := rm_X0_rollIt.slots) (Nat.le_of_ble_eq_true rfl) (Nat.le_of_ble_eq_true rfl) ?_
  subst hoc
  exact xx_ret (W.iret hx hb hrt (fun t ht _ => hS.q ht rfl) hS.2.2.2.2 dX0_rollIt_27 hlk)
def f_X0_turnIt (g : XS) (a1 : Int32) (a2 : Int32) (a3 : Int32) : Option ((Int32 × XS) ⊕ (Int32 × XS)) := bX (f_X0_mustBeHeir g a1) (fun b1 => (b1.1, b1.2)) fun o1 => Option.bind (f_X0_in (Int32.toInt64 a2) (0 : Int64) (5 : Int64)) fun o2 => bX (f_X0_must o2 (-2 : Int32)) (fun b3 => (b3, o1)) fun o3 => bX (f_X0_within (Int32.toInt64 a3) (0 : Int64) (9 : Int64)) (fun b4 => (b4, o1)) fun o4 => if a1 < 0 ∨ 5 ≤ Int32.toNatClampNeg a1 then none else Option.bind ((cG_kind (xG_core0 o1)) (Int32.toNatClampNeg a1)) fun k6 => Option.bind (f_K_kind k6) fun o7 => if a1 < 0 ∨ 5 ≤ Int32.toNatClampNeg a1 then none else Option.bind (some ((((10 : Int32) * o7) + ((cG_figures (xG_core0 o1)) (Int32.toNatClampNeg a1))) : Int32)) fun v9 => if a2 < 0 ∨ 6 ≤ Int32.toNatClampNeg a2 then none else Option.bind (kd0 (Int32.toNatClampNeg a2)) fun k11 => if a1 < 0 ∨ 5 ≤ Int32.toNatClampNeg a1 then none else Option.bind (some (xS_core0 o1 (cS_kind (xG_core0 o1) (va_up (cG_kind (xG_core0 o1)) (Int32.toNatClampNeg a1) (some k11))))) fun g13 => if a1 < 0 ∨ 5 ≤ Int32.toNatClampNeg a1 then none else Option.bind (some (xS_core0 g13 (cS_figures (xG_core0 g13) (upd (cG_figures (xG_core0 g13)) (Int32.toNatClampNeg a1) a3)))) fun g15 => some (Sum.inl (v9, g15))
abbrev rm_X0_turnIt : Room := ({ frames := 12, cells := 4, slots := 28, locals := 400 })
theorem cw_X0_turnIt {R : Room} {s : State} {args : Array Value} {own : String} {index : Nat} (hts : ∀ w ∈ lw_all, w.before args s = true) (hlink : Cond.methodLink own index yX0_turnIt ∈ lw_all) (hR : rm_X0_turnIt.frames + 1 ≤ R.frames ∧ 8 + (5 + 11) + rm_X0_turnIt.locals ≤ R.locals) : CallW R s args own RX0 index yX0_turnIt cX0_turnIt 5 (some FieldType.int) (ws_ yX0_turnIt cX0_turnIt 5 (some FieldType.int)) rm_X0_turnIt rm_X0_turnIt.cells rm_X0_turnIt.slots 3 :=
  cwV 3 hts (lw_V hlink q756 qs20 q102 q757) rfl rfl rfl (by decide +kernel) hR
set_option maxHeartbeats 4000000 in
theorem m_X0_turnIt (l : Launch) (hst : l.stackTraces = false) (D : va_G) (ax : Nat → Nat) (ac : Nat → ClassId) (g : XS) (a1 : Int32) (a2 : Int32) (a3 : Int32) (sz : Nat) (r0 : (Int32 × XS) ⊕ (Int32 × XS)) (hr : f_X0_turnIt g a1 a2 a3 = some r0) : TM l yX0_turnIt cX0_turnIt 5 (some FieldType.int) rm_X0_turnIt [.ref (ax 0), .int a1, .int a2, .int a3] D ac (wX ax ac g) sz (Sum.map (fun u => (wX ax ac u.2, (some (.int u.1)))) (fun u => (wX ax ac u.2, u.1)) r0) := by
  generalize hoc : (Sum.map (fun u => (wX ax ac u.2, (some (.int u.1)))) (fun u => (wX ax ac u.2, u.1)) r0 : Oc) = oc
  refine fw_ofT (by decide) (Nat.le_of_ble_eq_true rfl) ?_
  intro p e s m below meth c ls hx hb hrt hts hown hlk hml _ hnt hU hl
  obtain ⟨⟨rfl, hP, hG, hD⟩, hZ⟩ := hU
  have hA : ∀ q : Nat, s.heap.size ≤ q → (va_A (wX ax ac g) s.heap.size) q := fun q h => Or.inr h
  have hS := Stt.start hP hD
  show WT p l e rm_X0_turnIt s m [.ref (ax 0), .int a1, .int a2, .int a3] below meth c D (va_A (wX ax ac g) s.heap.size) oc s.heap [] 0 0 0 ls []
  have hl : lv_has ls 5 [(0, .ref (ax 0)), (1, .int a1), (2, .int a2), (3, .int a3)] := hl
  rw [f_X0_turnIt] at hr
  refine lv_aload_n hx hb dX0_turnIt_0 rfl (lv_at hl 0 rfl) ?_
  refine lv_iload_n hx hb dX0_turnIt_1 rfl (lv_at hl 1 rfl) ?_
  rcases Or.symm (br_bX hr) with ⟨o1, ho1, rfl⟩ | ⟨o1, ho1, hr⟩
  · refine fwTVx (As := [.int a1]) (rest := []) (C := RX0) hx hb hml hown hts (m_X0_mustBeHeir l hst D ax ac g a1 _ _ ho1) (cw_X0_mustBeHeir hts q659 ⟨Nat.le_of_ble_eq_true rfl, Nat.le_of_ble_eq_true rfl⟩) hG hZ hS hA ixX nd_X (pk_X ax ac _) (ad_X ax ac _ _) 0 0 rfl rfl rfl hl.1 rfl (Nat.le_of_ble_eq_true rfl) dX0_turnIt_2 ⟨Nat.le_of_ble_eq_true rfl, Nat.le_of_ble_eq_true rfl⟩ (wn := wX ax ac o1.2) (rep_X ax ac _ _) (fun q_ ci_ H locs hci hS => ?_)
    subst hoc; exact fw_xout hnt hlk hG hci hS (Nat.le_of_ble_eq_true rfl) (Nat.le_of_ble_eq_true rfl)
  refine fwTVo (As := [.int a1]) (rest := []) (C := RX0) hx hb hml hown hts (m_X0_mustBeHeir l hst D ax ac g a1 _ _ ho1) (cw_X0_mustBeHeir hts q659 ⟨Nat.le_of_ble_eq_true rfl, Nat.le_of_ble_eq_true rfl⟩) hG hZ hS hA ixX nd_X (pk_X ax ac _) (ad_X ax ac _ _) 0 0 rfl rfl rfl hl.1 rfl (Nat.le_of_ble_eq_true rfl) dX0_turnIt_2 ⟨Nat.le_of_ble_eq_true rfl, Nat.le_of_ble_eq_true rfl⟩ (wn := wX ax ac o1) (rep_X ax ac _ _) (fun H locs hS => ?_)
  have hP := hS.1
  refine W.widen (k := 1) (n := 7) (by first | exact Nat.le_refl _ | (dsimp only [rm_X0_mustBeHeir]; omega)) (by first | exact Nat.le_refl _ | (dsimp only [rm_X0_mustBeHeir]; omega)) ?_
  refine lv_iload_n hx hb dX0_turnIt_5 rfl (lv_at hl 2 rfl) ?_
  refine lv_i2l (v := (Int32.toInt64 a2)) hx hb dX0_turnIt_6 rfl ?_
  refine lv_lconst (v := 0) hx hb dX0_turnIt_7 rfl ?_
  refine lv_ldc2 (v := 5) hx hb hown (hts _ q758) dX0_turnIt_8 ?_
  obtain ⟨o2, ho2, hr⟩ := br_bind hr
  refine fwS (As := [.long (Int32.toInt64 a2), .long 0, .long 5]) (rest := []) hx hb hml hown hts (m_X0_in l (Int32.toInt64 a2) (0 : Int64) (5 : Int64) o2 ho2) (cw_X0_in hts q651 ⟨Nat.le_of_ble_eq_true rfl, Nat.le_of_ble_eq_true rfl⟩) rfl hl.1 rfl (Nat.le_of_ble_eq_true rfl) dX0_turnIt_11 ⟨Nat.le_of_ble_eq_true rfl, Nat.le_of_ble_eq_true rfl⟩ ?_
  refine lv_bipush (v := (-2)) hx hb dX0_turnIt_14 rfl ?_
  rcases Or.symm (br_bX hr) with ⟨o3, ho3, rfl⟩ | ⟨o3, ho3, hr⟩
  · refine fwTSx (As := [.int o2, .int (-2)]) (rest := []) hx hb hml hown hts (m_X0_must l hst D ac o2 (-2 : Int32) _ _ ho3) (cw_X0_must hts q315 ⟨Nat.le_of_ble_eq_true rfl, Nat.le_of_ble_eq_true rfl⟩) hG hZ hS hA [] rfl rfl rfl rfl hl.1 rfl (Nat.le_of_ble_eq_true rfl) dX0_turnIt_16 ⟨Nat.le_of_ble_eq_true rfl, Nat.le_of_ble_eq_true rfl⟩ (wn := wX ax ac o1) rfl (fun q_ ci_ H locs hci hS => ?_)
    subst hoc; exact fw_xout hnt hlk hG hci hS (Nat.le_of_ble_eq_true rfl) (Nat.le_of_ble_eq_true rfl)
  refine fwTSo (As := [.int o2, .int (-2)]) (rest := []) hx hb hml hown hts (m_X0_must l hst D ac o2 (-2 : Int32) _ _ ho3) (cw_X0_must hts q315 ⟨Nat.le_of_ble_eq_true rfl, Nat.le_of_ble_eq_true rfl⟩) hG hZ hS hA [] rfl rfl rfl rfl hl.1 rfl (Nat.le_of_ble_eq_true rfl) dX0_turnIt_16 ⟨Nat.le_of_ble_eq_true rfl, Nat.le_of_ble_eq_true rfl⟩ (wn := wX ax ac o1) rfl (fun H locs hS => ?_)
  have hP := hS.1
  refine W.widen (k := 2) (n := 14) (by first | exact Nat.le_refl _ | (dsimp only [rm_X0_must]; omega)) (by first | exact Nat.le_refl _ | (dsimp only [rm_X0_must]; omega)) ?_
  refine lv_iload_n hx hb dX0_turnIt_19 rfl (lv_at hl 3 rfl) ?_
  refine lv_i2l (v := (Int32.toInt64 a3)) hx hb dX0_turnIt_20 rfl ?_
  refine lv_lconst (v := 0) hx hb dX0_turnIt_21 rfl ?_
  refine lv_ldc2 (v := 9) hx hb hown (hts _ q759) dX0_turnIt_22 ?_
  rcases Or.symm (br_bX hr) with ⟨o4, ho4, rfl⟩ | ⟨o4, ho4, hr⟩
  · refine fwTSx (As := [.long (Int32.toInt64 a3), .long 0, .long 9]) (rest := []) hx hb hml hown hts (m_X0_within l hst D ac (Int32.toInt64 a3) (0 : Int64) (9 : Int64) _ _ ho4) (cw_X0_within hts q312 ⟨Nat.le_of_ble_eq_true rfl, Nat.le_of_ble_eq_true rfl⟩) hG hZ hS hA [] rfl rfl rfl rfl hl.1 rfl (Nat.le_of_ble_eq_true rfl) dX0_turnIt_25 ⟨Nat.le_of_ble_eq_true rfl, Nat.le_of_ble_eq_true rfl⟩ (wn := wX ax ac o1) rfl (fun q_ ci_ H locs hci hS => ?_)
    subst hoc; exact fw_xout hnt hlk hG hci hS (Nat.le_of_ble_eq_true rfl) (Nat.le_of_ble_eq_true rfl)
  refine fwTSo (As := [.long (Int32.toInt64 a3), .long 0, .long 9]) (rest := []) hx hb hml hown hts (m_X0_within l hst D ac (Int32.toInt64 a3) (0 : Int64) (9 : Int64) _ _ ho4) (cw_X0_within hts q312 ⟨Nat.le_of_ble_eq_true rfl, Nat.le_of_ble_eq_true rfl⟩) hG hZ hS hA [] rfl rfl rfl rfl hl.1 rfl (Nat.le_of_ble_eq_true rfl) dX0_turnIt_25 ⟨Nat.le_of_ble_eq_true rfl, Nat.le_of_ble_eq_true rfl⟩ (wn := wX ax ac o1) rfl (fun H locs hS => ?_)
  have hP := hS.1
  refine W.widen (k := 4) (n := 28) (by first | exact Nat.le_refl _ | (dsimp only [rm_X0_within]; omega)) (by first | exact Nat.le_refl _ | (dsimp only [rm_X0_within]; omega)) ?_
  refine lv_bipush (v := 10) hx hb dX0_turnIt_28 rfl ?_
  refine lv_aload_n hx hb dX0_turnIt_30 rfl (lv_at hl 0 rfl) ?_
  refine va_get (D := D) (ci := 0) (v := .ref (ax 1)) (C := RX0) (T := TX0) (N := 17) hx hb hts in_X0 hown hG.1 hP 0 rfl rfl 1 (by decide) (hts _ q234) (fun _ h9 => h9) rfl dX0_turnIt_31 ?_
  refine va_getN (D := D) (ci := 7) (v := .ref (ax 2)) (C := RX8) (T := TX8) (N := 8) hx hb hts in_X8 hown hG.1 hP 1 rfl rfl 2 (by decide) (va_Nw.use rfl (hG.2.1 _ nq198)) (fun _ h9 => h9) rfl dX0_turnIt_34 ?_
  refine lv_iload_n hx hb dX0_turnIt_37 rfl (lv_at hl 1 rfl) ?_
  obtain ⟨c5, hr⟩ := br_none hr
  obtain ⟨k6, hk6, hr⟩ := br_bind hr
  refine fw_kald hx hb hG hP 2 rfl c5 hk6 dX0_turnIt_38 ?_
  obtain ⟨o7, ho7, hr⟩ := br_bind hr
  refine fw_kind hx hb hml hown hts q663 hG (hP.pick [11, 12, 13, 14, 15, 16] rfl) ho7 hl.1 (Nat.le_of_ble_eq_true rfl) (Nat.le_of_ble_eq_true rfl) (Nat.le_of_ble_eq_true rfl) dX0_turnIt_39 ⟨Nat.le_of_ble_eq_true rfl, Nat.le_of_ble_eq_true rfl⟩ ?_
  refine lv_imul hx hb dX0_turnIt_42 ?_
  refine lv_aload_n hx hb dX0_turnIt_43 rfl (lv_at hl 0 rfl) ?_
  refine va_get (D := D) (ci := 0) (v := .ref (ax 1)) (C := RX0) (T := TX0) (N := 17) hx hb hts in_X0 hown hG.1 hP 0 rfl rfl 1 (by decide) (hts _ q234) (fun _ h9 => h9) rfl dX0_turnIt_44 ?_
  refine va_getN (D := D) (ci := 7) (v := .ref (ax 3)) (C := RX8) (T := TX8) (N := 8) hx hb hts in_X8 hown hG.1 hP 1 rfl rfl 3 (by decide) (va_Nw.use rfl (hG.2.1 _ nq200)) (fun _ h9 => h9) rfl dX0_turnIt_47 ?_
  refine lv_iload_n hx hb dX0_turnIt_50 rfl (lv_at hl 1 rfl) ?_
  obtain ⟨c8, hr⟩ := br_none hr
  refine va_iald hx hb hG.1 hP 3 0 rfl rfl c8 dX0_turnIt_51 ?_
  refine lv_iadd hx hb dX0_turnIt_52 ?_
  refine lv_topi (fun v9 hv9 => ?_)
  have hr := br_letv hr hv9
  refine lv_istore (lv' := [(4, .int v9), (0, .ref (ax 0)), (1, .int a1), (2, .int a2), (3, .int a3)]) hx hb dX0_turnIt_53 hl (by decide) rfl (fun ls hl => ?_)
  refine lv_aload_n hx hb dX0_turnIt_55 rfl (lv_at hl 1 rfl) ?_
  refine va_get (D := D) (ci := 0) (v := .ref (ax 1)) (C := RX0) (T := TX0) (N := 17) hx hb hts in_X0 hown hG.1 hP 0 rfl rfl 1 (by decide) (hts _ q234) (fun _ h9 => h9) rfl dX0_turnIt_56 ?_
  refine va_getN (D := D) (ci := 7) (v := .ref (ax 2)) (C := RX8) (T := TX8) (N := 8) hx hb hts in_X8 hown hG.1 hP 1 rfl rfl 2 (by decide) (va_Nw.use rfl (hG.2.1 _ nq198)) (fun _ h9 => h9) rfl dX0_turnIt_59 ?_
  refine lv_iload_n hx hb dX0_turnIt_62 rfl (lv_at hl 2 rfl) ?_
  refine lv_aload_n hx hb dX0_turnIt_63 rfl (lv_at hl 1 rfl) ?_
  refine va_get (D := D) (ci := 0) (v := .ref (ax 10)) (C := RX0) (T := TX0) (N := 17) hx hb hts in_X0 hown hG.1 hP 0 rfl rfl 0 (by decide) (hts _ q233) (fun _ h9 => h9) rfl dX0_turnIt_64 ?_
  refine lv_iload_n hx hb dX0_turnIt_67 rfl (lv_at hl 3 rfl) ?_
  obtain ⟨c10, hr⟩ := br_none hr
  obtain ⟨k11, hk11, hr⟩ := br_bind hr
  refine fw_kald hx hb hG hP 10 rfl c10 hk11 dX0_turnIt_68 ?_
  obtain ⟨c12, hr⟩ := br_none hr
  obtain ⟨g13, hg13, hr⟩ := br_let hr
  refine fw_kast hx hb hG hS (hP.pick [11, 12, 13, 14, 15, 16] rfl) 2 rfl c12 dX0_turnIt_69 (wn := wX ax ac g13) (by rw [hg13]; rfl) (fun H locs hS => ?_)
  have hP := hS.1
  refine lv_aload_n hx hb dX0_turnIt_70 rfl (lv_at hl 1 rfl) ?_
  refine va_get (D := D) (ci := 0) (v := .ref (ax 1)) (C := RX0) (T := TX0) (N := 17) hx hb hts in_X0 hown hG.1 hP 0 rfl rfl 1 (by decide) (hts _ q234) (fun _ h9 => h9) rfl dX0_turnIt_71 ?_
  refine va_getN (D := D) (ci := 7) (v := .ref (ax 3)) (C := RX8) (T := TX8) (N := 8) hx hb hts in_X8 hown hG.1 hP 1 rfl rfl 3 (by decide) (va_Nw.use rfl (hG.2.1 _ nq200)) (fun _ h9 => h9) rfl dX0_turnIt_74 ?_
  refine lv_iload_n hx hb dX0_turnIt_77 rfl (lv_at hl 2 rfl) ?_
  refine lv_iload_n hx hb dX0_turnIt_78 rfl (lv_at hl 4 rfl) ?_
  obtain ⟨c14, hr⟩ := br_none hr
  obtain ⟨g15, hg15, hr⟩ := br_let hr
  refine fw_iast hx hb hG hS 3 rfl c14 dX0_turnIt_79 (wn := wX ax ac g15) (by rw [hg15]; rfl) (fun H locs hS => ?_)
  have hP := hS.1
  refine lv_iload hx hb dX0_turnIt_80 (lv_at hl 0 rfl) ?_
  obtain rfl := Option.some.inj hr
  refine W.widen (k := rm_X0_turnIt.cells) (n := rm_X0_turnIt.slots) (Nat.le_of_ble_eq_true rfl) (Nat.le_of_ble_eq_true rfl) ?_
  subst hoc
  exact xx_ret (W.iret hx hb hrt (fun t ht _ => hS.q ht rfl) hS.2.2.2.2 dX0_turnIt_82 hlk)
def f_X0_sharesTold (g : XS) (a1 : Int32) : Option ((Int32 × XS) ⊕ (Int32 × XS)) := bX (f_X0_mustBeBit a1) (fun b1 => (b1, g)) fun o1 => if a1 = 0 then Option.bind (f_X8_allShares (xG_core0 g)) fun o4 => some (Sum.inl (o4, g)) else Option.bind (f_X0_richestOne g) fun o3 => some (Sum.inl (o3, g))
abbrev rm_X0_sharesTold : Room := ({ frames := 11, cells := 1, slots := 7, locals := 443 })
theorem cw_X0_sharesTold {R : Room} {s : State} {args : Array Value} {own : String} {index : Nat} (hts : ∀ w ∈ lw_all, w.before args s = true) (hlink : Cond.methodLink own index yX0_sharesTold ∈ lw_all) (hR : rm_X0_sharesTold.frames + 1 ≤ R.frames ∧ 8 + (2 + 11) + rm_X0_sharesTold.locals ≤ R.locals) : CallW R s args own RX0 index yX0_sharesTold cX0_sharesTold 2 (some FieldType.int) (ws_ yX0_sharesTold cX0_sharesTold 2 (some FieldType.int)) rm_X0_sharesTold rm_X0_sharesTold.cells rm_X0_sharesTold.slots 1 :=
  cwV 1 hts (lw_V hlink q771 qs23 q102 q772) rfl rfl rfl (by decide +kernel) hR
set_option maxHeartbeats 4000000 in
theorem m_X0_sharesTold (l : Launch) (hst : l.stackTraces = false) (D : va_G) (ax : Nat → Nat) (ac : Nat → ClassId) (g : XS) (a1 : Int32) (sz : Nat) (r0 : (Int32 × XS) ⊕ (Int32 × XS)) (hr : f_X0_sharesTold g a1 = some r0) : TM l yX0_sharesTold cX0_sharesTold 2 (some FieldType.int) rm_X0_sharesTold [.ref (ax 0), .int a1] D ac (wX ax ac g) sz (Sum.map (fun u => (wX ax ac u.2, (some (.int u.1)))) (fun u => (wX ax ac u.2, u.1)) r0) := by
  generalize hoc : (Sum.map (fun u => (wX ax ac u.2, (some (.int u.1)))) (fun u => (wX ax ac u.2, u.1)) r0 : Oc) = oc
  refine fw_ofT (by decide) (Nat.le_of_ble_eq_true rfl) ?_
  intro p e s m below meth c ls hx hb hrt hts hown hlk hml _ hnt hU hl
  obtain ⟨⟨rfl, hP, hG, hD⟩, hZ⟩ := hU
  have hA : ∀ q : Nat, s.heap.size ≤ q → (va_A (wX ax ac g) s.heap.size) q := fun q h => Or.inr h
  have hS := Stt.start hP hD
  show WT p l e rm_X0_sharesTold s m [.ref (ax 0), .int a1] below meth c D (va_A (wX ax ac g) s.heap.size) oc s.heap [] 0 0 0 ls []
  have hl : lv_has ls 2 [(0, .ref (ax 0)), (1, .int a1)] := hl
  rw [f_X0_sharesTold] at hr
  refine lv_iload_n hx hb dX0_sharesTold_0 rfl (lv_at hl 1 rfl) ?_
  rcases Or.symm (br_bX hr) with ⟨o1, ho1, rfl⟩ | ⟨o1, ho1, hr⟩
  · refine fwTSx (As := [.int a1]) (rest := []) hx hb hml hown hts (m_X0_mustBeBit l hst D ac a1 _ _ ho1) (cw_X0_mustBeBit hts q773 ⟨Nat.le_of_ble_eq_true rfl, Nat.le_of_ble_eq_true rfl⟩) hG hZ hS hA [] rfl rfl rfl rfl hl.1 rfl (Nat.le_of_ble_eq_true rfl) dX0_sharesTold_1 ⟨Nat.le_of_ble_eq_true rfl, Nat.le_of_ble_eq_true rfl⟩ (wn := wX ax ac g) rfl (fun q_ ci_ H locs hci hS => ?_)
    subst hoc; exact fw_xout hnt hlk hG hci hS (Nat.le_of_ble_eq_true rfl) (Nat.le_of_ble_eq_true rfl)
  refine fwTSo (As := [.int a1]) (rest := []) hx hb hml hown hts (m_X0_mustBeBit l hst D ac a1 _ _ ho1) (cw_X0_mustBeBit hts q773 ⟨Nat.le_of_ble_eq_true rfl, Nat.le_of_ble_eq_true rfl⟩) hG hZ hS hA [] rfl rfl rfl rfl hl.1 rfl (Nat.le_of_ble_eq_true rfl) dX0_sharesTold_1 ⟨Nat.le_of_ble_eq_true rfl, Nat.le_of_ble_eq_true rfl⟩ (wn := wX ax ac g) rfl (fun H locs hS => ?_)
  have hP := hS.1
  refine W.widen (k := 1) (n := 7) (by first | exact Nat.le_refl _ | (dsimp only [rm_X0_mustBeBit]; omega)) (by first | exact Nat.le_refl _ | (dsimp only [rm_X0_mustBeBit]; omega)) ?_
  refine lv_iload_n hx hb dX0_sharesTold_4 rfl (lv_at hl 1 rfl) ?_
  have hi2 := br_ite hr
  refine lv_if_ne (tgt := 18) hx hb dX0_sharesTold_5 (by decide) (fun c2 => ?_) (fun c2 => ?_)
  · have hr := hi2.2 c2
    refine lv_aload_n hx hb dX0_sharesTold_18 rfl (lv_at hl 0 rfl) ?_
    obtain ⟨o3, ho3, hr⟩ := br_bind hr
    refine fwRV (As := []) (rest := []) (C := RX0) hx hb hml hown hts (m_X0_richestOne l D ax ac g o3 ho3) (cw_X0_richestOne hts q781 ⟨Nat.le_of_ble_eq_true rfl, Nat.le_of_ble_eq_true rfl⟩) hG hP hP 0 0 rfl rfl rfl hl.1 rfl (Nat.le_of_ble_eq_true rfl) dX0_sharesTold_19 ⟨Nat.le_of_ble_eq_true rfl, Nat.le_of_ble_eq_true rfl⟩ ?_
    obtain rfl := Option.some.inj hr
    refine W.widen (k := rm_X0_sharesTold.cells) (n := rm_X0_sharesTold.slots) (Nat.le_of_ble_eq_true rfl) (Nat.le_of_ble_eq_true rfl) ?_
    subst hoc
    exact xx_ret (W.iret hx hb hrt (fun t ht _ => hS.q ht rfl) hS.2.2.2.2 dX0_sharesTold_22 hlk)
  · have hr := hi2.1 c2
    refine lv_aload_n hx hb dX0_sharesTold_8 rfl (lv_at hl 0 rfl) ?_
    refine va_get (D := D) (ci := 0) (v := .ref (ax 1)) (C := RX0) (T := TX0) (N := 17) hx hb hts in_X0 hown hG.1 hP 0 rfl rfl 1 (by decide) (hts _ q234) (fun _ h9 => h9) rfl dX0_sharesTold_9 ?_
    obtain ⟨o4, ho4, hr⟩ := br_bind hr
    refine fwRV (As := []) (rest := []) (C := RX8) hx hb hml hown hts (m_X8_allShares l D ax ac (ax 1) (ax 2) (ax 3) (xG_core0 g) o4 ho4) (cw_X8_allShares hts q776 ⟨Nat.le_of_ble_eq_true rfl, Nat.le_of_ble_eq_true rfl⟩) hG hP (hP.pick [1, 2, 3, 11, 12, 13, 14, 15, 16] rfl) 1 7 rfl rfl rfl hl.1 rfl (Nat.le_of_ble_eq_true rfl) dX0_sharesTold_12 ⟨Nat.le_of_ble_eq_true rfl, Nat.le_of_ble_eq_true rfl⟩ ?_
    refine lv_goto (tgt := 22) hx hb dX0_sharesTold_15 (by decide) ?_
    obtain rfl := Option.some.inj hr
    refine W.widen (k := rm_X0_sharesTold.cells) (n := rm_X0_sharesTold.slots) (Nat.le_of_ble_eq_true rfl) (Nat.le_of_ble_eq_true rfl) ?_
    subst hoc
    exact xx_ret (W.iret hx hb hrt (fun t ht _ => hS.q ht rfl) hS.2.2.2.2 dX0_sharesTold_22 hlk)
def f_X0_edgeTold (g : XS) (a1 : Int32) : Option ((Int32 × XS) ⊕ (Int32 × XS)) := bX (f_X0_mustBeBit a1) (fun b1 => (b1, g)) fun o1 => if a1 = 0 then Option.bind (f_X0_sides g) fun o4 => some (Sum.inl (o4, g)) else Option.bind (f_X0_holes g) fun o3 => some (Sum.inl (o3, g))
abbrev rm_X0_edgeTold : Room := ({ frames := 11, cells := 1, slots := 7, locals := 201 })
theorem cw_X0_edgeTold {R : Room} {s : State} {args : Array Value} {own : String} {index : Nat} (hts : ∀ w ∈ lw_all, w.before args s = true) (hlink : Cond.methodLink own index yX0_edgeTold ∈ lw_all) (hR : rm_X0_edgeTold.frames + 1 ≤ R.frames ∧ 8 + (2 + 11) + rm_X0_edgeTold.locals ≤ R.locals) : CallW R s args own RX0 index yX0_edgeTold cX0_edgeTold 2 (some FieldType.int) (ws_ yX0_edgeTold cX0_edgeTold 2 (some FieldType.int)) rm_X0_edgeTold rm_X0_edgeTold.cells rm_X0_edgeTold.slots 1 :=
  cwV 1 hts (lw_V hlink q795 qs26 q102 q796) rfl rfl rfl (by decide +kernel) hR
set_option maxHeartbeats 4000000 in
theorem m_X0_edgeTold (l : Launch) (hst : l.stackTraces = false) (D : va_G) (ax : Nat → Nat) (ac : Nat → ClassId) (g : XS) (a1 : Int32) (sz : Nat) (r0 : (Int32 × XS) ⊕ (Int32 × XS)) (hr : f_X0_edgeTold g a1 = some r0) : TM l yX0_edgeTold cX0_edgeTold 2 (some FieldType.int) rm_X0_edgeTold [.ref (ax 0), .int a1] D ac (wX ax ac g) sz (Sum.map (fun u => (wX ax ac u.2, (some (.int u.1)))) (fun u => (wX ax ac u.2, u.1)) r0) := by
  generalize hoc : (Sum.map (fun u => (wX ax ac u.2, (some (.int u.1)))) (fun u => (wX ax ac u.2, u.1)) r0 : Oc) = oc
  refine fw_ofT (by decide) (Nat.le_of_ble_eq_true rfl) ?_
  intro p e s m below meth c ls hx hb hrt hts hown hlk hml _ hnt hU hl
  obtain ⟨⟨rfl, hP, hG, hD⟩, hZ⟩ := hU
  have hA : ∀ q : Nat, s.heap.size ≤ q → (va_A (wX ax ac g) s.heap.size) q := fun q h => Or.inr h
  have hS := Stt.start hP hD
  show WT p l e rm_X0_edgeTold s m [.ref (ax 0), .int a1] below meth c D (va_A (wX ax ac g) s.heap.size) oc s.heap [] 0 0 0 ls []
  have hl : lv_has ls 2 [(0, .ref (ax 0)), (1, .int a1)] := hl
  rw [f_X0_edgeTold] at hr
  refine lv_iload_n hx hb dX0_edgeTold_0 rfl (lv_at hl 1 rfl) ?_
  rcases Or.symm (br_bX hr) with ⟨o1, ho1, rfl⟩ | ⟨o1, ho1, hr⟩
  · refine fwTSx (As := [.int a1]) (rest := []) hx hb hml hown hts (m_X0_mustBeBit l hst D ac a1 _ _ ho1) (cw_X0_mustBeBit hts q773 ⟨Nat.le_of_ble_eq_true rfl, Nat.le_of_ble_eq_true rfl⟩) hG hZ hS hA [] rfl rfl rfl rfl hl.1 rfl (Nat.le_of_ble_eq_true rfl) dX0_edgeTold_1 ⟨Nat.le_of_ble_eq_true rfl, Nat.le_of_ble_eq_true rfl⟩ (wn := wX ax ac g) rfl (fun q_ ci_ H locs hci hS => ?_)
    subst hoc; exact fw_xout hnt hlk hG hci hS (Nat.le_of_ble_eq_true rfl) (Nat.le_of_ble_eq_true rfl)
  refine fwTSo (As := [.int a1]) (rest := []) hx hb hml hown hts (m_X0_mustBeBit l hst D ac a1 _ _ ho1) (cw_X0_mustBeBit hts q773 ⟨Nat.le_of_ble_eq_true rfl, Nat.le_of_ble_eq_true rfl⟩) hG hZ hS hA [] rfl rfl rfl rfl hl.1 rfl (Nat.le_of_ble_eq_true rfl) dX0_edgeTold_1 ⟨Nat.le_of_ble_eq_true rfl, Nat.le_of_ble_eq_true rfl⟩ (wn := wX ax ac g) rfl (fun H locs hS => ?_)
  have hP := hS.1
  refine W.widen (k := 1) (n := 7) (by first | exact Nat.le_refl _ | (dsimp only [rm_X0_mustBeBit]; omega)) (by first | exact Nat.le_refl _ | (dsimp only [rm_X0_mustBeBit]; omega)) ?_
  refine lv_iload_n hx hb dX0_edgeTold_4 rfl (lv_at hl 1 rfl) ?_
  have hi2 := br_ite hr
  refine lv_if_ne (tgt := 15) hx hb dX0_edgeTold_5 (by decide) (fun c2 => ?_) (fun c2 => ?_)
  · have hr := hi2.2 c2
    refine lv_aload_n hx hb dX0_edgeTold_15 rfl (lv_at hl 0 rfl) ?_
    obtain ⟨o3, ho3, hr⟩ := br_bind hr
    refine fwRV (As := []) (rest := []) (C := RX0) hx hb hml hown hts (m_X0_holes l D ax ac g o3 ho3) (cw_X0_holes hts q801 ⟨Nat.le_of_ble_eq_true rfl, Nat.le_of_ble_eq_true rfl⟩) hG hP hP 0 0 rfl rfl rfl hl.1 rfl (Nat.le_of_ble_eq_true rfl) dX0_edgeTold_16 ⟨Nat.le_of_ble_eq_true rfl, Nat.le_of_ble_eq_true rfl⟩ ?_
    obtain rfl := Option.some.inj hr
    refine W.widen (k := rm_X0_edgeTold.cells) (n := rm_X0_edgeTold.slots) (Nat.le_of_ble_eq_true rfl) (Nat.le_of_ble_eq_true rfl) ?_
    subst hoc
    exact xx_ret (W.iret hx hb hrt (fun t ht _ => hS.q ht rfl) hS.2.2.2.2 dX0_edgeTold_19 hlk)
  · have hr := hi2.1 c2
    refine lv_aload_n hx hb dX0_edgeTold_8 rfl (lv_at hl 0 rfl) ?_
    obtain ⟨o4, ho4, hr⟩ := br_bind hr
    refine fwRV (As := []) (rest := []) (C := RX0) hx hb hml hown hts (m_X0_sides l D ax ac g o4 ho4) (cw_X0_sides hts q797 ⟨Nat.le_of_ble_eq_true rfl, Nat.le_of_ble_eq_true rfl⟩) hG hP hP 0 0 rfl rfl rfl hl.1 rfl (Nat.le_of_ble_eq_true rfl) dX0_edgeTold_9 ⟨Nat.le_of_ble_eq_true rfl, Nat.le_of_ble_eq_true rfl⟩ ?_
    refine lv_goto (tgt := 19) hx hb dX0_edgeTold_12 (by decide) ?_
    obtain rfl := Option.some.inj hr
    refine W.widen (k := rm_X0_edgeTold.cells) (n := rm_X0_edgeTold.slots) (Nat.le_of_ble_eq_true rfl) (Nat.le_of_ble_eq_true rfl) ?_
    subst hoc
    exact xx_ret (W.iret hx hb hrt (fun t ht _ => hS.q ht rfl) hS.2.2.2.2 dX0_edgeTold_19 hlk)
def f_X0_fewestTold (g : XS) (a1 : Int32) (a2 : Int32) (a3 : Int32) : Option ((Int32 × XS) ⊕ (Int32 × XS)) := bX (f_X0_mustBeHeir g a1) (fun b1 => (b1.1, b1.2)) fun o1 => bX (f_X0_within (Int32.toInt64 a2) (0 : Int64) (40 : Int64)) (fun b2 => (b2, o1)) fun o2 => bX (f_X0_mustBeBit a3) (fun b3 => (b3, o1)) fun o3 => Option.bind (f_X0_fewestFor o1 a1 a2 a3) fun o4 => some (Sum.inl (o4.1, o4.2))
abbrev rm_X0_fewestTold : Room := ({ frames := 12, cells := 4, slots := 28, locals := 475 })
theorem cw_X0_fewestTold {R : Room} {s : State} {args : Array Value} {own : String} {index : Nat} (hts : ∀ w ∈ lw_all, w.before args s = true) (hlink : Cond.methodLink own index yX0_fewestTold ∈ lw_all) (hR : rm_X0_fewestTold.frames + 1 ≤ R.frames ∧ 8 + (4 + 11) + rm_X0_fewestTold.locals ≤ R.locals) : CallW R s args own RX0 index yX0_fewestTold cX0_fewestTold 4 (some FieldType.int) (ws_ yX0_fewestTold cX0_fewestTold 4 (some FieldType.int)) rm_X0_fewestTold rm_X0_fewestTold.cells rm_X0_fewestTold.slots 3 :=
  cwV 3 hts (lw_V hlink q827 qs32 q102 q828) rfl rfl rfl (by decide +kernel) hR
set_option maxHeartbeats 4000000 in
theorem m_X0_fewestTold (l : Launch) (hst : l.stackTraces = false) (D : va_G) (ax : Nat → Nat) (ac : Nat → ClassId) (g : XS) (a1 : Int32) (a2 : Int32) (a3 : Int32) (sz : Nat) (r0 : (Int32 × XS) ⊕ (Int32 × XS)) (hr : f_X0_fewestTold g a1 a2 a3 = some r0) : TM l yX0_fewestTold cX0_fewestTold 4 (some FieldType.int) rm_X0_fewestTold [.ref (ax 0), .int a1, .int a2, .int a3] D ac (wX ax ac g) sz (Sum.map (fun u => (wX ax ac u.2, (some (.int u.1)))) (fun u => (wX ax ac u.2, u.1)) r0) := by
  generalize hoc : (Sum.map (fun u => (wX ax ac u.2, (some (.int u.1)))) (fun u => (wX ax ac u.2, u.1)) r0 : Oc) = oc
  refine fw_ofT (by decide) (Nat.le_of_ble_eq_true rfl) ?_
  intro p e s m below meth c ls hx hb hrt hts hown hlk hml _ hnt hU hl
  obtain ⟨⟨rfl, hP, hG, hD⟩, hZ⟩ := hU
  have hA : ∀ q : Nat, s.heap.size ≤ q → (va_A (wX ax ac g) s.heap.size) q := fun q h => Or.inr h
  have hS := Stt.start hP hD
  show WT p l e rm_X0_fewestTold s m [.ref (ax 0), .int a1, .int a2, .int a3] below meth c D (va_A (wX ax ac g) s.heap.size) oc s.heap [] 0 0 0 ls []
  have hl : lv_has ls 4 [(0, .ref (ax 0)), (1, .int a1), (2, .int a2), (3, .int a3)] := hl
  rw [f_X0_fewestTold] at hr
  refine lv_aload_n hx hb dX0_fewestTold_0 rfl (lv_at hl 0 rfl) ?_
  refine lv_iload_n hx hb dX0_fewestTold_1 rfl (lv_at hl 1 rfl) ?_
  rcases Or.symm (br_bX hr) with ⟨o1, ho1, rfl⟩ | ⟨o1, ho1, hr⟩
  · refine fwTVx (As := [.int a1]) (rest := []) (C := RX0) hx hb hml hown hts (m_X0_mustBeHeir l hst D ax ac g a1 _ _ ho1) (cw_X0_mustBeHeir hts q659 ⟨Nat.le_of_ble_eq_true rfl, Nat.le_of_ble_eq_true rfl⟩) hG hZ hS hA ixX nd_X (pk_X ax ac _) (ad_X ax ac _ _) 0 0 rfl rfl rfl hl.1 rfl (Nat.le_of_ble_eq_true rfl) dX0_fewestTold_2 ⟨Nat.le_of_ble_eq_true rfl, Nat.le_of_ble_eq_true rfl⟩ (wn := wX ax ac o1.2) (rep_X ax ac _ _) (fun q_ ci_ H locs hci hS => ?_)
    subst hoc; exact fw_xout hnt hlk hG hci hS (Nat.le_of_ble_eq_true rfl) (Nat.le_of_ble_eq_true rfl)
  refine fwTVo (As := [.int a1]) (rest := []) (C := RX0) hx hb hml hown hts (m_X0_mustBeHeir l hst D ax ac g a1 _ _ ho1) (cw_X0_mustBeHeir hts q659 ⟨Nat.le_of_ble_eq_true rfl, Nat.le_of_ble_eq_true rfl⟩) hG hZ hS hA ixX nd_X (pk_X ax ac _) (ad_X ax ac _ _) 0 0 rfl rfl rfl hl.1 rfl (Nat.le_of_ble_eq_true rfl) dX0_fewestTold_2 ⟨Nat.le_of_ble_eq_true rfl, Nat.le_of_ble_eq_true rfl⟩ (wn := wX ax ac o1) (rep_X ax ac _ _) (fun H locs hS => ?_)
  have hP := hS.1
  refine W.widen (k := 1) (n := 7) (by first | exact Nat.le_refl _ | (dsimp only [rm_X0_mustBeHeir]; omega)) (by first | exact Nat.le_refl _ | (dsimp only [rm_X0_mustBeHeir]; omega)) ?_
  refine lv_iload_n hx hb dX0_fewestTold_5 rfl (lv_at hl 2 rfl) ?_
  refine lv_i2l (v := (Int32.toInt64 a2)) hx hb dX0_fewestTold_6 rfl ?_
  refine lv_lconst (v := 0) hx hb dX0_fewestTold_7 rfl ?_
  refine lv_ldc2 (v := 40) hx hb hown (hts _ q829) dX0_fewestTold_8 ?_
  rcases Or.symm (br_bX hr) with ⟨o2, ho2, rfl⟩ | ⟨o2, ho2, hr⟩
  · refine fwTSx (As := [.long (Int32.toInt64 a2), .long 0, .long 40]) (rest := []) hx hb hml hown hts (m_X0_within l hst D ac (Int32.toInt64 a2) (0 : Int64) (40 : Int64) _ _ ho2) (cw_X0_within hts q312 ⟨Nat.le_of_ble_eq_true rfl, Nat.le_of_ble_eq_true rfl⟩) hG hZ hS hA [] rfl rfl rfl rfl hl.1 rfl (Nat.le_of_ble_eq_true rfl) dX0_fewestTold_11 ⟨Nat.le_of_ble_eq_true rfl, Nat.le_of_ble_eq_true rfl⟩ (wn := wX ax ac o1) rfl (fun q_ ci_ H locs hci hS => ?_)
    subst hoc; exact fw_xout hnt hlk hG hci hS (Nat.le_of_ble_eq_true rfl) (Nat.le_of_ble_eq_true rfl)
  refine fwTSo (As := [.long (Int32.toInt64 a2), .long 0, .long 40]) (rest := []) hx hb hml hown hts (m_X0_within l hst D ac (Int32.toInt64 a2) (0 : Int64) (40 : Int64) _ _ ho2) (cw_X0_within hts q312 ⟨Nat.le_of_ble_eq_true rfl, Nat.le_of_ble_eq_true rfl⟩) hG hZ hS hA [] rfl rfl rfl rfl hl.1 rfl (Nat.le_of_ble_eq_true rfl) dX0_fewestTold_11 ⟨Nat.le_of_ble_eq_true rfl, Nat.le_of_ble_eq_true rfl⟩ (wn := wX ax ac o1) rfl (fun H locs hS => ?_)
  have hP := hS.1
  refine W.widen (k := 3) (n := 21) (by first | exact Nat.le_refl _ | (dsimp only [rm_X0_within]; omega)) (by first | exact Nat.le_refl _ | (dsimp only [rm_X0_within]; omega)) ?_
  refine lv_iload_n hx hb dX0_fewestTold_14 rfl (lv_at hl 3 rfl) ?_
  rcases Or.symm (br_bX hr) with ⟨o3, ho3, rfl⟩ | ⟨o3, ho3, hr⟩
  · refine fwTSx (As := [.int a3]) (rest := []) hx hb hml hown hts (m_X0_mustBeBit l hst D ac a3 _ _ ho3) (cw_X0_mustBeBit hts q773 ⟨Nat.le_of_ble_eq_true rfl, Nat.le_of_ble_eq_true rfl⟩) hG hZ hS hA [] rfl rfl rfl rfl hl.1 rfl (Nat.le_of_ble_eq_true rfl) dX0_fewestTold_15 ⟨Nat.le_of_ble_eq_true rfl, Nat.le_of_ble_eq_true rfl⟩ (wn := wX ax ac o1) rfl (fun q_ ci_ H locs hci hS => ?_)
    subst hoc; exact fw_xout hnt hlk hG hci hS (Nat.le_of_ble_eq_true rfl) (Nat.le_of_ble_eq_true rfl)
  refine fwTSo (As := [.int a3]) (rest := []) hx hb hml hown hts (m_X0_mustBeBit l hst D ac a3 _ _ ho3) (cw_X0_mustBeBit hts q773 ⟨Nat.le_of_ble_eq_true rfl, Nat.le_of_ble_eq_true rfl⟩) hG hZ hS hA [] rfl rfl rfl rfl hl.1 rfl (Nat.le_of_ble_eq_true rfl) dX0_fewestTold_15 ⟨Nat.le_of_ble_eq_true rfl, Nat.le_of_ble_eq_true rfl⟩ (wn := wX ax ac o1) rfl (fun H locs hS => ?_)
  have hP := hS.1
  refine W.widen (k := 4) (n := 28) (by first | exact Nat.le_refl _ | (dsimp only [rm_X0_mustBeBit]; omega)) (by first | exact Nat.le_refl _ | (dsimp only [rm_X0_mustBeBit]; omega)) ?_
  refine lv_aload_n hx hb dX0_fewestTold_18 rfl (lv_at hl 0 rfl) ?_
  refine lv_iload_n hx hb dX0_fewestTold_19 rfl (lv_at hl 1 rfl) ?_
  refine lv_iload_n hx hb dX0_fewestTold_20 rfl (lv_at hl 2 rfl) ?_
  refine lv_iload_n hx hb dX0_fewestTold_21 rfl (lv_at hl 3 rfl) ?_
  obtain ⟨o4, ho4, hr⟩ := br_bind hr
  refine fwWVs (As := [.int a1, .int a2, .int a3]) (rest := []) (C := RX0) hx hb hml hown hts (m_X0_fewestFor l D ax ac o1 a1 a2 a3 _ o4 ho4) (cw_X0_fewestFor hts q830 ⟨Nat.le_of_ble_eq_true rfl, Nat.le_of_ble_eq_true rfl⟩) hG hS hA rfl 0 0 rfl rfl rfl hl.1 rfl (Nat.le_of_ble_eq_true rfl) dX0_fewestTold_22 ⟨Nat.le_of_ble_eq_true rfl, Nat.le_of_ble_eq_true rfl⟩ (fun H locs hS => ?_)
  have hP := hS.1
  obtain rfl := Option.some.inj hr
  refine W.widen (k := rm_X0_fewestTold.cells) (n := rm_X0_fewestTold.slots) (Nat.le_of_ble_eq_true rfl) (Nat.le_of_ble_eq_true rfl) ?_
  subst hoc
  exact xx_ret (W.iret hx hb hrt (fun t ht _ => hS.q ht rfl) hS.2.2.2.2 dX0_fewestTold_25 hlk)
def f_X0_canTold (g : XS) (a1 : Int32) : Option ((Int32 × XS) ⊕ (Int32 × XS)) := Option.bind (f_X0_in (Int32.toInt64 a1) (-1 : Int64) (3 : Int64)) fun o1 => bX (f_X0_must o1 (-2 : Int32)) (fun b2 => (b2, g)) fun o2 => Option.bind (f_X0_manyThatCan g a1 (0 : Int32)) fun o3 => some (Sum.inl (o3.1, o3.2))
abbrev rm_X0_canTold : Room := ({ frames := 11, cells := 1, slots := 7, locals := 470 })
theorem cw_X0_canTold {R : Room} {s : State} {args : Array Value} {own : String} {index : Nat} (hts : ∀ w ∈ lw_all, w.before args s = true) (hlink : Cond.methodLink own index yX0_canTold ∈ lw_all) (hR : rm_X0_canTold.frames + 1 ≤ R.frames ∧ 8 + (2 + 11) + rm_X0_canTold.locals ≤ R.locals) : CallW R s args own RX0 index yX0_canTold cX0_canTold 2 (some FieldType.int) (ws_ yX0_canTold cX0_canTold 2 (some FieldType.int)) rm_X0_canTold rm_X0_canTold.cells rm_X0_canTold.slots 1 :=
  cwV 1 hts (lw_V hlink q848 qs37 q102 q849) rfl rfl rfl (by decide +kernel) hR
set_option maxHeartbeats 4000000 in
theorem m_X0_canTold (l : Launch) (hst : l.stackTraces = false) (D : va_G) (ax : Nat → Nat) (ac : Nat → ClassId) (g : XS) (a1 : Int32) (sz : Nat) (r0 : (Int32 × XS) ⊕ (Int32 × XS)) (hr : f_X0_canTold g a1 = some r0) : TM l yX0_canTold cX0_canTold 2 (some FieldType.int) rm_X0_canTold [.ref (ax 0), .int a1] D ac (wX ax ac g) sz (Sum.map (fun u => (wX ax ac u.2, (some (.int u.1)))) (fun u => (wX ax ac u.2, u.1)) r0) := by
  generalize hoc : (Sum.map (fun u => (wX ax ac u.2, (some (.int u.1)))) (fun u => (wX ax ac u.2, u.1)) r0 : Oc) = oc
  refine fw_ofT (by decide) (Nat.le_of_ble_eq_true rfl) ?_
  intro p e s m below meth c ls hx hb hrt hts hown hlk hml _ hnt hU hl
  obtain ⟨⟨rfl, hP, hG, hD⟩, hZ⟩ := hU
  have hA : ∀ q : Nat, s.heap.size ≤ q → (va_A (wX ax ac g) s.heap.size) q := fun q h => Or.inr h
  have hS := Stt.start hP hD
  show WT p l e rm_X0_canTold s m [.ref (ax 0), .int a1] below meth c D (va_A (wX ax ac g) s.heap.size) oc s.heap [] 0 0 0 ls []
  have hl : lv_has ls 2 [(0, .ref (ax 0)), (1, .int a1)] := hl
  rw [f_X0_canTold] at hr
  refine lv_iload_n hx hb dX0_canTold_0 rfl (lv_at hl 1 rfl) ?_
  refine lv_i2l (v := (Int32.toInt64 a1)) hx hb dX0_canTold_1 rfl ?_
  refine lv_ldc2 (v := (-1)) hx hb hown (hts _ q850) dX0_canTold_2 ?_
  refine lv_ldc2 (v := 3) hx hb hown (hts _ q741) dX0_canTold_5 ?_
  obtain ⟨o1, ho1, hr⟩ := br_bind hr
  refine fwS (As := [.long (Int32.toInt64 a1), .long (-1), .long 3]) (rest := []) hx hb hml hown hts (m_X0_in l (Int32.toInt64 a1) (-1 : Int64) (3 : Int64) o1 ho1) (cw_X0_in hts q651 ⟨Nat.le_of_ble_eq_true rfl, Nat.le_of_ble_eq_true rfl⟩) rfl hl.1 rfl (Nat.le_of_ble_eq_true rfl) dX0_canTold_8 ⟨Nat.le_of_ble_eq_true rfl, Nat.le_of_ble_eq_true rfl⟩ ?_
  refine lv_bipush (v := (-2)) hx hb dX0_canTold_11 rfl ?_
  rcases Or.symm (br_bX hr) with ⟨o2, ho2, rfl⟩ | ⟨o2, ho2, hr⟩
  · refine fwTSx (As := [.int o1, .int (-2)]) (rest := []) hx hb hml hown hts (m_X0_must l hst D ac o1 (-2 : Int32) _ _ ho2) (cw_X0_must hts q315 ⟨Nat.le_of_ble_eq_true rfl, Nat.le_of_ble_eq_true rfl⟩) hG hZ hS hA [] rfl rfl rfl rfl hl.1 rfl (Nat.le_of_ble_eq_true rfl) dX0_canTold_13 ⟨Nat.le_of_ble_eq_true rfl, Nat.le_of_ble_eq_true rfl⟩ (wn := wX ax ac g) rfl (fun q_ ci_ H locs hci hS => ?_)
    subst hoc; exact fw_xout hnt hlk hG hci hS (Nat.le_of_ble_eq_true rfl) (Nat.le_of_ble_eq_true rfl)
  refine fwTSo (As := [.int o1, .int (-2)]) (rest := []) hx hb hml hown hts (m_X0_must l hst D ac o1 (-2 : Int32) _ _ ho2) (cw_X0_must hts q315 ⟨Nat.le_of_ble_eq_true rfl, Nat.le_of_ble_eq_true rfl⟩) hG hZ hS hA [] rfl rfl rfl rfl hl.1 rfl (Nat.le_of_ble_eq_true rfl) dX0_canTold_13 ⟨Nat.le_of_ble_eq_true rfl, Nat.le_of_ble_eq_true rfl⟩ (wn := wX ax ac g) rfl (fun H locs hS => ?_)
  have hP := hS.1
  refine W.widen (k := 1) (n := 7) (by first | exact Nat.le_refl _ | (dsimp only [rm_X0_must]; omega)) (by first | exact Nat.le_refl _ | (dsimp only [rm_X0_must]; omega)) ?_
  refine lv_aload_n hx hb dX0_canTold_16 rfl (lv_at hl 0 rfl) ?_
  refine lv_iload_n hx hb dX0_canTold_17 rfl (lv_at hl 1 rfl) ?_
  refine lv_iconst (v := 0) hx hb dX0_canTold_18 rfl ?_
  obtain ⟨o3, ho3, hr⟩ := br_bind hr
  refine fwWVs (As := [.int a1, .int 0]) (rest := []) (C := RX0) hx hb hml hown hts (m_X0_manyThatCan l D ax ac g a1 (0 : Int32) _ o3 ho3) (cw_X0_manyThatCan hts q838 ⟨Nat.le_of_ble_eq_true rfl, Nat.le_of_ble_eq_true rfl⟩) hG hS hA rfl 0 0 rfl rfl rfl hl.1 rfl (Nat.le_of_ble_eq_true rfl) dX0_canTold_19 ⟨Nat.le_of_ble_eq_true rfl, Nat.le_of_ble_eq_true rfl⟩ (fun H locs hS => ?_)
  have hP := hS.1
  obtain rfl := Option.some.inj hr
  refine W.widen (k := rm_X0_canTold.cells) (n := rm_X0_canTold.slots) (Nat.le_of_ble_eq_true rfl) (Nat.le_of_ble_eq_true rfl) ?_
  subst hoc
  exact xx_ret (W.iret hx hb hrt (fun t ht _ => hS.q ht rfl) hS.2.2.2.2 dX0_canTold_22 hlk)
def f_X0_settlesTold (g : XS) (a1 : Int32) : Option ((Int32 × XS) ⊕ (Int32 × XS)) := bX (f_X0_mustBeBit a1) (fun b1 => (b1, g)) fun o1 => Option.bind (f_X0_settledBy g a1) fun o2 => some (Sum.inl (o2.1, o2.2))
abbrev rm_X0_settlesTold : Room := ({ frames := 11, cells := 1, slots := 7, locals := 201 })
theorem cw_X0_settlesTold {R : Room} {s : State} {args : Array Value} {own : String} {index : Nat} (hts : ∀ w ∈ lw_all, w.before args s = true) (hlink : Cond.methodLink own index yX0_settlesTold ∈ lw_all) (hR : rm_X0_settlesTold.frames + 1 ≤ R.frames ∧ 8 + (2 + 11) + rm_X0_settlesTold.locals ≤ R.locals) : CallW R s args own RX0 index yX0_settlesTold cX0_settlesTold 2 (some FieldType.int) (ws_ yX0_settlesTold cX0_settlesTold 2 (some FieldType.int)) rm_X0_settlesTold rm_X0_settlesTold.cells rm_X0_settlesTold.slots 1 :=
  cwV 1 hts (lw_V hlink q881 qs44 q102 q882) rfl rfl rfl (by decide +kernel) hR
set_option maxHeartbeats 4000000 in
theorem m_X0_settlesTold (l : Launch) (hst : l.stackTraces = false) (D : va_G) (ax : Nat → Nat) (ac : Nat → ClassId) (g : XS) (a1 : Int32) (sz : Nat) (r0 : (Int32 × XS) ⊕ (Int32 × XS)) (hr : f_X0_settlesTold g a1 = some r0) : TM l yX0_settlesTold cX0_settlesTold 2 (some FieldType.int) rm_X0_settlesTold [.ref (ax 0), .int a1] D ac (wX ax ac g) sz (Sum.map (fun u => (wX ax ac u.2, (some (.int u.1)))) (fun u => (wX ax ac u.2, u.1)) r0) := by
  generalize hoc : (Sum.map (fun u => (wX ax ac u.2, (some (.int u.1)))) (fun u => (wX ax ac u.2, u.1)) r0 : Oc) = oc
  refine fw_ofT (by decide) (Nat.le_of_ble_eq_true rfl) ?_
  intro p e s m below meth c ls hx hb hrt hts hown hlk hml _ hnt hU hl
  obtain ⟨⟨rfl, hP, hG, hD⟩, hZ⟩ := hU
  have hA : ∀ q : Nat, s.heap.size ≤ q → (va_A (wX ax ac g) s.heap.size) q := fun q h => Or.inr h
  have hS := Stt.start hP hD
  show WT p l e rm_X0_settlesTold s m [.ref (ax 0), .int a1] below meth c D (va_A (wX ax ac g) s.heap.size) oc s.heap [] 0 0 0 ls []
  have hl : lv_has ls 2 [(0, .ref (ax 0)), (1, .int a1)] := hl
  rw [f_X0_settlesTold] at hr
  refine lv_iload_n hx hb dX0_settlesTold_0 rfl (lv_at hl 1 rfl) ?_
  rcases Or.symm (br_bX hr) with ⟨o1, ho1, rfl⟩ | ⟨o1, ho1, hr⟩
  · refine fwTSx (As := [.int a1]) (rest := []) hx hb hml hown hts (m_X0_mustBeBit l hst D ac a1 _ _ ho1) (cw_X0_mustBeBit hts q773 ⟨Nat.le_of_ble_eq_true rfl, Nat.le_of_ble_eq_true rfl⟩) hG hZ hS hA [] rfl rfl rfl rfl hl.1 rfl (Nat.le_of_ble_eq_true rfl) dX0_settlesTold_1 ⟨Nat.le_of_ble_eq_true rfl, Nat.le_of_ble_eq_true rfl⟩ (wn := wX ax ac g) rfl (fun q_ ci_ H locs hci hS => ?_)
    subst hoc; exact fw_xout hnt hlk hG hci hS (Nat.le_of_ble_eq_true rfl) (Nat.le_of_ble_eq_true rfl)
  refine fwTSo (As := [.int a1]) (rest := []) hx hb hml hown hts (m_X0_mustBeBit l hst D ac a1 _ _ ho1) (cw_X0_mustBeBit hts q773 ⟨Nat.le_of_ble_eq_true rfl, Nat.le_of_ble_eq_true rfl⟩) hG hZ hS hA [] rfl rfl rfl rfl hl.1 rfl (Nat.le_of_ble_eq_true rfl) dX0_settlesTold_1 ⟨Nat.le_of_ble_eq_true rfl, Nat.le_of_ble_eq_true rfl⟩ (wn := wX ax ac g) rfl (fun H locs hS => ?_)
  have hP := hS.1
  refine W.widen (k := 1) (n := 7) (by first | exact Nat.le_refl _ | (dsimp only [rm_X0_mustBeBit]; omega)) (by first | exact Nat.le_refl _ | (dsimp only [rm_X0_mustBeBit]; omega)) ?_
  refine lv_aload_n hx hb dX0_settlesTold_4 rfl (lv_at hl 0 rfl) ?_
  refine lv_iload_n hx hb dX0_settlesTold_5 rfl (lv_at hl 1 rfl) ?_
  obtain ⟨o2, ho2, hr⟩ := br_bind hr
  refine fwWVs (As := [.int a1]) (rest := []) (C := RX0) hx hb hml hown hts (m_X0_settledBy l D ax ac g a1 _ o2 ho2) (cw_X0_settledBy hts q883 ⟨Nat.le_of_ble_eq_true rfl, Nat.le_of_ble_eq_true rfl⟩) hG hS hA rfl 0 0 rfl rfl rfl hl.1 rfl (Nat.le_of_ble_eq_true rfl) dX0_settlesTold_6 ⟨Nat.le_of_ble_eq_true rfl, Nat.le_of_ble_eq_true rfl⟩ (fun H locs hS => ?_)
  have hP := hS.1
  obtain rfl := Option.some.inj hr
  refine W.widen (k := rm_X0_settlesTold.cells) (n := rm_X0_settlesTold.slots) (Nat.le_of_ble_eq_true rfl) (Nat.le_of_ble_eq_true rfl) ?_
  subst hoc
  exact xx_ret (W.iret hx hb hrt (fun t ht _ => hS.q ht rfl) hS.2.2.2.2 dX0_settlesTold_9 hlk)
def f_X0_pipsTold (g : XS) (a1 : Int32) : Option ((Int32 × XS) ⊕ (Int32 × XS)) := bX (f_X0_mustBeBit a1) (fun b1 => (b1, g)) fun o1 => if a1 = 0 then Option.bind (f_X0_manyIn ((cG_left (xG_core0 g)) &&& 14336)) fun o5 => some (Sum.inl (o5, g)) else Option.bind (f_X0_has (cG_left (xG_core0 g)) (2 : Int32)) fun o3 => if o3 = 0 then some (Sum.inl (0, g)) else some (Sum.inl (1, g))
abbrev rm_X0_pipsTold : Room := ({ frames := 11, cells := 1, slots := 7, locals := 201 })
theorem cw_X0_pipsTold {R : Room} {s : State} {args : Array Value} {own : String} {index : Nat} (hts : ∀ w ∈ lw_all, w.before args s = true) (hlink : Cond.methodLink own index yX0_pipsTold ∈ lw_all) (hR : rm_X0_pipsTold.frames + 1 ≤ R.frames ∧ 8 + (2 + 11) + rm_X0_pipsTold.locals ≤ R.locals) : CallW R s args own RX0 index yX0_pipsTold cX0_pipsTold 2 (some FieldType.int) (ws_ yX0_pipsTold cX0_pipsTold 2 (some FieldType.int)) rm_X0_pipsTold rm_X0_pipsTold.cells rm_X0_pipsTold.slots 1 :=
  cwV 1 hts (lw_V hlink q889 qs46 q102 q890) rfl rfl rfl (by decide +kernel) hR
set_option maxHeartbeats 4000000 in
theorem m_X0_pipsTold (l : Launch) (hst : l.stackTraces = false) (D : va_G) (ax : Nat → Nat) (ac : Nat → ClassId) (g : XS) (a1 : Int32) (sz : Nat) (r0 : (Int32 × XS) ⊕ (Int32 × XS)) (hr : f_X0_pipsTold g a1 = some r0) : TM l yX0_pipsTold cX0_pipsTold 2 (some FieldType.int) rm_X0_pipsTold [.ref (ax 0), .int a1] D ac (wX ax ac g) sz (Sum.map (fun u => (wX ax ac u.2, (some (.int u.1)))) (fun u => (wX ax ac u.2, u.1)) r0) := by
  generalize hoc : (Sum.map (fun u => (wX ax ac u.2, (some (.int u.1)))) (fun u => (wX ax ac u.2, u.1)) r0 : Oc) = oc
  refine fw_ofT (by decide) (Nat.le_of_ble_eq_true rfl) ?_
  intro p e s m below meth c ls hx hb hrt hts hown hlk hml _ hnt hU hl
  obtain ⟨⟨rfl, hP, hG, hD⟩, hZ⟩ := hU
  have hA : ∀ q : Nat, s.heap.size ≤ q → (va_A (wX ax ac g) s.heap.size) q := fun q h => Or.inr h
  have hS := Stt.start hP hD
  show WT p l e rm_X0_pipsTold s m [.ref (ax 0), .int a1] below meth c D (va_A (wX ax ac g) s.heap.size) oc s.heap [] 0 0 0 ls []
  have hl : lv_has ls 2 [(0, .ref (ax 0)), (1, .int a1)] := hl
  rw [f_X0_pipsTold] at hr
  refine lv_iload_n hx hb dX0_pipsTold_0 rfl (lv_at hl 1 rfl) ?_
  rcases Or.symm (br_bX hr) with ⟨o1, ho1, rfl⟩ | ⟨o1, ho1, hr⟩
  · refine fwTSx (As := [.int a1]) (rest := []) hx hb hml hown hts (m_X0_mustBeBit l hst D ac a1 _ _ ho1) (cw_X0_mustBeBit hts q773 ⟨Nat.le_of_ble_eq_true rfl, Nat.le_of_ble_eq_true rfl⟩) hG hZ hS hA [] rfl rfl rfl rfl hl.1 rfl (Nat.le_of_ble_eq_true rfl) dX0_pipsTold_1 ⟨Nat.le_of_ble_eq_true rfl, Nat.le_of_ble_eq_true rfl⟩ (wn := wX ax ac g) rfl (fun q_ ci_ H locs hci hS => ?_)
    subst hoc; exact fw_xout hnt hlk hG hci hS (Nat.le_of_ble_eq_true rfl) (Nat.le_of_ble_eq_true rfl)
  refine fwTSo (As := [.int a1]) (rest := []) hx hb hml hown hts (m_X0_mustBeBit l hst D ac a1 _ _ ho1) (cw_X0_mustBeBit hts q773 ⟨Nat.le_of_ble_eq_true rfl, Nat.le_of_ble_eq_true rfl⟩) hG hZ hS hA [] rfl rfl rfl rfl hl.1 rfl (Nat.le_of_ble_eq_true rfl) dX0_pipsTold_1 ⟨Nat.le_of_ble_eq_true rfl, Nat.le_of_ble_eq_true rfl⟩ (wn := wX ax ac g) rfl (fun H locs hS => ?_)
  have hP := hS.1
  refine W.widen (k := 1) (n := 7) (by first | exact Nat.le_refl _ | (dsimp only [rm_X0_mustBeBit]; omega)) (by first | exact Nat.le_refl _ | (dsimp only [rm_X0_mustBeBit]; omega)) ?_
  refine lv_iload_n hx hb dX0_pipsTold_4 rfl (lv_at hl 1 rfl) ?_
  have hi2 := br_ite hr
  refine lv_if_ne (tgt := 25) hx hb dX0_pipsTold_5 (by decide) (fun c2 => ?_) (fun c2 => ?_)
  · have hr := hi2.2 c2
    refine lv_aload_n hx hb dX0_pipsTold_25 rfl (lv_at hl 0 rfl) ?_
    refine va_get (D := D) (ci := 0) (v := .ref (ax 1)) (C := RX0) (T := TX0) (N := 17) hx hb hts in_X0 hown hG.1 hP 0 rfl rfl 1 (by decide) (hts _ q234) (fun _ h9 => h9) rfl dX0_pipsTold_26 ?_
    refine va_getN (D := D) (ci := 7) (v := .int (cG_left (xG_core0 g))) (C := RX8) (T := TX8) (N := 8) hx hb hts in_X8 hown hG.1 hP 1 rfl rfl 0 (by decide) (va_Nw.use rfl (hG.2.1 _ nq193)) (fun _ h9 => h9) rfl dX0_pipsTold_29 ?_
    refine lv_iconst (v := 2) hx hb dX0_pipsTold_32 rfl ?_
    obtain ⟨o3, ho3, hr⟩ := br_bind hr
    refine fwS (As := [.int (cG_left (xG_core0 g)), .int 2]) (rest := []) hx hb hml hown hts (m_X0_has l (cG_left (xG_core0 g)) (2 : Int32) o3 ho3) (cw_X0_has hts q594 ⟨Nat.le_of_ble_eq_true rfl, Nat.le_of_ble_eq_true rfl⟩) rfl hl.1 rfl (Nat.le_of_ble_eq_true rfl) dX0_pipsTold_33 ⟨Nat.le_of_ble_eq_true rfl, Nat.le_of_ble_eq_true rfl⟩ ?_
    have hi4 := br_ite hr
    refine lv_if_eq (tgt := 43) hx hb dX0_pipsTold_36 (by decide) (fun c4 => ?_) (fun c4 => ?_)
    · have hr := hi4.1 c4
      refine lv_iconst (v := 0) hx hb dX0_pipsTold_43 rfl ?_
      obtain rfl := Option.some.inj hr
      refine W.widen (k := rm_X0_pipsTold.cells) (n := rm_X0_pipsTold.slots) (Nat.le_of_ble_eq_true rfl) (Nat.le_of_ble_eq_true rfl) ?_
      subst hoc
      exact xx_ret (W.iret hx hb hrt (fun t ht _ => hS.q ht rfl) hS.2.2.2.2 dX0_pipsTold_44 hlk)
    · have hr := hi4.2 c4
      refine lv_iconst (v := 1) hx hb dX0_pipsTold_39 rfl ?_
      refine lv_goto (tgt := 44) hx hb dX0_pipsTold_40 (by decide) ?_
      obtain rfl := Option.some.inj hr
      refine W.widen (k := rm_X0_pipsTold.cells) (n := rm_X0_pipsTold.slots) (Nat.le_of_ble_eq_true rfl) (Nat.le_of_ble_eq_true rfl) ?_
      subst hoc
      exact xx_ret (W.iret hx hb hrt (fun t ht _ => hS.q ht rfl) hS.2.2.2.2 dX0_pipsTold_44 hlk)
  · have hr := hi2.1 c2
    refine lv_aload_n hx hb dX0_pipsTold_8 rfl (lv_at hl 0 rfl) ?_
    refine va_get (D := D) (ci := 0) (v := .ref (ax 1)) (C := RX0) (T := TX0) (N := 17) hx hb hts in_X0 hown hG.1 hP 0 rfl rfl 1 (by decide) (hts _ q234) (fun _ h9 => h9) rfl dX0_pipsTold_9 ?_
    refine va_getN (D := D) (ci := 7) (v := .int (cG_left (xG_core0 g))) (C := RX8) (T := TX8) (N := 8) hx hb hts in_X8 hown hG.1 hP 1 rfl rfl 0 (by decide) (va_Nw.use rfl (hG.2.1 _ nq193)) (fun _ h9 => h9) rfl dX0_pipsTold_12 ?_
    refine lv_sipush (v := 14336) hx hb dX0_pipsTold_15 rfl ?_
    refine lv_iand hx hb dX0_pipsTold_18 ?_
    obtain ⟨o5, ho5, hr⟩ := br_bind hr
    refine fwS (As := [.int ((cG_left (xG_core0 g)) &&& 14336)]) (rest := []) hx hb hml hown hts (m_X0_manyIn l ((cG_left (xG_core0 g)) &&& 14336) o5 ho5) (cw_X0_manyIn hts q654 ⟨Nat.le_of_ble_eq_true rfl, Nat.le_of_ble_eq_true rfl⟩) rfl hl.1 rfl (Nat.le_of_ble_eq_true rfl) dX0_pipsTold_19 ⟨Nat.le_of_ble_eq_true rfl, Nat.le_of_ble_eq_true rfl⟩ ?_
    refine lv_goto (tgt := 44) hx hb dX0_pipsTold_22 (by decide) ?_
    obtain rfl := Option.some.inj hr
    refine W.widen (k := rm_X0_pipsTold.cells) (n := rm_X0_pipsTold.slots) (Nat.le_of_ble_eq_true rfl) (Nat.le_of_ble_eq_true rfl) ?_
    subst hoc
    exact xx_ret (W.iret hx hb hrt (fun t ht _ => hS.q ht rfl) hS.2.2.2.2 dX0_pipsTold_44 hlk)
def f_X0_gainTold (g : XS) (a1 : Int32) (a2 : Int32) : Option ((Int32 × XS) ⊕ (Int32 × XS)) := bX (f_X0_mustBeTwo g a1 a2) (fun b1 => (b1.1, b1.2)) fun o1 => Option.bind (f_X0_gainOf o1 a1 a2) fun o2 => some (Sum.inl (o2.1, o2.2))
abbrev rm_X0_gainTold : Room := ({ frames := 13, cells := 6, slots := 39, locals := 496 })
theorem cw_X0_gainTold {R : Room} {s : State} {args : Array Value} {own : String} {index : Nat} (hts : ∀ w ∈ lw_all, w.before args s = true) (hlink : Cond.methodLink own index yX0_gainTold ∈ lw_all) (hR : rm_X0_gainTold.frames + 1 ≤ R.frames ∧ 8 + (3 + 11) + rm_X0_gainTold.locals ≤ R.locals) : CallW R s args own RX0 index yX0_gainTold cX0_gainTold 3 (some FieldType.int) (ws_ yX0_gainTold cX0_gainTold 3 (some FieldType.int)) rm_X0_gainTold rm_X0_gainTold.cells rm_X0_gainTold.slots 2 :=
  cwV 2 hts (lw_V hlink q902 qs49 q102 q903) rfl rfl rfl (by decide +kernel) hR
set_option maxHeartbeats 4000000 in
theorem m_X0_gainTold (l : Launch) (hst : l.stackTraces = false) (D : va_G) (ax : Nat → Nat) (ac : Nat → ClassId) (g : XS) (a1 : Int32) (a2 : Int32) (sz : Nat) (r0 : (Int32 × XS) ⊕ (Int32 × XS)) (hr : f_X0_gainTold g a1 a2 = some r0) : TM l yX0_gainTold cX0_gainTold 3 (some FieldType.int) rm_X0_gainTold [.ref (ax 0), .int a1, .int a2] D ac (wX ax ac g) sz (Sum.map (fun u => (wX ax ac u.2, (some (.int u.1)))) (fun u => (wX ax ac u.2, u.1)) r0) := by
  generalize hoc : (Sum.map (fun u => (wX ax ac u.2, (some (.int u.1)))) (fun u => (wX ax ac u.2, u.1)) r0 : Oc) = oc
  refine fw_ofT (by decide) (Nat.le_of_ble_eq_true rfl) ?_
  intro p e s m below meth c ls hx hb hrt hts hown hlk hml _ hnt hU hl
  obtain ⟨⟨rfl, hP, hG, hD⟩, hZ⟩ := hU
  have hA : ∀ q : Nat, s.heap.size ≤ q → (va_A (wX ax ac g) s.heap.size) q := fun q h => Or.inr h
  have hS := Stt.start hP hD
  show WT p l e rm_X0_gainTold s m [.ref (ax 0), .int a1, .int a2] below meth c D (va_A (wX ax ac g) s.heap.size) oc s.heap [] 0 0 0 ls []
  have hl : lv_has ls 3 [(0, .ref (ax 0)), (1, .int a1), (2, .int a2)] := hl
  rw [f_X0_gainTold] at hr
  refine lv_aload_n hx hb dX0_gainTold_0 rfl (lv_at hl 0 rfl) ?_
  refine lv_iload_n hx hb dX0_gainTold_1 rfl (lv_at hl 1 rfl) ?_
  refine lv_iload_n hx hb dX0_gainTold_2 rfl (lv_at hl 2 rfl) ?_
  rcases Or.symm (br_bX hr) with ⟨o1, ho1, rfl⟩ | ⟨o1, ho1, hr⟩
  · refine fwTVx (As := [.int a1, .int a2]) (rest := []) (C := RX0) hx hb hml hown hts (m_X0_mustBeTwo l hst D ax ac g a1 a2 _ _ ho1) (cw_X0_mustBeTwo hts q904 ⟨Nat.le_of_ble_eq_true rfl, Nat.le_of_ble_eq_true rfl⟩) hG hZ hS hA ixX nd_X (pk_X ax ac _) (ad_X ax ac _ _) 0 0 rfl rfl rfl hl.1 rfl (Nat.le_of_ble_eq_true rfl) dX0_gainTold_3 ⟨Nat.le_of_ble_eq_true rfl, Nat.le_of_ble_eq_true rfl⟩ (wn := wX ax ac o1.2) (rep_X ax ac _ _) (fun q_ ci_ H locs hci hS => ?_)
    subst hoc; exact fw_xout hnt hlk hG hci hS (Nat.le_of_ble_eq_true rfl) (Nat.le_of_ble_eq_true rfl)
  refine fwTVo (As := [.int a1, .int a2]) (rest := []) (C := RX0) hx hb hml hown hts (m_X0_mustBeTwo l hst D ax ac g a1 a2 _ _ ho1) (cw_X0_mustBeTwo hts q904 ⟨Nat.le_of_ble_eq_true rfl, Nat.le_of_ble_eq_true rfl⟩) hG hZ hS hA ixX nd_X (pk_X ax ac _) (ad_X ax ac _ _) 0 0 rfl rfl rfl hl.1 rfl (Nat.le_of_ble_eq_true rfl) dX0_gainTold_3 ⟨Nat.le_of_ble_eq_true rfl, Nat.le_of_ble_eq_true rfl⟩ (wn := wX ax ac o1) (rep_X ax ac _ _) (fun H locs hS => ?_)
  have hP := hS.1
  refine W.widen (k := 3) (n := 21) (by first | exact Nat.le_refl _ | (dsimp only [rm_X0_mustBeTwo]; omega)) (by first | exact Nat.le_refl _ | (dsimp only [rm_X0_mustBeTwo]; omega)) ?_
  refine lv_aload_n hx hb dX0_gainTold_6 rfl (lv_at hl 0 rfl) ?_
  refine lv_iload_n hx hb dX0_gainTold_7 rfl (lv_at hl 1 rfl) ?_
  refine lv_iload_n hx hb dX0_gainTold_8 rfl (lv_at hl 2 rfl) ?_
  obtain ⟨o2, ho2, hr⟩ := br_bind hr
  refine fwWVs (As := [.int a1, .int a2]) (rest := []) (C := RX0) hx hb hml hown hts (m_X0_gainOf l D ax ac o1 a1 a2 _ o2 ho2) (cw_X0_gainOf hts q908 ⟨Nat.le_of_ble_eq_true rfl, Nat.le_of_ble_eq_true rfl⟩) hG hS hA rfl 0 0 rfl rfl rfl hl.1 rfl (Nat.le_of_ble_eq_true rfl) dX0_gainTold_9 ⟨Nat.le_of_ble_eq_true rfl, Nat.le_of_ble_eq_true rfl⟩ (fun H locs hS => ?_)
  have hP := hS.1
  refine W.widen (k := 6) (n := 39) (by first | exact Nat.le_refl _ | (dsimp only [rm_X0_gainOf]; omega)) (by first | exact Nat.le_refl _ | (dsimp only [rm_X0_gainOf]; omega)) ?_
  obtain rfl := Option.some.inj hr
  refine W.widen (k := rm_X0_gainTold.cells) (n := rm_X0_gainTold.slots) (Nat.le_of_ble_eq_true rfl) (Nat.le_of_ble_eq_true rfl) ?_
  subst hoc
  exact xx_ret (W.iret hx hb hrt (fun t ht _ => hS.q ht rfl) hS.2.2.2.2 dX0_gainTold_12 hlk)
def f_X0_joinTold (g : XS) (a1 : Int32) : Option ((Int32 × XS) ⊕ (Int32 × XS)) := bX (f_X0_mustBeCell a1) (fun b1 => (b1, g)) fun o1 => Option.bind (f_X0_has (cG_left (xG_core0 g)) a1) fun o2 => Option.bind (α := Int32) (if o2 = 0 then some 1 else some 0) fun o4 => bX (f_X0_must o4 (-3 : Int32)) (fun b5 => (b5, g)) fun o5 => Option.bind (f_X0_openMind g) fun o6 => Option.bind (f_X8_leave (xG_mind o6) ((cG_left (xG_core0 o6)) ||| ((1 : Int32) <<< (a1 &&& 31)))) fun o7 => Option.bind (some (xS_mind o6 o7)) fun g8 => some (Sum.inl ((cG_pieceMany (xG_mind g8)), g8))
abbrev rm_X0_joinTold : Room := ({ frames := 12, cells := 2, slots := 14, locals := 222 })
theorem cw_X0_joinTold {R : Room} {s : State} {args : Array Value} {own : String} {index : Nat} (hts : ∀ w ∈ lw_all, w.before args s = true) (hlink : Cond.methodLink own index yX0_joinTold ∈ lw_all) (hR : rm_X0_joinTold.frames + 1 ≤ R.frames ∧ 8 + (2 + 11) + rm_X0_joinTold.locals ≤ R.locals) : CallW R s args own RX0 index yX0_joinTold cX0_joinTold 2 (some FieldType.int) (ws_ yX0_joinTold cX0_joinTold 2 (some FieldType.int)) rm_X0_joinTold rm_X0_joinTold.cells rm_X0_joinTold.slots 1 :=
  cwV 1 hts (lw_V hlink q914 qs52 q102 q915) rfl rfl rfl (by decide +kernel) hR
set_option maxHeartbeats 4000000 in
theorem m_X0_joinTold (l : Launch) (hst : l.stackTraces = false) (D : va_G) (ax : Nat → Nat) (ac : Nat → ClassId) (g : XS) (a1 : Int32) (sz : Nat) (r0 : (Int32 × XS) ⊕ (Int32 × XS)) (hr : f_X0_joinTold g a1 = some r0) : TM l yX0_joinTold cX0_joinTold 2 (some FieldType.int) rm_X0_joinTold [.ref (ax 0), .int a1] D ac (wX ax ac g) sz (Sum.map (fun u => (wX ax ac u.2, (some (.int u.1)))) (fun u => (wX ax ac u.2, u.1)) r0) := by
  generalize hoc : (Sum.map (fun u => (wX ax ac u.2, (some (.int u.1)))) (fun u => (wX ax ac u.2, u.1)) r0 : Oc) = oc
  refine fw_ofT (by decide) (Nat.le_of_ble_eq_true rfl) ?_
  intro p e s m below meth c ls hx hb hrt hts hown hlk hml _ hnt hU hl
  obtain ⟨⟨rfl, hP, hG, hD⟩, hZ⟩ := hU
  have hA : ∀ q : Nat, s.heap.size ≤ q → (va_A (wX ax ac g) s.heap.size) q := fun q h => Or.inr h
  have hS := Stt.start hP hD
  show WT p l e rm_X0_joinTold s m [.ref (ax 0), .int a1] below meth c D (va_A (wX ax ac g) s.heap.size) oc s.heap [] 0 0 0 ls []
  have hl : lv_has ls 2 [(0, .ref (ax 0)), (1, .int a1)] := hl
  rw [f_X0_joinTold] at hr
  refine lv_iload_n hx hb dX0_joinTold_0 rfl (lv_at hl 1 rfl) ?_
  rcases Or.symm (br_bX hr) with ⟨o1, ho1, rfl⟩ | ⟨o1, ho1, hr⟩
  · refine fwTSx (As := [.int a1]) (rest := []) hx hb hml hown hts (m_X0_mustBeCell l hst D ac a1 _ _ ho1) (cw_X0_mustBeCell hts q645 ⟨Nat.le_of_ble_eq_true rfl, Nat.le_of_ble_eq_true rfl⟩) hG hZ hS hA [] rfl rfl rfl rfl hl.1 rfl (Nat.le_of_ble_eq_true rfl) dX0_joinTold_1 ⟨Nat.le_of_ble_eq_true rfl, Nat.le_of_ble_eq_true rfl⟩ (wn := wX ax ac g) rfl (fun q_ ci_ H locs hci hS => ?_)
    subst hoc; exact fw_xout hnt hlk hG hci hS (Nat.le_of_ble_eq_true rfl) (Nat.le_of_ble_eq_true rfl)
  refine fwTSo (As := [.int a1]) (rest := []) hx hb hml hown hts (m_X0_mustBeCell l hst D ac a1 _ _ ho1) (cw_X0_mustBeCell hts q645 ⟨Nat.le_of_ble_eq_true rfl, Nat.le_of_ble_eq_true rfl⟩) hG hZ hS hA [] rfl rfl rfl rfl hl.1 rfl (Nat.le_of_ble_eq_true rfl) dX0_joinTold_1 ⟨Nat.le_of_ble_eq_true rfl, Nat.le_of_ble_eq_true rfl⟩ (wn := wX ax ac g) rfl (fun H locs hS => ?_)
  have hP := hS.1
  refine W.widen (k := 1) (n := 7) (by first | exact Nat.le_refl _ | (dsimp only [rm_X0_mustBeCell]; omega)) (by first | exact Nat.le_refl _ | (dsimp only [rm_X0_mustBeCell]; omega)) ?_
  refine lv_aload_n hx hb dX0_joinTold_4 rfl (lv_at hl 0 rfl) ?_
  refine va_get (D := D) (ci := 0) (v := .ref (ax 1)) (C := RX0) (T := TX0) (N := 17) hx hb hts in_X0 hown hG.1 hP 0 rfl rfl 1 (by decide) (hts _ q234) (fun _ h9 => h9) rfl dX0_joinTold_5 ?_
  refine va_getN (D := D) (ci := 7) (v := .int (cG_left (xG_core0 g))) (C := RX8) (T := TX8) (N := 8) hx hb hts in_X8 hown hG.1 hP 1 rfl rfl 0 (by decide) (va_Nw.use rfl (hG.2.1 _ nq193)) (fun _ h9 => h9) rfl dX0_joinTold_8 ?_
  refine lv_iload_n hx hb dX0_joinTold_11 rfl (lv_at hl 1 rfl) ?_
  obtain ⟨o2, ho2, hr⟩ := br_bind hr
  refine fwS (As := [.int (cG_left (xG_core0 g)), .int a1]) (rest := []) hx hb hml hown hts (m_X0_has l (cG_left (xG_core0 g)) a1 o2 ho2) (cw_X0_has hts q594 ⟨Nat.le_of_ble_eq_true rfl, Nat.le_of_ble_eq_true rfl⟩) rfl hl.1 rfl (Nat.le_of_ble_eq_true rfl) dX0_joinTold_12 ⟨Nat.le_of_ble_eq_true rfl, Nat.le_of_ble_eq_true rfl⟩ ?_
  obtain ⟨o4, ho4, hr⟩ := br_bind hr
  have J4 : ∀ (H : Heap) (locs : List Loc) ls, lv_has ls 2 [(0, .ref (ax 0)), (1, .int a1)] → Stt D (va_A (wX ax ac g) s.heap.size) s.heap (wX ax ac g) H locs → WT p l e rm_X0_joinTold s m [.ref (ax 0), .int a1] below meth c D (va_A (wX ax ac g) s.heap.size) oc H locs 1 7 23 ls [.int o4] := by
    intro H locs ls hl hS
    have hP := hS.1
    refine lv_bipush (v := (-3)) hx hb dX0_joinTold_23 rfl ?_
    rcases Or.symm (br_bX hr) with ⟨o5, ho5, rfl⟩ | ⟨o5, ho5, hr⟩
    · refine fwTSx (As := [.int o4, .int (-3)]) (rest := []) hx hb hml hown hts (m_X0_must l hst D ac o4 (-3 : Int32) _ _ ho5) (cw_X0_must hts q315 ⟨Nat.le_of_ble_eq_true rfl, Nat.le_of_ble_eq_true rfl⟩) hG hZ hS hA [] rfl rfl rfl rfl hl.1 rfl (Nat.le_of_ble_eq_true rfl) dX0_joinTold_25 ⟨Nat.le_of_ble_eq_true rfl, Nat.le_of_ble_eq_true rfl⟩ (wn := wX ax ac g) rfl (fun q_ ci_ H locs hci hS => ?_)
      subst hoc; exact fw_xout hnt hlk hG hci hS (Nat.le_of_ble_eq_true rfl) (Nat.le_of_ble_eq_true rfl)
    refine fwTSo (As := [.int o4, .int (-3)]) (rest := []) hx hb hml hown hts (m_X0_must l hst D ac o4 (-3 : Int32) _ _ ho5) (cw_X0_must hts q315 ⟨Nat.le_of_ble_eq_true rfl, Nat.le_of_ble_eq_true rfl⟩) hG hZ hS hA [] rfl rfl rfl rfl hl.1 rfl (Nat.le_of_ble_eq_true rfl) dX0_joinTold_25 ⟨Nat.le_of_ble_eq_true rfl, Nat.le_of_ble_eq_true rfl⟩ (wn := wX ax ac g) rfl (fun H locs hS => ?_)
    have hP := hS.1
    refine W.widen (k := 2) (n := 14) (by first | exact Nat.le_refl _ | (dsimp only [rm_X0_must]; omega)) (by first | exact Nat.le_refl _ | (dsimp only [rm_X0_must]; omega)) ?_
    refine lv_aload_n hx hb dX0_joinTold_28 rfl (lv_at hl 0 rfl) ?_
    obtain ⟨o6, ho6, hr⟩ := br_bind hr
    refine fwWVs (As := []) (rest := []) (C := RX0) hx hb hml hown hts (m_X0_openMind l D ax ac g _ o6 ho6) (cw_X0_openMind hts q818 ⟨Nat.le_of_ble_eq_true rfl, Nat.le_of_ble_eq_true rfl⟩) hG hS hA rfl 0 0 rfl rfl rfl hl.1 rfl (Nat.le_of_ble_eq_true rfl) dX0_joinTold_29 ⟨Nat.le_of_ble_eq_true rfl, Nat.le_of_ble_eq_true rfl⟩ (fun H locs hS => ?_)
    have hP := hS.1
    refine lv_aload_n hx hb dX0_joinTold_32 rfl (lv_at hl 0 rfl) ?_
    refine va_get (D := D) (ci := 0) (v := .ref (ax 1)) (C := RX0) (T := TX0) (N := 17) hx hb hts in_X0 hown hG.1 hP 0 rfl rfl 1 (by decide) (hts _ q234) (fun _ h9 => h9) rfl dX0_joinTold_33 ?_
    refine va_getN (D := D) (ci := 7) (v := .int (cG_left (xG_core0 o6))) (C := RX8) (T := TX8) (N := 8) hx hb hts in_X8 hown hG.1 hP 1 rfl rfl 0 (by decide) (va_Nw.use rfl (hG.2.1 _ nq193)) (fun _ h9 => h9) rfl dX0_joinTold_36 ?_
    refine lv_iconst (v := 1) hx hb dX0_joinTold_39 rfl ?_
    refine lv_iload_n hx hb dX0_joinTold_40 rfl (lv_at hl 1 rfl) ?_
    refine lv_ishl hx hb dX0_joinTold_41 ?_
    refine lv_ior hx hb dX0_joinTold_42 ?_
    obtain ⟨o7, ho7, hr⟩ := br_bind hr
    obtain ⟨g8, hg8, hr⟩ := br_let hr
    refine fwWV (As := [.int ((cG_left (xG_core0 o6)) ||| ((1 : Int32) <<< (a1 &&& 31)))]) (rest := []) (C := RX8) hx hb hml hown hts (m_X8_leave l D ax ac (ax 4) (ax 5) (ax 6) (xG_mind o6) ((cG_left (xG_core0 o6)) ||| ((1 : Int32) <<< (a1 &&& 31))) _ o7 ho7) (cw_X8_leave hts q748 ⟨Nat.le_of_ble_eq_true rfl, Nat.le_of_ble_eq_true rfl⟩) hG hS hA [4, 5, 6] rfl rfl rfl 4 7 rfl rfl rfl hl.1 rfl (Nat.le_of_ble_eq_true rfl) dX0_joinTold_43 ⟨Nat.le_of_ble_eq_true rfl, Nat.le_of_ble_eq_true rfl⟩ (wn := wX ax ac g8) (by rw [hg8]; rfl) (fun H locs hS => ?_)
    have hP := hS.1
    refine va_getN (D := D) (ci := 7) (v := .int (cG_pieceMany (xG_mind g8))) (C := RX8) (T := TX8) (N := 8) hx hb hts in_X8 hown hG.1 hP 4 rfl rfl 6 (by decide) (va_Nw.use rfl (hG.2.1 _ nq211)) (fun _ h9 => h9) rfl dX0_joinTold_46 ?_
    obtain rfl := Option.some.inj hr
    refine W.widen (k := rm_X0_joinTold.cells) (n := rm_X0_joinTold.slots) (Nat.le_of_ble_eq_true rfl) (Nat.le_of_ble_eq_true rfl) ?_
    subst hoc
    exact xx_ret (W.iret hx hb hrt (fun t ht _ => hS.q ht rfl) hS.2.2.2.2 dX0_joinTold_49 hlk)
  have hr := ho4
  have hi3 := br_ite hr
  refine lv_if_ne (tgt := 22) hx hb dX0_joinTold_15 (by decide) (fun c3 => ?_) (fun c3 => ?_)
  · have hr := hi3.2 c3
    refine lv_iconst (v := 0) hx hb dX0_joinTold_22 rfl ?_
    obtain rfl := Option.some.inj hr
    exact J4 _ _ ls (lv_sub hl [0, 1] rfl) hS
  · have hr := hi3.1 c3
    refine lv_iconst (v := 1) hx hb dX0_joinTold_18 rfl ?_
    refine lv_goto (tgt := 23) hx hb dX0_joinTold_19 (by decide) ?_
    obtain rfl := Option.some.inj hr
    exact J4 _ _ ls (lv_sub hl [0, 1] rfl) hS
def f_X0_twoTold (g : XS) (a1 : Int32) (a2 : Int32) : Option ((Int32 × XS) ⊕ (Int32 × XS)) := bX (f_X0_mustBeTwo g a1 a2) (fun b1 => (b1.1, b1.2)) fun o1 => Option.bind (f_X0_restingBites o1 a1 a2) fun o2 => some (Sum.inl (o2.1, o2.2))
abbrev rm_X0_twoTold : Room := ({ frames := 13, cells := 123, slots := 741, locals := 498 })
theorem cw_X0_twoTold {R : Room} {s : State} {args : Array Value} {own : String} {index : Nat} (hts : ∀ w ∈ lw_all, w.before args s = true) (hlink : Cond.methodLink own index yX0_twoTold ∈ lw_all) (hR : rm_X0_twoTold.frames + 1 ≤ R.frames ∧ 8 + (3 + 11) + rm_X0_twoTold.locals ≤ R.locals) : CallW R s args own RX0 index yX0_twoTold cX0_twoTold 3 (some FieldType.int) (ws_ yX0_twoTold cX0_twoTold 3 (some FieldType.int)) rm_X0_twoTold rm_X0_twoTold.cells rm_X0_twoTold.slots 2 :=
  cwV 2 hts (lw_V hlink q937 qs57 q102 q938) rfl rfl rfl (by decide +kernel) hR
set_option maxHeartbeats 4000000 in
theorem m_X0_twoTold (l : Launch) (hst : l.stackTraces = false) (D : va_G) (ax : Nat → Nat) (ac : Nat → ClassId) (g : XS) (a1 : Int32) (a2 : Int32) (sz : Nat) (r0 : (Int32 × XS) ⊕ (Int32 × XS)) (hr : f_X0_twoTold g a1 a2 = some r0) : TM l yX0_twoTold cX0_twoTold 3 (some FieldType.int) rm_X0_twoTold [.ref (ax 0), .int a1, .int a2] D ac (wX ax ac g) sz (Sum.map (fun u => (wX ax ac u.2, (some (.int u.1)))) (fun u => (wX ax ac u.2, u.1)) r0) := by
  generalize hoc : (Sum.map (fun u => (wX ax ac u.2, (some (.int u.1)))) (fun u => (wX ax ac u.2, u.1)) r0 : Oc) = oc
  refine fw_ofT (by decide) (Nat.le_of_ble_eq_true rfl) ?_
  intro p e s m below meth c ls hx hb hrt hts hown hlk hml _ hnt hU hl
  obtain ⟨⟨rfl, hP, hG, hD⟩, hZ⟩ := hU
  have hA : ∀ q : Nat, s.heap.size ≤ q → (va_A (wX ax ac g) s.heap.size) q := fun q h => Or.inr h
  have hS := Stt.start hP hD
  show WT p l e rm_X0_twoTold s m [.ref (ax 0), .int a1, .int a2] below meth c D (va_A (wX ax ac g) s.heap.size) oc s.heap [] 0 0 0 ls []
  have hl : lv_has ls 3 [(0, .ref (ax 0)), (1, .int a1), (2, .int a2)] := hl
  rw [f_X0_twoTold] at hr
  refine lv_aload_n hx hb dX0_twoTold_0 rfl (lv_at hl 0 rfl) ?_
  refine lv_iload_n hx hb dX0_twoTold_1 rfl (lv_at hl 1 rfl) ?_
  refine lv_iload_n hx hb dX0_twoTold_2 rfl (lv_at hl 2 rfl) ?_
  rcases Or.symm (br_bX hr) with ⟨o1, ho1, rfl⟩ | ⟨o1, ho1, hr⟩
  · refine fwTVx (As := [.int a1, .int a2]) (rest := []) (C := RX0) hx hb hml hown hts (m_X0_mustBeTwo l hst D ax ac g a1 a2 _ _ ho1) (cw_X0_mustBeTwo hts q904 ⟨Nat.le_of_ble_eq_true rfl, Nat.le_of_ble_eq_true rfl⟩) hG hZ hS hA ixX nd_X (pk_X ax ac _) (ad_X ax ac _ _) 0 0 rfl rfl rfl hl.1 rfl (Nat.le_of_ble_eq_true rfl) dX0_twoTold_3 ⟨Nat.le_of_ble_eq_true rfl, Nat.le_of_ble_eq_true rfl⟩ (wn := wX ax ac o1.2) (rep_X ax ac _ _) (fun q_ ci_ H locs hci hS => ?_)
    subst hoc; exact fw_xout hnt hlk hG hci hS (Nat.le_of_ble_eq_true rfl) (Nat.le_of_ble_eq_true rfl)
  refine fwTVo (As := [.int a1, .int a2]) (rest := []) (C := RX0) hx hb hml hown hts (m_X0_mustBeTwo l hst D ax ac g a1 a2 _ _ ho1) (cw_X0_mustBeTwo hts q904 ⟨Nat.le_of_ble_eq_true rfl, Nat.le_of_ble_eq_true rfl⟩) hG hZ hS hA ixX nd_X (pk_X ax ac _) (ad_X ax ac _ _) 0 0 rfl rfl rfl hl.1 rfl (Nat.le_of_ble_eq_true rfl) dX0_twoTold_3 ⟨Nat.le_of_ble_eq_true rfl, Nat.le_of_ble_eq_true rfl⟩ (wn := wX ax ac o1) (rep_X ax ac _ _) (fun H locs hS => ?_)
  have hP := hS.1
  refine W.widen (k := 3) (n := 21) (by first | exact Nat.le_refl _ | (dsimp only [rm_X0_mustBeTwo]; omega)) (by first | exact Nat.le_refl _ | (dsimp only [rm_X0_mustBeTwo]; omega)) ?_
  refine lv_aload_n hx hb dX0_twoTold_6 rfl (lv_at hl 0 rfl) ?_
  refine lv_iload_n hx hb dX0_twoTold_7 rfl (lv_at hl 1 rfl) ?_
  refine lv_iload_n hx hb dX0_twoTold_8 rfl (lv_at hl 2 rfl) ?_
  obtain ⟨o2, ho2, hr⟩ := br_bind hr
  refine fwWVs (As := [.int a1, .int a2]) (rest := []) (C := RX0) hx hb hml hown hts (m_X0_restingBites l D ax ac o1 a1 a2 _ o2 ho2) (cw_X0_restingBites hts q939 ⟨Nat.le_of_ble_eq_true rfl, Nat.le_of_ble_eq_true rfl⟩) hG hS hA rfl 0 0 rfl rfl rfl hl.1 rfl (Nat.le_of_ble_eq_true rfl) dX0_twoTold_9 ⟨Nat.le_of_ble_eq_true rfl, Nat.le_of_ble_eq_true rfl⟩ (fun H locs hS => ?_)
  have hP := hS.1
  refine W.widen (k := 123) (n := 741) (by first | exact Nat.le_refl _ | (dsimp only [rm_X0_restingBites]; omega)) (by first | exact Nat.le_refl _ | (dsimp only [rm_X0_restingBites]; omega)) ?_
  obtain rfl := Option.some.inj hr
  refine W.widen (k := rm_X0_twoTold.cells) (n := rm_X0_twoTold.slots) (Nat.le_of_ble_eq_true rfl) (Nat.le_of_ble_eq_true rfl) ?_
  subst hoc
  exact xx_ret (W.iret hx hb hrt (fun t ht _ => hS.q ht rfl) hS.2.2.2.2 dX0_twoTold_12 hlk)
def f_X0_whatTold (g : XS) (a1 : Int32) (a2 : Int32) : Option ((Int32 × XS) ⊕ (Int32 × XS)) := bX (f_X0_mustBeHeir g a1) (fun b1 => (b1.1, b1.2)) fun o1 => bX (f_X0_mustBeBit a2) (fun b2 => (b2, o1)) fun o2 => Option.bind (f_X0_fitting o1 a1 a2) fun o3 => some (Sum.inl (o3.1, o3.2))
abbrev rm_X0_whatTold : Room := ({ frames := 12, cells := 2, slots := 14, locals := 470 })
theorem cw_X0_whatTold {R : Room} {s : State} {args : Array Value} {own : String} {index : Nat} (hts : ∀ w ∈ lw_all, w.before args s = true) (hlink : Cond.methodLink own index yX0_whatTold ∈ lw_all) (hR : rm_X0_whatTold.frames + 1 ≤ R.frames ∧ 8 + (3 + 11) + rm_X0_whatTold.locals ≤ R.locals) : CallW R s args own RX0 index yX0_whatTold cX0_whatTold 3 (some FieldType.int) (ws_ yX0_whatTold cX0_whatTold 3 (some FieldType.int)) rm_X0_whatTold rm_X0_whatTold.cells rm_X0_whatTold.slots 2 :=
  cwV 2 hts (lw_V hlink q956 qs61 q102 q957) rfl rfl rfl (by decide +kernel) hR
set_option maxHeartbeats 4000000 in
theorem m_X0_whatTold (l : Launch) (hst : l.stackTraces = false) (D : va_G) (ax : Nat → Nat) (ac : Nat → ClassId) (g : XS) (a1 : Int32) (a2 : Int32) (sz : Nat) (r0 : (Int32 × XS) ⊕ (Int32 × XS)) (hr : f_X0_whatTold g a1 a2 = some r0) : TM l yX0_whatTold cX0_whatTold 3 (some FieldType.int) rm_X0_whatTold [.ref (ax 0), .int a1, .int a2] D ac (wX ax ac g) sz (Sum.map (fun u => (wX ax ac u.2, (some (.int u.1)))) (fun u => (wX ax ac u.2, u.1)) r0) := by
  generalize hoc : (Sum.map (fun u => (wX ax ac u.2, (some (.int u.1)))) (fun u => (wX ax ac u.2, u.1)) r0 : Oc) = oc
  refine fw_ofT (by decide) (Nat.le_of_ble_eq_true rfl) ?_
  intro p e s m below meth c ls hx hb hrt hts hown hlk hml _ hnt hU hl
  obtain ⟨⟨rfl, hP, hG, hD⟩, hZ⟩ := hU
  have hA : ∀ q : Nat, s.heap.size ≤ q → (va_A (wX ax ac g) s.heap.size) q := fun q h => Or.inr h
  have hS := Stt.start hP hD
  show WT p l e rm_X0_whatTold s m [.ref (ax 0), .int a1, .int a2] below meth c D (va_A (wX ax ac g) s.heap.size) oc s.heap [] 0 0 0 ls []
  have hl : lv_has ls 3 [(0, .ref (ax 0)), (1, .int a1), (2, .int a2)] := hl
  rw [f_X0_whatTold] at hr
  refine lv_aload_n hx hb dX0_whatTold_0 rfl (lv_at hl 0 rfl) ?_
  refine lv_iload_n hx hb dX0_whatTold_1 rfl (lv_at hl 1 rfl) ?_
  rcases Or.symm (br_bX hr) with ⟨o1, ho1, rfl⟩ | ⟨o1, ho1, hr⟩
  · refine fwTVx (As := [.int a1]) (rest := []) (C := RX0) hx hb hml hown hts (m_X0_mustBeHeir l hst D ax ac g a1 _ _ ho1) (cw_X0_mustBeHeir hts q659 ⟨Nat.le_of_ble_eq_true rfl, Nat.le_of_ble_eq_true rfl⟩) hG hZ hS hA ixX nd_X (pk_X ax ac _) (ad_X ax ac _ _) 0 0 rfl rfl rfl hl.1 rfl (Nat.le_of_ble_eq_true rfl) dX0_whatTold_2 ⟨Nat.le_of_ble_eq_true rfl, Nat.le_of_ble_eq_true rfl⟩ (wn := wX ax ac o1.2) (rep_X ax ac _ _) (fun q_ ci_ H locs hci hS => ?_)
    subst hoc; exact fw_xout hnt hlk hG hci hS (Nat.le_of_ble_eq_true rfl) (Nat.le_of_ble_eq_true rfl)
  refine fwTVo (As := [.int a1]) (rest := []) (C := RX0) hx hb hml hown hts (m_X0_mustBeHeir l hst D ax ac g a1 _ _ ho1) (cw_X0_mustBeHeir hts q659 ⟨Nat.le_of_ble_eq_true rfl, Nat.le_of_ble_eq_true rfl⟩) hG hZ hS hA ixX nd_X (pk_X ax ac _) (ad_X ax ac _ _) 0 0 rfl rfl rfl hl.1 rfl (Nat.le_of_ble_eq_true rfl) dX0_whatTold_2 ⟨Nat.le_of_ble_eq_true rfl, Nat.le_of_ble_eq_true rfl⟩ (wn := wX ax ac o1) (rep_X ax ac _ _) (fun H locs hS => ?_)
  have hP := hS.1
  refine W.widen (k := 1) (n := 7) (by first | exact Nat.le_refl _ | (dsimp only [rm_X0_mustBeHeir]; omega)) (by first | exact Nat.le_refl _ | (dsimp only [rm_X0_mustBeHeir]; omega)) ?_
  refine lv_iload_n hx hb dX0_whatTold_5 rfl (lv_at hl 2 rfl) ?_
  rcases Or.symm (br_bX hr) with ⟨o2, ho2, rfl⟩ | ⟨o2, ho2, hr⟩
  · refine fwTSx (As := [.int a2]) (rest := []) hx hb hml hown hts (m_X0_mustBeBit l hst D ac a2 _ _ ho2) (cw_X0_mustBeBit hts q773 ⟨Nat.le_of_ble_eq_true rfl, Nat.le_of_ble_eq_true rfl⟩) hG hZ hS hA [] rfl rfl rfl rfl hl.1 rfl (Nat.le_of_ble_eq_true rfl) dX0_whatTold_6 ⟨Nat.le_of_ble_eq_true rfl, Nat.le_of_ble_eq_true rfl⟩ (wn := wX ax ac o1) rfl (fun q_ ci_ H locs hci hS => ?_)
    subst hoc; exact fw_xout hnt hlk hG hci hS (Nat.le_of_ble_eq_true rfl) (Nat.le_of_ble_eq_true rfl)
  refine fwTSo (As := [.int a2]) (rest := []) hx hb hml hown hts (m_X0_mustBeBit l hst D ac a2 _ _ ho2) (cw_X0_mustBeBit hts q773 ⟨Nat.le_of_ble_eq_true rfl, Nat.le_of_ble_eq_true rfl⟩) hG hZ hS hA [] rfl rfl rfl rfl hl.1 rfl (Nat.le_of_ble_eq_true rfl) dX0_whatTold_6 ⟨Nat.le_of_ble_eq_true rfl, Nat.le_of_ble_eq_true rfl⟩ (wn := wX ax ac o1) rfl (fun H locs hS => ?_)
  have hP := hS.1
  refine W.widen (k := 2) (n := 14) (by first | exact Nat.le_refl _ | (dsimp only [rm_X0_mustBeBit]; omega)) (by first | exact Nat.le_refl _ | (dsimp only [rm_X0_mustBeBit]; omega)) ?_
  refine lv_aload_n hx hb dX0_whatTold_9 rfl (lv_at hl 0 rfl) ?_
  refine lv_iload_n hx hb dX0_whatTold_10 rfl (lv_at hl 1 rfl) ?_
  refine lv_iload_n hx hb dX0_whatTold_11 rfl (lv_at hl 2 rfl) ?_
  obtain ⟨o3, ho3, hr⟩ := br_bind hr
  refine fwWVs (As := [.int a1, .int a2]) (rest := []) (C := RX0) hx hb hml hown hts (m_X0_fitting l D ax ac o1 a1 a2 _ o3 ho3) (cw_X0_fitting hts q958 ⟨Nat.le_of_ble_eq_true rfl, Nat.le_of_ble_eq_true rfl⟩) hG hS hA rfl 0 0 rfl rfl rfl hl.1 rfl (Nat.le_of_ble_eq_true rfl) dX0_whatTold_12 ⟨Nat.le_of_ble_eq_true rfl, Nat.le_of_ble_eq_true rfl⟩ (fun H locs hS => ?_)
  have hP := hS.1
  obtain rfl := Option.some.inj hr
  refine W.widen (k := rm_X0_whatTold.cells) (n := rm_X0_whatTold.slots) (Nat.le_of_ble_eq_true rfl) (Nat.le_of_ble_eq_true rfl) ?_
  subst hoc
  exact xx_ret (W.iret hx hb hrt (fun t ht _ => hS.q ht rfl) hS.2.2.2.2 dX0_whatTold_15 hlk)
def f_X0_lotsTold (g : XS) (a1 : Int32) (a2 : Int32) (a3 : Int32) : Option ((Int32 × XS) ⊕ (Int32 × XS)) := bX (f_X0_within (Int32.toInt64 a1) (1 : Int64) (20 : Int64)) (fun b1 => (b1, g)) fun o1 => bX (f_X0_mustBeBit a3) (fun b2 => (b2, g)) fun o2 => Option.bind (f_X0_byLots g a1 a2 a3) fun o3 => some (Sum.inl (o3.1, o3.2))
abbrev rm_X0_lotsTold : Room := ({ frames := 11, cells := 3, slots := 21, locals := 472 })
theorem cw_X0_lotsTold {R : Room} {s : State} {args : Array Value} {own : String} {index : Nat} (hts : ∀ w ∈ lw_all, w.before args s = true) (hlink : Cond.methodLink own index yX0_lotsTold ∈ lw_all) (hR : rm_X0_lotsTold.frames + 1 ≤ R.frames ∧ 8 + (4 + 11) + rm_X0_lotsTold.locals ≤ R.locals) : CallW R s args own RX0 index yX0_lotsTold cX0_lotsTold 4 (some FieldType.int) (ws_ yX0_lotsTold cX0_lotsTold 4 (some FieldType.int)) rm_X0_lotsTold rm_X0_lotsTold.cells rm_X0_lotsTold.slots 3 :=
  cwV 3 hts (lw_V hlink q973 qs65 q102 q974) rfl rfl rfl (by decide +kernel) hR
set_option maxHeartbeats 4000000 in
theorem m_X0_lotsTold (l : Launch) (hst : l.stackTraces = false) (D : va_G) (ax : Nat → Nat) (ac : Nat → ClassId) (g : XS) (a1 : Int32) (a2 : Int32) (a3 : Int32) (sz : Nat) (r0 : (Int32 × XS) ⊕ (Int32 × XS)) (hr : f_X0_lotsTold g a1 a2 a3 = some r0) : TM l yX0_lotsTold cX0_lotsTold 4 (some FieldType.int) rm_X0_lotsTold [.ref (ax 0), .int a1, .int a2, .int a3] D ac (wX ax ac g) sz (Sum.map (fun u => (wX ax ac u.2, (some (.int u.1)))) (fun u => (wX ax ac u.2, u.1)) r0) := by
  generalize hoc : (Sum.map (fun u => (wX ax ac u.2, (some (.int u.1)))) (fun u => (wX ax ac u.2, u.1)) r0 : Oc) = oc
  refine fw_ofT (by decide) (Nat.le_of_ble_eq_true rfl) ?_
  intro p e s m below meth c ls hx hb hrt hts hown hlk hml _ hnt hU hl
  obtain ⟨⟨rfl, hP, hG, hD⟩, hZ⟩ := hU
  have hA : ∀ q : Nat, s.heap.size ≤ q → (va_A (wX ax ac g) s.heap.size) q := fun q h => Or.inr h
  have hS := Stt.start hP hD
  show WT p l e rm_X0_lotsTold s m [.ref (ax 0), .int a1, .int a2, .int a3] below meth c D (va_A (wX ax ac g) s.heap.size) oc s.heap [] 0 0 0 ls []
  have hl : lv_has ls 4 [(0, .ref (ax 0)), (1, .int a1), (2, .int a2), (3, .int a3)] := hl
  rw [f_X0_lotsTold] at hr
  refine lv_iload_n hx hb dX0_lotsTold_0 rfl (lv_at hl 1 rfl) ?_
  refine lv_i2l (v := (Int32.toInt64 a1)) hx hb dX0_lotsTold_1 rfl ?_
  refine lv_lconst (v := 1) hx hb dX0_lotsTold_2 rfl ?_
  refine lv_ldc2 (v := 20) hx hb hown (hts _ q975) dX0_lotsTold_3 ?_
  rcases Or.symm (br_bX hr) with ⟨o1, ho1, rfl⟩ | ⟨o1, ho1, hr⟩
  · refine fwTSx (As := [.long (Int32.toInt64 a1), .long 1, .long 20]) (rest := []) hx hb hml hown hts (m_X0_within l hst D ac (Int32.toInt64 a1) (1 : Int64) (20 : Int64) _ _ ho1) (cw_X0_within hts q312 ⟨Nat.le_of_ble_eq_true rfl, Nat.le_of_ble_eq_true rfl⟩) hG hZ hS hA [] rfl rfl rfl rfl hl.1 rfl (Nat.le_of_ble_eq_true rfl) dX0_lotsTold_6 ⟨Nat.le_of_ble_eq_true rfl, Nat.le_of_ble_eq_true rfl⟩ (wn := wX ax ac g) rfl (fun q_ ci_ H locs hci hS => ?_)
    subst hoc; exact fw_xout hnt hlk hG hci hS (Nat.le_of_ble_eq_true rfl) (Nat.le_of_ble_eq_true rfl)
  refine fwTSo (As := [.long (Int32.toInt64 a1), .long 1, .long 20]) (rest := []) hx hb hml hown hts (m_X0_within l hst D ac (Int32.toInt64 a1) (1 : Int64) (20 : Int64) _ _ ho1) (cw_X0_within hts q312 ⟨Nat.le_of_ble_eq_true rfl, Nat.le_of_ble_eq_true rfl⟩) hG hZ hS hA [] rfl rfl rfl rfl hl.1 rfl (Nat.le_of_ble_eq_true rfl) dX0_lotsTold_6 ⟨Nat.le_of_ble_eq_true rfl, Nat.le_of_ble_eq_true rfl⟩ (wn := wX ax ac g) rfl (fun H locs hS => ?_)
  have hP := hS.1
  refine W.widen (k := 2) (n := 14) (by first | exact Nat.le_refl _ | (dsimp only [rm_X0_within]; omega)) (by first | exact Nat.le_refl _ | (dsimp only [rm_X0_within]; omega)) ?_
  refine lv_iload_n hx hb dX0_lotsTold_9 rfl (lv_at hl 3 rfl) ?_
  rcases Or.symm (br_bX hr) with ⟨o2, ho2, rfl⟩ | ⟨o2, ho2, hr⟩
  · refine fwTSx (As := [.int a3]) (rest := []) hx hb hml hown hts (m_X0_mustBeBit l hst D ac a3 _ _ ho2) (cw_X0_mustBeBit hts q773 ⟨Nat.le_of_ble_eq_true rfl, Nat.le_of_ble_eq_true rfl⟩) hG hZ hS hA [] rfl rfl rfl rfl hl.1 rfl (Nat.le_of_ble_eq_true rfl) dX0_lotsTold_10 ⟨Nat.le_of_ble_eq_true rfl, Nat.le_of_ble_eq_true rfl⟩ (wn := wX ax ac g) rfl (fun q_ ci_ H locs hci hS => ?_)
    subst hoc; exact fw_xout hnt hlk hG hci hS (Nat.le_of_ble_eq_true rfl) (Nat.le_of_ble_eq_true rfl)
  refine fwTSo (As := [.int a3]) (rest := []) hx hb hml hown hts (m_X0_mustBeBit l hst D ac a3 _ _ ho2) (cw_X0_mustBeBit hts q773 ⟨Nat.le_of_ble_eq_true rfl, Nat.le_of_ble_eq_true rfl⟩) hG hZ hS hA [] rfl rfl rfl rfl hl.1 rfl (Nat.le_of_ble_eq_true rfl) dX0_lotsTold_10 ⟨Nat.le_of_ble_eq_true rfl, Nat.le_of_ble_eq_true rfl⟩ (wn := wX ax ac g) rfl (fun H locs hS => ?_)
  have hP := hS.1
  refine W.widen (k := 3) (n := 21) (by first | exact Nat.le_refl _ | (dsimp only [rm_X0_mustBeBit]; omega)) (by first | exact Nat.le_refl _ | (dsimp only [rm_X0_mustBeBit]; omega)) ?_
  refine lv_aload_n hx hb dX0_lotsTold_13 rfl (lv_at hl 0 rfl) ?_
  refine lv_iload_n hx hb dX0_lotsTold_14 rfl (lv_at hl 1 rfl) ?_
  refine lv_iload_n hx hb dX0_lotsTold_15 rfl (lv_at hl 2 rfl) ?_
  refine lv_iload_n hx hb dX0_lotsTold_16 rfl (lv_at hl 3 rfl) ?_
  obtain ⟨o3, ho3, hr⟩ := br_bind hr
  refine fwWVs (As := [.int a1, .int a2, .int a3]) (rest := []) (C := RX0) hx hb hml hown hts (m_X0_byLots l D ax ac g a1 a2 a3 _ o3 ho3) (cw_X0_byLots hts q976 ⟨Nat.le_of_ble_eq_true rfl, Nat.le_of_ble_eq_true rfl⟩) hG hS hA rfl 0 0 rfl rfl rfl hl.1 rfl (Nat.le_of_ble_eq_true rfl) dX0_lotsTold_17 ⟨Nat.le_of_ble_eq_true rfl, Nat.le_of_ble_eq_true rfl⟩ (fun H locs hS => ?_)
  have hP := hS.1
  obtain rfl := Option.some.inj hr
  refine W.widen (k := rm_X0_lotsTold.cells) (n := rm_X0_lotsTold.slots) (Nat.le_of_ble_eq_true rfl) (Nat.le_of_ble_eq_true rfl) ?_
  subst hoc
  exact xx_ret (W.iret hx hb hrt (fun t ht _ => hS.q ht rfl) hS.2.2.2.2 dX0_lotsTold_20 hlk)
def f_X0_piecesTold (g : XS) (a1 : Int32) : Option ((Int32 × XS) ⊕ (Int32 × XS)) := Option.bind (f_X0_in (Int32.toInt64 a1) (0 : Int64) (3 : Int64)) fun o1 => bX (f_X0_must o1 (-2 : Int32)) (fun b2 => (b2, g)) fun o2 => if 2 ≤ a1 then Option.bind (f_X8_isInChancery (xG_core0 g)) fun o4 => if o4 = 0 then if a1 = 2 then Option.bind (f_X0_leastIn (cG_deed (xG_core0 g))) fun o8 => some (Sum.inl (o8, g)) else Option.bind (f_X0_manyIn (cG_deed (xG_core0 g))) fun o7 => some (Sum.inl (o7, g)) else some (Sum.inl ((-9), g)) else if a1 = 0 then some (Sum.inl ((cG_pieceMany (xG_core0 g)), g)) else some (Sum.inl ((cG_leastPiece (xG_core0 g)), g))
abbrev rm_X0_piecesTold : Room := ({ frames := 10, cells := 1, slots := 7, locals := 181 })
theorem cw_X0_piecesTold {R : Room} {s : State} {args : Array Value} {own : String} {index : Nat} (hts : ∀ w ∈ lw_all, w.before args s = true) (hlink : Cond.methodLink own index yX0_piecesTold ∈ lw_all) (hR : rm_X0_piecesTold.frames + 1 ≤ R.frames ∧ 8 + (2 + 11) + rm_X0_piecesTold.locals ≤ R.locals) : CallW R s args own RX0 index yX0_piecesTold cX0_piecesTold 2 (some FieldType.int) (ws_ yX0_piecesTold cX0_piecesTold 2 (some FieldType.int)) rm_X0_piecesTold rm_X0_piecesTold.cells rm_X0_piecesTold.slots 1 :=
  cwV 1 hts (lw_V hlink q787 qs25 q102 q788) rfl rfl rfl (by decide +kernel) hR
set_option maxHeartbeats 4000000 in
theorem m_X0_piecesTold (l : Launch) (hst : l.stackTraces = false) (D : va_G) (ax : Nat → Nat) (ac : Nat → ClassId) (g : XS) (a1 : Int32) (sz : Nat) (r0 : (Int32 × XS) ⊕ (Int32 × XS)) (hr : f_X0_piecesTold g a1 = some r0) : TM l yX0_piecesTold cX0_piecesTold 2 (some FieldType.int) rm_X0_piecesTold [.ref (ax 0), .int a1] D ac (wX ax ac g) sz (Sum.map (fun u => (wX ax ac u.2, (some (.int u.1)))) (fun u => (wX ax ac u.2, u.1)) r0) := by
  generalize hoc : (Sum.map (fun u => (wX ax ac u.2, (some (.int u.1)))) (fun u => (wX ax ac u.2, u.1)) r0 : Oc) = oc
  refine fw_ofT (by decide) (Nat.le_of_ble_eq_true rfl) ?_
  intro p e s m below meth c ls hx hb hrt hts hown hlk hml _ hnt hU hl
  obtain ⟨⟨rfl, hP, hG, hD⟩, hZ⟩ := hU
  have hA : ∀ q : Nat, s.heap.size ≤ q → (va_A (wX ax ac g) s.heap.size) q := fun q h => Or.inr h
  have hS := Stt.start hP hD
  show WT p l e rm_X0_piecesTold s m [.ref (ax 0), .int a1] below meth c D (va_A (wX ax ac g) s.heap.size) oc s.heap [] 0 0 0 ls []
  have hl : lv_has ls 2 [(0, .ref (ax 0)), (1, .int a1)] := hl
  rw [f_X0_piecesTold] at hr
  refine lv_iload_n hx hb dX0_piecesTold_0 rfl (lv_at hl 1 rfl) ?_
  refine lv_i2l (v := (Int32.toInt64 a1)) hx hb dX0_piecesTold_1 rfl ?_
  refine lv_lconst (v := 0) hx hb dX0_piecesTold_2 rfl ?_
  refine lv_ldc2 (v := 3) hx hb hown (hts _ q741) dX0_piecesTold_3 ?_
  obtain ⟨o1, ho1, hr⟩ := br_bind hr
  refine fwS (As := [.long (Int32.toInt64 a1), .long 0, .long 3]) (rest := []) hx hb hml hown hts (m_X0_in l (Int32.toInt64 a1) (0 : Int64) (3 : Int64) o1 ho1) (cw_X0_in hts q651 ⟨Nat.le_of_ble_eq_true rfl, Nat.le_of_ble_eq_true rfl⟩) rfl hl.1 rfl (Nat.le_of_ble_eq_true rfl) dX0_piecesTold_6 ⟨Nat.le_of_ble_eq_true rfl, Nat.le_of_ble_eq_true rfl⟩ ?_
  refine lv_bipush (v := (-2)) hx hb dX0_piecesTold_9 rfl ?_
  rcases Or.symm (br_bX hr) with ⟨o2, ho2, rfl⟩ | ⟨o2, ho2, hr⟩
  · refine fwTSx (As := [.int o1, .int (-2)]) (rest := []) hx hb hml hown hts (m_X0_must l hst D ac o1 (-2 : Int32) _ _ ho2) (cw_X0_must hts q315 ⟨Nat.le_of_ble_eq_true rfl, Nat.le_of_ble_eq_true rfl⟩) hG hZ hS hA [] rfl rfl rfl rfl hl.1 rfl (Nat.le_of_ble_eq_true rfl) dX0_piecesTold_11 ⟨Nat.le_of_ble_eq_true rfl, Nat.le_of_ble_eq_true rfl⟩ (wn := wX ax ac g) rfl (fun q_ ci_ H locs hci hS => ?_)
    subst hoc; exact fw_xout hnt hlk hG hci hS (Nat.le_of_ble_eq_true rfl) (Nat.le_of_ble_eq_true rfl)
  refine fwTSo (As := [.int o1, .int (-2)]) (rest := []) hx hb hml hown hts (m_X0_must l hst D ac o1 (-2 : Int32) _ _ ho2) (cw_X0_must hts q315 ⟨Nat.le_of_ble_eq_true rfl, Nat.le_of_ble_eq_true rfl⟩) hG hZ hS hA [] rfl rfl rfl rfl hl.1 rfl (Nat.le_of_ble_eq_true rfl) dX0_piecesTold_11 ⟨Nat.le_of_ble_eq_true rfl, Nat.le_of_ble_eq_true rfl⟩ (wn := wX ax ac g) rfl (fun H locs hS => ?_)
  have hP := hS.1
  refine W.widen (k := 1) (n := 7) (by first | exact Nat.le_refl _ | (dsimp only [rm_X0_must]; omega)) (by first | exact Nat.le_refl _ | (dsimp only [rm_X0_must]; omega)) ?_
  refine lv_iload_n hx hb dX0_piecesTold_14 rfl (lv_at hl 1 rfl) ?_
  refine lv_iconst (v := 2) hx hb dX0_piecesTold_15 rfl ?_
  have hi3 := br_ite hr
  refine lv_icmp_ge (tgt := 41) hx hb dX0_piecesTold_16 (by decide) (fun c3 => ?_) (fun c3 => ?_)
  · have hr := hi3.1 c3
    refine lv_aload_n hx hb dX0_piecesTold_41 rfl (lv_at hl 0 rfl) ?_
    refine va_get (D := D) (ci := 0) (v := .ref (ax 1)) (C := RX0) (T := TX0) (N := 17) hx hb hts in_X0 hown hG.1 hP 0 rfl rfl 1 (by decide) (hts _ q234) (fun _ h9 => h9) rfl dX0_piecesTold_42 ?_
    obtain ⟨o4, ho4, hr⟩ := br_bind hr
    refine fwRV (As := []) (rest := []) (C := RX8) hx hb hml hown hts (m_X8_isInChancery l D ax ac (ax 1) (ax 2) (ax 3) (xG_core0 g) o4 ho4) (cw_X8_isInChancery hts q789 ⟨Nat.le_of_ble_eq_true rfl, Nat.le_of_ble_eq_true rfl⟩) hG hP (hP.pick [1, 2, 3] rfl) 1 7 rfl rfl rfl hl.1 rfl (Nat.le_of_ble_eq_true rfl) dX0_piecesTold_45 ⟨Nat.le_of_ble_eq_true rfl, Nat.le_of_ble_eq_true rfl⟩ ?_
    have hi5 := br_ite hr
    refine lv_if_eq (tgt := 56) hx hb dX0_piecesTold_48 (by decide) (fun c5 => ?_) (fun c5 => ?_)
    · have hr := hi5.1 c5
      refine lv_iload_n hx hb dX0_piecesTold_56 rfl (lv_at hl 1 rfl) ?_
      refine lv_iconst (v := 2) hx hb dX0_piecesTold_57 rfl ?_
      have hi6 := br_ite hr
      refine lv_icmp_ne (tgt := 74) hx hb dX0_piecesTold_58 (by decide) (fun c6 => ?_) (fun c6 => ?_)
      · have hr := hi6.2 c6
        refine lv_aload_n hx hb dX0_piecesTold_74 rfl (lv_at hl 0 rfl) ?_
        refine va_get (D := D) (ci := 0) (v := .ref (ax 1)) (C := RX0) (T := TX0) (N := 17) hx hb hts in_X0 hown hG.1 hP 0 rfl rfl 1 (by decide) (hts _ q234) (fun _ h9 => h9) rfl dX0_piecesTold_75 ?_
        refine va_getN (D := D) (ci := 7) (v := .int (cG_deed (xG_core0 g))) (C := RX8) (T := TX8) (N := 8) hx hb hts in_X8 hown hG.1 hP 1 rfl rfl 5 (by decide) (va_Nw.use rfl (hG.2.1 _ nq208)) (fun _ h9 => h9) rfl dX0_piecesTold_78 ?_
        obtain ⟨o7, ho7, hr⟩ := br_bind hr
        refine fwS (As := [.int (cG_deed (xG_core0 g))]) (rest := []) hx hb hml hown hts (m_X0_manyIn l (cG_deed (xG_core0 g)) o7 ho7) (cw_X0_manyIn hts q654 ⟨Nat.le_of_ble_eq_true rfl, Nat.le_of_ble_eq_true rfl⟩) rfl hl.1 rfl (Nat.le_of_ble_eq_true rfl) dX0_piecesTold_81 ⟨Nat.le_of_ble_eq_true rfl, Nat.le_of_ble_eq_true rfl⟩ ?_
        obtain rfl := Option.some.inj hr
        refine W.widen (k := rm_X0_piecesTold.cells) (n := rm_X0_piecesTold.slots) (Nat.le_of_ble_eq_true rfl) (Nat.le_of_ble_eq_true rfl) ?_
        subst hoc
        exact xx_ret (W.iret hx hb hrt (fun t ht _ => hS.q ht rfl) hS.2.2.2.2 dX0_piecesTold_84 hlk)
      · have hr := hi6.1 c6
        refine lv_aload_n hx hb dX0_piecesTold_61 rfl (lv_at hl 0 rfl) ?_
        refine va_get (D := D) (ci := 0) (v := .ref (ax 1)) (C := RX0) (T := TX0) (N := 17) hx hb hts in_X0 hown hG.1 hP 0 rfl rfl 1 (by decide) (hts _ q234) (fun _ h9 => h9) rfl dX0_piecesTold_62 ?_
        refine va_getN (D := D) (ci := 7) (v := .int (cG_deed (xG_core0 g))) (C := RX8) (T := TX8) (N := 8) hx hb hts in_X8 hown hG.1 hP 1 rfl rfl 5 (by decide) (va_Nw.use rfl (hG.2.1 _ nq208)) (fun _ h9 => h9) rfl dX0_piecesTold_65 ?_
        obtain ⟨o8, ho8, hr⟩ := br_bind hr
        refine fwS (As := [.int (cG_deed (xG_core0 g))]) (rest := []) hx hb hml hown hts (m_X0_leastIn l (cG_deed (xG_core0 g)) o8 ho8) (cw_X0_leastIn hts q790 ⟨Nat.le_of_ble_eq_true rfl, Nat.le_of_ble_eq_true rfl⟩) rfl hl.1 rfl (Nat.le_of_ble_eq_true rfl) dX0_piecesTold_68 ⟨Nat.le_of_ble_eq_true rfl, Nat.le_of_ble_eq_true rfl⟩ ?_
        refine lv_goto (tgt := 84) hx hb dX0_piecesTold_71 (by decide) ?_
        obtain rfl := Option.some.inj hr
        refine W.widen (k := rm_X0_piecesTold.cells) (n := rm_X0_piecesTold.slots) (Nat.le_of_ble_eq_true rfl) (Nat.le_of_ble_eq_true rfl) ?_
        subst hoc
        exact xx_ret (W.iret hx hb hrt (fun t ht _ => hS.q ht rfl) hS.2.2.2.2 dX0_piecesTold_84 hlk)
    · have hr := hi5.2 c5
      refine lv_bipush (v := (-9)) hx hb dX0_piecesTold_51 rfl ?_
      refine lv_goto (tgt := 84) hx hb dX0_piecesTold_53 (by decide) ?_
      obtain rfl := Option.some.inj hr
      refine W.widen (k := rm_X0_piecesTold.cells) (n := rm_X0_piecesTold.slots) (Nat.le_of_ble_eq_true rfl) (Nat.le_of_ble_eq_true rfl) ?_
      subst hoc
      exact xx_ret (W.iret hx hb hrt (fun t ht _ => hS.q ht rfl) hS.2.2.2.2 dX0_piecesTold_84 hlk)
  · have hr := hi3.2 c3
    refine lv_iload_n hx hb dX0_piecesTold_19 rfl (lv_at hl 1 rfl) ?_
    have hi9 := br_ite hr
    refine lv_if_ne (tgt := 33) hx hb dX0_piecesTold_20 (by decide) (fun c9 => ?_) (fun c9 => ?_)
    · have hr := hi9.2 c9
      refine lv_aload_n hx hb dX0_piecesTold_33 rfl (lv_at hl 0 rfl) ?_
      refine va_get (D := D) (ci := 0) (v := .ref (ax 1)) (C := RX0) (T := TX0) (N := 17) hx hb hts in_X0 hown hG.1 hP 0 rfl rfl 1 (by decide) (hts _ q234) (fun _ h9 => h9) rfl dX0_piecesTold_34 ?_
      refine va_getN (D := D) (ci := 7) (v := .int (cG_leastPiece (xG_core0 g))) (C := RX8) (T := TX8) (N := 8) hx hb hts in_X8 hown hG.1 hP 1 rfl rfl 7 (by decide) (va_Nw.use rfl (hG.2.1 _ nq213)) (fun _ h9 => h9) rfl dX0_piecesTold_37 ?_
      obtain rfl := Option.some.inj hr
      refine W.widen (k := rm_X0_piecesTold.cells) (n := rm_X0_piecesTold.slots) (Nat.le_of_ble_eq_true rfl) (Nat.le_of_ble_eq_true rfl) ?_
      subst hoc
      exact xx_ret (W.iret hx hb hrt (fun t ht _ => hS.q ht rfl) hS.2.2.2.2 dX0_piecesTold_40 hlk)
    · have hr := hi9.1 c9
      refine lv_aload_n hx hb dX0_piecesTold_23 rfl (lv_at hl 0 rfl) ?_
      refine va_get (D := D) (ci := 0) (v := .ref (ax 1)) (C := RX0) (T := TX0) (N := 17) hx hb hts in_X0 hown hG.1 hP 0 rfl rfl 1 (by decide) (hts _ q234) (fun _ h9 => h9) rfl dX0_piecesTold_24 ?_
      refine va_getN (D := D) (ci := 7) (v := .int (cG_pieceMany (xG_core0 g))) (C := RX8) (T := TX8) (N := 8) hx hb hts in_X8 hown hG.1 hP 1 rfl rfl 6 (by decide) (va_Nw.use rfl (hG.2.1 _ nq211)) (fun _ h9 => h9) rfl dX0_piecesTold_27 ?_
      refine lv_goto (tgt := 40) hx hb dX0_piecesTold_30 (by decide) ?_
      obtain rfl := Option.some.inj hr
      refine W.widen (k := rm_X0_piecesTold.cells) (n := rm_X0_piecesTold.slots) (Nat.le_of_ble_eq_true rfl) (Nat.le_of_ble_eq_true rfl) ?_
      subst hoc
      exact xx_ret (W.iret hx hb hrt (fun t ht _ => hS.q ht rfl) hS.2.2.2.2 dX0_piecesTold_40 hlk)
def f_X0_bestTold (g : XS) (a1 : Int32) (a2 : Int32) (a3 : Int32) : Option ((Int32 × XS) ⊕ (Int32 × XS)) := bX (f_X0_mustBeHeir g a1) (fun b1 => (b1.1, b1.2)) fun o1 => bX (f_X0_mustBeBit a2) (fun b2 => (b2, o1)) fun o2 => Option.bind (f_X0_bestFor (xG_core0 o1) a1 a3) fun o3 => if a2 = 0 then some (Sum.inl (o3, o1)) else if o3 = (-9) then some (Sum.inl (o3, o1)) else Option.bind (f_X0_openMind o1) fun o6 => Option.bind (f_X0_without (cG_left (xG_core0 o6)) o3) fun o7 => Option.bind (f_X8_leave (xG_mind o6) o7) fun o8 => Option.bind (some (xS_mind o6 o8)) fun g9 => Option.bind (f_X8_shareOf (xG_mind g9) a1) fun o10 => some (Sum.inl (o10, g9))
abbrev rm_X0_bestTold : Room := ({ frames := 12, cells := 5, slots := 32, locals := 450 })
theorem cw_X0_bestTold {R : Room} {s : State} {args : Array Value} {own : String} {index : Nat} (hts : ∀ w ∈ lw_all, w.before args s = true) (hlink : Cond.methodLink own index yX0_bestTold ∈ lw_all) (hR : rm_X0_bestTold.frames + 1 ≤ R.frames ∧ 8 + (5 + 11) + rm_X0_bestTold.locals ≤ R.locals) : CallW R s args own RX0 index yX0_bestTold cX0_bestTold 5 (some FieldType.int) (ws_ yX0_bestTold cX0_bestTold 5 (some FieldType.int)) rm_X0_bestTold rm_X0_bestTold.cells rm_X0_bestTold.slots 3 :=
  cwV 3 hts (lw_V hlink q810 qs29 q102 q811) rfl rfl rfl (by decide +kernel) hR
set_option maxHeartbeats 4000000 in
theorem m_X0_bestTold (l : Launch) (hst : l.stackTraces = false) (D : va_G) (ax : Nat → Nat) (ac : Nat → ClassId) (g : XS) (a1 : Int32) (a2 : Int32) (a3 : Int32) (sz : Nat) (r0 : (Int32 × XS) ⊕ (Int32 × XS)) (hr : f_X0_bestTold g a1 a2 a3 = some r0) : TM l yX0_bestTold cX0_bestTold 5 (some FieldType.int) rm_X0_bestTold [.ref (ax 0), .int a1, .int a2, .int a3] D ac (wX ax ac g) sz (Sum.map (fun u => (wX ax ac u.2, (some (.int u.1)))) (fun u => (wX ax ac u.2, u.1)) r0) := by
  generalize hoc : (Sum.map (fun u => (wX ax ac u.2, (some (.int u.1)))) (fun u => (wX ax ac u.2, u.1)) r0 : Oc) = oc
  refine fw_ofT (by decide) (Nat.le_of_ble_eq_true rfl) ?_
  intro p e s m below meth c ls hx hb hrt hts hown hlk hml _ hnt hU hl
  obtain ⟨⟨rfl, hP, hG, hD⟩, hZ⟩ := hU
  have hA : ∀ q : Nat, s.heap.size ≤ q → (va_A (wX ax ac g) s.heap.size) q := fun q h => Or.inr h
  have hS := Stt.start hP hD
  show WT p l e rm_X0_bestTold s m [.ref (ax 0), .int a1, .int a2, .int a3] below meth c D (va_A (wX ax ac g) s.heap.size) oc s.heap [] 0 0 0 ls []
  have hl : lv_has ls 5 [(0, .ref (ax 0)), (1, .int a1), (2, .int a2), (3, .int a3)] := hl
  rw [f_X0_bestTold] at hr
  refine lv_aload_n hx hb dX0_bestTold_0 rfl (lv_at hl 0 rfl) ?_
  refine lv_iload_n hx hb dX0_bestTold_1 rfl (lv_at hl 1 rfl) ?_
  rcases Or.symm (br_bX hr) with ⟨o1, ho1, rfl⟩ | ⟨o1, ho1, hr⟩
  · refine fwTVx (As := [.int a1]) (rest := []) (C := RX0) hx hb hml hown hts (m_X0_mustBeHeir l hst D ax ac g a1 _ _ ho1) (cw_X0_mustBeHeir hts q659 ⟨Nat.le_of_ble_eq_true rfl, Nat.le_of_ble_eq_true rfl⟩) hG hZ hS hA ixX nd_X (pk_X ax ac _) (ad_X ax ac _ _) 0 0 rfl rfl rfl hl.1 rfl (Nat.le_of_ble_eq_true rfl) dX0_bestTold_2 ⟨Nat.le_of_ble_eq_true rfl, Nat.le_of_ble_eq_true rfl⟩ (wn := wX ax ac o1.2) (rep_X ax ac _ _) (fun q_ ci_ H locs hci hS => ?_)
    subst hoc; exact fw_xout hnt hlk hG hci hS (Nat.le_of_ble_eq_true rfl) (Nat.le_of_ble_eq_true rfl)
  refine fwTVo (As := [.int a1]) (rest := []) (C := RX0) hx hb hml hown hts (m_X0_mustBeHeir l hst D ax ac g a1 _ _ ho1) (cw_X0_mustBeHeir hts q659 ⟨Nat.le_of_ble_eq_true rfl, Nat.le_of_ble_eq_true rfl⟩) hG hZ hS hA ixX nd_X (pk_X ax ac _) (ad_X ax ac _ _) 0 0 rfl rfl rfl hl.1 rfl (Nat.le_of_ble_eq_true rfl) dX0_bestTold_2 ⟨Nat.le_of_ble_eq_true rfl, Nat.le_of_ble_eq_true rfl⟩ (wn := wX ax ac o1) (rep_X ax ac _ _) (fun H locs hS => ?_)
  have hP := hS.1
  refine W.widen (k := 1) (n := 7) (by first | exact Nat.le_refl _ | (dsimp only [rm_X0_mustBeHeir]; omega)) (by first | exact Nat.le_refl _ | (dsimp only [rm_X0_mustBeHeir]; omega)) ?_
  refine lv_iload_n hx hb dX0_bestTold_5 rfl (lv_at hl 2 rfl) ?_
  rcases Or.symm (br_bX hr) with ⟨o2, ho2, rfl⟩ | ⟨o2, ho2, hr⟩
  · refine fwTSx (As := [.int a2]) (rest := []) hx hb hml hown hts (m_X0_mustBeBit l hst D ac a2 _ _ ho2) (cw_X0_mustBeBit hts q773 ⟨Nat.le_of_ble_eq_true rfl, Nat.le_of_ble_eq_true rfl⟩) hG hZ hS hA [] rfl rfl rfl rfl hl.1 rfl (Nat.le_of_ble_eq_true rfl) dX0_bestTold_6 ⟨Nat.le_of_ble_eq_true rfl, Nat.le_of_ble_eq_true rfl⟩ (wn := wX ax ac o1) rfl (fun q_ ci_ H locs hci hS => ?_)
    subst hoc; exact fw_xout hnt hlk hG hci hS (Nat.le_of_ble_eq_true rfl) (Nat.le_of_ble_eq_true rfl)
  refine fwTSo (As := [.int a2]) (rest := []) hx hb hml hown hts (m_X0_mustBeBit l hst D ac a2 _ _ ho2) (cw_X0_mustBeBit hts q773 ⟨Nat.le_of_ble_eq_true rfl, Nat.le_of_ble_eq_true rfl⟩) hG hZ hS hA [] rfl rfl rfl rfl hl.1 rfl (Nat.le_of_ble_eq_true rfl) dX0_bestTold_6 ⟨Nat.le_of_ble_eq_true rfl, Nat.le_of_ble_eq_true rfl⟩ (wn := wX ax ac o1) rfl (fun H locs hS => ?_)
  have hP := hS.1
  refine W.widen (k := 2) (n := 14) (by first | exact Nat.le_refl _ | (dsimp only [rm_X0_mustBeBit]; omega)) (by first | exact Nat.le_refl _ | (dsimp only [rm_X0_mustBeBit]; omega)) ?_
  refine lv_aload_n hx hb dX0_bestTold_9 rfl (lv_at hl 0 rfl) ?_
  refine lv_aload_n hx hb dX0_bestTold_10 rfl (lv_at hl 0 rfl) ?_
  refine va_get (D := D) (ci := 0) (v := .ref (ax 1)) (C := RX0) (T := TX0) (N := 17) hx hb hts in_X0 hown hG.1 hP 0 rfl rfl 1 (by decide) (hts _ q234) (fun _ h9 => h9) rfl dX0_bestTold_11 ?_
  refine lv_iload_n hx hb dX0_bestTold_14 rfl (lv_at hl 1 rfl) ?_
  refine lv_iload_n hx hb dX0_bestTold_15 rfl (lv_at hl 3 rfl) ?_
  obtain ⟨o3, ho3, hr⟩ := br_bind hr
  refine fwWV (As := [.ref (ax 1), .int a1, .int a3]) (rest := []) (C := RX0) hx hb hml hown hts (m_X0_bestFor l D ax ac (ax 1) (ax 2) (ax 3) (xG_core0 o1) a1 a3 _ o3 ho3) (cw_X0_bestFor hts q812 ⟨Nat.le_of_ble_eq_true rfl, Nat.le_of_ble_eq_true rfl⟩) hG hS hA [1, 2, 3, 11, 12, 13, 14, 15, 16] rfl rfl rfl 0 0 rfl rfl rfl hl.1 rfl (Nat.le_of_ble_eq_true rfl) dX0_bestTold_16 ⟨Nat.le_of_ble_eq_true rfl, Nat.le_of_ble_eq_true rfl⟩ (wn := wX ax ac o1) (rfl) (fun H locs hS => ?_)
  have hP := hS.1
  refine W.widen (k := 5) (n := 32) (by first | exact Nat.le_refl _ | (dsimp only [rm_X0_bestFor]; omega)) (by first | exact Nat.le_refl _ | (dsimp only [rm_X0_bestFor]; omega)) ?_
  refine lv_istore (lv' := [(4, .int o3), (0, .ref (ax 0)), (1, .int a1), (2, .int a2), (3, .int a3)]) hx hb dX0_bestTold_19 hl (by decide) rfl (fun ls hl => ?_)
  refine lv_iload_n hx hb dX0_bestTold_21 rfl (lv_at hl 3 rfl) ?_
  have hi4 := br_ite hr
  refine lv_if_eq (tgt := 32) hx hb dX0_bestTold_22 (by decide) (fun c4 => ?_) (fun c4 => ?_)
  · have hr := hi4.1 c4
    refine lv_iload hx hb dX0_bestTold_32 (lv_at hl 0 rfl) ?_
    refine lv_goto (tgt := 60) hx hb dX0_bestTold_34 (by decide) ?_
    obtain rfl := Option.some.inj hr
    refine W.widen (k := rm_X0_bestTold.cells) (n := rm_X0_bestTold.slots) (Nat.le_of_ble_eq_true rfl) (Nat.le_of_ble_eq_true rfl) ?_
    subst hoc
    exact xx_ret (W.iret hx hb hrt (fun t ht _ => hS.q ht rfl) hS.2.2.2.2 dX0_bestTold_60 hlk)
  · have hr := hi4.2 c4
    refine lv_iload hx hb dX0_bestTold_25 (lv_at hl 0 rfl) ?_
    refine lv_bipush (v := (-9)) hx hb dX0_bestTold_27 rfl ?_
    have hi5 := br_ite hr
    refine lv_icmp_ne (tgt := 37) hx hb dX0_bestTold_29 (by decide) (fun c5 => ?_) (fun c5 => ?_)
    · have hr := hi5.2 c5
      refine lv_aload_n hx hb dX0_bestTold_37 rfl (lv_at hl 1 rfl) ?_
      obtain ⟨o6, ho6, hr⟩ := br_bind hr
      refine fwWVs (As := []) (rest := []) (C := RX0) hx hb hml hown hts (m_X0_openMind l D ax ac o1 _ o6 ho6) (cw_X0_openMind hts q818 ⟨Nat.le_of_ble_eq_true rfl, Nat.le_of_ble_eq_true rfl⟩) hG hS hA rfl 0 0 rfl rfl rfl hl.1 rfl (Nat.le_of_ble_eq_true rfl) dX0_bestTold_38 ⟨Nat.le_of_ble_eq_true rfl, Nat.le_of_ble_eq_true rfl⟩ (fun H locs hS => ?_)
      have hP := hS.1
      refine lv_aload_n hx hb dX0_bestTold_41 rfl (lv_at hl 1 rfl) ?_
      refine va_get (D := D) (ci := 0) (v := .ref (ax 1)) (C := RX0) (T := TX0) (N := 17) hx hb hts in_X0 hown hG.1 hP 0 rfl rfl 1 (by decide) (hts _ q234) (fun _ h9 => h9) rfl dX0_bestTold_42 ?_
      refine va_getN (D := D) (ci := 7) (v := .int (cG_left (xG_core0 o6))) (C := RX8) (T := TX8) (N := 8) hx hb hts in_X8 hown hG.1 hP 1 rfl rfl 0 (by decide) (va_Nw.use rfl (hG.2.1 _ nq193)) (fun _ h9 => h9) rfl dX0_bestTold_45 ?_
      refine lv_iload hx hb dX0_bestTold_48 (lv_at hl 0 rfl) ?_
      obtain ⟨o7, ho7, hr⟩ := br_bind hr
      refine fwS (As := [.int (cG_left (xG_core0 o6)), .int o3]) (rest := [.ref (ax 4)]) hx hb hml hown hts (m_X0_without l (cG_left (xG_core0 o6)) o3 o7 ho7) (cw_X0_without hts q822 ⟨Nat.le_of_ble_eq_true rfl, Nat.le_of_ble_eq_true rfl⟩) rfl hl.1 rfl (Nat.le_of_ble_eq_true rfl) dX0_bestTold_50 ⟨Nat.le_of_ble_eq_true rfl, Nat.le_of_ble_eq_true rfl⟩ ?_
      obtain ⟨o8, ho8, hr⟩ := br_bind hr
      obtain ⟨g9, hg9, hr⟩ := br_let hr
      refine fwWV (As := [.int o7]) (rest := []) (C := RX8) hx hb hml hown hts (m_X8_leave l D ax ac (ax 4) (ax 5) (ax 6) (xG_mind o6) o7 _ o8 ho8) (cw_X8_leave hts q748 ⟨Nat.le_of_ble_eq_true rfl, Nat.le_of_ble_eq_true rfl⟩) hG hS hA [4, 5, 6] rfl rfl rfl 4 7 rfl rfl rfl hl.1 rfl (Nat.le_of_ble_eq_true rfl) dX0_bestTold_53 ⟨Nat.le_of_ble_eq_true rfl, Nat.le_of_ble_eq_true rfl⟩ (wn := wX ax ac g9) (by rw [hg9]; rfl) (fun H locs hS => ?_)
      have hP := hS.1
      refine lv_iload_n hx hb dX0_bestTold_56 rfl (lv_at hl 2 rfl) ?_
      obtain ⟨o10, ho10, hr⟩ := br_bind hr
      refine fwRV (As := [.int a1]) (rest := []) (C := RX8) hx hb hml hown hts (m_X8_shareOf l D ax ac (ax 4) (ax 5) (ax 6) (xG_mind g9) a1 o10 ho10) (cw_X8_shareOf hts q684 ⟨Nat.le_of_ble_eq_true rfl, Nat.le_of_ble_eq_true rfl⟩) hG hP (hP.pick [4, 5, 6, 11, 12, 13, 14, 15, 16] rfl) 4 7 rfl rfl rfl hl.1 rfl (Nat.le_of_ble_eq_true rfl) dX0_bestTold_57 ⟨Nat.le_of_ble_eq_true rfl, Nat.le_of_ble_eq_true rfl⟩ ?_
      obtain rfl := Option.some.inj hr
      refine W.widen (k := rm_X0_bestTold.cells) (n := rm_X0_bestTold.slots) (Nat.le_of_ble_eq_true rfl) (Nat.le_of_ble_eq_true rfl) ?_
      subst hoc
      exact xx_ret (W.iret hx hb hrt (fun t ht _ => hS.q ht rfl) hS.2.2.2.2 dX0_bestTold_60 hlk)
    · have hr := hi5.1 c5
      refine lv_iload hx hb dX0_bestTold_32 (lv_at hl 0 rfl) ?_
      refine lv_goto (tgt := 60) hx hb dX0_bestTold_34 (by decide) ?_
      obtain rfl := Option.some.inj hr
      refine W.widen (k := rm_X0_bestTold.cells) (n := rm_X0_bestTold.slots) (Nat.le_of_ble_eq_true rfl) (Nat.le_of_ble_eq_true rfl) ?_
      subst hoc
      exact xx_ret (W.iret hx hb hrt (fun t ht _ => hS.q ht rfl) hS.2.2.2.2 dX0_bestTold_60 hlk)
def f_X0_waysTold_L68 (x2_5 : Int32) : Nat → Int32 → XS → Option (XS)
  | 0, _, _ => none
  | n + 1, x3_10, g_10 => if 128 ≤ x3_10 then some g_10 else if x3_10 < 0 ∨ 128 ≤ Int32.toNatClampNeg x3_10 then none else if 999 ≤ ((xG_fewBy g_10) (Int32.toNatClampNeg x3_10)) then Option.bind (some ((x3_10 + 1) : Int32)) fun v14 => f_X0_waysTold_L68 x2_5 n v14 g_10 else Option.bind (f_X0_coverFrom g_10 x2_5 x3_10) fun o15 => Option.bind (some ((x3_10 + 1) : Int32)) fun v16 => f_X0_waysTold_L68 x2_5 n v16 o15
def f_X0_waysTold_L24 : Nat → Int32 → XS → Option (XS)
  | 0, _, _ => none
  | n + 1, x2_5, g_5 => if 25 ≤ x2_5 then some g_5 else Option.bind (some (xS_waysBy g_5 (va_cpy (xG_waysThen g_5) (xG_waysBy g_5) 0 0 128))) fun g7 => Option.bind (some (xS_fewBy g7 (va_cpy (xG_fewThen g7) (xG_fewBy g7) 0 0 128))) fun g8 => Option.bind (f_X0_clearThen g8) fun o9 => Option.bind (f_X0_waysTold_L68 x2_5 1000 0 o9) fun o10 => Option.bind (some ((x2_5 + 1) : Int32)) fun v17 => f_X0_waysTold_L24 n v17 o10
def f_X0_waysTold (g : XS) (a1 : Int32) : Option ((Int32 × XS) ⊕ (Int32 × XS)) := bX (f_X0_mustBeBit a1) (fun b1 => (b1, g)) fun o1 => Option.bind (f_X0_clearThen g) fun o2 => Option.bind (some (xS_waysThen o2 (vp_updL (xG_waysThen o2) (Int32.toNatClampNeg (0 : Int32)) (1 : Int64)))) fun g3 => Option.bind (some (xS_fewThen g3 (upd (xG_fewThen g3) (Int32.toNatClampNeg (0 : Int32)) (0 : Int32)))) fun g4 => Option.bind (f_X0_waysTold_L24 1000 0 g4) fun o5 => if a1 = 0 then some (Sum.inl ((Int64.toInt32 ((xG_waysThen o5) (Int32.toNatClampNeg (0 : Int32)))), o5)) else some (Sum.inl (((xG_fewThen o5) (Int32.toNatClampNeg (0 : Int32))), o5))
abbrev rm_X0_waysTold : Room := ({ frames := 11, cells := 1, slots := 7, locals := 201 })
theorem cw_X0_waysTold {R : Room} {s : State} {args : Array Value} {own : String} {index : Nat} (hts : ∀ w ∈ lw_all, w.before args s = true) (hlink : Cond.methodLink own index yX0_waysTold ∈ lw_all) (hR : rm_X0_waysTold.frames + 1 ≤ R.frames ∧ 8 + (4 + 11) + rm_X0_waysTold.locals ≤ R.locals) : CallW R s args own RX0 index yX0_waysTold cX0_waysTold 4 (some FieldType.int) (ws_ yX0_waysTold cX0_waysTold 4 (some FieldType.int)) rm_X0_waysTold rm_X0_waysTold.cells rm_X0_waysTold.slots 1 :=
  cwV 1 hts (lw_V hlink q853 qs38 q102 q854) rfl rfl rfl (by decide +kernel) hR
set_option maxHeartbeats 4000000 in
theorem m_X0_waysTold (l : Launch) (hst : l.stackTraces = false) (D : va_G) (ax : Nat → Nat) (ac : Nat → ClassId) (g : XS) (a1 : Int32) (sz : Nat) (r0 : (Int32 × XS) ⊕ (Int32 × XS)) (hr : f_X0_waysTold g a1 = some r0) : TM l yX0_waysTold cX0_waysTold 4 (some FieldType.int) rm_X0_waysTold [.ref (ax 0), .int a1] D ac (wX ax ac g) sz (Sum.map (fun u => (wX ax ac u.2, (some (.int u.1)))) (fun u => (wX ax ac u.2, u.1)) r0) := by
  generalize hoc : (Sum.map (fun u => (wX ax ac u.2, (some (.int u.1)))) (fun u => (wX ax ac u.2, u.1)) r0 : Oc) = oc
  refine fw_ofT (by decide) (Nat.le_of_ble_eq_true rfl) ?_
  intro p e s m below meth c ls hx hb hrt hts hown hlk hml _ hnt hU hl
  obtain ⟨⟨rfl, hP, hG, hD⟩, hZ⟩ := hU
  have hA : ∀ q : Nat, s.heap.size ≤ q → (va_A (wX ax ac g) s.heap.size) q := fun q h => Or.inr h
  have hS := Stt.start hP hD
  show WT p l e rm_X0_waysTold s m [.ref (ax 0), .int a1] below meth c D (va_A (wX ax ac g) s.heap.size) oc s.heap [] 0 0 0 ls []
  have hl : lv_has ls 4 [(0, .ref (ax 0)), (1, .int a1)] := hl
  rw [f_X0_waysTold] at hr
  refine lv_iload_n hx hb dX0_waysTold_0 rfl (lv_at hl 1 rfl) ?_
  rcases Or.symm (br_bX hr) with ⟨o1, ho1, rfl⟩ | ⟨o1, ho1, hr⟩
  · refine fwTSx (As := [.int a1]) (rest := []) hx hb hml hown hts (m_X0_mustBeBit l hst D ac a1 _ _ ho1) (cw_X0_mustBeBit hts q773 ⟨Nat.le_of_ble_eq_true rfl, Nat.le_of_ble_eq_true rfl⟩) hG hZ hS hA [] rfl rfl rfl rfl hl.1 rfl (Nat.le_of_ble_eq_true rfl) dX0_waysTold_1 ⟨Nat.le_of_ble_eq_true rfl, Nat.le_of_ble_eq_true rfl⟩ (wn := wX ax ac g) rfl (fun q_ ci_ H locs hci hS => ?_)
    subst hoc; exact fw_xout hnt hlk hG hci hS (Nat.le_of_ble_eq_true rfl) (Nat.le_of_ble_eq_true rfl)
  refine fwTSo (As := [.int a1]) (rest := []) hx hb hml hown hts (m_X0_mustBeBit l hst D ac a1 _ _ ho1) (cw_X0_mustBeBit hts q773 ⟨Nat.le_of_ble_eq_true rfl, Nat.le_of_ble_eq_true rfl⟩) hG hZ hS hA [] rfl rfl rfl rfl hl.1 rfl (Nat.le_of_ble_eq_true rfl) dX0_waysTold_1 ⟨Nat.le_of_ble_eq_true rfl, Nat.le_of_ble_eq_true rfl⟩ (wn := wX ax ac g) rfl (fun H locs hS => ?_)
  have hP := hS.1
  refine W.widen (k := 1) (n := 7) (by first | exact Nat.le_refl _ | (dsimp only [rm_X0_mustBeBit]; omega)) (by first | exact Nat.le_refl _ | (dsimp only [rm_X0_mustBeBit]; omega)) ?_
  refine lv_aload_n hx hb dX0_waysTold_4 rfl (lv_at hl 0 rfl) ?_
  obtain ⟨o2, ho2, hr⟩ := br_bind hr
  refine fwWVs (As := []) (rest := []) (C := RX0) hx hb hml hown hts (m_X0_clearThen l D ax ac g _ o2 ho2) (cw_X0_clearThen hts q855 ⟨Nat.le_of_ble_eq_true rfl, Nat.le_of_ble_eq_true rfl⟩) hG hS hA rfl 0 0 rfl rfl rfl hl.1 rfl (Nat.le_of_ble_eq_true rfl) dX0_waysTold_5 ⟨Nat.le_of_ble_eq_true rfl, Nat.le_of_ble_eq_true rfl⟩ (fun H locs hS => ?_)
  have hP := hS.1
  refine lv_aload_n hx hb dX0_waysTold_8 rfl (lv_at hl 0 rfl) ?_
  refine va_get (D := D) (ci := 0) (v := .ref (ax 21)) (C := RX0) (T := TX0) (N := 17) hx hb hts in_X0 hown hG.1 hP 0 rfl rfl 11 (by decide) (hts _ q246) (fun _ h9 => h9) rfl dX0_waysTold_9 ?_
  refine lv_iconst (v := 0) hx hb dX0_waysTold_12 rfl ?_
  refine lv_lconst (v := 1) hx hb dX0_waysTold_13 rfl ?_
  obtain ⟨g3, hg3, hr⟩ := br_let hr
  refine fw_last hx hb hG hS 21 rfl (show ¬ ((0 : Int32) < 0 ∨ 128 ≤ Int32.toNatClampNeg (0 : Int32)) by decide) dX0_waysTold_14 (wn := wX ax ac g3) (by rw [hg3]; rfl) (fun H locs hS => ?_)
  have hP := hS.1
  refine lv_aload_n hx hb dX0_waysTold_15 rfl (lv_at hl 0 rfl) ?_
  refine va_get (D := D) (ci := 0) (v := .ref (ax 23)) (C := RX0) (T := TX0) (N := 17) hx hb hts in_X0 hown hG.1 hP 0 rfl rfl 13 (by decide) (hts _ q248) (fun _ h9 => h9) rfl dX0_waysTold_16 ?_
  refine lv_iconst (v := 0) hx hb dX0_waysTold_19 rfl ?_
  refine lv_iconst (v := 0) hx hb dX0_waysTold_20 rfl ?_
  obtain ⟨g4, hg4, hr⟩ := br_let hr
  refine fw_iast hx hb hG hS 23 rfl (show ¬ ((0 : Int32) < 0 ∨ 128 ≤ Int32.toNatClampNeg (0 : Int32)) by decide) dX0_waysTold_21 (wn := wX ax ac g4) (by rw [hg4]; rfl) (fun H locs hS => ?_)
  have hP := hS.1
  refine lv_iconst (v := 0) hx hb dX0_waysTold_22 rfl ?_
  refine lv_istore_n (lv' := [(2, .int 0), (0, .ref (ax 0)), (1, .int a1)]) hx hb dX0_waysTold_23 rfl hl (by decide) rfl (fun ls hl => ?_)
  have L5 : ∀ (n : Nat) (x2_5 : Int32) (g_5 : XS) (o5 : XS), f_X0_waysTold_L24 n x2_5 g_5 = some o5 → ∀ (H : Heap) (locs : List Loc) ls, lv_has ls 4 [(2, .int x2_5), (0, .ref (ax 0)), (1, .int a1)] → Stt D (va_A (wX ax ac g) s.heap.size) s.heap (wX ax ac g_5) H locs → (∀ (H : Heap) (locs : List Loc) ls, lv_has ls 4 [(0, .ref (ax 0)), (1, .int a1)] → Stt D (va_A (wX ax ac g) s.heap.size) s.heap (wX ax ac o5) H locs → WT p l e rm_X0_waysTold s m [.ref (ax 0), .int a1] below meth c D (va_A (wX ax ac g) s.heap.size) oc H locs 1 7 105 ls []) → WT p l e rm_X0_waysTold s m [.ref (ax 0), .int a1] below meth c D (va_A (wX ax ac g) s.heap.size) oc H locs 1 7 24 ls [] := by
    intro n
    induction n with
    | zero => intro x2_5 g_5 o5 hr; rw [f_X0_waysTold_L24] at hr; cases hr
    | succ n ih =>
      intro x2_5 g_5 o5 hr H locs ls hl hS kx
      have hP := hS.1
      rw [f_X0_waysTold_L24] at hr
      refine lv_iload_n hx hb dX0_waysTold_24 rfl (lv_at hl 0 rfl) ?_
      refine lv_bipush (v := 25) hx hb dX0_waysTold_25 rfl ?_
      have hi6 := br_ite hr
      refine lv_icmp_ge (tgt := 105) hx hb dX0_waysTold_27 (by decide) (fun c6 => ?_) (fun c6 => ?_)
      · have hr := hi6.1 c6
        obtain rfl := Option.some.inj hr
        exact kx _ _ ls (lv_sub hl [1, 2] rfl) hS
      · have hr := hi6.2 c6
        refine lv_aload_n hx hb dX0_waysTold_30 rfl (lv_at hl 1 rfl) ?_
        refine va_get (D := D) (ci := 0) (v := .ref (ax 21)) (C := RX0) (T := TX0) (N := 17) hx hb hts in_X0 hown hG.1 hP 0 rfl rfl 11 (by decide) (hts _ q246) (fun _ h9 => h9) rfl dX0_waysTold_31 ?_
        refine lv_iconst (v := 0) hx hb dX0_waysTold_34 rfl ?_
        refine lv_aload_n hx hb dX0_waysTold_35 rfl (lv_at hl 1 rfl) ?_
        refine va_get (D := D) (ci := 0) (v := .ref (ax 20)) (C := RX0) (T := TX0) (N := 17) hx hb hts in_X0 hown hG.1 hP 0 rfl rfl 10 (by decide) (hts _ q245) (fun _ h9 => h9) rfl dX0_waysTold_36 ?_
        refine lv_iconst (v := 0) hx hb dX0_waysTold_39 rfl ?_
        refine lv_sipush (v := 128) hx hb dX0_waysTold_40 rfl ?_
        obtain ⟨g7, hg7, hr⟩ := br_let hr
        refine fw_cpyl hx hb hml hown (hts _ q859) (hts _ q540) (hts _ q539) (hts _ q125) hl.1 hG hS 21 20 rfl rfl (n := 128) 128 (by decide) (by decide) (by decide) (by decide) (Nat.le_of_ble_eq_true rfl) (Nat.le_of_ble_eq_true rfl) dX0_waysTold_43 (wn := wX ax ac g7) (by rw [hg7]; rfl) (fun H locs hS => ?_)
        have hP := hS.1
        refine lv_aload_n hx hb dX0_waysTold_46 rfl (lv_at hl 1 rfl) ?_
        refine va_get (D := D) (ci := 0) (v := .ref (ax 23)) (C := RX0) (T := TX0) (N := 17) hx hb hts in_X0 hown hG.1 hP 0 rfl rfl 13 (by decide) (hts _ q248) (fun _ h9 => h9) rfl dX0_waysTold_47 ?_
        refine lv_iconst (v := 0) hx hb dX0_waysTold_50 rfl ?_
        refine lv_aload_n hx hb dX0_waysTold_51 rfl (lv_at hl 1 rfl) ?_
        refine va_get (D := D) (ci := 0) (v := .ref (ax 22)) (C := RX0) (T := TX0) (N := 17) hx hb hts in_X0 hown hG.1 hP 0 rfl rfl 12 (by decide) (hts _ q247) (fun _ h9 => h9) rfl dX0_waysTold_52 ?_
        refine lv_iconst (v := 0) hx hb dX0_waysTold_55 rfl ?_
        refine lv_sipush (v := 128) hx hb dX0_waysTold_56 rfl ?_
        obtain ⟨g8, hg8, hr⟩ := br_let hr
        refine fw_cpyi hx hb hml hown (hts _ q859) (hts _ q540) (hts _ q539) (hts _ q125) hl.1 hG hS 23 22 rfl rfl (n := 128) 128 (by decide) (by decide) (by decide) (by decide) (Nat.le_of_ble_eq_true rfl) (Nat.le_of_ble_eq_true rfl) dX0_waysTold_59 (wn := wX ax ac g8) (by rw [hg8]; rfl) (fun H locs hS => ?_)
        have hP := hS.1
        refine lv_aload_n hx hb dX0_waysTold_62 rfl (lv_at hl 1 rfl) ?_
        obtain ⟨o9, ho9, hr⟩ := br_bind hr
        refine fwWVs (As := []) (rest := []) (C := RX0) hx hb hml hown hts (m_X0_clearThen l D ax ac g8 _ o9 ho9) (cw_X0_clearThen hts q855 ⟨Nat.le_of_ble_eq_true rfl, Nat.le_of_ble_eq_true rfl⟩) hG hS hA rfl 0 0 rfl rfl rfl hl.1 rfl (Nat.le_of_ble_eq_true rfl) dX0_waysTold_63 ⟨Nat.le_of_ble_eq_true rfl, Nat.le_of_ble_eq_true rfl⟩ (fun H locs hS => ?_)
        have hP := hS.1
        refine lv_iconst (v := 0) hx hb dX0_waysTold_66 rfl ?_
        refine lv_istore_n (lv' := [(3, .int 0), (2, .int x2_5), (0, .ref (ax 0)), (1, .int a1)]) hx hb dX0_waysTold_67 rfl hl (by decide) rfl (fun ls hl => ?_)
        have L10 : ∀ (n : Nat) (x3_10 : Int32) (g_10 : XS) (o10 : XS), f_X0_waysTold_L68 x2_5 n x3_10 g_10 = some o10 → ∀ (H : Heap) (locs : List Loc) ls, lv_has ls 4 [(3, .int x3_10), (2, .int x2_5), (0, .ref (ax 0)), (1, .int a1)] → Stt D (va_A (wX ax ac g) s.heap.size) s.heap (wX ax ac g_10) H locs → (∀ (H : Heap) (locs : List Loc) ls, lv_has ls 4 [(2, .int x2_5), (0, .ref (ax 0)), (1, .int a1)] → Stt D (va_A (wX ax ac g) s.heap.size) s.heap (wX ax ac o10) H locs → WT p l e rm_X0_waysTold s m [.ref (ax 0), .int a1] below meth c D (va_A (wX ax ac g) s.heap.size) oc H locs 1 7 99 ls []) → WT p l e rm_X0_waysTold s m [.ref (ax 0), .int a1] below meth c D (va_A (wX ax ac g) s.heap.size) oc H locs 1 7 68 ls [] := by
          intro n
          induction n with
          | zero => intro x3_10 g_10 o10 hr; rw [f_X0_waysTold_L68] at hr; cases hr
          | succ n ih =>
            intro x3_10 g_10 o10 hr H locs ls hl hS kx
            have hP := hS.1
            rw [f_X0_waysTold_L68] at hr
            refine lv_iload_n hx hb dX0_waysTold_68 rfl (lv_at hl 0 rfl) ?_
            refine lv_sipush (v := 128) hx hb dX0_waysTold_69 rfl ?_
            have hi11 := br_ite hr
            refine lv_icmp_ge (tgt := 99) hx hb dX0_waysTold_72 (by decide) (fun c11 => ?_) (fun c11 => ?_)
            · have hr := hi11.1 c11
              obtain rfl := Option.some.inj hr
              exact kx _ _ ls (lv_sub hl [1, 2, 3] rfl) hS
            · have hr := hi11.2 c11
              refine lv_aload_n hx hb dX0_waysTold_75 rfl (lv_at hl 2 rfl) ?_
              refine va_get (D := D) (ci := 0) (v := .ref (ax 22)) (C := RX0) (T := TX0) (N := 17) hx hb hts in_X0 hown hG.1 hP 0 rfl rfl 12 (by decide) (hts _ q247) (fun _ h9 => h9) rfl dX0_waysTold_76 ?_
              refine lv_iload_n hx hb dX0_waysTold_79 rfl (lv_at hl 0 rfl) ?_
              obtain ⟨c12, hr⟩ := br_none hr
              refine va_iald hx hb hG.1 hP 22 0 rfl rfl c12 dX0_waysTold_80 ?_
              refine lv_sipush (v := 999) hx hb dX0_waysTold_81 rfl ?_
              have hi13 := br_ite hr
              refine lv_icmp_ge (tgt := 93) hx hb dX0_waysTold_84 (by decide) (fun c13 => ?_) (fun c13 => ?_)
              · have hr := hi13.1 c13
                obtain ⟨v14, hv14, hr⟩ := br_let hr
                refine lv_iinc (v := v14) (lv' := [(3, .int v14), (2, .int x2_5), (0, .ref (ax 0)), (1, .int a1)]) hx hb dX0_waysTold_93 hl (k := 0) rfl (hv14 ▸ rfl) (by decide) rfl (fun ls hl => ?_)
                refine lv_goto (tgt := 68) hx hb dX0_waysTold_96 (by decide) ?_
                exact ih v14 g_10 _ hr _ _ ls (lv_sub hl [0, 1, 2, 3] rfl) hS kx
              · have hr := hi13.2 c13
                refine lv_aload_n hx hb dX0_waysTold_87 rfl (lv_at hl 2 rfl) ?_
                refine lv_iload_n hx hb dX0_waysTold_88 rfl (lv_at hl 1 rfl) ?_
                refine lv_iload_n hx hb dX0_waysTold_89 rfl (lv_at hl 0 rfl) ?_
                obtain ⟨o15, ho15, hr⟩ := br_bind hr
                refine fwWVs (As := [.int x2_5, .int x3_10]) (rest := []) (C := RX0) hx hb hml hown hts (m_X0_coverFrom l D ax ac g_10 x2_5 x3_10 _ o15 ho15) (cw_X0_coverFrom hts q860 ⟨Nat.le_of_ble_eq_true rfl, Nat.le_of_ble_eq_true rfl⟩) hG hS hA rfl 0 0 rfl rfl rfl hl.1 rfl (Nat.le_of_ble_eq_true rfl) dX0_waysTold_90 ⟨Nat.le_of_ble_eq_true rfl, Nat.le_of_ble_eq_true rfl⟩ (fun H locs hS => ?_)
                have hP := hS.1
                obtain ⟨v16, hv16, hr⟩ := br_let hr
                refine lv_iinc (v := v16) (lv' := [(3, .int v16), (2, .int x2_5), (0, .ref (ax 0)), (1, .int a1)]) hx hb dX0_waysTold_93 hl (k := 0) rfl (hv16 ▸ rfl) (by decide) rfl (fun ls hl => ?_)
                refine lv_goto (tgt := 68) hx hb dX0_waysTold_96 (by decide) ?_
                exact ih v16 o15 _ hr _ _ ls (lv_sub hl [0, 1, 2, 3] rfl) hS kx
        obtain ⟨o10, ho10, hr⟩ := br_bind hr
        refine L10 1000 0 o9 o10 ho10 _ _ ls (lv_sub hl [0, 1, 2, 3] rfl) hS (fun H locs ls hl hS => ?_)
        have hP := hS.1
        obtain ⟨v17, hv17, hr⟩ := br_let hr
        refine lv_iinc (v := v17) (lv' := [(2, .int v17), (0, .ref (ax 0)), (1, .int a1)]) hx hb dX0_waysTold_99 hl (k := 0) rfl (hv17 ▸ rfl) (by decide) rfl (fun ls hl => ?_)
        refine lv_goto (tgt := 24) hx hb dX0_waysTold_102 (by decide) ?_
        exact ih v17 o10 _ hr _ _ ls (lv_sub hl [0, 1, 2] rfl) hS kx
  obtain ⟨o5, ho5, hr⟩ := br_bind hr
  refine L5 1000 0 g4 o5 ho5 _ _ ls (lv_sub hl [0, 1, 2] rfl) hS (fun H locs ls hl hS => ?_)
  have hP := hS.1
  refine lv_iload_n hx hb dX0_waysTold_105 rfl (lv_at hl 1 rfl) ?_
  have hi18 := br_ite hr
  refine lv_if_ne (tgt := 119) hx hb dX0_waysTold_106 (by decide) (fun c18 => ?_) (fun c18 => ?_)
  · have hr := hi18.2 c18
    refine lv_aload_n hx hb dX0_waysTold_119 rfl (lv_at hl 0 rfl) ?_
    refine va_get (D := D) (ci := 0) (v := .ref (ax 23)) (C := RX0) (T := TX0) (N := 17) hx hb hts in_X0 hown hG.1 hP 0 rfl rfl 13 (by decide) (hts _ q248) (fun _ h9 => h9) rfl dX0_waysTold_120 ?_
    refine lv_iconst (v := 0) hx hb dX0_waysTold_123 rfl ?_
    refine va_iald hx hb hG.1 hP 23 0 rfl rfl (show ¬ ((0 : Int32) < 0 ∨ 128 ≤ Int32.toNatClampNeg (0 : Int32)) by decide) dX0_waysTold_124 ?_
    obtain rfl := Option.some.inj hr
    refine W.widen (k := rm_X0_waysTold.cells) (n := rm_X0_waysTold.slots) (Nat.le_of_ble_eq_true rfl) (Nat.le_of_ble_eq_true rfl) ?_
    subst hoc
    exact xx_ret (W.iret hx hb hrt (fun t ht _ => hS.q ht rfl) hS.2.2.2.2 dX0_waysTold_125 hlk)
  · have hr := hi18.1 c18
    refine lv_aload_n hx hb dX0_waysTold_109 rfl (lv_at hl 0 rfl) ?_
    refine va_get (D := D) (ci := 0) (v := .ref (ax 21)) (C := RX0) (T := TX0) (N := 17) hx hb hts in_X0 hown hG.1 hP 0 rfl rfl 11 (by decide) (hts _ q246) (fun _ h9 => h9) rfl dX0_waysTold_110 ?_
    refine lv_iconst (v := 0) hx hb dX0_waysTold_113 rfl ?_
    refine va_lald hx hb hG.1 hP 21 3 rfl rfl (show ¬ ((0 : Int32) < 0 ∨ 128 ≤ Int32.toNatClampNeg (0 : Int32)) by decide) dX0_waysTold_114 ?_
    refine lv_l2i (v := (Int64.toInt32 ((xG_waysThen o5) (Int32.toNatClampNeg (0 : Int32))))) hx hb dX0_waysTold_115 rfl ?_
    refine lv_goto (tgt := 125) hx hb dX0_waysTold_116 (by decide) ?_
    obtain rfl := Option.some.inj hr
    refine W.widen (k := rm_X0_waysTold.cells) (n := rm_X0_waysTold.slots) (Nat.le_of_ble_eq_true rfl) (Nat.le_of_ble_eq_true rfl) ?_
    subst hoc
    exact xx_ret (W.iret hx hb hrt (fun t ht _ => hS.q ht rfl) hS.2.2.2.2 dX0_waysTold_125 hlk)
def f_X0_bridgeTold (g : XS) (a1 : Int32) : Option ((Int32 × XS) ⊕ (Int32 × XS)) := Option.bind (f_X0_in (Int32.toInt64 a1) (0 : Int64) (2 : Int64)) fun o1 => bX (f_X0_must o1 (-2 : Int32)) (fun b2 => (b2, g)) fun o2 => if a1 = 2 then Option.bind (f_X0_middleCell g) fun o9 => some (Sum.inl (o9, g)) else Option.bind (f_X0_bridgeBits g) fun o4 => if a1 = 0 then Option.bind (f_X0_manyIn o4.1) fun o8 => some (Sum.inl (o8, o4.2)) else if o4.1 = 0 then some (Sum.inl ((-9), o4.2)) else Option.bind (f_X0_leastIn o4.1) fun o7 => some (Sum.inl (o7, o4.2))
abbrev rm_X0_bridgeTold : Room := ({ frames := 10, cells := 1, slots := 7, locals := 181 })
theorem cw_X0_bridgeTold {R : Room} {s : State} {args : Array Value} {own : String} {index : Nat} (hts : ∀ w ∈ lw_all, w.before args s = true) (hlink : Cond.methodLink own index yX0_bridgeTold ∈ lw_all) (hR : rm_X0_bridgeTold.frames + 1 ≤ R.frames ∧ 8 + (3 + 11) + rm_X0_bridgeTold.locals ≤ R.locals) : CallW R s args own RX0 index yX0_bridgeTold cX0_bridgeTold 3 (some FieldType.int) (ws_ yX0_bridgeTold cX0_bridgeTold 3 (some FieldType.int)) rm_X0_bridgeTold rm_X0_bridgeTold.cells rm_X0_bridgeTold.slots 1 :=
  cwV 1 hts (lw_V hlink q918 qs53 q102 q919) rfl rfl rfl (by decide +kernel) hR
set_option maxHeartbeats 4000000 in
theorem m_X0_bridgeTold (l : Launch) (hst : l.stackTraces = false) (D : va_G) (ax : Nat → Nat) (ac : Nat → ClassId) (g : XS) (a1 : Int32) (sz : Nat) (r0 : (Int32 × XS) ⊕ (Int32 × XS)) (hr : f_X0_bridgeTold g a1 = some r0) : TM l yX0_bridgeTold cX0_bridgeTold 3 (some FieldType.int) rm_X0_bridgeTold [.ref (ax 0), .int a1] D ac (wX ax ac g) sz (Sum.map (fun u => (wX ax ac u.2, (some (.int u.1)))) (fun u => (wX ax ac u.2, u.1)) r0) := by
  generalize hoc : (Sum.map (fun u => (wX ax ac u.2, (some (.int u.1)))) (fun u => (wX ax ac u.2, u.1)) r0 : Oc) = oc
  refine fw_ofT (by decide) (Nat.le_of_ble_eq_true rfl) ?_
  intro p e s m below meth c ls hx hb hrt hts hown hlk hml _ hnt hU hl
  obtain ⟨⟨rfl, hP, hG, hD⟩, hZ⟩ := hU
  have hA : ∀ q : Nat, s.heap.size ≤ q → (va_A (wX ax ac g) s.heap.size) q := fun q h => Or.inr h
  have hS := Stt.start hP hD
  show WT p l e rm_X0_bridgeTold s m [.ref (ax 0), .int a1] below meth c D (va_A (wX ax ac g) s.heap.size) oc s.heap [] 0 0 0 ls []
  have hl : lv_has ls 3 [(0, .ref (ax 0)), (1, .int a1)] := hl
  rw [f_X0_bridgeTold] at hr
  refine lv_iload_n hx hb dX0_bridgeTold_0 rfl (lv_at hl 1 rfl) ?_
  refine lv_i2l (v := (Int32.toInt64 a1)) hx hb dX0_bridgeTold_1 rfl ?_
  refine lv_lconst (v := 0) hx hb dX0_bridgeTold_2 rfl ?_
  refine lv_ldc2 (v := 2) hx hb hown (hts _ q652) dX0_bridgeTold_3 ?_
  obtain ⟨o1, ho1, hr⟩ := br_bind hr
  refine fwS (As := [.long (Int32.toInt64 a1), .long 0, .long 2]) (rest := []) hx hb hml hown hts (m_X0_in l (Int32.toInt64 a1) (0 : Int64) (2 : Int64) o1 ho1) (cw_X0_in hts q651 ⟨Nat.le_of_ble_eq_true rfl, Nat.le_of_ble_eq_true rfl⟩) rfl hl.1 rfl (Nat.le_of_ble_eq_true rfl) dX0_bridgeTold_6 ⟨Nat.le_of_ble_eq_true rfl, Nat.le_of_ble_eq_true rfl⟩ ?_
  refine lv_bipush (v := (-2)) hx hb dX0_bridgeTold_9 rfl ?_
  rcases Or.symm (br_bX hr) with ⟨o2, ho2, rfl⟩ | ⟨o2, ho2, hr⟩
  · refine fwTSx (As := [.int o1, .int (-2)]) (rest := []) hx hb hml hown hts (m_X0_must l hst D ac o1 (-2 : Int32) _ _ ho2) (cw_X0_must hts q315 ⟨Nat.le_of_ble_eq_true rfl, Nat.le_of_ble_eq_true rfl⟩) hG hZ hS hA [] rfl rfl rfl rfl hl.1 rfl (Nat.le_of_ble_eq_true rfl) dX0_bridgeTold_11 ⟨Nat.le_of_ble_eq_true rfl, Nat.le_of_ble_eq_true rfl⟩ (wn := wX ax ac g) rfl (fun q_ ci_ H locs hci hS => ?_)
    subst hoc; exact fw_xout hnt hlk hG hci hS (Nat.le_of_ble_eq_true rfl) (Nat.le_of_ble_eq_true rfl)
  refine fwTSo (As := [.int o1, .int (-2)]) (rest := []) hx hb hml hown hts (m_X0_must l hst D ac o1 (-2 : Int32) _ _ ho2) (cw_X0_must hts q315 ⟨Nat.le_of_ble_eq_true rfl, Nat.le_of_ble_eq_true rfl⟩) hG hZ hS hA [] rfl rfl rfl rfl hl.1 rfl (Nat.le_of_ble_eq_true rfl) dX0_bridgeTold_11 ⟨Nat.le_of_ble_eq_true rfl, Nat.le_of_ble_eq_true rfl⟩ (wn := wX ax ac g) rfl (fun H locs hS => ?_)
  have hP := hS.1
  refine W.widen (k := 1) (n := 7) (by first | exact Nat.le_refl _ | (dsimp only [rm_X0_must]; omega)) (by first | exact Nat.le_refl _ | (dsimp only [rm_X0_must]; omega)) ?_
  refine lv_iload_n hx hb dX0_bridgeTold_14 rfl (lv_at hl 1 rfl) ?_
  refine lv_iconst (v := 2) hx hb dX0_bridgeTold_15 rfl ?_
  have hi3 := br_ite hr
  refine lv_icmp_ne (tgt := 24) hx hb dX0_bridgeTold_16 (by decide) (fun c3 => ?_) (fun c3 => ?_)
  · have hr := hi3.2 c3
    refine lv_aload_n hx hb dX0_bridgeTold_24 rfl (lv_at hl 0 rfl) ?_
    obtain ⟨o4, ho4, hr⟩ := br_bind hr
    refine fwWVs (As := []) (rest := []) (C := RX0) hx hb hml hown hts (m_X0_bridgeBits l D ax ac g _ o4 ho4) (cw_X0_bridgeBits hts q931 ⟨Nat.le_of_ble_eq_true rfl, Nat.le_of_ble_eq_true rfl⟩) hG hS hA rfl 0 0 rfl rfl rfl hl.1 rfl (Nat.le_of_ble_eq_true rfl) dX0_bridgeTold_25 ⟨Nat.le_of_ble_eq_true rfl, Nat.le_of_ble_eq_true rfl⟩ (fun H locs hS => ?_)
    have hP := hS.1
    refine lv_istore_n (lv' := [(2, .int o4.1), (0, .ref (ax 0)), (1, .int a1)]) hx hb dX0_bridgeTold_28 rfl hl (by decide) rfl (fun ls hl => ?_)
    refine lv_iload_n hx hb dX0_bridgeTold_29 rfl (lv_at hl 2 rfl) ?_
    have hi5 := br_ite hr
    refine lv_if_ne (tgt := 40) hx hb dX0_bridgeTold_30 (by decide) (fun c5 => ?_) (fun c5 => ?_)
    · have hr := hi5.2 c5
      refine lv_iload_n hx hb dX0_bridgeTold_40 rfl (lv_at hl 0 rfl) ?_
      have hi6 := br_ite hr
      refine lv_if_ne (tgt := 49) hx hb dX0_bridgeTold_41 (by decide) (fun c6 => ?_) (fun c6 => ?_)
      · have hr := hi6.2 c6
        refine lv_iload_n hx hb dX0_bridgeTold_49 rfl (lv_at hl 0 rfl) ?_
        obtain ⟨o7, ho7, hr⟩ := br_bind hr
        refine fwS (As := [.int o4.1]) (rest := []) hx hb hml hown hts (m_X0_leastIn l o4.1 o7 ho7) (cw_X0_leastIn hts q790 ⟨Nat.le_of_ble_eq_true rfl, Nat.le_of_ble_eq_true rfl⟩) rfl hl.1 rfl (Nat.le_of_ble_eq_true rfl) dX0_bridgeTold_50 ⟨Nat.le_of_ble_eq_true rfl, Nat.le_of_ble_eq_true rfl⟩ ?_
        obtain rfl := Option.some.inj hr
        refine W.widen (k := rm_X0_bridgeTold.cells) (n := rm_X0_bridgeTold.slots) (Nat.le_of_ble_eq_true rfl) (Nat.le_of_ble_eq_true rfl) ?_
        subst hoc
        exact xx_ret (W.iret hx hb hrt (fun t ht _ => hS.q ht rfl) hS.2.2.2.2 dX0_bridgeTold_53 hlk)
      · have hr := hi6.1 c6
        refine lv_bipush (v := (-9)) hx hb dX0_bridgeTold_44 rfl ?_
        refine lv_goto (tgt := 53) hx hb dX0_bridgeTold_46 (by decide) ?_
        obtain rfl := Option.some.inj hr
        refine W.widen (k := rm_X0_bridgeTold.cells) (n := rm_X0_bridgeTold.slots) (Nat.le_of_ble_eq_true rfl) (Nat.le_of_ble_eq_true rfl) ?_
        subst hoc
        exact xx_ret (W.iret hx hb hrt (fun t ht _ => hS.q ht rfl) hS.2.2.2.2 dX0_bridgeTold_53 hlk)
    · have hr := hi5.1 c5
      refine lv_iload_n hx hb dX0_bridgeTold_33 rfl (lv_at hl 0 rfl) ?_
      obtain ⟨o8, ho8, hr⟩ := br_bind hr
      refine fwS (As := [.int o4.1]) (rest := []) hx hb hml hown hts (m_X0_manyIn l o4.1 o8 ho8) (cw_X0_manyIn hts q654 ⟨Nat.le_of_ble_eq_true rfl, Nat.le_of_ble_eq_true rfl⟩) rfl hl.1 rfl (Nat.le_of_ble_eq_true rfl) dX0_bridgeTold_34 ⟨Nat.le_of_ble_eq_true rfl, Nat.le_of_ble_eq_true rfl⟩ ?_
      refine lv_goto (tgt := 53) hx hb dX0_bridgeTold_37 (by decide) ?_
      obtain rfl := Option.some.inj hr
      refine W.widen (k := rm_X0_bridgeTold.cells) (n := rm_X0_bridgeTold.slots) (Nat.le_of_ble_eq_true rfl) (Nat.le_of_ble_eq_true rfl) ?_
      subst hoc
      exact xx_ret (W.iret hx hb hrt (fun t ht _ => hS.q ht rfl) hS.2.2.2.2 dX0_bridgeTold_53 hlk)
  · have hr := hi3.1 c3
    refine lv_aload_n hx hb dX0_bridgeTold_19 rfl (lv_at hl 0 rfl) ?_
    obtain ⟨o9, ho9, hr⟩ := br_bind hr
    refine fwRV (As := []) (rest := []) (C := RX0) hx hb hml hown hts (m_X0_middleCell l D ax ac g o9 ho9) (cw_X0_middleCell hts q920 ⟨Nat.le_of_ble_eq_true rfl, Nat.le_of_ble_eq_true rfl⟩) hG hP hP 0 0 rfl rfl rfl hl.1 rfl (Nat.le_of_ble_eq_true rfl) dX0_bridgeTold_20 ⟨Nat.le_of_ble_eq_true rfl, Nat.le_of_ble_eq_true rfl⟩ ?_
    obtain rfl := Option.some.inj hr
    refine W.widen (k := rm_X0_bridgeTold.cells) (n := rm_X0_bridgeTold.slots) (Nat.le_of_ble_eq_true rfl) (Nat.le_of_ble_eq_true rfl) ?_
    subst hoc
    exact xx_ret (W.iret hx hb hrt (fun t ht _ => hS.q ht rfl) hS.2.2.2.2 dX0_bridgeTold_23 hlk)
def f_X0_alikeTold_L62 (x5_5 : Int32) (ta10 : (Nat → Int32)) : Nat → Int32 → Int32 → Option (Int32)
  | 0, _, _ => none
  | n + 1, x7_13, x6_13 => if x5_5 ≤ x7_13 then some x6_13 else if x7_13 < 0 ∨ 4 ≤ Int32.toNatClampNeg x7_13 then none else if x5_5 < 0 ∨ 4 ≤ Int32.toNatClampNeg x5_5 then none else if (ta10 (Int32.toNatClampNeg x7_13)) = (ta10 (Int32.toNatClampNeg x5_5)) then Option.bind (some ((x6_13 &&& 0) : Int32)) fun v18 => Option.bind (some ((x7_13 + 1) : Int32)) fun v19 => f_X0_alikeTold_L62 x5_5 ta10 n v19 v18 else Option.bind (some ((x6_13 &&& 1) : Int32)) fun v20 => Option.bind (some ((x7_13 + 1) : Int32)) fun v21 => f_X0_alikeTold_L62 x5_5 ta10 n v21 v20
def f_X0_alikeTold_L28 : Nat → Int32 → Int32 → Int32 → XS → ((Nat → Int32)) → Option (Int32 × Int32 × XS × (Nat → Int32))
  | 0, _, _, _, _, _ => none
  | n + 1, x5_5, x4_5, x3_5, g_5, ta_5 => if 4 ≤ x5_5 then some (x4_5, x3_5, g_5, ta_5) else if (x5_5 - 1) < 0 ∨ 4 ≤ Int32.toNatClampNeg (x5_5 - 1) then none else Option.bind (f_X0_rolled (ta_5 (Int32.toNatClampNeg (x5_5 - 1)))) fun o8 => if x5_5 < 0 ∨ 4 ≤ Int32.toNatClampNeg x5_5 then none else Option.bind (some ((upd ta_5 (Int32.toNatClampNeg x5_5) o8))) fun ta10 => if x5_5 < 0 ∨ 4 ≤ Int32.toNatClampNeg x5_5 then none else Option.bind (some ((if (ta10 (Int32.toNatClampNeg x5_5)) < x3_5 then (ta10 (Int32.toNatClampNeg x5_5)) else x3_5) : Int32)) fun v12 => Option.bind (f_X0_alikeTold_L62 x5_5 ta10 1000 0 1) fun o13 => if o13 = 0 then Option.bind (some ((x4_5 + 0) : Int32)) fun v23 => Option.bind (some ((x5_5 + 1) : Int32)) fun v24 => f_X0_alikeTold_L28 n v24 v23 v12 g_5 ta10 else Option.bind (some ((x4_5 + 1) : Int32)) fun v25 => Option.bind (some ((x5_5 + 1) : Int32)) fun v26 => f_X0_alikeTold_L28 n v26 v25 v12 g_5 ta10
def f_X0_alikeTold (g : XS) (a1 : Int32) : Option ((Int32 × XS) ⊕ (Int32 × XS)) := bX (f_X0_mustBeBit a1) (fun b1 => (b1, g)) fun o1 => Option.bind (some ((cG_left (xG_core0 g)) : Int32)) fun v2 => Option.bind (some ((upd arr0 (Int32.toNatClampNeg (0 : Int32)) v2))) fun ta3 => Option.bind (some ((ta3 (Int32.toNatClampNeg (0 : Int32))) : Int32)) fun v4 => Option.bind (f_X0_alikeTold_L28 1000 1 1 v4 g ta3) fun o5 => if a1 = 0 then some (Sum.inl (o5.1, o5.2.2.1)) else some (Sum.inl (o5.2.1, o5.2.2.1))
abbrev rm_X0_alikeTold : Room := ({ frames := 11, cells := 2, slots := 11, locals := 201 })
theorem cw_X0_alikeTold {R : Room} {s : State} {args : Array Value} {own : String} {index : Nat} (hts : ∀ w ∈ lw_all, w.before args s = true) (hlink : Cond.methodLink own index yX0_alikeTold ∈ lw_all) (hR : rm_X0_alikeTold.frames + 1 ≤ R.frames ∧ 8 + (8 + 11) + rm_X0_alikeTold.locals ≤ R.locals) : CallW R s args own RX0 index yX0_alikeTold cX0_alikeTold 8 (some FieldType.int) (ws_ yX0_alikeTold cX0_alikeTold 8 (some FieldType.int)) rm_X0_alikeTold rm_X0_alikeTold.cells rm_X0_alikeTold.slots 1 :=
  cwV 1 hts (lw_V hlink q876 qs43 q102 q877) rfl rfl rfl (by decide +kernel) hR
set_option maxHeartbeats 4000000 in
theorem m_X0_alikeTold (l : Launch) (hst : l.stackTraces = false) (D : va_G) (ax : Nat → Nat) (ac : Nat → ClassId) (g : XS) (a1 : Int32) (sz : Nat) (r0 : (Int32 × XS) ⊕ (Int32 × XS)) (hr : f_X0_alikeTold g a1 = some r0) : TM l yX0_alikeTold cX0_alikeTold 8 (some FieldType.int) rm_X0_alikeTold [.ref (ax 0), .int a1] D ac (wX ax ac g) sz (Sum.map (fun u => (wX ax ac u.2, (some (.int u.1)))) (fun u => (wX ax ac u.2, u.1)) r0) := by
  generalize hoc : (Sum.map (fun u => (wX ax ac u.2, (some (.int u.1)))) (fun u => (wX ax ac u.2, u.1)) r0 : Oc) = oc
  refine fw_ofT (by decide) (Nat.le_of_ble_eq_true rfl) ?_
  intro p e s m below meth c ls hx hb hrt hts hown hlk hml _ hnt hU hl
  obtain ⟨⟨rfl, hP, hG, hD⟩, hZ⟩ := hU
  have hA : ∀ q : Nat, s.heap.size ≤ q → (va_A (wX ax ac g) s.heap.size) q := fun q h => Or.inr h
  have hS := Stt.start hP hD
  show WT p l e rm_X0_alikeTold s m [.ref (ax 0), .int a1] below meth c D (va_A (wX ax ac g) s.heap.size) oc s.heap [] 0 0 0 ls []
  have hl : lv_has ls 8 [(0, .ref (ax 0)), (1, .int a1)] := hl
  rw [f_X0_alikeTold] at hr
  refine lv_iload_n hx hb dX0_alikeTold_0 rfl (lv_at hl 1 rfl) ?_
  rcases Or.symm (br_bX hr) with ⟨o1, ho1, rfl⟩ | ⟨o1, ho1, hr⟩
  · refine fwTSx (As := [.int a1]) (rest := []) hx hb hml hown hts (m_X0_mustBeBit l hst D ac a1 _ _ ho1) (cw_X0_mustBeBit hts q773 ⟨Nat.le_of_ble_eq_true rfl, Nat.le_of_ble_eq_true rfl⟩) hG hZ hS hA [] rfl rfl rfl rfl hl.1 rfl (Nat.le_of_ble_eq_true rfl) dX0_alikeTold_1 ⟨Nat.le_of_ble_eq_true rfl, Nat.le_of_ble_eq_true rfl⟩ (wn := wX ax ac g) rfl (fun q_ ci_ H locs hci hS => ?_)
    subst hoc; exact fw_xout hnt hlk hG hci hS (Nat.le_of_ble_eq_true rfl) (Nat.le_of_ble_eq_true rfl)
  refine fwTSo (As := [.int a1]) (rest := []) hx hb hml hown hts (m_X0_mustBeBit l hst D ac a1 _ _ ho1) (cw_X0_mustBeBit hts q773 ⟨Nat.le_of_ble_eq_true rfl, Nat.le_of_ble_eq_true rfl⟩) hG hZ hS hA [] rfl rfl rfl rfl hl.1 rfl (Nat.le_of_ble_eq_true rfl) dX0_alikeTold_1 ⟨Nat.le_of_ble_eq_true rfl, Nat.le_of_ble_eq_true rfl⟩ (wn := wX ax ac g) rfl (fun H locs hS => ?_)
  have hP := hS.1
  refine W.widen (k := 1) (n := 7) (by first | exact Nat.le_refl _ | (dsimp only [rm_X0_mustBeBit]; omega)) (by first | exact Nat.le_refl _ | (dsimp only [rm_X0_mustBeBit]; omega)) ?_
  refine lv_iconst (v := 4) hx hb dX0_alikeTold_4 rfl ?_
  refine fw_newa (atype := .int) (ty := .int) (a0 := (4, .inl (fun _ => (0 : Int32)))) hx hb (hts _ q231) rfl hG hS hA 0 rfl (fun _ => rfl) (by decide) (N' := 4) (by decide) (Nat.le_of_ble_eq_true rfl) (Nat.le_of_ble_eq_true rfl) (Nat.le_of_ble_eq_true rfl) dX0_alikeTold_5 (fun tq H hS => ?_)
  have hS : Stt D (va_A (wX ax ac g) s.heap.size) s.heap (wX ax ac g ++ [(tq, va_ai (ac 0) 4 arr0)]) H locs := hS
  have hP := hS.1
  refine W.widen (k := 2) (n := 11) (Nat.le_of_ble_eq_true rfl) (Nat.le_of_ble_eq_true rfl) ?_
  refine lv_astore_n (lv' := [(2, .ref tq), (0, .ref (ax 0)), (1, .int a1)]) hx hb dX0_alikeTold_7 rfl hl (by decide) rfl (fun ls hl => ?_)
  refine lv_aload_n hx hb dX0_alikeTold_8 rfl (lv_at hl 0 rfl) ?_
  refine lv_iconst (v := 0) hx hb dX0_alikeTold_9 rfl ?_
  refine lv_aload_n hx hb dX0_alikeTold_10 rfl (lv_at hl 1 rfl) ?_
  refine va_get (D := D) (ci := 0) (v := .ref (ax 1)) (C := RX0) (T := TX0) (N := 17) hx hb hts in_X0 hown hG.1 hP 0 rfl rfl 1 (by decide) (hts _ q234) (fun _ h9 => h9) rfl dX0_alikeTold_11 ?_
  refine va_getN (D := D) (ci := 7) (v := .int (cG_left (xG_core0 g))) (C := RX8) (T := TX8) (N := 8) hx hb hts in_X8 hown hG.1 hP 1 rfl rfl 0 (by decide) (va_Nw.use rfl (hG.2.1 _ nq193)) (fun _ h9 => h9) rfl dX0_alikeTold_14 ?_
  refine lv_topi (fun v2 hv2 => ?_)
  have hr := br_letv hr hv2
  obtain ⟨ta3, hta3, hr⟩ := br_let hr
  refine fw_iast hx hb hG hS 26 rfl (show ¬ ((0 : Int32) < 0 ∨ 4 ≤ Int32.toNatClampNeg (0 : Int32)) by decide) dX0_alikeTold_17 (wn := wX ax ac g ++ [(tq, va_ai (ac 0) 4 ta3)]) (by rw [hta3]; rfl) (fun H locs hS => ?_)
  have hP := hS.1
  refine lv_aload_n hx hb dX0_alikeTold_18 rfl (lv_at hl 0 rfl) ?_
  refine lv_iconst (v := 0) hx hb dX0_alikeTold_19 rfl ?_
  refine va_iald hx hb hG.1 hP 26 0 rfl rfl (show ¬ ((0 : Int32) < 0 ∨ 4 ≤ Int32.toNatClampNeg (0 : Int32)) by decide) dX0_alikeTold_20 ?_
  refine lv_topi (fun v4 hv4 => ?_)
  have hr := br_letv hr hv4
  refine lv_istore_n (lv' := [(3, .int v4), (2, .ref tq), (0, .ref (ax 0)), (1, .int a1)]) hx hb dX0_alikeTold_21 rfl hl (by decide) rfl (fun ls hl => ?_)
  refine lv_iconst (v := 1) hx hb dX0_alikeTold_22 rfl ?_
  refine lv_istore (lv' := [(4, .int 1), (3, .int v4), (2, .ref tq), (0, .ref (ax 0)), (1, .int a1)]) hx hb dX0_alikeTold_23 hl (by decide) rfl (fun ls hl => ?_)
  refine lv_iconst (v := 1) hx hb dX0_alikeTold_25 rfl ?_
  refine lv_istore (lv' := [(5, .int 1), (4, .int 1), (3, .int v4), (2, .ref tq), (0, .ref (ax 0)), (1, .int a1)]) hx hb dX0_alikeTold_26 hl (by decide) rfl (fun ls hl => ?_)
  have L5 : ∀ (n : Nat) (x5_5 : Int32) (x4_5 : Int32) (x3_5 : Int32) (g_5 : XS) (ta_5 : (Nat → Int32)) (o5 : Int32 × Int32 × XS × (Nat → Int32)), f_X0_alikeTold_L28 n x5_5 x4_5 x3_5 g_5 ta_5 = some o5 → ∀ (H : Heap) (locs : List Loc) ls, lv_has ls 8 [(5, .int x5_5), (4, .int x4_5), (3, .int x3_5), (2, .ref tq), (1, .int a1)] → Stt D (va_A (wX ax ac g) s.heap.size) s.heap (wX ax ac g_5 ++ [(tq, va_ai (ac 0) 4 ta_5)]) H locs → (∀ (H : Heap) (locs : List Loc) ls, lv_has ls 8 [(4, .int o5.1), (3, .int o5.2.1), (1, .int a1)] → Stt D (va_A (wX ax ac g) s.heap.size) s.heap (wX ax ac o5.2.2.1 ++ [(tq, va_ai (ac 0) 4 o5.2.2.2)]) H locs → WT p l e rm_X0_alikeTold s m [.ref (ax 0), .int a1] below meth c D (va_A (wX ax ac g) s.heap.size) oc H locs 2 11 117 ls []) → WT p l e rm_X0_alikeTold s m [.ref (ax 0), .int a1] below meth c D (va_A (wX ax ac g) s.heap.size) oc H locs 2 11 28 ls [] := by
    intro n
    induction n with
    | zero => intro x5_5 x4_5 x3_5 g_5 ta_5 o5 hr; rw [f_X0_alikeTold_L28] at hr; cases hr
    | succ n ih =>
      intro x5_5 x4_5 x3_5 g_5 ta_5 o5 hr H locs ls hl hS kx
      have hP := hS.1
      rw [f_X0_alikeTold_L28] at hr
      refine lv_iload hx hb dX0_alikeTold_28 (lv_at hl 0 rfl) ?_
      refine lv_iconst (v := 4) hx hb dX0_alikeTold_30 rfl ?_
      have hi6 := br_ite hr
      refine lv_icmp_ge (tgt := 117) hx hb dX0_alikeTold_31 (by decide) (fun c6 => ?_) (fun c6 => ?_)
      · have hr := hi6.1 c6
        obtain rfl := Option.some.inj hr
        exact kx _ _ ls (lv_sub hl [1, 2, 4] rfl) hS
      · have hr := hi6.2 c6
        refine lv_aload_n hx hb dX0_alikeTold_34 rfl (lv_at hl 3 rfl) ?_
        refine lv_iload hx hb dX0_alikeTold_35 (lv_at hl 0 rfl) ?_
        refine lv_aload_n hx hb dX0_alikeTold_37 rfl (lv_at hl 3 rfl) ?_
        refine lv_iload hx hb dX0_alikeTold_38 (lv_at hl 0 rfl) ?_
        refine lv_iconst (v := 1) hx hb dX0_alikeTold_40 rfl ?_
        refine lv_isub hx hb dX0_alikeTold_41 ?_
        obtain ⟨c7, hr⟩ := br_none hr
        refine va_iald hx hb hG.1 hP 26 0 rfl rfl c7 dX0_alikeTold_42 ?_
        obtain ⟨o8, ho8, hr⟩ := br_bind hr
        refine fwS (As := [.int (ta_5 (Int32.toNatClampNeg (x5_5 - 1)))]) (rest := [.int x5_5, .ref tq]) hx hb hml hown hts (m_X0_rolled l (ta_5 (Int32.toNatClampNeg (x5_5 - 1))) o8 ho8) (cw_X0_rolled hts q878 ⟨Nat.le_of_ble_eq_true rfl, Nat.le_of_ble_eq_true rfl⟩) rfl hl.1 rfl (Nat.le_of_ble_eq_true rfl) dX0_alikeTold_43 ⟨Nat.le_of_ble_eq_true rfl, Nat.le_of_ble_eq_true rfl⟩ ?_
        obtain ⟨c9, hr⟩ := br_none hr
        obtain ⟨ta10, hta10, hr⟩ := br_let hr
        refine fw_iast hx hb hG hS 26 rfl c9 dX0_alikeTold_46 (wn := wX ax ac g_5 ++ [(tq, va_ai (ac 0) 4 ta10)]) (by rw [hta10]; rfl) (fun H locs hS => ?_)
        have hP := hS.1
        refine lv_iload_n hx hb dX0_alikeTold_47 rfl (lv_at hl 2 rfl) ?_
        refine lv_aload_n hx hb dX0_alikeTold_48 rfl (lv_at hl 3 rfl) ?_
        refine lv_iload hx hb dX0_alikeTold_49 (lv_at hl 0 rfl) ?_
        obtain ⟨c11, hr⟩ := br_none hr
        refine va_iald hx hb hG.1 hP 26 0 rfl rfl c11 dX0_alikeTold_51 ?_
        refine va_mmin hx hb (hml.trans hl.1.symm) hown (hts _ q869) (hts _ q605) (hts _ q126) (hts _ q606) (Nat.le_of_ble_eq_true rfl) (Nat.le_of_ble_eq_true rfl) (Nat.le_of_ble_eq_true rfl) (Nat.le_of_ble_eq_true rfl) dX0_alikeTold_52 ?_
        refine lv_topi (fun v12 hv12 => ?_)
        have hr := br_letv hr hv12
        refine lv_istore_n (lv' := [(3, .int v12), (5, .int x5_5), (4, .int x4_5), (2, .ref tq), (1, .int a1)]) hx hb dX0_alikeTold_55 rfl hl (by decide) rfl (fun ls hl => ?_)
        refine lv_iconst (v := 1) hx hb dX0_alikeTold_56 rfl ?_
        refine lv_istore (lv' := [(6, .int 1), (3, .int v12), (5, .int x5_5), (4, .int x4_5), (2, .ref tq), (1, .int a1)]) hx hb dX0_alikeTold_57 hl (by decide) rfl (fun ls hl => ?_)
        refine lv_iconst (v := 0) hx hb dX0_alikeTold_59 rfl ?_
        refine lv_istore (lv' := [(7, .int 0), (6, .int 1), (3, .int v12), (5, .int x5_5), (4, .int x4_5), (2, .ref tq), (1, .int a1)]) hx hb dX0_alikeTold_60 hl (by decide) rfl (fun ls hl => ?_)
        have L13 : ∀ (n : Nat) (x7_13 : Int32) (x6_13 : Int32) (o13 : Int32), f_X0_alikeTold_L62 x5_5 ta10 n x7_13 x6_13 = some o13 → ∀ (H : Heap) (locs : List Loc) ls, lv_has ls 8 [(7, .int x7_13), (6, .int x6_13), (3, .int v12), (5, .int x5_5), (4, .int x4_5), (2, .ref tq), (1, .int a1)] → Stt D (va_A (wX ax ac g) s.heap.size) s.heap (wX ax ac g_5 ++ [(tq, va_ai (ac 0) 4 ta10)]) H locs → (∀ (H : Heap) (locs : List Loc) ls, lv_has ls 8 [(6, .int o13), (3, .int v12), (5, .int x5_5), (4, .int x4_5), (2, .ref tq), (1, .int a1)] → Stt D (va_A (wX ax ac g) s.heap.size) s.heap (wX ax ac g_5 ++ [(tq, va_ai (ac 0) 4 ta10)]) H locs → WT p l e rm_X0_alikeTold s m [.ref (ax 0), .int a1] below meth c D (va_A (wX ax ac g) s.heap.size) oc H locs 2 11 96 ls []) → WT p l e rm_X0_alikeTold s m [.ref (ax 0), .int a1] below meth c D (va_A (wX ax ac g) s.heap.size) oc H locs 2 11 62 ls [] := by
          intro n
          induction n with
          | zero => intro x7_13 x6_13 o13 hr; rw [f_X0_alikeTold_L62] at hr; cases hr
          | succ n ih =>
            intro x7_13 x6_13 o13 hr H locs ls hl hS kx
            have hP := hS.1
            rw [f_X0_alikeTold_L62] at hr
            refine lv_iload hx hb dX0_alikeTold_62 (lv_at hl 0 rfl) ?_
            refine lv_iload hx hb dX0_alikeTold_64 (lv_at hl 3 rfl) ?_
            have hi14 := br_ite hr
            refine lv_icmp_ge (tgt := 96) hx hb dX0_alikeTold_66 (by decide) (fun c14 => ?_) (fun c14 => ?_)
            · have hr := hi14.1 c14
              obtain rfl := Option.some.inj hr
              exact kx _ _ ls (lv_sub hl [1, 2, 3, 4, 5, 6] rfl) hS
            · have hr := hi14.2 c14
              refine lv_iload hx hb dX0_alikeTold_69 (lv_at hl 1 rfl) ?_
              refine lv_aload_n hx hb dX0_alikeTold_71 rfl (lv_at hl 5 rfl) ?_
              refine lv_iload hx hb dX0_alikeTold_72 (lv_at hl 0 rfl) ?_
              obtain ⟨c15, hr⟩ := br_none hr
              refine va_iald hx hb hG.1 hP 26 0 rfl rfl c15 dX0_alikeTold_74 ?_
              refine lv_aload_n hx hb dX0_alikeTold_75 rfl (lv_at hl 5 rfl) ?_
              refine lv_iload hx hb dX0_alikeTold_76 (lv_at hl 3 rfl) ?_
              obtain ⟨c16, hr⟩ := br_none hr
              refine va_iald hx hb hG.1 hP 26 0 rfl rfl c16 dX0_alikeTold_78 ?_
              have hi17 := br_ite hr
              refine lv_icmp_eq (tgt := 86) hx hb dX0_alikeTold_79 (by decide) (fun c17 => ?_) (fun c17 => ?_)
              · have hr := hi17.1 c17
                refine lv_iconst (v := 0) hx hb dX0_alikeTold_86 rfl ?_
                refine lv_iand hx hb dX0_alikeTold_87 ?_
                refine lv_topi (fun v18 hv18 => ?_)
                have hr := br_letv hr hv18
                refine lv_istore (lv' := [(6, .int v18), (7, .int x7_13), (3, .int v12), (5, .int x5_5), (4, .int x4_5), (2, .ref tq), (1, .int a1)]) hx hb dX0_alikeTold_88 hl (by decide) rfl (fun ls hl => ?_)
                obtain ⟨v19, hv19, hr⟩ := br_let hr
                refine lv_iinc (v := v19) (lv' := [(7, .int v19), (6, .int v18), (3, .int v12), (5, .int x5_5), (4, .int x4_5), (2, .ref tq), (1, .int a1)]) hx hb dX0_alikeTold_90 hl (k := 1) rfl (hv19 ▸ rfl) (by decide) rfl (fun ls hl => ?_)
                refine lv_goto (tgt := 62) hx hb dX0_alikeTold_93 (by decide) ?_
                exact ih v19 v18 _ hr _ _ ls (lv_sub hl [0, 1, 2, 3, 4, 5, 6] rfl) hS kx
              · have hr := hi17.2 c17
                refine lv_iconst (v := 1) hx hb dX0_alikeTold_82 rfl ?_
                refine lv_goto (tgt := 87) hx hb dX0_alikeTold_83 (by decide) ?_
                refine lv_iand hx hb dX0_alikeTold_87 ?_
                refine lv_topi (fun v20 hv20 => ?_)
                have hr := br_letv hr hv20
                refine lv_istore (lv' := [(6, .int v20), (7, .int x7_13), (3, .int v12), (5, .int x5_5), (4, .int x4_5), (2, .ref tq), (1, .int a1)]) hx hb dX0_alikeTold_88 hl (by decide) rfl (fun ls hl => ?_)
                obtain ⟨v21, hv21, hr⟩ := br_let hr
                refine lv_iinc (v := v21) (lv' := [(7, .int v21), (6, .int v20), (3, .int v12), (5, .int x5_5), (4, .int x4_5), (2, .ref tq), (1, .int a1)]) hx hb dX0_alikeTold_90 hl (k := 1) rfl (hv21 ▸ rfl) (by decide) rfl (fun ls hl => ?_)
                refine lv_goto (tgt := 62) hx hb dX0_alikeTold_93 (by decide) ?_
                exact ih v21 v20 _ hr _ _ ls (lv_sub hl [0, 1, 2, 3, 4, 5, 6] rfl) hS kx
        obtain ⟨o13, ho13, hr⟩ := br_bind hr
        refine L13 1000 0 1 o13 ho13 _ _ ls (lv_sub hl [0, 1, 2, 3, 4, 5, 6] rfl) hS (fun H locs ls hl hS => ?_)
        have hP := hS.1
        refine lv_iload hx hb dX0_alikeTold_96 (lv_at hl 3 rfl) ?_
        refine lv_iload hx hb dX0_alikeTold_98 (lv_at hl 0 rfl) ?_
        have hi22 := br_ite hr
        refine lv_if_eq (tgt := 107) hx hb dX0_alikeTold_100 (by decide) (fun c22 => ?_) (fun c22 => ?_)
        · have hr := hi22.1 c22
          refine lv_iconst (v := 0) hx hb dX0_alikeTold_107 rfl ?_
          refine lv_iadd hx hb dX0_alikeTold_108 ?_
          refine lv_topi (fun v23 hv23 => ?_)
          have hr := br_letv hr hv23
          refine lv_istore (lv' := [(4, .int v23), (6, .int o13), (3, .int v12), (5, .int x5_5), (2, .ref tq), (1, .int a1)]) hx hb dX0_alikeTold_109 hl (by decide) rfl (fun ls hl => ?_)
          obtain ⟨v24, hv24, hr⟩ := br_let hr
          refine lv_iinc (v := v24) (lv' := [(5, .int v24), (4, .int v23), (6, .int o13), (3, .int v12), (2, .ref tq), (1, .int a1)]) hx hb dX0_alikeTold_111 hl (k := 3) rfl (hv24 ▸ rfl) (by decide) rfl (fun ls hl => ?_)
          refine lv_goto (tgt := 28) hx hb dX0_alikeTold_114 (by decide) ?_
          exact ih v24 v23 v12 g_5 ta10 _ hr _ _ ls (lv_sub hl [0, 1, 3, 4, 5] rfl) hS kx
        · have hr := hi22.2 c22
          refine lv_iconst (v := 1) hx hb dX0_alikeTold_103 rfl ?_
          refine lv_goto (tgt := 108) hx hb dX0_alikeTold_104 (by decide) ?_
          refine lv_iadd hx hb dX0_alikeTold_108 ?_
          refine lv_topi (fun v25 hv25 => ?_)
          have hr := br_letv hr hv25
          refine lv_istore (lv' := [(4, .int v25), (6, .int o13), (3, .int v12), (5, .int x5_5), (2, .ref tq), (1, .int a1)]) hx hb dX0_alikeTold_109 hl (by decide) rfl (fun ls hl => ?_)
          obtain ⟨v26, hv26, hr⟩ := br_let hr
          refine lv_iinc (v := v26) (lv' := [(5, .int v26), (4, .int v25), (6, .int o13), (3, .int v12), (2, .ref tq), (1, .int a1)]) hx hb dX0_alikeTold_111 hl (k := 3) rfl (hv26 ▸ rfl) (by decide) rfl (fun ls hl => ?_)
          refine lv_goto (tgt := 28) hx hb dX0_alikeTold_114 (by decide) ?_
          exact ih v26 v25 v12 g_5 ta10 _ hr _ _ ls (lv_sub hl [0, 1, 3, 4, 5] rfl) hS kx
  obtain ⟨o5, ho5, hr⟩ := br_bind hr
  refine L5 1000 1 1 v4 g ta3 o5 ho5 _ _ ls (lv_sub hl [0, 1, 2, 3, 5] rfl) hS (fun H locs ls hl hS => ?_)
  have hP := hS.1
  refine lv_iload_n hx hb dX0_alikeTold_117 rfl (lv_at hl 2 rfl) ?_
  have hi27 := br_ite hr
  refine lv_if_ne (tgt := 126) hx hb dX0_alikeTold_118 (by decide) (fun c27 => ?_) (fun c27 => ?_)
  · have hr := hi27.2 c27
    refine lv_iload_n hx hb dX0_alikeTold_126 rfl (lv_at hl 1 rfl) ?_
    obtain rfl := Option.some.inj hr
    have hS := hS.perm (ws' := wX ax ac o5.2.2.1) [0, 1, 2, 3, 4, 5, 6, 7, 8, 9, 10, 11, 12, 13, 14, 15, 16, 17, 18, 19, 20, 21, 22, 23, 24, 25] (by decide) rfl
    refine W.widen (k := rm_X0_alikeTold.cells) (n := rm_X0_alikeTold.slots) (Nat.le_of_ble_eq_true rfl) (Nat.le_of_ble_eq_true rfl) ?_
    subst hoc
    exact xx_ret (W.iret hx hb hrt (fun t ht _ => hS.q ht rfl) hS.2.2.2.2 dX0_alikeTold_127 hlk)
  · have hr := hi27.1 c27
    refine lv_iload hx hb dX0_alikeTold_121 (lv_at hl 0 rfl) ?_
    refine lv_goto (tgt := 127) hx hb dX0_alikeTold_123 (by decide) ?_
    obtain rfl := Option.some.inj hr
    have hS := hS.perm (ws' := wX ax ac o5.2.2.1) [0, 1, 2, 3, 4, 5, 6, 7, 8, 9, 10, 11, 12, 13, 14, 15, 16, 17, 18, 19, 20, 21, 22, 23, 24, 25] (by decide) rfl
    refine W.widen (k := rm_X0_alikeTold.cells) (n := rm_X0_alikeTold.slots) (Nat.le_of_ble_eq_true rfl) (Nat.le_of_ble_eq_true rfl) ?_
    subst hoc
    exact xx_ret (W.iret hx hb hrt (fun t ht _ => hS.q ht rfl) hS.2.2.2.2 dX0_alikeTold_127 hlk)
def f_X0_ofLast (g : XS) (a1 : Int32) (a2 : Int32) (a3 : Int32) (a4 : Int32) : Option ((Int32 × XS) ⊕ (Int32 × XS)) := if a1 = 26 then bX (f_X0_whatTold g a2 a3) (fun b7 => (b7.1, b7.2)) fun o7 => some (Sum.inl (o7.1, o7.2)) else if a1 = 27 then bX (f_X0_within (Int32.toInt64 a2) (0 : Int64) (99 : Int64)) (fun b8 => (b8, g)) fun o8 => Option.bind (α := Int32) (if 16 ≤ (xG_rowMany g) then some 0 else some 1) fun o10 => bX (f_X0_must o10 (-6 : Int32)) (fun b11 => (b11, g)) fun o11 => Option.bind (some ((Int8.toInt32 (Int32.toInt8 a2)) : Int32)) fun v12 => if (xG_rowMany g) < 0 ∨ 16 ≤ Int32.toNatClampNeg (xG_rowMany g) then none else Option.bind (some (xS_row g (upd (xG_row g) (Int32.toNatClampNeg (xG_rowMany g)) (vp_nar .byte v12)))) fun g14 => Option.bind (some (xS_rowMany g14 ((xG_rowMany g14) + 1))) fun g15 => some (Sum.inl ((xG_rowMany g15), g15)) else if a1 = 28 then Option.bind (f_X0_judgeRow g) fun o16 => some (Sum.inl (o16.1, o16.2)) else if a1 = 29 then Option.bind (some ((xG_rowMany g) : Int32)) fun v17 => Option.bind (some (xS_rowMany g (0 : Int32))) fun g18 => some (Sum.inl (v17, g18)) else if a1 = 30 then bX (f_X0_lotsTold g a2 a3 a4) (fun b19 => (b19.1, b19.2)) fun o19 => some (Sum.inl (o19.1, o19.2)) else if a1 = 31 then Option.bind (some (xS_hasImage g (1 : Int32))) fun g20 => Option.bind (f_X8_set (xG_imaged g20) (xG_core0 g20)) fun o21 => Option.bind (some (xS_imaged g20 o21)) fun g22 => some (Sum.inl ((cG_bitten (xG_core0 g22)), g22)) else bX (f_X0_must (xG_hasImage g) (-3 : Int32)) (fun b23 => (b23, g)) fun o23 => Option.bind (f_X8_set (xG_core0 g) (xG_imaged g)) fun o24 => Option.bind (some (xS_core0 g o24)) fun g25 => some (Sum.inl ((cG_bitten (xG_core0 g25)), g25))
abbrev rm_X0_ofLast : Room := ({ frames := 13, cells := 3, slots := 21, locals := 495 })
theorem cw_X0_ofLast {R : Room} {s : State} {args : Array Value} {own : String} {index : Nat} (hts : ∀ w ∈ lw_all, w.before args s = true) (hlink : Cond.methodLink own index yX0_ofLast ∈ lw_all) (hR : rm_X0_ofLast.frames + 1 ≤ R.frames ∧ 8 + (6 + 11) + rm_X0_ofLast.locals ≤ R.locals) : CallW R s args own RX0 index yX0_ofLast cX0_ofLast 6 (some FieldType.int) (ws_ yX0_ofLast cX0_ofLast 6 (some FieldType.int)) rm_X0_ofLast rm_X0_ofLast.cells rm_X0_ofLast.slots 4 :=
  cwV 4 hts (lw_V hlink q952 qs60 q102 q953) rfl rfl rfl (by decide +kernel) hR
set_option maxHeartbeats 4000000 in
theorem m_X0_ofLast (l : Launch) (hst : l.stackTraces = false) (D : va_G) (ax : Nat → Nat) (ac : Nat → ClassId) (g : XS) (a1 : Int32) (a2 : Int32) (a3 : Int32) (a4 : Int32) (sz : Nat) (r0 : (Int32 × XS) ⊕ (Int32 × XS)) (hr : f_X0_ofLast g a1 a2 a3 a4 = some r0) : TM l yX0_ofLast cX0_ofLast 6 (some FieldType.int) rm_X0_ofLast [.ref (ax 0), .int a1, .int a2, .int a3, .int a4] D ac (wX ax ac g) sz (Sum.map (fun u => (wX ax ac u.2, (some (.int u.1)))) (fun u => (wX ax ac u.2, u.1)) r0) := by
  generalize hoc : (Sum.map (fun u => (wX ax ac u.2, (some (.int u.1)))) (fun u => (wX ax ac u.2, u.1)) r0 : Oc) = oc
  refine fw_ofT (by decide) (Nat.le_of_ble_eq_true rfl) ?_
  intro p e s m below meth c ls hx hb hrt hts hown hlk hml _ hnt hU hl
  obtain ⟨⟨rfl, hP, hG, hD⟩, hZ⟩ := hU
  have hA : ∀ q : Nat, s.heap.size ≤ q → (va_A (wX ax ac g) s.heap.size) q := fun q h => Or.inr h
  have hS := Stt.start hP hD
  show WT p l e rm_X0_ofLast s m [.ref (ax 0), .int a1, .int a2, .int a3, .int a4] below meth c D (va_A (wX ax ac g) s.heap.size) oc s.heap [] 0 0 0 ls []
  have hl : lv_has ls 6 [(0, .ref (ax 0)), (1, .int a1), (2, .int a2), (3, .int a3), (4, .int a4)] := hl
  rw [f_X0_ofLast] at hr
  refine lv_iload_n hx hb dX0_ofLast_0 rfl (lv_at hl 1 rfl) ?_
  have hi1 := br_ite hr
  by_cases c1 : a1 = 26
  · have hr := hi1.1 c1
    refine lv_tableIn (tgt := 40) hx hb dX0_ofLast_1 (by rw [c1]; decide) (by rw [c1]; decide) (by rw [c1]; rfl) (by decide) ?_
    refine lv_aload_n hx hb dX0_ofLast_40 rfl (lv_at hl 0 rfl) ?_
    refine lv_iload_n hx hb dX0_ofLast_41 rfl (lv_at hl 2 rfl) ?_
    refine lv_iload_n hx hb dX0_ofLast_42 rfl (lv_at hl 3 rfl) ?_
    rcases Or.symm (br_bX hr) with ⟨o7, ho7, rfl⟩ | ⟨o7, ho7, hr⟩
    · refine fwTVx (As := [.int a2, .int a3]) (rest := []) (C := RX0) hx hb hml hown hts (m_X0_whatTold l hst D ax ac g a2 a3 _ _ ho7) (cw_X0_whatTold hts q954 ⟨Nat.le_of_ble_eq_true rfl, Nat.le_of_ble_eq_true rfl⟩) hG hZ hS hA ixX nd_X (pk_X ax ac _) (ad_X ax ac _ _) 0 0 rfl rfl rfl hl.1 rfl (Nat.le_of_ble_eq_true rfl) dX0_ofLast_43 ⟨Nat.le_of_ble_eq_true rfl, Nat.le_of_ble_eq_true rfl⟩ (wn := wX ax ac o7.2) (rep_X ax ac _ _) (fun q_ ci_ H locs hci hS => ?_)
      subst hoc; exact fw_xout hnt hlk hG hci hS (Nat.le_of_ble_eq_true rfl) (Nat.le_of_ble_eq_true rfl)
    refine fwTVo (As := [.int a2, .int a3]) (rest := []) (C := RX0) hx hb hml hown hts (m_X0_whatTold l hst D ax ac g a2 a3 _ _ ho7) (cw_X0_whatTold hts q954 ⟨Nat.le_of_ble_eq_true rfl, Nat.le_of_ble_eq_true rfl⟩) hG hZ hS hA ixX nd_X (pk_X ax ac _) (ad_X ax ac _ _) 0 0 rfl rfl rfl hl.1 rfl (Nat.le_of_ble_eq_true rfl) dX0_ofLast_43 ⟨Nat.le_of_ble_eq_true rfl, Nat.le_of_ble_eq_true rfl⟩ (wn := wX ax ac o7.2) (rep_X ax ac _ _) (fun H locs hS => ?_)
    have hP := hS.1
    refine W.widen (k := 2) (n := 14) (by first | exact Nat.le_refl _ | (dsimp only [rm_X0_whatTold]; omega)) (by first | exact Nat.le_refl _ | (dsimp only [rm_X0_whatTold]; omega)) ?_
    obtain rfl := Option.some.inj hr
    refine W.widen (k := rm_X0_ofLast.cells) (n := rm_X0_ofLast.slots) (Nat.le_of_ble_eq_true rfl) (Nat.le_of_ble_eq_true rfl) ?_
    subst hoc
    exact xx_ret (W.iret hx hb hrt (fun t ht _ => hS.q ht rfl) hS.2.2.2.2 dX0_ofLast_46 hlk)
  have hr := hi1.2 c1
  have hi2 := br_ite hr
  by_cases c2 : a1 = 27
  · have hr := hi2.1 c2
    refine lv_tableIn (tgt := 47) hx hb dX0_ofLast_1 (by rw [c2]; decide) (by rw [c2]; decide) (by rw [c2]; rfl) (by decide) ?_
    refine lv_iload_n hx hb dX0_ofLast_47 rfl (lv_at hl 2 rfl) ?_
    refine lv_i2l (v := (Int32.toInt64 a2)) hx hb dX0_ofLast_48 rfl ?_
    refine lv_lconst (v := 0) hx hb dX0_ofLast_49 rfl ?_
    refine lv_ldc2 (v := 99) hx hb hown (hts _ q966) dX0_ofLast_50 ?_
    rcases Or.symm (br_bX hr) with ⟨o8, ho8, rfl⟩ | ⟨o8, ho8, hr⟩
    · refine fwTSx (As := [.long (Int32.toInt64 a2), .long 0, .long 99]) (rest := []) hx hb hml hown hts (m_X0_within l hst D ac (Int32.toInt64 a2) (0 : Int64) (99 : Int64) _ _ ho8) (cw_X0_within hts q312 ⟨Nat.le_of_ble_eq_true rfl, Nat.le_of_ble_eq_true rfl⟩) hG hZ hS hA [] rfl rfl rfl rfl hl.1 rfl (Nat.le_of_ble_eq_true rfl) dX0_ofLast_53 ⟨Nat.le_of_ble_eq_true rfl, Nat.le_of_ble_eq_true rfl⟩ (wn := wX ax ac g) rfl (fun q_ ci_ H locs hci hS => ?_)
      subst hoc; exact fw_xout hnt hlk hG hci hS (Nat.le_of_ble_eq_true rfl) (Nat.le_of_ble_eq_true rfl)
    refine fwTSo (As := [.long (Int32.toInt64 a2), .long 0, .long 99]) (rest := []) hx hb hml hown hts (m_X0_within l hst D ac (Int32.toInt64 a2) (0 : Int64) (99 : Int64) _ _ ho8) (cw_X0_within hts q312 ⟨Nat.le_of_ble_eq_true rfl, Nat.le_of_ble_eq_true rfl⟩) hG hZ hS hA [] rfl rfl rfl rfl hl.1 rfl (Nat.le_of_ble_eq_true rfl) dX0_ofLast_53 ⟨Nat.le_of_ble_eq_true rfl, Nat.le_of_ble_eq_true rfl⟩ (wn := wX ax ac g) rfl (fun H locs hS => ?_)
    have hP := hS.1
    refine W.widen (k := 2) (n := 14) (by first | exact Nat.le_refl _ | (dsimp only [rm_X0_within]; omega)) (by first | exact Nat.le_refl _ | (dsimp only [rm_X0_within]; omega)) ?_
    refine lv_aload_n hx hb dX0_ofLast_56 rfl (lv_at hl 0 rfl) ?_
    refine va_get (D := D) (ci := 0) (v := .int (xG_rowMany g)) (C := RX0) (T := TX0) (N := 17) hx hb hts in_X0 hown hG.1 hP 0 rfl rfl 6 (by decide) (hts _ q239) (fun _ h9 => h9) rfl dX0_ofLast_57 ?_
    refine lv_bipush (v := 16) hx hb dX0_ofLast_60 rfl ?_
    obtain ⟨o10, ho10, hr⟩ := br_bind hr
    have J10 : ∀ (H : Heap) (locs : List Loc) ls, lv_has ls 6 [(0, .ref (ax 0)), (2, .int a2)] → Stt D (va_A (wX ax ac g) s.heap.size) s.heap (wX ax ac g) H locs → WT p l e rm_X0_ofLast s m [.ref (ax 0), .int a1, .int a2, .int a3, .int a4] below meth c D (va_A (wX ax ac g) s.heap.size) oc H locs 2 14 70 ls [.int o10] := by
      intro H locs ls hl hS
      have hP := hS.1
      refine lv_bipush (v := (-6)) hx hb dX0_ofLast_70 rfl ?_
      rcases Or.symm (br_bX hr) with ⟨o11, ho11, rfl⟩ | ⟨o11, ho11, hr⟩
      · refine fwTSx (As := [.int o10, .int (-6)]) (rest := []) hx hb hml hown hts (m_X0_must l hst D ac o10 (-6 : Int32) _ _ ho11) (cw_X0_must hts q315 ⟨Nat.le_of_ble_eq_true rfl, Nat.le_of_ble_eq_true rfl⟩) hG hZ hS hA [] rfl rfl rfl rfl hl.1 rfl (Nat.le_of_ble_eq_true rfl) dX0_ofLast_72 ⟨Nat.le_of_ble_eq_true rfl, Nat.le_of_ble_eq_true rfl⟩ (wn := wX ax ac g) rfl (fun q_ ci_ H locs hci hS => ?_)
        subst hoc; exact fw_xout hnt hlk hG hci hS (Nat.le_of_ble_eq_true rfl) (Nat.le_of_ble_eq_true rfl)
      refine fwTSo (As := [.int o10, .int (-6)]) (rest := []) hx hb hml hown hts (m_X0_must l hst D ac o10 (-6 : Int32) _ _ ho11) (cw_X0_must hts q315 ⟨Nat.le_of_ble_eq_true rfl, Nat.le_of_ble_eq_true rfl⟩) hG hZ hS hA [] rfl rfl rfl rfl hl.1 rfl (Nat.le_of_ble_eq_true rfl) dX0_ofLast_72 ⟨Nat.le_of_ble_eq_true rfl, Nat.le_of_ble_eq_true rfl⟩ (wn := wX ax ac g) rfl (fun H locs hS => ?_)
      have hP := hS.1
      refine W.widen (k := 3) (n := 21) (by first | exact Nat.le_refl _ | (dsimp only [rm_X0_must]; omega)) (by first | exact Nat.le_refl _ | (dsimp only [rm_X0_must]; omega)) ?_
      refine lv_aload_n hx hb dX0_ofLast_75 rfl (lv_at hl 0 rfl) ?_
      refine va_get (D := D) (ci := 0) (v := .ref (ax 17)) (C := RX0) (T := TX0) (N := 17) hx hb hts in_X0 hown hG.1 hP 0 rfl rfl 5 (by decide) (hts _ q238) (fun _ h9 => h9) rfl dX0_ofLast_76 ?_
      refine lv_aload_n hx hb dX0_ofLast_79 rfl (lv_at hl 0 rfl) ?_
      refine va_get (D := D) (ci := 0) (v := .int (xG_rowMany g)) (C := RX0) (T := TX0) (N := 17) hx hb hts in_X0 hown hG.1 hP 0 rfl rfl 6 (by decide) (hts _ q239) (fun _ h9 => h9) rfl dX0_ofLast_80 ?_
      refine lv_iload_n hx hb dX0_ofLast_83 rfl (lv_at hl 1 rfl) ?_
      refine lv_i2b (v := (Int8.toInt32 (Int32.toInt8 a2))) hx hb dX0_ofLast_84 rfl ?_
      refine lv_topi (fun v12 hv12 => ?_)
      have hr := br_letv hr hv12
      obtain ⟨c13, hr⟩ := br_none hr
      obtain ⟨g14, hg14, hr⟩ := br_let hr
      refine fw_bast hx hb hG hS 17 rfl c13 dX0_ofLast_85 (wn := wX ax ac g14) (by rw [hg14]; rfl) (fun H locs hS => ?_)
      have hP := hS.1
      refine lv_aload_n hx hb dX0_ofLast_86 rfl (lv_at hl 0 rfl) ?_
      refine lv_dup hx hb dX0_ofLast_87 rfl ?_
      refine va_get (D := D) (ci := 0) (v := .int (xG_rowMany g14)) (C := RX0) (T := TX0) (N := 17) hx hb hts in_X0 hown hG.1 hP 0 rfl rfl 6 (by decide) (hts _ q239) (fun _ h9 => h9) rfl dX0_ofLast_88 ?_
      refine lv_iconst (v := 1) hx hb dX0_ofLast_91 rfl ?_
      refine lv_iadd hx hb dX0_ofLast_92 ?_
      obtain ⟨g15, hg15, hr⟩ := br_let hr
      refine fw_put (D := D) (ci := 0) (x := .int ((xG_rowMany g14) + 1)) (C := RX0) (T := TX0) (N := 17) hx hb hts in_X0 tyX0 tyX0_ok nmX0 hown hG hS 0 rfl rfl 6 (by decide) (hts _ q239) (fun _ h9 => h9) rfl (tyX0_ok 6 (by decide)) rfl rfl (Nat.le_of_ble_eq_true rfl) dX0_ofLast_93 (wn := wX ax ac g15) (by rw [hg15]; rfl) (fun H locs hS => ?_)
      have hP := hS.1
      refine lv_aload_n hx hb dX0_ofLast_96 rfl (lv_at hl 0 rfl) ?_
      refine va_get (D := D) (ci := 0) (v := .int (xG_rowMany g15)) (C := RX0) (T := TX0) (N := 17) hx hb hts in_X0 hown hG.1 hP 0 rfl rfl 6 (by decide) (hts _ q239) (fun _ h9 => h9) rfl dX0_ofLast_97 ?_
      obtain rfl := Option.some.inj hr
      refine W.widen (k := rm_X0_ofLast.cells) (n := rm_X0_ofLast.slots) (Nat.le_of_ble_eq_true rfl) (Nat.le_of_ble_eq_true rfl) ?_
      subst hoc
      exact xx_ret (W.iret hx hb hrt (fun t ht _ => hS.q ht rfl) hS.2.2.2.2 dX0_ofLast_100 hlk)
    have hr := ho10
    have hi9 := br_ite hr
    refine lv_icmp_ge (tgt := 69) hx hb dX0_ofLast_62 (by decide) (fun c9 => ?_) (fun c9 => ?_)
    · have hr := hi9.1 c9
      refine lv_iconst (v := 0) hx hb dX0_ofLast_69 rfl ?_
      obtain rfl := Option.some.inj hr
      exact J10 _ _ ls (lv_sub hl [0, 2] rfl) hS
    · have hr := hi9.2 c9
      refine lv_iconst (v := 1) hx hb dX0_ofLast_65 rfl ?_
      refine lv_goto (tgt := 70) hx hb dX0_ofLast_66 (by decide) ?_
      obtain rfl := Option.some.inj hr
      exact J10 _ _ ls (lv_sub hl [0, 2] rfl) hS
  have hr := hi2.2 c2
  have hi3 := br_ite hr
  by_cases c3 : a1 = 28
  · have hr := hi3.1 c3
    refine lv_tableIn (tgt := 101) hx hb dX0_ofLast_1 (by rw [c3]; decide) (by rw [c3]; decide) (by rw [c3]; rfl) (by decide) ?_
    refine lv_aload_n hx hb dX0_ofLast_101 rfl (lv_at hl 0 rfl) ?_
    obtain ⟨o16, ho16, hr⟩ := br_bind hr
    refine fwWVs (As := []) (rest := []) (C := RX0) hx hb hml hown hts (m_X0_judgeRow l D ax ac g _ o16 ho16) (cw_X0_judgeRow hts q967 ⟨Nat.le_of_ble_eq_true rfl, Nat.le_of_ble_eq_true rfl⟩) hG hS hA rfl 0 0 rfl rfl rfl hl.1 rfl (Nat.le_of_ble_eq_true rfl) dX0_ofLast_102 ⟨Nat.le_of_ble_eq_true rfl, Nat.le_of_ble_eq_true rfl⟩ (fun H locs hS => ?_)
    have hP := hS.1
    obtain rfl := Option.some.inj hr
    refine W.widen (k := rm_X0_ofLast.cells) (n := rm_X0_ofLast.slots) (Nat.le_of_ble_eq_true rfl) (Nat.le_of_ble_eq_true rfl) ?_
    subst hoc
    exact xx_ret (W.iret hx hb hrt (fun t ht _ => hS.q ht rfl) hS.2.2.2.2 dX0_ofLast_105 hlk)
  have hr := hi3.2 c3
  have hi4 := br_ite hr
  by_cases c4 : a1 = 29
  · have hr := hi4.1 c4
    refine lv_tableIn (tgt := 106) hx hb dX0_ofLast_1 (by rw [c4]; decide) (by rw [c4]; decide) (by rw [c4]; rfl) (by decide) ?_
    refine lv_aload_n hx hb dX0_ofLast_106 rfl (lv_at hl 0 rfl) ?_
    refine va_get (D := D) (ci := 0) (v := .int (xG_rowMany g)) (C := RX0) (T := TX0) (N := 17) hx hb hts in_X0 hown hG.1 hP 0 rfl rfl 6 (by decide) (hts _ q239) (fun _ h9 => h9) rfl dX0_ofLast_107 ?_
    refine lv_topi (fun v17 hv17 => ?_)
    have hr := br_letv hr hv17
    refine lv_istore (lv' := [(5, .int v17), (0, .ref (ax 0)), (1, .int a1), (2, .int a2), (3, .int a3), (4, .int a4)]) hx hb dX0_ofLast_110 hl (by decide) rfl (fun ls hl => ?_)
    refine lv_aload_n hx hb dX0_ofLast_112 rfl (lv_at hl 1 rfl) ?_
    refine lv_iconst (v := 0) hx hb dX0_ofLast_113 rfl ?_
    obtain ⟨g18, hg18, hr⟩ := br_let hr
    refine fw_put (D := D) (ci := 0) (x := .int 0) (C := RX0) (T := TX0) (N := 17) hx hb hts in_X0 tyX0 tyX0_ok nmX0 hown hG hS 0 rfl rfl 6 (by decide) (hts _ q239) (fun _ h9 => h9) rfl (tyX0_ok 6 (by decide)) rfl rfl (Nat.le_of_ble_eq_true rfl) dX0_ofLast_114 (wn := wX ax ac g18) (by rw [hg18]; rfl) (fun H locs hS => ?_)
    have hP := hS.1
    refine lv_iload hx hb dX0_ofLast_117 (lv_at hl 0 rfl) ?_
    obtain rfl := Option.some.inj hr
    refine W.widen (k := rm_X0_ofLast.cells) (n := rm_X0_ofLast.slots) (Nat.le_of_ble_eq_true rfl) (Nat.le_of_ble_eq_true rfl) ?_
    subst hoc
    exact xx_ret (W.iret hx hb hrt (fun t ht _ => hS.q ht rfl) hS.2.2.2.2 dX0_ofLast_119 hlk)
  have hr := hi4.2 c4
  have hi5 := br_ite hr
  by_cases c5 : a1 = 30
  · have hr := hi5.1 c5
    refine lv_tableIn (tgt := 120) hx hb dX0_ofLast_1 (by rw [c5]; decide) (by rw [c5]; decide) (by rw [c5]; rfl) (by decide) ?_
    refine lv_aload_n hx hb dX0_ofLast_120 rfl (lv_at hl 0 rfl) ?_
    refine lv_iload_n hx hb dX0_ofLast_121 rfl (lv_at hl 2 rfl) ?_
    refine lv_iload_n hx hb dX0_ofLast_122 rfl (lv_at hl 3 rfl) ?_
    refine lv_iload hx hb dX0_ofLast_123 (lv_at hl 4 rfl) ?_
    rcases Or.symm (br_bX hr) with ⟨o19, ho19, rfl⟩ | ⟨o19, ho19, hr⟩
    · refine fwTVx (As := [.int a2, .int a3, .int a4]) (rest := []) (C := RX0) hx hb hml hown hts (m_X0_lotsTold l hst D ax ac g a2 a3 a4 _ _ ho19) (cw_X0_lotsTold hts q971 ⟨Nat.le_of_ble_eq_true rfl, Nat.le_of_ble_eq_true rfl⟩) hG hZ hS hA ixX nd_X (pk_X ax ac _) (ad_X ax ac _ _) 0 0 rfl rfl rfl hl.1 rfl (Nat.le_of_ble_eq_true rfl) dX0_ofLast_125 ⟨Nat.le_of_ble_eq_true rfl, Nat.le_of_ble_eq_true rfl⟩ (wn := wX ax ac o19.2) (rep_X ax ac _ _) (fun q_ ci_ H locs hci hS => ?_)
      subst hoc; exact fw_xout hnt hlk hG hci hS (Nat.le_of_ble_eq_true rfl) (Nat.le_of_ble_eq_true rfl)
    refine fwTVo (As := [.int a2, .int a3, .int a4]) (rest := []) (C := RX0) hx hb hml hown hts (m_X0_lotsTold l hst D ax ac g a2 a3 a4 _ _ ho19) (cw_X0_lotsTold hts q971 ⟨Nat.le_of_ble_eq_true rfl, Nat.le_of_ble_eq_true rfl⟩) hG hZ hS hA ixX nd_X (pk_X ax ac _) (ad_X ax ac _ _) 0 0 rfl rfl rfl hl.1 rfl (Nat.le_of_ble_eq_true rfl) dX0_ofLast_125 ⟨Nat.le_of_ble_eq_true rfl, Nat.le_of_ble_eq_true rfl⟩ (wn := wX ax ac o19.2) (rep_X ax ac _ _) (fun H locs hS => ?_)
    have hP := hS.1
    refine W.widen (k := 3) (n := 21) (by first | exact Nat.le_refl _ | (dsimp only [rm_X0_lotsTold]; omega)) (by first | exact Nat.le_refl _ | (dsimp only [rm_X0_lotsTold]; omega)) ?_
    obtain rfl := Option.some.inj hr
    refine W.widen (k := rm_X0_ofLast.cells) (n := rm_X0_ofLast.slots) (Nat.le_of_ble_eq_true rfl) (Nat.le_of_ble_eq_true rfl) ?_
    subst hoc
    exact xx_ret (W.iret hx hb hrt (fun t ht _ => hS.q ht rfl) hS.2.2.2.2 dX0_ofLast_128 hlk)
  have hr := hi5.2 c5
  have hi6 := br_ite hr
  by_cases c6 : a1 = 31
  · have hr := hi6.1 c6
    refine lv_tableIn (tgt := 129) hx hb dX0_ofLast_1 (by rw [c6]; decide) (by rw [c6]; decide) (by rw [c6]; rfl) (by decide) ?_
    refine lv_aload_n hx hb dX0_ofLast_129 rfl (lv_at hl 0 rfl) ?_
    refine lv_iconst (v := 1) hx hb dX0_ofLast_130 rfl ?_
    obtain ⟨g20, hg20, hr⟩ := br_let hr
    refine fw_put (D := D) (ci := 0) (x := .int 1) (C := RX0) (T := TX0) (N := 17) hx hb hts in_X0 tyX0 tyX0_ok nmX0 hown hG hS 0 rfl rfl 4 (by decide) (hts _ q237) (fun _ h9 => h9) rfl (tyX0_ok 4 (by decide)) rfl rfl (Nat.le_of_ble_eq_true rfl) dX0_ofLast_131 (wn := wX ax ac g20) (by rw [hg20]; rfl) (fun H locs hS => ?_)
    have hP := hS.1
    refine lv_aload_n hx hb dX0_ofLast_134 rfl (lv_at hl 0 rfl) ?_
    refine va_get (D := D) (ci := 0) (v := .ref (ax 7)) (C := RX0) (T := TX0) (N := 17) hx hb hts in_X0 hown hG.1 hP 0 rfl rfl 3 (by decide) (hts _ q236) (fun _ h9 => h9) rfl dX0_ofLast_135 ?_
    refine lv_aload_n hx hb dX0_ofLast_138 rfl (lv_at hl 0 rfl) ?_
    refine va_get (D := D) (ci := 0) (v := .ref (ax 1)) (C := RX0) (T := TX0) (N := 17) hx hb hts in_X0 hown hG.1 hP 0 rfl rfl 1 (by decide) (hts _ q234) (fun _ h9 => h9) rfl dX0_ofLast_139 ?_
    obtain ⟨o21, ho21, hr⟩ := br_bind hr
    obtain ⟨g22, hg22, hr⟩ := br_let hr
    refine fwWV (As := [.ref (ax 1)]) (rest := []) (C := RX8) hx hb hml hown hts (m_X8_set l D ax ac (ax 7) (ax 8) (ax 9) (xG_imaged g20) (ax 1) (ax 2) (ax 3) (xG_core0 g20) _ o21 ho21) (cw_X8_set hts q534 ⟨Nat.le_of_ble_eq_true rfl, Nat.le_of_ble_eq_true rfl⟩) hG hS hA [7, 8, 9, 1, 2, 3, 11, 12, 13, 14, 15, 16] rfl rfl rfl 7 7 rfl rfl rfl hl.1 rfl (Nat.le_of_ble_eq_true rfl) dX0_ofLast_142 ⟨Nat.le_of_ble_eq_true rfl, Nat.le_of_ble_eq_true rfl⟩ (wn := wX ax ac g22) (by rw [hg22]; rfl) (fun H locs hS => ?_)
    have hP := hS.1
    refine lv_pop hx hb dX0_ofLast_145 rfl ?_
    refine lv_aload_n hx hb dX0_ofLast_146 rfl (lv_at hl 0 rfl) ?_
    refine va_get (D := D) (ci := 0) (v := .ref (ax 1)) (C := RX0) (T := TX0) (N := 17) hx hb hts in_X0 hown hG.1 hP 0 rfl rfl 1 (by decide) (hts _ q234) (fun _ h9 => h9) rfl dX0_ofLast_147 ?_
    refine va_getN (D := D) (ci := 7) (v := .int (cG_bitten (xG_core0 g22))) (C := RX8) (T := TX8) (N := 8) hx hb hts in_X8 hown hG.1 hP 1 rfl rfl 4 (by decide) (va_Nw.use rfl (hG.2.1 _ nq203)) (fun _ h9 => h9) rfl dX0_ofLast_150 ?_
    obtain rfl := Option.some.inj hr
    refine W.widen (k := rm_X0_ofLast.cells) (n := rm_X0_ofLast.slots) (Nat.le_of_ble_eq_true rfl) (Nat.le_of_ble_eq_true rfl) ?_
    subst hoc
    exact xx_ret (W.iret hx hb hrt (fun t ht _ => hS.q ht rfl) hS.2.2.2.2 dX0_ofLast_153 hlk)
  have hr := hi6.2 c6
  refine lv_tableOut (tgt := 154) hx hb dX0_ofLast_1 (by have n1 := lv_neT (a := 26) c1 rfl; have n2 := lv_neT (a := 27) c2 rfl; have n3 := lv_neT (a := 28) c3 rfl; have n4 := lv_neT (a := 29) c4 rfl; have n5 := lv_neT (a := 30) c5 rfl; have n6 := lv_neT (a := 31) c6 rfl; omega) (by decide) ?_
  refine lv_aload_n hx hb dX0_ofLast_154 rfl (lv_at hl 0 rfl) ?_
  refine va_get (D := D) (ci := 0) (v := .int (xG_hasImage g)) (C := RX0) (T := TX0) (N := 17) hx hb hts in_X0 hown hG.1 hP 0 rfl rfl 4 (by decide) (hts _ q237) (fun _ h9 => h9) rfl dX0_ofLast_155 ?_
  refine lv_bipush (v := (-3)) hx hb dX0_ofLast_158 rfl ?_
  rcases Or.symm (br_bX hr) with ⟨o23, ho23, rfl⟩ | ⟨o23, ho23, hr⟩
  · refine fwTSx (As := [.int (xG_hasImage g), .int (-3)]) (rest := []) hx hb hml hown hts (m_X0_must l hst D ac (xG_hasImage g) (-3 : Int32) _ _ ho23) (cw_X0_must hts q315 ⟨Nat.le_of_ble_eq_true rfl, Nat.le_of_ble_eq_true rfl⟩) hG hZ hS hA [] rfl rfl rfl rfl hl.1 rfl (Nat.le_of_ble_eq_true rfl) dX0_ofLast_160 ⟨Nat.le_of_ble_eq_true rfl, Nat.le_of_ble_eq_true rfl⟩ (wn := wX ax ac g) rfl (fun q_ ci_ H locs hci hS => ?_)
    subst hoc; exact fw_xout hnt hlk hG hci hS (Nat.le_of_ble_eq_true rfl) (Nat.le_of_ble_eq_true rfl)
  refine fwTSo (As := [.int (xG_hasImage g), .int (-3)]) (rest := []) hx hb hml hown hts (m_X0_must l hst D ac (xG_hasImage g) (-3 : Int32) _ _ ho23) (cw_X0_must hts q315 ⟨Nat.le_of_ble_eq_true rfl, Nat.le_of_ble_eq_true rfl⟩) hG hZ hS hA [] rfl rfl rfl rfl hl.1 rfl (Nat.le_of_ble_eq_true rfl) dX0_ofLast_160 ⟨Nat.le_of_ble_eq_true rfl, Nat.le_of_ble_eq_true rfl⟩ (wn := wX ax ac g) rfl (fun H locs hS => ?_)
  have hP := hS.1
  refine W.widen (k := 1) (n := 7) (by first | exact Nat.le_refl _ | (dsimp only [rm_X0_must]; omega)) (by first | exact Nat.le_refl _ | (dsimp only [rm_X0_must]; omega)) ?_
  refine lv_aload_n hx hb dX0_ofLast_163 rfl (lv_at hl 0 rfl) ?_
  refine va_get (D := D) (ci := 0) (v := .ref (ax 1)) (C := RX0) (T := TX0) (N := 17) hx hb hts in_X0 hown hG.1 hP 0 rfl rfl 1 (by decide) (hts _ q234) (fun _ h9 => h9) rfl dX0_ofLast_164 ?_
  refine lv_aload_n hx hb dX0_ofLast_167 rfl (lv_at hl 0 rfl) ?_
  refine va_get (D := D) (ci := 0) (v := .ref (ax 7)) (C := RX0) (T := TX0) (N := 17) hx hb hts in_X0 hown hG.1 hP 0 rfl rfl 3 (by decide) (hts _ q236) (fun _ h9 => h9) rfl dX0_ofLast_168 ?_
  obtain ⟨o24, ho24, hr⟩ := br_bind hr
  obtain ⟨g25, hg25, hr⟩ := br_let hr
  refine fwWV (As := [.ref (ax 7)]) (rest := []) (C := RX8) hx hb hml hown hts (m_X8_set l D ax ac (ax 1) (ax 2) (ax 3) (xG_core0 g) (ax 7) (ax 8) (ax 9) (xG_imaged g) _ o24 ho24) (cw_X8_set hts q534 ⟨Nat.le_of_ble_eq_true rfl, Nat.le_of_ble_eq_true rfl⟩) hG hS hA [1, 2, 3, 7, 8, 9, 11, 12, 13, 14, 15, 16] rfl rfl rfl 1 7 rfl rfl rfl hl.1 rfl (Nat.le_of_ble_eq_true rfl) dX0_ofLast_171 ⟨Nat.le_of_ble_eq_true rfl, Nat.le_of_ble_eq_true rfl⟩ (wn := wX ax ac g25) (by rw [hg25]; rfl) (fun H locs hS => ?_)
  have hP := hS.1
  refine lv_pop hx hb dX0_ofLast_174 rfl ?_
  refine lv_aload_n hx hb dX0_ofLast_175 rfl (lv_at hl 0 rfl) ?_
  refine va_get (D := D) (ci := 0) (v := .ref (ax 1)) (C := RX0) (T := TX0) (N := 17) hx hb hts in_X0 hown hG.1 hP 0 rfl rfl 1 (by decide) (hts _ q234) (fun _ h9 => h9) rfl dX0_ofLast_176 ?_
  refine va_getN (D := D) (ci := 7) (v := .int (cG_bitten (xG_core0 g25))) (C := RX8) (T := TX8) (N := 8) hx hb hts in_X8 hown hG.1 hP 1 rfl rfl 4 (by decide) (va_Nw.use rfl (hG.2.1 _ nq203)) (fun _ h9 => h9) rfl dX0_ofLast_179 ?_
  obtain rfl := Option.some.inj hr
  refine W.widen (k := rm_X0_ofLast.cells) (n := rm_X0_ofLast.slots) (Nat.le_of_ble_eq_true rfl) (Nat.le_of_ble_eq_true rfl) ?_
  subst hoc
  exact xx_ret (W.iret hx hb hrt (fun t ht _ => hS.q ht rfl) hS.2.2.2.2 dX0_ofLast_182 hlk)
def f_X0_ofRest (g : XS) (a1 : Int32) (a2 : Int32) (a3 : Int32) (a4 : Int32) : Option ((Int32 × XS) ⊕ (Int32 × XS)) := if a1 = 18 then bX (f_X0_alikeTold g a2) (fun b9 => (b9.1, b9.2)) fun o9 => some (Sum.inl (o9.1, o9.2)) else if a1 = 19 then bX (f_X0_settlesTold g a2) (fun b10 => (b10.1, b10.2)) fun o10 => some (Sum.inl (o10.1, o10.2)) else if a1 = 20 then bX (f_X0_pipsTold g a2) (fun b11 => (b11.1, b11.2)) fun o11 => some (Sum.inl (o11.1, o11.2)) else if a1 = 21 then bX (f_X0_mustBeHeir g a2) (fun b12 => (b12.1, b12.2)) fun o12 => Option.bind (f_X0_worstGrudge o12 a2) fun o13 => some (Sum.inl (o13.1, o13.2)) else if a1 = 22 then bX (f_X0_gainTold g a2 a3) (fun b14 => (b14.1, b14.2)) fun o14 => some (Sum.inl (o14.1, o14.2)) else if a1 = 23 then bX (f_X0_joinTold g a2) (fun b15 => (b15.1, b15.2)) fun o15 => some (Sum.inl (o15.1, o15.2)) else if a1 = 24 then bX (f_X0_bridgeTold g a2) (fun b16 => (b16.1, b16.2)) fun o16 => some (Sum.inl (o16.1, o16.2)) else if a1 = 25 then bX (f_X0_twoTold g a2 a3) (fun b17 => (b17.1, b17.2)) fun o17 => some (Sum.inl (o17.1, o17.2)) else bX (f_X0_ofLast g a1 a2 a3 a4) (fun b18 => (b18.1, b18.2)) fun o18 => some (Sum.inl (o18.1, o18.2))
abbrev rm_X0_ofRest : Room := ({ frames := 14, cells := 123, slots := 741, locals := 520 })
theorem cw_X0_ofRest {R : Room} {s : State} {args : Array Value} {own : String} {index : Nat} (hts : ∀ w ∈ lw_all, w.before args s = true) (hlink : Cond.methodLink own index yX0_ofRest ∈ lw_all) (hR : rm_X0_ofRest.frames + 1 ≤ R.frames ∧ 8 + (5 + 11) + rm_X0_ofRest.locals ≤ R.locals) : CallW R s args own RX0 index yX0_ofRest cX0_ofRest 5 (some FieldType.int) (ws_ yX0_ofRest cX0_ofRest 5 (some FieldType.int)) rm_X0_ofRest rm_X0_ofRest.cells rm_X0_ofRest.slots 4 :=
  cwV 4 hts (lw_V hlink q872 qs42 q102 q873) rfl rfl rfl (by decide +kernel) hR
set_option maxHeartbeats 4000000 in
theorem m_X0_ofRest (l : Launch) (hst : l.stackTraces = false) (D : va_G) (ax : Nat → Nat) (ac : Nat → ClassId) (g : XS) (a1 : Int32) (a2 : Int32) (a3 : Int32) (a4 : Int32) (sz : Nat) (r0 : (Int32 × XS) ⊕ (Int32 × XS)) (hr : f_X0_ofRest g a1 a2 a3 a4 = some r0) : TM l yX0_ofRest cX0_ofRest 5 (some FieldType.int) rm_X0_ofRest [.ref (ax 0), .int a1, .int a2, .int a3, .int a4] D ac (wX ax ac g) sz (Sum.map (fun u => (wX ax ac u.2, (some (.int u.1)))) (fun u => (wX ax ac u.2, u.1)) r0) := by
  generalize hoc : (Sum.map (fun u => (wX ax ac u.2, (some (.int u.1)))) (fun u => (wX ax ac u.2, u.1)) r0 : Oc) = oc
  refine fw_ofT (by decide) (Nat.le_of_ble_eq_true rfl) ?_
  intro p e s m below meth c ls hx hb hrt hts hown hlk hml _ hnt hU hl
  obtain ⟨⟨rfl, hP, hG, hD⟩, hZ⟩ := hU
  have hA : ∀ q : Nat, s.heap.size ≤ q → (va_A (wX ax ac g) s.heap.size) q := fun q h => Or.inr h
  have hS := Stt.start hP hD
  show WT p l e rm_X0_ofRest s m [.ref (ax 0), .int a1, .int a2, .int a3, .int a4] below meth c D (va_A (wX ax ac g) s.heap.size) oc s.heap [] 0 0 0 ls []
  have hl : lv_has ls 5 [(0, .ref (ax 0)), (1, .int a1), (2, .int a2), (3, .int a3), (4, .int a4)] := hl
  rw [f_X0_ofRest] at hr
  refine lv_iload_n hx hb dX0_ofRest_0 rfl (lv_at hl 1 rfl) ?_
  have hi1 := br_ite hr
  by_cases c1 : a1 = 18
  · have hr := hi1.1 c1
    refine lv_tableIn (tgt := 48) hx hb dX0_ofRest_1 (by rw [c1]; decide) (by rw [c1]; decide) (by rw [c1]; rfl) (by decide) ?_
    refine lv_aload_n hx hb dX0_ofRest_48 rfl (lv_at hl 0 rfl) ?_
    refine lv_iload_n hx hb dX0_ofRest_49 rfl (lv_at hl 2 rfl) ?_
    rcases Or.symm (br_bX hr) with ⟨o9, ho9, rfl⟩ | ⟨o9, ho9, hr⟩
    · refine fwTVx (As := [.int a2]) (rest := []) (C := RX0) hx hb hml hown hts (m_X0_alikeTold l hst D ax ac g a2 _ _ ho9) (cw_X0_alikeTold hts q874 ⟨Nat.le_of_ble_eq_true rfl, Nat.le_of_ble_eq_true rfl⟩) hG hZ hS hA ixX nd_X (pk_X ax ac _) (ad_X ax ac _ _) 0 0 rfl rfl rfl hl.1 rfl (Nat.le_of_ble_eq_true rfl) dX0_ofRest_50 ⟨Nat.le_of_ble_eq_true rfl, Nat.le_of_ble_eq_true rfl⟩ (wn := wX ax ac o9.2) (rep_X ax ac _ _) (fun q_ ci_ H locs hci hS => ?_)
      subst hoc; exact fw_xout hnt hlk hG hci hS (Nat.le_of_ble_eq_true rfl) (Nat.le_of_ble_eq_true rfl)
    refine fwTVo (As := [.int a2]) (rest := []) (C := RX0) hx hb hml hown hts (m_X0_alikeTold l hst D ax ac g a2 _ _ ho9) (cw_X0_alikeTold hts q874 ⟨Nat.le_of_ble_eq_true rfl, Nat.le_of_ble_eq_true rfl⟩) hG hZ hS hA ixX nd_X (pk_X ax ac _) (ad_X ax ac _ _) 0 0 rfl rfl rfl hl.1 rfl (Nat.le_of_ble_eq_true rfl) dX0_ofRest_50 ⟨Nat.le_of_ble_eq_true rfl, Nat.le_of_ble_eq_true rfl⟩ (wn := wX ax ac o9.2) (rep_X ax ac _ _) (fun H locs hS => ?_)
    have hP := hS.1
    refine W.widen (k := 2) (n := 11) (by first | exact Nat.le_refl _ | (dsimp only [rm_X0_alikeTold]; omega)) (by first | exact Nat.le_refl _ | (dsimp only [rm_X0_alikeTold]; omega)) ?_
    obtain rfl := Option.some.inj hr
    refine W.widen (k := rm_X0_ofRest.cells) (n := rm_X0_ofRest.slots) (Nat.le_of_ble_eq_true rfl) (Nat.le_of_ble_eq_true rfl) ?_
    subst hoc
    exact xx_ret (W.iret hx hb hrt (fun t ht _ => hS.q ht rfl) hS.2.2.2.2 dX0_ofRest_53 hlk)
  have hr := hi1.2 c1
  have hi2 := br_ite hr
  by_cases c2 : a1 = 19
  · have hr := hi2.1 c2
    refine lv_tableIn (tgt := 54) hx hb dX0_ofRest_1 (by rw [c2]; decide) (by rw [c2]; decide) (by rw [c2]; rfl) (by decide) ?_
    refine lv_aload_n hx hb dX0_ofRest_54 rfl (lv_at hl 0 rfl) ?_
    refine lv_iload_n hx hb dX0_ofRest_55 rfl (lv_at hl 2 rfl) ?_
    rcases Or.symm (br_bX hr) with ⟨o10, ho10, rfl⟩ | ⟨o10, ho10, hr⟩
    · refine fwTVx (As := [.int a2]) (rest := []) (C := RX0) hx hb hml hown hts (m_X0_settlesTold l hst D ax ac g a2 _ _ ho10) (cw_X0_settlesTold hts q879 ⟨Nat.le_of_ble_eq_true rfl, Nat.le_of_ble_eq_true rfl⟩) hG hZ hS hA ixX nd_X (pk_X ax ac _) (ad_X ax ac _ _) 0 0 rfl rfl rfl hl.1 rfl (Nat.le_of_ble_eq_true rfl) dX0_ofRest_56 ⟨Nat.le_of_ble_eq_true rfl, Nat.le_of_ble_eq_true rfl⟩ (wn := wX ax ac o10.2) (rep_X ax ac _ _) (fun q_ ci_ H locs hci hS => ?_)
      subst hoc; exact fw_xout hnt hlk hG hci hS (Nat.le_of_ble_eq_true rfl) (Nat.le_of_ble_eq_true rfl)
    refine fwTVo (As := [.int a2]) (rest := []) (C := RX0) hx hb hml hown hts (m_X0_settlesTold l hst D ax ac g a2 _ _ ho10) (cw_X0_settlesTold hts q879 ⟨Nat.le_of_ble_eq_true rfl, Nat.le_of_ble_eq_true rfl⟩) hG hZ hS hA ixX nd_X (pk_X ax ac _) (ad_X ax ac _ _) 0 0 rfl rfl rfl hl.1 rfl (Nat.le_of_ble_eq_true rfl) dX0_ofRest_56 ⟨Nat.le_of_ble_eq_true rfl, Nat.le_of_ble_eq_true rfl⟩ (wn := wX ax ac o10.2) (rep_X ax ac _ _) (fun H locs hS => ?_)
    have hP := hS.1
    refine W.widen (k := 1) (n := 7) (by first | exact Nat.le_refl _ | (dsimp only [rm_X0_settlesTold]; omega)) (by first | exact Nat.le_refl _ | (dsimp only [rm_X0_settlesTold]; omega)) ?_
    obtain rfl := Option.some.inj hr
    refine W.widen (k := rm_X0_ofRest.cells) (n := rm_X0_ofRest.slots) (Nat.le_of_ble_eq_true rfl) (Nat.le_of_ble_eq_true rfl) ?_
    subst hoc
    exact xx_ret (W.iret hx hb hrt (fun t ht _ => hS.q ht rfl) hS.2.2.2.2 dX0_ofRest_59 hlk)
  have hr := hi2.2 c2
  have hi3 := br_ite hr
  by_cases c3 : a1 = 20
  · have hr := hi3.1 c3
    refine lv_tableIn (tgt := 60) hx hb dX0_ofRest_1 (by rw [c3]; decide) (by rw [c3]; decide) (by rw [c3]; rfl) (by decide) ?_
    refine lv_aload_n hx hb dX0_ofRest_60 rfl (lv_at hl 0 rfl) ?_
    refine lv_iload_n hx hb dX0_ofRest_61 rfl (lv_at hl 2 rfl) ?_
    rcases Or.symm (br_bX hr) with ⟨o11, ho11, rfl⟩ | ⟨o11, ho11, hr⟩
    · refine fwTVx (As := [.int a2]) (rest := []) (C := RX0) hx hb hml hown hts (m_X0_pipsTold l hst D ax ac g a2 _ _ ho11) (cw_X0_pipsTold hts q887 ⟨Nat.le_of_ble_eq_true rfl, Nat.le_of_ble_eq_true rfl⟩) hG hZ hS hA ixX nd_X (pk_X ax ac _) (ad_X ax ac _ _) 0 0 rfl rfl rfl hl.1 rfl (Nat.le_of_ble_eq_true rfl) dX0_ofRest_62 ⟨Nat.le_of_ble_eq_true rfl, Nat.le_of_ble_eq_true rfl⟩ (wn := wX ax ac o11.2) (rep_X ax ac _ _) (fun q_ ci_ H locs hci hS => ?_)
      subst hoc; exact fw_xout hnt hlk hG hci hS (Nat.le_of_ble_eq_true rfl) (Nat.le_of_ble_eq_true rfl)
    refine fwTVo (As := [.int a2]) (rest := []) (C := RX0) hx hb hml hown hts (m_X0_pipsTold l hst D ax ac g a2 _ _ ho11) (cw_X0_pipsTold hts q887 ⟨Nat.le_of_ble_eq_true rfl, Nat.le_of_ble_eq_true rfl⟩) hG hZ hS hA ixX nd_X (pk_X ax ac _) (ad_X ax ac _ _) 0 0 rfl rfl rfl hl.1 rfl (Nat.le_of_ble_eq_true rfl) dX0_ofRest_62 ⟨Nat.le_of_ble_eq_true rfl, Nat.le_of_ble_eq_true rfl⟩ (wn := wX ax ac o11.2) (rep_X ax ac _ _) (fun H locs hS => ?_)
    have hP := hS.1
    refine W.widen (k := 1) (n := 7) (by first | exact Nat.le_refl _ | (dsimp only [rm_X0_pipsTold]; omega)) (by first | exact Nat.le_refl _ | (dsimp only [rm_X0_pipsTold]; omega)) ?_
    obtain rfl := Option.some.inj hr
    refine W.widen (k := rm_X0_ofRest.cells) (n := rm_X0_ofRest.slots) (Nat.le_of_ble_eq_true rfl) (Nat.le_of_ble_eq_true rfl) ?_
    subst hoc
    exact xx_ret (W.iret hx hb hrt (fun t ht _ => hS.q ht rfl) hS.2.2.2.2 dX0_ofRest_65 hlk)
  have hr := hi3.2 c3
  have hi4 := br_ite hr
  by_cases c4 : a1 = 21
  · have hr := hi4.1 c4
    refine lv_tableIn (tgt := 66) hx hb dX0_ofRest_1 (by rw [c4]; decide) (by rw [c4]; decide) (by rw [c4]; rfl) (by decide) ?_
    refine lv_aload_n hx hb dX0_ofRest_66 rfl (lv_at hl 0 rfl) ?_
    refine lv_iload_n hx hb dX0_ofRest_67 rfl (lv_at hl 2 rfl) ?_
    rcases Or.symm (br_bX hr) with ⟨o12, ho12, rfl⟩ | ⟨o12, ho12, hr⟩
    · refine fwTVx (As := [.int a2]) (rest := []) (C := RX0) hx hb hml hown hts (m_X0_mustBeHeir l hst D ax ac g a2 _ _ ho12) (cw_X0_mustBeHeir hts q659 ⟨Nat.le_of_ble_eq_true rfl, Nat.le_of_ble_eq_true rfl⟩) hG hZ hS hA ixX nd_X (pk_X ax ac _) (ad_X ax ac _ _) 0 0 rfl rfl rfl hl.1 rfl (Nat.le_of_ble_eq_true rfl) dX0_ofRest_68 ⟨Nat.le_of_ble_eq_true rfl, Nat.le_of_ble_eq_true rfl⟩ (wn := wX ax ac o12.2) (rep_X ax ac _ _) (fun q_ ci_ H locs hci hS => ?_)
      subst hoc; exact fw_xout hnt hlk hG hci hS (Nat.le_of_ble_eq_true rfl) (Nat.le_of_ble_eq_true rfl)
    refine fwTVo (As := [.int a2]) (rest := []) (C := RX0) hx hb hml hown hts (m_X0_mustBeHeir l hst D ax ac g a2 _ _ ho12) (cw_X0_mustBeHeir hts q659 ⟨Nat.le_of_ble_eq_true rfl, Nat.le_of_ble_eq_true rfl⟩) hG hZ hS hA ixX nd_X (pk_X ax ac _) (ad_X ax ac _ _) 0 0 rfl rfl rfl hl.1 rfl (Nat.le_of_ble_eq_true rfl) dX0_ofRest_68 ⟨Nat.le_of_ble_eq_true rfl, Nat.le_of_ble_eq_true rfl⟩ (wn := wX ax ac o12) (rep_X ax ac _ _) (fun H locs hS => ?_)
    have hP := hS.1
    refine W.widen (k := 1) (n := 7) (by first | exact Nat.le_refl _ | (dsimp only [rm_X0_mustBeHeir]; omega)) (by first | exact Nat.le_refl _ | (dsimp only [rm_X0_mustBeHeir]; omega)) ?_
    refine lv_aload_n hx hb dX0_ofRest_71 rfl (lv_at hl 0 rfl) ?_
    refine lv_iload_n hx hb dX0_ofRest_72 rfl (lv_at hl 2 rfl) ?_
    obtain ⟨o13, ho13, hr⟩ := br_bind hr
    refine fwWVs (As := [.int a2]) (rest := []) (C := RX0) hx hb hml hown hts (m_X0_worstGrudge l D ax ac o12 a2 _ o13 ho13) (cw_X0_worstGrudge hts q891 ⟨Nat.le_of_ble_eq_true rfl, Nat.le_of_ble_eq_true rfl⟩) hG hS hA rfl 0 0 rfl rfl rfl hl.1 rfl (Nat.le_of_ble_eq_true rfl) dX0_ofRest_73 ⟨Nat.le_of_ble_eq_true rfl, Nat.le_of_ble_eq_true rfl⟩ (fun H locs hS => ?_)
    have hP := hS.1
    refine W.widen (k := 61) (n := 367) (by first | exact Nat.le_refl _ | (dsimp only [rm_X0_worstGrudge]; omega)) (by first | exact Nat.le_refl _ | (dsimp only [rm_X0_worstGrudge]; omega)) ?_
    obtain rfl := Option.some.inj hr
    refine W.widen (k := rm_X0_ofRest.cells) (n := rm_X0_ofRest.slots) (Nat.le_of_ble_eq_true rfl) (Nat.le_of_ble_eq_true rfl) ?_
    subst hoc
    exact xx_ret (W.iret hx hb hrt (fun t ht _ => hS.q ht rfl) hS.2.2.2.2 dX0_ofRest_76 hlk)
  have hr := hi4.2 c4
  have hi5 := br_ite hr
  by_cases c5 : a1 = 22
  · have hr := hi5.1 c5
    refine lv_tableIn (tgt := 77) hx hb dX0_ofRest_1 (by rw [c5]; decide) (by rw [c5]; decide) (by rw [c5]; rfl) (by decide) ?_
    refine lv_aload_n hx hb dX0_ofRest_77 rfl (lv_at hl 0 rfl) ?_
    refine lv_iload_n hx hb dX0_ofRest_78 rfl (lv_at hl 2 rfl) ?_
    refine lv_iload_n hx hb dX0_ofRest_79 rfl (lv_at hl 3 rfl) ?_
    rcases Or.symm (br_bX hr) with ⟨o14, ho14, rfl⟩ | ⟨o14, ho14, hr⟩
    · refine fwTVx (As := [.int a2, .int a3]) (rest := []) (C := RX0) hx hb hml hown hts (m_X0_gainTold l hst D ax ac g a2 a3 _ _ ho14) (cw_X0_gainTold hts q900 ⟨Nat.le_of_ble_eq_true rfl, Nat.le_of_ble_eq_true rfl⟩) hG hZ hS hA ixX nd_X (pk_X ax ac _) (ad_X ax ac _ _) 0 0 rfl rfl rfl hl.1 rfl (Nat.le_of_ble_eq_true rfl) dX0_ofRest_80 ⟨Nat.le_of_ble_eq_true rfl, Nat.le_of_ble_eq_true rfl⟩ (wn := wX ax ac o14.2) (rep_X ax ac _ _) (fun q_ ci_ H locs hci hS => ?_)
      subst hoc; exact fw_xout hnt hlk hG hci hS (Nat.le_of_ble_eq_true rfl) (Nat.le_of_ble_eq_true rfl)
    refine fwTVo (As := [.int a2, .int a3]) (rest := []) (C := RX0) hx hb hml hown hts (m_X0_gainTold l hst D ax ac g a2 a3 _ _ ho14) (cw_X0_gainTold hts q900 ⟨Nat.le_of_ble_eq_true rfl, Nat.le_of_ble_eq_true rfl⟩) hG hZ hS hA ixX nd_X (pk_X ax ac _) (ad_X ax ac _ _) 0 0 rfl rfl rfl hl.1 rfl (Nat.le_of_ble_eq_true rfl) dX0_ofRest_80 ⟨Nat.le_of_ble_eq_true rfl, Nat.le_of_ble_eq_true rfl⟩ (wn := wX ax ac o14.2) (rep_X ax ac _ _) (fun H locs hS => ?_)
    have hP := hS.1
    refine W.widen (k := 6) (n := 39) (by first | exact Nat.le_refl _ | (dsimp only [rm_X0_gainTold]; omega)) (by first | exact Nat.le_refl _ | (dsimp only [rm_X0_gainTold]; omega)) ?_
    obtain rfl := Option.some.inj hr
    refine W.widen (k := rm_X0_ofRest.cells) (n := rm_X0_ofRest.slots) (Nat.le_of_ble_eq_true rfl) (Nat.le_of_ble_eq_true rfl) ?_
    subst hoc
    exact xx_ret (W.iret hx hb hrt (fun t ht _ => hS.q ht rfl) hS.2.2.2.2 dX0_ofRest_83 hlk)
  have hr := hi5.2 c5
  have hi6 := br_ite hr
  by_cases c6 : a1 = 23
  · have hr := hi6.1 c6
    refine lv_tableIn (tgt := 84) hx hb dX0_ofRest_1 (by rw [c6]; decide) (by rw [c6]; decide) (by rw [c6]; rfl) (by decide) ?_
    refine lv_aload_n hx hb dX0_ofRest_84 rfl (lv_at hl 0 rfl) ?_
    refine lv_iload_n hx hb dX0_ofRest_85 rfl (lv_at hl 2 rfl) ?_
    rcases Or.symm (br_bX hr) with ⟨o15, ho15, rfl⟩ | ⟨o15, ho15, hr⟩
    · refine fwTVx (As := [.int a2]) (rest := []) (C := RX0) hx hb hml hown hts (m_X0_joinTold l hst D ax ac g a2 _ _ ho15) (cw_X0_joinTold hts q912 ⟨Nat.le_of_ble_eq_true rfl, Nat.le_of_ble_eq_true rfl⟩) hG hZ hS hA ixX nd_X (pk_X ax ac _) (ad_X ax ac _ _) 0 0 rfl rfl rfl hl.1 rfl (Nat.le_of_ble_eq_true rfl) dX0_ofRest_86 ⟨Nat.le_of_ble_eq_true rfl, Nat.le_of_ble_eq_true rfl⟩ (wn := wX ax ac o15.2) (rep_X ax ac _ _) (fun q_ ci_ H locs hci hS => ?_)
      subst hoc; exact fw_xout hnt hlk hG hci hS (Nat.le_of_ble_eq_true rfl) (Nat.le_of_ble_eq_true rfl)
    refine fwTVo (As := [.int a2]) (rest := []) (C := RX0) hx hb hml hown hts (m_X0_joinTold l hst D ax ac g a2 _ _ ho15) (cw_X0_joinTold hts q912 ⟨Nat.le_of_ble_eq_true rfl, Nat.le_of_ble_eq_true rfl⟩) hG hZ hS hA ixX nd_X (pk_X ax ac _) (ad_X ax ac _ _) 0 0 rfl rfl rfl hl.1 rfl (Nat.le_of_ble_eq_true rfl) dX0_ofRest_86 ⟨Nat.le_of_ble_eq_true rfl, Nat.le_of_ble_eq_true rfl⟩ (wn := wX ax ac o15.2) (rep_X ax ac _ _) (fun H locs hS => ?_)
    have hP := hS.1
    refine W.widen (k := 2) (n := 14) (by first | exact Nat.le_refl _ | (dsimp only [rm_X0_joinTold]; omega)) (by first | exact Nat.le_refl _ | (dsimp only [rm_X0_joinTold]; omega)) ?_
    obtain rfl := Option.some.inj hr
    refine W.widen (k := rm_X0_ofRest.cells) (n := rm_X0_ofRest.slots) (Nat.le_of_ble_eq_true rfl) (Nat.le_of_ble_eq_true rfl) ?_
    subst hoc
    exact xx_ret (W.iret hx hb hrt (fun t ht _ => hS.q ht rfl) hS.2.2.2.2 dX0_ofRest_89 hlk)
  have hr := hi6.2 c6
  have hi7 := br_ite hr
  by_cases c7 : a1 = 24
  · have hr := hi7.1 c7
    refine lv_tableIn (tgt := 90) hx hb dX0_ofRest_1 (by rw [c7]; decide) (by rw [c7]; decide) (by rw [c7]; rfl) (by decide) ?_
    refine lv_aload_n hx hb dX0_ofRest_90 rfl (lv_at hl 0 rfl) ?_
    refine lv_iload_n hx hb dX0_ofRest_91 rfl (lv_at hl 2 rfl) ?_
    rcases Or.symm (br_bX hr) with ⟨o16, ho16, rfl⟩ | ⟨o16, ho16, hr⟩
    · refine fwTVx (As := [.int a2]) (rest := []) (C := RX0) hx hb hml hown hts (m_X0_bridgeTold l hst D ax ac g a2 _ _ ho16) (cw_X0_bridgeTold hts q916 ⟨Nat.le_of_ble_eq_true rfl, Nat.le_of_ble_eq_true rfl⟩) hG hZ hS hA ixX nd_X (pk_X ax ac _) (ad_X ax ac _ _) 0 0 rfl rfl rfl hl.1 rfl (Nat.le_of_ble_eq_true rfl) dX0_ofRest_92 ⟨Nat.le_of_ble_eq_true rfl, Nat.le_of_ble_eq_true rfl⟩ (wn := wX ax ac o16.2) (rep_X ax ac _ _) (fun q_ ci_ H locs hci hS => ?_)
      subst hoc; exact fw_xout hnt hlk hG hci hS (Nat.le_of_ble_eq_true rfl) (Nat.le_of_ble_eq_true rfl)
    refine fwTVo (As := [.int a2]) (rest := []) (C := RX0) hx hb hml hown hts (m_X0_bridgeTold l hst D ax ac g a2 _ _ ho16) (cw_X0_bridgeTold hts q916 ⟨Nat.le_of_ble_eq_true rfl, Nat.le_of_ble_eq_true rfl⟩) hG hZ hS hA ixX nd_X (pk_X ax ac _) (ad_X ax ac _ _) 0 0 rfl rfl rfl hl.1 rfl (Nat.le_of_ble_eq_true rfl) dX0_ofRest_92 ⟨Nat.le_of_ble_eq_true rfl, Nat.le_of_ble_eq_true rfl⟩ (wn := wX ax ac o16.2) (rep_X ax ac _ _) (fun H locs hS => ?_)
    have hP := hS.1
    refine W.widen (k := 1) (n := 7) (by first | exact Nat.le_refl _ | (dsimp only [rm_X0_bridgeTold]; omega)) (by first | exact Nat.le_refl _ | (dsimp only [rm_X0_bridgeTold]; omega)) ?_
    obtain rfl := Option.some.inj hr
    refine W.widen (k := rm_X0_ofRest.cells) (n := rm_X0_ofRest.slots) (Nat.le_of_ble_eq_true rfl) (Nat.le_of_ble_eq_true rfl) ?_
    subst hoc
    exact xx_ret (W.iret hx hb hrt (fun t ht _ => hS.q ht rfl) hS.2.2.2.2 dX0_ofRest_95 hlk)
  have hr := hi7.2 c7
  have hi8 := br_ite hr
  by_cases c8 : a1 = 25
  · have hr := hi8.1 c8
    refine lv_tableIn (tgt := 96) hx hb dX0_ofRest_1 (by rw [c8]; decide) (by rw [c8]; decide) (by rw [c8]; rfl) (by decide) ?_
    refine lv_aload_n hx hb dX0_ofRest_96 rfl (lv_at hl 0 rfl) ?_
    refine lv_iload_n hx hb dX0_ofRest_97 rfl (lv_at hl 2 rfl) ?_
    refine lv_iload_n hx hb dX0_ofRest_98 rfl (lv_at hl 3 rfl) ?_
    rcases Or.symm (br_bX hr) with ⟨o17, ho17, rfl⟩ | ⟨o17, ho17, hr⟩
    · refine fwTVx (As := [.int a2, .int a3]) (rest := []) (C := RX0) hx hb hml hown hts (m_X0_twoTold l hst D ax ac g a2 a3 _ _ ho17) (cw_X0_twoTold hts q935 ⟨Nat.le_of_ble_eq_true rfl, Nat.le_of_ble_eq_true rfl⟩) hG hZ hS hA ixX nd_X (pk_X ax ac _) (ad_X ax ac _ _) 0 0 rfl rfl rfl hl.1 rfl (Nat.le_of_ble_eq_true rfl) dX0_ofRest_99 ⟨Nat.le_of_ble_eq_true rfl, Nat.le_of_ble_eq_true rfl⟩ (wn := wX ax ac o17.2) (rep_X ax ac _ _) (fun q_ ci_ H locs hci hS => ?_)
      subst hoc; exact fw_xout hnt hlk hG hci hS (Nat.le_of_ble_eq_true rfl) (Nat.le_of_ble_eq_true rfl)
    refine fwTVo (As := [.int a2, .int a3]) (rest := []) (C := RX0) hx hb hml hown hts (m_X0_twoTold l hst D ax ac g a2 a3 _ _ ho17) (cw_X0_twoTold hts q935 ⟨Nat.le_of_ble_eq_true rfl, Nat.le_of_ble_eq_true rfl⟩) hG hZ hS hA ixX nd_X (pk_X ax ac _) (ad_X ax ac _ _) 0 0 rfl rfl rfl hl.1 rfl (Nat.le_of_ble_eq_true rfl) dX0_ofRest_99 ⟨Nat.le_of_ble_eq_true rfl, Nat.le_of_ble_eq_true rfl⟩ (wn := wX ax ac o17.2) (rep_X ax ac _ _) (fun H locs hS => ?_)
    have hP := hS.1
    refine W.widen (k := 123) (n := 741) (by first | exact Nat.le_refl _ | (dsimp only [rm_X0_twoTold]; omega)) (by first | exact Nat.le_refl _ | (dsimp only [rm_X0_twoTold]; omega)) ?_
    obtain rfl := Option.some.inj hr
    refine W.widen (k := rm_X0_ofRest.cells) (n := rm_X0_ofRest.slots) (Nat.le_of_ble_eq_true rfl) (Nat.le_of_ble_eq_true rfl) ?_
    subst hoc
    exact xx_ret (W.iret hx hb hrt (fun t ht _ => hS.q ht rfl) hS.2.2.2.2 dX0_ofRest_102 hlk)
  have hr := hi8.2 c8
  refine lv_tableOut (tgt := 103) hx hb dX0_ofRest_1 (by have n1 := lv_neT (a := 18) c1 rfl; have n2 := lv_neT (a := 19) c2 rfl; have n3 := lv_neT (a := 20) c3 rfl; have n4 := lv_neT (a := 21) c4 rfl; have n5 := lv_neT (a := 22) c5 rfl; have n6 := lv_neT (a := 23) c6 rfl; have n7 := lv_neT (a := 24) c7 rfl; have n8 := lv_neT (a := 25) c8 rfl; omega) (by decide) ?_
  refine lv_aload_n hx hb dX0_ofRest_103 rfl (lv_at hl 0 rfl) ?_
  refine lv_iload_n hx hb dX0_ofRest_104 rfl (lv_at hl 1 rfl) ?_
  refine lv_iload_n hx hb dX0_ofRest_105 rfl (lv_at hl 2 rfl) ?_
  refine lv_iload_n hx hb dX0_ofRest_106 rfl (lv_at hl 3 rfl) ?_
  refine lv_iload hx hb dX0_ofRest_107 (lv_at hl 4 rfl) ?_
  rcases Or.symm (br_bX hr) with ⟨o18, ho18, rfl⟩ | ⟨o18, ho18, hr⟩
  · refine fwTVx (As := [.int a1, .int a2, .int a3, .int a4]) (rest := []) (C := RX0) hx hb hml hown hts (m_X0_ofLast l hst D ax ac g a1 a2 a3 a4 _ _ ho18) (cw_X0_ofLast hts q950 ⟨Nat.le_of_ble_eq_true rfl, Nat.le_of_ble_eq_true rfl⟩) hG hZ hS hA ixX nd_X (pk_X ax ac _) (ad_X ax ac _ _) 0 0 rfl rfl rfl hl.1 rfl (Nat.le_of_ble_eq_true rfl) dX0_ofRest_109 ⟨Nat.le_of_ble_eq_true rfl, Nat.le_of_ble_eq_true rfl⟩ (wn := wX ax ac o18.2) (rep_X ax ac _ _) (fun q_ ci_ H locs hci hS => ?_)
    subst hoc; exact fw_xout hnt hlk hG hci hS (Nat.le_of_ble_eq_true rfl) (Nat.le_of_ble_eq_true rfl)
  refine fwTVo (As := [.int a1, .int a2, .int a3, .int a4]) (rest := []) (C := RX0) hx hb hml hown hts (m_X0_ofLast l hst D ax ac g a1 a2 a3 a4 _ _ ho18) (cw_X0_ofLast hts q950 ⟨Nat.le_of_ble_eq_true rfl, Nat.le_of_ble_eq_true rfl⟩) hG hZ hS hA ixX nd_X (pk_X ax ac _) (ad_X ax ac _ _) 0 0 rfl rfl rfl hl.1 rfl (Nat.le_of_ble_eq_true rfl) dX0_ofRest_109 ⟨Nat.le_of_ble_eq_true rfl, Nat.le_of_ble_eq_true rfl⟩ (wn := wX ax ac o18.2) (rep_X ax ac _ _) (fun H locs hS => ?_)
  have hP := hS.1
  refine W.widen (k := 3) (n := 21) (by first | exact Nat.le_refl _ | (dsimp only [rm_X0_ofLast]; omega)) (by first | exact Nat.le_refl _ | (dsimp only [rm_X0_ofLast]; omega)) ?_
  obtain rfl := Option.some.inj hr
  refine W.widen (k := rm_X0_ofRest.cells) (n := rm_X0_ofRest.slots) (Nat.le_of_ble_eq_true rfl) (Nat.le_of_ble_eq_true rfl) ?_
  subst hoc
  exact xx_ret (W.iret hx hb hrt (fun t ht _ => hS.q ht rfl) hS.2.2.2.2 dX0_ofRest_112 hlk)
def f_X0_ofBites (g : XS) (a1 : Int32) (a2 : Int32) (a3 : Int32) (a4 : Int32) : Option ((Int32 × XS) ⊕ (Int32 × XS)) := if a1 = 9 then bX (f_X0_sharesTold g a2) (fun b9 => (b9.1, b9.2)) fun o9 => some (Sum.inl (o9.1, o9.2)) else if a1 = 10 then bX (f_X0_piecesTold g a2) (fun b10 => (b10.1, b10.2)) fun o10 => some (Sum.inl (o10.1, o10.2)) else if a1 = 11 then bX (f_X0_edgeTold g a2) (fun b11 => (b11.1, b11.2)) fun o11 => some (Sum.inl (o11.1, o11.2)) else if a1 = 12 then bX (f_X0_bestTold g a2 a3 (1 : Int32)) (fun b12 => (b12.1, b12.2)) fun o12 => some (Sum.inl (o12.1, o12.2)) else if a1 = 13 then bX (f_X0_bestTold g a2 a3 (-1 : Int32)) (fun b13 => (b13.1, b13.2)) fun o13 => some (Sum.inl (o13.1, o13.2)) else if a1 = 14 then bX (f_X0_fewestTold g a2 a3 a4) (fun b14 => (b14.1, b14.2)) fun o14 => some (Sum.inl (o14.1, o14.2)) else if a1 = 15 then Option.bind (f_X0_manyThatCan g (-1 : Int32) (1 : Int32)) fun o15 => some (Sum.inl (o15.1, o15.2)) else if a1 = 16 then bX (f_X0_canTold g a2) (fun b16 => (b16.1, b16.2)) fun o16 => some (Sum.inl (o16.1, o16.2)) else bX (f_X0_waysTold g a2) (fun b17 => (b17.1, b17.2)) fun o17 => some (Sum.inl (o17.1, o17.2))
abbrev rm_X0_ofBites : Room := ({ frames := 13, cells := 5, slots := 32, locals := 498 })
theorem cw_X0_ofBites {R : Room} {s : State} {args : Array Value} {own : String} {index : Nat} (hts : ∀ w ∈ lw_all, w.before args s = true) (hlink : Cond.methodLink own index yX0_ofBites ∈ lw_all) (hR : rm_X0_ofBites.frames + 1 ≤ R.frames ∧ 8 + (5 + 11) + rm_X0_ofBites.locals ≤ R.locals) : CallW R s args own RX0 index yX0_ofBites cX0_ofBites 5 (some FieldType.int) (ws_ yX0_ofBites cX0_ofBites 5 (some FieldType.int)) rm_X0_ofBites rm_X0_ofBites.cells rm_X0_ofBites.slots 4 :=
  cwV 4 hts (lw_V hlink q767 qs22 q102 q768) rfl rfl rfl (by decide +kernel) hR
set_option maxHeartbeats 4000000 in
theorem m_X0_ofBites (l : Launch) (hst : l.stackTraces = false) (D : va_G) (ax : Nat → Nat) (ac : Nat → ClassId) (g : XS) (a1 : Int32) (a2 : Int32) (a3 : Int32) (a4 : Int32) (sz : Nat) (r0 : (Int32 × XS) ⊕ (Int32 × XS)) (hr : f_X0_ofBites g a1 a2 a3 a4 = some r0) : TM l yX0_ofBites cX0_ofBites 5 (some FieldType.int) rm_X0_ofBites [.ref (ax 0), .int a1, .int a2, .int a3, .int a4] D ac (wX ax ac g) sz (Sum.map (fun u => (wX ax ac u.2, (some (.int u.1)))) (fun u => (wX ax ac u.2, u.1)) r0) := by
  generalize hoc : (Sum.map (fun u => (wX ax ac u.2, (some (.int u.1)))) (fun u => (wX ax ac u.2, u.1)) r0 : Oc) = oc
  refine fw_ofT (by decide) (Nat.le_of_ble_eq_true rfl) ?_
  intro p e s m below meth c ls hx hb hrt hts hown hlk hml _ hnt hU hl
  obtain ⟨⟨rfl, hP, hG, hD⟩, hZ⟩ := hU
  have hA : ∀ q : Nat, s.heap.size ≤ q → (va_A (wX ax ac g) s.heap.size) q := fun q h => Or.inr h
  have hS := Stt.start hP hD
  show WT p l e rm_X0_ofBites s m [.ref (ax 0), .int a1, .int a2, .int a3, .int a4] below meth c D (va_A (wX ax ac g) s.heap.size) oc s.heap [] 0 0 0 ls []
  have hl : lv_has ls 5 [(0, .ref (ax 0)), (1, .int a1), (2, .int a2), (3, .int a3), (4, .int a4)] := hl
  rw [f_X0_ofBites] at hr
  refine lv_iload_n hx hb dX0_ofBites_0 rfl (lv_at hl 1 rfl) ?_
  have hi1 := br_ite hr
  by_cases c1 : a1 = 9
  · have hr := hi1.1 c1
    refine lv_tableIn (tgt := 48) hx hb dX0_ofBites_1 (by rw [c1]; decide) (by rw [c1]; decide) (by rw [c1]; rfl) (by decide) ?_
    refine lv_aload_n hx hb dX0_ofBites_48 rfl (lv_at hl 0 rfl) ?_
    refine lv_iload_n hx hb dX0_ofBites_49 rfl (lv_at hl 2 rfl) ?_
    rcases Or.symm (br_bX hr) with ⟨o9, ho9, rfl⟩ | ⟨o9, ho9, hr⟩
    · refine fwTVx (As := [.int a2]) (rest := []) (C := RX0) hx hb hml hown hts (m_X0_sharesTold l hst D ax ac g a2 _ _ ho9) (cw_X0_sharesTold hts q769 ⟨Nat.le_of_ble_eq_true rfl, Nat.le_of_ble_eq_true rfl⟩) hG hZ hS hA ixX nd_X (pk_X ax ac _) (ad_X ax ac _ _) 0 0 rfl rfl rfl hl.1 rfl (Nat.le_of_ble_eq_true rfl) dX0_ofBites_50 ⟨Nat.le_of_ble_eq_true rfl, Nat.le_of_ble_eq_true rfl⟩ (wn := wX ax ac o9.2) (rep_X ax ac _ _) (fun q_ ci_ H locs hci hS => ?_)
      subst hoc; exact fw_xout hnt hlk hG hci hS (Nat.le_of_ble_eq_true rfl) (Nat.le_of_ble_eq_true rfl)
    refine fwTVo (As := [.int a2]) (rest := []) (C := RX0) hx hb hml hown hts (m_X0_sharesTold l hst D ax ac g a2 _ _ ho9) (cw_X0_sharesTold hts q769 ⟨Nat.le_of_ble_eq_true rfl, Nat.le_of_ble_eq_true rfl⟩) hG hZ hS hA ixX nd_X (pk_X ax ac _) (ad_X ax ac _ _) 0 0 rfl rfl rfl hl.1 rfl (Nat.le_of_ble_eq_true rfl) dX0_ofBites_50 ⟨Nat.le_of_ble_eq_true rfl, Nat.le_of_ble_eq_true rfl⟩ (wn := wX ax ac o9.2) (rep_X ax ac _ _) (fun H locs hS => ?_)
    have hP := hS.1
    refine W.widen (k := 1) (n := 7) (by first | exact Nat.le_refl _ | (dsimp only [rm_X0_sharesTold]; omega)) (by first | exact Nat.le_refl _ | (dsimp only [rm_X0_sharesTold]; omega)) ?_
    obtain rfl := Option.some.inj hr
    refine W.widen (k := rm_X0_ofBites.cells) (n := rm_X0_ofBites.slots) (Nat.le_of_ble_eq_true rfl) (Nat.le_of_ble_eq_true rfl) ?_
    subst hoc
    exact xx_ret (W.iret hx hb hrt (fun t ht _ => hS.q ht rfl) hS.2.2.2.2 dX0_ofBites_53 hlk)
  have hr := hi1.2 c1
  have hi2 := br_ite hr
  by_cases c2 : a1 = 10
  · have hr := hi2.1 c2
    refine lv_tableIn (tgt := 54) hx hb dX0_ofBites_1 (by rw [c2]; decide) (by rw [c2]; decide) (by rw [c2]; rfl) (by decide) ?_
    refine lv_aload_n hx hb dX0_ofBites_54 rfl (lv_at hl 0 rfl) ?_
    refine lv_iload_n hx hb dX0_ofBites_55 rfl (lv_at hl 2 rfl) ?_
    rcases Or.symm (br_bX hr) with ⟨o10, ho10, rfl⟩ | ⟨o10, ho10, hr⟩
    · refine fwTVx (As := [.int a2]) (rest := []) (C := RX0) hx hb hml hown hts (m_X0_piecesTold l hst D ax ac g a2 _ _ ho10) (cw_X0_piecesTold hts q785 ⟨Nat.le_of_ble_eq_true rfl, Nat.le_of_ble_eq_true rfl⟩) hG hZ hS hA ixX nd_X (pk_X ax ac _) (ad_X ax ac _ _) 0 0 rfl rfl rfl hl.1 rfl (Nat.le_of_ble_eq_true rfl) dX0_ofBites_56 ⟨Nat.le_of_ble_eq_true rfl, Nat.le_of_ble_eq_true rfl⟩ (wn := wX ax ac o10.2) (rep_X ax ac _ _) (fun q_ ci_ H locs hci hS => ?_)
      subst hoc; exact fw_xout hnt hlk hG hci hS (Nat.le_of_ble_eq_true rfl) (Nat.le_of_ble_eq_true rfl)
    refine fwTVo (As := [.int a2]) (rest := []) (C := RX0) hx hb hml hown hts (m_X0_piecesTold l hst D ax ac g a2 _ _ ho10) (cw_X0_piecesTold hts q785 ⟨Nat.le_of_ble_eq_true rfl, Nat.le_of_ble_eq_true rfl⟩) hG hZ hS hA ixX nd_X (pk_X ax ac _) (ad_X ax ac _ _) 0 0 rfl rfl rfl hl.1 rfl (Nat.le_of_ble_eq_true rfl) dX0_ofBites_56 ⟨Nat.le_of_ble_eq_true rfl, Nat.le_of_ble_eq_true rfl⟩ (wn := wX ax ac o10.2) (rep_X ax ac _ _) (fun H locs hS => ?_)
    have hP := hS.1
    refine W.widen (k := 1) (n := 7) (by first | exact Nat.le_refl _ | (dsimp only [rm_X0_piecesTold]; omega)) (by first | exact Nat.le_refl _ | (dsimp only [rm_X0_piecesTold]; omega)) ?_
    obtain rfl := Option.some.inj hr
    refine W.widen (k := rm_X0_ofBites.cells) (n := rm_X0_ofBites.slots) (Nat.le_of_ble_eq_true rfl) (Nat.le_of_ble_eq_true rfl) ?_
    subst hoc
    exact xx_ret (W.iret hx hb hrt (fun t ht _ => hS.q ht rfl) hS.2.2.2.2 dX0_ofBites_59 hlk)
  have hr := hi2.2 c2
  have hi3 := br_ite hr
  by_cases c3 : a1 = 11
  · have hr := hi3.1 c3
    refine lv_tableIn (tgt := 60) hx hb dX0_ofBites_1 (by rw [c3]; decide) (by rw [c3]; decide) (by rw [c3]; rfl) (by decide) ?_
    refine lv_aload_n hx hb dX0_ofBites_60 rfl (lv_at hl 0 rfl) ?_
    refine lv_iload_n hx hb dX0_ofBites_61 rfl (lv_at hl 2 rfl) ?_
    rcases Or.symm (br_bX hr) with ⟨o11, ho11, rfl⟩ | ⟨o11, ho11, hr⟩
    · refine fwTVx (As := [.int a2]) (rest := []) (C := RX0) hx hb hml hown hts (m_X0_edgeTold l hst D ax ac g a2 _ _ ho11) (cw_X0_edgeTold hts q793 ⟨Nat.le_of_ble_eq_true rfl, Nat.le_of_ble_eq_true rfl⟩) hG hZ hS hA ixX nd_X (pk_X ax ac _) (ad_X ax ac _ _) 0 0 rfl rfl rfl hl.1 rfl (Nat.le_of_ble_eq_true rfl) dX0_ofBites_62 ⟨Nat.le_of_ble_eq_true rfl, Nat.le_of_ble_eq_true rfl⟩ (wn := wX ax ac o11.2) (rep_X ax ac _ _) (fun q_ ci_ H locs hci hS => ?_)
      subst hoc; exact fw_xout hnt hlk hG hci hS (Nat.le_of_ble_eq_true rfl) (Nat.le_of_ble_eq_true rfl)
    refine fwTVo (As := [.int a2]) (rest := []) (C := RX0) hx hb hml hown hts (m_X0_edgeTold l hst D ax ac g a2 _ _ ho11) (cw_X0_edgeTold hts q793 ⟨Nat.le_of_ble_eq_true rfl, Nat.le_of_ble_eq_true rfl⟩) hG hZ hS hA ixX nd_X (pk_X ax ac _) (ad_X ax ac _ _) 0 0 rfl rfl rfl hl.1 rfl (Nat.le_of_ble_eq_true rfl) dX0_ofBites_62 ⟨Nat.le_of_ble_eq_true rfl, Nat.le_of_ble_eq_true rfl⟩ (wn := wX ax ac o11.2) (rep_X ax ac _ _) (fun H locs hS => ?_)
    have hP := hS.1
    refine W.widen (k := 1) (n := 7) (by first | exact Nat.le_refl _ | (dsimp only [rm_X0_edgeTold]; omega)) (by first | exact Nat.le_refl _ | (dsimp only [rm_X0_edgeTold]; omega)) ?_
    obtain rfl := Option.some.inj hr
    refine W.widen (k := rm_X0_ofBites.cells) (n := rm_X0_ofBites.slots) (Nat.le_of_ble_eq_true rfl) (Nat.le_of_ble_eq_true rfl) ?_
    subst hoc
    exact xx_ret (W.iret hx hb hrt (fun t ht _ => hS.q ht rfl) hS.2.2.2.2 dX0_ofBites_65 hlk)
  have hr := hi3.2 c3
  have hi4 := br_ite hr
  by_cases c4 : a1 = 12
  · have hr := hi4.1 c4
    refine lv_tableIn (tgt := 66) hx hb dX0_ofBites_1 (by rw [c4]; decide) (by rw [c4]; decide) (by rw [c4]; rfl) (by decide) ?_
    refine lv_aload_n hx hb dX0_ofBites_66 rfl (lv_at hl 0 rfl) ?_
    refine lv_iload_n hx hb dX0_ofBites_67 rfl (lv_at hl 2 rfl) ?_
    refine lv_iload_n hx hb dX0_ofBites_68 rfl (lv_at hl 3 rfl) ?_
    refine lv_iconst (v := 1) hx hb dX0_ofBites_69 rfl ?_
    rcases Or.symm (br_bX hr) with ⟨o12, ho12, rfl⟩ | ⟨o12, ho12, hr⟩
    · refine fwTVx (As := [.int a2, .int a3, .int 1]) (rest := []) (C := RX0) hx hb hml hown hts (m_X0_bestTold l hst D ax ac g a2 a3 (1 : Int32) _ _ ho12) (cw_X0_bestTold hts q808 ⟨Nat.le_of_ble_eq_true rfl, Nat.le_of_ble_eq_true rfl⟩) hG hZ hS hA ixX nd_X (pk_X ax ac _) (ad_X ax ac _ _) 0 0 rfl rfl rfl hl.1 rfl (Nat.le_of_ble_eq_true rfl) dX0_ofBites_70 ⟨Nat.le_of_ble_eq_true rfl, Nat.le_of_ble_eq_true rfl⟩ (wn := wX ax ac o12.2) (rep_X ax ac _ _) (fun q_ ci_ H locs hci hS => ?_)
      subst hoc; exact fw_xout hnt hlk hG hci hS (Nat.le_of_ble_eq_true rfl) (Nat.le_of_ble_eq_true rfl)
    refine fwTVo (As := [.int a2, .int a3, .int 1]) (rest := []) (C := RX0) hx hb hml hown hts (m_X0_bestTold l hst D ax ac g a2 a3 (1 : Int32) _ _ ho12) (cw_X0_bestTold hts q808 ⟨Nat.le_of_ble_eq_true rfl, Nat.le_of_ble_eq_true rfl⟩) hG hZ hS hA ixX nd_X (pk_X ax ac _) (ad_X ax ac _ _) 0 0 rfl rfl rfl hl.1 rfl (Nat.le_of_ble_eq_true rfl) dX0_ofBites_70 ⟨Nat.le_of_ble_eq_true rfl, Nat.le_of_ble_eq_true rfl⟩ (wn := wX ax ac o12.2) (rep_X ax ac _ _) (fun H locs hS => ?_)
    have hP := hS.1
    refine W.widen (k := 5) (n := 32) (by first | exact Nat.le_refl _ | (dsimp only [rm_X0_bestTold]; omega)) (by first | exact Nat.le_refl _ | (dsimp only [rm_X0_bestTold]; omega)) ?_
    obtain rfl := Option.some.inj hr
    refine W.widen (k := rm_X0_ofBites.cells) (n := rm_X0_ofBites.slots) (Nat.le_of_ble_eq_true rfl) (Nat.le_of_ble_eq_true rfl) ?_
    subst hoc
    exact xx_ret (W.iret hx hb hrt (fun t ht _ => hS.q ht rfl) hS.2.2.2.2 dX0_ofBites_73 hlk)
  have hr := hi4.2 c4
  have hi5 := br_ite hr
  by_cases c5 : a1 = 13
  · have hr := hi5.1 c5
    refine lv_tableIn (tgt := 74) hx hb dX0_ofBites_1 (by rw [c5]; decide) (by rw [c5]; decide) (by rw [c5]; rfl) (by decide) ?_
    refine lv_aload_n hx hb dX0_ofBites_74 rfl (lv_at hl 0 rfl) ?_
    refine lv_iload_n hx hb dX0_ofBites_75 rfl (lv_at hl 2 rfl) ?_
    refine lv_iload_n hx hb dX0_ofBites_76 rfl (lv_at hl 3 rfl) ?_
    refine lv_iconst (v := (-1)) hx hb dX0_ofBites_77 rfl ?_
    rcases Or.symm (br_bX hr) with ⟨o13, ho13, rfl⟩ | ⟨o13, ho13, hr⟩
    · refine fwTVx (As := [.int a2, .int a3, .int (-1)]) (rest := []) (C := RX0) hx hb hml hown hts (m_X0_bestTold l hst D ax ac g a2 a3 (-1 : Int32) _ _ ho13) (cw_X0_bestTold hts q808 ⟨Nat.le_of_ble_eq_true rfl, Nat.le_of_ble_eq_true rfl⟩) hG hZ hS hA ixX nd_X (pk_X ax ac _) (ad_X ax ac _ _) 0 0 rfl rfl rfl hl.1 rfl (Nat.le_of_ble_eq_true rfl) dX0_ofBites_78 ⟨Nat.le_of_ble_eq_true rfl, Nat.le_of_ble_eq_true rfl⟩ (wn := wX ax ac o13.2) (rep_X ax ac _ _) (fun q_ ci_ H locs hci hS => ?_)
      subst hoc; exact fw_xout hnt hlk hG hci hS (Nat.le_of_ble_eq_true rfl) (Nat.le_of_ble_eq_true rfl)
    refine fwTVo (As := [.int a2, .int a3, .int (-1)]) (rest := []) (C := RX0) hx hb hml hown hts (m_X0_bestTold l hst D ax ac g a2 a3 (-1 : Int32) _ _ ho13) (cw_X0_bestTold hts q808 ⟨Nat.le_of_ble_eq_true rfl, Nat.le_of_ble_eq_true rfl⟩) hG hZ hS hA ixX nd_X (pk_X ax ac _) (ad_X ax ac _ _) 0 0 rfl rfl rfl hl.1 rfl (Nat.le_of_ble_eq_true rfl) dX0_ofBites_78 ⟨Nat.le_of_ble_eq_true rfl, Nat.le_of_ble_eq_true rfl⟩ (wn := wX ax ac o13.2) (rep_X ax ac _ _) (fun H locs hS => ?_)
    have hP := hS.1
    refine W.widen (k := 5) (n := 32) (by first | exact Nat.le_refl _ | (dsimp only [rm_X0_bestTold]; omega)) (by first | exact Nat.le_refl _ | (dsimp only [rm_X0_bestTold]; omega)) ?_
    obtain rfl := Option.some.inj hr
    refine W.widen (k := rm_X0_ofBites.cells) (n := rm_X0_ofBites.slots) (Nat.le_of_ble_eq_true rfl) (Nat.le_of_ble_eq_true rfl) ?_
    subst hoc
    exact xx_ret (W.iret hx hb hrt (fun t ht _ => hS.q ht rfl) hS.2.2.2.2 dX0_ofBites_81 hlk)
  have hr := hi5.2 c5
  have hi6 := br_ite hr
  by_cases c6 : a1 = 14
  · have hr := hi6.1 c6
    refine lv_tableIn (tgt := 82) hx hb dX0_ofBites_1 (by rw [c6]; decide) (by rw [c6]; decide) (by rw [c6]; rfl) (by decide) ?_
    refine lv_aload_n hx hb dX0_ofBites_82 rfl (lv_at hl 0 rfl) ?_
    refine lv_iload_n hx hb dX0_ofBites_83 rfl (lv_at hl 2 rfl) ?_
    refine lv_iload_n hx hb dX0_ofBites_84 rfl (lv_at hl 3 rfl) ?_
    refine lv_iload hx hb dX0_ofBites_85 (lv_at hl 4 rfl) ?_
    rcases Or.symm (br_bX hr) with ⟨o14, ho14, rfl⟩ | ⟨o14, ho14, hr⟩
    · refine fwTVx (As := [.int a2, .int a3, .int a4]) (rest := []) (C := RX0) hx hb hml hown hts (m_X0_fewestTold l hst D ax ac g a2 a3 a4 _ _ ho14) (cw_X0_fewestTold hts q825 ⟨Nat.le_of_ble_eq_true rfl, Nat.le_of_ble_eq_true rfl⟩) hG hZ hS hA ixX nd_X (pk_X ax ac _) (ad_X ax ac _ _) 0 0 rfl rfl rfl hl.1 rfl (Nat.le_of_ble_eq_true rfl) dX0_ofBites_87 ⟨Nat.le_of_ble_eq_true rfl, Nat.le_of_ble_eq_true rfl⟩ (wn := wX ax ac o14.2) (rep_X ax ac _ _) (fun q_ ci_ H locs hci hS => ?_)
      subst hoc; exact fw_xout hnt hlk hG hci hS (Nat.le_of_ble_eq_true rfl) (Nat.le_of_ble_eq_true rfl)
    refine fwTVo (As := [.int a2, .int a3, .int a4]) (rest := []) (C := RX0) hx hb hml hown hts (m_X0_fewestTold l hst D ax ac g a2 a3 a4 _ _ ho14) (cw_X0_fewestTold hts q825 ⟨Nat.le_of_ble_eq_true rfl, Nat.le_of_ble_eq_true rfl⟩) hG hZ hS hA ixX nd_X (pk_X ax ac _) (ad_X ax ac _ _) 0 0 rfl rfl rfl hl.1 rfl (Nat.le_of_ble_eq_true rfl) dX0_ofBites_87 ⟨Nat.le_of_ble_eq_true rfl, Nat.le_of_ble_eq_true rfl⟩ (wn := wX ax ac o14.2) (rep_X ax ac _ _) (fun H locs hS => ?_)
    have hP := hS.1
    refine W.widen (k := 4) (n := 28) (by first | exact Nat.le_refl _ | (dsimp only [rm_X0_fewestTold]; omega)) (by first | exact Nat.le_refl _ | (dsimp only [rm_X0_fewestTold]; omega)) ?_
    obtain rfl := Option.some.inj hr
    refine W.widen (k := rm_X0_ofBites.cells) (n := rm_X0_ofBites.slots) (Nat.le_of_ble_eq_true rfl) (Nat.le_of_ble_eq_true rfl) ?_
    subst hoc
    exact xx_ret (W.iret hx hb hrt (fun t ht _ => hS.q ht rfl) hS.2.2.2.2 dX0_ofBites_90 hlk)
  have hr := hi6.2 c6
  have hi7 := br_ite hr
  by_cases c7 : a1 = 15
  · have hr := hi7.1 c7
    refine lv_tableIn (tgt := 91) hx hb dX0_ofBites_1 (by rw [c7]; decide) (by rw [c7]; decide) (by rw [c7]; rfl) (by decide) ?_
    refine lv_aload_n hx hb dX0_ofBites_91 rfl (lv_at hl 0 rfl) ?_
    refine lv_iconst (v := (-1)) hx hb dX0_ofBites_92 rfl ?_
    refine lv_iconst (v := 1) hx hb dX0_ofBites_93 rfl ?_
    obtain ⟨o15, ho15, hr⟩ := br_bind hr
    refine fwWVs (As := [.int (-1), .int 1]) (rest := []) (C := RX0) hx hb hml hown hts (m_X0_manyThatCan l D ax ac g (-1 : Int32) (1 : Int32) _ o15 ho15) (cw_X0_manyThatCan hts q838 ⟨Nat.le_of_ble_eq_true rfl, Nat.le_of_ble_eq_true rfl⟩) hG hS hA rfl 0 0 rfl rfl rfl hl.1 rfl (Nat.le_of_ble_eq_true rfl) dX0_ofBites_94 ⟨Nat.le_of_ble_eq_true rfl, Nat.le_of_ble_eq_true rfl⟩ (fun H locs hS => ?_)
    have hP := hS.1
    obtain rfl := Option.some.inj hr
    refine W.widen (k := rm_X0_ofBites.cells) (n := rm_X0_ofBites.slots) (Nat.le_of_ble_eq_true rfl) (Nat.le_of_ble_eq_true rfl) ?_
    subst hoc
    exact xx_ret (W.iret hx hb hrt (fun t ht _ => hS.q ht rfl) hS.2.2.2.2 dX0_ofBites_97 hlk)
  have hr := hi7.2 c7
  have hi8 := br_ite hr
  by_cases c8 : a1 = 16
  · have hr := hi8.1 c8
    refine lv_tableIn (tgt := 98) hx hb dX0_ofBites_1 (by rw [c8]; decide) (by rw [c8]; decide) (by rw [c8]; rfl) (by decide) ?_
    refine lv_aload_n hx hb dX0_ofBites_98 rfl (lv_at hl 0 rfl) ?_
    refine lv_iload_n hx hb dX0_ofBites_99 rfl (lv_at hl 2 rfl) ?_
    rcases Or.symm (br_bX hr) with ⟨o16, ho16, rfl⟩ | ⟨o16, ho16, hr⟩
    · refine fwTVx (As := [.int a2]) (rest := []) (C := RX0) hx hb hml hown hts (m_X0_canTold l hst D ax ac g a2 _ _ ho16) (cw_X0_canTold hts q846 ⟨Nat.le_of_ble_eq_true rfl, Nat.le_of_ble_eq_true rfl⟩) hG hZ hS hA ixX nd_X (pk_X ax ac _) (ad_X ax ac _ _) 0 0 rfl rfl rfl hl.1 rfl (Nat.le_of_ble_eq_true rfl) dX0_ofBites_100 ⟨Nat.le_of_ble_eq_true rfl, Nat.le_of_ble_eq_true rfl⟩ (wn := wX ax ac o16.2) (rep_X ax ac _ _) (fun q_ ci_ H locs hci hS => ?_)
      subst hoc; exact fw_xout hnt hlk hG hci hS (Nat.le_of_ble_eq_true rfl) (Nat.le_of_ble_eq_true rfl)
    refine fwTVo (As := [.int a2]) (rest := []) (C := RX0) hx hb hml hown hts (m_X0_canTold l hst D ax ac g a2 _ _ ho16) (cw_X0_canTold hts q846 ⟨Nat.le_of_ble_eq_true rfl, Nat.le_of_ble_eq_true rfl⟩) hG hZ hS hA ixX nd_X (pk_X ax ac _) (ad_X ax ac _ _) 0 0 rfl rfl rfl hl.1 rfl (Nat.le_of_ble_eq_true rfl) dX0_ofBites_100 ⟨Nat.le_of_ble_eq_true rfl, Nat.le_of_ble_eq_true rfl⟩ (wn := wX ax ac o16.2) (rep_X ax ac _ _) (fun H locs hS => ?_)
    have hP := hS.1
    refine W.widen (k := 1) (n := 7) (by first | exact Nat.le_refl _ | (dsimp only [rm_X0_canTold]; omega)) (by first | exact Nat.le_refl _ | (dsimp only [rm_X0_canTold]; omega)) ?_
    obtain rfl := Option.some.inj hr
    refine W.widen (k := rm_X0_ofBites.cells) (n := rm_X0_ofBites.slots) (Nat.le_of_ble_eq_true rfl) (Nat.le_of_ble_eq_true rfl) ?_
    subst hoc
    exact xx_ret (W.iret hx hb hrt (fun t ht _ => hS.q ht rfl) hS.2.2.2.2 dX0_ofBites_103 hlk)
  have hr := hi8.2 c8
  refine lv_tableOut (tgt := 104) hx hb dX0_ofBites_1 (by have n1 := lv_neT (a := 9) c1 rfl; have n2 := lv_neT (a := 10) c2 rfl; have n3 := lv_neT (a := 11) c3 rfl; have n4 := lv_neT (a := 12) c4 rfl; have n5 := lv_neT (a := 13) c5 rfl; have n6 := lv_neT (a := 14) c6 rfl; have n7 := lv_neT (a := 15) c7 rfl; have n8 := lv_neT (a := 16) c8 rfl; omega) (by decide) ?_
  refine lv_aload_n hx hb dX0_ofBites_104 rfl (lv_at hl 0 rfl) ?_
  refine lv_iload_n hx hb dX0_ofBites_105 rfl (lv_at hl 2 rfl) ?_
  rcases Or.symm (br_bX hr) with ⟨o17, ho17, rfl⟩ | ⟨o17, ho17, hr⟩
  · refine fwTVx (As := [.int a2]) (rest := []) (C := RX0) hx hb hml hown hts (m_X0_waysTold l hst D ax ac g a2 _ _ ho17) (cw_X0_waysTold hts q851 ⟨Nat.le_of_ble_eq_true rfl, Nat.le_of_ble_eq_true rfl⟩) hG hZ hS hA ixX nd_X (pk_X ax ac _) (ad_X ax ac _ _) 0 0 rfl rfl rfl hl.1 rfl (Nat.le_of_ble_eq_true rfl) dX0_ofBites_106 ⟨Nat.le_of_ble_eq_true rfl, Nat.le_of_ble_eq_true rfl⟩ (wn := wX ax ac o17.2) (rep_X ax ac _ _) (fun q_ ci_ H locs hci hS => ?_)
    subst hoc; exact fw_xout hnt hlk hG hci hS (Nat.le_of_ble_eq_true rfl) (Nat.le_of_ble_eq_true rfl)
  refine fwTVo (As := [.int a2]) (rest := []) (C := RX0) hx hb hml hown hts (m_X0_waysTold l hst D ax ac g a2 _ _ ho17) (cw_X0_waysTold hts q851 ⟨Nat.le_of_ble_eq_true rfl, Nat.le_of_ble_eq_true rfl⟩) hG hZ hS hA ixX nd_X (pk_X ax ac _) (ad_X ax ac _ _) 0 0 rfl rfl rfl hl.1 rfl (Nat.le_of_ble_eq_true rfl) dX0_ofBites_106 ⟨Nat.le_of_ble_eq_true rfl, Nat.le_of_ble_eq_true rfl⟩ (wn := wX ax ac o17.2) (rep_X ax ac _ _) (fun H locs hS => ?_)
  have hP := hS.1
  refine W.widen (k := 1) (n := 7) (by first | exact Nat.le_refl _ | (dsimp only [rm_X0_waysTold]; omega)) (by first | exact Nat.le_refl _ | (dsimp only [rm_X0_waysTold]; omega)) ?_
  obtain rfl := Option.some.inj hr
  refine W.widen (k := rm_X0_ofBites.cells) (n := rm_X0_ofBites.slots) (Nat.le_of_ble_eq_true rfl) (Nat.le_of_ble_eq_true rfl) ?_
  subst hoc
  exact xx_ret (W.iret hx hb hrt (fun t ht _ => hS.q ht rfl) hS.2.2.2.2 dX0_ofBites_109 hlk)