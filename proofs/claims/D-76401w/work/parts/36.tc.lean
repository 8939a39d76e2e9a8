/-! STATEMENTS TOLD: which, start, kind, two numbers -/
abbrev TL : Type := Fin 5 × Int32 × Fin 6 × Int32 × Int32
abbrev TL.t15 (s : Int32) : TL := (0, s, 0, 0, 0)
abbrev TL.t16 (s : Int32) (k : Fin 6) (f : Int32) : TL := (1, s, k, f, 0)
abbrev TL.t17 (s a : Int32) : TL := (2, s, 0, a, 0)
abbrev TL.t18 (s q : Int32) : TL := (3, s, 0, q, 0)
abbrev TL.t19 (s h a : Int32) : TL := (4, s, 0, h, a)
def wT (ax : Nat → Nat) : TL → va_E
  | (0, s, _, _, _) => .inr (12, [.int s])
  | (1, s, k, f, _) => .inr (13, [.int s, .ref (ax (11 + k.val)), .int f])
  | (2, s, _, a, _) => .inr (14, [.int s, .int a])
  | (3, s, _, q, _) => .inr (15, [.int s, .int q])
  | (4, s, _, h, a) => .inr (16, [.int s, .int h, .int a])

abbrev f0_X15 : List Value := [.int 0]
abbrev rm_X14_init_X15 : Room := ({ frames := 2, cells := 0, slots := 0, locals := 40 })
theorem m_X14_init_X15 (l : Launch) (D : va_G) (ac : Nat → ClassId) (b : Nat) (a1 : Int32) (sz : Nat) : Met l yX14_init (ws_ yX14_init cX14_init 2 none) rm_X14_init_X15 (va_Pc [.ref b, .int a1] (WPc D ac [(b, .inr (12, f0_X15))] sz)) (QN (U := Unit) D (fun _ => [(b, .inr (12, [.int a1]))]) (va_A [(b, .inr (12, f0_X15))] sz)) rm_X14_init_X15.cells rm_X14_init_X15.slots (va_A [(b, .inr (12, f0_X15))] sz) := by
  refine fw_of (by decide) (Nat.le_of_ble_eq_true rfl) ?_
  intro p e s m below meth c ls hx hb hrt hts hown hlk hml hmn hU hl
  obtain ⟨rfl, hP, hG, hD⟩ := hU
  have hS := Stt.start hP hD
  obtain ⟨A, hAe⟩ : ∃ A, A = va_A [(b, .inr (12, f0_X15))] s.heap.size := ⟨_, rfl⟩
  have hA : ∀ q : Nat, s.heap.size ≤ q → A q := fun q h => by rw [hAe]; exact Or.inr h
  rw [← hAe] at hS ⊢
  have hl : lv_has ls 2 [(0, .ref b), (1, .int a1)] := hl
  refine lv_aload_n hx hb dX14_init_0 rfl (lv_at hl 0 rfl) ?_
  refine W.objInit hx hb hown (hts _ q449) (hts _ q133) (hts _ q134) rfl (by rw [hml]; exact hl.1) rfl dX14_init_1 (Nat.le_of_ble_eq_true rfl) (Nat.le_of_ble_eq_true rfl) ?_
  refine W.eq (g2 := F0 m 4 ls []) rfl ?_
  refine lv_aload_n hx hb dX14_init_4 rfl (lv_at hl 0 rfl) ?_
  refine lv_iload_n hx hb dX14_init_5 rfl (lv_at hl 1 rfl) ?_
  refine fw_putF (D := D) (ci := 12) (x := .int a1) (C := RX15) (T := TX15) (N := 1) hx hb hts in_X15 tyX15 tyX15_ok nmX15 hown hG hS 0 rfl rfl 0 (by decide) (hts _ q450) (fun _ h9 => h9) rfl hmn rfl (tyX15_ok 0 (by decide)) rfl rfl (Nat.le_of_ble_eq_true rfl) dX14_init_6 (wn := [(b, .inr (12, [.int a1]))]) rfl (fun H locs hS => ?_)
  exact W.vret hx hb hrt (fun t ht _ => ⟨⟨rfl, (), by rw [ht]; exact hS.1, hS.2.1⟩, hS.2.2.F ht⟩) hS.2.2.2.2 dX14_init_9 hlk
theorem cwi_X14_init_X15 {R : Room} {s : State} {args : Array Value} {own : String} {index : Nat} (hts : ∀ w ∈ lw_all, w.before args s = true) (hlink : Cond.methodLink own index yX14_init ∈ lw_all) (hR : rm_X14_init_X15.frames + 1 ≤ R.frames ∧ 8 + (2 + 11) + rm_X14_init_X15.locals ≤ R.locals) : CallB R s args own index yX14_init cX14_init 2 none (ws_ yX14_init cX14_init 2 none) rm_X14_init_X15 rm_X14_init_X15.cells rm_X14_init_X15.slots 1 ∧ yX14_init.name = "<init>" ∧ (Cond.instanceMethod yX14_init).before args s = true :=
  cwI 1 hts (lw_meth q448) rfl rfl rfl (hts _ q119) (hts _ hlink) (hts _ q447) rfl (by decide +kernel) hR
abbrev rm_X15_init : Room := ({ frames := 3, cells := 0, slots := 0, locals := 70 })
theorem m_X15_init (l : Launch) (D : va_G) (ax : Nat → Nat) (ac : Nat → ClassId) (b : Nat) (a1 : Int32) (sz : Nat) : Met l yX15_init (ws_ yX15_init cX15_init 2 none) rm_X15_init (va_Pc [.ref b, .int a1] (WPc D ac [(b, .inr (12, f0_X15))] sz)) (QN (U := Unit) D (fun _ => [(b, wT ax (TL.t15 a1))]) (va_A [(b, .inr (12, f0_X15))] sz)) rm_X15_init.cells rm_X15_init.slots (va_A [(b, .inr (12, f0_X15))] sz) := by
  refine fw_of (by decide) (Nat.le_of_ble_eq_true rfl) ?_
  intro p e s m below meth c ls hx hb hrt hts hown hlk hml hmn hU hl
  obtain ⟨rfl, hP, hG, hD⟩ := hU
  have hS := Stt.start hP hD
  obtain ⟨A, hAe⟩ : ∃ A, A = va_A [(b, .inr (12, f0_X15))] s.heap.size := ⟨_, rfl⟩
  have hA : ∀ q : Nat, s.heap.size ≤ q → A q := fun q h => by rw [hAe]; exact Or.inr h
  rw [← hAe] at hS ⊢
  have hl : lv_has ls 2 [(0, .ref b), (1, .int a1)] := hl
  refine lv_aload_n hx hb dX15_init_0 rfl (lv_at hl 0 rfl) ?_
  refine lv_iload_n hx hb dX15_init_1 rfl (lv_at hl 1 rfl) ?_
  refine fwNI (As := [.int a1]) (rest := []) (ws := []) hx hb hml hown hts (m_X14_init_X15 l D ac b a1 s.heap.size) (cwi_X14_init_X15 hts q446 ⟨Nat.le_of_ble_eq_true rfl, Nat.le_of_ble_eq_true rfl⟩) hG hS hA rfl hl.1 rfl (Nat.le_of_ble_eq_true rfl) dX15_init_2 ⟨Nat.le_of_ble_eq_true rfl, Nat.le_of_ble_eq_true rfl⟩ (fun u H locs hS => ?_)
  have hS : Stt D A s.heap [(b, .inr (12, [.int a1]))] H locs := hS
  exact W.vret hx hb hrt (fun t ht _ => ⟨⟨rfl, (), by rw [ht]; exact hS.1, hS.2.1⟩, hS.2.2.F ht⟩) hS.2.2.2.2 dX15_init_5 hlk
theorem cwi_X15_init {R : Room} {s : State} {args : Array Value} {own : String} {index : Nat} (hts : ∀ w ∈ lw_all, w.before args s = true) (hlink : Cond.methodLink own index yX15_init ∈ lw_all) (hR : rm_X15_init.frames + 1 ≤ R.frames ∧ 8 + (2 + 11) + rm_X15_init.locals ≤ R.locals) : CallB R s args own index yX15_init cX15_init 2 none (ws_ yX15_init cX15_init 2 none) rm_X15_init rm_X15_init.cells rm_X15_init.slots 1 ∧ yX15_init.name = "<init>" ∧ (Cond.instanceMethod yX15_init).before args s = true :=
  cwI 1 hts (lw_meth q445) rfl rfl rfl (hts _ q120) (hts _ hlink) (hts _ q444) rfl (by decide +kernel) hR
abbrev f0_X16 : List Value := [.int 0, .null, .int 0]
abbrev rm_X14_init_X16 : Room := ({ frames := 2, cells := 0, slots := 0, locals := 40 })
theorem m_X14_init_X16 (l : Launch) (D : va_G) (ac : Nat → ClassId) (b : Nat) (a1 : Int32) (sz : Nat) : Met l yX14_init (ws_ yX14_init cX14_init 2 none) rm_X14_init_X16 (va_Pc [.ref b, .int a1] (WPc D ac [(b, .inr (13, f0_X16))] sz)) (QN (U := Unit) D (fun _ => [(b, .inr (13, [.int a1, .null, .int 0]))]) (va_A [(b, .inr (13, f0_X16))] sz)) rm_X14_init_X16.cells rm_X14_init_X16.slots (va_A [(b, .inr (13, f0_X16))] sz) := by
  refine fw_of (by decide) (Nat.le_of_ble_eq_true rfl) ?_
  intro p e s m below meth c ls hx hb hrt hts hown hlk hml hmn hU hl
  obtain ⟨rfl, hP, hG, hD⟩ := hU
  have hS := Stt.start hP hD
  obtain ⟨A, hAe⟩ : ∃ A, A = va_A [(b, .inr (13, f0_X16))] s.heap.size := ⟨_, rfl⟩
  have hA : ∀ q : Nat, s.heap.size ≤ q → A q := fun q h => by rw [hAe]; exact Or.inr h
  rw [← hAe] at hS ⊢
  have hl : lv_has ls 2 [(0, .ref b), (1, .int a1)] := hl
  refine lv_aload_n hx hb dX14_init_0 rfl (lv_at hl 0 rfl) ?_
  refine W.objInit hx hb hown (hts _ q449) (hts _ q133) (hts _ q134) rfl (by rw [hml]; exact hl.1) rfl dX14_init_1 (Nat.le_of_ble_eq_true rfl) (Nat.le_of_ble_eq_true rfl) ?_
  refine W.eq (g2 := F0 m 4 ls []) rfl ?_
  refine lv_aload_n hx hb dX14_init_4 rfl (lv_at hl 0 rfl) ?_
  refine lv_iload_n hx hb dX14_init_5 rfl (lv_at hl 1 rfl) ?_
  refine fw_putF (D := D) (ci := 13) (x := .int a1) (C := RX16) (T := TX16) (N := 3) hx hb hts in_X16 tyX16 tyX16_ok nmX16 hown hG hS 0 rfl rfl 0 (by decide) (hts _ q450) (fun _ h9 => h9) rfl hmn rfl (tyX16_ok 0 (by decide)) rfl rfl (Nat.le_of_ble_eq_true rfl) dX14_init_6 (wn := [(b, .inr (13, [.int a1, .null, .int 0]))]) rfl (fun H locs hS => ?_)
  exact W.vret hx hb hrt (fun t ht _ => ⟨⟨rfl, (), by rw [ht]; exact hS.1, hS.2.1⟩, hS.2.2.F ht⟩) hS.2.2.2.2 dX14_init_9 hlk
theorem cwi_X14_init_X16 {R : Room} {s : State} {args : Array Value} {own : String} {index : Nat} (hts : ∀ w ∈ lw_all, w.before args s = true) (hlink : Cond.methodLink own index yX14_init ∈ lw_all) (hR : rm_X14_init_X16.frames + 1 ≤ R.frames ∧ 8 + (2 + 11) + rm_X14_init_X16.locals ≤ R.locals) : CallB R s args own index yX14_init cX14_init 2 none (ws_ yX14_init cX14_init 2 none) rm_X14_init_X16 rm_X14_init_X16.cells rm_X14_init_X16.slots 1 ∧ yX14_init.name = "<init>" ∧ (Cond.instanceMethod yX14_init).before args s = true :=
  cwI 1 hts (lw_meth q448) rfl rfl rfl (hts _ q119) (hts _ hlink) (hts _ q447) rfl (by decide +kernel) hR
abbrev rm_X16_init : Room := ({ frames := 3, cells := 0, slots := 0, locals := 70 })
theorem m_X16_init (l : Launch) (D : va_G) (ax : Nat → Nat) (ac : Nat → ClassId) (b : Nat) (a1 : Int32) (kk : Fin 6) (a3 : Int32) (sz : Nat) : Met l yX16_init (ws_ yX16_init cX16_init 4 none) rm_X16_init (va_Pc [.ref b, .int a1, .ref (ax (11 + kk.val)), .int a3] (WPc D ac [(b, .inr (13, f0_X16))] sz)) (QN (U := Unit) D (fun _ => [(b, wT ax (TL.t16 a1 kk a3))]) (va_A [(b, .inr (13, f0_X16))] sz)) rm_X16_init.cells rm_X16_init.slots (va_A [(b, .inr (13, f0_X16))] sz) := by
  refine fw_of (by decide) (Nat.le_of_ble_eq_true rfl) ?_
  intro p e s m below meth c ls hx hb hrt hts hown hlk hml hmn hU hl
  obtain ⟨rfl, hP, hG, hD⟩ := hU
  have hS := Stt.start hP hD
  obtain ⟨A, hAe⟩ : ∃ A, A = va_A [(b, .inr (13, f0_X16))] s.heap.size := ⟨_, rfl⟩
  have hA : ∀ q : Nat, s.heap.size ≤ q → A q := fun q h => by rw [hAe]; exact Or.inr h
  rw [← hAe] at hS ⊢
  have hl : lv_has ls 4 [(0, .ref b), (1, .int a1), (2, .ref (ax (11 + kk.val))), (3, .int a3)] := hl
  refine lv_aload_n hx hb dX16_init_0 rfl (lv_at hl 0 rfl) ?_
  refine lv_iload_n hx hb dX16_init_1 rfl (lv_at hl 1 rfl) ?_
  refine fwNI (As := [.int a1]) (rest := []) (ws := []) hx hb hml hown hts (m_X14_init_X16 l D ac b a1 s.heap.size) (cwi_X14_init_X16 hts q477 ⟨Nat.le_of_ble_eq_true rfl, Nat.le_of_ble_eq_true rfl⟩) hG hS hA rfl hl.1 rfl (Nat.le_of_ble_eq_true rfl) dX16_init_2 ⟨Nat.le_of_ble_eq_true rfl, Nat.le_of_ble_eq_true rfl⟩ (fun u H locs hS => ?_)
  have hS : Stt D A s.heap [(b, .inr (13, [.int a1, .null, .int 0]))] H locs := hS
  refine lv_aload_n hx hb dX16_init_5 rfl (lv_at hl 0 rfl) ?_
  refine lv_aload_n hx hb dX16_init_6 rfl (lv_at hl 2 rfl) ?_
  refine fw_putF (D := D) (ci := 13) (x := .ref (ax (11 + kk.val))) (C := RX16) (T := TX16) (N := 3) hx hb hts in_X16 tyX16 tyX16_ok nmX16 hown hG hS 0 rfl rfl 1 (by decide) (hts _ q478) (fun _ h9 => h9) rfl hmn rfl (tyX16_ok 1 (by decide)) rfl rfl (Nat.le_of_ble_eq_true rfl) dX16_init_7 (wn := [(b, .inr (13, [.int a1, .ref (ax (11 + kk.val)), .int 0]))]) rfl (fun H locs hS => ?_)
  refine lv_aload_n hx hb dX16_init_10 rfl (lv_at hl 0 rfl) ?_
  refine lv_iload_n hx hb dX16_init_11 rfl (lv_at hl 3 rfl) ?_
  refine fw_putF (D := D) (ci := 13) (x := .int a3) (C := RX16) (T := TX16) (N := 3) hx hb hts in_X16 tyX16 tyX16_ok nmX16 hown hG hS 0 rfl rfl 2 (by decide) (hts _ q479) (fun _ h9 => h9) rfl hmn rfl (tyX16_ok 2 (by decide)) rfl rfl (Nat.le_of_ble_eq_true rfl) dX16_init_12 (wn := [(b, .inr (13, [.int a1, .ref (ax (11 + kk.val)), .int a3]))]) rfl (fun H locs hS => ?_)
  exact W.vret hx hb hrt (fun t ht _ => ⟨⟨rfl, (), by rw [ht]; exact hS.1, hS.2.1⟩, hS.2.2.F ht⟩) hS.2.2.2.2 dX16_init_15 hlk
theorem cwi_X16_init {R : Room} {s : State} {args : Array Value} {own : String} {index : Nat} (hts : ∀ w ∈ lw_all, w.before args s = true) (hlink : Cond.methodLink own index yX16_init ∈ lw_all) (hR : rm_X16_init.frames + 1 ≤ R.frames ∧ 8 + (4 + 11) + rm_X16_init.locals ≤ R.locals) : CallB R s args own index yX16_init cX16_init 4 none (ws_ yX16_init cX16_init 4 none) rm_X16_init rm_X16_init.cells rm_X16_init.slots 3 ∧ yX16_init.name = "<init>" ∧ (Cond.instanceMethod yX16_init).before args s = true :=
  cwI 3 hts (lw_meth q476) rfl rfl rfl (hts _ q121) (hts _ hlink) (hts _ q475) rfl (by decide +kernel) hR
abbrev f0_X17 : List Value := [.int 0, .int 0]
abbrev rm_X14_init_X17 : Room := ({ frames := 2, cells := 0, slots := 0, locals := 40 })
theorem m_X14_init_X17 (l : Launch) (D : va_G) (ac : Nat → ClassId) (b : Nat) (a1 : Int32) (sz : Nat) : Met l yX14_init (ws_ yX14_init cX14_init 2 none) rm_X14_init_X17 (va_Pc [.ref b, .int a1] (WPc D ac [(b, .inr (14, f0_X17))] sz)) (QN (U := Unit) D (fun _ => [(b, .inr (14, [.int a1, .int 0]))]) (va_A [(b, .inr (14, f0_X17))] sz)) rm_X14_init_X17.cells rm_X14_init_X17.slots (va_A [(b, .inr (14, f0_X17))] sz) := by
  refine fw_of (by decide) (Nat.le_of_ble_eq_true rfl) ?_
  intro p e s m below meth c ls hx hb hrt hts hown hlk hml hmn hU hl
  obtain ⟨rfl, hP, hG, hD⟩ := hU
  have hS := Stt.start hP hD
  obtain ⟨A, hAe⟩ : ∃ A, A = va_A [(b, .inr (14, f0_X17))] s.heap.size := ⟨_, rfl⟩
  have hA : ∀ q : Nat, s.heap.size ≤ q → A q := fun q h => by rw [hAe]; exact Or.inr h
  rw [← hAe] at hS ⊢
  have hl : lv_has ls 2 [(0, .ref b), (1, .int a1)] := hl
  refine lv_aload_n hx hb dX14_init_0 rfl (lv_at hl 0 rfl) ?_
  refine W.objInit hx hb hown (hts _ q449) (hts _ q133) (hts _ q134) rfl (by rw [hml]; exact hl.1) rfl dX14_init_1 (Nat.le_of_ble_eq_true rfl) (Nat.le_of_ble_eq_true rfl) ?_
  refine W.eq (g2 := F0 m 4 ls []) rfl ?_
  refine lv_aload_n hx hb dX14_init_4 rfl (lv_at hl 0 rfl) ?_
  refine lv_iload_n hx hb dX14_init_5 rfl (lv_at hl 1 rfl) ?_
  refine fw_putF (D := D) (ci := 14) (x := .int a1) (C := RX17) (T := TX17) (N := 2) hx hb hts in_X17 tyX17 tyX17_ok nmX17 hown hG hS 0 rfl rfl 0 (by decide) (hts _ q450) (fun _ h9 => h9) rfl hmn rfl (tyX17_ok 0 (by decide)) rfl rfl (Nat.le_of_ble_eq_true rfl) dX14_init_6 (wn := [(b, .inr (14, [.int a1, .int 0]))]) rfl (fun H locs hS => ?_)
  exact W.vret hx hb hrt (fun t ht _ => ⟨⟨rfl, (), by rw [ht]; exact hS.1, hS.2.1⟩, hS.2.2.F ht⟩) hS.2.2.2.2 dX14_init_9 hlk
theorem cwi_X14_init_X17 {R : Room} {s : State} {args : Array Value} {own : String} {index : Nat} (hts : ∀ w ∈ lw_all, w.before args s = true) (hlink : Cond.methodLink own index yX14_init ∈ lw_all) (hR : rm_X14_init_X17.frames + 1 ≤ R.frames ∧ 8 + (2 + 11) + rm_X14_init_X17.locals ≤ R.locals) : CallB R s args own index yX14_init cX14_init 2 none (ws_ yX14_init cX14_init 2 none) rm_X14_init_X17 rm_X14_init_X17.cells rm_X14_init_X17.slots 1 ∧ yX14_init.name = "<init>" ∧ (Cond.instanceMethod yX14_init).before args s = true :=
  cwI 1 hts (lw_meth q448) rfl rfl rfl (hts _ q119) (hts _ hlink) (hts _ q447) rfl (by decide +kernel) hR
abbrev rm_X17_init : Room := ({ frames := 3, cells := 0, slots := 0, locals := 70 })
theorem m_X17_init (l : Launch) (D : va_G) (ax : Nat → Nat) (ac : Nat → ClassId) (b : Nat) (a1 : Int32) (a2 : Int32) (sz : Nat) : Met l yX17_init (ws_ yX17_init cX17_init 3 none) rm_X17_init (va_Pc [.ref b, .int a1, .int a2] (WPc D ac [(b, .inr (14, f0_X17))] sz)) (QN (U := Unit) D (fun _ => [(b, wT ax (TL.t17 a1 a2))]) (va_A [(b, .inr (14, f0_X17))] sz)) rm_X17_init.cells rm_X17_init.slots (va_A [(b, .inr (14, f0_X17))] sz) := by
  refine fw_of (by decide) (Nat.le_of_ble_eq_true rfl) ?_
  intro p e s m below meth c ls hx hb hrt hts hown hlk hml hmn hU hl
  obtain ⟨rfl, hP, hG, hD⟩ := hU
  have hS := Stt.start hP hD
  obtain ⟨A, hAe⟩ : ∃ A, A = va_A [(b, .inr (14, f0_X17))] s.heap.size := ⟨_, rfl⟩
  have hA : ∀ q : Nat, s.heap.size ≤ q → A q := fun q h => by rw [hAe]; exact Or.inr h
  rw [← hAe] at hS ⊢
  have hl : lv_has ls 3 [(0, .ref b), (1, .int a1), (2, .int a2)] := hl
  refine lv_aload_n hx hb dX17_init_0 rfl (lv_at hl 0 rfl) ?_
  refine lv_iload_n hx hb dX17_init_1 rfl (lv_at hl 1 rfl) ?_
  refine fwNI (As := [.int a1]) (rest := []) (ws := []) hx hb hml hown hts (m_X14_init_X17 l D ac b a1 s.heap.size) (cwi_X14_init_X17 hts q499 ⟨Nat.le_of_ble_eq_true rfl, Nat.le_of_ble_eq_true rfl⟩) hG hS hA rfl hl.1 rfl (Nat.le_of_ble_eq_true rfl) dX17_init_2 ⟨Nat.le_of_ble_eq_true rfl, Nat.le_of_ble_eq_true rfl⟩ (fun u H locs hS => ?_)
  have hS : Stt D A s.heap [(b, .inr (14, [.int a1, .int 0]))] H locs := hS
  refine lv_aload_n hx hb dX17_init_5 rfl (lv_at hl 0 rfl) ?_
  refine lv_iload_n hx hb dX17_init_6 rfl (lv_at hl 2 rfl) ?_
  refine fw_putF (D := D) (ci := 14) (x := .int a2) (C := RX17) (T := TX17) (N := 2) hx hb hts in_X17 tyX17 tyX17_ok nmX17 hown hG hS 0 rfl rfl 1 (by decide) (hts _ q500) (fun _ h9 => h9) rfl hmn rfl (tyX17_ok 1 (by decide)) rfl rfl (Nat.le_of_ble_eq_true rfl) dX17_init_7 (wn := [(b, .inr (14, [.int a1, .int a2]))]) rfl (fun H locs hS => ?_)
  exact W.vret hx hb hrt (fun t ht _ => ⟨⟨rfl, (), by rw [ht]; exact hS.1, hS.2.1⟩, hS.2.2.F ht⟩) hS.2.2.2.2 dX17_init_10 hlk
theorem cwi_X17_init {R : Room} {s : State} {args : Array Value} {own : String} {index : Nat} (hts : ∀ w ∈ lw_all, w.before args s = true) (hlink : Cond.methodLink own index yX17_init ∈ lw_all) (hR : rm_X17_init.frames + 1 ≤ R.frames ∧ 8 + (3 + 11) + rm_X17_init.locals ≤ R.locals) : CallB R s args own index yX17_init cX17_init 3 none (ws_ yX17_init cX17_init 3 none) rm_X17_init rm_X17_init.cells rm_X17_init.slots 2 ∧ yX17_init.name = "<init>" ∧ (Cond.instanceMethod yX17_init).before args s = true :=
  cwI 2 hts (lw_meth q498) rfl rfl rfl (hts _ q122) (hts _ hlink) (hts _ q497) rfl (by decide +kernel) hR
abbrev f0_X18 : List Value := [.int 0, .int 0]
abbrev rm_X14_init_X18 : Room := ({ frames := 2, cells := 0, slots := 0, locals := 40 })
theorem m_X14_init_X18 (l : Launch) (D : va_G) (ac : Nat → ClassId) (b : Nat) (a1 : Int32) (sz : Nat) : Met l yX14_init (ws_ yX14_init cX14_init 2 none) rm_X14_init_X18 (va_Pc [.ref b, .int a1] (WPc D ac [(b, .inr (15, f0_X18))] sz)) (QN (U := Unit) D (fun _ => [(b, .inr (15, [.int a1, .int 0]))]) (va_A [(b, .inr (15, f0_X18))] sz)) rm_X14_init_X18.cells rm_X14_init_X18.slots (va_A [(b, .inr (15, f0_X18))] sz) := by
  refine fw_of (by decide) (Nat.le_of_ble_eq_true rfl) ?_
  intro p e s m below meth c ls hx hb hrt hts hown hlk hml hmn hU hl
  obtain ⟨rfl, hP, hG, hD⟩ := hU
  have hS := Stt.start hP hD
  obtain ⟨A, hAe⟩ : ∃ A, A = va_A [(b, .inr (15, f0_X18))] s.heap.size := ⟨_, rfl⟩
  have hA : ∀ q : Nat, s.heap.size ≤ q → A q := fun q h => by rw [hAe]; exact Or.inr h
  rw [← hAe] at hS ⊢
  have hl : lv_has ls 2 [(0, .ref b), (1, .int a1)] := hl
  refine lv_aload_n hx hb dX14_init_0 rfl (lv_at hl 0 rfl) ?_
  refine W.objInit hx hb hown (hts _ q449) (hts _ q133) (hts _ q134) rfl (by rw [hml]; exact hl.1) rfl dX14_init_1 (Nat.le_of_ble_eq_true rfl) (Nat.le_of_ble_eq_true rfl) ?_
  refine W.eq (g2 := F0 m 4 ls []) rfl ?_
  refine lv_aload_n hx hb dX14_init_4 rfl (lv_at hl 0 rfl) ?_
  refine lv_iload_n hx hb dX14_init_5 rfl (lv_at hl 1 rfl) ?_
  refine fw_putF (D := D) (ci := 15) (x := .int a1) (C := RX18) (T := TX18) (N := 2) hx hb hts in_X18 tyX18 tyX18_ok nmX18 hown hG hS 0 rfl rfl 0 (by decide) (hts _ q450) (fun _ h9 => h9) rfl hmn rfl (tyX18_ok 0 (by decide)) rfl rfl (Nat.le_of_ble_eq_true rfl) dX14_init_6 (wn := [(b, .inr (15, [.int a1, .int 0]))]) rfl (fun H locs hS => ?_)
  exact W.vret hx hb hrt (fun t ht _ => ⟨⟨rfl, (), by rw [ht]; exact hS.1, hS.2.1⟩, hS.2.2.F ht⟩) hS.2.2.2.2 dX14_init_9 hlk
theorem cwi_X14_init_X18 {R : Room} {s : State} {args : Array Value} {own : String} {index : Nat} (hts : ∀ w ∈ lw_all, w.before args s = true) (hlink : Cond.methodLink own index yX14_init ∈ lw_all) (hR : rm_X14_init_X18.frames + 1 ≤ R.frames ∧ 8 + (2 + 11) + rm_X14_init_X18.locals ≤ R.locals) : CallB R s args own index yX14_init cX14_init 2 none (ws_ yX14_init cX14_init 2 none) rm_X14_init_X18 rm_X14_init_X18.cells rm_X14_init_X18.slots 1 ∧ yX14_init.name = "<init>" ∧ (Cond.instanceMethod yX14_init).before args s = true :=
  cwI 1 hts (lw_meth q448) rfl rfl rfl (hts _ q119) (hts _ hlink) (hts _ q447) rfl (by decide +kernel) hR
abbrev rm_X18_init : Room := ({ frames := 3, cells := 0, slots := 0, locals := 70 })
theorem m_X18_init (l : Launch) (D : va_G) (ax : Nat → Nat) (ac : Nat → ClassId) (b : Nat) (a1 : Int32) (a2 : Int32) (sz : Nat) : Met l yX18_init (ws_ yX18_init cX18_init 3 none) rm_X18_init (va_Pc [.ref b, .int a1, .int a2] (WPc D ac [(b, .inr (15, f0_X18))] sz)) (QN (U := Unit) D (fun _ => [(b, wT ax (TL.t18 a1 a2))]) (va_A [(b, .inr (15, f0_X18))] sz)) rm_X18_init.cells rm_X18_init.slots (va_A [(b, .inr (15, f0_X18))] sz) := by
  refine fw_of (by decide) (Nat.le_of_ble_eq_true rfl) ?_
  intro p e s m below meth c ls hx hb hrt hts hown hlk hml hmn hU hl
  obtain ⟨rfl, hP, hG, hD⟩ := hU
  have hS := Stt.start hP hD
  obtain ⟨A, hAe⟩ : ∃ A, A = va_A [(b, .inr (15, f0_X18))] s.heap.size := ⟨_, rfl⟩
  have hA : ∀ q : Nat, s.heap.size ≤ q → A q := fun q h => by rw [hAe]; exact Or.inr h
  rw [← hAe] at hS ⊢
  have hl : lv_has ls 3 [(0, .ref b), (1, .int a1), (2, .int a2)] := hl
  refine lv_aload_n hx hb dX18_init_0 rfl (lv_at hl 0 rfl) ?_
  refine lv_iload_n hx hb dX18_init_1 rfl (lv_at hl 1 rfl) ?_
  refine fwNI (As := [.int a1]) (rest := []) (ws := []) hx hb hml hown hts (m_X14_init_X18 l D ac b a1 s.heap.size) (cwi_X14_init_X18 hts q510 ⟨Nat.le_of_ble_eq_true rfl, Nat.le_of_ble_eq_true rfl⟩) hG hS hA rfl hl.1 rfl (Nat.le_of_ble_eq_true rfl) dX18_init_2 ⟨Nat.le_of_ble_eq_true rfl, Nat.le_of_ble_eq_true rfl⟩ (fun u H locs hS => ?_)
  have hS : Stt D A s.heap [(b, .inr (15, [.int a1, .int 0]))] H locs := hS
  refine lv_aload_n hx hb dX18_init_5 rfl (lv_at hl 0 rfl) ?_
  refine lv_iload_n hx hb dX18_init_6 rfl (lv_at hl 2 rfl) ?_
  refine fw_putF (D := D) (ci := 15) (x := .int a2) (C := RX18) (T := TX18) (N := 2) hx hb hts in_X18 tyX18 tyX18_ok nmX18 hown hG hS 0 rfl rfl 1 (by decide) (hts _ q511) (fun _ h9 => h9) rfl hmn rfl (tyX18_ok 1 (by decide)) rfl rfl (Nat.le_of_ble_eq_true rfl) dX18_init_7 (wn := [(b, .inr (15, [.int a1, .int a2]))]) rfl (fun H locs hS => ?_)
  exact W.vret hx hb hrt (fun t ht _ => ⟨⟨rfl, (), by rw [ht]; exact hS.1, hS.2.1⟩, hS.2.2.F ht⟩) hS.2.2.2.2 dX18_init_10 hlk
theorem cwi_X18_init {R : Room} {s : State} {args : Array Value} {own : String} {index : Nat} (hts : ∀ w ∈ lw_all, w.before args s = true) (hlink : Cond.methodLink own index yX18_init ∈ lw_all) (hR : rm_X18_init.frames + 1 ≤ R.frames ∧ 8 + (3 + 11) + rm_X18_init.locals ≤ R.locals) : CallB R s args own index yX18_init cX18_init 3 none (ws_ yX18_init cX18_init 3 none) rm_X18_init rm_X18_init.cells rm_X18_init.slots 2 ∧ yX18_init.name = "<init>" ∧ (Cond.instanceMethod yX18_init).before args s = true :=
  cwI 2 hts (lw_meth q509) rfl rfl rfl (hts _ q123) (hts _ hlink) (hts _ q508) rfl (by decide +kernel) hR
abbrev f0_X19 : List Value := [.int 0, .int 0, .int 0]
abbrev rm_X14_init_X19 : Room := ({ frames := 2, cells := 0, slots := 0, locals := 40 })
theorem m_X14_init_X19 (l : Launch) (D : va_G) (ac : Nat → ClassId) (b : Nat) (a1 : Int32) (sz : Nat) : Met l yX14_init (ws_ yX14_init cX14_init 2 none) rm_X14_init_X19 (va_Pc [.ref b, .int a1] (WPc D ac [(b, .inr (16, f0_X19))] sz)) (QN (U := Unit) D (fun _ => [(b, .inr (16, [.int a1, .int 0, .int 0]))]) (va_A [(b, .inr (16, f0_X19))] sz)) rm_X14_init_X19.cells rm_X14_init_X19.slots (va_A [(b, .inr (16, f0_X19))] sz) := by
  refine fw_of (by decide) (Nat.le_of_ble_eq_true rfl) ?_
  intro p e s m below meth c ls hx hb hrt hts hown hlk hml hmn hU hl
  obtain ⟨rfl, hP, hG, hD⟩ := hU
  have hS := Stt.start hP hD
  obtain ⟨A, hAe⟩ : ∃ A, A = va_A [(b, .inr (16, f0_X19))] s.heap.size := ⟨_, rfl⟩
  have hA : ∀ q : Nat, s.heap.size ≤ q → A q := fun q h => by rw [hAe]; exact Or.inr h
  rw [← hAe] at hS ⊢
  have hl : lv_has ls 2 [(0, .ref b), (1, .int a1)] := hl
  refine lv_aload_n hx hb dX14_init_0 rfl (lv_at hl 0 rfl) ?_
  refine W.objInit hx hb hown (hts _ q449) (hts _ q133) (hts _ q134) rfl (by rw [hml]; exact hl.1) rfl dX14_init_1 (Nat.le_of_ble_eq_true rfl) (Nat.le_of_ble_eq_true rfl) ?_
  refine W.eq (g2 := F0 m 4 ls []) rfl ?_
  refine lv_aload_n hx hb dX14_init_4 rfl (lv_at hl 0 rfl) ?_
  refine lv_iload_n hx hb dX14_init_5 rfl (lv_at hl 1 rfl) ?_
  refine fw_putF (D := D) (ci := 16) (x := .int a1) (C := RX19) (T := TX19) (N := 3) hx hb hts in_X19 tyX19 tyX19_ok nmX19 hown hG hS 0 rfl rfl 0 (by decide) (hts _ q450) (fun _ h9 => h9) rfl hmn rfl (tyX19_ok 0 (by decide)) rfl rfl (Nat.le_of_ble_eq_true rfl) dX14_init_6 (wn := [(b, .inr (16, [.int a1, .int 0, .int 0]))]) rfl (fun H locs hS => ?_)
  exact W.vret hx hb hrt (fun t ht _ => ⟨⟨rfl, (), by rw [ht]; exact hS.1, hS.2.1⟩, hS.2.2.F ht⟩) hS.2.2.2.2 dX14_init_9 hlk
theorem cwi_X14_init_X19 {R : Room} {s : State} {args : Array Value} {own : String} {index : Nat} (hts : ∀ w ∈ lw_all, w.before args s = true) (hlink : Cond.methodLink own index yX14_init ∈ lw_all) (hR : rm_X14_init_X19.frames + 1 ≤ R.frames ∧ 8 + (2 + 11) + rm_X14_init_X19.locals ≤ R.locals) : CallB R s args own index yX14_init cX14_init 2 none (ws_ yX14_init cX14_init 2 none) rm_X14_init_X19 rm_X14_init_X19.cells rm_X14_init_X19.slots 1 ∧ yX14_init.name = "<init>" ∧ (Cond.instanceMethod yX14_init).before args s = true :=
  cwI 1 hts (lw_meth q448) rfl rfl rfl (hts _ q119) (hts _ hlink) (hts _ q447) rfl (by decide +kernel) hR
abbrev rm_X19_init : Room := ({ frames := 3, cells := 0, slots := 0, locals := 70 })
theorem m_X19_init (l : Launch) (D : va_G) (ax : Nat → Nat) (ac : Nat → ClassId) (b : Nat) (a1 : Int32) (a2 : Int32) (a3 : Int32) (sz : Nat) : Met l yX19_init (ws_ yX19_init cX19_init 4 none) rm_X19_init (va_Pc [.ref b, .int a1, .int a2, .int a3] (WPc D ac [(b, .inr (16, f0_X19))] sz)) (QN (U := Unit) D (fun _ => [(b, wT ax (TL.t19 a1 a2 a3))]) (va_A [(b, .inr (16, f0_X19))] sz)) rm_X19_init.cells rm_X19_init.slots (va_A [(b, .inr (16, f0_X19))] sz) := by
  refine fw_of (by decide) (Nat.le_of_ble_eq_true rfl) ?_
  intro p e s m below meth c ls hx hb hrt hts hown hlk hml hmn hU hl
  obtain ⟨rfl, hP, hG, hD⟩ := hU
  have hS := Stt.start hP hD
  obtain ⟨A, hAe⟩ : ∃ A, A = va_A [(b, .inr (16, f0_X19))] s.heap.size := ⟨_, rfl⟩
  have hA : ∀ q : Nat, s.heap.size ≤ q → A q := fun q h => by rw [hAe]; exact Or.inr h
  rw [← hAe] at hS ⊢
  have hl : lv_has ls 4 [(0, .ref b), (1, .int a1), (2, .int a2), (3, .int a3)] := hl
  refine lv_aload_n hx hb dX19_init_0 rfl (lv_at hl 0 rfl) ?_
  refine lv_iload_n hx hb dX19_init_1 rfl (lv_at hl 1 rfl) ?_
  refine fwNI (As := [.int a1]) (rest := []) (ws := []) hx hb hml hown hts (m_X14_init_X19 l D ac b a1 s.heap.size) (cwi_X14_init_X19 hts q521 ⟨Nat.le_of_ble_eq_true rfl, Nat.le_of_ble_eq_true rfl⟩) hG hS hA rfl hl.1 rfl (Nat.le_of_ble_eq_true rfl) dX19_init_2 ⟨Nat.le_of_ble_eq_true rfl, Nat.le_of_ble_eq_true rfl⟩ (fun u H locs hS => ?_)
  have hS : Stt D A s.heap [(b, .inr (16, [.int a1, .int 0, .int 0]))] H locs := hS
  refine lv_aload_n hx hb dX19_init_5 rfl (lv_at hl 0 rfl) ?_
  refine lv_iload_n hx hb dX19_init_6 rfl (lv_at hl 2 rfl) ?_
  refine fw_putF (D := D) (ci := 16) (x := .int a2) (C := RX19) (T := TX19) (N := 3) hx hb hts in_X19 tyX19 tyX19_ok nmX19 hown hG hS 0 rfl rfl 1 (by decide) (hts _ q522) (fun _ h9 => h9) rfl hmn rfl (tyX19_ok 1 (by decide)) rfl rfl (Nat.le_of_ble_eq_true rfl) dX19_init_7 (wn := [(b, .inr (16, [.int a1, .int a2, .int 0]))]) rfl (fun H locs hS => ?_)
  refine lv_aload_n hx hb dX19_init_10 rfl (lv_at hl 0 rfl) ?_
  refine lv_iload_n hx hb dX19_init_11 rfl (lv_at hl 3 rfl) ?_
  refine fw_putF (D := D) (ci := 16) (x := .int a3) (C := RX19) (T := TX19) (N := 3) hx hb hts in_X19 tyX19 tyX19_ok nmX19 hown hG hS 0 rfl rfl 2 (by decide) (hts _ q523) (fun _ h9 => h9) rfl hmn rfl (tyX19_ok 2 (by decide)) rfl rfl (Nat.le_of_ble_eq_true rfl) dX19_init_12 (wn := [(b, .inr (16, [.int a1, .int a2, .int a3]))]) rfl (fun H locs hS => ?_)
  exact W.vret hx hb hrt (fun t ht _ => ⟨⟨rfl, (), by rw [ht]; exact hS.1, hS.2.1⟩, hS.2.2.F ht⟩) hS.2.2.2.2 dX19_init_15 hlk
theorem cwi_X19_init {R : Room} {s : State} {args : Array Value} {own : String} {index : Nat} (hts : ∀ w ∈ lw_all, w.before args s = true) (hlink : Cond.methodLink own index yX19_init ∈ lw_all) (hR : rm_X19_init.frames + 1 ≤ R.frames ∧ 8 + (4 + 11) + rm_X19_init.locals ≤ R.locals) : CallB R s args own index yX19_init cX19_init 4 none (ws_ yX19_init cX19_init 4 none) rm_X19_init rm_X19_init.cells rm_X19_init.slots 3 ∧ yX19_init.name = "<init>" ∧ (Cond.instanceMethod yX19_init).before args s = true :=
  cwI 3 hts (lw_meth q520) rfl rfl rfl (hts _ q124) (hts _ hlink) (hts _ q519) rfl (by decide +kernel) hR
