/-! THE TWO EXCEPTIONS: constructors, new, throw -/
section FW8
variable {p : Program} {l : Launch} {e : Env} {R : Room} {s : State} {m : MethodId} {args : Array Value} {below : List Frame} {meth : Method} {c : Code} {H : Heap} {locs : List Loc} {cells slots : Nat} {Q : State → Prop} {ls : Array Slot}
variable {y : MethodName} {bytes cc : ByteArray} {maxL nL n index : Nat} {ret : Option FieldType} {rm : Room} {As rest st : List Value} {v : Option Value} {own C host : String} {pc : Nat} {D : va_G} {ac : Nat → ClassId} {ax : Nat → Nat} {ws wc wc' : va_W} {A0 : Nat → Prop} {H0 : Heap} {b : Nat}
/-- super() in the constructor of one of the two -/
theorem fw_superW {Tn : u_T} {ci q : Nat} {cX : ClassId} {kX : Class} {A : Nat → Prop} (hl : l.stackTraces = false) (hx : p.tables.exec = Jvm.exec) (hb : c.code = cc) (hown : s.vm.findClass own = some m.cls) (hlinkN : (Cond.methodLinkNest own index (Bundle.init0 "CoresAreWills$Refusal") host).before args s = true)
    (hsup : ∀ w ∈ (sup_at own).filter vx_no, w.before args s = true) (hZ : ZZ A s s.heap) (hfX : s.vm.findClass own = some cX) (hkX : s.vm.classes[cX]? = some kX) (h7 : kX.instanceTypes.size = 7) (hcell : s.heap[q]? = some (freshCell cX kX)) (hG : GK D ac s) (hc : clG[ci]? = some (own, Tn, 1)) (hlay : (Cond.lays own (Tn 0).1 (Tn 0).2.1 (Tn 0).2.2.1).before args s = true ∨ (Cond.laysFinal own (Tn 0).1 (Tn 0).2.1 (Tn 0).2.2.1).before args s = true)
    (hsize : ls.size = c.maxLocals) (hdg : decode cc pc = .ok (.invokespecial index, 3)) (hRf : 5 < R.frames) (hRl : (rest.map fun v => v.category).sum + 80 ≤ R.locals)
    (kk : ∀ (v : Value) (H1 : Heap) (locs1 : List Loc), va_P D clG [(q, .inr (ci, [v]))] H1 → H1.size = s.heap.size → (∀ x : Nat, x ≠ q → H1[x]? = s.heap[x]?) → (∀ z ∈ locs1, z.base = q) → W p l e R s m args below meth c H1 locs1 cells slots Q (F0 m (pc + 3) ls rest)) : W p l e R s m args below meth c s.heap [] cells slots Q (F0 m pc ls (.ref q :: rest)) := by
  intro T hT X
  have htr : e.platform.stackTraces = false := (show e.platform.stackTraces = l.stackTraces by rw [X.admits.platform]).trans hl
  have h : ∀ w ∈ sup_at own, w.before args s = true := vx_own hsup (vx_isRefq hZ.1.1) (vx_isRefq hZ.2.1) hZ.1.2.word hZ.2.2.word
  obtain ⟨V, ce, L, Z, hL, hlt, e1, e2, e3, e4, st⟩ := fw_sup X hx htr hown hlinkN h (fun x hx => nomatch hx) hfX hkX (by rw [hT]; exact hcell) (g := F0 m pc ls (.ref q :: rest)) rfl hsize (rest := rest) rfl (by rw [hb]; exact hdg) hRf (by show 2 * 0 + _ + (13 * 3 + 41) ≤ _; omega)
  obtain ⟨hSl, hfc, -⟩ := hG.1.1 ci _ hc
  obtain ⟨cf, kf, fi, f, hi, hsl⟩ := hSl 0 (Nat.lt_succ_self 0)
  have hty := (u_facts hfX hkX hlay hi).2.2
  have hlt2 : (D.2 ci) 0 < ce.slots.size := by rw [← hsl, e3]; exact (Array.getElem?_eq_some_iff.mp hty).1
  have hcls : ce.cls = D.1 ci := by rw [e1]; exact Option.some.inj (hfX.symm.trans hfc)
  have hh : (V.setCell q ce).heap[q]? = some ce := heapAt_setCell_self (s := V) ce hlt
  obtain ⟨t, a1, b1⟩ := kk (ce.slots[(D.2 ci) 0]) (V.setCell q ce).heap L (fun k x hx => by
      have hz : k < 1 := (List.getElem?_eq_some_iff.mp hx).1
      rw [show k = 0 by omega] at hx
      cases hx
      refine ⟨_, hc, ce, hh, hcls, e2, fun k hk => ?_⟩
      have hk : k < 1 := hk
      rw [show k = 0 by omega]
      exact Array.getElem?_eq_getElem hlt2) (by rw [size_setCell, e4, hT]) (fun x hx => by rw [heapAt_setCell_ne _ (Ne.symm hx), e4, hT]) hL _ rfl Z
  exact ⟨t, st t a1, b1⟩
/-- new of one of the two: the fresh cell -/
theorem fw_newX {ci : Nat} (hx : p.tables.exec = Jvm.exec) (hb : c.code = cc) (hown : s.vm.findClass own = some m.cls) (hcl : (Cond.classLink own index C).before args s = true) (hinst : (Cond.instantiable C 7).before args s = true) (hini : (Cond.initialized C).before args s = true) (hS : Stt D A0 s.heap ws H locs) (hA : ∀ q, s.heap.size ≤ q → A0 q)
    (hcells : cells + 1 ≤ R.cells) (hslots : slots + 7 ≤ R.slots) (hdg : decode cc pc = .ok (.new index, 3))
    (kk : ∀ (q : Nat) (H1 : Heap) (cX : ClassId) (kX : Class), s.vm.findClass C = some cX → s.vm.classes[cX]? = some kX → kX.instanceTypes.size = 7 → H1[q]? = some (freshCell cX kX) → A0 q → s.heap.size ≤ q → (∀ (k : Nat) (x : Nat × va_E), ws[k]? = some x → x.1 ≠ q) → Stt D A0 s.heap ws H1 locs → W p l e R s m args below meth c H1 locs (cells + 1) (slots + 7) Q (F0 m (pc + 3) ls (.ref q :: rest))) : W p l e R s m args below meth c H locs cells slots Q (F0 m pc ls rest) := by
  refine W.newc hx hb hown hcl hinst hini rfl hdg hcells hslots (fun cX kX h1 h2 h3 h4 => ?_)
  have hkeep : ∀ x : Nat, x < H.size → (H.push { cls := cX, slots := kX.instanceTypes.map defaultValue, vm := .none })[x]? = H[x]? := fun x hx => by
    rw [Array.getElem?_push, if_neg (Nat.ne_of_lt hx)]
  refine kk H.size _ cX kX h1 h2 h4 (by simp) (hA _ hS.2.2.1) hS.2.2.1 (fun k x hx => Nat.ne_of_lt (hS.1 k x hx).lt) ⟨hS.1.kept (fun k x hx => hkeep x.1 (hS.1 k x hx).lt), hS.2.1, ⟨Nat.le_trans hS.2.2.1 (by simp), fun x h1 h2 => (hkeep x (Nat.lt_of_lt_of_le h1 hS.2.2.1)).trans (hS.2.2.2.1 x h1 h2), hS.2.2.2.2⟩⟩
/-- what a constructor of the two is given and leaves -/
def XIc (D : va_G) (ac : Nat → ClassId) (own : String) (q sz : Nat) (U : State) : Prop := U.heap.size = sz ∧ GK D ac U ∧ (∃ (cX : ClassId) (kX : Class), U.vm.findClass own = some cX ∧ U.vm.classes[cX]? = some kX ∧ kX.instanceTypes.size = 7 ∧ U.heap[q]? = some (freshCell cX kX)) ∧ ZZ (fun x => x = q ∨ sz ≤ x) U U.heap
def XIq (D : va_G) (ci q sz : Nat) (nn : Int32) : Array Value → State → Outcome → State → Prop := fun _ st o t => (o = .returned none ∧ va_P D clG [(q, .inr (ci, [.int nn]))] t.heap) ∧ va_F (fun x => x = q ∨ sz ≤ x) st t
theorem fw_xinit {ci q : Nat} {nn : Int32} {cX : ClassId} {kX : Class} (hx : p.tables.exec = Jvm.exec) (hb : c.code = cc) (hml : c.maxLocals = nL) (hown : s.vm.findClass own = some m.cls) (hts : ∀ w ∈ lw_all, w.before args s = true)
    (hM : Met l y (ws_ y bytes maxL none) rm (va_Pc [.ref q, .int nn] (XIc D ac C q H.size)) (XIq D ci q H.size nn) 0 0 (fun x => x = q ∨ H.size ≤ x)) (cw : CallB R s args own index y bytes maxL none (ws_ y bytes maxL none) rm 0 0 1 ∧ y.name = "<init>" ∧ (Cond.instanceMethod y).before args s = true) (hG : GK D ac s) (hZ : ZZ A0 s s.heap) (hS : Stt D A0 s.heap ws H locs) (hA : ∀ q, s.heap.size ≤ q → A0 q)
    (h1 : s.vm.findClass C = some cX) (h2 : s.vm.classes[cX]? = some kX) (h3 : kX.instanceTypes.size = 7) (h4 : H[q]? = some (freshCell cX kX)) (h5 : A0 q) (h6 : ∀ (k : Nat) (x : Nat × va_E), ws[k]? = some x → x.1 ≠ q)
    (hsize : ls.size = nL) (hW : (rest.map fun v => v.category).sum ≤ 8) (hdg : decode cc pc = .ok (.invokespecial index, 3)) (hf : cells ≤ R.cells ∧ slots ≤ R.slots)
    (kk : ∀ (H1 : Heap) (locs1 : List Loc), Stt D A0 s.heap (ws ++ [(q, .inr (ci, [.int nn]))]) H1 locs1 → W p l e R s m args below meth c H1 locs1 cells slots Q (F0 m (pc + 3) ls rest)) : W p l e R s m args below meth c H locs cells slots Q (F0 m pc ls (.int nn :: .ref q :: rest)) := by
  have hF : ∀ x : Nat, (x = q ∨ H.size ≤ x) → A0 x := by
    rintro x (rfl | h)
    · exact h5
    · exact hA x (Nat.le_trans hS.2.2.1 h)
  have hr := va_runI (Ts := lw_all) (rest := rest) (As := [.int nn]) (b := q) (l := l) (e := e) (below := below) (meth := meth) (locs := locs) (cells := cells) (slots := slots) (H := H) (g := F0 m pc ls (.int nn :: .ref q :: rest)) ⟨hx, hb, hml, hown, hts⟩ hM cw ⟨fun _ _ _ _ z => ⟨z.1, z.2.1, z.2.2.1.calling, z.2.2.2.1, ZZ.moved (Vm.Alike.refl _) z.2.2.2.2⟩, fun U hU hW => ⟨rfl, by rw [hU], hG.warm hW, (by
      obtain ⟨k', hk', he⟩ := hW.alike.2.2 _ _ h2
      refine ⟨cX, k', by rw [hW.alike.findClass]; exact h1, hk', ?_, ?_⟩
      · rw [he]; exact h3
      · rw [hU, h4, he]), by rw [hU]; exact ((hS.zz hZ).narrow hF).moved hW.alike⟩⟩ rfl rfl hsize rfl (lv_room (ls := ls) hW) hdg hf
  intro T hT X
  obtain ⟨v', st₀, t, T', L, h0, X', hL, e1, e2, ⟨⟨hv, hP1⟩, hz, hk⟩, st⟩ := hr T hT X
  cases hv
  rw [h0] at hz hk
  have hne : ∀ (k : Nat) (x : Nat × va_E), ws[k]? = some x → ¬ (x.1 = q ∨ H.size ≤ x.1) := by
    rintro k x hx (h | h)
    · exact h6 k x hx h
    · have := (hS.1 k x hx).lt
      omega
  have hS2 : va_S A0 s.heap T'.heap (locs ++ L) := ⟨Nat.le_trans hS.2.2.1 (by rw [e1]; exact hz), fun x g1 g2 => by rw [e1, hk x (Nat.lt_of_lt_of_le g1 hS.2.2.1) (fun z => g2 (hF x z))]; exact hS.2.2.2.1 x g1 g2, fun x hx => by
      rcases List.mem_append.mp hx with h | h
      · exact hS.2.2.2.2 x h
      · exact hF _ (hL x h)⟩
  have hSt : Stt D A0 s.heap (ws ++ [(q, .inr (ci, [.int nn]))]) T'.heap (locs ++ L) := by
    refine ⟨(hS.1.kept (fun k x hx => by rw [e1]; exact hk x.1 (hS.1 k x hx).lt (hne k x hx))).app (by rw [e1]; exact hP1), va_D.app hS.2.1 ⟨fun i j x z hx hz _ => ?_, fun k x hx => ?_⟩ (fun i j x z hx hz => ?_), hS2⟩
    · have g1 : i < 1 := (List.getElem?_eq_some_iff.mp hx).1
      have g2 : j < 1 := (List.getElem?_eq_some_iff.mp hz).1
      omega
    · have g1 : k < 1 := (List.getElem?_eq_some_iff.mp hx).1
      rw [show k = 0 by omega] at hx
      cases hx
      exact h5
    · have g2 : j < 1 := (List.getElem?_eq_some_iff.mp hz).1
      rw [show j = 0 by omega] at hz
      cases hz
      exact h6 i x hx
  obtain ⟨t2, a1, b1⟩ := kk T'.heap (locs ++ L) hSt T' rfl X'
  exact ⟨t2, st t2 a1, b1⟩
end FW8
theorem sup_ok_X11 : ∀ w ∈ ((sup_at RX11).filter vx_no).filter goodWord, w ∈ lw_all := lw_in _ [112, 341, 350, 353, 356, 358, 342, 343, 133, 134, 344, 349, 354, 374, 331, 375, 333, 376, 335, 345, 347, 337, 363, 364, 365, 366, 366, 367, 368, 369, 369, 370, 371, 342, 319, 328, 329, 330, 332, 334, 336, 340, 339, 338] (by decide +kernel) (by decide +kernel)
theorem sup_dc_X11 : ((sup_at RX11).filter vx_no).filter (fun w => !goodWord w) = [.declares ⟨"java/lang/RuntimeException", "<init>", "()V"⟩, .declares ⟨"java/lang/Exception", "<init>", "()V"⟩, .declares ⟨"java/lang/Throwable", "<init>", "()V"⟩] := by decide +kernel
theorem sup_in_X11 {D : va_G} {ac : Nat → ClassId} {s : State} {args : Array Value} (hts : ∀ w ∈ lw_all, w.before args s = true) (hG : GK D ac s) : ∀ w ∈ (sup_at RX11).filter vx_no, w.before args s = true := by
  intro w hw
  by_cases hg : goodWord w = true
  · exact hts w (sup_ok_X11 w (List.mem_filter.mpr ⟨hw, hg⟩))
  · have h2 : w ∈ ((sup_at RX11).filter vx_no).filter (fun w => !goodWord w) := List.mem_filter.mpr ⟨hw, by simpa using hg⟩
    rw [sup_dc_X11] at h2
    have h3 : w ∈ nwL := by
      simp only [List.mem_cons, List.not_mem_nil, or_false] at h2
      rcases h2 with rfl | rfl | rfl
      · exact nq322
      · exact nq324
      · exact nq326
    exact va_Nw.use (nwL_tab w h3) (hG.2.1 w h3)
theorem in_X11n : ∀ w ∈ u_ws RX11 T11n 1, w ∈ lw_all := lw_in _ [377] (by decide +kernel) (by decide +kernel)
theorem nm_X11n : ∀ a, a < 1 → ∀ b, b < 1 → a ≠ b → (T11n a).2.1 ≠ (T11n b).2.1 := by decide +kernel
theorem ty_X11n : ∀ k, k < 1 → parseFieldDescriptor (T11n k).2.2.1 = some ((fun _ => .int : Nat → FieldType) k) := by decide +kernel
abbrev rm_X11_init : Room := ({ frames := 8, cells := 0, slots := 0, locals := 120 })
set_option maxHeartbeats 4000000 in
theorem m_X11_init (l : Launch) (hst : l.stackTraces = false) (D : va_G) (ac : Nat → ClassId) (q sz : Nat) (nn : Int32) : Met l yX11_init (ws_ yX11_init cX11_init 2 none) rm_X11_init (va_Pc [.ref q, .int nn] (XIc D ac RX11 q sz)) (XIq D 9 q sz nn) 0 0 (fun x => x = q ∨ sz ≤ x) := by
  refine fw_of (by decide) (Nat.le_of_ble_eq_true rfl) ?_
  intro p e s m below meth c ls hx hb hrt hts hown hlk hml hmn hU hl
  obtain ⟨rfl, hG, ⟨cX, kX, h1, h2, h3, h4⟩, hZ⟩ := hU
  have hl : lv_has ls 2 [(0, .ref q), (1, .int nn)] := hl
  refine lv_aload_n hx hb dX11_init_0 rfl (lv_at hl 0 rfl) ?_
  refine fw_superW (Tn := T11n) (ci := 9) hst hx hb hown (va_Nw.use rfl (hG.2.1 _ nq362)) (sup_in_X11 hts hG) hZ h1 h2 h3 h4 hG rfl (Or.inr (hts _ (in_X11n _ List.mem_cons_self))) (hl.1.trans hml.symm) dX11_init_1 (Nat.le_of_ble_eq_true rfl) (Nat.le_of_ble_eq_true rfl) (fun v H1 locs1 hP1 hz hk hL => ?_)
  have hS : Stt D (fun x => x = q ∨ s.heap.size ≤ x) s.heap [(q, .inr (9, [v]))] H1 locs1 := by
    refine ⟨hP1, ⟨fun i j x z hx hz _ => ?_, fun k x hx => ?_⟩, ⟨by rw [hz]; exact Nat.le_refl _, fun x g1 g2 => hk x (fun h => g2 (Or.inl h)), fun z hz => Or.inl (hL z hz)⟩⟩
    · have g1 : i < 1 := (List.getElem?_eq_some_iff.mp hx).1
      have g2 : j < 1 := (List.getElem?_eq_some_iff.mp hz).1
      omega
    · have g1 : k < 1 := (List.getElem?_eq_some_iff.mp hx).1
      rw [show k = 0 by omega] at hx
      cases hx
      exact Or.inl rfl
  refine lv_aload_n hx hb dX11_init_4 rfl (lv_at hl 0 rfl) ?_
  refine lv_iload_n hx hb dX11_init_5 rfl (lv_at hl 1 rfl) ?_
  refine fw_putF (D := D) (ci := 9) (x := .int nn) (C := RX11) (T := T11n) (N := 1) hx hb hts in_X11n (fun _ => .int) ty_X11n nm_X11n hown hG hS 0 rfl rfl 0 (by decide) (hts _ q372) (fun _ h9 => h9) rfl hmn rfl (ty_X11n 0 (by decide)) rfl rfl (Nat.le_of_ble_eq_true rfl) dX11_init_6 (wn := [(q, .inr (9, [.int nn]))]) rfl (fun H locs hS => ?_)
  exact W.vret hx hb hrt (fun t ht _ => ⟨⟨rfl, by rw [ht]; exact hS.1⟩, hS.2.2.F ht⟩) hS.2.2.2.2 dX11_init_9 hlk
theorem cwi_X11_init {R : Room} {s : State} {args : Array Value} {own : String} {index : Nat} (hts : ∀ w ∈ lw_all, w.before args s = true) (hlink : Cond.methodLink own index yX11_init ∈ lw_all) (hR : rm_X11_init.frames + 1 ≤ R.frames ∧ 8 + (2 + 11) + rm_X11_init.locals ≤ R.locals) : CallB R s args own index yX11_init cX11_init 2 none (ws_ yX11_init cX11_init 2 none) rm_X11_init 0 0 1 ∧ yX11_init.name = "<init>" ∧ (Cond.instanceMethod yX11_init).before args s = true :=
  cwI 1 hts (lw_meth q361) rfl rfl rfl (hts _ q116) (hts _ hlink) (hts _ q360) rfl (by decide +kernel) hR
theorem sup_ok_X13 : ∀ w ∈ ((sup_at RX13).filter vx_no).filter goodWord, w ∈ lw_all := lw_in _ [112, 341, 350, 353, 356, 358, 342, 343, 133, 134, 344, 349, 354, 374, 331, 375, 333, 376, 335, 345, 347, 337, 363, 364, 365, 366, 366, 367, 368, 369, 369, 370, 371, 342, 424, 426, 352, 427, 428, 429, 430, 340, 339, 431] (by decide +kernel) (by decide +kernel)
theorem sup_dc_X13 : ((sup_at RX13).filter vx_no).filter (fun w => !goodWord w) = [.declares ⟨"java/lang/RuntimeException", "<init>", "()V"⟩, .declares ⟨"java/lang/Exception", "<init>", "()V"⟩, .declares ⟨"java/lang/Throwable", "<init>", "()V"⟩] := by decide +kernel
theorem sup_in_X13 {D : va_G} {ac : Nat → ClassId} {s : State} {args : Array Value} (hts : ∀ w ∈ lw_all, w.before args s = true) (hG : GK D ac s) : ∀ w ∈ (sup_at RX13).filter vx_no, w.before args s = true := by
  intro w hw
  by_cases hg : goodWord w = true
  · exact hts w (sup_ok_X13 w (List.mem_filter.mpr ⟨hw, hg⟩))
  · have h2 : w ∈ ((sup_at RX13).filter vx_no).filter (fun w => !goodWord w) := List.mem_filter.mpr ⟨hw, by simpa using hg⟩
    rw [sup_dc_X13] at h2
    have h3 : w ∈ nwL := by
      simp only [List.mem_cons, List.not_mem_nil, or_false] at h2
      rcases h2 with rfl | rfl | rfl
      · exact nq322
      · exact nq324
      · exact nq326
    exact va_Nw.use (nwL_tab w h3) (hG.2.1 w h3)
theorem in_X13n : ∀ w ∈ u_ws RX13 T13n 1, w ∈ lw_all := lw_in _ [437] (by decide +kernel) (by decide +kernel)
theorem nm_X13n : ∀ a, a < 1 → ∀ b, b < 1 → a ≠ b → (T13n a).2.1 ≠ (T13n b).2.1 := by decide +kernel
theorem ty_X13n : ∀ k, k < 1 → parseFieldDescriptor (T13n k).2.2.1 = some ((fun _ => .int : Nat → FieldType) k) := by decide +kernel
abbrev rm_X13_init : Room := ({ frames := 8, cells := 0, slots := 0, locals := 120 })
set_option maxHeartbeats 4000000 in
theorem m_X13_init (l : Launch) (hst : l.stackTraces = false) (D : va_G) (ac : Nat → ClassId) (q sz : Nat) (nn : Int32) : Met l yX13_init (ws_ yX13_init cX13_init 2 none) rm_X13_init (va_Pc [.ref q, .int nn] (XIc D ac RX13 q sz)) (XIq D 11 q sz nn) 0 0 (fun x => x = q ∨ sz ≤ x) := by
  refine fw_of (by decide) (Nat.le_of_ble_eq_true rfl) ?_
  intro p e s m below meth c ls hx hb hrt hts hown hlk hml hmn hU hl
  obtain ⟨rfl, hG, ⟨cX, kX, h1, h2, h3, h4⟩, hZ⟩ := hU
  have hl : lv_has ls 2 [(0, .ref q), (1, .int nn)] := hl
  refine lv_aload_n hx hb dX13_init_0 rfl (lv_at hl 0 rfl) ?_
  refine fw_superW (Tn := T13n) (ci := 11) hst hx hb hown (va_Nw.use rfl (hG.2.1 _ nq435)) (sup_in_X13 hts hG) hZ h1 h2 h3 h4 hG rfl (Or.inr (hts _ (in_X13n _ List.mem_cons_self))) (hl.1.trans hml.symm) dX13_init_1 (Nat.le_of_ble_eq_true rfl) (Nat.le_of_ble_eq_true rfl) (fun v H1 locs1 hP1 hz hk hL => ?_)
  have hS : Stt D (fun x => x = q ∨ s.heap.size ≤ x) s.heap [(q, .inr (11, [v]))] H1 locs1 := by
    refine ⟨hP1, ⟨fun i j x z hx hz _ => ?_, fun k x hx => ?_⟩, ⟨by rw [hz]; exact Nat.le_refl _, fun x g1 g2 => hk x (fun h => g2 (Or.inl h)), fun z hz => Or.inl (hL z hz)⟩⟩
    · have g1 : i < 1 := (List.getElem?_eq_some_iff.mp hx).1
      have g2 : j < 1 := (List.getElem?_eq_some_iff.mp hz).1
      omega
    · have g1 : k < 1 := (List.getElem?_eq_some_iff.mp hx).1
      rw [show k = 0 by omega] at hx
      cases hx
      exact Or.inl rfl
  refine lv_aload_n hx hb dX13_init_4 rfl (lv_at hl 0 rfl) ?_
  refine lv_iload_n hx hb dX13_init_5 rfl (lv_at hl 1 rfl) ?_
  refine fw_putF (D := D) (ci := 11) (x := .int nn) (C := RX13) (T := T13n) (N := 1) hx hb hts in_X13n (fun _ => .int) ty_X13n nm_X13n hown hG hS 0 rfl rfl 0 (by decide) (hts _ q436) (fun _ h9 => h9) rfl hmn rfl (ty_X13n 0 (by decide)) rfl rfl (Nat.le_of_ble_eq_true rfl) dX13_init_6 (wn := [(q, .inr (11, [.int nn]))]) rfl (fun H locs hS => ?_)
  exact W.vret hx hb hrt (fun t ht _ => ⟨⟨rfl, by rw [ht]; exact hS.1⟩, hS.2.2.F ht⟩) hS.2.2.2.2 dX13_init_9 hlk
theorem cwi_X13_init {R : Room} {s : State} {args : Array Value} {own : String} {index : Nat} (hts : ∀ w ∈ lw_all, w.before args s = true) (hlink : Cond.methodLink own index yX13_init ∈ lw_all) (hR : rm_X13_init.frames + 1 ≤ R.frames ∧ 8 + (2 + 11) + rm_X13_init.locals ≤ R.locals) : CallB R s args own index yX13_init cX13_init 2 none (ws_ yX13_init cX13_init 2 none) rm_X13_init 0 0 1 ∧ yX13_init.name = "<init>" ∧ (Cond.instanceMethod yX13_init).before args s = true :=
  cwI 1 hts (lw_meth q434) rfl rfl rfl (hts _ q118) (hts _ hlink) (hts _ q433) rfl (by decide +kernel) hR