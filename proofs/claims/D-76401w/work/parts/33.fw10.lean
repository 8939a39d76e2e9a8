/-! METHODS THAT CATCH -/
def bH {α β ρ : Type} (x : Option (α ⊕ β)) (thr : β → Option ρ) (f : α → Option ρ) : Option ρ := x.bind fun o => match o with
  | .inl u => f u
  | .inr b => thr b
theorem br_bH {α β ρ : Type} {x : Option (α ⊕ β)} {thr : β → Option ρ} {f : α → Option ρ} {r0 : ρ} (h : bH x thr f = some r0) : (∃ u, x = some (Sum.inl u) ∧ f u = some r0) ∨ (∃ b, x = some (Sum.inr b) ∧ thr b = some r0) := by
  cases x with
  | none => cases h
  | some o =>
    cases o with
    | inl u => exact Or.inl ⟨u, rfl, h⟩
    | inr b => exact Or.inr ⟨b, rfl, h⟩
abbrev HM (l : Launch) (y : MethodName) (cc : ByteArray) (maxL : Nat) (ret : Option FieldType) (hh : List (Nat × Nat × Nat × Nat)) (rm : Room) (vs : List Value) (D : va_G) (ac : Nat → ClassId) (ws ws' : va_W) (sz : Nat) (v : Option Value) : Prop :=
  Met l y (wsW_ y cc maxL ret hh) rm (va_Pc vs (TPc D ac ws sz)) (WQ D ws' (va_A ws sz) v) rm.cells rm.slots (va_A ws sz)
theorem fw_ofH {l : Launch} {y : MethodName} {cc : ByteArray} {maxL : Nat} {ret : Option FieldType} {hh : List (Nat × Nat × Nat × Nat)} {rm : Room} {vs : List Value} {PU : State → Prop} {Qc : Array Value → State → Outcome → State → Prop} {mc ms : Nat} {free : Addr → Prop} (hy : plainName y.cls = true) (hlen : (lg_sl vs).length ≤ maxL)
    (body : ∀ (p : Program) (e : Env) (s : State) (m : MethodId) (below : List Frame) (meth : Method) (c : Code) (ls : Array Slot), p.tables.exec = Jvm.exec → c.code = cc → meth.sig.returnType = ret → (∀ w ∈ lw_all, w.before vs.toArray s = true) → s.vm.findClass y.cls = some m.cls → meth.locks = false → c.maxLocals = maxL → meth.name = y.name → c.exceptionTable.toList = tableOf hh → PU s → lv_has ls maxL (lv_args 0 vs) →
      W p l e rm s m vs.toArray below meth c s.heap [] 0 0 (MQ below Qc vs.toArray s mc ms free) (F0 m 0 ls [])) : Met l y (wsW_ y cc maxL ret hh) rm (va_Pc vs PU) Qc mc ms free := by
  refine MetFree.of_bodyS (code := cc) (maxLocals := maxL) (ret := ret) hy ?_ ?_
  · intro args s m h hn
    obtain ⟨m9, meth, c, hn9, h1, h2, h3, h4, -, h5, h6, -⟩ := Cond.codeWith_spec (atoms_spec (ws := wsW_ y cc maxL ret hh) h _ List.mem_cons_self)
    cases hn.symm.trans hn9
    exact ⟨meth, c, h1, h2, h3, h4, h5, h6⟩
  · intro p e s m args below meth c s₁ B hml hP _
    have hh0 : s₁.heap = s.heap := by rw [B.state]; rfl
    obtain ⟨rfl, hv⟩ := hP
    have hts := atoms_spec (ws := wsW_ y cc maxL ret hh) B.pre
    have hl := lv_entry vs (n := maxL) hlen
    have htab := vx_table (x := y) B (hts _ List.mem_cons_self)
    have K : W p l e (headSpec (wsW_ y cc maxL ret hh) rm).room s m vs.toArray below meth c s.heap [] 0 0 (MQ below Qc vs.toArray s mc ms free) (entryFrame m vs.toArray maxL) := by
      rw [lg_entry_eq]
      exact body p e s m below meth c _ B.exec B.bytes B.returns (fun w h => hts w (List.mem_cons_of_mem _ h)) (findClass_of_methodNamed B.named) B.notSynchronized hml (name_of_methodNamed B.named B.method).1 htab hv hl
    obtain ⟨t, a1, o, b1, b2, b3⟩ := K s₁ hh0 (Stand.of_body B)
    exact ⟨t, o, a1, b1, b2, ⟨b3.1, b3.2⟩⟩
section FW10
variable {p : Program} {l : Launch} {e : Env} {R : Room} {s : State} {m : MethodId} {args : Array Value} {below : List Frame} {meth : Method} {c : Code} {H : Heap} {locs : List Loc} {cells slots : Nat} {Q : State → Prop} {ls : Array Slot}
variable {y : MethodName} {bytes cc : ByteArray} {maxL nL n index : Nat} {ret : Option FieldType} {rm : Room} {As rest st : List Value} {v : Option Value} {own C host : String} {pc : Nat} {D : va_G} {ac : Nat → ClassId} {ax : Nat → Nat} {ws wc wc' : va_W} {A0 : Nat → Prop} {H0 : Heap} {b : Nat} {hh : List (Nat × Nat × Nat × Nat)}
theorem fwHV (hx : p.tables.exec = Jvm.exec) (hb : c.code = cc) (hml : c.maxLocals = nL) (hown : s.vm.findClass own = some m.cls) (hts : ∀ w ∈ lw_all, w.before args s = true)
    (hM : HM l y bytes maxL ret hh rm (.ref b :: As) D ac wc wc' H.size v) (cw : vx_CVW R s args own C index y bytes maxL ret hh (wsW_ y bytes maxL ret hh) rm rm.cells rm.slots n) (hG : GK D ac s) (hZ : ZZ A0 s s.heap) (hS : Stt D A0 s.heap ws H locs) (hA : ∀ q, s.heap.size ≤ q → A0 q) (is : List Nat) (hnd : va_nd is = true) (hC : is.map (fun i => ws[i]?) = wc.map some) (hadr : wc'.map Prod.fst = wc.map Prod.fst) (q0 ci : Nat) {T : u_T} {N : Nat} {fs : List Value} (hc : clG[ci]? = some (C, T, N)) (he : ws[q0]? = some (b, .inr (ci, fs)))
    (hn : As.length = n) (hsize : ls.size = nL) (hstack : st = As.reverse ++ .ref b :: rest) (hW : (rest.map fun v => v.category).sum ≤ 8) (hdg : decode cc pc = .ok (.invokevirtual index, 3)) (hf : cells + rm.cells ≤ R.cells ∧ slots + rm.slots ≤ R.slots) {wn : va_W} (hwn : rep is wc' ws = wn)
    (kk : ∀ (H1 : Heap) (locs1 : List Loc), Stt D A0 s.heap wn H1 locs1 → W p l e R s m args below meth c H1 locs1 (cells + rm.cells) (slots + rm.slots) Q (F0 m (pc + 3) ls (v.toList ++ rest))) : W p l e R s m args below meth c H locs cells slots Q (F0 m pc ls st) := by
  subst hwn
  exact fw_wback (vx_runVW (Ts := lw_all) (g := F0 m pc ls st) ⟨hx, hb, hml, hown, hts⟩ hM cw (pre_TV hG hZ hS hA is hnd hC hc he) rfl hn hsize hstack (lv_room (ls := ls) hW) hdg hf) hS hA is hC hadr kk
theorem fw_catch {q : Addr} {nn : Int32} {ws' : va_W} {ci a1 b1 h1 : Nat} (hown : s.vm.findClass RX0 = some m.cls) (hts : ∀ w ∈ lw_all, w.before args s = true) (hG : GK D ac s) (htab : c.exceptionTable.toList = tableOf [(a1, b1, h1, 319)]) (hcov : covers ⟨a1, b1, h1, 319⟩ pc = true) (hci : ci = 9 ∨ ci = 11) (hS : Stt D A0 H0 (ws' ++ [(q, .inr (ci, [.int nn]))]) H locs)
    (kk : W p l e R s m args below meth c H locs cells slots Q (F0 m h1 ls [.ref q])) : xx_W p l e R s m args below meth c H locs cells slots Q (F0 m pc ls rest) q := by
  obtain ⟨E, ce, hE, g1, g2, g3⟩ := cls_of hG hS.1 hci
  have hcast : (Cond.castable E "CoresAreWills$Refusal").before args s = true := by
    rcases hE with ⟨-, rfl⟩ | ⟨-, rfl⟩
    · exact va_Nw.use rfl (hG.2.1 _ nq1587)
    · exact va_Nw.use rfl (hG.2.1 _ nq1586)
  exact xx_catch (name := "CoresAreWills$Refusal") hown [] ⟨a1, b1, h1, 319⟩ [] htab (fun z hz => by cases hz) hcov (show (319 : Nat) ≠ 0 by decide) (hts _ q298) hcast g1 g2 g3 kk
end FW10
abbrev rm_X11_number : Room := ({ frames := 1, cells := 0, slots := 0, locals := 17 })
theorem m_X11_number (l : Launch) (D : va_G) (ac : Nat → ClassId) (b : Nat) (nn : Int32) : PM l yX11_number cX11_number 1 (some FieldType.int) rm_X11_number [.ref b] (RP D ac [(b, .inr (9, [.int nn]))]) (some (.int nn)) := by
  refine fw_of (by decide) (Nat.le_of_ble_eq_true rfl) ?_
  intro p e s m below meth c ls hx hb hrt hts hown hlk hml _ hU hl
  obtain ⟨hP, hG⟩ := hU
  have hl : lv_has ls 1 [(0, .ref b)] := hl
  refine lv_aload_n hx hb dX11_number_0 rfl (lv_at hl 0 rfl) ?_
  refine va_get (D := D) (ci := 9) (v := .int nn) (C := RX11) (T := T11n) (N := 1) hx hb hts in_X11n hown hG.1 hP 0 rfl rfl 0 (by decide) (hts _ q372) (fun _ h9 => h9) rfl dX11_number_1 ?_
  exact W.iret hx hb hrt (fun t ht _ => ⟨rfl, ht⟩) noB dX11_number_4 hlk
abbrev rm_X13_number : Room := ({ frames := 1, cells := 0, slots := 0, locals := 17 })
theorem m_X13_number (l : Launch) (D : va_G) (ac : Nat → ClassId) (b : Nat) (nn : Int32) : PM l yX13_number cX13_number 1 (some FieldType.int) rm_X13_number [.ref b] (RP D ac [(b, .inr (11, [.int nn]))]) (some (.int nn)) := by
  refine fw_of (by decide) (Nat.le_of_ble_eq_true rfl) ?_
  intro p e s m below meth c ls hx hb hrt hts hown hlk hml _ hU hl
  obtain ⟨hP, hG⟩ := hU
  have hl : lv_has ls 1 [(0, .ref b)] := hl
  refine lv_aload_n hx hb dX13_number_0 rfl (lv_at hl 0 rfl) ?_
  refine va_get (D := D) (ci := 11) (v := .int nn) (C := RX13) (T := T13n) (N := 1) hx hb hts in_X13n hown hG.1 hP 0 rfl rfl 0 (by decide) (hts _ q436) (fun _ h9 => h9) rfl dX13_number_1 ?_
  exact W.iret hx hb hrt (fun t ht _ => ⟨rfl, ht⟩) noB dX13_number_4 hlk
theorem fw_number {p : Program} {l : Launch} {e : Env} {R : Room} {s : State} {m : MethodId} {args : Array Value} {below : List Frame} {meth : Method} {c : Code} {H : Heap} {locs : List Loc} {cells slots : Nat} {Q : State → Prop} {ls : Array Slot} {cc : ByteArray} {nL index pc : Nat} {own : String} {D : va_G} {ac : Nat → ClassId} {rest : List Value} {b ci : Nat} {nn : Int32} (hx : p.tables.exec = Jvm.exec) (hb : c.code = cc) (hml : c.maxLocals = nL) (hown : s.vm.findClass own = some m.cls) (hts : ∀ w ∈ lw_all, w.before args s = true) (hlink : Cond.methodLink own index ⟨"CoresAreWills$Refusal", "number", "()I"⟩ ∈ lw_all) (hG : GK D ac s) (hci : ci = 9 ∨ ci = 11) (hP : va_P D clG [(b, .inr (ci, [.int nn]))] H) (hsize : ls.size = nL) (hW : (rest.map fun v => v.category).sum ≤ 8) (hF : 8 ≤ R.frames) (hL : 400 ≤ R.locals) (hdg : decode cc pc = .ok (.invokevirtual index, 3)) (hf : cells ≤ R.cells ∧ slots ≤ R.slots)
    (kk : W p l e R s m args below meth c H locs cells slots Q (F0 m (pc + 3) ls (.int nn :: rest))) : W p l e R s m args below meth c H locs cells slots Q (F0 m pc ls (.ref b :: rest)) := by
  rcases hci with rfl | rfl
  · exact fwRU (As := []) (rest := rest) (C := RX11) hx hb hml hown hts (m_X11_number l D ac b nn) (va_cwA 0 hts (lw_U hlink q989 q993 q994 q116 q995) rfl rfl rfl (hG.2.1 _ nq988) (by decide +kernel) ⟨Nat.le_trans (Nat.le_of_ble_eq_true rfl) hF, Nat.le_trans (Nat.le_of_ble_eq_true rfl) hL⟩) hG hP hP 0 9 rfl rfl rfl hsize rfl hW hdg hf kk
  · exact fwRU (As := []) (rest := rest) (C := RX13) hx hb hml hown hts (m_X13_number l D ac b nn) (va_cwA 0 hts (lw_U hlink q989 q990 q991 q118 q992) rfl rfl rfl (hG.2.1 _ nq988) (by decide +kernel) ⟨Nat.le_trans (Nat.le_of_ble_eq_true rfl) hF, Nat.le_trans (Nat.le_of_ble_eq_true rfl) hL⟩) hG hP hP 0 11 rfl rfl rfl hsize rfl hW hdg hf kk
