/-! MORE ROWS: kinds' arrays, nest mates, copies, super -/
theorem kfn_up (ax : Nat → Nat) (F : Nat → Option (Fin 6)) (i : Nat) (k : Fin 6) : va_up (kfn ax F) i (some (ax (11 + k.val))) = kfn ax (va_up F i (some k)) := by
  funext j
  unfold va_up kfn
  by_cases h : j = i
  · simp [h]
  · simp [h]
theorem kfn_cpy (ax : Nat → Nat) (F G : Nat → Option (Fin 6)) (a b n : Nat) : va_cpy (kfn ax F) (kfn ax G) a b n = kfn ax (va_cpy F G a b n) := by
  funext j
  unfold va_cpy kfn
  by_cases h : b ≤ j ∧ j < b + n
  · simp [h]
  · simp only [if_neg h]
theorem hasg_of {E C : String} {s : State} (h : va_Nw (.castable C E) s) : ∀ comp c0 : ClassId, s.vm.findClass E = some comp → s.vm.findClass C = some c0 → s.vm.assignable c0 comp = true := by
  intro comp c0 h1 h2
  obtain ⟨c1, t1, f1, f2, f3⟩ := Cond.castable_spec (va_Nw.use (A := #[]) rfl h)
  cases h1.symm.trans f2
  cases h2.symm.trans f1
  exact f3
theorem any_kind {D : va_G} {ac : Nat → ClassId} {ax : Nat → Nat} {s : State} {H : Heap} (hG : GK D ac s) (hP : va_P D clG (wK ax) H) (k : Fin 6) : va_Any "CoresAreWills$Kind" s H (ax (11 + k.val)) := by
  match k with
  | 0 => exact va_rAny hG.1 hP (q0 := 0) (ci := 1) rfl rfl (hasg_of (hG.2.1 _ nq1588))
  | 1 => exact va_rAny hG.1 hP (q0 := 1) (ci := 2) rfl rfl (hasg_of (hG.2.1 _ nq1589))
  | 2 => exact va_rAny hG.1 hP (q0 := 2) (ci := 3) rfl rfl (hasg_of (hG.2.1 _ nq1590))
  | 3 => exact va_rAny hG.1 hP (q0 := 3) (ci := 4) rfl rfl (hasg_of (hG.2.1 _ nq1591))
  | 4 => exact va_rAny hG.1 hP (q0 := 4) (ci := 5) rfl rfl (hasg_of (hG.2.1 _ nq1592))
  | 5 => exact va_rAny hG.1 hP (q0 := 5) (ci := 6) rfl rfl (hasg_of (hG.2.1 _ nq1593))
section FW3
variable {p : Program} {l : Launch} {e : Env} {R : Room} {s : State} {m : MethodId} {args : Array Value} {below : List Frame} {meth : Method} {c : Code} {H : Heap} {locs : List Loc} {cells slots : Nat} {Q : State → Prop} {ls : Array Slot}
variable {y : MethodName} {bytes cc : ByteArray} {maxL nL n index : Nat} {ret : Option FieldType} {rm : Room} {As rest st : List Value} {v : Option Value} {own C host : String} {pc : Nat} {D : va_G} {ac : Nat → ClassId} {ax : Nat → Nat} {ws wc wc' : va_W} {A0 : Nat → Prop} {H0 : Heap} {b : Nat}
theorem fw_kald (hx : p.tables.exec = Jvm.exec) (hb : c.code = cc) (hG : GK D ac s) (hP : va_P D clG ws H) (q0 : Nat) {n : Nat} {F : Nat → Option (Fin 6)} (ha : ws[q0]? = some (b, va_ar (ac 4) n (kfn ax F))) {i : Int32} (hin : ¬ (i < 0 ∨ n ≤ i.toNatClampNeg)) {k : Fin 6} (hk : F i.toNatClampNeg = some k) (hdg : decode cc pc = .ok (.aaload, 1))
    (kk : W p l e R s m args below meth c H locs cells slots Q (F0 m (pc + 1) ls (.ref (ax (11 + k.val)) :: rest))) : W p l e R s m args below meth c H locs cells slots Q (F0 m pc ls (.int i :: .ref b :: rest)) := by
  refine va_aldq hx hb hG.1 hP q0 4 ha rfl hin hdg ?_
  have hv : va_rf (kfn ax F i.toNatClampNeg) = .ref (ax (11 + k.val)) := by simp [kfn, hk, va_rf]
  rw [hv]
  exact kk
theorem fw_kast (hx : p.tables.exec = Jvm.exec) (hb : c.code = cc) (hG : GK D ac s) (hS : Stt D A0 H0 ws H locs) (hPk : va_P D clG (wK ax) H) (q0 : Nat) {n : Nat} {F : Nat → Option (Fin 6)} (ha : ws[q0]? = some (b, va_ar (ac 4) n (kfn ax F))) {i : Int32} (hin : ¬ (i < 0 ∨ n ≤ i.toNatClampNeg)) {k : Fin 6} (hdg : decode cc pc = .ok (.aastore, 1)) {wn : va_W} (hwn : ws.set q0 (b, va_ar (ac 4) n (kfn ax (va_up F i.toNatClampNeg (some k)))) = wn)
    (kk : ∀ (H1 : Heap) (locs1 : List Loc), Stt D A0 H0 wn H1 locs1 → W p l e R s m args below meth c H1 locs1 cells slots Q (F0 m (pc + 1) ls rest)) : W p l e R s m args below meth c H locs cells slots Q (F0 m pc ls (.ref (ax (11 + k.val)) :: .int i :: .ref b :: rest)) := by
  subst hwn
  refine va_astqM hx hb hG.1 hS.1 hS.2.1 hS.2.2 q0 4 ha rfl (any_kind hG hPk k) hin hdg (fun H1 locs1 h1 h2 h3 => ?_)
  rw [kfn_up] at h1 h2
  exact kk H1 locs1 ⟨h1, h2, h3⟩
theorem fw_last (hx : p.tables.exec = Jvm.exec) (hb : c.code = cc) (hG : GK D ac s) (hS : Stt D A0 H0 ws H locs) (q0 : Nat) {n : Nat} {f : Nat → Int64} (ha : ws[q0]? = some (b, va_al (ac 3) n f)) {i : Int32} {x : Int64} (hin : ¬ (i < 0 ∨ n ≤ i.toNatClampNeg)) (hdg : decode cc pc = .ok (.lastore, 1)) {wn : va_W} (hwn : ws.set q0 (b, va_al (ac 3) n (vp_updL f i.toNatClampNeg x)) = wn)
    (kk : ∀ (H1 : Heap) (locs1 : List Loc), Stt D A0 H0 wn H1 locs1 → W p l e R s m args below meth c H1 locs1 cells slots Q (F0 m (pc + 1) ls rest)) : W p l e R s m args below meth c H locs cells slots Q (F0 m pc ls (.long x :: .int i :: .ref b :: rest)) := by
  subst hwn
  exact va_last hx hb hG.1 hS.1 hS.2.1 hS.2.2 q0 3 ha rfl hin hdg (fun H1 locs1 a b c => kk H1 locs1 ⟨a, b, c⟩)
theorem fw_bast (hx : p.tables.exec = Jvm.exec) (hb : c.code = cc) (hG : GK D ac s) (hS : Stt D A0 H0 ws H locs) (q0 : Nat) {n : Nat} {f : Nat → Int32} (ha : ws[q0]? = some (b, va_ai (ac 1) n f)) {i x : Int32} (hin : ¬ (i < 0 ∨ n ≤ i.toNatClampNeg)) (hdg : decode cc pc = .ok (.bastore, 1)) {wn : va_W} (hwn : ws.set q0 (b, va_ai (ac 1) n (upd f i.toNatClampNeg (vp_nar .byte x))) = wn)
    (kk : ∀ (H1 : Heap) (locs1 : List Loc), Stt D A0 H0 wn H1 locs1 → W p l e R s m args below meth c H1 locs1 cells slots Q (F0 m (pc + 1) ls rest)) : W p l e R s m args below meth c H locs cells slots Q (F0 m pc ls (.int x :: .int i :: .ref b :: rest)) := by
  subst hwn
  exact va_bast hx hb hG.1 hS.1 hS.2.1 hS.2.2 q0 1 ha rfl hin hdg (fun H1 locs1 a b c => kk H1 locs1 ⟨a, b, c⟩)
theorem fw_cast (hx : p.tables.exec = Jvm.exec) (hb : c.code = cc) (hG : GK D ac s) (hS : Stt D A0 H0 ws H locs) (q0 : Nat) {n : Nat} {f : Nat → Int32} (ha : ws[q0]? = some (b, va_ai (ac 2) n f)) {i x : Int32} (hin : ¬ (i < 0 ∨ n ≤ i.toNatClampNeg)) (hdg : decode cc pc = .ok (.castore, 1)) {wn : va_W} (hwn : ws.set q0 (b, va_ai (ac 2) n (upd f i.toNatClampNeg (vp_nar .char x))) = wn)
    (kk : ∀ (H1 : Heap) (locs1 : List Loc), Stt D A0 H0 wn H1 locs1 → W p l e R s m args below meth c H1 locs1 cells slots Q (F0 m (pc + 1) ls rest)) : W p l e R s m args below meth c H locs cells slots Q (F0 m pc ls (.int x :: .int i :: .ref b :: rest)) := by
  subst hwn
  exact va_cast hx hb hG.1 hS.1 hS.2.1 hS.2.2 q0 2 ha rfl hin hdg (fun H1 locs1 a b c => kk H1 locs1 ⟨a, b, c⟩)
theorem fw_putN (hx : p.tables.exec = Jvm.exec) (hb : c.code = cc) {ref : String} {T : u_T} {N ci : Nat} (hts : ∀ w ∈ lw_all, w.before args s = true) (hin : ∀ w ∈ u_ws C T N, w ∈ lw_all) (ty0 : Nat → FieldType) (hty : ∀ k, k < N → parseFieldDescriptor (T k).2.2.1 = some (ty0 k)) (hnm : ∀ a, a < N → ∀ b, b < N → a ≠ b → (T a).2.1 ≠ (T b).2.1) (hown : s.vm.findClass own = some m.cls) (hG : GK D ac s) (hS : Stt D A0 H0 ws H locs) (q0 : Nat) {fs : List Value} (he : ws[q0]? = some (b, .inr (ci, fs))) (hc : clG[ci]? = some (C, T, N)) (k : Nat) (hk : k < N) (hlink : (Cond.fieldLinkNest own index ref (T k).2.1 (T k).2.2.1 host).before args s = true) (hsame : ∀ x, s.fieldFound? (T k).1 (T k).2.1 (T k).2.2.1 = some x → s.fieldFound? ref (T k).2.1 (T k).2.2.1 = some x) (hfin : (T k).2.2.2 = false) {ty : FieldType} {x : Value} (hd : parseFieldDescriptor (T k).2.2.1 = some ty) (hn : narrow ty x = x) (hfit : fits ty x = true) (hl : k < fs.length)
    (hdg : decode cc pc = .ok (.putfield index, 3)) {wn : va_W} (hwn : ws.set q0 (b, .inr (ci, fs.set k x)) = wn) (kk : ∀ (H1 : Heap) (locs1 : List Loc), Stt D A0 H0 wn H1 locs1 → W p l e R s m args below meth c H1 locs1 cells slots Q (F0 m (pc + 3) ls rest)) : W p l e R s m args below meth c H locs cells slots Q (F0 m pc ls (x :: .ref b :: rest)) := by
  subst hwn
  exact va_putN hx hb hts hin ty0 hty hnm hown hG.1 hS.1 hS.2.1 hS.2.2 q0 he hc k hk hlink hsame hfin hd hn hfit hl hdg (fun H1 locs1 a b c => kk H1 locs1 ⟨a, b, c⟩)
/-- a static method of a nest mate that neither reads nor writes -/
theorem fwSN (hx : p.tables.exec = Jvm.exec) (hb : c.code = cc) (hml : c.maxLocals = nL) (hown : s.vm.findClass own = some m.cls) (hts : ∀ w ∈ lw_all, w.before args s = true)
    (hM : PM l y bytes maxL ret rm As (fun _ => True) v) (cw : va_CN R s args own index y host bytes maxL ret (ws_ y bytes maxL ret) rm 0 0 n ∧ (Cond.static y).before args s = true ∧ True)
    (hn : As.length = n) (hsize : ls.size = nL) (hstack : st = As.reverse ++ rest) (hW : (rest.map fun v => v.category).sum ≤ 8) (hdg : decode cc pc = .ok (.invokestatic index, 3)) (hf : cells ≤ R.cells ∧ slots ≤ R.slots)
    (kk : W p l e R s m args below meth c H locs cells slots Q (F0 m (pc + 3) ls (v.toList ++ rest))) : W p l e R s m args below meth c H locs cells slots Q (F0 m pc ls st) :=
  fw_back (va_runSN (Ts := lw_all) (g := F0 m pc ls st) ⟨hx, hb, hml, hown, hts⟩ hM cw ⟨fun _ _ _ _ q => q, fun _ _ _ => ⟨rfl, trivial⟩⟩ rfl hn hsize hstack (lv_room (ls := ls) hW) hdg hf) kk
/-- a static method that reads -/
theorem fwRS (hx : p.tables.exec = Jvm.exec) (hb : c.code = cc) (hml : c.maxLocals = nL) (hown : s.vm.findClass own = some m.cls) (hts : ∀ w ∈ lw_all, w.before args s = true)
    (hM : PM l y bytes maxL ret rm As (RP D ac wc) v) (cw : CallB R s args own index y bytes maxL ret (ws_ y bytes maxL ret) rm 0 0 n ∧ (Cond.static y).before args s = true) (hG : GK D ac s) (hPc : va_P D clG wc H)
    (hn : As.length = n) (hsize : ls.size = nL) (hstack : st = As.reverse ++ rest) (hW : (rest.map fun v => v.category).sum ≤ 8) (hdg : decode cc pc = .ok (.invokestatic index, 3)) (hf : cells ≤ R.cells ∧ slots ≤ R.slots)
    (kk : W p l e R s m args below meth c H locs cells slots Q (F0 m (pc + 3) ls (v.toList ++ rest))) : W p l e R s m args below meth c H locs cells slots Q (F0 m pc ls st) :=
  fw_back (va_runS (Ts := lw_all) (g := F0 m pc ls st) ⟨hx, hb, hml, hown, hts⟩ hM cw ⟨fun _ _ _ _ q => ⟨q.1, q.2.1, q.2.2.calling⟩, fun U hU hW => ⟨rfl, by rw [hU]; exact hPc, hG.warm hW⟩⟩ rfl hn hsize hstack (lv_room (ls := ls) hW) hdg hf) kk
/-- super.m(..) that reads -/
theorem fwRSU (hx : p.tables.exec = Jvm.exec) (hb : c.code = cc) (hml : c.maxLocals = nL) (hown : s.vm.findClass own = some m.cls) (hts : ∀ w ∈ lw_all, w.before args s = true)
    (hM : PM l y bytes maxL ret rm (.ref b :: As) (RP D ac wc) v) (cw : va_CS R s args own index y bytes maxL ret (ws_ y bytes maxL ret) rm 0 0 n) (hG : GK D ac s) (hP : va_P D clG ws H) (hPc : va_P D clG wc H) (q0 ci : Nat) {T : u_T} {N : Nat} {fs : List Value} (hc : clG[ci]? = some (C, T, N)) (he : ws[q0]? = some (b, .inr (ci, fs)))
    (hn : As.length = n) (hsize : ls.size = nL) (hstack : st = As.reverse ++ .ref b :: rest) (hW : (rest.map fun v => v.category).sum ≤ 8) (hdg : decode cc pc = .ok (.invokespecial index, 3)) (hf : cells ≤ R.cells ∧ slots ≤ R.slots)
    (kk : W p l e R s m args below meth c H locs cells slots Q (F0 m (pc + 3) ls (v.toList ++ rest))) : W p l e R s m args below meth c H locs cells slots Q (F0 m pc ls st) :=
  fw_back (va_runSU (Ts := lw_all) (g := F0 m pc ls st) (hG.1.1 ci _ hc).2 ⟨hx, hb, hml, hown, hts⟩ hM cw ⟨fun _ _ _ _ q => ⟨q.1, q.2.1, q.2.2.calling⟩, va_recv hG.1 hP hc he, fun U hU hW => ⟨rfl, by rw [hU]; exact hPc, hG.warm hW⟩⟩ rfl hn hsize hstack (lv_room (ls := ls) hW) hdg hf) kk
/-- the same, of a method that neither reads nor writes -/
theorem fwPSU (hx : p.tables.exec = Jvm.exec) (hb : c.code = cc) (hml : c.maxLocals = nL) (hown : s.vm.findClass own = some m.cls) (hts : ∀ w ∈ lw_all, w.before args s = true)
    (hM : PM l y bytes maxL ret rm (.ref b :: As) (fun _ => True) v) (cw : va_CS R s args own index y bytes maxL ret (ws_ y bytes maxL ret) rm 0 0 n) (hG : GK D ac s) (hP : va_P D clG ws H) (q0 ci : Nat) {T : u_T} {N : Nat} {fs : List Value} (hc : clG[ci]? = some (C, T, N)) (he : ws[q0]? = some (b, .inr (ci, fs)))
    (hn : As.length = n) (hsize : ls.size = nL) (hstack : st = As.reverse ++ .ref b :: rest) (hW : (rest.map fun v => v.category).sum ≤ 8) (hdg : decode cc pc = .ok (.invokespecial index, 3)) (hf : cells ≤ R.cells ∧ slots ≤ R.slots)
    (kk : W p l e R s m args below meth c H locs cells slots Q (F0 m (pc + 3) ls (v.toList ++ rest))) : W p l e R s m args below meth c H locs cells slots Q (F0 m pc ls st) :=
  fw_back (va_runSU (Ts := lw_all) (g := F0 m pc ls st) (hG.1.1 ci _ hc).2 ⟨hx, hb, hml, hown, hts⟩ hM cw ⟨fun _ _ _ _ q => q, va_recv hG.1 hP hc he, fun U hU hW => ⟨rfl, trivial⟩⟩ rfl hn hsize hstack (lv_room (ls := ls) hW) hdg hf) kk
/-- a virtual call whose named method is another class's, of a method that reads -/
theorem fwRU {owner : String} {x : MethodName} (hx : p.tables.exec = Jvm.exec) (hb : c.code = cc) (hml : c.maxLocals = nL) (hown : s.vm.findClass own = some m.cls) (hts : ∀ w ∈ lw_all, w.before args s = true)
    (hM : PM l y bytes maxL ret rm (.ref b :: As) (RP D ac wc) v) (cw : va_CU R s args own C owner index x y bytes maxL ret (ws_ y bytes maxL ret) rm 0 0 n) (hG : GK D ac s) (hP : va_P D clG ws H) (hPc : va_P D clG wc H) (q0 ci : Nat) {T : u_T} {N : Nat} {fs : List Value} (hc : clG[ci]? = some (C, T, N)) (he : ws[q0]? = some (b, .inr (ci, fs)))
    (hn : As.length = n) (hsize : ls.size = nL) (hstack : st = As.reverse ++ .ref b :: rest) (hW : (rest.map fun v => v.category).sum ≤ 8) (hdg : decode cc pc = .ok (.invokevirtual index, 3)) (hf : cells ≤ R.cells ∧ slots ≤ R.slots)
    (kk : W p l e R s m args below meth c H locs cells slots Q (F0 m (pc + 3) ls (v.toList ++ rest))) : W p l e R s m args below meth c H locs cells slots Q (F0 m pc ls st) :=
  fw_back (va_runU (Ts := lw_all) (g := F0 m pc ls st) ⟨hx, hb, hml, hown, hts⟩ hM cw ⟨fun _ _ _ _ q => ⟨q.1, q.2.1, q.2.2.calling⟩, va_recv hG.1 hP hc he, fun U hU hW => ⟨rfl, by rw [hU]; exact hPc, hG.warm hW⟩⟩ rfl hn hsize hstack (lv_room (ls := ls) hW) hdg hf) kk
theorem fwPU {owner : String} {x : MethodName} (hx : p.tables.exec = Jvm.exec) (hb : c.code = cc) (hml : c.maxLocals = nL) (hown : s.vm.findClass own = some m.cls) (hts : ∀ w ∈ lw_all, w.before args s = true)
    (hM : PM l y bytes maxL ret rm (.ref b :: As) (fun _ => True) v) (cw : va_CU R s args own C owner index x y bytes maxL ret (ws_ y bytes maxL ret) rm 0 0 n) (hG : GK D ac s) (hP : va_P D clG ws H) (q0 ci : Nat) {T : u_T} {N : Nat} {fs : List Value} (hc : clG[ci]? = some (C, T, N)) (he : ws[q0]? = some (b, .inr (ci, fs)))
    (hn : As.length = n) (hsize : ls.size = nL) (hstack : st = As.reverse ++ .ref b :: rest) (hW : (rest.map fun v => v.category).sum ≤ 8) (hdg : decode cc pc = .ok (.invokevirtual index, 3)) (hf : cells ≤ R.cells ∧ slots ≤ R.slots)
    (kk : W p l e R s m args below meth c H locs cells slots Q (F0 m (pc + 3) ls (v.toList ++ rest))) : W p l e R s m args below meth c H locs cells slots Q (F0 m pc ls st) :=
  fw_back (va_runU (Ts := lw_all) (g := F0 m pc ls st) ⟨hx, hb, hml, hown, hts⟩ hM cw ⟨fun _ _ _ _ q => q, va_recv hG.1 hP hc he, fun U hU hW => ⟨rfl, trivial⟩⟩ rfl hn hsize hstack (lv_room (ls := ls) hW) hdg hf) kk
theorem fw_cpyi (hx : p.tables.exec = Jvm.exec) (hb : c.code = cc) (hml : c.maxLocals = nL) (hown : s.vm.findClass own = some m.cls) (hlink : (Cond.methodLink own index arraycopyName).before args s = true) (hnat : (Cond.native arraycopyName).before args s = true) (hstat : (Cond.static arraycopyName).before args s = true) (hini : (Cond.initialized "java/lang/System").before args s = true) (hsize : ls.size = nL)
    (hG : GK D ac s) (hS : Stt D A0 H0 ws H locs) (q0 q1 : Nat) {a0 : Nat} {n0 n1 : Nat} {f g : Nat → Int32} (ha0 : ws[q0]? = some (a0, va_ai (ac 0) n0 f)) (ha1 : ws[q1]? = some (b, va_ai (ac 0) n1 g)) {n : Int32} (N : Nat) (hN : n.toNatClampNeg = N) (h3 : ¬ n < 0) (h4 : N ≤ n0) (h5 : N ≤ n1) (hframes : 1 ≤ R.frames) (hlocals : (rest.map fun v => v.category).sum + (nativeFrameWords "java/lang/System" "arraycopy" 5 + 11) ≤ R.locals) (hdg : decode cc pc = .ok (.invokestatic index, 3))
    {wn : va_W} (hwn : ws.set q1 (b, va_ai (ac 0) n1 (va_cpy f g 0 0 N)) = wn) (kk : ∀ (H1 : Heap) (locs1 : List Loc), Stt D A0 H0 wn H1 locs1 → W p l e R s m args below meth c H1 locs1 cells slots Q (F0 m (pc + 3) ls rest)) : W p l e R s m args below meth c H locs cells slots Q (F0 m pc ls (.int n :: .int 0 :: .ref b :: .int 0 :: .ref a0 :: rest)) := by
  subst hwn; subst hN
  exact va_copyi hx hb (hml.trans hsize.symm) hown hlink hnat hstat hini hG.1 hS.1 hS.2.1 hS.2.2 q0 q1 0 0 ha0 ha1 rfl rfl rfl (by decide) (by decide) h3 (show 0 + _ ≤ n0 by omega) (show 0 + _ ≤ n1 by omega) (fun _ _ => rfl) hframes hlocals hdg (fun H1 locs1 a b c => kk H1 locs1 ⟨a, b, c⟩)
theorem fw_cpyl (hx : p.tables.exec = Jvm.exec) (hb : c.code = cc) (hml : c.maxLocals = nL) (hown : s.vm.findClass own = some m.cls) (hlink : (Cond.methodLink own index arraycopyName).before args s = true) (hnat : (Cond.native arraycopyName).before args s = true) (hstat : (Cond.static arraycopyName).before args s = true) (hini : (Cond.initialized "java/lang/System").before args s = true) (hsize : ls.size = nL)
    (hG : GK D ac s) (hS : Stt D A0 H0 ws H locs) (q0 q1 : Nat) {a0 : Nat} {n0 n1 : Nat} {f g : Nat → Int64} (ha0 : ws[q0]? = some (a0, va_al (ac 3) n0 f)) (ha1 : ws[q1]? = some (b, va_al (ac 3) n1 g)) {n : Int32} (N : Nat) (hN : n.toNatClampNeg = N) (h3 : ¬ n < 0) (h4 : N ≤ n0) (h5 : N ≤ n1) (hframes : 1 ≤ R.frames) (hlocals : (rest.map fun v => v.category).sum + (nativeFrameWords "java/lang/System" "arraycopy" 5 + 11) ≤ R.locals) (hdg : decode cc pc = .ok (.invokestatic index, 3))
    {wn : va_W} (hwn : ws.set q1 (b, va_al (ac 3) n1 (va_cpy f g 0 0 N)) = wn) (kk : ∀ (H1 : Heap) (locs1 : List Loc), Stt D A0 H0 wn H1 locs1 → W p l e R s m args below meth c H1 locs1 cells slots Q (F0 m (pc + 3) ls rest)) : W p l e R s m args below meth c H locs cells slots Q (F0 m pc ls (.int n :: .int 0 :: .ref b :: .int 0 :: .ref a0 :: rest)) := by
  subst hwn; subst hN
  exact va_copyl hx hb (hml.trans hsize.symm) hown hlink hnat hstat hini hG.1 hS.1 hS.2.1 hS.2.2 q0 q1 3 3 ha0 ha1 rfl rfl rfl (by decide) (by decide) h3 (show 0 + _ ≤ n0 by omega) (show 0 + _ ≤ n1 by omega) (fun _ _ => rfl) hframes hlocals hdg (fun H1 locs1 a b c => kk H1 locs1 ⟨a, b, c⟩)
theorem fw_cpyk (hx : p.tables.exec = Jvm.exec) (hb : c.code = cc) (hml : c.maxLocals = nL) (hown : s.vm.findClass own = some m.cls) (hlink : (Cond.methodLink own index arraycopyName).before args s = true) (hnat : (Cond.native arraycopyName).before args s = true) (hstat : (Cond.static arraycopyName).before args s = true) (hini : (Cond.initialized "java/lang/System").before args s = true) (hsize : ls.size = nL)
    (hG : GK D ac s) (hS : Stt D A0 H0 ws H locs) (hPk : va_P D clG (wK ax) H) (q0 q1 : Nat) {a0 : Nat} {n0 n1 : Nat} {f g : Nat → Option (Fin 6)} (ha0 : ws[q0]? = some (a0, va_ar (ac 4) n0 (kfn ax f))) (ha1 : ws[q1]? = some (b, va_ar (ac 4) n1 (kfn ax g))) {n : Int32} (N : Nat) (hN : n.toNatClampNeg = N) (h3 : ¬ n < 0) (h4 : N ≤ n0) (h5 : N ≤ n1) (hframes : 1 ≤ R.frames) (hlocals : (rest.map fun v => v.category).sum + (nativeFrameWords "java/lang/System" "arraycopy" 5 + 11) ≤ R.locals) (hdg : decode cc pc = .ok (.invokestatic index, 3))
    {wn : va_W} (hwn : ws.set q1 (b, va_ar (ac 4) n1 (kfn ax (va_cpy f g 0 0 N))) = wn) (kk : ∀ (H1 : Heap) (locs1 : List Loc), Stt D A0 H0 wn H1 locs1 → W p l e R s m args below meth c H1 locs1 cells slots Q (F0 m (pc + 3) ls rest)) : W p l e R s m args below meth c H locs cells slots Q (F0 m pc ls (.int n :: .int 0 :: .ref b :: .int 0 :: .ref a0 :: rest)) := by
  subst hwn; subst hN
  refine va_copyM hx hb (hml.trans hsize.symm) hown hlink hnat hstat hini hG.1 hS.1 hS.2.1 hS.2.2 q0 q1 4 4 ha0 ha1 rfl rfl (by decide) (by decide) h3 (show 0 + _ ≤ n0 by omega) (show 0 + _ ≤ n1 by omega) (fun i _ y hy => ?_) hframes hlocals hdg (fun H1 locs1 h1 h2 h3 => ?_)
  · unfold kfn at hy
    cases hf : f (Int32.toNatClampNeg 0 + i) with
    | none => rw [hf] at hy; cases hy
    | some k => rw [hf] at hy; cases hy; exact any_kind hG hPk k
  · rw [kfn_cpy] at h1 h2
    exact kk H1 locs1 ⟨h1, h2, h3⟩
end FW3
theorem lw_SU {own : String} {idx : Nat} {y : MethodName} {b : ByteArray} {L : Nat} {r : Option FieldType} (h1 : Cond.methodLink own idx y ∈ lw_all) (h2 : Cond.sameMethod y.cls y.cls y.name y.desc ∈ lw_all) (h3 : Cond.superclass own y.cls ∈ lw_all) (h4 : Cond.instanceMethod y ∈ lw_all) (h5 : Cond.initialized y.cls ∈ lw_all) (h6 : Cond.code y b L r ∈ lw_all) : GoodIn lw_all (va_wsSU own idx y (ws_ y b L r)) := by
  refine lw_app ?_ (lw_meth h6)
  intro w hw
  simp only [List.mem_cons, List.not_mem_nil, or_false] at hw
  rcases hw with e | e | e | e | e
  · rw [e]; exact h1
  · rw [e]; exact h2
  · rw [e]; exact h3
  · rw [e]; exact h4
  · rw [e]; exact h5
/-- what a virtual call asks whose named method is another class's -/
theorem lw_U {own C owner : String} {idx : Nat} {x y : MethodName} {b : ByteArray} {L : Nat} {r : Option FieldType} (h1 : Cond.methodLink own idx x ∈ lw_all) (h2 : Cond.sameMethod x.cls owner x.name x.desc ∈ lw_all) (h3 : Cond.selects C x y ∈ lw_all) (h4 : Cond.instanceMethod y ∈ lw_all) (h5 : Cond.initialized y.cls ∈ lw_all) (h6 : Cond.code y b L r ∈ lw_all) : GoodIn lw_all (va_wsU own idx C owner x y (ws_ y b L r)) := by
  refine lw_app ?_ (lw_meth h6)
  intro w hw
  simp only [List.mem_cons, List.not_mem_nil, or_false] at hw
  rcases hw with e | e | e | e | e
  · rw [e]; exact h1
  · rw [e]; exact h2
  · rw [e]; exact h3
  · rw [e]; exact h4
  · rw [e]; exact h5
