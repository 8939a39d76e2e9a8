/-! ROWS of making: arrays, objects, constructors -/
theorem ra_inj {s : State} {c1 c2 : ClassId} {ty : FieldType} (h1 : va_RA s c1 ty) (h2 : va_RA s c2 ty) : c1 = c2 := by
  cases ty with
  | object C =>
    obtain ⟨_, _, _, _, _, h1⟩ := h1
    obtain ⟨_, _, _, _, _, h2⟩ := h2
    exact Option.some.inj (h1.symm.trans h2)
  | _ => exact Option.some.inj ((show s.vm.findClass _ = some c1 from h1).symm.trans (show s.vm.findClass _ = some c2 from h2))
def adF (l : List Nat) : Nat → Nat := fun n => l.getD n 0
section FW4
variable {p : Program} {l : Launch} {e : Env} {R : Room} {s : State} {m : MethodId} {args : Array Value} {below : List Frame} {meth : Method} {c : Code} {H : Heap} {locs : List Loc} {cells slots : Nat} {Q : State → Prop} {ls : Array Slot}
variable {y : MethodName} {bytes cc : ByteArray} {maxL nL n index : Nat} {ret : Option FieldType} {rm : Room} {As rest st : List Value} {v : Option Value} {own C host : String} {pc : Nat} {D : va_G} {ac : Nat → ClassId} {ax : Nat → Nat} {ws wc wc' : va_W} {A0 : Nat → Prop} {H0 : Heap} {b : Nat}
theorem fw_newa (hx : p.tables.exec = Jvm.exec) (hb : c.code = cc) {atype : ArrayType} (harr : (Cond.arrayClass (newarray.typeOf atype)).before args s = true) {ty : FieldType} (hty : newarray.typeOf atype = ty) (hG : GK D ac s) (hS : Stt D A0 H0 ws H locs) (hA : ∀ q, H0.size ≤ q → A0 q) (t0 : Nat) (ht : (tyG ac)[t0]? = some (ac t0, ty))
    {n : Int32} {N' : Nat} {a0 : vp_A} (ha : ∀ cA : ClassId, vp_cell cA a0 = arrV cA N' (fun _ => defaultValue ty)) (hn : ¬ n < 0) (hN : n.toNatClampNeg = N') (hbytes : N' * componentBytes ty ≤ 536870912) (hcells : cells + 1 ≤ R.cells) (hslots : slots + N' ≤ R.slots) (hdg : decode cc pc = .ok (.newarray atype, 2))
    (kk : ∀ (q : Nat) (H1 : Heap), Stt D A0 H0 (ws ++ [(q, .inl (ac t0, a0))]) H1 locs →
      W p l e R s m args below meth c H1 locs (cells + 1) (slots + N') Q (F0 m (pc + 2) ls (.ref q :: rest))) : W p l e R s m args below meth c H locs cells slots Q (F0 m pc ls (.int n :: rest)) := by
  refine va_newa hx hb harr hty hG.1 hS.1 hS.2.1 hS.2.2 hA ha hn hN hbytes hcells hslots hdg (fun q cA H1 hK hP hD hS' => ?_)
  have e1 : cA = ac t0 := ra_inj (hK.2 6 _ rfl).2 (hG.1.2 t0 _ ht).2
  subst e1
  exact kk q H1 ⟨hP, hD, hS'⟩
theorem fw_newq (hx : p.tables.exec = Jvm.exec) (hb : c.code = cc) (hown : s.vm.findClass own = some m.cls) (hclink : (Cond.classLink own index C).before args s = true) (hover : va_AO C s) (hG : GK D ac s) (hS : Stt D A0 H0 ws H locs) (hA : ∀ q, H0.size ≤ q → A0 q) (t0 : Nat) (ht : (tyG ac)[t0]? = some (ac t0, .object C))
    {n : Int32} {N' : Nat} (hn : ¬ n < 0) (hN : n.toNatClampNeg = N') (hbytes : N' * 4 ≤ 536870912) (hcells : cells + 1 ≤ R.cells) (hslots : slots + N' ≤ R.slots) (hdg : decode cc pc = .ok (.anewarray index, 3))
    (kk : ∀ (q : Nat) (H1 : Heap), Stt D A0 H0 (ws ++ [(q, va_ar (ac t0) N' (fun _ => none))]) H1 locs →
      W p l e R s m args below meth c H1 locs (cells + 1) (slots + N') Q (F0 m (pc + 3) ls (.ref q :: rest))) : W p l e R s m args below meth c H locs cells slots Q (F0 m pc ls (.int n :: rest)) := by
  refine va_newq hx hb hown hclink hover hG.1 hS.1 hS.2.1 hS.2.2 hA hn hN hbytes hcells hslots hdg (fun q cA H1 hK hP hD hS' => ?_)
  have e1 : cA = ac t0 := ra_inj (hK.2 6 _ rfl).2 (hG.1.2 t0 _ ht).2
  subst e1
  exact kk q H1 ⟨hP, hD, hS'⟩
theorem fw_new (hx : p.tables.exec = Jvm.exec) (hb : c.code = cc) {T : u_T} {N ci : Nat} (hts : ∀ w ∈ lw_all, w.before args s = true) (hin : ∀ w ∈ u_ws C T N, w ∈ lw_all) (ty : Nat → FieldType) (hty : ∀ k, k < N → parseFieldDescriptor (T k).2.2.1 = some (ty k)) (hown : s.vm.findClass own = some m.cls) (hcl : (Cond.classLink own index C).before args s = true) (hinst : (Cond.instantiable C N).before args s = true) (hini : (Cond.initialized C).before args s = true)
    (hG : GK D ac s) (hS : Stt D A0 H0 ws H locs) (hA : ∀ q, H0.size ≤ q → A0 q) (hc : clG[ci]? = some (C, T, N)) {fs : List Value} (hfs : ∀ j, j < N → defaultValue (ty j) = vp_V fs j) (hcells : cells + 1 ≤ R.cells) (hslots : slots + N ≤ R.slots) (hdg : decode cc pc = .ok (.new index, 3))
    (kk : ∀ (q : Nat) (H1 : Heap), Stt D A0 H0 (ws ++ [(q, .inr (ci, fs))]) H1 locs →
      W p l e R s m args below meth c H1 locs (cells + 1) (slots + N) Q (F0 m (pc + 3) ls (.ref q :: rest))) : W p l e R s m args below meth c H locs cells slots Q (F0 m pc ls rest) :=
  va_new hx hb hts hin ty hty hown hcl hinst hini hG.1 hS.1 hS.2.1 hS.2.2 hA hc hfs hcells hslots hdg (fun q H1 h1 h2 h3 => kk q H1 ⟨h1, h2, h3⟩)
theorem fw_putF (hx : p.tables.exec = Jvm.exec) (hb : c.code = cc) {ref : String} {T : u_T} {N ci : Nat} (hts : ∀ w ∈ lw_all, w.before args s = true) (hin : ∀ w ∈ u_ws C T N, w ∈ lw_all) (ty0 : Nat → FieldType) (hty : ∀ k, k < N → parseFieldDescriptor (T k).2.2.1 = some (ty0 k)) (hnm : ∀ a, a < N → ∀ b, b < N → a ≠ b → (T a).2.1 ≠ (T b).2.1) (hown : s.vm.findClass own = some m.cls) (hG : GK D ac s) (hS : Stt D A0 H0 ws H locs) (q0 : Nat) {fs : List Value} (he : ws[q0]? = some (b, .inr (ci, fs))) (hc : clG[ci]? = some (C, T, N)) (k : Nat) (hk : k < N) (hlink : (Cond.fieldLink own index ref (T k).2.1 (T k).2.2.1).before args s = true) (hsame : ∀ x, s.fieldFound? (T k).1 (T k).2.1 (T k).2.2.1 = some x → s.fieldFound? ref (T k).2.1 (T k).2.2.1 = some x) (hfin : (T k).2.2.2 = true) (hin2 : meth.name = "<init>") (hdecl : (T k).1 = own) {ty : FieldType} {x : Value} (hd : parseFieldDescriptor (T k).2.2.1 = some ty) (hn : narrow ty x = x) (hfit : fits ty x = true) (hl : k < fs.length)
    (hdg : decode cc pc = .ok (.putfield index, 3)) {wn : va_W} (hwn : ws.set q0 (b, .inr (ci, fs.set k x)) = wn) (kk : ∀ (H1 : Heap) (locs1 : List Loc), Stt D A0 H0 wn H1 locs1 → W p l e R s m args below meth c H1 locs1 cells slots Q (F0 m (pc + 3) ls rest)) : W p l e R s m args below meth c H locs cells slots Q (F0 m pc ls (x :: .ref b :: rest)) := by
  subst hwn
  exact va_putF hx hb hts hin ty0 hty hnm hown hG.1 hS.1 hS.2.1 hS.2.2 q0 he hc k hk hlink hsame hfin hin2 hdecl hd hn hfit hl hdg (fun H1 locs1 a b c => kk H1 locs1 ⟨a, b, c⟩)
/-- a constructor of a nest mate that neither reads nor writes -/
theorem fwRIN (hx : p.tables.exec = Jvm.exec) (hb : c.code = cc) (hml : c.maxLocals = nL) (hown : s.vm.findClass own = some m.cls) (hts : ∀ w ∈ lw_all, w.before args s = true)
    (hM : PM l y bytes maxL none rm (.ref b :: As) (RP D ac []) none) (cw : va_CN R s args own index y host bytes maxL none (ws_ y bytes maxL none) rm 0 0 n ∧ y.name = "<init>" ∧ (Cond.instanceMethod y).before args s = true) (hG : GK D ac s)
    (hn : As.length = n) (hsize : ls.size = nL) (hstack : st = As.reverse ++ .ref b :: rest) (hW : (rest.map fun v => v.category).sum ≤ 8) (hdg : decode cc pc = .ok (.invokespecial index, 3)) (hf : cells ≤ R.cells ∧ slots ≤ R.slots)
    (kk : W p l e R s m args below meth c H locs cells slots Q (F0 m (pc + 3) ls rest)) : W p l e R s m args below meth c H locs cells slots Q (F0 m pc ls st) :=
  fw_back (va_runIN (Ts := lw_all) (g := F0 m pc ls st) ⟨hx, hb, hml, hown, hts⟩ hM cw ⟨fun _ _ _ _ q => ⟨q.1, q.2.1, q.2.2.calling⟩, fun U hU hW => ⟨rfl, fun k q h => by simp at h, hG.warm hW⟩⟩ rfl hn hsize hstack (lv_room (ls := ls) hW) hdg hf) kk
theorem Stt.perm {ws' : va_W} (hS : Stt D A0 H0 ws H locs) (is : List Nat) (hn : va_nd is = true) (hC : is.map (fun i => ws[i]?) = ws'.map some) : Stt D A0 H0 ws' H locs := ⟨hS.sub is hC, hS.2.1.sub is hn hC, hS.2.2⟩
end FW4
/-- a constructor's end: its object and what it made -/
def QN {U : Type} (D : va_G) (w1 : U → va_W) (A : Nat → Prop) : Array Value → State → Outcome → State → Prop := fun _ st o t => (o = .returned none ∧ ∃ u : U, va_P D clG (w1 u) t.heap ∧ va_D A (w1 u)) ∧ va_F A st t
theorem Stt.grow {D : va_G} {A0 : Nat → Prop} {H0 H H1 : Heap} {ws wc w1 : va_W} {locs locs1 : List Loc} (h : Stt D A0 H0 (ws ++ wc) H locs) (hF : ∀ q, va_A wc H.size q → A0 q) (hk : ∀ q : Nat, q < H.size → ¬ va_A wc H.size q → H1[q]? = H[q]?) (hP1 : va_P D clG w1 H1) (hD1 : va_D (va_A wc H.size) w1) (hS1 : va_S A0 H0 H1 locs1) : Stt D A0 H0 (ws ++ w1) H1 locs1 := by
  have hin : ∀ (k : Nat) (q : Nat × va_E), ws[k]? = some q → (ws ++ wc)[k]? = some q := by
    intro k q hq
    have hlt := (List.getElem?_eq_some_iff.mp hq).1
    rw [List.getElem?_append_left hlt]; exact hq
  have hap : ∀ (k : Nat) (q : Nat × va_E), ws[k]? = some q → q.1 < H.size ∧ ¬ va_A wc H.size q.1 := by
    intro k q hq
    have hl := (h.1 k q (hin k q hq)).lt
    refine ⟨hl, ?_⟩
    rintro (⟨j, e, hj⟩ | hj)
    · have hlt := (List.getElem?_eq_some_iff.mp hq).1
      have h2 : (ws ++ wc)[ws.length + j]? = some (q.1, e) := by
        rw [List.getElem?_append_right (by omega), show ws.length + j - ws.length = j by omega]; exact hj
      have := h.2.1.1 k (ws.length + j) q (q.1, e) (hin k q hq) h2 rfl
      omega
    · omega
  refine ⟨va_P.app (fun k q hq => (h.1 k q (hin k q hq)).kept (hk q.1 (hap k q hq).1 (hap k q hq).2)) hP1, va_D.app ⟨fun i j p q hp hq hpq => h.2.1.1 i j p q (hin i p hp) (hin j q hq) hpq, fun k q hq => h.2.1.2 k q (hin k q hq)⟩ (hD1.weaken (fun k q _ hh => hF q.1 hh)) ?_, hS1⟩
  intro i j x y hx hy hxy
  exact (hap i x hx).2 (by rw [hxy]; exact hD1.2 j y hy)
section FW5
variable {p : Program} {l : Launch} {e : Env} {R : Room} {s : State} {m : MethodId} {args : Array Value} {below : List Frame} {meth : Method} {c : Code} {H : Heap} {locs : List Loc} {cells slots : Nat} {Q : State → Prop} {ls : Array Slot}
variable {y : MethodName} {bytes cc : ByteArray} {maxL nL n index : Nat} {ret : Option FieldType} {rm : Room} {As rest st : List Value} {v : Option Value} {own C host : String} {pc : Nat} {D : va_G} {ac : Nat → ClassId} {ax : Nat → Nat} {ws wc wc' : va_W} {A0 : Nat → Prop} {H0 : Heap} {b : Nat}
theorem fw_nback {U : Type} {w1 : U → va_W} {mc ms : Nat} {g : JFrame} {a : Array Value} (hr : va_Run p l e R s m args below meth c H locs cells slots mc ms g rest (QN D w1 (va_A wc H.size) a) (va_A wc H.size)) (hS : Stt D A0 H0 (ws ++ wc) H locs) (hA : ∀ q, H0.size ≤ q → A0 q)
    (kk : ∀ (u : U) (H1 : Heap) (locs1 : List Loc), Stt D A0 H0 (ws ++ w1 u) H1 locs1 → W p l e R s m args below meth c H1 locs1 (cells + mc) (slots + ms) Q { g with pc := g.pc + 3, stack := rest }) : W p l e R s m args below meth c H locs cells slots Q g := by
  have hF : ∀ q, va_A wc H.size q → A0 q := by
    rintro q (⟨k, e, h⟩ | h)
    · have h2 : (ws ++ wc)[ws.length + k]? = some (q, e) := by
        rw [List.getElem?_append_right (by omega), show ws.length + k - ws.length = k by omega]; exact h
      exact hS.2.1.2 _ _ h2
    · exact hA q (Nat.le_trans hS.2.2.1 h)
  intro T hT X
  obtain ⟨v', st₀, t, T', L, h0, X', hL, e1, e2, ⟨⟨hv, u, hP1, hD1⟩, hz, hk⟩, st⟩ := hr T hT X
  cases hv
  rw [h0] at hz hk
  have hS2 : va_S A0 H0 T'.heap (locs ++ L) := ⟨Nat.le_trans hS.2.2.1 (by rw [e1]; exact hz), fun q h1 h2 => by rw [e1, hk q (Nat.lt_of_lt_of_le h1 hS.2.2.1) (fun z => h2 (hF q z))]; exact hS.2.2.2.1 q h1 h2, fun q hq => by
      rcases List.mem_append.mp hq with h | h
      · exact hS.2.2.2.2 q h
      · exact hF _ (hL q h)⟩
  obtain ⟨t2, a1, b1⟩ := kk u T'.heap (locs ++ L) (hS.grow hF (fun q h1 h2 => by rw [e1]; exact hk q h1 h2) (by rw [e1]; exact hP1) hD1 hS2) T' rfl X'
  exact ⟨t2, st t2 a1, b1⟩
/-- a private constructor of a nest mate on a fresh object, the last cell of the list -/
theorem fwNIN {U : Type} {w1 : U → va_W} {f0 : va_E} (hx : p.tables.exec = Jvm.exec) (hb : c.code = cc) (hml : c.maxLocals = nL) (hown : s.vm.findClass own = some m.cls) (hts : ∀ w ∈ lw_all, w.before args s = true)
    (hM : Met l y (ws_ y bytes maxL none) rm (va_Pc (.ref b :: As) (WPc D ac [(b, f0)] H.size)) (QN D w1 (va_A [(b, f0)] H.size)) rm.cells rm.slots (va_A [(b, f0)] H.size)) (cw : va_CN R s args own index y host bytes maxL none (ws_ y bytes maxL none) rm rm.cells rm.slots n ∧ y.name = "<init>" ∧ (Cond.instanceMethod y).before args s = true) (hG : GK D ac s) (hS : Stt D A0 H0 (ws ++ [(b, f0)]) H locs) (hA : ∀ q, H0.size ≤ q → A0 q)
    (hn : As.length = n) (hsize : ls.size = nL) (hstack : st = As.reverse ++ .ref b :: rest) (hW : (rest.map fun v => v.category).sum ≤ 8) (hdg : decode cc pc = .ok (.invokespecial index, 3)) (hf : cells + rm.cells ≤ R.cells ∧ slots + rm.slots ≤ R.slots)
    (kk : ∀ (u : U) (H1 : Heap) (locs1 : List Loc), Stt D A0 H0 (ws ++ w1 u) H1 locs1 → W p l e R s m args below meth c H1 locs1 (cells + rm.cells) (slots + rm.slots) Q (F0 m (pc + 3) ls rest)) : W p l e R s m args below meth c H locs cells slots Q (F0 m pc ls st) := by
  have hone : va_P D clG [(b, f0)] H := by
    intro k q hq
    have hz : k < 1 := (List.getElem?_eq_some_iff.mp hq).1
    rw [show k = 0 by omega] at hq
    exact hS.1 ws.length q (by rw [List.getElem?_append_right (Nat.le_refl _), Nat.sub_self]; exact hq)
  have hdo : va_D (fun _ => True) [(b, f0)] := by
    refine ⟨fun i j p q hp hq _ => ?_, fun _ _ _ => trivial⟩
    have h1 : i < 1 := (List.getElem?_eq_some_iff.mp hp).1
    have h2 : j < 1 := (List.getElem?_eq_some_iff.mp hq).1
    omega
  exact fw_nback (va_runIN (Ts := lw_all) (g := F0 m pc ls st) ⟨hx, hb, hml, hown, hts⟩ hM cw ⟨fun _ _ _ _ q => ⟨q.1, q.2.1, q.2.2.1, q.2.2.2.1.calling, q.2.2.2.2⟩, fun U hU hW => ⟨rfl, by rw [hU], by rw [hU]; exact hone, hG.warm hW, hdo⟩⟩ rfl hn hsize hstack (lv_room (ls := ls) hW) hdg hf) hS hA kk
/-- the same, of an ordinary link -/
theorem fwNI {U : Type} {w1 : U → va_W} {f0 : va_E} (hx : p.tables.exec = Jvm.exec) (hb : c.code = cc) (hml : c.maxLocals = nL) (hown : s.vm.findClass own = some m.cls) (hts : ∀ w ∈ lw_all, w.before args s = true)
    (hM : Met l y (ws_ y bytes maxL none) rm (va_Pc (.ref b :: As) (WPc D ac [(b, f0)] H.size)) (QN D w1 (va_A [(b, f0)] H.size)) rm.cells rm.slots (va_A [(b, f0)] H.size)) (cw : CallB R s args own index y bytes maxL none (ws_ y bytes maxL none) rm rm.cells rm.slots n ∧ y.name = "<init>" ∧ (Cond.instanceMethod y).before args s = true) (hG : GK D ac s) (hS : Stt D A0 H0 (ws ++ [(b, f0)]) H locs) (hA : ∀ q, H0.size ≤ q → A0 q)
    (hn : As.length = n) (hsize : ls.size = nL) (hstack : st = As.reverse ++ .ref b :: rest) (hW : (rest.map fun v => v.category).sum ≤ 8) (hdg : decode cc pc = .ok (.invokespecial index, 3)) (hf : cells + rm.cells ≤ R.cells ∧ slots + rm.slots ≤ R.slots)
    (kk : ∀ (u : U) (H1 : Heap) (locs1 : List Loc), Stt D A0 H0 (ws ++ w1 u) H1 locs1 → W p l e R s m args below meth c H1 locs1 (cells + rm.cells) (slots + rm.slots) Q (F0 m (pc + 3) ls rest)) : W p l e R s m args below meth c H locs cells slots Q (F0 m pc ls st) := by
  have hone : va_P D clG [(b, f0)] H := by
    intro k q hq
    have hz : k < 1 := (List.getElem?_eq_some_iff.mp hq).1
    rw [show k = 0 by omega] at hq
    exact hS.1 ws.length q (by rw [List.getElem?_append_right (Nat.le_refl _), Nat.sub_self]; exact hq)
  have hdo : va_D (fun _ => True) [(b, f0)] := by
    refine ⟨fun i j p q hp hq _ => ?_, fun _ _ _ => trivial⟩
    have h1 : i < 1 := (List.getElem?_eq_some_iff.mp hp).1
    have h2 : j < 1 := (List.getElem?_eq_some_iff.mp hq).1
    omega
  exact fw_nback (va_runI (Ts := lw_all) (g := F0 m pc ls st) ⟨hx, hb, hml, hown, hts⟩ hM cw ⟨fun _ _ _ _ q => ⟨q.1, q.2.1, q.2.2.1, q.2.2.2.1.calling, q.2.2.2.2⟩, fun U hU hW => ⟨rfl, by rw [hU], by rw [hU]; exact hone, hG.warm hW, hdo⟩⟩ rfl hn hsize hstack (lv_room (ls := ls) hW) hdg hf) hS hA kk
theorem fw_astO (hx : p.tables.exec = Jvm.exec) (hb : c.code = cc) (hG : GK D ac s) (hS : Stt D A0 H0 ws H locs) (q0 t0 qk ci : Nat) {E : String} {r : vw_C} {n v : Nat} {vs : List Value} {f : Nat → Option Nat} (ha : ws[q0]? = some (b, va_ar (ac t0) n f)) (ht : (tyG ac)[t0]? = some (ac t0, .object E)) (hca : va_Nw (.castable r.1 E) s) (hv : ws[qk]? = some (v, .inr (ci, vs))) (hc : clG[ci]? = some r) {i : Int32} (hin : ¬ (i < 0 ∨ n ≤ i.toNatClampNeg)) (hdg : decode cc pc = .ok (.aastore, 1)) {wn : va_W} (hwn : ws.set q0 (b, va_ar (ac t0) n (va_up f i.toNatClampNeg (some v))) = wn)
    (kk : ∀ (H1 : Heap) (locs1 : List Loc), Stt D A0 H0 wn H1 locs1 → W p l e R s m args below meth c H1 locs1 cells slots Q (F0 m (pc + 1) ls rest)) : W p l e R s m args below meth c H locs cells slots Q (F0 m pc ls (.ref v :: .int i :: .ref b :: rest)) := by
  subst hwn
  exact va_astqO hx hb hG.1 hS.1 hS.2.1 hS.2.2 q0 t0 qk ci ha ht hca hv hc hin hdg (fun H1 locs1 h1 h2 h3 => kk H1 locs1 ⟨h1, h2, h3⟩)
end FW5
