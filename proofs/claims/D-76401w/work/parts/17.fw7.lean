/-! CONTRACTS OF METHODS THAT MAY THROW: the def says which -/
def ZZ (A : Nat → Prop) (U : State) (H : Heap) : Prop := vx_Zq Bundle.tN "UNASSIGNED_STACK" Bundle.steD A U H ∧ vx_Zq Bundle.tN "SUPPRESSED_SENTINEL" Bundle.listD A U H
theorem ZZ.kept {A : Nat → Prop} {U : State} {H H1 : Heap} (h : ZZ A U H) (hq : ∀ a : Nat, a < H.size → ¬ A a → H1[a]? = H[a]?) : ZZ A U H1 := ⟨h.1.kept hq, h.2.kept hq⟩
theorem ZZ.narrow {A B : Nat → Prop} {U : State} {H : Heap} (h : ZZ A U H) (hAB : ∀ q, B q → A q) : ZZ B U H := ⟨h.1.narrow hAB, h.2.narrow hAB⟩
theorem ZZ.moved {A : Nat → Prop} {u U : State} {H : Heap} (hvm : u.vm.Alike U.vm) (h : ZZ A u H) : ZZ A U H := ⟨h.1.moved hvm, h.2.moved hvm⟩
/-- what a method that may throw is given -/
def TPc (D : va_G) (ac : Nat → ClassId) (ws : va_W) (sz : Nat) (U : State) : Prop := WPc D ac ws sz U ∧ ZZ (va_A ws sz) U U.heap
/-- its object and its number -/
def XX (D : va_G) (ws' : va_W) (A : Nat → Prop) (n : Int32) : Addr → State → State → Prop := fun q st t => (∃ ci : Nat, (ci = 9 ∨ ci = 11) ∧ va_P D clG (ws' ++ [(q, .inr (ci, [.int n]))]) t.heap ∧ va_D A (ws' ++ [(q, .inr (ci, [.int n]))])) ∧ va_F A st t
abbrev Oc : Type := (va_W × Option Value) ⊕ (va_W × Int32)
def TQ (D : va_G) (A : Nat → Prop) (r : Oc) : Array Value → State → Outcome → State → Prop := fun a st o t => match r with
  | .inl u => WQ D u.1 A u.2 a st o t
  | .inr _ => False
def TX (D : va_G) (A : Nat → Prop) (r : Oc) : Addr → State → State → Prop := fun q st t => match r with
  | .inl _ => False
  | .inr u => XX D u.1 A u.2 q st t
abbrev TM (l : Launch) (y : MethodName) (cc : ByteArray) (maxL : Nat) (ret : Option FieldType) (rm : Room) (vs : List Value) (D : va_G) (ac : Nat → ClassId) (ws : va_W) (sz : Nat) (r : Oc) : Prop :=
  xx_Met l y (ws_ y cc maxL ret) rm (va_Pc vs (TPc D ac ws sz)) (TQ D (va_A ws sz) r) (TX D (va_A ws sz) r) rm.cells rm.slots (va_A ws sz)
abbrev WT (p : Program) (l : Launch) (e : Env) (R : Room) (s : State) (m : MethodId) (vs : List Value) (below : List Frame) (meth : Method) (c : Code) (D : va_G) (A : Nat → Prop) (r : Oc) (H : Heap) (locs : List Loc) (k n : Nat) (pc : Nat) (ls : Array Slot) (st : List Value) : Prop :=
  W p l e R s m vs.toArray below meth c H locs k n (xx_MQ below (TQ D A r) (TX D A r) vs.toArray s R.cells R.slots A) (F0 m pc ls st)
/-- a call that may throw: goes on, or not -/
def bX {α β ρ γ : Type} (x : Option (α ⊕ β)) (thr : β → γ) (f : α → Option (ρ ⊕ γ)) : Option (ρ ⊕ γ) := x.bind fun o => match o with
  | .inl u => f u
  | .inr b => some (.inr (thr b))
theorem br_bX {α β ρ γ : Type} {x : Option (α ⊕ β)} {thr : β → γ} {f : α → Option (ρ ⊕ γ)} {r0 : ρ ⊕ γ} (h : bX x thr f = some r0) : (∃ u, x = some (Sum.inl u) ∧ f u = some r0) ∨ (∃ b, x = some (Sum.inr b) ∧ Sum.inr (thr b) = r0) := by
  cases x with
  | none => cases h
  | some o =>
    cases o with
    | inl u => exact Or.inl ⟨u, rfl, h⟩
    | inr b => exact Or.inr ⟨b, rfl, Option.some.inj h⟩
theorem fw_ofT {l : Launch} {y : MethodName} {cc : ByteArray} {maxL : Nat} {ret : Option FieldType} {rm : Room} {vs : List Value} {PU : State → Prop} {Qc : Array Value → State → Outcome → State → Prop} {XC : Addr → State → State → Prop} {mc ms : Nat} {free : Addr → Prop} (hy : plainName y.cls = true) (hlen : (lg_sl vs).length ≤ maxL)
    (body : ∀ (p : Program) (e : Env) (s : State) (m : MethodId) (below : List Frame) (meth : Method) (c : Code) (ls : Array Slot), p.tables.exec = Jvm.exec → c.code = cc → meth.sig.returnType = ret → (∀ w ∈ lw_all, w.before vs.toArray s = true) → s.vm.findClass y.cls = some m.cls → meth.locks = false → c.maxLocals = maxL → meth.name = y.name → (∀ x ∈ c.exceptionTable.toList, False) → PU s → lv_has ls maxL (lv_args 0 vs) →
      W p l e rm s m vs.toArray below meth c s.heap [] 0 0 (xx_MQ below Qc XC vs.toArray s mc ms free) (F0 m 0 ls [])) : xx_Met l y (ws_ y cc maxL ret) rm (va_Pc vs PU) Qc XC mc ms free := by
  refine xx_ofW (cc := cc) (maxL := maxL) (ret := ret) hy rfl ?_
  intro p e s m args below meth c s₁ B hml hnt hv
  obtain ⟨rfl, hv⟩ := hv
  have hts := atoms_spec (ws := ws_ y cc maxL ret) B.pre
  have hl := lv_entry vs (n := maxL) hlen
  rw [lg_entry_eq]
  exact body p e s m below meth c _ B.exec B.bytes B.returns (fun w h => hts w (List.mem_cons_of_mem _ h)) (findClass_of_methodNamed B.named) B.notSynchronized hml (name_of_methodNamed B.named B.method).1 hnt hv hl
theorem cls_of {D : va_G} {ac : Nat → ClassId} {s : State} {H : Heap} {ws : va_W} {q ci : Nat} {n : Int32} (hG : GK D ac s) (hP : va_P D clG (ws ++ [(q, .inr (ci, [.int n]))]) H) (hci : ci = 9 ∨ ci = 11) : ∃ (E : String) (ce : Cell), (ci = 9 ∧ E = RX11 ∨ ci = 11 ∧ E = RX13) ∧ H[q]? = some ce ∧ ce.vm = .none ∧ s.vm.findClass E = some ce.cls := by
  have he : (ws ++ [(q, (Sum.inr (ci, [Value.int n]) : va_E))])[ws.length]? = some (q, .inr (ci, [.int n])) := by
    rw [List.getElem?_append_right (Nat.le_refl _), Nat.sub_self]; rfl
  obtain ⟨r, h1, cell, g1, g2, g3, -⟩ := hP _ _ he
  rcases hci with rfl | rfl
  · cases h1
    exact ⟨_, cell, Or.inl ⟨rfl, rfl⟩, g1, g3, by rw [g2]; exact (hG.1.1 9 _ rfl).2.1⟩
  · cases h1
    exact ⟨_, cell, Or.inr ⟨rfl, rfl⟩, g1, g3, by rw [g2]; exact (hG.1.1 11 _ rfl).2.1⟩
section FW7
variable {p : Program} {l : Launch} {e : Env} {R : Room} {s : State} {m : MethodId} {args : Array Value} {below : List Frame} {meth : Method} {c : Code} {H : Heap} {locs : List Loc} {cells slots : Nat} {Q : State → Prop} {ls : Array Slot}
variable {y : MethodName} {bytes cc : ByteArray} {maxL nL n index : Nat} {ret : Option FieldType} {rm : Room} {As rest st : List Value} {v : Option Value} {own C host : String} {pc : Nat} {D : va_G} {ac : Nat → ClassId} {ax : Nat → Nat} {ws wc wc' : va_W} {A0 : Nat → Prop} {H0 : Heap} {b : Nat}
theorem xx_athrow (hexec : p.tables.exec = Jvm.exec) (hb : c.code = cc) {q : Addr} (hdg : decode cc pc = .ok (.athrow, 1)) (k : xx_W p l e R s m args below meth c H locs cells slots Q (F0 m pc ls rest) q) : W p l e R s m args below meth c H locs cells slots Q (F0 m pc ls (.ref q :: rest)) := by
  intro T hT X
  obtain ⟨t, st, hq⟩ := k T hT X
  refine ⟨t, ?_, hq⟩
  have hdg' : decode c.code pc = .ok (.athrow, 1) := by rw [hb]; exact hdg
  jvm_step X.here [X.here.top, hexec, hdg', athrow.wp_sem]
  exact st
/-- not caught here -/
theorem fw_xout {q : Addr} {nn : Int32} {ws' : va_W} {ci : Nat} {mc ms : Nat} (hnt : ∀ x ∈ c.exceptionTable.toList, False) (hlk : meth.locks = false) (hG : GK D ac s) (hci : ci = 9 ∨ ci = 11) (hS : Stt D A0 s.heap (ws' ++ [(q, .inr (ci, [.int nn]))]) H locs) (h1 : cells ≤ mc) (h2 : slots ≤ ms) :
    xx_W p l e R s m args below meth c H locs cells slots (xx_MQ below (TQ D A0 (.inr (ws', nn))) (TX D A0 (.inr (ws', nn))) args s mc ms A0) (F0 m pc ls rest) q := by
  obtain ⟨E, ce, -, g1, g2, g3⟩ := cls_of hG hS.1 hci
  exact xx_out (fun x hx => (hnt x hx).elim) hlk g1 g2 g3 (fun t ht _ => ⟨⟨ci, hci, by rw [ht]; exact hS.1, hS.2.1⟩, hS.2.2.F ht⟩) hS.2.2.2.2 h1 h2
/-- behind a call whose def says that it returns: as a call that can't throw -/
theorem run_ok {mc ms : Nat} {g : JFrame} {a : Array Value} {A : Nat → Prop} {free : Addr → Prop} (hr : xx_Run p l e R s m args below meth c H locs cells slots mc ms g rest (TQ D A (.inl (wc', v)) a) (TX D A (.inl (wc', v))) free) : va_Run p l e R s m args below meth c H locs cells slots mc ms g rest (WQ D wc' A v a) free := by
  intro T hT X
  rcases hr T hT X with ⟨v', st₀, t, T', L, h⟩ | ⟨q, st₀, t, T', L, E, ce, h0, X', hL, e1, e2, hx, -⟩
  · exact ⟨v', st₀, t, T', L, h⟩
  · exact hx.elim
/-- behind a call whose def says that it throws -/
theorem fw_xthr {mc ms : Nat} {st0 : List Value} {a : Array Value} {nn : Int32} (hr : xx_Run p l e R s m args below meth c H locs cells slots mc ms (F0 m pc ls st0) rest (TQ D (va_A wc H.size) (.inr (wc', nn)) a) (TX D (va_A wc H.size) (.inr (wc', nn))) (va_A wc H.size)) (hS : Stt D A0 H0 ws H locs) (hA : ∀ q, H0.size ≤ q → A0 q) (is : List Nat) (hC : is.map (fun i => ws[i]?) = wc.map some) (hadr : wc'.map Prod.fst = wc.map Prod.fst)
    (kx : ∀ (q : Addr) (ci : Nat) (H1 : Heap) (locs1 : List Loc), (ci = 9 ∨ ci = 11) → Stt D A0 H0 (rep is wc' ws ++ [(q, .inr (ci, [.int nn]))]) H1 locs1 → xx_W p l e R s m args below meth c H1 locs1 (cells + mc) (slots + ms) Q (F0 m pc ls rest) q) : W p l e R s m args below meth c H locs cells slots Q (F0 m pc ls st0) := by
  have hF := hS.free hA is hC
  intro T hT X
  rcases hr T hT X with ⟨v', st₀, t, T', L, h0, X', hL, e1, e2, hq, st⟩ | ⟨q, st₀, t, T', L, E, ce, h0, X', hL, e1, e2, ⟨⟨ci, hci, hP1, hD1⟩, hz, hk⟩, -, -, -, st⟩
  · exact hq.elim
  rw [h0] at hz hk
  have hS2 : va_S A0 H0 T'.heap (locs ++ L) := ⟨Nat.le_trans hS.2.2.1 (by rw [e1]; exact hz), fun q h1 h2 => by rw [e1, hk q (Nat.lt_of_lt_of_le h1 hS.2.2.1) (fun z => h2 (hF q z))]; exact hS.2.2.2.1 q h1 h2, fun q hq => by
      rcases List.mem_append.mp hq with h | h
      · exact hS.2.2.2.2 q h
      · exact hF _ (hL q h)⟩
  have hPw : va_P D clG wc' t.heap := by
    intro k q hq
    have hlt := (List.getElem?_eq_some_iff.mp hq).1
    exact hP1 k q (by rw [List.getElem?_append_left hlt]; exact hq)
  have hqe : (wc' ++ [(q, (Sum.inr (ci, [Value.int nn]) : va_E))])[wc'.length]? = some (q, .inr (ci, [.int nn])) := by
    rw [List.getElem?_append_right (Nat.le_refl _), Nat.sub_self]; rfl
  have hJ := hS.join is hC (fun q h1 h2 => by rw [e1]; exact hk q h1 h2) (by rw [e1]; exact hPw) hadr hS2
  have hlen2 := congrArg List.length hadr
  simp only [List.length_map] at hlen2
  -- the thrown object is none of the caller's cells
  have hnew : ∀ (k : Nat) (x : Nat × va_E), (rep is wc' ws)[k]? = some x → x.1 ≠ q := by
    intro k x hx he
    have hlen : is.length = wc'.length := by
      have h1 := congrArg List.length hC
      simp at h1
      omega
    rcases rep_get is wc' ws hlen k x hx with ⟨j, h1, h2⟩ | ⟨h1, h2⟩
    · have hlt := (List.getElem?_eq_some_iff.mp h2).1
      have h3 : (wc' ++ [(q, (Sum.inr (ci, [Value.int nn]) : va_E))])[j]? = some x := by rw [List.getElem?_append_left hlt]; exact h2
      have := hD1.1 j wc'.length x _ h3 hqe he
      omega
    · have hlt := (hS.1 k x h2).lt
      rcases hD1.2 _ _ hqe with ⟨j, e9, hj⟩ | hj
      · have h3 : (is.map (fun i => ws[i]?))[j]? = some (some (q, e9)) := by rw [hC, List.getElem?_map, hj]; rfl
        rw [List.getElem?_map] at h3
        cases hi : is[j]? with
        | none => rw [hi] at h3; cases h3
        | some i =>
          rw [hi] at h3
          have h4 := Option.some.inj h3
          have := hS.2.1.1 k i x (q, e9) h2 h4 he
          subst this
          exact h1 (List.mem_of_getElem? hi)
      · have hj' : H.size ≤ q := hj
        omega
  have hone : va_P D clG [(q, .inr (ci, [.int nn]))] t.heap := by
    intro k x hx
    have hz : k < 1 := (List.getElem?_eq_some_iff.mp hx).1
    rw [show k = 0 by omega] at hx
    cases hx
    exact hP1 _ _ hqe
  have hSt : Stt D A0 H0 (rep is wc' ws ++ [(q, .inr (ci, [.int nn]))]) T'.heap (locs ++ L) := by
    refine ⟨hJ.1.app (by rw [e1]; exact hone), va_D.app hJ.2.1 ⟨fun i j x z hx hz _ => ?_, fun k x hx => ?_⟩ (fun i j x z hx hz => ?_), hS2⟩
    · have h1 : i < 1 := (List.getElem?_eq_some_iff.mp hx).1
      have h2 : j < 1 := (List.getElem?_eq_some_iff.mp hz).1
      omega
    · have h1 : k < 1 := (List.getElem?_eq_some_iff.mp hx).1
      rw [show k = 0 by omega] at hx
      cases hx
      exact hF _ (hD1.2 _ _ hqe)
    · have h2 : j < 1 := (List.getElem?_eq_some_iff.mp hz).1
      rw [show j = 0 by omega] at hz
      cases hz
      exact hnew i x hx
  obtain ⟨t2, a1, b1⟩ := kx q ci T'.heap (locs ++ L) hci hSt T' rfl X'
  exact ⟨t2, st.trans a1, b1⟩
theorem Stt.zz (hZ : ZZ A0 s s.heap) (hS : Stt D A0 s.heap ws H locs) : ZZ A0 s H := hZ.kept hS.2.2.2.1
/-- the start of a call that may throw, through an object -/
theorem pre_TV {T : u_T} {N ci q0 : Nat} {fs : List Value} (hG : GK D ac s) (hZ : ZZ A0 s s.heap) (hS : Stt D A0 s.heap ws H locs) (hA : ∀ q, s.heap.size ≤ q → A0 q) (is : List Nat) (hnd : va_nd is = true) (hC : is.map (fun i => ws[i]?) = wc.map some) (hc : clG[ci]? = some (C, T, N)) (he : ws[q0]? = some (b, .inr (ci, fs))) : PreV s H C b (va_Pc (.ref b :: As) (TPc D ac wc H.size)) As :=
  ⟨fun _ _ _ _ q => ⟨q.1, ⟨q.2.1.1, q.2.1.2.1, q.2.1.2.2.1.calling, q.2.1.2.2.2⟩, ZZ.moved (Vm.Alike.refl _) q.2.2⟩, va_recv hG.1 hS.1 hc he, fun U hU hW => ⟨rfl, ⟨by rw [hU], by rw [hU]; exact hS.sub is hC, hG.warm hW, (hS.2.1.sub is hnd hC).weaken (fun _ _ _ _ => trivial)⟩, by rw [hU]; exact ((hS.zz hZ).narrow (hS.free hA is hC)).moved hW.alike⟩⟩
theorem pre_TS (hG : GK D ac s) (hZ : ZZ A0 s s.heap) (hS : Stt D A0 s.heap ws H locs) (hA : ∀ q, s.heap.size ≤ q → A0 q) (is : List Nat) (hnd : va_nd is = true) (hC : is.map (fun i => ws[i]?) = wc.map some) : PreS s H (va_Pc As (TPc D ac wc H.size)) As :=
  ⟨fun _ _ _ _ q => ⟨q.1, ⟨q.2.1.1, q.2.1.2.1, q.2.1.2.2.1.calling, q.2.1.2.2.2⟩, ZZ.moved (Vm.Alike.refl _) q.2.2⟩, fun U hU hW => ⟨rfl, ⟨by rw [hU], by rw [hU]; exact hS.sub is hC, hG.warm hW, (hS.2.1.sub is hnd hC).weaken (fun _ _ _ _ => trivial)⟩, by rw [hU]; exact ((hS.zz hZ).narrow (hS.free hA is hC)).moved hW.alike⟩⟩
/-- calls that may throw, said to return -/
theorem fwTVo (hx : p.tables.exec = Jvm.exec) (hb : c.code = cc) (hml : c.maxLocals = nL) (hown : s.vm.findClass own = some m.cls) (hts : ∀ w ∈ lw_all, w.before args s = true)
    (hM : TM l y bytes maxL ret rm (.ref b :: As) D ac wc H.size (.inl (wc', v))) (cw : CallW R s args own C index y bytes maxL ret (ws_ y bytes maxL ret) rm rm.cells rm.slots n) (hG : GK D ac s) (hZ : ZZ A0 s s.heap) (hS : Stt D A0 s.heap ws H locs) (hA : ∀ q, s.heap.size ≤ q → A0 q) (is : List Nat) (hnd : va_nd is = true) (hC : is.map (fun i => ws[i]?) = wc.map some) (hadr : wc'.map Prod.fst = wc.map Prod.fst) (q0 ci : Nat) {T : u_T} {N : Nat} {fs : List Value} (hc : clG[ci]? = some (C, T, N)) (he : ws[q0]? = some (b, .inr (ci, fs)))
    (hn : As.length = n) (hsize : ls.size = nL) (hstack : st = As.reverse ++ .ref b :: rest) (hW : (rest.map fun v => v.category).sum ≤ 8) (hdg : decode cc pc = .ok (.invokevirtual index, 3)) (hf : cells + rm.cells ≤ R.cells ∧ slots + rm.slots ≤ R.slots) {wn : va_W} (hwn : rep is wc' ws = wn)
    (kk : ∀ (H1 : Heap) (locs1 : List Loc), Stt D A0 s.heap wn H1 locs1 → W p l e R s m args below meth c H1 locs1 (cells + rm.cells) (slots + rm.slots) Q (F0 m (pc + 3) ls (v.toList ++ rest))) : W p l e R s m args below meth c H locs cells slots Q (F0 m pc ls st) := by
  subst hwn
  exact fw_wback (run_ok (xx_runV (Ts := lw_all) (g := F0 m pc ls st) ⟨hx, hb, hml, hown, hts⟩ hM cw (pre_TV hG hZ hS hA is hnd hC hc he) rfl hn hsize hstack (lv_room (ls := ls) hW) hdg hf)) hS hA is hC hadr kk
theorem fwTSo (hx : p.tables.exec = Jvm.exec) (hb : c.code = cc) (hml : c.maxLocals = nL) (hown : s.vm.findClass own = some m.cls) (hts : ∀ w ∈ lw_all, w.before args s = true)
    (hM : TM l y bytes maxL ret rm As D ac wc H.size (.inl (wc', v))) (cw : CallB R s args own index y bytes maxL ret (ws_ y bytes maxL ret) rm rm.cells rm.slots n ∧ (Cond.static y).before args s = true) (hG : GK D ac s) (hZ : ZZ A0 s s.heap) (hS : Stt D A0 s.heap ws H locs) (hA : ∀ q, s.heap.size ≤ q → A0 q) (is : List Nat) (hnd : va_nd is = true) (hC : is.map (fun i => ws[i]?) = wc.map some) (hadr : wc'.map Prod.fst = wc.map Prod.fst)
    (hn : As.length = n) (hsize : ls.size = nL) (hstack : st = As.reverse ++ rest) (hW : (rest.map fun v => v.category).sum ≤ 8) (hdg : decode cc pc = .ok (.invokestatic index, 3)) (hf : cells + rm.cells ≤ R.cells ∧ slots + rm.slots ≤ R.slots) {wn : va_W} (hwn : rep is wc' ws = wn)
    (kk : ∀ (H1 : Heap) (locs1 : List Loc), Stt D A0 s.heap wn H1 locs1 → W p l e R s m args below meth c H1 locs1 (cells + rm.cells) (slots + rm.slots) Q (F0 m (pc + 3) ls (v.toList ++ rest))) : W p l e R s m args below meth c H locs cells slots Q (F0 m pc ls st) := by
  subst hwn
  exact fw_wback (run_ok (xx_runS (Ts := lw_all) (g := F0 m pc ls st) ⟨hx, hb, hml, hown, hts⟩ hM cw (pre_TS hG hZ hS hA is hnd hC) rfl hn hsize hstack (lv_room (ls := ls) hW) hdg hf)) hS hA is hC hadr kk
/-- calls that may throw, said to throw -/
theorem fwTVx {nn : Int32} (hx : p.tables.exec = Jvm.exec) (hb : c.code = cc) (hml : c.maxLocals = nL) (hown : s.vm.findClass own = some m.cls) (hts : ∀ w ∈ lw_all, w.before args s = true)
    (hM : TM l y bytes maxL ret rm (.ref b :: As) D ac wc H.size (.inr (wc', nn))) (cw : CallW R s args own C index y bytes maxL ret (ws_ y bytes maxL ret) rm rm.cells rm.slots n) (hG : GK D ac s) (hZ : ZZ A0 s s.heap) (hS : Stt D A0 s.heap ws H locs) (hA : ∀ q, s.heap.size ≤ q → A0 q) (is : List Nat) (hnd : va_nd is = true) (hC : is.map (fun i => ws[i]?) = wc.map some) (hadr : wc'.map Prod.fst = wc.map Prod.fst) (q0 ci : Nat) {T : u_T} {N : Nat} {fs : List Value} (hc : clG[ci]? = some (C, T, N)) (he : ws[q0]? = some (b, .inr (ci, fs)))
    (hn : As.length = n) (hsize : ls.size = nL) (hstack : st = As.reverse ++ .ref b :: rest) (hW : (rest.map fun v => v.category).sum ≤ 8) (hdg : decode cc pc = .ok (.invokevirtual index, 3)) (hf : cells + rm.cells ≤ R.cells ∧ slots + rm.slots ≤ R.slots) {wn : va_W} (hwn : rep is wc' ws = wn)
    (kx : ∀ (q : Addr) (ci : Nat) (H1 : Heap) (locs1 : List Loc), (ci = 9 ∨ ci = 11) → Stt D A0 s.heap (wn ++ [(q, .inr (ci, [.int nn]))]) H1 locs1 → xx_W p l e R s m args below meth c H1 locs1 (cells + rm.cells) (slots + rm.slots) Q (F0 m pc ls rest) q) : W p l e R s m args below meth c H locs cells slots Q (F0 m pc ls st) := by
  subst hwn
  exact fw_xthr (xx_runV (Ts := lw_all) (g := F0 m pc ls st) ⟨hx, hb, hml, hown, hts⟩ hM cw (pre_TV hG hZ hS hA is hnd hC hc he) rfl hn hsize hstack (lv_room (ls := ls) hW) hdg hf) hS hA is hC hadr kx
theorem fwTSx {nn : Int32} (hx : p.tables.exec = Jvm.exec) (hb : c.code = cc) (hml : c.maxLocals = nL) (hown : s.vm.findClass own = some m.cls) (hts : ∀ w ∈ lw_all, w.before args s = true)
    (hM : TM l y bytes maxL ret rm As D ac wc H.size (.inr (wc', nn))) (cw : CallB R s args own index y bytes maxL ret (ws_ y bytes maxL ret) rm rm.cells rm.slots n ∧ (Cond.static y).before args s = true) (hG : GK D ac s) (hZ : ZZ A0 s s.heap) (hS : Stt D A0 s.heap ws H locs) (hA : ∀ q, s.heap.size ≤ q → A0 q) (is : List Nat) (hnd : va_nd is = true) (hC : is.map (fun i => ws[i]?) = wc.map some) (hadr : wc'.map Prod.fst = wc.map Prod.fst)
    (hn : As.length = n) (hsize : ls.size = nL) (hstack : st = As.reverse ++ rest) (hW : (rest.map fun v => v.category).sum ≤ 8) (hdg : decode cc pc = .ok (.invokestatic index, 3)) (hf : cells + rm.cells ≤ R.cells ∧ slots + rm.slots ≤ R.slots) {wn : va_W} (hwn : rep is wc' ws = wn)
    (kx : ∀ (q : Addr) (ci : Nat) (H1 : Heap) (locs1 : List Loc), (ci = 9 ∨ ci = 11) → Stt D A0 s.heap (wn ++ [(q, .inr (ci, [.int nn]))]) H1 locs1 → xx_W p l e R s m args below meth c H1 locs1 (cells + rm.cells) (slots + rm.slots) Q (F0 m pc ls rest) q) : W p l e R s m args below meth c H locs cells slots Q (F0 m pc ls st) := by
  subst hwn
  exact fw_xthr (xx_runS (Ts := lw_all) (g := F0 m pc ls st) ⟨hx, hb, hml, hown, hts⟩ hM cw (pre_TS hG hZ hS hA is hnd hC) rfl hn hsize hstack (lv_room (ls := ls) hW) hdg hf) hS hA is hC hadr kx
end FW7
/-- the same within a loop -/
def bXL {α β ρ γ τ : Type} (x : Option (α ⊕ β)) (thr : β → γ) (f : α → Option ((ρ ⊕ γ) ⊕ τ)) : Option ((ρ ⊕ γ) ⊕ τ) := x.bind fun o => match o with
  | .inl u => f u
  | .inr b => some (.inl (.inr (thr b)))
theorem br_bXL {α β ρ γ τ : Type} {x : Option (α ⊕ β)} {thr : β → γ} {f : α → Option ((ρ ⊕ γ) ⊕ τ)} {r0 : (ρ ⊕ γ) ⊕ τ} (h : bXL x thr f = some r0) : (∃ u, x = some (Sum.inl u) ∧ f u = some r0) ∨ (∃ b, x = some (Sum.inr b) ∧ Sum.inl (Sum.inr (thr b)) = r0) := by
  cases x with
  | none => cases h
  | some o =>
    cases o with
    | inl u => exact Or.inl ⟨u, rfl, h⟩
    | inr b => exact Or.inr ⟨b, rfl, Option.some.inj h⟩
def arr0 : Nat → Int32 := fun _ => 0
