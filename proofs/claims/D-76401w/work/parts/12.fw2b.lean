/-! WORLDS: what a method knows, reads and writes -/
def GK (D : va_G) (ac : Nat → ClassId) (U : State) : Prop := va_K D clG (tyG ac) U ∧ (∀ w ∈ nwL, va_Nw w U) ∧ va_AO "CoresAreWills$Kind" U ∧ va_AO "CoresAreWills$Told" U
theorem GK.warm {D : va_G} {ac : Nat → ClassId} {s U : State} (hW : s.WarmedH U.vm) (h : GK D ac s) : GK D ac U :=
  ⟨va_K.moved hW.alike h.1, fun w hw => nwL_warm w hw hW (h.2.1 w hw), va_AO.moved hW.alike h.2.2.1, va_AO.moved hW.alike h.2.2.2⟩
theorem GK.same {D : va_G} {ac : Nat → ClassId} {s U : State} (hv : s.vm = U.vm) (h : GK D ac s) : GK D ac U :=
  ⟨va_K.moved (by rw [hv]; exact Vm.Alike.refl _) h.1, fun w hw => va_Nw.same (nwL_tab w hw) hv (h.2.1 w hw), va_AO.moved (by rw [hv]; exact Vm.Alike.refl _) h.2.2.1, va_AO.moved (by rw [hv]; exact Vm.Alike.refl _) h.2.2.2⟩
theorem GK.calling {D : va_G} {ac : Nat → ClassId} {U : State} {g : JFrame} {mk : MethodId} {a : Array Value} (h : GK D ac U) : GK D ac (U.calling g mk a) := GK.same (s := U) (U := U.calling g mk a) rfl h
/-- what a reader is given -/
def RP (D : va_G) (ac : Nat → ClassId) (ws : va_W) (U : State) : Prop := va_P D clG ws U.heap ∧ GK D ac U
/-- what a writer is given -/
def WPc (D : va_G) (ac : Nat → ClassId) (ws : va_W) (sz : Nat) (U : State) : Prop := U.heap.size = sz ∧ va_P D clG ws U.heap ∧ GK D ac U ∧ va_D (fun _ => True) ws
/-- a writer's end -/
def WQ (D : va_G) (ws' : va_W) (A : Nat → Prop) (v : Option Value) : Array Value → State → Outcome → State → Prop := fun _ st o t => (o = .returned v ∧ va_P D clG ws' t.heap) ∧ va_F A st t
abbrev WM (l : Launch) (y : MethodName) (cc : ByteArray) (maxL : Nat) (ret : Option FieldType) (rm : Room) (vs : List Value) (D : va_G) (ac : Nat → ClassId) (ws ws' : va_W) (sz : Nat) (v : Option Value) : Prop :=
  Met l y (ws_ y cc maxL ret) rm (va_Pc vs (WPc D ac ws sz)) (WQ D ws' (va_A ws sz) v) rm.cells rm.slots (va_A ws sz)
/-- a state of the walk of a writer -/
def Stt (D : va_G) (A : Nat → Prop) (H0 : Heap) (ws : va_W) (H : Heap) (locs : List Loc) : Prop := va_P D clG ws H ∧ va_D A ws ∧ va_S A H0 H locs
abbrev WW (p : Program) (l : Launch) (e : Env) (R : Room) (s : State) (m : MethodId) (vs : List Value) (below : List Frame) (meth : Method) (c : Code) (D : va_G) (ws' : va_W) (A : Nat → Prop) (v : Option Value) (H : Heap) (locs : List Loc) (k n : Nat) (pc : Nat) (ls : Array Slot) (st : List Value) : Prop :=
  W p l e R s m vs.toArray below meth c H locs k n (MQ below (WQ D ws' A v) vs.toArray s R.cells R.slots A) (F0 m pc ls st)
theorem Stt.q {D : va_G} {A : Nat → Prop} {s t : State} {ws : va_W} {H : Heap} {locs : List Loc} {o : Outcome} {v : Option Value} {a : Array Value} (h : Stt D A s.heap ws H locs) (ht : t.heap = H) (ho : o = .returned v) : WQ D ws A v a s o t :=
  ⟨⟨ho, by rw [ht]; exact h.1⟩, h.2.2.F ht⟩
theorem Stt.start {D : va_G} {ws : va_W} {H : Heap} (hP : va_P D clG ws H) (hD : va_D (fun _ => True) ws) : Stt D (va_A ws H.size) H ws H [] := ⟨hP, hD.self, va_S.rf⟩
theorem va_D.congr {A : Nat → Prop} {ws ws' : va_W} (h : va_D A ws) (e : ws'.map Prod.fst = ws.map Prod.fst) : va_D A ws' := by
  have key : ∀ (k : Nat) (q : Nat × va_E), ws'[k]? = some q → ∃ q', ws[k]? = some q' ∧ q'.1 = q.1 := by
    intro k q hq
    have h1 : (ws'.map Prod.fst)[k]? = some q.1 := by rw [List.getElem?_map, hq]; rfl
    rw [e, List.getElem?_map] at h1
    cases hw : ws[k]? with
    | none => rw [hw] at h1; cases h1
    | some q' => rw [hw] at h1; exact ⟨q', rfl, Option.some.inj h1⟩
  refine ⟨fun i j p q hp hq hpq => ?_, fun k q hk => ?_⟩
  · obtain ⟨p', h1, h2⟩ := key i p hp
    obtain ⟨q', h3, h4⟩ := key j q hq
    exact h.1 i j p' q' h1 h3 (by rw [h2, h4, hpq])
  · obtain ⟨q', h1, h2⟩ := key k q hk
    rw [← h2]; exact h.2 k q' h1
/-- the places is of ws now hold w1 -/
def rep : List Nat → va_W → va_W → va_W
  | i :: is, w :: w1, ws => rep is w1 (ws.set i w)
  | _, _, ws => ws
theorem rep_get : ∀ (is : List Nat) (w1 ws : va_W), is.length = w1.length → ∀ (k : Nat) (q : Nat × va_E), (rep is w1 ws)[k]? = some q → (∃ j : Nat, is[j]? = some k ∧ w1[j]? = some q) ∨ (k ∉ is ∧ ws[k]? = some q)
  | [], [], ws, _, k, q, h => Or.inr ⟨List.not_mem_nil, h⟩
  | i :: is, w :: w1, ws, hl, k, q, h => by
    rcases rep_get is w1 (ws.set i w) (by simpa using hl) k q h with ⟨j, h1, h2⟩ | ⟨h1, h2⟩
    · exact Or.inl ⟨j + 1, by simpa using h1, by simpa using h2⟩
    · by_cases hk : i = k
      · subst hk
        have hlt : i < (ws.set i w).length := (List.getElem?_eq_some_iff.mp h2).1
        rw [List.getElem?_set_self (by simpa using hlt)] at h2
        exact Or.inl ⟨0, rfl, h2⟩
      · rw [List.getElem?_set_ne hk] at h2
        exact Or.inr ⟨fun hm => by rcases List.mem_cons.mp hm with e | e; exact hk e.symm; exact h1 e, h2⟩
theorem rep_adr : ∀ (is : List Nat) (w1 ws wc : va_W), is.map (fun i => ws[i]?) = wc.map some → w1.map Prod.fst = wc.map Prod.fst → (rep is w1 ws).map Prod.fst = ws.map Prod.fst
  | [], [], ws, wc, _, _ => rfl
  | [], _ :: _, ws, wc, h, h2 => by cases wc with | nil => cases h2 | cons a b => cases h
  | i :: is, [], ws, wc, h, h2 => by cases wc with | nil => cases h | cons a b => cases h2
  | i :: is, w :: w1, ws, [], h, h2 => by cases h
  | i :: is, w :: w1, ws, c :: wc, h, h2 => by
    simp only [List.map_cons, List.cons.injEq] at h h2
    have hi : (ws.map Prod.fst)[i]? = some c.1 := by rw [List.getElem?_map, h.1]; rfl
    have e1 : (ws.set i w).map Prod.fst = ws.map Prod.fst := by
      rw [List.map_set, h2.1]
      apply List.ext_getElem?
      intro n
      by_cases hn : i = n
      · subst hn
        rw [List.getElem?_set_self (by exact (List.getElem?_eq_some_iff.mp hi).1), hi]
      · rw [List.getElem?_set_ne hn]
    -- the later places may read what was set; their addresses are the same
    have h3 : (is.map (fun i => (ws.set i w)[i]?)).length = (is.map (fun i => (ws.set i w)[i]?)).length := rfl
    rw [rep]
    have key : ∀ (is : List Nat) (w1 wc ws : va_W), is.map (fun i => (ws.map Prod.fst)[i]?) = (wc.map Prod.fst).map some → w1.map Prod.fst = wc.map Prod.fst → (rep is w1 ws).map Prod.fst = ws.map Prod.fst := by
      intro is
      induction is with
      | nil => intro w1 wc ws _ _; cases w1 <;> rfl
      | cons i is ih =>
        intro w1 wc ws g g2
        cases wc with
        | nil => cases g
        | cons c wc =>
          cases w1 with
          | nil => cases g2
          | cons w w1 =>
            simp only [List.map_cons, List.cons.injEq] at g g2
            have e1 : (ws.set i w).map Prod.fst = ws.map Prod.fst := by
              rw [List.map_set, g2.1]
              apply List.ext_getElem?
              intro n
              by_cases hn : i = n
              · subst hn
                rw [List.getElem?_set_self (by exact (List.getElem?_eq_some_iff.mp g.1).1), g.1]
              · rw [List.getElem?_set_ne hn]
            rw [rep, ih w1 wc (ws.set i w) (by rw [e1]; exact g.2) g2.2, e1]
    have g : is.map (fun i => (ws.map Prod.fst)[i]?) = (wc.map Prod.fst).map some := by
      have := congrArg (List.map (fun (o : Option (Nat × va_E)) => o.map Prod.fst)) h.2
      simp only [List.map_map] at this ⊢
      simpa [Function.comp_def, List.getElem?_map] using this
    rw [key is w1 wc (ws.set i w) (by rw [e1]; exact g) h2.2, e1]
theorem Stt.join {D : va_G} {A0 : Nat → Prop} {H0 : Heap} {ws wc w1 : va_W} {H H1 : Heap} {locs locs1 : List Loc} (h : Stt D A0 H0 ws H locs) (is : List Nat) (hC : is.map (fun i => ws[i]?) = wc.map some)
    (hk : ∀ q : Nat, q < H.size → ¬ va_A wc H.size q → H1[q]? = H[q]?) (hP1 : va_P D clG w1 H1) (hadr : w1.map Prod.fst = wc.map Prod.fst) (hS1 : va_S A0 H0 H1 locs1) : Stt D A0 H0 (rep is w1 ws) H1 locs1 := by
  have hlen : is.length = w1.length := by
    have h1 := congrArg List.length hC
    have h2 := congrArg List.length hadr
    simp at h1 h2
    omega
  have hat : ∀ (j : Nat) (q : Nat × va_E), wc[j]? = some q → ∃ i, is[j]? = some i ∧ ws[i]? = some q := by
    intro j q hq
    have h1 : (is.map (fun i => ws[i]?))[j]? = some (some q) := by rw [hC, List.getElem?_map, hq]; rfl
    rw [List.getElem?_map] at h1
    cases hi : is[j]? with
    | none => rw [hi] at h1; cases h1
    | some i => rw [hi] at h1; exact ⟨i, rfl, Option.some.inj h1⟩
  refine ⟨fun k q hq => ?_, h.2.1.congr (rep_adr is w1 ws wc hC hadr), hS1⟩
  rcases rep_get is w1 ws hlen k q hq with ⟨j, h1, h2⟩ | ⟨h1, h2⟩
  · exact hP1 j q h2
  · refine (h.1 k q h2).kept (hk q.1 (h.1 k q h2).lt ?_)
    rintro (⟨j, e, hj⟩ | hj)
    · obtain ⟨i, h3, h4⟩ := hat j _ hj
      have := h.2.1.1 k i q _ h2 h4 rfl
      subst this
      exact h1 (List.mem_of_getElem? h3)
    · exact absurd (h.1 k q h2).lt (by omega)
theorem Stt.free {D : va_G} {A0 : Nat → Prop} {H0 : Heap} {ws wc : va_W} {H : Heap} {locs : List Loc} (h : Stt D A0 H0 ws H locs) (hA : ∀ q, H0.size ≤ q → A0 q) (is : List Nat) (hC : is.map (fun i => ws[i]?) = wc.map some) : ∀ q, va_A wc H.size q → A0 q := va_free h.2.1 h.2.2 hA is hC
theorem Stt.sub {D : va_G} {A0 : Nat → Prop} {H0 : Heap} {ws wc : va_W} {H : Heap} {locs : List Loc} (h : Stt D A0 H0 ws H locs) (is : List Nat) (hC : is.map (fun i => ws[i]?) = wc.map some) : va_P D clG wc H := by
  intro k q hq
  have h1 : (is.map (fun i => ws[i]?))[k]? = some (some q) := by rw [hC, List.getElem?_map, hq]; rfl
  rw [List.getElem?_map] at h1
  cases hi : is[k]? with
  | none => rw [hi] at h1; cases h1
  | some i => rw [hi] at h1; exact h.1 i q (Option.some.inj h1)
theorem va_P.pick {D : va_G} {ws wc : va_W} {H : Heap} (h : va_P D clG ws H) (is : List Nat) (hC : is.map (fun i => ws[i]?) = wc.map some) : va_P D clG wc H := by
  intro k q hq
  have h1 : (is.map (fun i => ws[i]?))[k]? = some (some q) := by rw [hC, List.getElem?_map, hq]; rfl
  rw [List.getElem?_map] at h1
  cases hi : is[k]? with
  | none => rw [hi] at h1; cases h1
  | some i => rw [hi] at h1; exact h i q (Option.some.inj h1)
section FW2
variable {p : Program} {l : Launch} {e : Env} {R : Room} {s : State} {m : MethodId} {args : Array Value} {below : List Frame} {meth : Method} {c : Code} {H : Heap} {locs : List Loc} {cells slots : Nat} {Q : State → Prop} {ls : Array Slot}
variable {y : MethodName} {bytes cc : ByteArray} {maxL nL n index : Nat} {ret : Option FieldType} {rm : Room} {As rest st : List Value} {v : Option Value} {own C : String} {pc : Nat} {D : va_G} {ac : Nat → ClassId} {ws wc wc' : va_W} {A0 : Nat → Prop} {H0 : Heap} {b : Nat}
/-- a call that only reads, through an object of a class that clG lists -/
theorem fwRV (hx : p.tables.exec = Jvm.exec) (hb : c.code = cc) (hml : c.maxLocals = nL) (hown : s.vm.findClass own = some m.cls) (hts : ∀ w ∈ lw_all, w.before args s = true)
    (hM : PM l y bytes maxL ret rm (.ref b :: As) (RP D ac wc) v) (cw : CallW R s args own C index y bytes maxL ret (ws_ y bytes maxL ret) rm 0 0 n) (hG : GK D ac s) (hP : va_P D clG ws H) (hPc : va_P D clG wc H) (q0 ci : Nat) {T : u_T} {N : Nat} {fs : List Value} (hc : clG[ci]? = some (C, T, N)) (he : ws[q0]? = some (b, .inr (ci, fs)))
    (hn : As.length = n) (hsize : ls.size = nL) (hstack : st = As.reverse ++ .ref b :: rest) (hW : (rest.map fun v => v.category).sum ≤ 8) (hdg : decode cc pc = .ok (.invokevirtual index, 3)) (hf : cells ≤ R.cells ∧ slots ≤ R.slots)
    (kk : W p l e R s m args below meth c H locs cells slots Q (F0 m (pc + 3) ls (v.toList ++ rest))) : W p l e R s m args below meth c H locs cells slots Q (F0 m pc ls st) :=
  fw_back (va_runV (Ts := lw_all) (g := F0 m pc ls st) ⟨hx, hb, hml, hown, hts⟩ hM cw ⟨fun _ _ _ _ q => ⟨q.1, q.2.1, q.2.2.calling⟩, va_recv hG.1 hP hc he, fun U hU hW => ⟨rfl, by rw [hU]; exact hPc, hG.warm hW⟩⟩ rfl hn hsize hstack (lv_room (ls := ls) hW) hdg hf) kk
/-- a call through an object that neither reads nor writes -/
theorem fwPV (hx : p.tables.exec = Jvm.exec) (hb : c.code = cc) (hml : c.maxLocals = nL) (hown : s.vm.findClass own = some m.cls) (hts : ∀ w ∈ lw_all, w.before args s = true)
    (hM : PM l y bytes maxL ret rm (.ref b :: As) (fun _ => True) v) (cw : CallW R s args own C index y bytes maxL ret (ws_ y bytes maxL ret) rm 0 0 n) (hG : GK D ac s) (hP : va_P D clG ws H) (q0 ci : Nat) {T : u_T} {N : Nat} {fs : List Value} (hc : clG[ci]? = some (C, T, N)) (he : ws[q0]? = some (b, .inr (ci, fs)))
    (hn : As.length = n) (hsize : ls.size = nL) (hstack : st = As.reverse ++ .ref b :: rest) (hW : (rest.map fun v => v.category).sum ≤ 8) (hdg : decode cc pc = .ok (.invokevirtual index, 3)) (hf : cells ≤ R.cells ∧ slots ≤ R.slots)
    (kk : W p l e R s m args below meth c H locs cells slots Q (F0 m (pc + 3) ls (v.toList ++ rest))) : W p l e R s m args below meth c H locs cells slots Q (F0 m pc ls st) :=
  fw_back (va_runV (Ts := lw_all) (g := F0 m pc ls st) ⟨hx, hb, hml, hown, hts⟩ hM cw ⟨fun _ _ _ _ q => q, va_recv hG.1 hP hc he, fun U hU hW => ⟨rfl, trivial⟩⟩ rfl hn hsize hstack (lv_room (ls := ls) hW) hdg hf) kk
/-- behind a writer's call -/
theorem fw_wback {mc ms : Nat} {g : JFrame} {a : Array Value} (hr : va_Run p l e R s m args below meth c H locs cells slots mc ms g rest (WQ D wc' (va_A wc H.size) v a) (va_A wc H.size)) (hS : Stt D A0 H0 ws H locs) (hA : ∀ q, H0.size ≤ q → A0 q) (is : List Nat) (hC : is.map (fun i => ws[i]?) = wc.map some) (hadr : wc'.map Prod.fst = wc.map Prod.fst)
    (kk : ∀ (H1 : Heap) (locs1 : List Loc), Stt D A0 H0 (rep is wc' ws) H1 locs1 → W p l e R s m args below meth c H1 locs1 (cells + mc) (slots + ms) Q { g with pc := g.pc + 3, stack := v.toList ++ rest }) : W p l e R s m args below meth c H locs cells slots Q g := by
  have hF := hS.free hA is hC
  intro T hT X
  obtain ⟨v', st₀, t, T', L, h0, X', hL, e1, e2, ⟨⟨hv, hP1⟩, hz, hk⟩, st⟩ := hr T hT X
  cases hv
  rw [h0] at hz hk
  have hS2 : va_S A0 H0 T'.heap (locs ++ L) := ⟨Nat.le_trans hS.2.2.1 (by rw [e1]; exact hz), fun q h1 h2 => by rw [e1, hk q (Nat.lt_of_lt_of_le h1 hS.2.2.1) (fun z => h2 (hF q z))]; exact hS.2.2.2.1 q h1 h2, fun q hq => by
      rcases List.mem_append.mp hq with h | h
      · exact hS.2.2.2.2 q h
      · exact hF _ (hL q h)⟩
  obtain ⟨t2, a1, b1⟩ := kk T'.heap (locs ++ L) (hS.join is hC (fun q h1 h2 => by rw [e1]; exact hk q h1 h2) (by rw [e1]; exact hP1) hadr hS2) T' rfl X'
  exact ⟨t2, st t2 a1, b1⟩
theorem fwWV (hx : p.tables.exec = Jvm.exec) (hb : c.code = cc) (hml : c.maxLocals = nL) (hown : s.vm.findClass own = some m.cls) (hts : ∀ w ∈ lw_all, w.before args s = true)
    (hM : WM l y bytes maxL ret rm (.ref b :: As) D ac wc wc' H.size v) (cw : CallW R s args own C index y bytes maxL ret (ws_ y bytes maxL ret) rm rm.cells rm.slots n) (hG : GK D ac s) (hS : Stt D A0 H0 ws H locs) (hA : ∀ q, H0.size ≤ q → A0 q) (is : List Nat) (hnd : va_nd is = true) (hC : is.map (fun i => ws[i]?) = wc.map some) (hadr : wc'.map Prod.fst = wc.map Prod.fst) (q0 ci : Nat) {T : u_T} {N : Nat} {fs : List Value} (hc : clG[ci]? = some (C, T, N)) (he : ws[q0]? = some (b, .inr (ci, fs)))
    (hn : As.length = n) (hsize : ls.size = nL) (hstack : st = As.reverse ++ .ref b :: rest) (hW : (rest.map fun v => v.category).sum ≤ 8) (hdg : decode cc pc = .ok (.invokevirtual index, 3)) (hf : cells + rm.cells ≤ R.cells ∧ slots + rm.slots ≤ R.slots) {wn : va_W} (hwn : rep is wc' ws = wn)
    (kk : ∀ (H1 : Heap) (locs1 : List Loc), Stt D A0 H0 wn H1 locs1 → W p l e R s m args below meth c H1 locs1 (cells + rm.cells) (slots + rm.slots) Q (F0 m (pc + 3) ls (v.toList ++ rest))) : W p l e R s m args below meth c H locs cells slots Q (F0 m pc ls st) := by
  subst hwn
  exact fw_wback (va_runV (Ts := lw_all) (g := F0 m pc ls st) ⟨hx, hb, hml, hown, hts⟩ hM cw ⟨fun _ _ _ _ q => ⟨q.1, q.2.1, q.2.2.1, q.2.2.2.1.calling, q.2.2.2.2⟩, va_recv hG.1 hS.1 hc he, fun U hU hW => ⟨rfl, by rw [hU], by rw [hU]; exact hS.sub is hC, hG.warm hW, (hS.2.1.sub is hnd hC).weaken (fun _ _ _ _ => trivial)⟩⟩ rfl hn hsize hstack (lv_room (ls := ls) hW) hdg hf) hS hA is hC hadr kk
/-- the same for a writer whose world is the caller's -/
theorem fwWVs (hx : p.tables.exec = Jvm.exec) (hb : c.code = cc) (hml : c.maxLocals = nL) (hown : s.vm.findClass own = some m.cls) (hts : ∀ w ∈ lw_all, w.before args s = true)
    (hM : WM l y bytes maxL ret rm (.ref b :: As) D ac ws wc' H.size v) (cw : CallW R s args own C index y bytes maxL ret (ws_ y bytes maxL ret) rm rm.cells rm.slots n) (hG : GK D ac s) (hS : Stt D A0 H0 ws H locs) (hA : ∀ q, H0.size ≤ q → A0 q) (hadr : wc'.map Prod.fst = ws.map Prod.fst) (q0 ci : Nat) {T : u_T} {N : Nat} {fs : List Value} (hc : clG[ci]? = some (C, T, N)) (he : ws[q0]? = some (b, .inr (ci, fs)))
    (hn : As.length = n) (hsize : ls.size = nL) (hstack : st = As.reverse ++ .ref b :: rest) (hW : (rest.map fun v => v.category).sum ≤ 8) (hdg : decode cc pc = .ok (.invokevirtual index, 3)) (hf : cells + rm.cells ≤ R.cells ∧ slots + rm.slots ≤ R.slots)
    (kk : ∀ (H1 : Heap) (locs1 : List Loc), Stt D A0 H0 wc' H1 locs1 → W p l e R s m args below meth c H1 locs1 (cells + rm.cells) (slots + rm.slots) Q (F0 m (pc + 3) ls (v.toList ++ rest))) : W p l e R s m args below meth c H locs cells slots Q (F0 m pc ls st) := by
  have hF : ∀ q, va_A ws H.size q → A0 q := by
    rintro q (⟨k, e, h⟩ | h)
    · exact hS.2.1.2 k _ h
    · exact hA q (Nat.le_trans hS.2.2.1 h)
  have hr := va_runV (Ts := lw_all) (rest := rest) (l := l) (e := e) (below := below) (meth := meth) (locs := locs) (cells := cells) (slots := slots) (H := H) (g := F0 m pc ls st) ⟨hx, hb, hml, hown, hts⟩ hM cw ⟨fun _ _ _ _ q => ⟨q.1, q.2.1, q.2.2.1, q.2.2.2.1.calling, q.2.2.2.2⟩, va_recv hG.1 hS.1 hc he, fun U hU hW => ⟨rfl, by rw [hU], by rw [hU]; exact hS.1, hG.warm hW, hS.2.1.weaken (fun _ _ _ _ => trivial)⟩⟩ rfl hn hsize hstack (lv_room (ls := ls) hW) hdg hf
  intro T hT X
  obtain ⟨v', st₀, t, T', L, h0, X', hL, e1, e2, ⟨⟨hv, hP1⟩, hz, hk⟩, st⟩ := hr T hT X
  cases hv
  rw [h0] at hz hk
  have hS2 : va_S A0 H0 T'.heap (locs ++ L) := ⟨Nat.le_trans hS.2.2.1 (by rw [e1]; exact hz), fun q h1 h2 => by rw [e1, hk q (Nat.lt_of_lt_of_le h1 hS.2.2.1) (fun z => h2 (hF q z))]; exact hS.2.2.2.1 q h1 h2, fun q hq => by
      rcases List.mem_append.mp hq with h | h
      · exact hS.2.2.2.2 q h
      · exact hF _ (hL q h)⟩
  obtain ⟨t2, a1, b1⟩ := kk T'.heap (locs ++ L) ⟨by rw [e1]; exact hP1, hS.2.1.congr hadr, hS2⟩ T' rfl X'
  exact ⟨t2, st t2 a1, b1⟩
/-- a field is written -/
theorem fw_put (hx : p.tables.exec = Jvm.exec) (hb : c.code = cc) {ref : String} {T : u_T} {N ci : Nat} (hts : ∀ w ∈ lw_all, w.before args s = true) (hin : ∀ w ∈ u_ws C T N, w ∈ lw_all) (ty0 : Nat → FieldType) (hty : ∀ k, k < N → parseFieldDescriptor (T k).2.2.1 = some (ty0 k)) (hnm : ∀ a, a < N → ∀ b, b < N → a ≠ b → (T a).2.1 ≠ (T b).2.1) (hown : s.vm.findClass own = some m.cls) (hG : GK D ac s) (hS : Stt D A0 H0 ws H locs) (q0 : Nat) {fs : List Value} (he : ws[q0]? = some (b, .inr (ci, fs))) (hc : clG[ci]? = some (C, T, N)) (k : Nat) (hk : k < N) (hlink : (Cond.fieldLink own index ref (T k).2.1 (T k).2.2.1).before args s = true) (hsame : ∀ x, s.fieldFound? (T k).1 (T k).2.1 (T k).2.2.1 = some x → s.fieldFound? ref (T k).2.1 (T k).2.2.1 = some x) (hfin : (T k).2.2.2 = false) {ty : FieldType} {x : Value} (hd : parseFieldDescriptor (T k).2.2.1 = some ty) (hn : narrow ty x = x) (hfit : fits ty x = true) (hl : k < fs.length)
    (hdg : decode cc pc = .ok (.putfield index, 3)) {wn : va_W} (hwn : ws.set q0 (b, .inr (ci, fs.set k x)) = wn) (kk : ∀ (H1 : Heap) (locs1 : List Loc), Stt D A0 H0 wn H1 locs1 → W p l e R s m args below meth c H1 locs1 cells slots Q (F0 m (pc + 3) ls rest)) : W p l e R s m args below meth c H locs cells slots Q (F0 m pc ls (x :: .ref b :: rest)) := by
  subst hwn
  exact va_put hx hb hts hin ty0 hty hnm hown hG.1 hS.1 hS.2.1 hS.2.2 q0 he hc k hk hlink hsame hfin hd hn hfit hl hdg (fun H1 locs1 a b c => kk H1 locs1 ⟨a, b, c⟩)
theorem fw_iast (hx : p.tables.exec = Jvm.exec) (hb : c.code = cc) (hG : GK D ac s) (hS : Stt D A0 H0 ws H locs) (q0 : Nat) {n : Nat} {f : Nat → Int32} (ha : ws[q0]? = some (b, va_ai (ac 0) n f)) {i x : Int32} (hin : ¬ (i < 0 ∨ n ≤ i.toNatClampNeg)) (hdg : decode cc pc = .ok (.iastore, 1)) {wn : va_W} (hwn : ws.set q0 (b, va_ai (ac 0) n (upd f i.toNatClampNeg x)) = wn)
    (kk : ∀ (H1 : Heap) (locs1 : List Loc), Stt D A0 H0 wn H1 locs1 → W p l e R s m args below meth c H1 locs1 cells slots Q (F0 m (pc + 1) ls rest)) : W p l e R s m args below meth c H locs cells slots Q (F0 m pc ls (.int x :: .int i :: .ref b :: rest)) := by
  subst hwn
  exact va_iast hx hb hG.1 hS.1 hS.2.1 hS.2.2 q0 0 ha rfl hin hdg (fun H1 locs1 a b c => kk H1 locs1 ⟨a, b, c⟩)
end FW2
