/-! CALLS THAT MAY THROW AND GIVE A NEW OBJECT -/
abbrev On : Type := (va_W × va_E) ⊕ (va_W × Int32)
def TQn (D : va_G) (A : Nat → Prop) (r : On) : Array Value → State → Outcome → State → Prop := fun _ st o t => match r with
  | .inl u => (∃ q : Nat, o = .returned (some (.ref q)) ∧ va_P D clG (u.1 ++ [(q, u.2)]) t.heap ∧ va_D A (u.1 ++ [(q, u.2)])) ∧ va_F A st t
  | .inr _ => False
def TXn (D : va_G) (A : Nat → Prop) (r : On) : Addr → State → State → Prop := fun q st t => match r with
  | .inl _ => False
  | .inr u => XX D u.1 A u.2 q st t
abbrev TMn (l : Launch) (y : MethodName) (cc : ByteArray) (maxL : Nat) (ret : Option FieldType) (rm : Room) (vs : List Value) (D : va_G) (ac : Nat → ClassId) (ws : va_W) (sz : Nat) (r : On) : Prop :=
  xx_Met l y (ws_ y cc maxL ret) rm (va_Pc vs (TPc D ac ws sz)) (TQn D (va_A ws sz) r) (TXn D (va_A ws sz) r) rm.cells rm.slots (va_A ws sz)
section FW12
variable {p : Program} {l : Launch} {e : Env} {R : Room} {s : State} {m : MethodId} {args : Array Value} {below : List Frame} {meth : Method} {c : Code} {H : Heap} {locs : List Loc} {cells slots : Nat} {Q : State → Prop} {ls : Array Slot}
variable {y : MethodName} {bytes cc : ByteArray} {maxL nL n index : Nat} {ret : Option FieldType} {rm : Room} {As rest st : List Value} {v : Option Value} {own C host : String} {pc : Nat} {D : va_G} {ac : Nat → ClassId} {ax : Nat → Nat} {ws wc wc' : va_W} {A0 : Nat → Prop} {H0 : Heap} {b : Nat}
/-- behind a call whose def says that it gives a new object -/
theorem fw_nret {mc ms : Nat} {st0 : List Value} {a : Array Value} {en : va_E} (hr : xx_Run p l e R s m args below meth c H locs cells slots mc ms (F0 m pc ls st0) rest (TQn D (va_A wc H.size) (.inl (wc', en)) a) (TXn D (va_A wc H.size) (.inl (wc', en))) (va_A wc H.size)) (hS : Stt D A0 H0 ws H locs) (hA : ∀ q, H0.size ≤ q → A0 q) (is : List Nat) (hC : is.map (fun i => ws[i]?) = wc.map some) (hadr : wc'.map Prod.fst = wc.map Prod.fst)
    (kk : ∀ (q : Nat) (H1 : Heap) (locs1 : List Loc), Stt D A0 H0 (rep is wc' ws ++ [(q, en)]) H1 locs1 → W p l e R s m args below meth c H1 locs1 (cells + mc) (slots + ms) Q (F0 m (pc + 3) ls (.ref q :: rest))) : W p l e R s m args below meth c H locs cells slots Q (F0 m pc ls st0) := by
  have hF := hS.free hA is hC
  intro T hT X
  rcases hr T hT X with ⟨v', st₀, t, T', L, h0, X', hL, e1, e2, ⟨⟨q, hv, hP1, hD1⟩, hz, hk⟩, st⟩ | ⟨q, st₀, t, T', L, E, ce, h0, X', hL, e1, e2, hq, -⟩
  case inr => exact hq.elim
  cases hv
  rw [h0] at hz hk
  have hS2 : va_S A0 H0 T'.heap (locs ++ L) := ⟨Nat.le_trans hS.2.2.1 (by rw [e1]; exact hz), fun q h1 h2 => by rw [e1, hk q (Nat.lt_of_lt_of_le h1 hS.2.2.1) (fun z => h2 (hF q z))]; exact hS.2.2.2.1 q h1 h2, fun q hq => by
      rcases List.mem_append.mp hq with h | h
      · exact hS.2.2.2.2 q h
      · exact hF _ (hL q h)⟩
  have hPw : va_P D clG wc' t.heap := by
    intro k q hq
    have hlt := (List.getElem?_eq_some_iff.mp hq).1
    exact hP1 k q (by rw [List.getElem?_append_left hlt]; exact hq)
  have hqe : (wc' ++ [(q, en)])[wc'.length]? = some (q, en) := by
    rw [List.getElem?_append_right (Nat.le_refl _), Nat.sub_self]; rfl
  have hJ := hS.join is hC (fun q h1 h2 => by rw [e1]; exact hk q h1 h2) (by rw [e1]; exact hPw) hadr hS2
  have hlen2 := congrArg List.length hadr
  simp only [List.length_map] at hlen2
  -- the thrown object is none of the caller's cells
  have hnew : ∀ (k : Nat) (x : Nat × va_E), (rep is wc' ws)[k]? = some x → x.1 ≠ q := by
    intro k x hx he
    have hlen : is.length = wc'.length := by
      have h1 := congrArg List.length hC
      simp at h1
      omega
    rcases rep_get is wc' ws hlen k x hx with ⟨j, h1, h2⟩ | ⟨h1, h2⟩
    · have hlt := (List.getElem?_eq_some_iff.mp h2).1
      have h3 : (wc' ++ [(q, en)])[j]? = some x := by rw [List.getElem?_append_left hlt]; exact h2
      have := hD1.1 j wc'.length x _ h3 hqe he
      omega
    · have hlt := (hS.1 k x h2).lt
      rcases hD1.2 _ _ hqe with ⟨j, e9, hj⟩ | hj
      · have h3 : (is.map (fun i => ws[i]?))[j]? = some (some (q, e9)) := by rw [hC, List.getElem?_map, hj]; rfl
        rw [List.getElem?_map] at h3
        cases hi : is[j]? with
        | none => rw [hi] at h3; cases h3
        | some i =>
          rw [hi] at h3
          have h4 := Option.some.inj h3
          have := hS.2.1.1 k i x (q, e9) h2 h4 he
          subst this
          exact h1 (List.mem_of_getElem? hi)
      · have hj' : H.size ≤ q := hj
        omega
  have hone : va_P D clG [(q, en)] t.heap := by
    intro k x hx
    have hz : k < 1 := (List.getElem?_eq_some_iff.mp hx).1
    rw [show k = 0 by omega] at hx
    cases hx
    exact hP1 _ _ hqe
  have hSt : Stt D A0 H0 (rep is wc' ws ++ [(q, en)]) T'.heap (locs ++ L) := by
    refine ⟨hJ.1.app (by rw [e1]; exact hone), va_D.app hJ.2.1 ⟨fun i j x z hx hz _ => ?_, fun k x hx => ?_⟩ (fun i j x z hx hz => ?_), hS2⟩
    · have h1 : i < 1 := (List.getElem?_eq_some_iff.mp hx).1
      have h2 : j < 1 := (List.getElem?_eq_some_iff.mp hz).1
      omega
    · have h1 : k < 1 := (List.getElem?_eq_some_iff.mp hx).1
      rw [show k = 0 by omega] at hx
      cases hx
      exact hF _ (hD1.2 _ _ hqe)
    · have h2 : j < 1 := (List.getElem?_eq_some_iff.mp hz).1
      rw [show j = 0 by omega] at hz
      cases hz
      exact hnew i x hx
  obtain ⟨t2, a1, b1⟩ := kk q T'.heap (locs ++ L) hSt T' rfl X'
  exact ⟨t2, st t2 a1, b1⟩
/-- calls that may throw, said to return -/
theorem fwTVno {en : va_E} (hx : p.tables.exec = Jvm.exec) (hb : c.code = cc) (hml : c.maxLocals = nL) (hown : s.vm.findClass own = some m.cls) (hts : ∀ w ∈ lw_all, w.before args s = true)
    (hM : TMn l y bytes maxL ret rm (.ref b :: As) D ac wc H.size (.inl (wc', en))) (cw : CallW R s args own C index y bytes maxL ret (ws_ y bytes maxL ret) rm rm.cells rm.slots n) (hG : GK D ac s) (hZ : ZZ A0 s s.heap) (hS : Stt D A0 s.heap ws H locs) (hA : ∀ q, s.heap.size ≤ q → A0 q) (is : List Nat) (hnd : va_nd is = true) (hC : is.map (fun i => ws[i]?) = wc.map some) (hadr : wc'.map Prod.fst = wc.map Prod.fst) (q0 ci : Nat) {T : u_T} {N : Nat} {fs : List Value} (hc : clG[ci]? = some (C, T, N)) (he : ws[q0]? = some (b, .inr (ci, fs)))
    (hn : As.length = n) (hsize : ls.size = nL) (hstack : st = As.reverse ++ .ref b :: rest) (hW : (rest.map fun v => v.category).sum ≤ 8) (hdg : decode cc pc = .ok (.invokevirtual index, 3)) (hf : cells + rm.cells ≤ R.cells ∧ slots + rm.slots ≤ R.slots) {wn : va_W} (hwn : rep is wc' ws = wn)
    (kk : ∀ (q : Nat) (H1 : Heap) (locs1 : List Loc), Stt D A0 s.heap (wn ++ [(q, en)]) H1 locs1 → W p l e R s m args below meth c H1 locs1 (cells + rm.cells) (slots + rm.slots) Q (F0 m (pc + 3) ls (.ref q :: rest))) : W p l e R s m args below meth c H locs cells slots Q (F0 m pc ls st) := by
  subst hwn
  exact fw_nret (xx_runV (Ts := lw_all) (g := F0 m pc ls st) ⟨hx, hb, hml, hown, hts⟩ hM cw (pre_TV hG hZ hS hA is hnd hC hc he) rfl hn hsize hstack (lv_room (ls := ls) hW) hdg hf) hS hA is hC hadr kk
/-- calls that may throw, said to throw -/
theorem fwTVnx {nn : Int32} (hx : p.tables.exec = Jvm.exec) (hb : c.code = cc) (hml : c.maxLocals = nL) (hown : s.vm.findClass own = some m.cls) (hts : ∀ w ∈ lw_all, w.before args s = true)
    (hM : TMn l y bytes maxL ret rm (.ref b :: As) D ac wc H.size (.inr (wc', nn))) (cw : CallW R s args own C index y bytes maxL ret (ws_ y bytes maxL ret) rm rm.cells rm.slots n) (hG : GK D ac s) (hZ : ZZ A0 s s.heap) (hS : Stt D A0 s.heap ws H locs) (hA : ∀ q, s.heap.size ≤ q → A0 q) (is : List Nat) (hnd : va_nd is = true) (hC : is.map (fun i => ws[i]?) = wc.map some) (hadr : wc'.map Prod.fst = wc.map Prod.fst) (q0 ci : Nat) {T : u_T} {N : Nat} {fs : List Value} (hc : clG[ci]? = some (C, T, N)) (he : ws[q0]? = some (b, .inr (ci, fs)))
    (hn : As.length = n) (hsize : ls.size = nL) (hstack : st = As.reverse ++ .ref b :: rest) (hW : (rest.map fun v => v.category).sum ≤ 8) (hdg : decode cc pc = .ok (.invokevirtual index, 3)) (hf : cells + rm.cells ≤ R.cells ∧ slots + rm.slots ≤ R.slots) {wn : va_W} (hwn : rep is wc' ws = wn)
    (kx : ∀ (q : Addr) (ci : Nat) (H1 : Heap) (locs1 : List Loc), (ci = 9 ∨ ci = 11) → Stt D A0 s.heap (wn ++ [(q, .inr (ci, [.int nn]))]) H1 locs1 → xx_W p l e R s m args below meth c H1 locs1 (cells + rm.cells) (slots + rm.slots) Q (F0 m pc ls rest) q) : W p l e R s m args below meth c H locs cells slots Q (F0 m pc ls st) := by
  subst hwn
  exact fw_xthr (xx_runV (Ts := lw_all) (g := F0 m pc ls st) ⟨hx, hb, hml, hown, hts⟩ hM cw (pre_TV hG hZ hS hA is hnd hC hc he) rfl hn hsize hstack (lv_room (ls := ls) hW) hdg hf) hS hA is hC hadr kx
end FW12
