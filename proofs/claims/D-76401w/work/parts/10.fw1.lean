/-! THE FRAME OF ALL WALKS: contracts whose answer is told by a def in Option; calls that leave the heap as it was -/
def noF : Addr → Prop := fun _ => False
/-- answers v, the heap as it was -/
def RQ (v : Option Value) : Array Value → State → Outcome → State → Prop := fun _ st o t => o = .returned v ∧ t.heap = st.heap
theorem br_ite {α : Type} {c : Prop} [Decidable c] {a b : Option α} {r : α} (h : (if c then a else b) = some r) : (c → a = some r) ∧ (¬ c → b = some r) := by
  constructor
  · intro hc; rwa [if_pos hc] at h
  · intro hc; rwa [if_neg hc] at h
theorem br_none {α : Type} {c : Prop} [Decidable c] {b : Option α} {r : α} (h : (if c then none else b) = some r) : ¬ c ∧ b = some r := by
  by_cases hc : c
  · rw [if_pos hc] at h; cases h
  · exact ⟨hc, by rwa [if_neg hc] at h⟩
theorem br_bind {α β : Type} {x : Option α} {f : α → Option β} {r : β} (h : Option.bind x f = some r) : ∃ o, x = some o ∧ f o = some r := by
  cases x with
  | none => cases h
  | some o => exact ⟨o, rfl, h⟩
theorem br_let {α β : Type} {e : α} {f : α → Option β} {r : β} (h : Option.bind (some e) f = some r) : ∃ v, v = e ∧ f v = some r := ⟨e, rfl, h⟩
theorem br_letv {α β : Type} {e v : α} {f : α → Option β} {r : β} (h : Option.bind (some e) f = some r) (hv : v = e) : f v = some r := by subst hv; exact h
/-- a loop that may return from within -/
def bsR {ρ τ : Type} (x : Option (ρ ⊕ τ)) (f : τ → Option ρ) : Option ρ := x.bind fun o => match o with | .inl r => some r | .inr t => f t
def bsO {ρ τ τ' : Type} (x : Option (ρ ⊕ τ)) (f : τ → Option (ρ ⊕ τ')) : Option (ρ ⊕ τ') := x.bind fun o => match o with | .inl r => some (.inl r) | .inr t => f t
theorem br_bsR {ρ τ : Type} {x : Option (ρ ⊕ τ)} {f : τ → Option ρ} {r0 : ρ} (h : bsR x f = some r0) : ∃ o, x = some o ∧ (∀ r, o = Sum.inl r → some r = some r0) ∧ (∀ t, o = Sum.inr t → f t = some r0) := by
  cases x with
  | none => cases h
  | some o =>
    refine ⟨o, rfl, ?_, ?_⟩
    · rintro r rfl; exact h
    · rintro t rfl; exact h
theorem br_bsO {ρ τ τ' : Type} {x : Option (ρ ⊕ τ)} {f : τ → Option (ρ ⊕ τ')} {r0 : ρ ⊕ τ'} (h : bsO x f = some r0) : ∃ o, x = some o ∧ (∀ r, o = Sum.inl r → some (Sum.inl r) = some r0) ∧ (∀ t, o = Sum.inr t → f t = some r0) := by
  cases x with
  | none => cases h
  | some o =>
    refine ⟨o, rfl, ?_, ?_⟩
    · rintro r rfl; exact h
    · rintro t rfl; exact h
/-- a boolean's answer that is no literal -/
def rz (v : Int32) : Option Int32 := if v = 0 ∨ v = 1 then some v else none
theorem rz_n {v r : Int32} (h : rz v = some r) : narrow .boolean (.int v) = .int v ∧ some v = some r := by
  unfold rz at h
  split at h
  · rename_i hc
    refine ⟨?_, h⟩
    rcases hc with rfl | rfl <;> rfl
  · cases h
theorem ret_i {v r : Int32} (h : some v = some r) : Outcome.returned (some (Value.int v)) = .returned (some (.int r)) := by cases h; rfl
theorem ret_l {v r : Int64} (h : some v = some r) : Outcome.returned (some (Value.long v)) = .returned (some (.long r)) := by cases h; rfl
theorem noB {free : Addr → Prop} : ∀ q ∈ ([] : List Loc), free q.base := fun _ h => absurd h List.not_mem_nil
/-- a contract that leaves the heap as it was -/
abbrev PM (l : Launch) (y : MethodName) (cc : ByteArray) (maxL : Nat) (ret : Option FieldType) (rm : Room) (vs : List Value) (PU : State → Prop) (v : Option Value) : Prop :=
  Met l y (ws_ y cc maxL ret) rm (va_Pc vs PU) (RQ v) 0 0 noF
abbrev WP (p : Program) (l : Launch) (e : Env) (R : Room) (s : State) (m : MethodId) (vs : List Value) (below : List Frame) (meth : Method) (c : Code) (v : Option Value) (pc : Nat) (ls : Array Slot) (st : List Value) : Prop :=
  W p l e R s m vs.toArray below meth c s.heap [] 0 0 (MQ below (RQ v) vs.toArray s 0 0 noF) (F0 m pc ls st)
theorem fw_of {l : Launch} {y : MethodName} {cc : ByteArray} {maxL : Nat} {ret : Option FieldType} {rm : Room} {vs : List Value} {PU : State → Prop} {Qc : Array Value → State → Outcome → State → Prop} {mc ms : Nat} {free : Addr → Prop} (hy : plainName y.cls = true) (hlen : (lg_sl vs).length ≤ maxL)
    (body : ∀ (p : Program) (e : Env) (s : State) (m : MethodId) (below : List Frame) (meth : Method) (c : Code) (ls : Array Slot), p.tables.exec = Jvm.exec → c.code = cc → meth.sig.returnType = ret → (∀ w ∈ lw_all, w.before vs.toArray s = true) → s.vm.findClass y.cls = some m.cls → meth.locks = false → c.maxLocals = maxL → meth.name = y.name → PU s → lv_has ls maxL (lv_args 0 vs) →
      W p l e rm s m vs.toArray below meth c s.heap [] 0 0 (MQ below Qc vs.toArray s mc ms free) (F0 m 0 ls [])) : Met l y (ws_ y cc maxL ret) rm (va_Pc vs PU) Qc mc ms free := by
  refine Met.ofW (cc := cc) (maxL := maxL) (ret := ret) hy rfl ?_
  intro p e s m args below meth c s₁ B hml hv
  obtain ⟨rfl, hv⟩ := hv
  have hts := atoms_spec (ws := ws_ y cc maxL ret) B.pre
  have hl := lv_entry vs (n := maxL) hlen
  rw [lg_entry_eq]
  exact body p e s m below meth c _ B.exec B.bytes B.returns (fun w h => hts w (List.mem_cons_of_mem _ h)) (findClass_of_methodNamed B.named) B.notSynchronized hml (name_of_methodNamed B.named B.method).1 hv hl
section FW
variable {p : Program} {l : Launch} {e : Env} {R : Room} {s : State} {m : MethodId} {args : Array Value} {below : List Frame} {meth : Method} {c : Code} {H : Heap} {locs : List Loc} {cells slots : Nat} {Q : State → Prop} {ls : Array Slot}
theorem fw_back {v : Option Value} {g : JFrame} {rest : List Value} {a : Array Value} (hr : va_Run p l e R s m args below meth c H locs cells slots 0 0 g rest (RQ v a) noF)
    (kk : W p l e R s m args below meth c H locs cells slots Q { g with pc := g.pc + 3, stack := v.toList ++ rest }) : W p l e R s m args below meth c H locs cells slots Q g := by
  intro T hT X
  obtain ⟨v', st₀, t, T', L, h0, X', hL, e1, e2, ⟨hv, hh⟩, st⟩ := hr T hT X
  cases hv
  obtain ⟨t2, a1, b1⟩ := kk T' (by rw [e1, hh, h0]) (Stand.forget X' (fun q h => (hL q h).elim))
  exact ⟨t2, st t2 a1, b1⟩
theorem fwS {y : MethodName} {bytes cc : ByteArray} {maxL nL n index : Nat} {ret : Option FieldType} {rm : Room} {As rest st : List Value} {v : Option Value} {own : String} {pc : Nat}
    (hx : p.tables.exec = Jvm.exec) (hb : c.code = cc) (hml : c.maxLocals = nL) (hown : s.vm.findClass own = some m.cls) (hts : ∀ w ∈ lw_all, w.before args s = true)
    (hM : PM l y bytes maxL ret rm As (fun _ => True) v) (cw : CallB R s args own index y bytes maxL ret (ws_ y bytes maxL ret) rm 0 0 n ∧ (Cond.static y).before args s = true)
    (hn : As.length = n) (hsize : ls.size = nL) (hstack : st = As.reverse ++ rest) (hW : (rest.map fun v => v.category).sum ≤ 8) (hdg : decode cc pc = .ok (.invokestatic index, 3)) (hf : cells ≤ R.cells ∧ slots ≤ R.slots)
    (kk : W p l e R s m args below meth c H locs cells slots Q (F0 m (pc + 3) ls (v.toList ++ rest))) : W p l e R s m args below meth c H locs cells slots Q (F0 m pc ls st) :=
  fw_back (va_runS (Ts := lw_all) (g := F0 m pc ls st) ⟨hx, hb, hml, hown, hts⟩ hM cw ⟨fun _ _ _ _ q => q, fun _ _ _ => ⟨rfl, trivial⟩⟩ rfl hn hsize hstack (lv_room (ls := ls) hW) hdg hf) kk
end FW
