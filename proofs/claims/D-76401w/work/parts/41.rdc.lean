/-! THE READER'S CONSTRUCTOR, AND readCore -/
abbrev f0_X12 : List Value := [.int 0, .int 0, .null]
abbrev rm_X12_init : Room := ({ frames := 2, cells := 0, slots := 0, locals := 40 })
theorem m_X12_init (l : Launch) (D : va_G) (ax : Nat → Nat) (ac : Nat → ClassId) (g : XS) (rq : Nat) (sz : Nat) : WM l yX12_init cX12_init 2 none rm_X12_init [.ref rq, .ref (ax 0)] D ac (wX ax ac g ++ [(rq, .inr (10, f0_X12))]) (wX ax ac g ++ wR ax rq (xG_letterMany g, 0)) sz none := by
  refine fw_of (by decide) (Nat.le_of_ble_eq_true rfl) ?_
  intro p e s m below meth c ls hx hb hrt hts hown hlk hml hmn hU hl
  obtain ⟨rfl, hP, hG, hD⟩ := hU
  have hA : ∀ q : Nat, s.heap.size ≤ q → (va_A (wX ax ac g ++ [(rq, .inr (10, f0_X12))]) s.heap.size) q := fun q h => Or.inr h
  have hS := Stt.start hP hD
  show WW p l e rm_X12_init s m [.ref rq, .ref (ax 0)] below meth c D (wX ax ac g ++ wR ax rq (xG_letterMany g, 0)) (va_A (wX ax ac g ++ [(rq, .inr (10, f0_X12))]) s.heap.size) none s.heap [] 0 0 0 ls []
  have hl : lv_has ls 2 [(0, .ref rq), (1, .ref (ax 0))] := hl
  refine lv_aload_n hx hb dX12_init_0 rfl (lv_at hl 0 rfl) ?_
  refine lv_aload_n hx hb dX12_init_1 rfl (lv_at hl 1 rfl) ?_
  refine fw_putF (D := D) (ci := 10) (x := .ref (ax 0)) (C := RX12) (T := TX12) (N := 3) hx hb hts in_X12 tyX12 tyX12_ok nmX12 hown hG hS 26 rfl rfl 2 (by decide) (hts _ q401) (fun _ h9 => h9) rfl hmn rfl (tyX12_ok 2 (by decide)) rfl rfl (Nat.le_of_ble_eq_true rfl) dX12_init_2 (wn := wX ax ac g ++ [(rq, .inr (10, [.int 0, .int 0, .ref (ax 0)]))]) rfl (fun H locs hS => ?_)
  refine lv_aload_n hx hb dX12_init_5 rfl (lv_at hl 0 rfl) ?_
  refine W.objInit hx hb hown (hts _ q396) (hts _ q133) (hts _ q134) rfl (by rw [hml]; exact hl.1) rfl dX12_init_6 (Nat.le_of_ble_eq_true rfl) (Nat.le_of_ble_eq_true rfl) ?_
  refine W.eq (g2 := F0 m 9 ls []) rfl ?_
  have hP := hS.1
  refine lv_aload_n hx hb dX12_init_9 rfl (lv_at hl 0 rfl) ?_
  refine lv_aload_n hx hb dX12_init_10 rfl (lv_at hl 0 rfl) ?_
  refine va_get (D := D) (ci := 10) (v := .ref (ax 0)) (C := RX12) (T := TX12) (N := 3) hx hb hts in_X12 hown hG.1 hP 26 rfl rfl 2 (by decide) (hts _ q401) (fun _ h9 => h9) rfl dX12_init_11 ?_
  refine va_getN (D := D) (ci := 0) (v := .int (xG_letterMany g)) (C := RX0) (T := TX0) (N := 17) hx hb hts in_X0 hown hG.1 hP 0 rfl rfl 8 (by decide) (va_Nw.use rfl (hG.2.1 _ nq242)) (fun _ h9 => h9) rfl dX12_init_14 ?_
  refine fw_putF (D := D) (ci := 10) (x := .int (xG_letterMany g)) (C := RX12) (T := TX12) (N := 3) hx hb hts in_X12 tyX12 tyX12_ok nmX12 hown hG hS 26 rfl rfl 0 (by decide) (hts _ q397) (fun _ h9 => h9) rfl hmn rfl (tyX12_ok 0 (by decide)) rfl rfl (Nat.le_of_ble_eq_true rfl) dX12_init_17 (wn := wX ax ac g ++ wR ax rq (xG_letterMany g, 0)) rfl (fun H locs hS => ?_)
  exact W.vret hx hb hrt (fun t ht _ => hS.q ht rfl) hS.2.2.2.2 dX12_init_20 hlk
theorem cwin_X12_init {R : Room} {s : State} {args : Array Value} {own host : String} {index : Nat} (hts : ∀ w ∈ lw_all, w.before args s = true) (hlink : va_Nw (.methodLinkNest own index yX12_init host) s) (hR : rm_X12_init.frames + 1 ≤ R.frames ∧ 8 + (2 + 11) + rm_X12_init.locals ≤ R.locals) : va_CN R s args own index yX12_init host cX12_init 2 none (ws_ yX12_init cX12_init 2 none) rm_X12_init rm_X12_init.cells rm_X12_init.slots 1 ∧ yX12_init.name = "<init>" ∧ (Cond.instanceMethod yX12_init).before args s = true :=
  ⟨va_cnB 1 hts (lw_meth q395) rfl rfl rfl hlink (hts _ q117) (by decide +kernel) hR, rfl, hts _ q394⟩
section RDC
variable {p : Program} {l : Launch} {e : Env} {R : Room} {s : State} {m : MethodId} {args : Array Value} {below : List Frame} {meth : Method} {c : Code} {H : Heap} {locs : List Loc} {cells slots : Nat} {Q : State → Prop} {ls : Array Slot}
variable {y : MethodName} {bytes cc : ByteArray} {maxL nL n index : Nat} {ret : Option FieldType} {rm : Room} {As rest st : List Value} {v : Option Value} {own C host : String} {pc : Nat} {D : va_G} {ac : Nat → ClassId} {ax : Nat → Nat} {ws wc wc' : va_W} {A0 : Nat → Prop} {H0 : Heap} {b : Nat}
/-- a constructor of a nest mate that writes in a world -/
theorem fwWIN (hx : p.tables.exec = Jvm.exec) (hb : c.code = cc) (hml : c.maxLocals = nL) (hown : s.vm.findClass own = some m.cls) (hts : ∀ w ∈ lw_all, w.before args s = true)
    (hM : WM l y bytes maxL none rm (.ref b :: As) D ac wc wc' H.size none) (cw : va_CN R s args own index y host bytes maxL none (ws_ y bytes maxL none) rm rm.cells rm.slots n ∧ y.name = "<init>" ∧ (Cond.instanceMethod y).before args s = true) (hG : GK D ac s) (hS : Stt D A0 H0 ws H locs) (hA : ∀ q, H0.size ≤ q → A0 q) (is : List Nat) (hnd : va_nd is = true) (hC : is.map (fun i => ws[i]?) = wc.map some) (hadr : wc'.map Prod.fst = wc.map Prod.fst)
    (hn : As.length = n) (hsize : ls.size = nL) (hstack : st = As.reverse ++ .ref b :: rest) (hW : (rest.map fun v => v.category).sum ≤ 8) (hdg : decode cc pc = .ok (.invokespecial index, 3)) (hf : cells + rm.cells ≤ R.cells ∧ slots + rm.slots ≤ R.slots) {wn : va_W} (hwn : rep is wc' ws = wn)
    (kk : ∀ (H1 : Heap) (locs1 : List Loc), Stt D A0 H0 wn H1 locs1 → W p l e R s m args below meth c H1 locs1 (cells + rm.cells) (slots + rm.slots) Q (F0 m (pc + 3) ls rest)) : W p l e R s m args below meth c H locs cells slots Q (F0 m pc ls st) := by
  subst hwn
  exact fw_wback (va_runIN (Ts := lw_all) (g := F0 m pc ls st) ⟨hx, hb, hml, hown, hts⟩ hM cw ⟨fun _ _ _ _ q => ⟨q.1, q.2.1, q.2.2.1, q.2.2.2.1.calling, q.2.2.2.2⟩, fun U hU hW => ⟨rfl, by rw [hU], by rw [hU]; exact hS.sub is hC, hG.warm hW, (hS.2.1.sub is hnd hC).weaken (fun _ _ _ _ => trivial)⟩⟩ rfl hn hsize hstack (lv_room (ls := ls) hW) hdg hf) hS hA is hC hadr kk
/-- a statement told goes into the array -/
theorem fw_astT (hx : p.tables.exec = Jvm.exec) (hb : c.code = cc) (hG : GK D ac s) (hS : Stt D A0 H0 ws H locs) (q0 qk : Nat) {n v : Nat} {t : TL} {f : Nat → Option Nat} (ha : ws[q0]? = some (b, va_ar (ac 5) n f)) (hv : ws[qk]? = some (v, wT ax t)) {i : Int32} (hin : ¬ (i < 0 ∨ n ≤ i.toNatClampNeg)) (hdg : decode cc pc = .ok (.aastore, 1)) {wn : va_W} (hwn : ws.set q0 (b, va_ar (ac 5) n (va_up f i.toNatClampNeg (some v))) = wn)
    (kk : ∀ (H1 : Heap) (locs1 : List Loc), Stt D A0 H0 wn H1 locs1 → W p l e R s m args below meth c H1 locs1 cells slots Q (F0 m (pc + 1) ls rest)) : W p l e R s m args below meth c H locs cells slots Q (F0 m pc ls (.ref v :: .int i :: .ref b :: rest)) := by
  match t, hv with
  | (0, u0, _, _, _), hv => exact fw_astO (ci := 12) (r := (RX15, TX15, 1)) hx hb hG hS q0 5 qk ha rfl (hG.2.1 _ nq1594) hv rfl hin hdg hwn kk
  | (1, u0, u1, u2, _), hv => exact fw_astO (ci := 13) (r := (RX16, TX16, 3)) hx hb hG hS q0 5 qk ha rfl (hG.2.1 _ nq1595) hv rfl hin hdg hwn kk
  | (2, u0, _, u1, _), hv => exact fw_astO (ci := 14) (r := (RX17, TX17, 2)) hx hb hG hS q0 5 qk ha rfl (hG.2.1 _ nq1596) hv rfl hin hdg hwn kk
  | (3, u0, _, u1, _), hv => exact fw_astO (ci := 15) (r := (RX18, TX18, 2)) hx hb hG hS q0 5 qk ha rfl (hG.2.1 _ nq1597) hv rfl hin hdg hwn kk
  | (4, u0, _, u1, u2), hv => exact fw_astO (ci := 16) (r := (RX19, TX19, 3)) hx hb hG hS q0 5 qk ha rfl (hG.2.1 _ nq1598) hv rfl hin hdg hwn kk
/-- where a statement told began -/
theorem fw_start (hx : p.tables.exec = Jvm.exec) (hb : c.code = cc) (hts : ∀ w ∈ lw_all, w.before args s = true) (hown : s.vm.findClass own = some m.cls) (hG : GK D ac s) (hP : va_P D clG ws H) (qk : Nat) {t : TL} (hv : ws[qk]? = some (b, wT ax t)) (hlink : (Cond.fieldLink own index "CoresAreWills$Told" "start" "I").before args s = true) (hdg : decode cc pc = .ok (.getfield index, 3))
    (kk : W p l e R s m args below meth c H locs cells slots Q (F0 m (pc + 3) ls (.int t.2.1 :: rest))) : W p l e R s m args below meth c H locs cells slots Q (F0 m pc ls (.ref b :: rest)) := by
  match t, hv, kk with
  | (0, u0, _, _, _), hv, kk => exact va_get (D := D) (ci := 12) (v := .int u0) (C := RX15) (T := TX15) (N := 1) hx hb hts in_X15 hown hG.1 hP qk hv rfl 0 (by decide) hlink (fun _ h9 => h9) rfl hdg kk
  | (1, u0, u1, u2, _), hv, kk => exact va_get (D := D) (ci := 13) (v := .int u0) (C := RX16) (T := TX16) (N := 3) hx hb hts in_X16 hown hG.1 hP qk hv rfl 0 (by decide) hlink (fun _ h9 => h9) rfl hdg kk
  | (2, u0, _, u1, _), hv, kk => exact va_get (D := D) (ci := 14) (v := .int u0) (C := RX17) (T := TX17) (N := 2) hx hb hts in_X17 hown hG.1 hP qk hv rfl 0 (by decide) hlink (fun _ h9 => h9) rfl hdg kk
  | (3, u0, _, u1, _), hv, kk => exact va_get (D := D) (ci := 15) (v := .int u0) (C := RX18) (T := TX18) (N := 2) hx hb hts in_X18 hown hG.1 hP qk hv rfl 0 (by decide) hlink (fun _ h9 => h9) rfl hdg kk
  | (4, u0, _, u1, u2), hv, kk => exact va_get (D := D) (ci := 16) (v := .int u0) (C := RX19) (T := TX19) (N := 3) hx hb hts in_X19 hown hG.1 hP qk hv rfl 0 (by decide) hlink (fun _ h9 => h9) rfl hdg kk
end RDC
/-- the statements told, as they lie -/
def pF (ps : List (Nat × TL)) : Nat → Option Nat := fun j => (ps[j]?).map Prod.fst
def wL (ax : Nat → Nat) (ps : List (Nat × TL)) : va_W := ps.map (fun q => (q.1, wT ax q.2))
def wP (ax : Nat → Nat) (ac : Nat → ClassId) (aq : Nat) (ps : List (Nat × TL)) : va_W := (aq, va_ar (ac 5) 96 (pF ps)) :: wL ax ps
theorem pF_up (ps : List (Nat × TL)) (q : Nat) (t : TL) : va_up (pF ps) ps.length (some q) = pF (ps ++ [(q, t)]) := by
  funext j
  simp only [va_up, pF]
  by_cases h : j = ps.length
  · rw [if_pos h, h, List.getElem?_append_right (Nat.le_refl _), Nat.sub_self]; rfl
  · rw [if_neg h]
    by_cases h2 : j < ps.length
    · rw [List.getElem?_append_left h2]
    · rw [List.getElem?_eq_none (by omega), List.getElem?_eq_none (by rw [List.length_append]; show ps.length + 1 ≤ j; omega)]
theorem wL_app (ax : Nat → Nat) (ps : List (Nat × TL)) (q : Nat) (t : TL) : wL ax ps ++ [(q, wT ax t)] = wL ax (ps ++ [(q, t)]) := by
  rw [wL, wL, List.map_append]; rfl
theorem cl_of {x : Int32} {n : Nat} (h : x.toInt = (n : Int)) : x.toNatClampNeg = n := by
  show x.toInt.toNat = n
  rw [h]; exact Int.toNat_natCast n
theorem in_of {x : Int32} {n : Nat} (h : x.toInt = (n : Int)) (hn : n < 96) : ¬ (x < 0 ∨ 96 ≤ x.toNatClampNeg) := by
  rintro (z | z)
  · have z := Int32.lt_iff_toInt_lt.mp z
    have z0 : (0 : Int32).toInt = 0 := rfl
    omega
  · rw [cl_of h] at z; omega
theorem up_of {x : Int32} {n : Nat} (h : x.toInt = (n : Int)) (hn : n ≤ 96) : (x + 1).toInt = ((n + 1 : Nat) : Int) := by
  have e : (x + 1).toInt = (x.toInt + 1).bmod (2 ^ 32) := Int32.toInt_add x 1
  rw [e, h]
  rw [Int.bmod_def]
  omega
theorem set_same {α : Type} {l : List α} {i : Nat} {x : α} (h : l[i]? = some x) : l.set i x = l := by
  apply List.ext_getElem?
  intro j
  rw [List.getElem?_set]
  by_cases hj : i = j
  · subst hj
    have hlt := (List.getElem?_eq_some_iff.mp h).1
    rw [if_pos rfl, if_pos hlt, h]
  · rw [if_neg hj]
/-- a statement told, by its place -/
theorem wP_at (ax : Nat → Nat) (ac : Nat → ClassId) (g : XS) (rq : Nat) (rd : RS) (aq : Nat) (ps : List (Nat × TL)) {k q : Nat} {t : TL} (h : ps[k]? = some (q, t)) : (wX ax ac g ++ wR ax rq rd ++ wP ax ac aq ps)[28 + k]? = some (q, wT ax t) := by
  have h27 : (wX ax ac g ++ wR ax rq rd).length = 27 := by rw [List.length_append]; rfl
  rw [List.getElem?_append_right (by omega), h27, show 28 + k - 27 = k + 1 by omega]
  show (wL ax ps)[k]? = _
  rw [wL, List.getElem?_map, h]; rfl
theorem pk_XW (ax : Nat → Nat) (ac : Nat → ClassId) (g : XS) (rq : Nat) (en : va_E) : ixR.map (fun i => (wX ax ac g ++ [(rq, en)])[i]?) = (wX ax ac g ++ [(rq, en)]).map some := by
  have h : ixR = List.range' 0 (wX ax ac g ++ [(rq, en)]).length := by rw [List.length_append]; rfl
  rw [h]; exact pk_all _
theorem ad_XW (ax : Nat → Nat) (ac : Nat → ClassId) (g : XS) (rq : Nat) (r : RS) (en : va_E) : (wX ax ac g ++ wR ax rq r).map Prod.fst = (wX ax ac g ++ [(rq, en)]).map Prod.fst := by
  rw [List.map_append, List.map_append]; rfl
theorem rep_XW (ax : Nat → Nat) (ac : Nat → ClassId) (g : XS) (rq : Nat) (r : RS) (en : va_E) : rep ixR (wX ax ac g ++ wR ax rq r) (wX ax ac g ++ [(rq, en)]) = wX ax ac g ++ wR ax rq r := by
  rw [ixR_eq ax ac g rq r]; exact rep_all _ _ (by rw [List.length_append, List.length_append]; rfl)
theorem rep_app : ∀ (is : List Nat) (w1 A B : va_W), (∀ i ∈ is, i < A.length) → rep is w1 (A ++ B) = rep is w1 A ++ B
  | [], _, _, _, _ => rfl
  | _ :: _, [], _, _, _ => rfl
  | i :: is, w :: w1, A, B, h => by
    show rep is w1 ((A ++ B).set i w) = rep is w1 (A.set i w) ++ B
    rw [List.set_append_left _ _ (h i List.mem_cons_self)]
    exact rep_app is w1 (A.set i w) B (fun j hj => by rw [List.length_set]; exact h j (List.mem_cons_of_mem _ hj))
theorem lt_X {ax : Nat → Nat} {ac : Nat → ClassId} {g : XS} {is : List Nat} (hi : is.all (fun i => decide (i < 26)) = true) : ∀ i ∈ is, i < (wX ax ac g).length := fun i h => of_decide_eq_true (List.all_eq_true.mp hi i h)
theorem rep_X3 {ax : Nat → Nat} {ac : Nat → ClassId} {g h : XS} {is : List Nat} {w1 B C : va_W} (hi : is.all (fun i => decide (i < 26)) = true) (h1 : rep is w1 (wX ax ac g) = wX ax ac h) : rep is w1 (wX ax ac g ++ B ++ C) = wX ax ac h ++ B ++ C := by
  rw [List.append_assoc, rep_app _ _ _ _ (lt_X hi), h1, List.append_assoc]
theorem pk_X3 {ax : Nat → Nat} {ac : Nat → ClassId} {g : XS} {is : List Nat} {wc B C : va_W} (hi : is.all (fun i => decide (i < 26)) = true) (h1 : is.map (fun i => (wX ax ac g)[i]?) = wc.map some) : is.map (fun i => (wX ax ac g ++ B ++ C)[i]?) = wc.map some := by
  rw [← h1]
  refine List.map_congr_left (fun i h => ?_)
  rw [List.append_assoc, List.getElem?_append_left (lt_X hi i h)]
abbrev rm_X0_readCore : Room := ({ frames := 40, cells := 700, slots := 4000, locals := 2000 })
theorem cw_X0_readCore {R : Room} {s : State} {args : Array Value} {own : String} {index : Nat} (hts : ∀ w ∈ lw_all, w.before args s = true) (hlink : Cond.methodLink own index yX0_readCore ∈ lw_all) (hR : rm_X0_readCore.frames + 1 ≤ R.frames ∧ 8 + (5 + 11) + rm_X0_readCore.locals ≤ R.locals) : CallW R s args own RX0 index yX0_readCore cX0_readCore 5 (some FieldType.int) (ws_ yX0_readCore cX0_readCore 5 (some FieldType.int)) rm_X0_readCore rm_X0_readCore.cells rm_X0_readCore.slots 0 :=
  cwV 0 hts (lw_V hlink q389 qs5 q102 q390) rfl rfl rfl (by decide +kernel) hR
set_option maxHeartbeats 4000000 in
theorem m_X0_readCore (l : Launch) (hst : l.stackTraces = false) (D : va_G) (ax : Nat → Nat) (ac : Nat → ClassId) (g : XS) (sz : Nat) (r0 : (Int32 × XS) ⊕ (Int32 × XS)) (hr : f_X0_readCore g = some r0) : TM l yX0_readCore cX0_readCore 5 (some FieldType.int) rm_X0_readCore [.ref (ax 0)] D ac (wX ax ac g) sz (Sum.map (fun u => (wX ax ac u.2, (some (.int u.1)))) (fun u => (wX ax ac u.2, u.1)) r0) := by
  generalize hoc : (Sum.map (fun u => (wX ax ac u.2, (some (.int u.1)))) (fun u => (wX ax ac u.2, u.1)) r0 : Oc) = oc
  refine fw_ofT (by decide) (Nat.le_of_ble_eq_true rfl) ?_
  intro p e s m below meth c ls hx hb hrt hts hown hlk hml _ hnt hU hl
  obtain ⟨⟨rfl, hP, hG, hD⟩, hZ⟩ := hU
  have hA : ∀ q : Nat, s.heap.size ≤ q → (va_A (wX ax ac g) s.heap.size) q := fun q h => Or.inr h
  have hS := Stt.start hP hD
  obtain ⟨A0, hA0⟩ : ∃ A0, A0 = va_A (wX ax ac g) s.heap.size := ⟨_, rfl⟩
  rw [← hA0] at hA hS hZ
  show WT p l e rm_X0_readCore s m [.ref (ax 0)] below meth c D (va_A (wX ax ac g) s.heap.size) oc s.heap [] 0 0 0 ls []
  rw [← hA0]
  have hl : lv_has ls 5 [(0, .ref (ax 0))] := hl
  rw [f_X0_readCore] at hr
  refine fw_new (D := D) (ac := ac) (C := RX12) (T := TX12) (N := 3) (ci := 10) (fs := f0_X12) hx hb hts in_X12 tyX12 tyX12_ok hown (hts _ q391) (hts _ q392) (hts _ q117) hG hS hA rfl (fun j hj => by rcases (show j = 0 ∨ j = 1 ∨ j = 2 by omega) with rfl | rfl | rfl <;> rfl) (Nat.le_of_ble_eq_true rfl) (Nat.le_of_ble_eq_true rfl) dX0_readCore_0 (fun rq H hS => ?_)
  refine W.widen (k := 1) (n := 3) (Nat.le_of_ble_eq_true rfl) (Nat.le_of_ble_eq_true rfl) ?_
  refine lv_dup hx hb dX0_readCore_3 rfl ?_
  refine lv_aload_n hx hb dX0_readCore_4 rfl (lv_at hl 0 rfl) ?_
  refine fwWIN (As := [.ref (ax 0)]) (rest := [.ref rq]) hx hb hml hown hts (m_X12_init l D ax ac g rq _) (cwin_X12_init hts (hG.2.1 _ nq393) ⟨Nat.le_of_ble_eq_true rfl, Nat.le_of_ble_eq_true rfl⟩) hG hS hA ixR nd_R (pk_XW ax ac g rq _) (ad_XW ax ac g rq _ _) rfl hl.1 rfl (Nat.le_of_ble_eq_true rfl) dX0_readCore_5 ⟨Nat.le_of_ble_eq_true rfl, Nat.le_of_ble_eq_true rfl⟩ (wn := wX ax ac g ++ wR ax rq (xG_letterMany g, 0)) (rep_XW ax ac g rq _ _) (fun H locs hS => ?_)
  refine lv_astore_n (lv' := [(1, .ref rq), (0, .ref (ax 0))]) hx hb dX0_readCore_8 rfl hl (by decide) rfl (fun ls hl => ?_)
  refine lv_aload_n hx hb dX0_readCore_9 rfl (lv_at hl 1 rfl) ?_
  refine lv_iconst (v := 0) hx hb dX0_readCore_10 rfl ?_
  obtain ⟨g1, hg1, hr⟩ := br_let hr
  refine fw_put (D := D) (ci := 0) (x := .int 0) (C := RX0) (T := TX0) (N := 17) hx hb hts in_X0 tyX0 tyX0_ok nmX0 hown hG hS 0 rfl rfl 8 (by decide) (hts _ q243) (fun _ h9 => h9) rfl (tyX0_ok 8 (by decide)) rfl rfl (Nat.le_of_ble_eq_true rfl) dX0_readCore_11 (wn := wX ax ac g1 ++ wR ax rq (xG_letterMany g, 0)) (by rw [hg1]; rfl) (fun H locs hS => ?_)
  refine lv_bipush (v := 96) hx hb dX0_readCore_14 rfl ?_
  refine fw_newq (C := "CoresAreWills$Told") hx hb hown (hts _ q409) hG.2.2.2 hG hS hA 5 rfl (by decide) (N' := 96) (by decide) (Nat.le_of_ble_eq_true rfl) (Nat.le_of_ble_eq_true rfl) (Nat.le_of_ble_eq_true rfl) dX0_readCore_16 (fun aq H hS => ?_)
  refine W.widen (k := 2) (n := 99) (Nat.le_of_ble_eq_true rfl) (Nat.le_of_ble_eq_true rfl) ?_
  refine lv_astore_n (lv' := [(2, .ref aq), (1, .ref rq), (0, .ref (ax 0))]) hx hb dX0_readCore_19 rfl hl (by decide) rfl (fun ls hl => ?_)
  refine lv_iconst (v := 0) hx hb dX0_readCore_20 rfl ?_
  refine lv_istore_n (lv' := [(3, .int 0), (2, .ref aq), (1, .ref rq), (0, .ref (ax 0))]) hx hb dX0_readCore_21 rfl hl (by decide) rfl (fun ls hl => ?_)
  have hS : Stt D A0 s.heap (wX ax ac g1 ++ wR ax rq (xG_letterMany g, 0) ++ wP ax ac aq []) H locs := hS
  generalize hK : (fun (o2 : Int32 × RS × List TL) => Option.bind (f_X8_set (xG_mind g1) (xG_core0 g1)) fun o3 => bX (f_X0_readCore_L58 o2.2.2 o3) (fun b4 => (b4.1, xS_mind g1 b4.2)) fun o4 => Option.bind (some (xS_mind g1 o4)) fun g5 => Option.bind (f_X8_set (xG_core0 g5) (xG_mind g5)) fun o6 => Option.bind (some (xS_core0 g5 o6)) fun g7 => some (Sum.inl (o2.1, g7) : (Int32 × XS) ⊕ (Int32 × XS))) = K at hr
  -- behind the first loop
  have K43 : ∀ (x3 : Int32) (rd : RS) (ps : List (Nat × TL)) (H : Heap) (locs : List Loc) (ls : Array Slot), K (x3, rd, ps.map Prod.snd) = some r0 → x3.toInt = (ps.length : Int) → ps.length ≤ 96 → lv_has ls 5 [(3, .int x3), (2, .ref aq), (1, .ref rq), (0, .ref (ax 0))] → Stt D A0 s.heap (wX ax ac g1 ++ wR ax rq rd ++ wP ax ac aq ps) H locs → WT p l e rm_X0_readCore s m [.ref (ax 0)] below meth c D A0 oc H locs 600 3900 43 ls [] := by
    intro x3 rd ps H locs ls hr hx3 hle hl hS
    have hP := hS.1
    rw [← hK] at hr
    refine lv_aload_n hx hb dX0_readCore_43 rfl (lv_at hl 3 rfl) ?_
    refine va_get (D := D) (ci := 0) (v := .ref (ax 4)) (C := RX0) (T := TX0) (N := 17) hx hb hts in_X0 hown hG.1 hP 0 rfl rfl 2 (by decide) (hts _ q235) (fun _ h9 => h9) rfl dX0_readCore_44 ?_
    refine lv_aload_n hx hb dX0_readCore_47 rfl (lv_at hl 3 rfl) ?_
    refine va_get (D := D) (ci := 0) (v := .ref (ax 1)) (C := RX0) (T := TX0) (N := 17) hx hb hts in_X0 hown hG.1 hP 0 rfl rfl 1 (by decide) (hts _ q234) (fun _ h9 => h9) rfl dX0_readCore_48 ?_
    obtain ⟨o3, ho3, hr⟩ := br_bind hr
    refine fwWV (As := [.ref (ax 1)]) (rest := []) (C := RX8) hx hb hml hown hts (m_X8_set l D ax ac (ax 4) (ax 5) (ax 6) (xG_mind g1) (ax 1) (ax 2) (ax 3) (xG_core0 g1) _ o3 ho3) (cw_X8_set hts q534 ⟨Nat.le_of_ble_eq_true rfl, Nat.le_of_ble_eq_true rfl⟩) hG hS hA [4, 5, 6, 1, 2, 3, 11, 12, 13, 14, 15, 16] rfl (pk_X3 rfl rfl) rfl 4 7 rfl rfl rfl hl.1 rfl (Nat.le_of_ble_eq_true rfl) dX0_readCore_51 ⟨Nat.le_of_ble_eq_true rfl, Nat.le_of_ble_eq_true rfl⟩ (wn := wX ax ac (xS_mind g1 o3) ++ wR ax rq rd ++ wP ax ac aq ps) (rep_X3 rfl rfl) (fun H locs hS => ?_)
    refine lv_pop hx hb dX0_readCore_54 rfl ?_
    refine lv_iconst (v := 0) hx hb dX0_readCore_55 rfl ?_
    refine lv_istore (lv' := [(4, .int 0), (3, .int x3), (2, .ref aq), (1, .ref rq), (0, .ref (ax 0))]) hx hb dX0_readCore_56 hl (by decide) rfl (fun ls hl => ?_)
    generalize hK2 : (fun (o4 : CV) => Option.bind (some (xS_mind g1 o4)) fun g5 => Option.bind (f_X8_set (xG_core0 g5) (xG_mind g5)) fun o6 => Option.bind (some (xS_core0 g5 o6)) fun g7 => some (Sum.inl ((x3, rd, ps.map Prod.snd).1, g7) : (Int32 × XS) ⊕ (Int32 × XS))) = K2 at hr
    have K103 : ∀ (cv : CV) (x4 : Int32) (H : Heap) (locs : List Loc) (ls : Array Slot), K2 cv = some r0 → lv_has ls 5 [(4, .int x4), (3, .int x3), (2, .ref aq), (1, .ref rq), (0, .ref (ax 0))] → Stt D A0 s.heap (wX ax ac (xS_mind g1 cv) ++ wR ax rq rd ++ wP ax ac aq ps) H locs → WT p l e rm_X0_readCore s m [.ref (ax 0)] below meth c D A0 oc H locs 600 3900 103 ls [] := by
      intro cv x4 H locs ls hr hl hS
      have hP := hS.1
      rw [← hK2] at hr
      obtain ⟨g5, hg5, hr⟩ := br_let hr
      rw [← hg5] at hS hP
      refine lv_aload_n hx hb dX0_readCore_103 rfl (lv_at hl 4 rfl) ?_
      refine va_get (D := D) (ci := 0) (v := .ref (ax 1)) (C := RX0) (T := TX0) (N := 17) hx hb hts in_X0 hown hG.1 hP 0 rfl rfl 1 (by decide) (hts _ q234) (fun _ h9 => h9) rfl dX0_readCore_104 ?_
      refine lv_aload_n hx hb dX0_readCore_107 rfl (lv_at hl 4 rfl) ?_
      refine va_get (D := D) (ci := 0) (v := .ref (ax 4)) (C := RX0) (T := TX0) (N := 17) hx hb hts in_X0 hown hG.1 hP 0 rfl rfl 2 (by decide) (hts _ q235) (fun _ h9 => h9) rfl dX0_readCore_108 ?_
      obtain ⟨o6, ho6, hr⟩ := br_bind hr
      refine fwWV (As := [.ref (ax 4)]) (rest := []) (C := RX8) hx hb hml hown hts (m_X8_set l D ax ac (ax 1) (ax 2) (ax 3) (xG_core0 g5) (ax 4) (ax 5) (ax 6) (xG_mind g5) _ o6 ho6) (cw_X8_set hts q534 ⟨Nat.le_of_ble_eq_true rfl, Nat.le_of_ble_eq_true rfl⟩) hG hS hA [1, 2, 3, 4, 5, 6, 11, 12, 13, 14, 15, 16] rfl (pk_X3 rfl rfl) rfl 1 7 rfl rfl rfl hl.1 rfl (Nat.le_of_ble_eq_true rfl) dX0_readCore_111 ⟨Nat.le_of_ble_eq_true rfl, Nat.le_of_ble_eq_true rfl⟩ (wn := wX ax ac (xS_core0 g5 o6) ++ wR ax rq rd ++ wP ax ac aq ps) (rep_X3 rfl rfl) (fun H locs hS => ?_)
      refine lv_pop hx hb dX0_readCore_114 rfl ?_
      refine lv_iload_n hx hb dX0_readCore_115 rfl (lv_at hl 1 rfl) ?_
      obtain ⟨g7, hg7, hr⟩ := br_let hr
      rw [← hg7] at hS
      have hS : Stt D A0 s.heap ((wX ax ac g7 ++ wR ax rq rd ++ wP ax ac aq ps) ++ []) H locs := by rw [List.append_nil]; exact hS
      have hS := Stt.mid hS
      have hS := Stt.mid hS
      rw [List.append_nil] at hS
      obtain rfl := Option.some.inj hr
      refine W.widen (k := rm_X0_readCore.cells) (n := rm_X0_readCore.slots) (Nat.le_of_ble_eq_true rfl) (Nat.le_of_ble_eq_true rfl) ?_
      subst hoc
      exact xx_ret (W.iret hx hb hrt (fun t ht _ => hS.q ht rfl) hS.2.2.2.2 dX0_readCore_116 hlk)
    -- the second loop: n statements are left
    have L58 : ∀ (n k : Nat) (x4 : Int32) (cv : CV) (H : Heap) (locs : List Loc) (ls : Array Slot), k + n = ps.length → x4.toInt = (k : Int) → (bX (f_X0_readCore_L58 ((ps.map Prod.snd).drop k) cv) (fun b4 => (b4.1, xS_mind g1 b4.2)) K2) = some r0 → lv_has ls 5 [(4, .int x4), (3, .int x3), (2, .ref aq), (1, .ref rq), (0, .ref (ax 0))] → Stt D A0 s.heap (wX ax ac (xS_mind g1 cv) ++ wR ax rq rd ++ wP ax ac aq ps) H locs → WT p l e rm_X0_readCore s m [.ref (ax 0)] below meth c D A0 oc H locs 600 3900 58 ls [] := by
      intro n
      induction n with
      | zero =>
        intro k x4 cv H locs ls hk hx4 hr hl hS
        refine lv_iload hx hb dX0_readCore_58 (lv_at hl 0 rfl) ?_
        refine lv_iload_n hx hb dX0_readCore_60 rfl (lv_at hl 1 rfl) ?_
        have hle4 : x3 ≤ x4 := Int32.le_iff_toInt_le.mpr (by rw [hx3, hx4]; omega)
        refine lv_icmp_ge (tgt := 103) hx hb dX0_readCore_61 (by decide) (fun c1 => ?_) (fun c1 => absurd hle4 c1)
        rw [List.drop_eq_nil_of_le (by rw [List.length_map]; omega)] at hr
        exact K103 cv x4 H locs ls hr hl hS
      | succ n ih =>
        intro k x4 cv H locs ls hk hx4 hr hl hS
        have hP := hS.1
        have hkl : k < ps.length := by omega
        obtain ⟨tq, t, hpk⟩ : ∃ tq t, ps[k] = (tq, t) := ⟨_, _, rfl⟩
        have hpk' : ps[k]? = some (tq, t) := by rw [List.getElem?_eq_getElem hkl, hpk]
        have hdr : (ps.map Prod.snd).drop k = t :: (ps.map Prod.snd).drop (k + 1) := by
          rw [List.drop_eq_getElem_cons (by rw [List.length_map]; exact hkl), List.getElem_map, hpk]
        rw [hdr] at hr
        have hin := in_of hx4 (show k < 96 by omega)
        have hat : ∀ gg, (wX ax ac gg ++ wR ax rq rd ++ wP ax ac aq ps)[28 + k]? = some (tq, wT ax t) := fun gg => wP_at ax ac gg rq rd aq ps hpk'
        have hval : va_rf (pF ps x4.toNatClampNeg) = .ref tq := by rw [cl_of hx4, pF, hpk']; rfl
        refine lv_iload hx hb dX0_readCore_58 (lv_at hl 0 rfl) ?_
        refine lv_iload_n hx hb dX0_readCore_60 rfl (lv_at hl 1 rfl) ?_
        refine lv_icmp_ge (tgt := 103) hx hb dX0_readCore_61 (by decide) (fun c1 => absurd (Int32.le_iff_toInt_le.mp c1) (by rw [hx3, hx4]; omega)) (fun c1 => ?_)
        refine lv_aload_n hx hb dX0_readCore_64 rfl (lv_at hl 2 rfl) ?_
        refine lv_iload hx hb dX0_readCore_65 (lv_at hl 0 rfl) ?_
        refine va_aldq hx hb hG.1 hP 27 5 rfl rfl hin dX0_readCore_67 ?_
        rw [hval]
        refine lv_aload_n hx hb dX0_readCore_68 rfl (lv_at hl 4 rfl) ?_
        refine va_get (D := D) (ci := 0) (v := .ref (ax 4)) (C := RX0) (T := TX0) (N := 17) hx hb hts in_X0 hown hG.1 hP 0 rfl rfl 2 (by decide) (hts _ q235) (fun _ h9 => h9) rfl dX0_readCore_69 ?_
        cases hcm : f_X14_comes cv t with
        | none => rw [f_X0_readCore_L58, hcm] at hr; cases hr
        | some o1 =>
          refine fw_comes (ax := ax) (kq := ax 5) (fq := ax 6) (cv := cv) (tl := t) hx hb hml hown hts q541 hG hS hA ((28 + k) :: [4, 5, 6, 11, 12, 13, 14, 15, 16]) (by
              show (decide ((28 + k) ∉ [4, 5, 6, 11, 12, 13, 14, 15, 16]) && va_nd [4, 5, 6, 11, 12, 13, 14, 15, 16]) = true
              rw [Bool.and_eq_true]
              refine ⟨decide_eq_true ?_, rfl⟩
              intro hm
              simp only [List.mem_cons, List.not_mem_nil, or_false] at hm
              omega) (by
              show (wX ax ac (xS_mind g1 cv) ++ wR ax rq rd ++ wP ax ac aq ps)[28 + k]? :: _ = _
              rw [hat]; exact congrArg (List.cons _) (pk_X3 rfl rfl)) (q0 := 28 + k) (hat _) hcm hl.1 (Nat.le_of_ble_eq_true rfl) (Nat.le_of_ble_eq_true rfl) (Nat.le_of_ble_eq_true rfl) dX0_readCore_72 ⟨Nat.le_of_ble_eq_true rfl, Nat.le_of_ble_eq_true rfl⟩ (wn := wX ax ac (xS_mind g1 o1.2) ++ wR ax rq rd ++ wP ax ac aq ps) (by
              show rep [4, 5, 6, 11, 12, 13, 14, 15, 16] (wC ax (ax 4) (ax 5) (ax 6) ac o1.2 ++ wK ax) ((wX ax ac (xS_mind g1 cv) ++ wR ax rq rd ++ wP ax ac aq ps).set (28 + k) (tq, wT ax t)) = _
              rw [set_same (hat _)]; exact rep_X3 rfl rfl) (fun H locs hS => ?_)
          have hP := hS.1
          rw [f_X0_readCore_L58, hcm] at hr
          by_cases hz : o1.1 = 0
          · refine lv_if_ne (tgt := 97) hx hb dX0_readCore_75 (by decide) (fun c2 => absurd hz c2) (fun c2 => ?_)
            have hr : (bX (if o1.1 = 0 then some (Sum.inr ((-2000 : Int32) - t.2.1, o1.2)) else f_X0_readCore_L58 ((ps.map Prod.snd).drop (k + 1)) o1.2) (fun b4 => (b4.1, xS_mind g1 b4.2)) K2) = some r0 := hr
            rw [if_pos hz] at hr
            have hr : Sum.inr ((-2000 : Int32) - t.2.1, xS_mind g1 o1.2) = r0 := Option.some.inj hr
            refine fw_newX (C := RX13) (ci := 11) hx hb hown (hts _ q639) (hts _ q424) (hts _ q118) hS hA (Nat.le_of_ble_eq_true rfl) (Nat.le_of_ble_eq_true rfl) dX0_readCore_78 (fun xq H xC xK e1 e2 e3 e4 e5 e6 e7 hS => ?_)
            have hP := hS.1
            refine lv_dup hx hb dX0_readCore_81 rfl ?_
            refine lv_sipush (v := (-2000)) hx hb dX0_readCore_82 rfl ?_
            refine lv_aload_n hx hb dX0_readCore_85 rfl (lv_at hl 2 rfl) ?_
            refine lv_iload hx hb dX0_readCore_86 (lv_at hl 0 rfl) ?_
            refine va_aldq hx hb hG.1 hP 27 5 rfl rfl hin dX0_readCore_88 ?_
            rw [hval]
            refine fw_start (ax := ax) (t := t) hx hb hts hown hG hP (28 + k) (hat _) (hts _ q451) dX0_readCore_89 ?_
            refine lv_isub hx hb dX0_readCore_92 ?_
            refine fw_xinit (C := RX13) (ci := 11) (nn := ((-2000 : Int32) - t.2.1)) (rest := [.ref xq]) hx hb hml hown hts (m_X13_init l hst D ac xq _ ((-2000 : Int32) - t.2.1)) (cwi_X13_init hts q640 ⟨Nat.le_of_ble_eq_true rfl, Nat.le_of_ble_eq_true rfl⟩) hG hZ hS hA e1 e2 e3 e4 e5 e7 hl.1 (Nat.le_of_ble_eq_true rfl) dX0_readCore_93 ⟨Nat.le_of_ble_eq_true rfl, Nat.le_of_ble_eq_true rfl⟩ (fun H locs hS => ?_)
            refine xx_athrow hx hb dX0_readCore_96 ?_
            have hS := Stt.mid (Stt.mid hS)
            subst hr
            subst hoc
            rw [hA0] at hS ⊢
            exact fw_xout hnt hlk hG (Or.inr rfl) hS (Nat.le_of_ble_eq_true rfl) (Nat.le_of_ble_eq_true rfl)
          · refine lv_if_ne (tgt := 97) hx hb dX0_readCore_75 (by decide) (fun c2 => ?_) (fun c2 => absurd c2 hz)
            have hr : (bX (if o1.1 = 0 then some (Sum.inr ((-2000 : Int32) - t.2.1, o1.2)) else f_X0_readCore_L58 ((ps.map Prod.snd).drop (k + 1)) o1.2) (fun b4 => (b4.1, xS_mind g1 b4.2)) K2) = some r0 := hr
            rw [if_neg hz] at hr
            refine lv_iinc (v := x4 + 1) (lv' := [(4, .int (x4 + 1)), (3, .int x3), (2, .ref aq), (1, .ref rq), (0, .ref (ax 0))]) hx hb dX0_readCore_97 hl (k := 0) rfl rfl (by decide) rfl (fun ls hl => ?_)
            refine lv_goto (tgt := 58) hx hb dX0_readCore_100 (by decide) ?_
            exact ih (k + 1) (x4 + 1) o1.2 H locs ls (by omega) (up_of hx4 (by omega)) hr hl hS
    exact L58 ps.length 0 0 o3 H locs ls (Nat.zero_add _) rfl hr hl hS
  -- the first loop
  have L22 : ∀ (n : Nat) (x3 : Int32) (rd : RS) (ps : List (Nat × TL)) (H : Heap) (locs : List Loc) (ls : Array Slot), (bX (f_X0_readCore_L22 g1 n x3 rd (ps.map Prod.snd)) (fun b2 => (b2, g1)) K) = some r0 → x3.toInt = (ps.length : Int) → ps.length ≤ 96 → lv_has ls 5 [(3, .int x3), (2, .ref aq), (1, .ref rq), (0, .ref (ax 0))] → Stt D A0 s.heap (wX ax ac g1 ++ wR ax rq rd ++ wP ax ac aq ps) H locs → WT p l e rm_X0_readCore s m [.ref (ax 0)] below meth c D A0 oc H locs (2 + 6 * ps.length) (99 + 38 * ps.length) 22 ls [] := by
    intro n
    induction n with
    | zero => intro x3 rd ps H locs ls hr; cases hr
    | succ n ih =>
      intro x3 rd ps H locs ls hr hx3 hle hl hS
      have hP := hS.1
      rw [f_X0_readCore_L22] at hr
      refine lv_aload_n hx hb dX0_readCore_22 rfl (lv_at hl 1 rfl) ?_
      refine lv_iload_n hx hb dX0_readCore_23 rfl (lv_at hl 0 rfl) ?_
      refine lv_aload_n hx hb dX0_readCore_24 rfl (lv_at hl 2 rfl) ?_
      cases hs1 : f_X12_statement g1 rd with
      | none => rw [hs1] at hr; cases hr
      | some o =>
        rw [hs1] at hr
        cases o with
        | inr b1 =>
          have hr : Sum.inr (b1.1, g1) = r0 := Option.some.inj hr
          refine fwTVnx (As := []) (rest := [.int x3, .ref aq]) (C := RX12) hx hb hml hown hts (m_X12_statement l hst D ax ac g1 rq rd _ _ hs1) (cw_X12_statement hts q411 ⟨Nat.le_of_ble_eq_true rfl, Nat.le_of_ble_eq_true rfl⟩) hG hZ hS hA ixR nd_R (pk_XRS ax ac _ _ _ _) (ad_XR ax ac _ _ _ _ _) 26 10 rfl rfl rfl hl.1 rfl (Nat.le_of_ble_eq_true rfl) dX0_readCore_25 ⟨by show 2 + 6 * ps.length + 6 ≤ 700; omega, by show 99 + 38 * ps.length + 38 ≤ 4000; omega⟩ (wn := wX ax ac g1 ++ wR ax rq b1.2 ++ wP ax ac aq ps) (rep_XRS ax ac _ _ _ _ _ _) (fun q_ ci_ H locs hci hS => ?_)
          have hS := Stt.mid (Stt.mid hS)
          subst hr
          subst hoc
          rw [hA0] at hS ⊢
          exact fw_xout hnt hlk hG hci hS (by show 2 + 6 * ps.length + 6 ≤ 700; omega) (by show 99 + 38 * ps.length + 38 ≤ 4000; omega)
        | inl o1 =>
          have hr : bX (if x3 < 0 ∨ 96 ≤ Int32.toNatClampNeg x3 then none else Option.bind (some (x3 + 1)) fun v2 => if (rG_at o1.2) < (rG_size o1.2) then f_X0_readCore_L22 g1 n v2 o1.2 (ps.map Prod.snd ++ [o1.1]) else some (Sum.inl (v2, o1.2, ps.map Prod.snd ++ [o1.1]))) (fun b2 => (b2, g1)) K = some r0 := hr
          by_cases hin : x3 < 0 ∨ 96 ≤ Int32.toNatClampNeg x3
          · rw [if_pos hin] at hr; cases hr
          rw [if_neg hin] at hr
          have hlt : ps.length < 96 := by
            have this : ¬ 96 ≤ Int32.toNatClampNeg x3 := fun z => hin (Or.inr z)
            rw [cl_of hx3] at this
            omega
          refine fwTVno (As := []) (rest := [.int x3, .ref aq]) (C := RX12) hx hb hml hown hts (m_X12_statement l hst D ax ac g1 rq rd _ _ hs1) (cw_X12_statement hts q411 ⟨Nat.le_of_ble_eq_true rfl, Nat.le_of_ble_eq_true rfl⟩) hG hZ hS hA ixR nd_R (pk_XRS ax ac _ _ _ _) (ad_XR ax ac _ _ _ _ _) 26 10 rfl rfl rfl hl.1 rfl (Nat.le_of_ble_eq_true rfl) dX0_readCore_25 ⟨by show 2 + 6 * ps.length + 6 ≤ 700; omega, by show 99 + 38 * ps.length + 38 ≤ 4000; omega⟩ (wn := wX ax ac g1 ++ wR ax rq o1.2 ++ wP ax ac aq ps) (rep_XRS ax ac _ _ _ _ _ _) (fun tq H locs hS => ?_)
          have hlast : (wX ax ac g1 ++ wR ax rq o1.2 ++ wP ax ac aq ps ++ [(tq, wT ax o1.1)])[(wX ax ac g1 ++ wR ax rq o1.2 ++ wP ax ac aq ps).length]? = some (tq, wT ax o1.1) := by
            rw [List.getElem?_append_right (Nat.le_refl _), Nat.sub_self]; rfl
          have hlen : (ps ++ [(tq, o1.1)]).length = ps.length + 1 := by rw [List.length_append]; rfl
          refine fw_astT (ax := ax) (t := o1.1) hx hb hG hS 27 _ rfl hlast hin dX0_readCore_28 (wn := wX ax ac g1 ++ wR ax rq o1.2 ++ wP ax ac aq (ps ++ [(tq, o1.1)])) (by
            rw [cl_of hx3, pF_up ps tq o1.1]
            show (wX ax ac g1 ++ wR ax rq o1.2) ++ ((aq, va_ar (ac 5) 96 (pF (ps ++ [(tq, o1.1)]))) :: (wL ax ps ++ [(tq, wT ax o1.1)])) = (wX ax ac g1 ++ wR ax rq o1.2) ++ ((aq, va_ar (ac 5) 96 (pF (ps ++ [(tq, o1.1)]))) :: wL ax (ps ++ [(tq, o1.1)]))
            rw [wL_app]) (fun H locs hS => ?_)
          have hP := hS.1
          refine lv_iinc (v := x3 + 1) (lv' := [(3, .int (x3 + 1)), (2, .ref aq), (1, .ref rq), (0, .ref (ax 0))]) hx hb dX0_readCore_29 hl (k := 0) rfl rfl (by decide) rfl (fun ls hl => ?_)
          refine lv_aload_n hx hb dX0_readCore_32 rfl (lv_at hl 2 rfl) ?_
          refine va_getN (D := D) (ci := 10) (v := .int (rG_at o1.2)) (C := RX12) (T := TX12) (N := 3) hx hb hts in_X12 hown hG.1 hP 26 rfl rfl 1 (by decide) (va_Nw.use rfl (hG.2.1 _ nq400)) (fun _ h9 => h9) rfl dX0_readCore_33 ?_
          refine lv_aload_n hx hb dX0_readCore_36 rfl (lv_at hl 2 rfl) ?_
          refine va_getN (D := D) (ci := 10) (v := .int (rG_size o1.2)) (C := RX12) (T := TX12) (N := 3) hx hb hts in_X12 hown hG.1 hP 26 rfl rfl 0 (by decide) (va_Nw.use rfl (hG.2.1 _ nq398)) (fun _ h9 => h9) rfl dX0_readCore_37 ?_
          have hr : bX (if (rG_at o1.2) < (rG_size o1.2) then f_X0_readCore_L22 g1 n (x3 + 1) o1.2 (ps.map Prod.snd ++ [o1.1]) else some (Sum.inl (x3 + 1, o1.2, ps.map Prod.snd ++ [o1.1]))) (fun b2 => (b2, g1)) K = some r0 := hr
          have hms : ps.map Prod.snd ++ [o1.1] = (ps ++ [(tq, o1.1)]).map Prod.snd := by rw [List.map_append]; rfl
          rw [hms] at hr
          have hx3' := up_of hx3 hle
          rw [← hlen] at hx3'
          refine lv_icmp_lt (tgt := 22) hx hb dX0_readCore_40 (by decide) (fun c2 => ?_) (fun c2 => ?_)
          · rw [if_pos c2] at hr
            refine W.widen (k := 2 + 6 * (ps ++ [(tq, o1.1)]).length) (n := 99 + 38 * (ps ++ [(tq, o1.1)]).length) (by rw [hlen]; show 2 + 6 * ps.length + 6 ≤ _; omega) (by rw [hlen]; show 99 + 38 * ps.length + 38 ≤ _; omega) ?_
            exact ih (x3 + 1) o1.2 (ps ++ [(tq, o1.1)]) H locs ls hr hx3' (by omega) hl hS
          · rw [if_neg c2] at hr
            refine W.widen (k := 600) (n := 3900) (by show 2 + 6 * ps.length + 6 ≤ _; omega) (by show 99 + 38 * ps.length + 38 ≤ _; omega) ?_
            exact K43 (x3 + 1) o1.2 (ps ++ [(tq, o1.1)]) H locs ls hr hx3' (by omega) hl hS
  exact L22 1000 0 (xG_letterMany g, 0) [] H locs ls hr rfl (Nat.zero_le _) hl hS
