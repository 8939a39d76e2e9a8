theorem sub_elder {s : State} {args : Array Value} {cE cK : ClassId} (hts : ∀ w ∈ lw_all, w.before args s = true) (hE : s.vm.findClass "CoresAreWills$Elder" = some cE) (hK : s.vm.findClass "CoresAreWills$Kind" = some cK) : s.vm.isSubclass cE cK = true := by
  obtain ⟨pN, kE, kN, h1, h2, h3, h4, -⟩ := Cond.superclass_spec hE (hts _ q153)
  obtain ⟨pK, kN', kK, g1, g2, g3, g4, -⟩ := Cond.superclass_spec h1 (hts _ q146)
  cases hK.symm.trans g1
  cases h3.symm.trans g2
  have lE := (Array.getElem?_eq_some_iff.mp h2).1
  have lK := (Array.getElem?_eq_some_iff.mp g3).1
  unfold Vm.isSubclass
  by_cases he : cE = cK
  · subst he; simp [Vm.isSubclassAux]
  · have he2 : (show Nat from cE) ≠ (show Nat from cK) := he
    have hz : 2 ≤ s.vm.classes.size := by
      show 2 ≤ s.vm.classes.size
      have lE' : (show Nat from cE) < s.vm.classes.size := lE
      have lK' : (show Nat from cK) < s.vm.classes.size := lK
      omega
    obtain ⟨n, hn⟩ : ∃ n, s.vm.classes.size + 1 = n + 3 := ⟨s.vm.classes.size - 2, by omega⟩
    rw [hn]
    simp [Vm.isSubclassAux, h2, h4, h3, g4]
section LWY
variable {p : Program} {l : Launch} {e : Env} {R : Room} {s : State} {m : MethodId} {args : Array Value} {below : List Frame} {meth : Method} {c : Code} {H : Heap} {locs : List Loc} {cells slots : Nat} {Q : State → Prop} {ls : Array Slot} {D : va_G} {ac : Nat → ClassId} {pc : Nat} {rest : List Value}
/-- super.inChancery(..) of Lawyer: named in Elder, found in Kind -/
theorem fw_lawyer (hx : p.tables.exec = Jvm.exec) (hb : c.code = cX5_inChancery) (hml : c.maxLocals = 2) (hown : s.vm.findClass RX5 = some m.cls) (hts : ∀ w ∈ lw_all, w.before args s = true) (hG : GK D ac s) {b : Nat} {x r : Int32} (hr : f_X1_inChancery x = some r) (hP : va_P D clG [(b, .inr (4, []))] H) (hsize : ls.size = 2) (hW : (rest.map fun v => v.category).sum ≤ 8) (hF : 3 ≤ R.frames) (hL : 60 ≤ R.locals) (hdg : decode cX5_inChancery pc = .ok (.invokespecial 11, 3)) (hf : cells ≤ R.cells ∧ slots ≤ R.slots)
    (kk : W p l e R s m args below meth c H locs cells slots Q (F0 m (pc + 3) ls (.int r :: rest))) : W p l e R s m args below meth c H locs cells slots Q (F0 m pc ls (.int x :: .ref b :: rest)) := by
  have hM := m_X1_inChancery l b x r hr
  have hinst := hts _ q693
  have hcode := hts _ q703
  have hini := hts _ q103
  have hK : Back l R p e below s args yX1_inChancery 3 8 (PreOf R 0 0 (va_Pc [.ref b, .int x] (fun _ => True))) (PostOf (RQ (some (.int r))) 0 0 noF) :=
    back_of (bytes := cX1_inChancery) (maxL := 2) (ret := some .int) (ws := ws_ yX1_inChancery cX1_inChancery 2 (some .int)) (rm := rm_X1_inChancery) hM (fun _ _ _ _ q => q) rfl rfl (Nat.le_trans (Nat.le_of_ble_eq_true rfl) hF) (Nat.le_trans (Nat.le_of_ble_eq_true rfl) hL) (pay_in hts (lw_meth q703)) List.mem_cons_self (fun a' U hW => word_at hW (Or.inl rfl) hini)
  obtain ⟨cell, hc1, hc2, hc3⟩ := va_recv hG.1 hP (ci := 4) (q0 := 0) rfl rfl
  obtain ⟨kB, hkB, -⟩ := Vm.findClass_spec hc3
  refine fw_back (v := some (.int r)) (a := ([.ref b, .int x] : List Value).toArray) (rest := rest) ?_ kk
  intro T hT X
  obtain ⟨mk, methM, hnamed, hmethM, hstM, habM⟩ := Cond.instanceMethod_spec hinst
  obtain ⟨methM', cM, hmethM', -, -, -, -, -, -, hsigM⟩ := Cond.code_spec hnamed hcode
  cases hmethM.symm.trans hmethM'
  obtain ⟨ps, dk, kp, hps, hdk, hkp, hsuper, -, -, hnid⟩ := Cond.superclass_spec hown (hts _ q167)
  have hsub : s.vm.isSubclass ps mk.cls = true := sub_elder hts hps (findClass_of_methodNamed hnamed)
  obtain ⟨vm₁, X₁, hstep₁⟩ := X.invokespecialUp hx (own := RX5) (owner := "CoresAreWills$Kind") (x := ⟨"CoresAreWills$Elder", "inChancery", "(I)I"⟩) hown (hts _ q700) (hts _ q701) hnamed hmethM hstM habM (by decide) hdk hnid hps hsuper hsub (a := b) (cell := cell) (by rw [hT]; exact hc1)
    (fun z h => by rw [h] at hc2; cases hc2) hkB (g := F0 m pc ls (.int x :: .ref b :: rest)) rfl (argsL := [.int x]) (rest := rest) (by
      have h2 : (parseMethodDescriptor "(I)I").map (fun d => d.parameters.length) = some 1 := by decide +kernel
      rw [show parseMethodDescriptor "(I)I" = some methM.sig from hsigM] at h2
      exact (Option.some.inj h2).symm) rfl (by rw [hb]; exact hdg)
  obtain ⟨v, B, X', hpost, hsteps⟩ := hK m meth c ⟨T.setVm vm₁, locs, cells, slots⟩ { F0 m pc ls (.int x :: .ref b :: rest) with stack := rest } (.invokespecial 11) mk (Value.ref b :: [.int x]).toArray X₁ rfl (hsize.trans hml.symm) (by rw [hb]; exact hdg) (lv_room (m := m) (pc := pc) (ls := ls) (rest := rest) hW) (X₁.named hnamed) ⟨hf.1, hf.2, rfl, trivial⟩
  obtain ⟨g', mk', t, L, e1, e2, hq, h1, hL2, h2, h3⟩ := hpost
  obtain ⟨U', l2, c2, s2⟩ := B
  dsimp only [Pt.U, Pt.locs, Pt.cells, Pt.slots] at X' e1 e2 h1 h2 h3 hsteps
  subst h1; subst h2; subst h3
  refine ⟨v, (T.setVm vm₁).calling g' mk' (Value.ref b :: [.int x]).toArray, t, U', L, hT, X', hL2, e1, e2, hq, fun target h => hstep₁ _ ?_⟩
  rw [doInvoke_state]; exact hsteps.trans h
end LWY
def f_X5_inChancery (a1 : Int32) : Option (Int32) := Option.bind (f_X1_inChancery a1) fun o1 => some (o1 + a1)
abbrev rm_X5_inChancery : Room := ({ frames := 3, cells := 0, slots := 0, locals := 60 })
theorem m_X5_inChancery (l : Launch) (D : va_G) (ax : Nat → Nat) (ac : Nat → ClassId) (b : Nat) (a1 r0 : Int32) (hr : f_X5_inChancery a1 = some r0) : PM l yX5_inChancery cX5_inChancery 2 (some FieldType.int) rm_X5_inChancery [.ref b, .int a1] (RP D ac [(b, .inr (4, []))]) (some (.int r0)) := by
  refine fw_of (by decide) (Nat.le_of_ble_eq_true rfl) ?_
  intro p e s m below meth c ls hx hb hrt hts hown hlk hml _ hU hl
  obtain ⟨hP, hG⟩ := hU
  have hl : lv_has ls 2 [(0, .ref b), (1, .int a1)] := hl
  rw [f_X5_inChancery] at hr
  refine lv_aload_n hx hb dX5_inChancery_0 rfl (lv_at hl 0 rfl) ?_
  refine lv_iload_n hx hb dX5_inChancery_1 rfl (lv_at hl 1 rfl) ?_
  obtain ⟨o1, ho1, hr⟩ := br_bind hr
  refine fw_lawyer hx hb hml hown hts hG ho1 hP hl.1 (Nat.le_of_ble_eq_true rfl) (Nat.le_of_ble_eq_true rfl) (Nat.le_of_ble_eq_true rfl) dX5_inChancery_2 ⟨Nat.zero_le _, Nat.zero_le _⟩ ?_
  refine lv_iload_n hx hb dX5_inChancery_5 rfl (lv_at hl 1 rfl) ?_
  refine lv_iadd hx hb dX5_inChancery_6 ?_
  exact W.iret hx hb hrt (fun t ht _ => ⟨ret_i hr, ht⟩) noB dX5_inChancery_7 hlk
def f_K_share (k : Fin 6) (cv : CV) (fig : Int32) : Option Int32 := match k with
  | 0 => f_X2_share cv fig
  | 1 => f_X3_share cv fig
  | 2 => f_X4_share cv fig
  | 3 => f_X5_share cv fig
  | 4 => f_X6_share cv fig
  | 5 => f_X7_share cv fig
theorem fw_share {p : Program} {l : Launch} {e : Env} {R : Room} {s : State} {m : MethodId} {args : Array Value} {below : List Frame} {meth : Method} {c : Code} {H : Heap} {locs : List Loc} {cells slots : Nat} {Q : State → Prop} {ls : Array Slot} {cc : ByteArray} {nL index pc : Nat} {own : String} {D : va_G} {ac : Nat → ClassId} {ax : Nat → Nat} {rest : List Value} {b kq fq : Nat} {cv : CV} (hx : p.tables.exec = Jvm.exec) (hb : c.code = cc) (hml : c.maxLocals = nL) (hown : s.vm.findClass own = some m.cls) (hts : ∀ w ∈ lw_all, w.before args s = true) (hlink : Cond.methodLink own index ⟨"CoresAreWills$Kind", "share", "(LCoresAreWills$Core;I)I"⟩ ∈ lw_all) (hG : GK D ac s) (hPc : va_P D clG (wC ax b kq fq ac cv) H) (hPk : va_P D clG (wK ax) H) {k : Fin 6} {fig : Int32} {r : Int32} (hr : f_K_share k cv fig = some r) (hsize : ls.size = nL) (hW : (rest.map fun v => v.category).sum ≤ 8) (hF : 8 ≤ R.frames) (hL : 400 ≤ R.locals) (hdg : decode cc pc = .ok (.invokevirtual index, 3)) (hf : cells ≤ R.cells ∧ slots ≤ R.slots)
    (kk : W p l e R s m args below meth c H locs cells slots Q (F0 m (pc + 3) ls (.int r :: rest))) : W p l e R s m args below meth c H locs cells slots Q (F0 m pc ls (.int fig :: .ref b :: .ref (ax (11 + k.val)) :: rest)) := by
  match k, hr with
  | 0, hr => exact fwRU (As := [.ref b, .int fig]) (rest := rest) (C := RX2) hx hb hml hown hts (m_X2_share l D ax ac b kq fq cv (ax 11) 1 RX2 rfl fig r hr) (va_cwA 2 hts (lw_U hlink q709 q730 q714 q104 q715) rfl rfl rfl (hG.2.1 _ nq708) (by decide +kernel) ⟨Nat.le_trans (Nat.le_of_ble_eq_true rfl) hF, Nat.le_trans (Nat.le_of_ble_eq_true rfl) hL⟩) hG hPk (hPc.app (hPk.pick [0] rfl)) 0 1 rfl rfl rfl hsize rfl hW hdg hf kk
  | 1, hr => exact fwRU (As := [.ref b, .int fig]) (rest := rest) (C := RX3) hx hb hml hown hts (m_X3_share l D ax ac b kq fq cv (ax 12) 2 RX3 rfl fig r hr) (va_cwA 2 hts (lw_U hlink q709 q710 q711 q105 q712) rfl rfl rfl (hG.2.1 _ nq708) (by decide +kernel) ⟨Nat.le_trans (Nat.le_of_ble_eq_true rfl) hF, Nat.le_trans (Nat.le_of_ble_eq_true rfl) hL⟩) hG hPk (hPc.app (hPk.pick [1] rfl)) 1 2 rfl rfl rfl hsize rfl hW hdg hf kk
  | 2, hr => exact fwRU (As := [.ref b, .int fig]) (rest := rest) (C := RX4) hx hb hml hown hts (m_X4_share l D ax ac b kq fq cv (ax 13) 3 RX4 rfl fig r hr) (va_cwA 2 hts (lw_U hlink q709 q736 q722 q106 q723) rfl rfl rfl (hG.2.1 _ nq708) (by decide +kernel) ⟨Nat.le_trans (Nat.le_of_ble_eq_true rfl) hF, Nat.le_trans (Nat.le_of_ble_eq_true rfl) hL⟩) hG hPk (hPc.app (hPk.pick [2] rfl)) 2 3 rfl rfl rfl hsize rfl hW hdg hf kk
  | 3, hr => exact fwRU (As := [.ref b, .int fig]) (rest := rest) (C := RX5) hx hb hml hown hts (m_X5_share l D ax ac b kq fq cv (ax 14) 4 RX5 rfl fig r hr) (va_cwA 2 hts (lw_U hlink q709 q726 q727 q107 q728) rfl rfl rfl (hG.2.1 _ nq708) (by decide +kernel) ⟨Nat.le_trans (Nat.le_of_ble_eq_true rfl) hF, Nat.le_trans (Nat.le_of_ble_eq_true rfl) hL⟩) hG hPk (hPc.app (hPk.pick [3] rfl)) 3 4 rfl rfl rfl hsize rfl hW hdg hf kk
  | 4, hr => exact fwRU (As := [.ref b, .int fig]) (rest := rest) (C := RX6) hx hb hml hown hts (m_X6_share l D ax ac b kq fq cv (ax 15) 5 RX6 rfl fig r hr) (va_cwA 2 hts (lw_U hlink q709 q731 q732 q108 q733) rfl rfl rfl (hG.2.1 _ nq708) (by decide +kernel) ⟨Nat.le_trans (Nat.le_of_ble_eq_true rfl) hF, Nat.le_trans (Nat.le_of_ble_eq_true rfl) hL⟩) hG hPk (hPc.app (hPk.pick [4] rfl)) 4 5 rfl rfl rfl hsize rfl hW hdg hf kk
  | 5, hr => exact fwRU (As := [.ref b, .int fig]) (rest := rest) (C := RX7) hx hb hml hown hts (m_X7_share l D ax ac b kq fq cv (ax 16) 6 RX7 rfl fig r hr) (va_cwA 2 hts (lw_U hlink q709 q718 q719 q109 q720) rfl rfl rfl (hG.2.1 _ nq708) (by decide +kernel) ⟨Nat.le_trans (Nat.le_of_ble_eq_true rfl) hF, Nat.le_trans (Nat.le_of_ble_eq_true rfl) hL⟩) hG hPk (hPc.app (hPk.pick [5] rfl)) 5 6 rfl rfl rfl hsize rfl hW hdg hf kk
def f_K_inChancery (k : Fin 6) (fig : Int32) : Option Int32 := match k with
  | 0 => f_X1_inChancery fig
  | 1 => f_X1_inChancery fig
  | 2 => f_X1_inChancery fig
  | 3 => f_X5_inChancery fig
  | 4 => f_X1_inChancery fig
  | 5 => f_X1_inChancery fig
theorem fw_inChancery {p : Program} {l : Launch} {e : Env} {R : Room} {s : State} {m : MethodId} {args : Array Value} {below : List Frame} {meth : Method} {c : Code} {H : Heap} {locs : List Loc} {cells slots : Nat} {Q : State → Prop} {ls : Array Slot} {cc : ByteArray} {nL index pc : Nat} {own : String} {D : va_G} {ac : Nat → ClassId} {ax : Nat → Nat} {rest : List Value} (hx : p.tables.exec = Jvm.exec) (hb : c.code = cc) (hml : c.maxLocals = nL) (hown : s.vm.findClass own = some m.cls) (hts : ∀ w ∈ lw_all, w.before args s = true) (hlink : Cond.methodLink own index ⟨"CoresAreWills$Kind", "inChancery", "(I)I"⟩ ∈ lw_all) (hG : GK D ac s) (hPk : va_P D clG (wK ax) H) {k : Fin 6} {fig : Int32} {r : Int32} (hr : f_K_inChancery k fig = some r) (hsize : ls.size = nL) (hW : (rest.map fun v => v.category).sum ≤ 8) (hF : 8 ≤ R.frames) (hL : 400 ≤ R.locals) (hdg : decode cc pc = .ok (.invokevirtual index, 3)) (hf : cells ≤ R.cells ∧ slots ≤ R.slots)
    (kk : W p l e R s m args below meth c H locs cells slots Q (F0 m (pc + 3) ls (.int r :: rest))) : W p l e R s m args below meth c H locs cells slots Q (F0 m pc ls (.int fig :: .ref (ax (11 + k.val)) :: rest)) := by
  match k, hr with
  | 0, hr => exact fwPU (As := [.int fig]) (rest := rest) (C := RX2) hx hb hml hown hts (m_X1_inChancery l (ax 11) fig r hr) (va_cwA 1 hts (lw_U hlink q694 q704 q693 q103 q703) rfl rfl rfl (hG.2.1 _ nq702) (by decide +kernel) ⟨Nat.le_trans (Nat.le_of_ble_eq_true rfl) hF, Nat.le_trans (Nat.le_of_ble_eq_true rfl) hL⟩) hG hPk 0 1 rfl rfl rfl hsize rfl hW hdg hf kk
  | 1, hr => exact fwPU (As := [.int fig]) (rest := rest) (C := RX3) hx hb hml hown hts (m_X1_inChancery l (ax 12) fig r hr) (va_cwA 1 hts (lw_U hlink q694 q695 q693 q103 q703) rfl rfl rfl (hG.2.1 _ nq702) (by decide +kernel) ⟨Nat.le_trans (Nat.le_of_ble_eq_true rfl) hF, Nat.le_trans (Nat.le_of_ble_eq_true rfl) hL⟩) hG hPk 1 2 rfl rfl rfl hsize rfl hW hdg hf kk
  | 2, hr => exact fwPU (As := [.int fig]) (rest := rest) (C := RX4) hx hb hml hown hts (m_X1_inChancery l (ax 13) fig r hr) (va_cwA 1 hts (lw_U hlink q694 q706 q693 q103 q703) rfl rfl rfl (hG.2.1 _ nq702) (by decide +kernel) ⟨Nat.le_trans (Nat.le_of_ble_eq_true rfl) hF, Nat.le_trans (Nat.le_of_ble_eq_true rfl) hL⟩) hG hPk 2 3 rfl rfl rfl hsize rfl hW hdg hf kk
  | 3, hr => exact fwRU (As := [.int fig]) (rest := rest) (C := RX5) hx hb hml hown hts (m_X5_inChancery l D ax ac (ax 14) fig r hr) (va_cwA 1 hts (lw_U hlink q694 q697 q698 q107 q699) rfl rfl rfl (hG.2.1 _ nq702) (by decide +kernel) ⟨Nat.le_trans (Nat.le_of_ble_eq_true rfl) hF, Nat.le_trans (Nat.le_of_ble_eq_true rfl) hL⟩) hG hPk (hPk.pick [3] rfl) 3 4 rfl rfl rfl hsize rfl hW hdg hf kk
  | 4, hr => exact fwPU (As := [.int fig]) (rest := rest) (C := RX6) hx hb hml hown hts (m_X1_inChancery l (ax 15) fig r hr) (va_cwA 1 hts (lw_U hlink q694 q705 q693 q103 q703) rfl rfl rfl (hG.2.1 _ nq702) (by decide +kernel) ⟨Nat.le_trans (Nat.le_of_ble_eq_true rfl) hF, Nat.le_trans (Nat.le_of_ble_eq_true rfl) hL⟩) hG hPk 4 5 rfl rfl rfl hsize rfl hW hdg hf kk
  | 5, hr => exact fwPU (As := [.int fig]) (rest := rest) (C := RX7) hx hb hml hown hts (m_X1_inChancery l (ax 16) fig r hr) (va_cwA 1 hts (lw_U hlink q694 q696 q693 q103 q703) rfl rfl rfl (hG.2.1 _ nq702) (by decide +kernel) ⟨Nat.le_trans (Nat.le_of_ble_eq_true rfl) hF, Nat.le_trans (Nat.le_of_ble_eq_true rfl) hL⟩) hG hPk 5 6 rfl rfl rfl hsize rfl hW hdg hf kk
def f_K_kind (k : Fin 6) : Option Int32 := match k with
  | 0 => f_X2_kind
  | 1 => f_X3_kind
  | 2 => f_X4_kind
  | 3 => f_X5_kind
  | 4 => f_X6_kind
  | 5 => f_X7_kind
theorem fw_kind {p : Program} {l : Launch} {e : Env} {R : Room} {s : State} {m : MethodId} {args : Array Value} {below : List Frame} {meth : Method} {c : Code} {H : Heap} {locs : List Loc} {cells slots : Nat} {Q : State → Prop} {ls : Array Slot} {cc : ByteArray} {nL index pc : Nat} {own : String} {D : va_G} {ac : Nat → ClassId} {ax : Nat → Nat} {rest : List Value} (hx : p.tables.exec = Jvm.exec) (hb : c.code = cc) (hml : c.maxLocals = nL) (hown : s.vm.findClass own = some m.cls) (hts : ∀ w ∈ lw_all, w.before args s = true) (hlink : Cond.methodLink own index ⟨"CoresAreWills$Kind", "kind", "()I"⟩ ∈ lw_all) (hG : GK D ac s) (hPk : va_P D clG (wK ax) H) {k : Fin 6} {r : Int32} (hr : f_K_kind k = some r) (hsize : ls.size = nL) (hW : (rest.map fun v => v.category).sum ≤ 8) (hF : 8 ≤ R.frames) (hL : 400 ≤ R.locals) (hdg : decode cc pc = .ok (.invokevirtual index, 3)) (hf : cells ≤ R.cells ∧ slots ≤ R.slots)
    (kk : W p l e R s m args below meth c H locs cells slots Q (F0 m (pc + 3) ls (.int r :: rest))) : W p l e R s m args below meth c H locs cells slots Q (F0 m pc ls (.ref (ax (11 + k.val)) :: rest)) := by
  match k, hr with
  | 0, hr => exact fwPU (As := []) (rest := rest) (C := RX2) hx hb hml hown hts (m_X2_kind l (ax 11) r hr) (va_cwA 0 hts (lw_U hlink q665 q675 q676 q104 q677) rfl rfl rfl (hG.2.1 _ nq664) (by decide +kernel) ⟨Nat.le_trans (Nat.le_of_ble_eq_true rfl) hF, Nat.le_trans (Nat.le_of_ble_eq_true rfl) hL⟩) hG hPk 0 1 rfl rfl rfl hsize rfl hW hdg hf kk
  | 1, hr => exact fwPU (As := []) (rest := rest) (C := RX3) hx hb hml hown hts (m_X3_kind l (ax 12) r hr) (va_cwA 0 hts (lw_U hlink q665 q666 q667 q105 q668) rfl rfl rfl (hG.2.1 _ nq664) (by decide +kernel) ⟨Nat.le_trans (Nat.le_of_ble_eq_true rfl) hF, Nat.le_trans (Nat.le_of_ble_eq_true rfl) hL⟩) hG hPk 1 2 rfl rfl rfl hsize rfl hW hdg hf kk
  | 2, hr => exact fwPU (As := []) (rest := rest) (C := RX4) hx hb hml hown hts (m_X4_kind l (ax 13) r hr) (va_cwA 0 hts (lw_U hlink q665 q681 q682 q106 q683) rfl rfl rfl (hG.2.1 _ nq664) (by decide +kernel) ⟨Nat.le_trans (Nat.le_of_ble_eq_true rfl) hF, Nat.le_trans (Nat.le_of_ble_eq_true rfl) hL⟩) hG hPk 2 3 rfl rfl rfl hsize rfl hW hdg hf kk
  | 3, hr => exact fwPU (As := []) (rest := rest) (C := RX5) hx hb hml hown hts (m_X5_kind l (ax 14) r hr) (va_cwA 0 hts (lw_U hlink q665 q672 q673 q107 q674) rfl rfl rfl (hG.2.1 _ nq664) (by decide +kernel) ⟨Nat.le_trans (Nat.le_of_ble_eq_true rfl) hF, Nat.le_trans (Nat.le_of_ble_eq_true rfl) hL⟩) hG hPk 3 4 rfl rfl rfl hsize rfl hW hdg hf kk
  | 4, hr => exact fwPU (As := []) (rest := rest) (C := RX6) hx hb hml hown hts (m_X6_kind l (ax 15) r hr) (va_cwA 0 hts (lw_U hlink q665 q678 q679 q108 q680) rfl rfl rfl (hG.2.1 _ nq664) (by decide +kernel) ⟨Nat.le_trans (Nat.le_of_ble_eq_true rfl) hF, Nat.le_trans (Nat.le_of_ble_eq_true rfl) hL⟩) hG hPk 4 5 rfl rfl rfl hsize rfl hW hdg hf kk
  | 5, hr => exact fwPU (As := []) (rest := rest) (C := RX7) hx hb hml hown hts (m_X7_kind l (ax 16) r hr) (va_cwA 0 hts (lw_U hlink q665 q669 q670 q109 q671) rfl rfl rfl (hG.2.1 _ nq664) (by decide +kernel) ⟨Nat.le_trans (Nat.le_of_ble_eq_true rfl) hF, Nat.le_trans (Nat.le_of_ble_eq_true rfl) hL⟩) hG hPk 5 6 rfl rfl rfl hsize rfl hW hdg hf kk