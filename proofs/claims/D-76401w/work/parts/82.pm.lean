/-! PLAIN LAWS 13: ways, whole -/
def row0 : RW := (fun _ => 0, fun _ => none)
theorem L_clearThen (x : XS) : ∃ y, f_X0_clearThen x = some y ∧ kw x y ∧ rowX (xG_waysThen y) (xG_fewThen y) row0 := by
  have h := loopI (fun n i (z : XS) => f_X0_clearThen_L2 n i z) 128 (fun k z => kw x z ∧ ∀ j, j < k → xG_waysThen z j = lN 0 ∧ xG_fewThen z j = encE 999 none) (fun z => kw x z ∧ ∀ j, j < 128 → xG_waysThen z j = lN 0 ∧ xG_fewThen z j = encE 999 none) (by
    intro n k z hk ⟨i1, i2⟩
    (try dsimp only)
    rcases Nat.lt_or_ge k 128 with hlt | hge
    · right
      refine ⟨hlt, ?_⟩
      have hin : ¬ (nI k < 0 ∨ 128 ≤ Int32.toNatClampNeg (nI k)) := nIn hlt (by omega)
      have hcl : Int32.toNatClampNeg (nI k) = k := nI_clamp (by omega)
      rw [f_X0_clearThen_L2, if_neg (n128 hlt), if_neg hin]
      simp only [obs, if_neg hin]
      rw [hcl, nI_1]
      refine ⟨_, ⟨i1.tr ⟨(kp.wt _ _).tr (kp.ft _ _), by rw [fTwb, wTb], by rw [fTfb, wTfb]⟩, fun j hj => ?_⟩, rfl⟩
      rw [fTw, wTw, fTf, wTft]
      by_cases e : j = k
      · rw [e, pk_uLs, pk_us]
        exact ⟨rfl, rfl⟩
      · rw [pk_uLn e, pk_un e]
        exact i2 j (by omega)
    · left
      have e : k = 128 := by omega
      subst e
      refine ⟨z, ?_, i1, i2⟩
      rw [f_X0_clearThen_L2, if_pos (by decide)]) 1000 0 x (by omega) ⟨kw.rf x, fun j hj => by omega⟩ (by omega)
  obtain ⟨y, h1, h2, h3⟩ := h
  rw [nI_0] at h1
  unfold f_X0_clearThen
  rw [h1]
  exact ⟨y, rfl, h2, h3⟩
theorem L_row {x : XS} {s c : Nat} {R : RW} (hs : s < 33554432) (hl : cG_left (xG_core0 x) = nI s) (hB : rowX (xG_waysBy x) (xG_fewBy x) R) (hT : rowX (xG_waysThen x) (xG_fewThen x) row0) (hR : okR c R) (hc : c < 25) :
    ∃ y, f_X0_waysTold_L68 (nI c) 1000 0 x = some y ∧ kw x y ∧ rowX (xG_waysThen y) (xG_fewThen y) (rwU (gonS s) c R 128) := by
  have h := loopI (fun n i (z : XS) => f_X0_waysTold_L68 (nI c) n i z) 128 (fun k z => kw x z ∧ rowX (xG_waysThen z) (xG_fewThen z) (rwU (gonS s) c R k)) (fun z => kw x z ∧ rowX (xG_waysThen z) (xG_fewThen z) (rwU (gonS s) c R 128)) (by
    intro n k z hk ⟨i1, i2⟩
    (try dsimp only)
    rcases Nat.lt_or_ge k 128 with hlt | hge
    · right
      refine ⟨hlt, ?_⟩
      have hin : ¬ (nI k < 0 ∨ 128 ≤ Int32.toNatClampNeg (nI k)) := nIn hlt (by omega)
      have hcl : Int32.toNatClampNeg (nI k) = k := nI_clamp (by omega)
      have hBz : rowX (xG_waysBy z) (xG_fewBy z) R := by rw [i1.2.1, i1.2.2]; exact hB
      have hlz : cG_left (xG_core0 z) = nI s := by rw [i1.1.1]; exact hl
      have e1 := (hBz k hlt).2
      rw [f_X0_waysTold_L68, if_neg (n128 hlt), if_neg hin, hcl, e1, nI_1]
      cases e : R.2 k with
      | none =>
        have hcv : rwU (gonS s) c R (k + 1) = rwU (gonS s) c R k := by rw [rwU, e]
        rw [hcv, if_pos (show (999 : Int32) ≤ encE 999 none by decide)]
        exact ⟨z, ⟨i1, i2⟩, rfl⟩
      | some f =>
        have hf := (hR k).2 f e
        have hcv : rwU (gonS s) c R (k + 1) = covS (gonS s) c k (R.1 k) f (rwU (gonS s) c R k) := by rw [rwU, e]
        have hlt2 : ¬ (999 : Int32) ≤ encE 999 (some f) := nI_ge (a := f) (b := 999) (by omega) (by omega)
        obtain ⟨y, y1, y2, y3⟩ := L_coverFrom hs hlz hBz i2 hR (rwU_ok hR k) hc hlt e
        rw [hcv, if_neg hlt2, y1]
        exact ⟨y, ⟨i1.tr y2, y3⟩, rfl⟩
    · left
      have e : k = 128 := by omega
      subst e
      refine ⟨z, ?_, i1, i2⟩
      rw [f_X0_waysTold_L68, if_pos (by decide)]) 1000 0 x (by omega) ⟨kw.rf x, hT⟩ (by omega)
  obtain ⟨y, h1, h2, h3⟩ := h
  rw [nI_0] at h1
  exact ⟨y, h1, h2, h3⟩
theorem L_ways {x : XS} {s : Nat} {what : Int32} (hs : s < 33554432) (hl : cG_left (xG_core0 x) = nI s) :
    ∃ y, (Option.bind (f_X0_clearThen x) fun o2 => Option.bind (some (xS_waysThen o2 (vp_updL (xG_waysThen o2) (Int32.toNatClampNeg (0 : Int32)) (1 : Int64)))) fun g3 => Option.bind (some (xS_fewThen g3 (upd (xG_fewThen g3) (Int32.toNatClampNeg (0 : Int32)) (0 : Int32)))) fun g4 => Option.bind (f_X0_waysTold_L24 1000 0 g4) fun o5 => if what = 0 then some (Sum.inl ((Int64.toInt32 ((xG_waysThen o5) (Int32.toNatClampNeg (0 : Int32)))), o5)) else some (Sum.inl (((xG_fewThen o5) (Int32.toNatClampNeg (0 : Int32))), o5))) = (some (Sum.inl (waysS s what, y)) : Option ((Int32 × XS) ⊕ (Int32 × XS))) ∧ kp x y := by
  obtain ⟨x1, a1, a2, a3⟩ := L_clearThen x
  have hcl0 : Int32.toNatClampNeg (0 : Int32) = 0 := nI_clamp (n := 0) (by omega)
  rw [a1]
  simp only [obs]
  rw [hcl0]
  obtain ⟨x2, e2⟩ : ∃ x2, x2 = xS_fewThen (xS_waysThen x1 (vp_updL (xG_waysThen x1) 0 1)) (upd (xG_fewThen (xS_waysThen x1 (vp_updL (xG_waysThen x1) 0 1))) 0 0) := ⟨_, rfl⟩
  rw [← e2]
  have k2 : kp x x2 := by rw [e2]; exact a2.1.tr ((kp.wt _ _).tr (kp.ft _ _))
  have r2 : rowX (xG_waysThen x2) (xG_fewThen x2) (tabS (gonS s) 0) := by
    intro j hj
    rw [e2, fTw, wTw, fTf, wTft]
    unfold tabS
    dsimp only
    by_cases e : j = 0
    · rw [e, pk_uLs, pk_us, upN_s, upN_s]
      exact ⟨rfl, rfl⟩
    · rw [pk_uLn e, pk_un e, upN_n _ _ e, upN_n _ _ e]
      exact a3 j hj
  have h := loopI (fun n i (z : XS) => f_X0_waysTold_L24 n i z) 25 (fun c z => kp x z ∧ rowX (xG_waysThen z) (xG_fewThen z) (tabS (gonS s) c)) (fun z => kp x z ∧ rowX (xG_waysThen z) (xG_fewThen z) (tabS (gonS s) 25)) (by
    intro n c z hk ⟨i1, i2⟩
    (try dsimp only)
    rcases Nat.lt_or_ge c 25 with hlt | hge
    · right
      refine ⟨hlt, ?_⟩
      rw [f_X0_waysTold_L24, if_neg (n25 hlt)]
      simp only [obs]
      obtain ⟨z1, e1⟩ : ∃ z1, z1 = xS_fewBy (xS_waysBy z (va_cpy (xG_waysThen z) (xG_waysBy z) 0 0 128)) (va_cpy (xG_fewThen (xS_waysBy z (va_cpy (xG_waysThen z) (xG_waysBy z) 0 0 128))) (xG_fewBy (xS_waysBy z (va_cpy (xG_waysThen z) (xG_waysBy z) 0 0 128))) 0 0 128) := ⟨_, rfl⟩
      rw [← e1]
      have k1 : kp z z1 := by rw [e1]; exact (kp.wb _ _).tr (kp.fb _ _)
      have b1 : rowX (xG_waysBy z1) (xG_fewBy z1) (tabS (gonS s) c) := by
        intro j hj
        rw [e1, fBwb, wBb, fBb, wBft, pk_cpy_in (by omega) (by omega), pk_cpy_in (by omega) (by omega), show 0 + (j - 0) = j by omega]
        exact i2 j hj
      obtain ⟨z2, c1, c2, c3⟩ := L_clearThen z1
      have hl2 : cG_left (xG_core0 z2) = nI s := by rw [c2.1.1, k1.1, i1.1]; exact hl
      obtain ⟨z3, d1, d2, d3⟩ := L_row (x := z2) hs hl2 (by rw [c2.2.1, c2.2.2]; exact b1) c3 (tab_ok _ c) hlt
      rw [c1]
      simp only [obs]
      rw [d1, nI_1]
      exact ⟨z3, ⟨((i1.tr k1).tr c2.1).tr d2.1, d3⟩, rfl⟩
    · left
      have e : c = 25 := by omega
      subst e
      refine ⟨z, ?_, i1, i2⟩
      rw [f_X0_waysTold_L24, if_pos (by decide)]) 1000 0 x2 (by omega) ⟨k2, r2⟩ (by omega)
  obtain ⟨y, h1, h2, h3⟩ := h
  rw [nI_0] at h1
  rw [h1]
  simp only [obs]
  have h4 := h3 0 (by omega)
  rw [h4.1, h4.2, lN_i]
  refine ⟨y, ?_, h2⟩
  unfold waysS
  by_cases hw : what = 0
  · rw [if_pos hw, if_pos hw]
  · rw [if_neg hw, if_neg hw]
    cases e : (tabS (gonS s) 25).2 0 with
    | none => exact absurd e (tab_some _ 25 (by omega))
    | some f => rfl
/-- the reference covers a cell -/
theorem M_cover {g : MS} {gone w e c : Nat} {R R' : RW} (hg : gone < 33554432) (hB : rowM (mG_counted g) (mG_few g) c R) (hT : rowM (mG_counted g) (mG_few g) (c + 1) R') (hR : okR c R) (hR' : okR (c + 1) R') (hc : c < 25) (hw : w < 128) (he : R.2 w = some e) :
    ∃ h, (Option.bind (if bI (w.testBit 0) = 0 then Option.bind (f_X9_has (nI gone) (nI c)) fun o26 => if o26 = 0 then if nI (128 * c + w) < 0 ∨ 3328 ≤ Int32.toNatClampNeg (nI (128 * c + w)) then none else if nI (128 * c + w) < 0 ∨ 3328 ≤ Int32.toNatClampNeg (nI (128 * c + w)) then none else Option.bind (f_X9_comesTo g (nI c + 1) (nI w >>> ((1 : Int32) &&& 31)) (mG_counted g (Int32.toNatClampNeg (nI (128 * c + w)))) (mG_few g (Int32.toNatClampNeg (nI (128 * c + w))))) fun o30 => some o30 else some g else if nI (128 * c + w) < 0 ∨ 3328 ≤ Int32.toNatClampNeg (nI (128 * c + w)) then none else if nI (128 * c + w) < 0 ∨ 3328 ≤ Int32.toNatClampNeg (nI (128 * c + w)) then none else Option.bind (f_X9_comesTo g (nI c + 1) (nI w >>> ((1 : Int32) &&& 31)) (mG_counted g (Int32.toNatClampNeg (nI (128 * c + w)))) (mG_few g (Int32.toNatClampNeg (nI (128 * c + w))))) fun o25 => some o25) fun o22 => f_X9_ways_L159 (nI gone) (nI c) (nI w) (nI (128 * c + w)) 4000 0 o22) = some h ∧ kpm g h ∧ rowM (mG_counted h) (mG_few h) c R ∧ rowM (mG_counted h) (mG_few h) (c + 1) (covS gone c w (R.1 w) e R') ∧ (∀ i, 128 * (c + 2) ≤ i → mG_counted h i = mG_counted g i ∧ mG_few h i = mG_few g i) := by
  have hw0 : f_X9_has (nI w) 0 = some (bI (w.testBit 0)) := M_has (k := 0) (by omega) (by omega)
  have hb1 := (hR w).1
  have hb2 := (hR w).2 e he
  have hin : ¬ (nI (128 * c + w) < 0 ∨ 3328 ≤ Int32.toNatClampNeg (nI (128 * c + w))) := nIn (by omega) (by omega)
  have hcl : Int32.toNatClampNeg (nI (128 * c + w)) = 128 * c + w := nI_clamp (by omega)
  have eB := hB w hw
  simp only [if_neg hin]
  rw [hcl, eB.1, eB.2, he, M_has (by omega) (by omega), shr1 (by omega), nI_1]
  simp only [obs]
  obtain ⟨h, h1, h2, h3, h4, h5⟩ := M_comesTo (t := w / 2) (wv := R.1 w) (ev := e) hB hT hR' hc (by omega) hb1 (by omega)
  have h1' : f_X9_comesTo g (nI (c + 1)) (nI (w / 2)) (nI (R.1 w)) (encE 1000000000 (some e)) = some h := h1
  rw [h1']
  simp only [obs]
  have quit : ∀ z, (gone.testBit c && !w.testBit 0) = false → f_X9_ways_L159 (nI gone) (nI c) (nI w) (nI (128 * c + w)) 4000 0 z = some z := by
    intro z hz
    rw [show (4000 : Nat) = 3999 + 1 from rfl, f_X9_ways_L159, if_neg (by decide), M_has (by omega) (by omega), hw0]
    simp only [obs]
    revert hz
    cases gone.testBit c
    · intro _
      rw [if_pos bI_f]
    · cases w.testBit 0
      · intro hz; cases hz
      · intro _
        rw [if_neg bI_n0, if_neg bI_n0]
  unfold covS
  cases e2 : w.testBit 0
  · rw [if_pos bI_f]
    cases e1 : gone.testBit c
    · rw [if_pos bI_f, if_pos (by rfl)]
      simp only [obs]
      rw [quit h (by rw [e1]; rfl)]
      exact ⟨h, rfl, h2, h3, h4, h5⟩
    · rw [if_neg bI_n0, if_neg (by decide)]
      simp only [obs]
      have hl := loopI (fun n i (z : MS) => f_X9_ways_L159 (nI gone) (nI c) (nI w) (nI (128 * c + w)) n i z) 4 (fun k z => kpm g z ∧ rowM (mG_counted z) (mG_few z) c R ∧ rowM (mG_counted z) (mG_few z) (c + 1) (covU gone c w (R.1 w) e R' k) ∧ (∀ i, 128 * (c + 2) ≤ i → mG_counted z i = mG_counted g i ∧ mG_few z i = mG_few g i)) (fun z => kpm g z ∧ rowM (mG_counted z) (mG_few z) c R ∧ rowM (mG_counted z) (mG_few z) (c + 1) (covU gone c w (R.1 w) e R' 4) ∧ (∀ i, 128 * (c + 2) ≤ i → mG_counted z i = mG_counted g i ∧ mG_few z i = mG_few g i)) (by
        intro n k z hk ⟨i1, i2, i3, i4⟩
        (try dsimp only)
        rcases Nat.lt_or_ge k 4 with hlt | hge
        · right
          refine ⟨hlt, ?_⟩
          have hbt := bitS_T k hlt c hc
          have hh := here_lt k hlt c hc
          have eBz := i2 w hw
          have hcv : ∀ b, shO gone c w k = b → covU gone c w (R.1 w) e R' (k + 1) = if b then goS ((w ||| bitS k c / 2 ^ c) / 2) (R.1 w) (e + 1) (covU gone c w (R.1 w) e R' k) else covU gone c w (R.1 w) e R' k := by
            intro b hb
            rw [covU, hb]
          rw [f_X9_ways_L159, if_neg (n4 hlt), M_has (by omega) (by omega), hw0, e1, e2]
          simp only [obs]
          rw [if_neg bI_n0, if_pos bI_f, M_canBite hlt hc, M_bite k hlt c hc]
          simp only [obs]
          rw [shrc (by omega) hc, nI_1 k]
          cases e3 : canS gone k c
          · rw [if_pos bI_f, hcv false (by unfold shO; rw [e3]; rfl)]
            simp only [obs, if_true]
            exact ⟨z, ⟨i1, i2, i3, i4⟩, rfl⟩
          · have hnz : bitS k c ≠ 0 := by
              unfold canS at e3
              exact (of_decide_eq_true e3).1
            have hnz2 := here_nz k hlt c hc hnz
            have d1 : ¬ nI (bitS k c / 2 ^ c) = 0 := by rw [pz_z (by omega)]; exact hnz2
            rw [if_neg bI_n0]
            simp only [obs, if_neg d1, if_neg hin]
            rw [pz_and, pz_or, hcl, eBz.1, eBz.2, he]
            have hT2 : bitS k c / 2 ^ c &&& w < 128 := Nat.lt_of_le_of_lt Nat.and_le_left hh
            by_cases c3 : bitS k c / 2 ^ c &&& w = 0
            · have d3 : nI (bitS k c / 2 ^ c &&& w) = 0 := by rw [c3]; rfl
              have ho := or128 hw hh
              obtain ⟨y2, g1, g2, g3, g4, g5⟩ := M_comesTo (g := z) (t := (w ||| bitS k c / 2 ^ c) / 2) (wv := R.1 w) (ev := e + 1) i2 i3 (covU_ok hR' hb1 hb2 k) hc (by omega) hb1 (by omega)
              have ee : encE 1000000000 (some e) + 1 = nI (e + 1) := nI_1 e
              rw [if_pos d3, shr1 (by omega), ee, nI_1 c, g1, hcv true (by unfold shO; rw [e3, decide_eq_true c3]; rfl)]
              exact ⟨y2, ⟨i1.tr g2, g3, g4, fun i hi => ⟨(g5 i hi).1.trans (i4 i hi).1, (g5 i hi).2.trans (i4 i hi).2⟩⟩, rfl⟩
            · rw [if_neg (by rw [pz_z (by omega)]; exact c3), hcv false (by unfold shO; rw [e3, decide_eq_false c3]; rfl)]
              exact ⟨z, ⟨i1, i2, i3, i4⟩, rfl⟩
        · left
          have e : k = 4 := by omega
          subst e
          refine ⟨z, ?_, i1, i2, i3, i4⟩
          rw [f_X9_ways_L159, if_pos (by decide)]) 4000 0 g (by omega) ⟨kpm.rf g, hB, hT, fun i hi => ⟨rfl, rfl⟩⟩ (by omega)
      obtain ⟨z, z1, z2⟩ := hl
      rw [nI_0] at z1
      rw [z1]
      exact ⟨z, rfl, z2⟩
  · rw [if_neg bI_n0, if_pos (by rw [Bool.or_true])]
    simp only [obs]
    rw [quit h (by rw [e2]; simp)]
    exact ⟨h, rfl, h2, h3, h4, h5⟩
theorem M_row {g : MS} {gone c : Nat} {R : RW} (hg : gone < 33554432) (hB : rowM (mG_counted g) (mG_few g) c R) (hT : rowM (mG_counted g) (mG_few g) (c + 1) row0) (hR : okR c R) (hc : c < 25) :
    ∃ h, f_X9_ways_L81 (nI gone) (nI c) 4000 0 g = some h ∧ kpm g h ∧ rowM (mG_counted h) (mG_few h) (c + 1) (rwU gone c R 128) ∧ (∀ i, 128 * (c + 2) ≤ i → mG_counted h i = mG_counted g i ∧ mG_few h i = mG_few g i) := by
  have h := loopI (fun n i (z : MS) => f_X9_ways_L81 (nI gone) (nI c) n i z) 128 (fun k z => kpm g z ∧ rowM (mG_counted z) (mG_few z) c R ∧ rowM (mG_counted z) (mG_few z) (c + 1) (rwU gone c R k) ∧ (∀ i, 128 * (c + 2) ≤ i → mG_counted z i = mG_counted g i ∧ mG_few z i = mG_few g i)) (fun z => kpm g z ∧ rowM (mG_counted z) (mG_few z) (c + 1) (rwU gone c R 128) ∧ (∀ i, 128 * (c + 2) ≤ i → mG_counted z i = mG_counted g i ∧ mG_few z i = mG_few g i)) (by
    intro n k z hk ⟨i1, i2, i3, i4⟩
    (try dsimp only)
    rcases Nat.lt_or_ge k 128 with hlt | hge
    · right
      refine ⟨hlt, ?_⟩
      have hin : ¬ (nI (128 * c + k) < 0 ∨ 3328 ≤ Int32.toNatClampNeg (nI (128 * c + k))) := nIn (by omega) (by omega)
      have hcl : Int32.toNatClampNeg (nI (128 * c + k)) = 128 * c + k := nI_clamp (by omega)
      have e1 := (i2 k hlt).2
      rw [f_X9_ways_L81, if_neg (n128 hlt)]
      simp only [obs]
      rw [mul128, nI_add, if_neg hin]
      have hfar : mG_few z (Int32.toNatClampNeg (nI (128 * c + k))) = encE 1000000000 (R.2 k) := by rw [hcl]; exact e1
      cases e : R.2 k with
      | none =>
        have hcv : rwU gone c R (k + 1) = rwU gone c R k := by rw [rwU, e]
        rw [if_pos (by rw [hfar, e]; rfl), hcv, nI_1]
        exact ⟨z, ⟨i1, i2, i3, i4⟩, rfl⟩
      | some f =>
        have hf := (hR k).2 f e
        have hcv : rwU gone c R (k + 1) = covS gone c k (R.1 k) f (rwU gone c R k) := by rw [rwU, e]
        have hne : ¬ mG_few z (Int32.toNatClampNeg (nI (128 * c + k))) = 1000000000 := by
          rw [hfar, e]
          have : nI f = nI 1000000000 ↔ f = 1000000000 := nI_eq (by omega) (by omega)
          intro hz
          have := this.1 hz
          omega
        obtain ⟨y, y1, y2, y3, y4, y5⟩ := M_cover hg i2 i3 hR (rwU_ok hR k) hc hlt e
        have hk0 : f_X9_has (nI k) 0 = some (bI (k.testBit 0)) := M_has (k := 0) (by omega) (by omega)
        rw [if_neg hne, hk0]
        simp only [obs]
        refine ⟨y, ⟨i1.tr y2, y3, by rw [hcv]; exact y4, fun i hi => ⟨(y5 i hi).1.trans (i4 i hi).1, (y5 i hi).2.trans (i4 i hi).2⟩⟩, ?_⟩
        rw [nI_1 k]
        have assoc : ∀ (a : Option MS) (b : MS → Option MS) (d : MS → Option MS), (Option.bind a fun o22 => Option.bind (b o22) fun o31 => d o31) = Option.bind (Option.bind a b) d := fun a b d => by cases a <;> rfl
        rw [assoc, y1]
        rfl
    · left
      have e : k = 128 := by omega
      subst e
      refine ⟨z, ?_, i1, i3, i4⟩
      rw [f_X9_ways_L81, if_pos (by decide)]) 4000 0 g (by omega) ⟨kpm.rf g, hB, hT, fun i hi => ⟨rfl, rfl⟩⟩ (by omega)
  obtain ⟨z, z1, z2⟩ := h
  rw [nI_0] at z1
  exact ⟨z, z1, z2⟩
theorem n3328 {k : Nat} (h : k < 3328) : ¬ (3328 : Int32) ≤ nI k := nI_ge h (by decide)
theorem M_waysClear (g : MS) : ∃ h, f_X9_ways_L28 4000 0 g = some h ∧ kpm g h ∧ ∀ j, j < 3328 → mG_counted h j = 0 ∧ mG_few h j = 1000000000 := by
  have h := loopI (fun n i (z : MS) => f_X9_ways_L28 n i z) 3328 (fun k z => kpm g z ∧ ∀ j, j < k → mG_counted z j = 0 ∧ mG_few z j = 1000000000) (fun z => kpm g z ∧ ∀ j, j < 3328 → mG_counted z j = 0 ∧ mG_few z j = 1000000000) (by
    intro n k z hk ⟨i1, i2⟩
    (try dsimp only)
    rcases Nat.lt_or_ge k 3328 with hlt | hge
    · right
      refine ⟨hlt, ?_⟩
      have hin : ¬ (nI k < 0 ∨ 3328 ≤ Int32.toNatClampNeg (nI k)) := nIn hlt (by omega)
      have hcl : Int32.toNatClampNeg (nI k) = k := nI_clamp (by omega)
      rw [f_X9_ways_L28, if_neg (n3328 hlt), if_neg hin]
      simp only [obs, if_neg hin]
      rw [hcl, nI_1]
      refine ⟨_, ⟨i1.tr ((kpm.co _ _).tr (kpm.fe _ _)), fun j hj => ?_⟩, rfl⟩
      rw [fec, coc, fef, cof]
      by_cases e : j = k
      · rw [e, pk_us, pk_us]
        exact ⟨rfl, rfl⟩
      · rw [pk_un e, pk_un e]
        exact i2 j (by omega)
    · left
      have e : k = 3328 := by omega
      subst e
      refine ⟨z, ?_, i1, i2⟩
      rw [f_X9_ways_L28, if_pos (by decide)]) 4000 0 g (by omega) ⟨kpm.rf g, fun j hj => by omega⟩ (by omega)
  obtain ⟨z, z1, z2⟩ := h
  rw [nI_0] at z1
  exact ⟨z, z1, z2⟩
theorem M_ways {g : MS} {s : Nat} {what : Int32} (hs : s < 33554432) (hl : mG_left g = nI s) :
    ∃ h, (Option.bind (some (((33554431 : Int32) &&& ((mG_left g) ^^^ (-1))) : Int32)) fun v3 => Option.bind (f_X9_ways_L28 4000 0 g) fun o4 => Option.bind (some (mS_counted o4 (upd (mG_counted o4) (Int32.toNatClampNeg (0 : Int32)) (1 : Int32)))) fun g11 => Option.bind (some (mS_few g11 (upd (mG_few g11) (Int32.toNatClampNeg (0 : Int32)) (0 : Int32)))) fun g12 => Option.bind (f_X9_ways_L72 v3 4000 0 g12) fun o13 => if what = 0 then some ((mG_counted o13 (Int32.toNatClampNeg (3200 : Int32))), o13) else some ((mG_few o13 (Int32.toNatClampNeg (3200 : Int32))), o13)) = some (waysS s what, h) ∧ kpm g h := by
  obtain ⟨g1, a1, a2, a3⟩ := M_waysClear g
  have hcl0 : Int32.toNatClampNeg (0 : Int32) = 0 := nI_clamp (n := 0) (by omega)
  have hcl2 : Int32.toNatClampNeg (3200 : Int32) = 3200 := nI_clamp (n := 3200) (by omega)
  rw [hl, a1, gon_e]
  simp only [obs]
  rw [hcl0, hcl2]
  obtain ⟨g2, e2⟩ : ∃ g2, g2 = mS_few (mS_counted g1 (upd (mG_counted g1) 0 1)) (upd (mG_few (mS_counted g1 (upd (mG_counted g1) 0 1))) 0 0) := ⟨_, rfl⟩
  rw [← e2]
  have k2 : kpm g g2 := by rw [e2]; exact a2.tr ((kpm.co _ _).tr (kpm.fe _ _))
  have r2 : rowM (mG_counted g2) (mG_few g2) 0 (tabS (gonS s) 0) := by
    intro j hj
    rw [e2, fec, coc, fef, cof, show 128 * 0 + j = j by omega]
    unfold tabS
    dsimp only
    by_cases e : j = 0
    · rw [e, pk_us, pk_us, upN_s, upN_s]
      exact ⟨rfl, rfl⟩
    · rw [pk_un e, pk_un e, upN_n _ _ e, upN_n _ _ e]
      exact a3 j (by omega)
  have z2 : ∀ i, 128 ≤ i → i < 3328 → mG_counted g2 i = 0 ∧ mG_few g2 i = 1000000000 := by
    intro i h1 h2
    rw [e2, fec, coc, fef, cof, pk_un (by omega), pk_un (by omega)]
    exact a3 i h2
  have h := loopI (fun n i (z : MS) => f_X9_ways_L72 (nI (gonS s)) n i z) 25 (fun c z => kpm g z ∧ rowM (mG_counted z) (mG_few z) c (tabS (gonS s) c) ∧ ∀ i, 128 * (c + 1) ≤ i → i < 3328 → mG_counted z i = 0 ∧ mG_few z i = 1000000000) (fun z => kpm g z ∧ rowM (mG_counted z) (mG_few z) 25 (tabS (gonS s) 25)) (by
    intro n c z hk ⟨i1, i2, i3⟩
    (try dsimp only)
    rcases Nat.lt_or_ge c 25 with hlt | hge
    · right
      refine ⟨hlt, ?_⟩
      obtain ⟨y, y1, y2, y3, y4⟩ := M_row (g := z) (gon_T s) i2 (fun j hj => i3 (128 * (c + 1) + j) (by omega) (by omega)) (tab_ok _ c) hlt
      rw [f_X9_ways_L72, if_neg (n25 hlt), y1, nI_1]
      exact ⟨y, ⟨i1.tr y2, y3, fun i h1 h2 => by rw [(y4 i (by omega)).1, (y4 i (by omega)).2]; exact i3 i (by omega) h2⟩, rfl⟩
    · left
      have e : c = 25 := by omega
      subst e
      refine ⟨z, ?_, i1, i2⟩
      rw [f_X9_ways_L72, if_pos (by decide)]) 4000 0 g2 (by omega) ⟨k2, r2, fun i h1 h2 => z2 i (by omega) h2⟩ (by omega)
  obtain ⟨y, h1, h2, h3⟩ := h
  rw [nI_0] at h1
  rw [h1]
  simp only [obs]
  have h4 := h3 0 (by omega)
  have h5 : mG_counted y 3200 = nI ((tabS (gonS s) 25).1 0) := h4.1
  have h6 : mG_few y 3200 = encE 1000000000 ((tabS (gonS s) 25).2 0) := h4.2
  rw [h5, h6]
  refine ⟨y, ?_, h2⟩
  unfold waysS
  by_cases hw : what = 0
  · rw [if_pos hw, if_pos hw]
  · rw [if_neg hw, if_neg hw]
    cases e : (tabS (gonS s) 25).2 0 with
    | none => exact absurd e (tab_some _ 25 (by omega))
    | some f => rfl
