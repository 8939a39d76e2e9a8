/-! PLAIN LAWS 12: ways, by rows of 128 -/
abbrev RW : Type := (Nat → Nat) × (Nat → Option Nat)
def upN {α : Type} (f : Nat → α) (k : Nat) (v : α) : Nat → α := fun j => if j = k then v else f j
theorem upN_s {α : Type} (f : Nat → α) (k : Nat) (v : α) : upN f k v k = v := if_pos rfl
theorem upN_n {α : Type} (f : Nat → α) {k j : Nat} (v : α) (h : j ≠ k) : upN f k v j = f j := if_neg h
def mnO (o : Option Nat) (e : Nat) : Nat := match o with
  | none => e
  | some f => if e < f then e else f
def goS (t wv ev : Nat) (R : RW) : RW := (upN R.1 t ((R.1 t + wv) % 1000003), upN R.2 t (some (mnO (R.2 t) ev)))
def encE (inf : Int32) (o : Option Nat) : Int32 := match o with
  | none => inf
  | some e => nI e
/-- a row of the class, a row of the reference -/
def rowX (f : Nat → Int64) (g : Nat → Int32) (R : RW) : Prop := ∀ w, w < 128 → f w = lN (R.1 w) ∧ g w = encE 999 (R.2 w)
def rowM (f g : Nat → Int32) (c : Nat) (R : RW) : Prop := ∀ w, w < 128 → f (128 * c + w) = nI (R.1 w) ∧ g (128 * c + w) = encE 1000000000 (R.2 w)
def okR (c : Nat) (R : RW) : Prop := ∀ w, R.1 w < 1000003 ∧ ∀ e, R.2 w = some e → e ≤ c
theorem goS_ok {t wv ev c : Nat} {R : RW} (h : okR c R) (hw : wv < 1000003) (he : ev ≤ c) : okR c (goS t wv ev R) := by
  intro w
  obtain ⟨h1, h2⟩ := h w
  unfold goS
  dsimp only
  by_cases e : w = t
  · subst e
    rw [upN_s, upN_s]
    refine ⟨Nat.mod_lt _ (by omega), fun f hf => ?_⟩
    cases hf
    unfold mnO
    cases h3 : R.2 w with
    | none => exact he
    | some f =>
      dsimp only
      split
      · exact he
      · exact h2 f h3
  · rw [upN_n _ _ e, upN_n _ _ e]
    exact ⟨h1, h2⟩
theorem goS_some {t wv ev j : Nat} {R : RW} (h : R.2 j ≠ none) : (goS t wv ev R).2 j ≠ none := by
  unfold goS
  dsimp only
  by_cases e : j = t
  · rw [e, upN_s]; exact fun z => by cases z
  · rw [upN_n _ _ e]; exact h
theorem wTw (x : XS) (f : Nat → Int64) : xG_waysThen (xS_waysThen x f) = f := rfl
theorem wTb (x : XS) (f : Nat → Int64) : xG_waysBy (xS_waysThen x f) = xG_waysBy x := rfl
theorem wTfb (x : XS) (f : Nat → Int64) : xG_fewBy (xS_waysThen x f) = xG_fewBy x := rfl
theorem wTft (x : XS) (f : Nat → Int64) : xG_fewThen (xS_waysThen x f) = xG_fewThen x := rfl
theorem fTw (x : XS) (f : Nat → Int32) : xG_waysThen (xS_fewThen x f) = xG_waysThen x := rfl
theorem fTwb (x : XS) (f : Nat → Int32) : xG_waysBy (xS_fewThen x f) = xG_waysBy x := rfl
theorem fTfb (x : XS) (f : Nat → Int32) : xG_fewBy (xS_fewThen x f) = xG_fewBy x := rfl
theorem fTf (x : XS) (f : Nat → Int32) : xG_fewThen (xS_fewThen x f) = f := rfl
theorem wBb (x : XS) (f : Nat → Int64) : xG_waysBy (xS_waysBy x f) = f := rfl
theorem wBt (x : XS) (f : Nat → Int64) : xG_waysThen (xS_waysBy x f) = xG_waysThen x := rfl
theorem wBfb (x : XS) (f : Nat → Int64) : xG_fewBy (xS_waysBy x f) = xG_fewBy x := rfl
theorem wBft (x : XS) (f : Nat → Int64) : xG_fewThen (xS_waysBy x f) = xG_fewThen x := rfl
theorem fBb (x : XS) (f : Nat → Int32) : xG_fewBy (xS_fewBy x f) = f := rfl
theorem fBwb (x : XS) (f : Nat → Int32) : xG_waysBy (xS_fewBy x f) = xG_waysBy x := rfl
theorem fBwt (x : XS) (f : Nat → Int32) : xG_waysThen (xS_fewBy x f) = xG_waysThen x := rfl
theorem fBft (x : XS) (f : Nat → Int32) : xG_fewThen (xS_fewBy x f) = xG_fewThen x := rfl
theorem kp.wt (x : XS) (f : Nat → Int64) : kp x (xS_waysThen x f) := ⟨rfl, rfl, rfl, rfl, rfl, rfl, rfl, rfl⟩
theorem kp.ft (x : XS) (f : Nat → Int32) : kp x (xS_fewThen x f) := ⟨rfl, rfl, rfl, rfl, rfl, rfl, rfl, rfl⟩
theorem kp.wb (x : XS) (f : Nat → Int64) : kp x (xS_waysBy x f) := ⟨rfl, rfl, rfl, rfl, rfl, rfl, rfl, rfl⟩
theorem kp.fb (x : XS) (f : Nat → Int32) : kp x (xS_fewBy x f) := ⟨rfl, rfl, rfl, rfl, rfl, rfl, rfl, rfl⟩
/-- what a row's making keeps -/
def kw (x y : XS) : Prop := kp x y ∧ xG_waysBy y = xG_waysBy x ∧ xG_fewBy y = xG_fewBy x
theorem kw.rf (x : XS) : kw x x := ⟨kp.rf x, rfl, rfl⟩
theorem kw.tr {x y z : XS} (h : kw x y) (k : kw y z) : kw x z := ⟨h.1.tr k.1, k.2.1.trans h.2.1, k.2.2.trans h.2.2⟩
theorem shr1 {n : Nat} (h : n < 2147483648) : nI n >>> ((1 : Int32) &&& 31) = nI (n / 2) := pk_shrN h ((1 : Int32) &&& 31) 1 (by decide +kernel)
theorem rem3L {a : Nat} (h : a < 9223372036854775808) : lN a - lN a / 1000003 * 1000003 = lN (a % 1000003) := pk_lRem (a := a) (b := 1000003) h (by omega) (by omega)
theorem rem3 {a : Nat} (h : a < 2147483648) : nI a - nI a / 1000003 * 1000003 = nI (a % 1000003) := pk_rem (a := a) (d := 1000003) h (by omega) (by omega)
theorem L_goTo {x : XS} {w q e d c : Nat} {R R' : RW} (hB : rowX (xG_waysBy x) (xG_fewBy x) R) (hT : rowX (xG_waysThen x) (xG_fewThen x) R') (hR : okR c R) (hR' : okR (c + 1) R') (hc : c < 25) (hw : w < 128) (hq : q < 128) (he : R.2 q = some e) (hd : d ≤ 1) :
    ∃ y, f_X0_goTo x (nI w) (nI q) (nI d) = some y ∧ kw x y ∧ rowX (xG_waysThen y) (xG_fewThen y) (goS (w / 2) (R.1 q) (e + d) R') := by
  have b1 := (hR q).1
  have b2 := (hR' (w / 2)).1
  have b3 := (hR q).2 e he
  have hin : ¬ (nI (w / 2) < 0 ∨ 128 ≤ Int32.toNatClampNeg (nI (w / 2))) := nIn (by omega) (by omega)
  have hin2 : ¬ (nI q < 0 ∨ 128 ≤ Int32.toNatClampNeg (nI q)) := nIn hq (by omega)
  have hcl : Int32.toNatClampNeg (nI (w / 2)) = w / 2 := nI_clamp (by omega)
  have hcl2 : Int32.toNatClampNeg (nI q) = q := nI_clamp (by omega)
  have eB := hB q hq
  have eT := hT (w / 2) (by omega)
  unfold f_X0_goTo
  simp only [obs]
  rw [shr1 (by omega), if_neg hin, if_neg hin2, if_neg hin, if_neg hin, if_neg hin2, if_neg hin, hcl, hcl2, eT.1, eB.1, lN_add, rem3L (by omega)]
  have hmin : ∀ x' : XS, xG_fewBy x' q = nI e → xG_fewThen x' (w / 2) = encE 999 (R'.2 (w / 2)) → (if xG_fewBy x' q + nI d < xG_fewThen x' (w / 2) then xG_fewBy x' q + nI d else xG_fewThen x' (w / 2)) = nI (mnO (R'.2 (w / 2)) (e + d)) := by
    intro x' g1 g2
    rw [g1, g2, nI_add]
    cases e3 : R'.2 (w / 2) with
    | none =>
      have : nI (e + d) < encE 999 none := nI_lt (b := 999) (by omega) (by omega)
      rw [if_pos this]
      rfl
    | some f =>
      have b4 := (hR' (w / 2)).2 f e3
      show (if nI (e + d) < nI f then nI (e + d) else nI f) = nI (if e + d < f then e + d else f)
      by_cases e4 : e + d < f
      · rw [if_pos (nI_lt e4 (by omega)), if_pos e4]
      · rw [if_neg (nI_nlt (by omega) (by omega)), if_neg e4]
  have g1 : xG_fewBy x q = nI e := by rw [eB.2, he]; rfl
  rw [hmin (xS_waysThen x _) (by rw [wTfb]; exact g1) (by rw [wTft]; exact eT.2), wTft]
  refine ⟨_, rfl, ⟨(kp.wt _ _).tr (kp.ft _ _), by rw [fTwb, wTb], by rw [fTfb, wTfb]⟩, fun j hj => ?_⟩
  rw [fTw, wTw, fTf]
  unfold goS
  dsimp only
  by_cases e5 : j = w / 2
  · rw [e5, pk_uLs, pk_us, upN_s, upN_s]
    exact ⟨rfl, rfl⟩
  · rw [pk_uLn e5, pk_un e5, upN_n _ _ e5, upN_n _ _ e5]
    exact hT j hj
/-- what the reference's ways keep -/
def kpm (g h : MS) : Prop := mG_left h = mG_left g ∧ mG_bites h = mG_bites g ∧ mG_many h = mG_many g ∧ mG_imageLeft h = mG_imageLeft g ∧ mG_imageBites h = mG_imageBites g ∧ mG_imageMany h = mG_imageMany g ∧ mG_hasImage h = mG_hasImage g ∧ mG_letterMany h = mG_letterMany g ∧ mG_rowMany h = mG_rowMany g ∧ mG_kind h = mG_kind g ∧ mG_figure h = mG_figure g ∧ mG_imageKind h = mG_imageKind g ∧ mG_imageFigure h = mG_imageFigure g ∧ mG_letters h = mG_letters g ∧ mG_row h = mG_row g ∧ mG_refused h = mG_refused g
theorem kpm.rf (g : MS) : kpm g g := ⟨rfl, rfl, rfl, rfl, rfl, rfl, rfl, rfl, rfl, rfl, rfl, rfl, rfl, rfl, rfl, rfl⟩
theorem kpm.tr {g h i : MS} (a : kpm g h) (b : kpm h i) : kpm g i := by
  obtain ⟨a1, a2, a3, a4, a5, a6, a7, a8, a9, a10, a11, a12, a13, a14, a15, a16⟩ := a
  obtain ⟨b1, b2, b3, b4, b5, b6, b7, b8, b9, b10, b11, b12, b13, b14, b15, b16⟩ := b
  exact ⟨b1.trans a1, b2.trans a2, b3.trans a3, b4.trans a4, b5.trans a5, b6.trans a6, b7.trans a7, b8.trans a8, b9.trans a9, b10.trans a10, b11.trans a11, b12.trans a12, b13.trans a13, b14.trans a14, b15.trans a15, b16.trans a16⟩
theorem kpm.co (g : MS) (f : Nat → Int32) : kpm g (mS_counted g f) := ⟨rfl, rfl, rfl, rfl, rfl, rfl, rfl, rfl, rfl, rfl, rfl, rfl, rfl, rfl, rfl, rfl⟩
theorem kpm.fe (g : MS) (f : Nat → Int32) : kpm g (mS_few g f) := ⟨rfl, rfl, rfl, rfl, rfl, rfl, rfl, rfl, rfl, rfl, rfl, rfl, rfl, rfl, rfl, rfl⟩
theorem kpm.se (g : MS) (v : Int32) : kpm g (mS_seed g v) := ⟨rfl, rfl, rfl, rfl, rfl, rfl, rfl, rfl, rfl, rfl, rfl, rfl, rfl, rfl, rfl, rfl⟩
theorem coc (g : MS) (f : Nat → Int32) : mG_counted (mS_counted g f) = f := rfl
theorem cof (g : MS) (f : Nat → Int32) : mG_few (mS_counted g f) = mG_few g := rfl
theorem fec (g : MS) (f : Nat → Int32) : mG_counted (mS_few g f) = mG_counted g := rfl
theorem fef (g : MS) (f : Nat → Int32) : mG_few (mS_few g f) = f := rfl
theorem mul128 (a : Nat) : (128 : Int32) * nI a = nI (128 * a) := pk_mul 128 a
theorem M_comesTo {g : MS} {c t wv ev : Nat} {R R' : RW} (hB : rowM (mG_counted g) (mG_few g) c R) (hT : rowM (mG_counted g) (mG_few g) (c + 1) R') (hR' : okR (c + 1) R') (hc : c < 25) (ht : t < 128) (hw : wv < 1000003) (he : ev ≤ c + 1) :
    ∃ h, f_X9_comesTo g (nI (c + 1)) (nI t) (nI wv) (nI ev) = some h ∧ kpm g h ∧ rowM (mG_counted h) (mG_few h) c R ∧ rowM (mG_counted h) (mG_few h) (c + 1) (goS t wv ev R') ∧ (∀ i, 128 * (c + 2) ≤ i → mG_counted h i = mG_counted g i ∧ mG_few h i = mG_few g i) := by
  have b2 := (hR' t).1
  have hin : ¬ (nI (128 * (c + 1) + t) < 0 ∨ 3328 ≤ Int32.toNatClampNeg (nI (128 * (c + 1) + t))) := nIn (by omega) (by omega)
  have hcl : Int32.toNatClampNeg (nI (128 * (c + 1) + t)) = 128 * (c + 1) + t := nI_clamp (by omega)
  have eT := hT t ht
  unfold f_X9_comesTo
  simp only [obs]
  rw [mul128, nI_add]
  simp only [if_neg hin]
  rw [hcl, eT.1, nI_add, rem3 (by omega)]
  simp only [cof]
  rw [eT.2]
  have hmin : f_X9_least (encE 1000000000 (R'.2 t)) (nI ev) = some (nI (mnO (R'.2 t) ev)) := by
    unfold f_X9_least
    cases e3 : R'.2 t with
    | none =>
      have : nI ev ≤ encE 1000000000 none := nI_le (b := 1000000000) (by omega) (by omega)
      rw [if_pos this]
      rfl
    | some f =>
      have b4 := (hR' t).2 f e3
      show (if nI ev ≤ nI f then some (nI ev) else some (nI f)) = some (nI (if ev < f then ev else f))
      by_cases e4 : ev < f
      · rw [if_pos (nI_le (by omega) (by omega)), if_pos e4]
      · rw [if_neg e4]
        by_cases e5 : ev = f
        · rw [e5, if_pos (nI_le (Nat.le_refl _) (by omega))]
        · rw [if_neg (nI_ge (by omega) (by omega))]
  rw [hmin]
  simp only [obs]
  refine ⟨_, rfl, (kpm.co _ _).tr (kpm.fe _ _), fun j hj => ?_, fun j hj => ?_, fun i hi => ?_⟩
  · rw [fec, coc, fef, pk_un (by omega), pk_un (by omega)]
    exact hB j hj
  · rw [fec, coc, fef]
    unfold goS
    dsimp only
    by_cases e5 : j = t
    · rw [e5, pk_us, pk_us, upN_s, upN_s]
      exact ⟨rfl, rfl⟩
    · rw [pk_un (by omega), pk_un (by omega), upN_n _ _ e5, upN_n _ _ e5]
      exact hT j hj
  · rw [fec, coc, fef, pk_un (by omega), pk_un (by omega)]
    exact ⟨rfl, rfl⟩
/-- what covers the next cell -/
def shO (gone c w sh : Nat) : Bool := canS gone sh c && decide (bitS sh c / 2 ^ c &&& w = 0)
def covU (gone c w wv e : Nat) (R : RW) : Nat → RW
  | 0 => R
  | sh + 1 => if shO gone c w sh then goS ((w ||| bitS sh c / 2 ^ c) / 2) wv (e + 1) (covU gone c w wv e R sh) else covU gone c w wv e R sh
def covS (gone c w wv e : Nat) (R : RW) : RW := if !gone.testBit c || w.testBit 0 then goS (w / 2) wv e R else covU gone c w wv e R 4
theorem covU_ok {gone c w wv e : Nat} {R : RW} (h : okR (c + 1) R) (hw : wv < 1000003) (he : e ≤ c) : ∀ k, okR (c + 1) (covU gone c w wv e R k)
  | 0 => h
  | k + 1 => by
    unfold covU
    split
    · exact goS_ok (covU_ok h hw he k) hw (by omega)
    · exact covU_ok h hw he k
theorem covS_ok {gone c w wv e : Nat} {R : RW} (h : okR (c + 1) R) (hw : wv < 1000003) (he : e ≤ c) : okR (c + 1) (covS gone c w wv e R) := by
  unfold covS
  split
  · exact goS_ok h hw (by omega)
  · exact covU_ok h hw he 4
theorem covU_some {gone c w wv e j : Nat} {R : RW} (h : R.2 j ≠ none) : ∀ k, (covU gone c w wv e R k).2 j ≠ none
  | 0 => h
  | k + 1 => by
    unfold covU
    split
    · exact goS_some (covU_some h k)
    · exact covU_some h k
theorem covS_some {gone c w wv e j : Nat} {R : RW} (h : R.2 j ≠ none) : (covS gone c w wv e R).2 j ≠ none := by
  unfold covS
  split
  · exact goS_some h
  · exact covU_some h 4
theorem here_lt : ∀ sh, sh < 4 → ∀ c, c < 25 → bitS sh c / 2 ^ c < 128 := by decide +kernel
theorem here_nz : ∀ sh, sh < 4 → ∀ c, c < 25 → bitS sh c ≠ 0 → bitS sh c / 2 ^ c ≠ 0 := by decide +kernel
theorem or128 {a b : Nat} (ha : a < 128) (hb : b < 128) : a ||| b < 128 := Nat.or_lt_two_pow (n := 7) ha hb
theorem shrc {n c : Nat} (hn : n < 2147483648) (hc : c < 25) : nI n >>> (nI c &&& 31) = nI (n / 2 ^ c) := pk_shrN hn (nI c &&& 31) c (pz_sm c (by omega))
theorem gon_can {s sh c : Nat} (h1 : sh < 4) (h2 : c < 25) : canS (gonS s) sh c = decide (bitS sh c ≠ 0 ∧ bitS sh c &&& s = 0) := by
  have hT := bitS_T sh h1 c h2
  unfold canS
  have key : dif (bitS sh c) (gonS s) = bitS sh c &&& s := by
    refine ext_T (dif_T hT) (and_T hT) fun k hk => ?_
    have hf : ∀ j, j < 25 → (33554431 : Nat).testBit j = true := by decide +kernel
    unfold gonS
    rw [tb_dif, tb_dif, Nat.testBit_and, hf k hk]
    cases s.testBit k <;> rfl
  rw [key]
theorem gon_bit {s c : Nat} (hc : c < 25) : (gonS s).testBit c = !s.testBit c := by
  have hf : ∀ j, j < 25 → (33554431 : Nat).testBit j = true := by decide +kernel
  unfold gonS
  rw [tb_dif, hf c hc, Bool.true_and]
theorem L_coverFrom {x : XS} {s w e c : Nat} {R R' : RW} (hs : s < 33554432) (hl : cG_left (xG_core0 x) = nI s) (hB : rowX (xG_waysBy x) (xG_fewBy x) R) (hT : rowX (xG_waysThen x) (xG_fewThen x) R') (hR : okR c R) (hR' : okR (c + 1) R') (hc : c < 25) (hw : w < 128) (he : R.2 w = some e) :
    ∃ y, f_X0_coverFrom x (nI c) (nI w) = some y ∧ kw x y ∧ rowX (xG_waysThen y) (xG_fewThen y) (covS (gonS s) c w (R.1 w) e R') := by
  have hw0 : f_X0_has (nI w) 0 = some (bI (w.testBit 0)) := L_has (k := 0) (by omega) (by omega)
  have hb1 := (hR w).1
  have hb2 := (hR w).2 e he
  unfold f_X0_coverFrom covS
  rw [hl, L_has (by omega) (by omega), hw0, gon_bit hc, Bool.not_not]
  simp only [obs]
  have go := L_goTo hB hT hR hR' hc hw hw he (d := 0) (by omega)
  obtain ⟨y, hy1, hy2, hy3⟩ := go
  have hy1' : f_X0_goTo x (nI w) (nI w) 0 = some y := hy1
  rw [hy1']
  simp only [obs]
  cases e1 : s.testBit c
  · rw [if_pos bI_f]
    cases e2 : w.testBit 0
    · rw [if_pos bI_f, if_neg (by decide)]
      have h := loopI (fun n i (z : XS) => f_X0_coverFrom_L32 (nI c) (nI w) n i z) 4 (fun k z => kw x z ∧ rowX (xG_waysThen z) (xG_fewThen z) (covU (gonS s) c w (R.1 w) e R' k)) (fun z => kw x z ∧ rowX (xG_waysThen z) (xG_fewThen z) (covU (gonS s) c w (R.1 w) e R' 4)) (by
        intro n k z hk ⟨i1, i2⟩
        (try dsimp only)
        rcases Nat.lt_or_ge k 4 with hlt | hge
        · right
          refine ⟨hlt, ?_⟩
          have hbt := bitS_T k hlt c hc
          have hlz : cG_left (xG_core0 z) = nI s := by rw [i1.1.1]; exact hl
          have hh := here_lt k hlt c hc
          rw [f_X0_coverFrom_L32, if_neg (n4 hlt), L_cellsOf k hlt c hc]
          simp only [obs]
          rw [shrc (by omega) hc, hlz, pz_and, pz_and, nI_1]
          have hcv : ∀ b, shO (gonS s) c w k = b → covU (gonS s) c w (R.1 w) e R' (k + 1) = if b then goS ((w ||| bitS k c / 2 ^ c) / 2) (R.1 w) (e + 1) (covU (gonS s) c w (R.1 w) e R' k) else covU (gonS s) c w (R.1 w) e R' k := by
            intro b hb
            rw [covU, hb]
          have hsh : shO (gonS s) c w k = (decide (bitS k c ≠ 0 ∧ bitS k c &&& s = 0) && decide (bitS k c / 2 ^ c &&& w = 0)) := by
            unfold shO
            rw [gon_can hlt hc]
          by_cases c1 : bitS k c = 0
          · rw [hcv false (by rw [hsh, decide_eq_false (fun z => z.1 c1)]; rfl)]
            exact ⟨z, ⟨i1, i2⟩, by rw [if_pos (by rw [c1]; rfl)]⟩
          · have d1 : ¬ nI (bitS k c) = 0 := by rw [pz_z (by omega)]; exact c1
            have hT3 := and_T (b := s) hbt
            by_cases c2 : bitS k c &&& s = 0
            · have d2 : nI (bitS k c &&& s) = 0 := by rw [c2]; rfl
              have hT2 : bitS k c / 2 ^ c &&& w < 128 := Nat.lt_of_le_of_lt Nat.and_le_left hh
              by_cases c3 : bitS k c / 2 ^ c &&& w = 0
              · have d3 : nI (bitS k c / 2 ^ c &&& w) = 0 := by rw [c3]; rfl
                have ho := or128 hw hh
                obtain ⟨y2, g1, g2, g3⟩ := L_goTo (x := z) (w := w ||| bitS k c / 2 ^ c) (q := w) (d := 1) (by rw [i1.2.1, i1.2.2]; exact hB) i2 hR (covU_ok hR' hb1 hb2 k) hc ho hw he (by omega)
                have g1' : f_X0_goTo z (nI w ||| nI (bitS k c / 2 ^ c)) (nI w) 1 = some y2 := by rw [pz_or]; exact g1
                rw [hcv true (by rw [hsh, decide_eq_true (⟨c1, c2⟩ : bitS k c ≠ 0 ∧ bitS k c &&& s = 0), decide_eq_true c3]; rfl)]
                refine ⟨y2, ⟨i1.tr g2, g3⟩, ?_⟩
                rw [if_neg d1, if_pos d2, if_pos d3, g1']
                rfl
              · rw [hcv false (by rw [hsh, decide_eq_false c3, Bool.and_false])]
                refine ⟨z, ⟨i1, i2⟩, ?_⟩
                rw [if_neg d1, if_pos d2, if_neg (by rw [pz_z (by omega)]; exact c3)]
            · rw [hcv false (by rw [hsh, decide_eq_false (fun z => c2 z.2)]; rfl)]
              refine ⟨z, ⟨i1, i2⟩, ?_⟩
              rw [if_neg d1, if_neg (by rw [pz_z (by omega)]; exact c2)]
        · left
          have e : k = 4 := by omega
          subst e
          refine ⟨z, ?_, i1, i2⟩
          rw [f_X0_coverFrom_L32, if_pos (by decide)]) 1000 0 x (by omega) ⟨kw.rf x, hT⟩ (by omega)
      obtain ⟨z, h1, h2, h3⟩ := h
      rw [nI_0] at h1
      rw [h1]
      exact ⟨z, rfl, h2, h3⟩
    · rw [if_neg bI_n0, if_pos (by decide)]
      exact ⟨y, rfl, hy2, hy3⟩
  · rw [if_neg bI_n0, if_pos (by rfl)]
    exact ⟨y, rfl, hy2, hy3⟩
/-- a row out of the one before; all rows -/
def rwU (gone c : Nat) (R : RW) : Nat → RW
  | 0 => (fun _ => 0, fun _ => none)
  | w + 1 => match R.2 w with
    | none => rwU gone c R w
    | some e => covS gone c w (R.1 w) e (rwU gone c R w)
def tabS (gone : Nat) : Nat → RW
  | 0 => (upN (fun _ => 0) 0 1, upN (fun _ => none) 0 (some 0))
  | c + 1 => rwU gone c (tabS gone c) 128
theorem rwU_ok {gone c : Nat} {R : RW} (h : okR c R) : ∀ k, okR (c + 1) (rwU gone c R k)
  | 0 => fun w => ⟨by show 0 < 1000003; omega, fun e he => by cases he⟩
  | k + 1 => by
    unfold rwU
    cases e : R.2 k with
    | none => exact rwU_ok h k
    | some f => exact covS_ok (rwU_ok h k) (h k).1 ((h k).2 f e)
theorem tab_ok (gone : Nat) : ∀ c, okR c (tabS gone c)
  | 0 => fun w => by
    unfold tabS
    dsimp only
    by_cases e : w = 0
    · rw [e, upN_s, upN_s]
      exact ⟨by omega, fun f hf => by cases hf; omega⟩
    · rw [upN_n _ _ e, upN_n _ _ e]
      exact ⟨by omega, fun f hf => by cases hf⟩
  | c + 1 => rwU_ok (tab_ok gone c) 128
theorem rwU_some {gone c : Nat} {R : RW} (hc : c < 25) (h : R.2 0 ≠ none) : ∀ k, 0 < k → (rwU gone c R k).2 0 ≠ none
  | 0, hk => by omega
  | k + 1, _ => by
    unfold rwU
    by_cases e0 : k = 0
    · subst e0
      cases e : R.2 0 with
      | none => exact absurd e h
      | some f =>
        dsimp only
        unfold covS
        cases e2 : gone.testBit c
        · rw [if_pos (by rfl)]
          unfold goS
          dsimp only
          rw [show 0 / 2 = 0 from rfl, upN_s]
          exact fun z => by cases z
        · rw [if_neg (by rw [Nat.zero_testBit]; decide)]
          have h1 : shO gone c 0 0 = true := by
            unfold shO
            rw [can0 hc, e2, Nat.and_zero]
            rfl
          have h2 : (covU gone c 0 (R.1 0) f (rwU gone c R 0) 1).2 0 ≠ none := by
            unfold covU
            rw [if_pos h1, bitS_0 c hc, Nat.div_self (Nat.two_pow_pos c)]
            unfold goS
            dsimp only
            rw [show ((0 ||| 1) / 2 : Nat) = 0 from rfl, upN_s]
            exact fun z => by cases z
          have h3 : ∀ j, (covU gone c 0 (R.1 0) f (rwU gone c R 0) (1 + j)).2 0 ≠ none := by
            intro j
            induction j with
            | zero => exact h2
            | succ j ih =>
              rw [← Nat.add_assoc]
              unfold covU
              split
              · exact goS_some ih
              · exact ih
          exact h3 3
    · have i := rwU_some (gone := gone) (R := R) hc h k (by omega)
      cases e : R.2 k with
      | none => exact i
      | some f => exact covS_some i
theorem tab_some (gone : Nat) : ∀ c, c ≤ 25 → (tabS gone c).2 0 ≠ none
  | 0, _ => fun z => by cases z
  | c + 1, hc => rwU_some (by omega) (tab_some gone c (by omega)) 128 (by omega)
def waysS (s : Nat) (what : Int32) : Int32 := if what = 0 then nI ((tabS (gonS s) 25).1 0) else encE 0 ((tabS (gonS s) 25).2 0)
