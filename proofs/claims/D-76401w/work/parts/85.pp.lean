/-! PLAIN LAWS 16: lots -/
/-- lots -/
def nxS (z : Int32) : Int32 := z * 1664525 + 1013904223
def drS (z : Int32) (n : Nat) : Nat := z.toBitVec.toNat % 2147483648 / 256 % n
theorem dr_e (z : Int32) {n : Nat} (h0 : 0 < n) (hn : n < 1000) : ((z &&& 2147483647) / 256) - ((z &&& 2147483647) / 256) / nI n * nI n = nI (drS z n) := by
  have h1 : z &&& 2147483647 = nI (z.toBitVec.toNat % 2 ^ 31) := pk_and z 31 (by decide)
  have h2 : z.toBitVec.toNat % 2 ^ 31 < 2 ^ 31 := Nat.mod_lt _ (by omega)
  have h3 : nI (z.toBitVec.toNat % 2 ^ 31) / 256 = nI (z.toBitVec.toNat % 2 ^ 31 / 256) := pk_div (d := 256) h2 (by omega) (by omega)
  rw [h1, h3, pk_rem (by omega) h0 (by omega)]
  rfl
def lotU (s : Nat) (z : Int32) : Nat → Nat × Int32
  | 0 => (s, z)
  | i + 1 => let q := lotU s z i
    ((if canS q.1 (drS (nxS q.2) 4) (drS (nxS (nxS q.2)) 25) then dif q.1 (bitS (drS (nxS q.2) 4) (drS (nxS (nxS q.2)) 25)) else q.1), nxS (nxS q.2))
theorem lotU_T {s : Nat} {z : Int32} (hs : s < 33554432) : ∀ i, (lotU s z i).1 < 33554432
  | 0 => hs
  | i + 1 => by
    unfold lotU
    dsimp only
    split
    · exact dif_T (lotU_T hs i)
    · exact lotU_T hs i
def lotV (m : Nat) (K F : Nat → Nat) (what : Int32) (t : Nat) : Nat := if what = 0 then sumU t K F m else if deedS t = 0 then 1 else 0
def lotsU (s m : Nat) (K F : Nat → Nat) (what : Int32) (J : Nat) (z : Int32) : Nat → Nat × Int32
  | 0 => (0, z)
  | k + 1 => let q := lotsU s m K F what J z k
    (q.1 + lotV m K F what (lotU s q.2 J).1, (lotU s q.2 J).2)
theorem lsk (x : XS) (v : Int32) : xG_lotSeed (xS_lotSeed x v) = v := rfl
theorem lsm (x : XS) (v : Int32) : xG_mind (xS_lotSeed x v) = xG_mind x := rfl
theorem mls (x : XS) (v : CV) : xG_lotSeed (xS_mind x v) = xG_lotSeed x := rfl
theorem kp.ls (x : XS) (v : Int32) : kp x (xS_lotSeed x v) := ⟨rfl, rfl, rfl, rfl, rfl, rfl, rfl, rfl⟩
theorem L_draw {x : XS} {z : Int32} {n : Nat} (hz : xG_lotSeed x = z) (h0 : 0 < n) (hn : n < 1000) : f_X0_drawBelow x (nI n) = some (nI (drS (nxS z) n), xS_lotSeed x (nxS z)) := by
  unfold f_X0_drawBelow
  rw [hz]
  simp only [obs]
  rw [lsk, if_neg (nI_ne0 h0 (by omega))]
  show some ((((nxS z &&& 2147483647) / 256) - ((nxS z &&& 2147483647) / 256) / nI n * nI n), xS_lotSeed x (nxS z)) = _
  rw [dr_e (nxS z) h0 hn]
theorem M_draw {g : MS} {z : Int32} {n : Nat} (hz : mG_seed g = z) (h0 : 0 < n) (hn : n < 1000) : f_X9_drawn g (nI n) = some (nI (drS (nxS z) n), mS_seed g (nxS z)) := by
  unfold f_X9_drawn
  rw [hz]
  simp only [obs]
  rw [show mG_seed (mS_seed g (z * 1664525 + 1013904223)) = nxS z from rfl, if_neg (nI_ne0 h0 (by omega)), dr_e (nxS z) h0 hn]
  rfl
theorem dr_lt (z : Int32) {n : Nat} (h0 : 0 < n) : drS z n < n := Nat.mod_lt _ h0
theorem L_lot {x : XS} {J : Nat} (hJ : J = 6) {s m : Nat} {K F : Nat → Nat} {z : Int32} (hs : s < 33554432) (hc : cvR (xG_mind x) s) (hM : heR (xG_mind x) m K F) (hz : xG_lotSeed x = z) :
    ∃ y, f_X0_byLots_L26 1000 0 x = some y ∧ kp x y ∧ cvR (xG_mind y) (lotU s z J).1 ∧ heR (xG_mind y) m K F ∧ xG_lotSeed y = (lotU s z J).2 := by
  have h := loopI (fun n i (y : XS) => f_X0_byLots_L26 n i y) J (fun i y => kp x y ∧ cvR (xG_mind y) (lotU s z i).1 ∧ heR (xG_mind y) m K F ∧ xG_lotSeed y = (lotU s z i).2) (fun y => kp x y ∧ cvR (xG_mind y) (lotU s z J).1 ∧ heR (xG_mind y) m K F ∧ xG_lotSeed y = (lotU s z J).2) (by
    intro n i y hk ⟨i1, i2, i3, i4⟩
    (try dsimp only)
    rcases Nat.lt_or_ge i J with hlt | hge
    · right
      refine ⟨hlt, ?_⟩
      have hT := lotU_T (z := z) hs i
      have n6 : ¬ (6 : Int32) ≤ nI i := nI_ge (b := 6) (by omega) (by decide)
      have d1 : f_X0_drawBelow y 4 = _ := L_draw (n := 4) i4 (by omega) (by omega)
      have d2 : f_X0_drawBelow (xS_lotSeed y (nxS (lotU s z i).2)) 25 = _ := L_draw (n := 25) (lsk _ _) (by omega) (by omega)
      have a1 := dr_lt (nxS (lotU s z i).2) (n := 4) (by omega)
      have a2 := dr_lt (nxS (nxS (lotU s z i).2)) (n := 25) (by omega)
      rw [f_X0_byLots_L26, if_neg n6, d1]
      simp only [obs]
      rw [d2]
      simp only [obs]
      rw [lsm, lsm, L_canBite i2.1 a1 a2, L_bite hT i2.1 a1 a2, nI_1]
      simp only [obs]
      cases e : canS (lotU s z i).1 (drS (nxS (lotU s z i).2) 4) (drS (nxS (nxS (lotU s z i).2)) 25)
      · rw [if_pos bI_f]
        refine ⟨_, ⟨i1.tr ((kp.ls _ _).tr (kp.ls _ _)), ?_, by rw [lsm, lsm]; exact i3, by rw [lsk]; rfl⟩, rfl⟩
        rw [lsm, lsm, lotU]
        dsimp only
        rw [e]
        exact i2
      · rw [if_neg bI_n0]
        refine ⟨_, ⟨i1.tr (((kp.ls _ _).tr (kp.ls _ _)).tr (kp.mind _ _)), ?_, by rw [xgm]; exact cvL_H (cv := cS_bitten (xG_mind y) _) i3 _, by rw [mls, lsk]; rfl⟩, rfl⟩
        rw [xgm, lotU]
        dsimp only
        rw [e]
        exact cvL_R _ _
    · left
      have e : i = J := by omega
      subst e
      subst hJ
      refine ⟨y, ?_, i1, i2, i3, i4⟩
      rw [f_X0_byLots_L26, if_pos (by decide)]) 1000 0 x (by omega) ⟨kp.rf x, hc, hM, hz⟩ (by omega)
  obtain ⟨y, h1, h2⟩ := h
  rw [nI_0] at h1
  exact ⟨y, h1, h2⟩
theorem L_lots {x : XS} {J : Nat} (hJ : J = 6) {s m q : Nat} {K F : Nat → Nat} {z what : Int32} (hx : coR x s m K F) (hq : q ≤ 20) : ∃ y, f_X0_byLots x (nI q) z what = some (nI (lotsU s m K F what J z q).1, y) ∧ kp x y := by
  have hs := hx.1
  have h := loopI (fun n i (a : Int32 × XS) => f_X0_byLots_L11 (nI q) what n i a.1 a.2) q (fun k a => a.1 = nI (lotsU s m K F what J z k).1 ∧ kp x a.2 ∧ xG_lotSeed a.2 = (lotsU s m K F what J z k).2) (fun r => r.1 = nI (lotsU s m K F what J z q).1 ∧ kp x r.2) (by
    rintro n k ⟨a1, y⟩ hk ⟨i1, i2, i3⟩
    (try dsimp only at i1 i2 i3 ⊢)
    subst i1
    rcases Nat.lt_or_ge k q with hlt | hge
    · right
      refine ⟨hlt, ?_⟩
      have hy := hx.kp i2
      rw [f_X0_byLots_L11, if_neg (nI_ge hlt (by omega)), L_openMind]
      simp only [obs]
      obtain ⟨y1, e1⟩ : ∃ y1, y1 = xS_mind y (setV (xG_mind y) (xG_core0 y)) := ⟨_, rfl⟩
      have k1 : kp y y1 := by rw [e1]; exact kp.mind _ _
      have m1 : heR (xG_mind y1) m K F := by rw [e1, xgm]; exact setV_H hy.2.2
      have c1 : cvR (xG_mind y1) s := by rw [e1, xgm]; exact setV_R hy.2.1
      have z1 : xG_lotSeed y1 = (lotsU s m K F what J z k).2 := by rw [e1, mls]; exact i3
      rw [← e1]
      obtain ⟨y2, b1, b2, b3, b4, b5⟩ := L_lot hJ hs c1 m1 z1
      have hT := lotU_T (z := (lotsU s m K F what J z k).2) hs J
      rw [b1]
      simp only [obs]
      rw [L_allShares hT b3 b4, L_chan hT b3, nI_1 k]
      simp only [obs]
      refine ⟨(nI (lotsU s m K F what J z (k + 1)).1, y2), ⟨rfl, (i2.tr k1).tr b2, b5⟩, ?_⟩
      rw [lotsU]
      dsimp only
      unfold lotV
      by_cases hw : what = 0
      · rw [if_pos hw, if_pos hw, nI_add]
      · rw [if_neg hw, if_neg hw, Int32.add_zero, nI_1]
        by_cases e : deedS (lotU s (lotsU s m K F what J z k).2 J).1 = 0
        · rw [decide_eq_true e, if_neg bI_n0, if_pos e]
        · rw [decide_eq_false e, if_pos bI_f, if_neg e]; rfl
    · left
      have e : k = q := by omega
      subst e
      refine ⟨(nI (lotsU s m K F what J z k).1, y), ?_, rfl, i2⟩
      rw [f_X0_byLots_L11, if_pos (nI_le (Nat.le_refl k) (by omega))]) 1000 0 (0, xS_lotSeed x z) (by omega) ⟨rfl, kp.ls _ _, lsk _ _⟩ (by omega)
  obtain ⟨r, h1, h2, h3⟩ := h
  rw [nI_0] at h1
  have h1' : f_X0_byLots_L11 (nI q) what 1000 0 0 (xS_lotSeed x z) = some r := h1
  unfold f_X0_byLots
  simp only [obs]
  rw [h1']
  simp only [obs]
  rw [h2]
  exact ⟨_, rfl, h3⟩
theorem M_lot {g : MS} {J : Nat} (hJ : J = 6) {s : Nat} {z : Int32} (hs : s < 33554432) (hz : mG_seed g = z) : ∃ h, f_X9_lots_L67 1000 0 (nI s) g = some (nI (lotU s z J).1, h) ∧ kpm g h ∧ mG_seed h = (lotU s z J).2 := by
  have h := loopI (fun n i (a : Int32 × MS) => f_X9_lots_L67 n i a.1 a.2) J (fun i a => a.1 = nI (lotU s z i).1 ∧ kpm g a.2 ∧ mG_seed a.2 = (lotU s z i).2) (fun r => r.1 = nI (lotU s z J).1 ∧ kpm g r.2 ∧ mG_seed r.2 = (lotU s z J).2) (by
    rintro n i ⟨a1, y⟩ hk ⟨i1, i2, i3⟩
    (try dsimp only at i1 i2 i3 ⊢)
    subst i1
    rcases Nat.lt_or_ge i J with hlt | hge
    · right
      refine ⟨hlt, ?_⟩
      have hT := lotU_T (z := z) hs i
      have n6 : ¬ (6 : Int32) ≤ nI i := nI_ge (b := 6) (by omega) (by decide)
      have d1 : f_X9_drawn y 4 = _ := M_draw (n := 4) i3 (by omega) (by omega)
      have d2 : f_X9_drawn (mS_seed y (nxS (lotU s z i).2)) 25 = _ := M_draw (z := nxS (lotU s z i).2) (n := 25) rfl (by omega) (by omega)
      have a1 := dr_lt (nxS (lotU s z i).2) (n := 4) (by omega)
      have a2 := dr_lt (nxS (nxS (lotU s z i).2)) (n := 25) (by omega)
      rw [f_X9_lots_L67, if_neg n6, d1]
      simp only [obs]
      rw [d2]
      simp only [obs]
      rw [M_canBite a1 a2, M_bite _ a1 _ a2, nI_1]
      simp only [obs]
      rw [pz_dif]
      refine ⟨(nI (lotU s z (i + 1)).1, mS_seed (mS_seed y (nxS (lotU s z i).2)) (nxS (nxS (lotU s z i).2))), ⟨rfl, i2.tr ((kpm.se _ _).tr (kpm.se _ _)), rfl⟩, ?_⟩
      rw [lotU]
      dsimp only
      cases e : canS (lotU s z i).1 (drS (nxS (lotU s z i).2) 4) (drS (nxS (nxS (lotU s z i).2)) 25)
      · rw [if_pos bI_f]; rfl
      · rw [if_neg bI_n0]; rfl
    · left
      have e : i = J := by omega
      subst e
      subst hJ
      refine ⟨(nI (lotU s z 6).1, y), ?_, rfl, i2, i3⟩
      rw [f_X9_lots_L67, if_pos (by decide)]) 1000 0 (nI s, g) (by omega) ⟨rfl, kpm.rf g, hz⟩ (by omega)
  obtain ⟨r, h1, h2, h3, h4⟩ := h
  rw [nI_0] at h1
  have h1' : f_X9_lots_L67 1000 0 (nI s) g = some r := h1
  refine ⟨r.2, ?_, h3, h4⟩
  rw [h1', ← h2]
theorem M_lots {g : MS} {J : Nat} (hJ : J = 6) {s m q : Nat} {K F : Nat → Nat} {z what : Int32} (hs : s < 33554432) (hl : mG_left g = nI s) (hH : heM g m K F) (hq : q ≤ 20) (hz : mG_seed g = z) : ∃ h, f_X9_lots_L52 (nI q) what 1000 0 0 g = some (nI (lotsU s m K F what J z q).1, h) ∧ kpm g h := by
  have h := loopI (fun n i (a : Int32 × MS) => f_X9_lots_L52 (nI q) what n i a.1 a.2) q (fun k a => a.1 = nI (lotsU s m K F what J z k).1 ∧ kpm g a.2 ∧ mG_seed a.2 = (lotsU s m K F what J z k).2) (fun r => r.1 = nI (lotsU s m K F what J z q).1 ∧ kpm g r.2) (by
    rintro n k ⟨a1, y⟩ hk ⟨i1, i2, i3⟩
    (try dsimp only at i1 i2 i3 ⊢)
    subst i1
    rcases Nat.lt_or_ge k q with hlt | hge
    · right
      refine ⟨hlt, ?_⟩
      have hly : mG_left y = nI s := i2.1.trans hl
      obtain ⟨y2, b1, b2, b3⟩ := M_lot hJ hs i3
      have hT := lotU_T (z := (lotsU s m K F what J z k).2) hs J
      rw [f_X9_lots_L52, if_neg (nI_ge hlt (by omega)), hly]
      simp only [obs]
      rw [b1]
      simp only [obs]
      rw [M_sharesOf hT ((hH.kp i2).kp b2), M_deed hT, nI_1 k]
      simp only [obs]
      refine ⟨(nI (lotsU s m K F what J z (k + 1)).1, y2), ⟨rfl, i2.tr b2, b3⟩, ?_⟩
      rw [lotsU]
      dsimp only
      unfold lotV
      by_cases hw : what = 0
      · rw [if_pos hw, if_pos hw, nI_add]
      · rw [if_neg hw, if_neg hw, Int32.add_zero, nI_1]
        have hd := deed_ne hT
        simp only [hd]
        by_cases e : deedS (lotU s (lotsU s m K F what J z k).2 J).1 = 0
        · rw [if_pos e, if_pos e]
        · rw [if_neg e, if_neg e]; rfl
    · left
      have e : k = q := by omega
      subst e
      refine ⟨(nI (lotsU s m K F what J z k).1, y), ?_, rfl, i2⟩
      rw [f_X9_lots_L52, if_pos (nI_le (Nat.le_refl k) (by omega))]) 1000 0 (0, g) (by omega) ⟨rfl, kpm.rf g, hz⟩ (by omega)
  obtain ⟨r, h1, h2, h3⟩ := h
  rw [nI_0] at h1
  have h1' : f_X9_lots_L52 (nI q) what 1000 0 0 g = some r := h1
  refine ⟨r.2, ?_, h3⟩
  rw [h1', ← h2]
