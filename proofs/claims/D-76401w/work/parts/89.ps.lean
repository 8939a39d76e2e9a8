/-! PLAIN LAWS 19: statements done -/
abbrev AC : Type := Nat × Nat × Nat × (Nat → Nat) × (Nat → Nat)
def cxR (cv : CV) (a : AC) : Prop := a.1 < 33554432 ∧ cvR cv a.1 ∧ a.2.1 ≤ 999 ∧ cG_bitten cv = nI a.2.1 ∧ heR cv a.2.2.1 a.2.2.2.1 a.2.2.2.2
def cmR (g : MS) (a : AC) : Prop := a.1 < 33554432 ∧ mG_left g = nI a.1 ∧ a.2.1 ≤ 999 ∧ mG_bites g = nI a.2.1 ∧ heM g a.2.2.1 a.2.2.2.1 a.2.2.2.2
/-- what the doing of a statement keeps -/
def kA (g h : MS) : Prop := mG_imageLeft h = mG_imageLeft g ∧ mG_imageBites h = mG_imageBites g ∧ mG_imageMany h = mG_imageMany g ∧ mG_wasLeft h = mG_wasLeft g ∧ mG_wasBites h = mG_wasBites g ∧ mG_wasMany h = mG_wasMany g ∧ mG_hasImage h = mG_hasImage g ∧ mG_letterMany h = mG_letterMany g ∧ mG_rowMany h = mG_rowMany g ∧ mG_place h = mG_place g ∧ mG_imageKind h = mG_imageKind g ∧ mG_imageFigure h = mG_imageFigure g ∧ mG_wasKind h = mG_wasKind g ∧ mG_wasFigure h = mG_wasFigure g ∧ mG_letters h = mG_letters g ∧ mG_row h = mG_row g ∧ mG_refused h = mG_refused g
theorem kA.rf (g : MS) : kA g g := ⟨rfl, rfl, rfl, rfl, rfl, rfl, rfl, rfl, rfl, rfl, rfl, rfl, rfl, rfl, rfl, rfl, rfl⟩
theorem kA.tr {g h i : MS} (a : kA g h) (b : kA h i) : kA g i := by
  obtain ⟨a1, a2, a3, a4, a5, a6, a7, a8, a9, a10, a11, a12, a13, a14, a15, a16, a17⟩ := a
  obtain ⟨b1, b2, b3, b4, b5, b6, b7, b8, b9, b10, b11, b12, b13, b14, b15, b16, b17⟩ := b
  exact ⟨b1.trans a1, b2.trans a2, b3.trans a3, b4.trans a4, b5.trans a5, b6.trans a6, b7.trans a7, b8.trans a8, b9.trans a9, b10.trans a10, b11.trans a11, b12.trans a12, b13.trans a13, b14.trans a14, b15.trans a15, b16.trans a16, b17.trans a17⟩
theorem kA.le (g : MS) (v : Int32) : kA g (mS_left g v) := kA.rf g
theorem kA.bi (g : MS) (v : Int32) : kA g (mS_bites g v) := kA.rf g
theorem kA.ma (g : MS) (v : Int32) : kA g (mS_many g v) := kA.rf g
theorem kA.ki (g : MS) (v : Nat → Int32) : kA g (mS_kind g v) := kA.rf g
theorem kA.fi (g : MS) (v : Nat → Int32) : kA g (mS_figure g v) := kA.rf g
def bmn (b : Nat) : Nat := if b + 1 < 999 then b + 1 else 999
theorem L_bmn {b : Nat} (hb : b ≤ 999) : (if nI b + 1 < 999 then nI b + 1 else 999) = nI (bmn b) := by
  rw [nI_1]
  unfold bmn
  by_cases e : b + 1 < 999
  · have : nI (b + 1) < 999 := nI_lt (b := 999) e (by omega)
    rw [if_pos this, if_pos e]
  · have : ¬ nI (b + 1) < 999 := nI_nlt (a := b + 1) (b := 999) (by omega) (by omega)
    rw [if_neg this, if_neg e]
    rfl
theorem M_bmn {b : Nat} (hb : b ≤ 999) : f_X9_least 999 (nI b + 1) = some (nI (bmn b)) := by
  rw [nI_1]
  unfold f_X9_least bmn
  by_cases e : b + 1 < 999
  · have : nI (b + 1) ≤ 999 := nI_le (b := 999) (by omega) (by omega)
    rw [if_pos this, if_pos e]
  · by_cases e2 : b + 1 = 999
    · have : nI (b + 1) ≤ 999 := nI_le (b := 999) (by omega) (by omega)
      rw [if_pos this, if_neg e, e2]
    · have : ¬ nI (b + 1) ≤ 999 := nI_ge (a := 999) (by omega) (by omega)
      rw [if_neg this, if_neg e]
      rfl
theorem bmn_le (b : Nat) : bmn b ≤ 999 := by unfold bmn; split <;> omega
theorem M_isCellN {d : Nat} (hd : d < 1000) : f_X9_isCell (nI d) = some (bI (decide (d < 25))) := by
  unfold f_X9_isCell
  rw [isI]
  simp only [obs]
  have h0 : (0 : Int32) ≤ nI d := nI_pos' (by omega)
  have h1 : nI d ≤ 24 ↔ d ≤ 24 := nI_leI (b := 24) (by omega) (by omega)
  rw [rz_b]
  congr 2
  exact decide_eq_decide.2 ⟨fun h => by have := h1.1 h.2; omega, fun h => ⟨h0, h1.2 (by omega)⟩⟩
theorem comes_e {cv : CV} {g : MS} {t : TL} {a : AC} {H : Nat → Int32} {p : Nat} (hc : cxR cv a) (hg : cmR g a) (ht : tlOK H p t) (hn : numOK t (mG_numbers g)) :
    ∃ (ok : Bool) (cv' : CV) (g' : MS) (a' : AC), f_X14_comes cv t = some (bI ok, cv') ∧ f_X9_isDone g (H p) = some (bI ok, g') ∧ cxR cv' a' ∧ cmR g' a' ∧ kA g g' ∧ (ok = false → cv' = cv ∧ g' = g) := by
  obtain ⟨s, b, m, K, F⟩ := a
  obtain ⟨w, u0, k, u1, u2⟩ := t
  obtain ⟨c1, c2, c3, c4, c5⟩ := hc
  obtain ⟨g1, g2, g3, g4, g5⟩ := hg
  obtain ⟨-, ht⟩ := ht
  dsimp only at c1 c2 c3 c4 c5 g1 g2 g3 g4 g5 ht
  have hm := c5.2.1
  have cl0 : Int32.toNatClampNeg (0 : Int32) = 0 := nI_clamp (n := 0) (by omega)
  have cl1 : Int32.toNatClampNeg (1 : Int32) = 1 := nI_clamp (n := 1) (by omega)
  have rz1 : rz 1 = some 1 := rfl
  have rz0 : rz 0 = some 0 := rfl
  unfold f_X14_comes f_X9_isDone
  rw [obs, obs, cl0, cl1]
  rcases ht with ⟨rfl, hH⟩ | ⟨rfl, hH, d, hd, rfl⟩ | ⟨rfl, hH, d, hd, rfl⟩ | ⟨rfl, hH, d, hd, rfl⟩ | ⟨rfl, hH, ⟨d, hd, rfl⟩, e, he, rfl⟩
  · -- anew
    have hT : (33554431 : Int32) = nI 33554431 := rfl
    rw [hH, if_neg (by decide), if_neg (by decide), if_neg (by decide), if_neg (by decide)]
    unfold f_X9_allAgain f_T_isGood f_T_become f_X15_isGood f_X15_become
    dsimp only
    rw [obs, if_neg (by decide), hT, obs, L_leave _ (by decide), obs, obs, rz1]
    refine ⟨true, _, _, (33554431, 0, m, K, F), rfl, rfl, ⟨by show 33554431 < 33554432; omega, cvL_R _ _, by show 0 ≤ 999; omega, rfl, cvL_H (cv := cS_bitten cv 0) c5 _⟩, ⟨by show 33554431 < 33554432; omega, rfl, by show 0 ≤ 999; omega, rfl, g5⟩, (kA.le _ _).tr (kA.bi _ _), fun z => by cases z⟩
  · -- an heir
    obtain ⟨n0, n1⟩ := hn.1 rfl
    dsimp only at n0 n1
    rw [hH, if_neg (by decide), if_pos rfl, n0, n1, g5.1]
    unfold f_T_isGood f_T_become f_X16_isGood f_X16_become
    dsimp only
    rw [c5.1]
    by_cases e5 : m = 5
    · subst e5
      rw [if_pos (show (5 : Int32) ≤ nI 5 by decide), if_pos (show nI 5 = 5 from rfl), obs, if_pos rfl, rz0]
      exact ⟨false, cv, g, (s, b, 5, K, F), rfl, rfl, ⟨c1, c2, c3, c4, c5⟩, ⟨g1, g2, g3, g4, g5⟩, kA.rf g, fun _ => ⟨rfl, rfl⟩⟩
    · have hlt : m < 5 := by omega
      have hin : ¬ (nI m < 0 ∨ 5 ≤ Int32.toNatClampNeg (nI m)) := nIn hlt (by omega)
      have hcl : Int32.toNatClampNeg (nI m) = m := nI_clamp (by omega)
      have hne : ¬ nI m = 5 := by
        have : nI m = nI 5 ↔ m = 5 := nI_eq (by omega) (by omega)
        exact fun z => e5 (this.1 z)
      have hh1 : cG_heirs (cS_kind cv (va_up (cG_kind cv) m (some k))) = nI m := c5.1
      have hmm : mG_many (mS_kind g (upd (mG_kind g) m (nI k.val))) = nI m := g5.1
      rw [if_neg (n5 hlt), if_neg hne, obs, if_neg (by decide), if_neg hin, obs, hcl, hmm, if_neg hin, obs, hcl, obs]
      unfold f_X8_comes
      rw [c5.1, if_neg hin, hcl, obs, hh1, if_neg hin, hcl, obs, obs, obs, obs, rz1]
      have hm1 : mG_many (mS_figure (mS_kind g (upd (mG_kind g) m (nI k.val))) (upd (mG_figure (mS_kind g (upd (mG_kind g) m (nI k.val)))) m (nI d))) = nI m := g5.1
      have hc1 : cG_heirs (cS_figures (cS_kind cv (va_up (cG_kind cv) m (some k))) (upd (cG_figures (cS_kind cv (va_up (cG_kind cv) m (some k)))) m (nI d))) = nI m := c5.1
      rw [hm1, hc1, nI_1]
      refine ⟨true, _, _, (s, b, m + 1, upN K m k.val, upN F m d), rfl, rfl, ⟨c1, c2, c3, c4, rfl, by show m + 1 ≤ 5; omega, fun j hj => ?_⟩, ⟨g1, g2, g3, g4, rfl, by show m + 1 ≤ 5; omega, fun j hj => ?_⟩, ((kA.ki _ _).tr (kA.fi _ _)).tr (kA.ma _ _), fun z => by cases z⟩
      · show upN F m d j < 10 ∧ (∃ hk : upN K m k.val j < 6, va_up (cG_kind cv) m (some k) j = some ⟨upN K m k.val j, hk⟩) ∧ upd (cG_figures cv) m (nI d) j = nI (upN F m d j)
        by_cases ej : j = m
        · subst ej
          refine ⟨by rw [upN_s]; exact hd, ⟨by rw [upN_s]; exact k.isLt, ?_⟩, by rw [pk_us, upN_s]⟩
          have : va_up (cG_kind cv) j (some k) j = some k := if_pos rfl
          rw [this]
          congr 1
          exact Fin.ext (upN_s _ _ _).symm
        · have hj' : j < m + 1 := hj
          obtain ⟨x1, ⟨xK, x2⟩, x3⟩ := c5.2.2 j (by omega)
          refine ⟨by rw [upN_n _ _ ej]; exact x1, ⟨by rw [upN_n _ _ ej]; exact xK, ?_⟩, by rw [pk_un ej, upN_n _ _ ej]; exact x3⟩
          have : va_up (cG_kind cv) m (some k) j = cG_kind cv j := if_neg ej
          rw [this, x2]
          congr 1
          exact Fin.ext (upN_n _ _ ej).symm
      · show upN F m d j < 10 ∧ upN K m k.val j < 6 ∧ upd (mG_kind g) m (nI k.val) j = nI (upN K m k.val j) ∧ upd (mG_figure g) m (nI d) j = nI (upN F m d j)
        by_cases ej : j = m
        · subst ej
          rw [upN_s, upN_s, pk_us, pk_us]
          exact ⟨hd, k.isLt, rfl, rfl⟩
        · have hj' : j < m + 1 := hj
          rw [upN_n _ _ ej, upN_n _ _ ej, pk_un ej, pk_un ej]
          exact g5.2.2 j (by omega)
  · -- healing
    have n0 := hn.2.1 rfl
    dsimp only at n0
    rw [hH, if_neg (by decide), if_neg (by decide), if_pos rfl, n0, M_isCellN (by omega), g2]
    unfold f_T_isGood f_T_become f_X17_isGood f_X17_become
    dsimp only
    by_cases e5 : d < 25
    · have hT : s ||| 2 ^ d < 33554432 := or_T c1 (pow_T e5)
      rw [if_neg (n25 e5), decide_eq_true e5, obs, if_neg (by decide), c2.1, pz_shl1 d (by omega), pz_or, L_leave _ hT, obs, obs, rz1, obs, obs, if_neg bI_n0, obs]
      refine ⟨true, _, _, (s ||| 2 ^ d, b, m, K, F), rfl, rfl, ⟨hT, cvL_R _ _, c3, c4, cvL_H c5 _⟩, ⟨hT, rfl, g3, g4, g5⟩, kA.le _ _, fun z => by cases z⟩
    · have h25 : (25 : Int32) ≤ nI d := nI_le (a := 25) (by omega) (by omega)
      rw [if_pos h25, decide_eq_false e5, obs, if_pos rfl, rz0, obs, obs, if_pos bI_f]
      exact ⟨false, cv, g, (s, b, m, K, F), rfl, rfl, ⟨c1, c2, c3, c4, c5⟩, ⟨g1, g2, g3, g4, g5⟩, kA.rf g, fun _ => ⟨rfl, rfl⟩⟩
  · -- rolling
    have n0 := hn.2.2.1 rfl
    dsimp only at n0
    rw [hH, if_neg (by decide), if_neg (by decide), if_neg (by decide), if_pos rfl, n0, isI, g2]
    unfold f_T_isGood f_T_become f_X18_isGood f_X18_become
    dsimp only
    rw [inI (nI d) 1 3 (A := 1) (B := 3) rfl rfl, obs, rz_b, obs]
    cases e5 : decide (1 ≤ nI d ∧ nI d ≤ 3)
    · rw [if_pos bI_f, rz_b, obs, obs, if_pos bI_f]
      exact ⟨false, cv, g, (s, b, m, K, F), rfl, rfl, ⟨c1, c2, c3, c4, c5⟩, ⟨g1, g2, g3, g4, g5⟩, kA.rf g, fun _ => ⟨rfl, rfl⟩⟩
    · rw [if_neg bI_n0, L_roll c1 c2.1 (by omega), obs, obs, rz_b, obs, obs, if_neg bI_n0, M_turnedBy c1 (by omega), obs, obs]
      refine ⟨true, _, _, (rotN s d, b, m, K, F), rfl, rfl, ⟨rotN_T c1 d, cvL_R _ _, c3, c4, cvL_H c5 _⟩, ⟨rotN_T c1 d, rfl, g3, g4, g5⟩, kA.le _ _, fun z => by cases z⟩
  · -- a bite
    obtain ⟨n0, n1⟩ := hn.2.2.2 rfl
    dsimp only at n0 n1
    rw [hH, if_pos rfl, n0, n1, M_isCellN (by omega), g2]
    unfold f_T_isGood f_T_become f_X19_isGood f_X19_become
    dsimp only
    by_cases e5 : d < 4
    · rw [if_neg (n4 e5), if_neg (n4 e5), obs]
      by_cases e6 : e < 25
      · rw [if_neg (n25 e6), decide_eq_true e6, if_neg bI_n0, L_canBite c2.1 e5 e6, M_canBite e5 e6, obs, obs]
        cases e7 : canS s d e
        · rw [if_pos bI_f, if_pos bI_f, obs, if_pos rfl, rz0]
          exact ⟨false, cv, g, (s, b, m, K, F), rfl, rfl, ⟨c1, c2, c3, c4, c5⟩, ⟨g1, g2, g3, g4, g5⟩, kA.rf g, fun _ => ⟨rfl, rfl⟩⟩
        · rw [if_neg bI_n0, if_neg bI_n0, obs, if_neg (by decide), L_bite c1 c2.1 e5 e6, M_bite d e5 e e6, obs, obs, obs, rz1, c4, L_bmn c3]
          unfold f_X9_bitesOff
          have hbb : mG_bites (mS_left g (mG_left g &&& (nI (bitS d e) ^^^ (-1)))) = nI b := g4
          simp only [obs]
          rw [hbb, M_bmn c3]
          simp only [obs]
          rw [g2, pz_dif]
          refine ⟨true, _, _, (dif s (bitS d e), bmn b, m, K, F), rfl, rfl, ⟨dif_T c1, cvL_R _ _, bmn_le b, rfl, cvL_H (cv := cS_bitten cv (nI (bmn b))) c5 _⟩, ⟨dif_T c1, rfl, bmn_le b, rfl, g5⟩, (kA.le _ _).tr (kA.bi _ _), fun z => by cases z⟩
      · have h25 : (25 : Int32) ≤ nI e := nI_le (a := 25) (by omega) (by omega)
        rw [if_pos h25, decide_eq_false e6, if_pos bI_f, obs, if_pos rfl, rz0]
        exact ⟨false, cv, g, (s, b, m, K, F), rfl, rfl, ⟨c1, c2, c3, c4, c5⟩, ⟨g1, g2, g3, g4, g5⟩, kA.rf g, fun _ => ⟨rfl, rfl⟩⟩
    · have h4 : (4 : Int32) ≤ nI d := nI_le (a := 4) (by omega) (by omega)
      rw [if_pos h4, if_pos h4, obs, if_pos rfl, rz0]
      exact ⟨false, cv, g, (s, b, m, K, F), rfl, rfl, ⟨c1, c2, c3, c4, c5⟩, ⟨g1, g2, g3, g4, g5⟩, kA.rf g, fun _ => ⟨rfl, rfl⟩⟩
