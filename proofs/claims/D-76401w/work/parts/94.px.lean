/-! PLAIN LAWS 24: the other acts -/
theorem op_what {x : XS} {g : MS} {z : GS} (hx : RX x z) (hg : RM g z) (a b : Int32) : two x g (f_X0_whatTold x a b) (f_X9_whatIs g a b) := by
  unfold f_X0_whatTold f_X9_whatIs
  refine g_heir hx hg a _ _ (fun j hj ej => ?_)
  refine g_bit hx hg b _ _ (fun hb => ?_)
  subst ej
  obtain ⟨y, h1, h2⟩ := L_fitting (x := x) (rm := z.2.2.2.1) hx.co hj hx.2.2.2.1.1 hx.2.2.2.1.2 hb
  have h3 := M_whatIs (g := g) (rm := z.2.2.2.1) hg.1.1 hg.le hg.he hj hg.2.2.2.1.1 hg.2.2.2.1.2 hb
  have hr : ∀ k, k < z.2.2.2.1 → mG_row g k = xG_row x k := fun k hk => (hg.2.2.2.2.2.1 k hk).trans (hx.2.2.2.2.2.1 k hk).symm
  rw [fit_congr hr] at h3
  rw [h1, h3]
  exact two_ok (z := z) rfl rfl (hx.kp h2) hg
/-- a core set anew on both sides -/
theorem RX.core {x : XS} {z : GS} (h : RX x z) {v : CV} {a : AC} (hv : cxR v a) : RX (xS_core0 x v) (a, z.2) := ⟨hv, h.2⟩
def RMx (g h : MS) : Prop := kB g h
theorem RM.core {g h : MS} {z : GS} (hg : RM g z) {a : AC} (hv : cmR h a) (k : kB g h) : RM h (a, z.2) := by
  obtain ⟨k1, k2, k3, k4, k5, k6, k7, k8, k9, k10, k11⟩ := k
  obtain ⟨-, h2, h3, h4, h5, h6, h7, h8⟩ := hg
  refine ⟨hv, k4.trans h2, fun e => ?_, ⟨k6.trans h4.1, h4.2⟩, ⟨k5.trans h5.1, h5.2⟩, fun i hi => ?_, fun i hi => ?_, fun i hi => ?_⟩
  · unfold imR
    rw [k1, k2, k3, k7, k8]
    exact h3 e
  · rw [k10]; exact h6 i hi
  · rw [k9]; exact h7 i hi
  · rw [k11]; exact h8 i hi
theorem op_cell {x : XS} {g : MS} {z : GS} (hx : RX x z) (hg : RM g z) (a b : Int32) : two x g (f_X0_cellAsked x a b) (f_X9_cell g a b) := by
  have hs := hx.1.1
  unfold f_X0_cellAsked f_X9_cell
  refine g_cell hx hg a _ _ (fun c hc ec => ?_)
  subst ec
  rw [inI b 0 2 (A := 0) (B := 2) rfl rfl, obs, L_mustB, hx.le, hg.le, L_has (by omega) (by omega), pz_shl1 c (by omega), M_besideOf (pow_T hc), L_besideBits c hc, L_heapOf hs hc, M_heapOf hs hc, pz_bit (by omega) (by omega), nbr_p c hc]
  simp only [obs]
  rw [pz_and, L_manyIn (and_T (adj_T c hc)), M_bits (and_T (adj_T c hc)), L_manyIn (hS_T hc)]
  simp only [obs]
  cases e : decide (0 ≤ b ∧ b ≤ 2)
  · have n0 : ¬ b = 0 := fun z => by subst z; cases e
    have n1 : ¬ b = 1 := fun z => by subst z; cases e
    have n2 : ¬ b = 2 := fun z => by subst z; cases e
    rw [if_neg (by decide), bXr, if_neg n0, if_neg n1, if_neg n2, no_id]
    exact two_no 2 (by omega) rfl rfl hx hg
  · rw [if_pos rfl, bXl]
    obtain ⟨j, hj, rfl⟩ := ran_c (n := 2) (by omega) e
    match j, hj with
    | 0, _ =>
      have t1 : ¬ nI 0 = 1 := by decide
      have t2 : ¬ nI 0 = 2 := by decide
      simp only [if_neg t2, if_neg t1, if_pos nI_0]
      cases z.1.1.testBit c
      · exact two_ok (z := z) rfl rfl hx hg
      · exact two_ok (z := z) rfl rfl hx hg
    | 1, _ =>
      have t0 : ¬ nI 1 = 0 := by decide
      have t2 : ¬ nI 1 = 2 := by decide
      have t1 : nI 1 = 1 := rfl
      simp only [if_neg t2, if_neg t0, if_pos t1]
      exact two_ok (z := z) rfl rfl hx hg
    | 2, _ =>
      have t0 : ¬ nI 2 = 0 := by decide
      have t1 : ¬ nI 2 = 1 := by decide
      have t2 : nI 2 = 2 := rfl
      simp only [if_neg t1, if_neg t0, if_pos t2]
      cases z.1.1.testBit c
      · have hb : f_X9_bits (nI (if false = true then hS z.1.1 c else 0)) = some 0 := by
          have := M_bits (n := 0) (by decide)
          rw [pc_0] at this
          exact this
        rw [hb]
        exact two_ok (z := z) rfl rfl hx hg
      · rw [if_pos rfl, M_bits (hS_T hc)]
        exact two_ok (z := z) rfl rfl hx hg
theorem op_heir {x : XS} {g : MS} {z : GS} (hx : RX x z) (hg : RM g z) (a b : Int32) : two x g (f_X0_heirAsked x a b) (f_X9_heir g a b) := by
  have hs := hx.1.1
  unfold f_X0_heirAsked f_X9_heir
  refine g_heir hx hg a _ _ (fun j hj ej => ?_)
  subst ej
  have hm := hx.he.2.1
  have hin : ¬ (nI j < 0 ∨ 5 ≤ Int32.toNatClampNeg (nI j)) := nIn (by omega) (by omega)
  have hcl : Int32.toNatClampNeg (nI j) = j := nI_clamp (by omega)
  obtain ⟨f1, ⟨hK, f2⟩, f3⟩ := hx.he.2.2 j hj
  obtain ⟨e1, e2, e3, e4⟩ := hg.he.2.2 j hj
  rw [inI b 0 2 (A := 0) (B := 2) rfl rfl, obs, L_mustB, hg.le]
  simp only [if_neg hin]
  rw [hcl, f2, e3, e4, L_shareOf hs hx.1.2.1 hx.he hj, M_shareOf hs hg.he hj]
  simp only [obs]
  have hkd : f_K_kind ⟨z.1.2.2.2.1 j, hK⟩ = some (nI (z.1.2.2.2.1 j)) := by
    generalize z.1.2.2.2.1 j = q at hK
    match q, hK with
    | 0, _ => rfl
    | 1, _ => rfl
    | 2, _ => rfl
    | 3, _ => rfl
    | 4, _ => rfl
    | 5, _ => rfl
  rw [hkd]
  cases e : decide (0 ≤ b ∧ b ≤ 2)
  · have n0 : ¬ b = 0 := fun z => by subst z; cases e
    have n1 : ¬ b = 1 := fun z => by subst z; cases e
    have n2 : ¬ b = 2 := fun z => by subst z; cases e
    rw [if_neg (by decide), bXr, if_neg n0, if_neg n1, if_neg n2, no_id]
    exact two_no 2 (by omega) rfl rfl hx hg
  · rw [if_pos rfl, bXl]
    obtain ⟨q, hq, rfl⟩ := ran_c (n := 2) (by omega) e
    match q, hq with
    | 0, _ =>
      simp only [if_pos nI_0]
      exact two_ok (z := z) rfl rfl hx hg
    | 1, _ =>
      have t0 : ¬ nI 1 = 0 := by decide
      have t1 : nI 1 = 1 := rfl
      simp only [if_neg t0, if_pos t1]
      rw [f3]
      exact two_ok (z := z) rfl rfl hx hg
    | 2, _ =>
      have t0 : ¬ nI 2 = 0 := by decide
      have t1 : ¬ nI 2 = 1 := by decide
      have t2 : nI 2 = 2 := rfl
      simp only [if_neg t0, if_neg t1, if_pos t2]
      exact two_ok (z := z) rfl rfl hx hg
theorem cxR.bite {cv : CV} {a : AC} (h : cxR cv a) (d : Nat) : cxR (cvL (cS_bitten cv (nI (bmn a.2.1))) (dif a.1 d)) (dif a.1 d, bmn a.2.1, a.2.2) := ⟨dif_T h.1, cvL_R _ _, bmn_le _, rfl, cvL_H (cv := cS_bitten cv (nI (bmn a.2.1))) h.2.2.2.2 _⟩
theorem cxR.leave {cv : CV} {a : AC} (h : cxR cv a) {t : Nat} (ht : t < 33554432) : cxR (cvL cv t) (t, a.2) := ⟨ht, cvL_R _ _, h.2.2.1, h.2.2.2.1, cvL_H h.2.2.2.2 _⟩
theorem cmR.left {g : MS} {a : AC} (h : cmR g a) {t : Nat} (ht : t < 33554432) : cmR (mS_left g (nI t)) (t, a.2) := ⟨ht, rfl, h.2.2.1, h.2.2.2.1, h.2.2.2.2⟩
theorem kB.le (g : MS) (v : Int32) : kB g (mS_left g v) := kB.rf g
theorem kB.bi (g : MS) (v : Int32) : kB g (mS_bites g v) := kB.rf g
theorem lec (x : XS) (v : CV) : xG_core0 (xS_core0 x v) = v := rfl
theorem lel (cv : CV) (t : Nat) : cG_left (cvL cv t) = nI t := rfl
theorem mlf (g : MS) (v : Int32) : mG_left (mS_left g v) = v := rfl
theorem mbl (g : MS) (v : Int32) : mG_bites (mS_left g v) = mG_bites g := rfl
theorem mlb (g : MS) (v : Int32) : mG_left (mS_bites g v) = mG_left g := rfl
theorem op_bites {x : XS} {g : MS} {z : GS} (hx : RX x z) (hg : RM g z) (a b : Int32) : two x g (f_X0_biteIt x a b) (f_X9_bites g a b) := by
  have hs := hx.1.1
  unfold f_X0_biteIt f_X9_bites
  refine g_in hx hg a 0 3 rfl rfl _ _ (fun e => ?_)
  obtain ⟨d, hd, rfl⟩ := ran_c (n := 3) (by omega) e
  refine g_cell hx hg b _ _ (fun c hc ec => ?_)
  subst ec
  have hd4 : d < 4 := by omega
  rw [L_canBite hx.le hd4 hc, hg.le, M_canBite hd4 hc, obs, obs, L_mustB]
  cases e7 : canS z.1.1 d c
  · rw [if_neg (by decide), bXr, if_pos bI_f, no_id]
    exact two_no 3 (by omega) rfl rfl hx hg
  · have hT : dif z.1.1 (bitS d c) < 33554432 := dif_T hs
    rw [if_pos rfl, bXl, if_neg bI_n0, L_bite hs hx.le hd4 hc, M_bite d hd4 c hc, hx.1.2.2.2.1, L_bmn hx.1.2.2.1]
    unfold f_X9_bitesOff
    simp only [obs]
    rw [hg.le, pz_dif, mbl, hg.1.2.2.2.1, M_bmn hg.1.2.2.1]
    simp only [obs]
    rw [lec, lel, mlb, mlf, L_manyIn hT, M_bits hT]
    refine two_ok (z := z) rfl rfl (hx.core (hx.1.bite (bitS d c))) (hg.core ⟨hT, rfl, bmn_le _, rfl, hg.he⟩ ((kB.le _ _).tr (kB.bi _ _)))
theorem op_heals {x : XS} {g : MS} {z : GS} (hx : RX x z) (hg : RM g z) (a : Int32) : two x g (f_X0_healIt x a) (f_X9_heals g a) := by
  have hs := hx.1.1
  unfold f_X0_healIt f_X9_heals
  refine g_cell hx hg a _ _ (fun c hc ec => ?_)
  subst ec
  have hT : z.1.1 ||| 2 ^ c < 33554432 := or_T hs (pow_T hc)
  rw [hx.le, hg.le, L_has (by omega) (by omega), M_has (by omega) (by omega), obs, obs]
  cases e : z.1.1.testBit c
  · rw [if_pos bI_f, if_pos bI_f, obs, L_must_t, bXl, pz_shl1 c (by omega), pz_or, L_leave _ hT]
    simp only [obs]
    rw [lec, lel, mlf, L_manyIn hT, M_bits hT]
    exact two_ok (z := z) rfl rfl (hx.core (hx.1.leave hT)) (hg.core (hg.1.left hT) (kB.le _ _))
  · rw [if_neg bI_n0, if_neg bI_n0, obs, L_must_f, bXr, no_id]
    exact two_no 3 (by omega) rfl rfl hx hg
theorem op_rolls {x : XS} {g : MS} {z : GS} (hx : RX x z) (hg : RM g z) (a : Int32) : two x g (f_X0_rollIt x a) (f_X9_rolls g a) := by
  have hs := hx.1.1
  unfold f_X0_rollIt f_X9_rolls
  rw [L_within a 1 3 (A := 1) (B := 3) rfl rfl]
  by_cases e1 : a < 1
  · rw [if_pos e1, bXr, if_neg (Int32.not_le.2 e1), no_id]
    exact two_no 4 (by omega) rfl rfl hx hg
  · rw [if_neg e1, if_pos (Int32.not_lt.1 e1)]
    by_cases e2 : 3 < a
    · rw [if_pos e2, bXr, if_neg (Int32.not_le.2 e2), no_id]
      exact two_no 6 (by omega) rfl rfl hx hg
    · have h0 : ¬ a < 0 := fun h => e1 (Int32.lt_trans h (by decide))
      obtain ⟨q, hq, rfl⟩ := win_c (n := 3) (by omega) rfl h0 e2
      have hT := rotN_T hs q
      rw [if_neg e2, bXl, if_pos (Int32.not_lt.1 e2), L_roll hs hx.le (by omega), hg.le, M_turnedBy hs (by omega)]
      simp only [obs]
      rw [lec, lel, mlf, L_manyIn hT, M_bits hT]
      exact two_ok (z := z) rfl rfl (hx.core (hx.1.leave hT)) (hg.core (hg.1.left hT) (kB.le _ _))
theorem op_turn {x : XS} {g : MS} {z : GS} (hx : RX x z) (hg : RM g z) (a b c : Int32) : two x g (f_X0_turnIt x a b c) (f_X9_turn g a b c) := by
  unfold f_X0_turnIt f_X9_turn
  rw [L_heir hx.he, M_isHeir hg.he, obs, isI, M_wrongBy]
  cases e : isH z.1.2.2.1 a
  · rw [if_neg (by decide), bXr, if_pos bI_f, obs, if_neg (by decide), no_id]
    exact two_no 1 (by omega) rfl rfl hx hg
  · obtain ⟨j, hj, rfl⟩ := isH_c hx.he.2.1 e
    rw [if_pos rfl, bXl, if_neg bI_n0, inI b 0 5 (A := 0) (B := 5) rfl rfl, obs, L_mustB]
    cases e1 : decide (0 ≤ b ∧ b ≤ 5)
    · rw [if_neg (by decide), bXr, obs, if_pos bI_f, obs, if_neg (by decide), no_id]
      exact two_no 2 (by omega) rfl rfl hx hg
    · obtain ⟨k, hk, rfl⟩ := ran_c (n := 5) (by omega) e1
      rw [if_pos rfl, bXl, obs, if_neg bI_n0, L_within c 0 9 (A := 0) (B := 9) rfl rfl]
      by_cases e2 : c < 0
      · rw [if_pos e2, bXr, if_pos e2, obs, obs, if_neg (by decide), no_id]
        exact two_no 4 (by omega) rfl rfl hx hg
      · rw [if_neg e2, if_neg e2]
        by_cases e3 : 9 < c
        · rw [if_pos e3, bXr, if_pos e3, obs, obs, if_neg (by decide), no_id]
          exact two_no 6 (by omega) rfl rfl hx hg
        · obtain ⟨f, hf, rfl⟩ := win_c (n := 9) (by omega) rfl e2 e3
          have hm := hx.he.2.1
          have hin : ¬ (nI j < 0 ∨ 5 ≤ Int32.toNatClampNeg (nI j)) := nIn (by omega) (by omega)
          have hcl : Int32.toNatClampNeg (nI j) = j := nI_clamp (by omega)
          have hin6 : ¬ (nI k < 0 ∨ 6 ≤ Int32.toNatClampNeg (nI k)) := nIn (by omega) (by omega)
          have hcl6 : Int32.toNatClampNeg (nI k) = k := nI_clamp (by omega)
          obtain ⟨f1, ⟨hK, f2⟩, f3⟩ := hx.he.2.2 j hj
          obtain ⟨m1, m2, m3, m4⟩ := hg.he.2.2 j hj
          have hkd : f_K_kind ⟨z.1.2.2.2.1 j, hK⟩ = some (nI (z.1.2.2.2.1 j)) := by
            generalize z.1.2.2.2.1 j = q at hK
            match q, hK with
            | 0, _ => rfl
            | 1, _ => rfl
            | 2, _ => rfl
            | 3, _ => rfl
            | 4, _ => rfl
            | 5, _ => rfl
          rw [if_neg e3, bXl, if_neg e3, obs, obs, if_pos rfl]
          simp only [if_neg hin, if_neg hin6]
          rw [hcl, hcl6, f2, kd0_e (show k < 6 by omega), f3, m3, m4]
          simp only [obs]
          rw [hkd]
          simp only [obs]
          refine two_ok (z := z) rfl rfl (hx.core (a := (z.1.1, z.1.2.1, z.1.2.2.1, upN z.1.2.2.2.1 j k, upN z.1.2.2.2.2 j f)) ⟨hx.1.1, hx.1.2.1, hx.1.2.2.1, hx.1.2.2.2.1, hx.he.1, hx.he.2.1, fun i hi => ?_⟩) (hg.core (a := (z.1.1, z.1.2.1, z.1.2.2.1, upN z.1.2.2.2.1 j k, upN z.1.2.2.2.2 j f)) ⟨hg.1.1, hg.1.2.1, hg.1.2.2.1, hg.1.2.2.2.1, hg.he.1, hg.he.2.1, fun i hi => ?_⟩ ((kB.ki _ _).tr (kB.fi _ _)))
          · show upN z.1.2.2.2.2 j f i < 10 ∧ (∃ hk' : upN z.1.2.2.2.1 j k i < 6, va_up (cG_kind (xG_core0 x)) j (some ⟨k, _⟩) i = some ⟨upN z.1.2.2.2.1 j k i, hk'⟩) ∧ upd (cG_figures (xG_core0 x)) j (nI f) i = nI (upN z.1.2.2.2.2 j f i)
            by_cases ei : i = j
            · subst ei
              refine ⟨by rw [upN_s]; omega, ⟨by rw [upN_s]; omega, ?_⟩, by rw [pk_us, upN_s]⟩
              have : va_up (cG_kind (xG_core0 x)) i (some (⟨k, by omega⟩ : Fin 6)) i = some ⟨k, by omega⟩ := if_pos rfl
              rw [this]
              congr 1
              exact Fin.ext (upN_s _ _ _).symm
            · obtain ⟨x1, ⟨xK, x2⟩, x3⟩ := hx.he.2.2 i hi
              refine ⟨by rw [upN_n _ _ ei]; exact x1, ⟨by rw [upN_n _ _ ei]; exact xK, ?_⟩, by rw [pk_un ei, upN_n _ _ ei]; exact x3⟩
              have : va_up (cG_kind (xG_core0 x)) j (some (⟨k, by omega⟩ : Fin 6)) i = cG_kind (xG_core0 x) i := if_neg ei
              rw [this, x2]
              congr 1
              exact Fin.ext (upN_n _ _ ei).symm
          · show upN z.1.2.2.2.2 j f i < 10 ∧ upN z.1.2.2.2.1 j k i < 6 ∧ upd (mG_kind g) j (nI k) i = nI (upN z.1.2.2.2.1 j k i) ∧ upd (mG_figure g) j (nI f) i = nI (upN z.1.2.2.2.2 j f i)
            by_cases ei : i = j
            · subst ei
              rw [upN_s, upN_s, pk_us, pk_us]
              exact ⟨by omega, by omega, rfl, rfl⟩
            · rw [upN_n _ _ ei, upN_n _ _ ei, pk_un ei, pk_un ei]
              exact hg.he.2.2 i hi
theorem op_anew {x : XS} {g : MS} {z : GS} (hx : RX x z) (hg : RM g z) : two x g (Option.bind (f_X0_allAnew x) fun o => some (Sum.inl (o.1, o.2))) (f_X9_anew g) := by
  have hT : (33554431 : Int32) = nI 33554431 := rfl
  unfold f_X0_allAnew f_X9_anew f_X9_allAgain
  simp only [obs]
  rw [lec, hT, L_leave _ (by decide)]
  simp only [obs]
  rw [hx.1.2.2.2.1, hg.1.2.2.2.1]
  exact two_ok (z := z) rfl rfl (hx.core (a := (33554431, 0, z.1.2.2)) ⟨by show 33554431 < 33554432; omega, cvL_R _ _, by show 0 ≤ 999; omega, rfl, cvL_H (cv := cS_bitten (xG_core0 x) 0) hx.he _⟩) (hg.core (a := (33554431, 0, z.1.2.2)) ⟨by show 33554431 < 33554432; omega, rfl, by show 0 ≤ 999; omega, rfl, hg.he⟩ ((kB.le _ _).tr (kB.bi _ _)))
