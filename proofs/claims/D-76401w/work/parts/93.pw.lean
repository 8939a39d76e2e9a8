/-! PLAIN LAWS 23: acts, each beside the reference's -/
theorem RX.le {x : XS} {z : GS} (h : RX x z) : cG_left (xG_core0 x) = nI z.1.1 := h.1.2.1.1
theorem RX.he {x : XS} {z : GS} (h : RX x z) : heR (xG_core0 x) z.1.2.2.1 z.1.2.2.2.1 z.1.2.2.2.2 := h.1.2.2.2.2
theorem RM.le {g : MS} {z : GS} (h : RM g z) : mG_left g = nI z.1.1 := h.1.2.1
theorem RM.he {g : MS} {z : GS} (h : RM g z) : heM g z.1.2.2.1 z.1.2.2.2.1 z.1.2.2.2.2 := h.1.2.2.2.2
theorem two_ok {x y : XS} {g h : MS} {z z' : GS} {v : Int32} {dx : Option ((Int32 × XS) ⊕ (Int32 × XS))} {dm : Option (Int32 × MS)} (h1 : dx = some (.inl (v, y))) (h2 : dm = some (v, h)) (h3 : RX y z') (h4 : RM h z') : two x g dx dm := Or.inl ⟨v, y, h, z', h1, h2, h3, h4⟩
theorem two_no {x y : XS} {g : MS} {z : GS} {dx : Option ((Int32 × XS) ⊕ (Int32 × XS))} {dm : Option (Int32 × MS)} (q : Nat) (hq : q < 7) (h1 : dx = some (.inr (-(nI q), y))) (h2 : dm = f_X9_no g (-(nI q))) (h3 : RX y z) (h4 : RM g z) : two x g dx dm := Or.inr ⟨q, y, z, hq, h1, h2, h3, h4⟩
theorem g_heir {x : XS} {g : MS} {z : GS} (hx : RX x z) (hg : RM g z) (a : Int32) (fX : XS → Option ((Int32 × XS) ⊕ (Int32 × XS))) (rM : Option (Int32 × MS)) (h : ∀ j, j < z.1.2.2.1 → a = nI j → two x g (fX x) rM) :
    two x g (bX (f_X0_mustBeHeir x a) (fun b1 => (b1.1, b1.2)) fX) (Option.bind (f_X9_isHeir g a) fun o1 => if o1 = 0 then Option.bind (f_X9_no g (-1 : Int32)) fun o => some (o.1, o.2) else rM) := by
  rw [L_heir hx.he, M_isHeir hg.he, obs]
  cases e : isH z.1.2.2.1 a
  · rw [if_neg (by decide), bXr, if_pos bI_f, no_id]
    exact two_no 1 (by omega) rfl rfl hx hg
  · obtain ⟨j, hj, ej⟩ := isH_c hx.he.2.1 e
    rw [if_pos rfl, bXl, if_neg bI_n0]
    exact h j hj ej
theorem g_bit {x : XS} {g : MS} {z : GS} (hx : RX x z) (hg : RM g z) (b : Int32) (fX : Unit → Option ((Int32 × XS) ⊕ (Int32 × XS))) (rM : Option (Int32 × MS)) (h : b = 0 ∨ b = 1 → two x g (fX ()) rM) :
    two x g (bX (f_X0_mustBeBit b) (fun b2 => (b2, x)) fX) (Option.bind (f_X9_isIn b 0 1) fun o3 => if o3 = 0 then Option.bind (f_X9_no g (-2 : Int32)) fun o => some (o.1, o.2) else rM) := by
  rw [L_bit, isI, obs]
  cases e : decide (0 ≤ b ∧ b ≤ 1)
  · rw [if_neg (by decide), bXr, if_pos bI_f, no_id]
    exact two_no 2 (by omega) rfl rfl hx hg
  · rw [if_pos rfl, bXl, if_neg bI_n0]
    exact h (bit_c e)
theorem g_cell {x : XS} {g : MS} {z : GS} (hx : RX x z) (hg : RM g z) (a : Int32) (fX : Unit → Option ((Int32 × XS) ⊕ (Int32 × XS))) (rM : Option (Int32 × MS)) (h : ∀ c, c < 25 → a = nI c → two x g (fX ()) rM) :
    two x g (bX (f_X0_mustBeCell a) (fun b2 => (b2, x)) fX) (Option.bind (f_X9_isCell a) fun o3 => if o3 = 0 then Option.bind (f_X9_no g (-1 : Int32)) fun o => some (o.1, o.2) else rM) := by
  rw [L_cell, M_isCell, obs]
  cases e : decide (0 ≤ a ∧ a ≤ 24)
  · rw [if_neg (by decide), bXr, if_pos bI_f, no_id]
    exact two_no 1 (by omega) rfl rfl hx hg
  · rw [if_pos rfl, bXl, if_neg bI_n0]
    obtain ⟨j, hj, ej⟩ := ran_c (n := 24) (by omega) e
    exact h j (by omega) ej
/-- in(a, 0, n) must be, else OTHER -/
theorem g_in {x : XS} {g : MS} {z : GS} (hx : RX x z) (hg : RM g z) (a lo hi : Int32) {A B : Int64} (hA : A = lo.toInt64) (hB : B = hi.toInt64) (fX : Unit → Option ((Int32 × XS) ⊕ (Int32 × XS))) (rM : Option (Int32 × MS)) (h : decide (lo ≤ a ∧ a ≤ hi) = true → two x g (fX ()) rM) :
    two x g (Option.bind (f_X0_in (Int32.toInt64 a) A B) fun o1 => bX (f_X0_must o1 (-2 : Int32)) (fun b2 => (b2, x)) fX) (Option.bind (f_X9_isIn a lo hi) fun o3 => if o3 = 0 then Option.bind (f_X9_no g (-2 : Int32)) fun o => some (o.1, o.2) else rM) := by
  rw [inI a lo hi hA hB, isI, obs, obs, L_mustB]
  cases e : decide (lo ≤ a ∧ a ≤ hi)
  · rw [if_neg (by decide), bXr, if_pos bI_f, no_id]
    exact two_no 2 (by omega) rfl rfl hx hg
  · rw [if_pos rfl, bXl, if_neg bI_n0]
    exact h e
theorem op_best {x : XS} {g : MS} {z : GS} (hx : RX x z) (hg : RM g z) (a b sg : Int32) : two x g (f_X0_bestTold x a b sg) (f_X9_biteTold g a b sg) := by
  unfold f_X0_bestTold f_X9_biteTold
  refine g_heir hx hg a _ _ (fun j hj ej => ?_)
  refine g_bit hx hg b _ _ (fun hb => ?_)
  subst ej
  obtain ⟨y, h1, h2⟩ := L_bestTS (sg := sg) (what := b) hx.co hj
  exact two_ok (z := z) h1 (M_bestTS hg.1.1 hg.le hg.he hj) (hx.kp h2) hg
theorem op_shares {x : XS} {g : MS} {z : GS} (hx : RX x z) (hg : RM g z) (a : Int32) : two x g (f_X0_sharesTold x a) (f_X9_shares g a) := by
  unfold f_X0_sharesTold f_X9_shares
  refine g_bit hx hg a _ _ (fun hb => ?_)
  have hm := hx.he.2.1
  rcases hb with rfl | rfl
  · rw [if_pos rfl, if_pos rfl, L_allShares hx.1.1 hx.1.2.1 hx.he, hg.le, M_sharesOf hg.1.1 hg.he]
    exact two_ok (z := z) rfl rfl hx hg
  · rw [if_neg (by decide), if_neg (by decide)]
    -- the richest
    obtain ⟨R, hR⟩ : ∃ R : Nat → Option Nat, R 0 = none ∧ ∀ k, R (k + 1) = match R k with
        | none => some k
        | some f => if nI (shS z.1.1 (z.1.2.2.2.1 f) (z.1.2.2.2.2 f)) < nI (shS z.1.1 (z.1.2.2.2.1 k) (z.1.2.2.2.2 k)) then some k else some f := ⟨fun k => Nat.rec none (fun k r => match r with
        | none => some k
        | some f => if nI (shS z.1.1 (z.1.2.2.2.1 f) (z.1.2.2.2.2 f)) < nI (shS z.1.1 (z.1.2.2.2.1 k) (z.1.2.2.2.2 k)) then some k else some f) k, rfl, fun k => rfl⟩
    obtain ⟨hR0, hRs⟩ := hR
    have hRlt : ∀ k f, R k = some f → f < k := by
      intro k
      induction k with
      | zero => intro f h; rw [hR0] at h; cases h
      | succ k ih =>
        intro f h
        rw [hRs] at h
        cases e : R k with
        | none => rw [e] at h; cases h; omega
        | some f' =>
          rw [e] at h
          dsimp only at h
          have := ih f' e
          split at h
          · cases h; omega
          · cases h; omega
    have hL : f_X0_richestOne x = some (encV (R z.1.2.2.1)) := by
      have h := loopU (fun n i (a : Int32) => f_X0_richestOne_L5 x n i a) z.1.2.2.1 (fun k => encV (R k)) (encV (R z.1.2.2.1)) (fun n => by
        (try dsimp only)
        rw [f_X0_richestOne_L5, hx.he.1, if_pos (nI_le (Nat.le_refl _) (by omega))]) (fun n k hk => by
        (try dsimp only)
        rw [f_X0_richestOne_L5, hx.he.1, if_neg (nI_ge hk (by omega)), L_shareOf hx.1.1 hx.1.2.1 hx.he hk, nI_1, hRs]
        cases e : R k with
        | none => rw [if_pos (by rfl)]; rfl
        | some f =>
          have hf := hRlt k f e
          have hsf : f_X8_shareOf (xG_core0 x) (encV (some f)) = _ := L_shareOf hx.1.1 hx.1.2.1 hx.he (show f < z.1.2.2.1 by omega)
          rw [if_neg (show ¬ encV (some f) = -9 from nI_m9 (by omega)), obs, hsf, obs]
          dsimp only
          by_cases e2 : nI (shS z.1.1 (z.1.2.2.2.1 f) (z.1.2.2.2.2 f)) < nI (shS z.1.1 (z.1.2.2.2.1 k) (z.1.2.2.2.2 k))
          · rw [if_neg (Int32.not_le.2 e2), if_pos e2]; rfl
          · rw [if_pos (Int32.not_lt.1 e2), if_neg e2]; rfl) 1000 0 (by omega) (by omega)
      rw [nI_0, hR0] at h
      unfold f_X0_richestOne
      have h2 : f_X0_richestOne_L5 x 1000 0 (-9) = some (encV (R z.1.2.2.1)) := h
      rw [h2]
      rfl
    have hM : f_X9_shares_L34 g 1000 0 (-9) = some (encV (R z.1.2.2.1)) := by
      have h := loopU (fun n i (a : Int32) => f_X9_shares_L34 g n i a) z.1.2.2.1 (fun k => encV (R k)) (encV (R z.1.2.2.1)) (fun n => by
        (try dsimp only)
        rw [f_X9_shares_L34, hg.he.1, if_pos (nI_le (Nat.le_refl _) (by omega))]) (fun n k hk => by
        (try dsimp only)
        rw [f_X9_shares_L34, hg.he.1, if_neg (nI_ge hk (by omega)), hg.le, M_shareOf hg.1.1 hg.he hk, nI_1, hRs]
        cases e : R k with
        | none => rw [if_pos (show encV none < 0 by decide)]; rfl
        | some f =>
          have hf := hRlt k f e
          have hsf : f_X9_shareOf g (nI z.1.1) (encV (some f)) = _ := M_shareOf hg.1.1 hg.he (show f < z.1.2.2.1 by omega)
          rw [if_neg (show ¬ encV (some f) < 0 from nI_pos (by omega)), obs, hsf, obs]
          dsimp only
          by_cases e2 : nI (shS z.1.1 (z.1.2.2.2.1 f) (z.1.2.2.2.2 f)) < nI (shS z.1.1 (z.1.2.2.2.1 k) (z.1.2.2.2.2 k))
          · rw [if_neg (Int32.not_le.2 e2), if_pos e2]; rfl
          · rw [if_pos (Int32.not_lt.1 e2), if_neg e2]; rfl) 1000 0 (by omega) (by omega)
      rw [nI_0, hR0] at h
      exact h
    rw [hL, hM]
    exact two_ok (z := z) rfl rfl hx hg
theorem op_pieces {x : XS} {g : MS} {z : GS} (hx : RX x z) (hg : RM g z) (a : Int32) : two x g (f_X0_piecesTold x a) (f_X9_pieces g a) := by
  have hs := hx.1.1
  have hT := deedS_T hs
  unfold f_X0_piecesTold f_X9_pieces
  rw [inI a 0 3 (A := 0) (B := 3) rfl rfl, obs, L_mustB, hg.le, M_deed hs, obs, M_heaps hs, M_leastHeap hs]
  cases e : decide (0 ≤ a ∧ a ≤ 3)
  · have n0 : ¬ a = 0 := fun z => by subst z; cases e
    have n1 : ¬ a = 1 := fun z => by subst z; cases e
    have n2 : ¬ a = 2 := fun z => by subst z; cases e
    have n3 : ¬ a = 3 := fun z => by subst z; cases e
    rw [if_neg (by decide), bXr, if_neg n0, if_neg n1, if_neg n2, if_neg n3, no_id]
    exact two_no 2 (by omega) rfl rfl hx hg
  · rw [if_pos rfl, bXl]
    obtain ⟨j, hj, rfl⟩ := ran_c (n := 3) (by omega) e
    have hc := hx.1.2.1
    have hd : (nI (deedS z.1.1) = 0 ↔ deedS z.1.1 = 0) := deed_ne hs
    match j, hj with
    | 0, _ =>
      rw [if_neg (show ¬ (2 : Int32) ≤ nI 0 by decide), if_pos nI_0, if_pos nI_0, hc.2.2.1]
      exact two_ok (z := z) rfl rfl hx hg
    | 1, _ =>
      rw [if_neg (show ¬ (2 : Int32) ≤ nI 1 by decide), if_neg (show ¬ nI 1 = 0 by decide), if_neg (show ¬ nI 1 = 0 by decide), if_pos (show nI 1 = 1 from rfl), hc.2.2.2]
      exact two_ok (z := z) rfl rfl hx hg
    | 2, _ =>
      rw [if_pos (show (2 : Int32) ≤ nI 2 by decide), if_neg (show ¬ nI 2 = 0 by decide), if_neg (show ¬ nI 2 = 1 by decide), if_pos (show nI 2 = 2 from rfl), L_chan hs hc, obs]
      by_cases h0 : deedS z.1.1 = 0
      · rw [decide_eq_true h0, if_neg bI_n0, if_pos (hd.2 h0)]
        exact two_ok (z := z) rfl rfl hx hg
      · rw [decide_eq_false h0, if_pos bI_f, if_neg (fun y => h0 (hd.1 y)), if_pos (show nI 2 = 2 from rfl), hc.2.1, L_leastIn hT h0, M_leastOf hT h0]
        exact two_ok (z := z) rfl rfl hx hg
    | 3, _ =>
      have t0 : ¬ nI 3 = 0 := by decide
      have t1 : ¬ nI 3 = 1 := by decide
      have t2 : ¬ nI 3 = 2 := by decide
      have t3 : nI 3 = 3 := rfl
      rw [if_pos (show (2 : Int32) ≤ nI 3 by decide), L_chan hs hc, obs]
      simp only [if_neg t0, if_neg t1, if_neg t2, if_pos t3]
      by_cases h0 : deedS z.1.1 = 0
      · rw [decide_eq_true h0, if_neg bI_n0, if_pos (hd.2 h0)]
        exact two_ok (z := z) rfl rfl hx hg
      · rw [decide_eq_false h0, if_pos bI_f, if_neg (fun y => h0 (hd.1 y)), hc.2.1, L_manyIn hT, M_bits hT]
        exact two_ok (z := z) rfl rfl hx hg
theorem op_edge {x : XS} {g : MS} {z : GS} (hx : RX x z) (hg : RM g z) (a : Int32) : two x g (f_X0_edgeTold x a) (f_X9_edge g a) := by
  unfold f_X0_edgeTold f_X9_edge
  refine g_bit hx hg a _ _ (fun hb => ?_)
  rw [hg.le, gon_e, obs]
  rcases hb with rfl | rfl
  · rw [if_pos rfl, if_pos rfl, L_sides hx.1.1 hx.le, M_sides hg.1.1 hg.le]
    exact two_ok (z := z) rfl rfl hx hg
  · rw [if_neg (by decide), if_neg (by decide), L_holes hx.le, M_holes (gon_T _)]
    exact two_ok (z := z) rfl rfl hx hg
theorem op_can {x : XS} {g : MS} {z : GS} (hx : RX x z) (hg : RM g z) (a : Int32) : two x g (f_X0_canTold x a) (f_X9_can g a) := by
  unfold f_X0_canTold f_X9_can
  refine g_in hx hg a (-1) 3 (by decide) (by decide) _ _ (fun _ => ?_)
  obtain ⟨y, h1, h2⟩ := L_can (a := a) hx.co
  rw [h1, M_can hg.le]
  exact two_ok (z := z) rfl rfl (hx.kp h2) hg
theorem op_safe {x : XS} {g : MS} {z : GS} (hx : RX x z) (hg : RM g z) : two x g (Option.bind (f_X0_manyThatCan x (-1) 1) fun o => some (Sum.inl (o.1, o.2))) (Option.bind (f_X9_safe g) fun o => some (o, g)) := by
  obtain ⟨y, h1, h2⟩ := L_safe hx.co
  rw [h1, M_safe hg.1.1 hg.le hg.he]
  exact two_ok (z := z) rfl rfl (hx.kp h2) hg
theorem op_ways {x : XS} {g : MS} {z : GS} (hx : RX x z) (hg : RM g z) (a : Int32) : two x g (f_X0_waysTold x a) (f_X9_ways g a) := by
  unfold f_X0_waysTold f_X9_ways
  refine g_bit hx hg a _ _ (fun _ => ?_)
  obtain ⟨y, h1, h2⟩ := L_ways (x := x) (what := a) hx.1.1 hx.le
  obtain ⟨h, h3, h4⟩ := M_ways (g := g) (what := a) hg.1.1 hg.le
  exact two_ok (z := z) h1 h3 (hx.kp h2) (hg.kp h4)
theorem op_alike {x : XS} {g : MS} {z : GS} (hx : RX x z) (hg : RM g z) (a : Int32) : two x g (f_X0_alikeTold x a) (f_X9_alike g a) := by
  unfold f_X0_alikeTold f_X9_alike
  refine g_bit hx hg a _ _ (fun hb => ?_)
  exact two_ok (z := z) (L_alike hx.1.1 hx.le) (M_alike hg.1.1 hg.le hb) hx hg
theorem op_settles {x : XS} {g : MS} {z : GS} (hx : RX x z) (hg : RM g z) (a : Int32) : two x g (f_X0_settlesTold x a) (f_X9_settles g a) := by
  unfold f_X0_settlesTold f_X9_settles
  refine g_bit hx hg a _ _ (fun _ => ?_)
  obtain ⟨y, h1, h2⟩ := L_settles (what := a) hx.co
  rw [h1]
  exact two_ok (z := z) rfl (M_settles hg.1.1 hg.le) (hx.kp h2) hg
theorem op_pips {x : XS} {g : MS} {z : GS} (hx : RX x z) (hg : RM g z) (a : Int32) : two x g (f_X0_pipsTold x a) (f_X9_pips g a) := by
  have hs := hx.1.1
  unfold f_X0_pipsTold f_X9_pips
  rw [L_bit]
  have hb2 : (nI z.1.1 >>> ((2 : Int32) &&& 31)) &&& 1 = bI (z.1.1.testBit 2) := pz_bit (k := 2) (by omega) (by omega)
  have hh : f_X0_has (nI z.1.1) 2 = some (bI (z.1.1.testBit 2)) := L_has (k := 2) (by omega) (by omega)
  cases e : decide (0 ≤ a ∧ a ≤ 1)
  · have n0 : ¬ a = 0 := fun z => by subst z; cases e
    have n1 : ¬ a = 1 := fun z => by subst z; cases e
    rw [if_neg (by decide), bXr, if_neg n0, if_neg n1, no_id]
    exact two_no 2 (by omega) rfl rfl hx hg
  · rw [if_pos rfl, bXl]
    rcases bit_c e with rfl | rfl
    · rw [if_pos rfl, if_pos rfl, hx.le, hg.le, and14, L_manyIn (and_T hs), M_bits (and_T hs)]
      exact two_ok (z := z) rfl rfl hx hg
    · rw [if_neg (by decide), if_neg (by decide), if_pos rfl, hx.le, hg.le, hh, obs, hb2]
      cases z.1.1.testBit 2
      · exact two_ok (z := z) rfl rfl hx hg
      · exact two_ok (z := z) rfl rfl hx hg
theorem op_grudge {x : XS} {g : MS} {z : GS} (hx : RX x z) (hg : RM g z) (a : Int32) : two x g (bX (f_X0_mustBeHeir x a) (fun b12 => (b12.1, b12.2)) fun o12 => Option.bind (f_X0_worstGrudge o12 a) fun o13 => some (Sum.inl (o13.1, o13.2))) (f_X9_grudge g a) := by
  unfold f_X9_grudge
  refine g_heir hx hg a _ _ (fun j hj ej => ?_)
  subst ej
  obtain ⟨y, h1, h2⟩ := L_grudge hx.co hj
  rw [h1, M_grudge hg.1.1 hg.le hg.he hj]
  exact two_ok (z := z) rfl rfl (hx.kp h2) hg
theorem op_join {x : XS} {g : MS} {z : GS} (hx : RX x z) (hg : RM g z) (a : Int32) : two x g (f_X0_joinTold x a) (f_X9_join g a) := by
  have hs := hx.1.1
  unfold f_X0_joinTold f_X9_join
  refine g_cell hx hg a _ _ (fun c hc ec => ?_)
  subst ec
  have hT : z.1.1 ||| 2 ^ c < 33554432 := or_T hs (pow_T hc)
  rw [hx.le, hg.le, L_has (by omega) (by omega), M_has (by omega) (by omega), obs, obs]
  cases e : z.1.1.testBit c
  · rw [if_pos bI_f, if_pos bI_f, obs, L_must_t, bXl, L_openMind, obs, pz_shl1 c (by omega), pz_or, M_heaps hT, obs, xgc, hx.le, pz_or, L_leave _ hT]
    exact two_ok (z := z) rfl rfl ((hx.kp (kp.mind _ _)).kp (kp.mind _ _)) hg
  · rw [if_neg bI_n0, if_neg bI_n0, obs, L_must_f, bXr, no_id]
    exact two_no 3 (by omega) rfl rfl hx hg
theorem op_bridge {x : XS} {g : MS} {z : GS} (hx : RX x z) (hg : RM g z) (a : Int32) : two x g (f_X0_bridgeTold x a) (f_X9_bridge g a) := by
  have hs := hx.1.1
  unfold f_X0_bridgeTold f_X9_bridge
  refine g_in hx hg a 0 2 rfl rfl _ _ (fun e => ?_)
  obtain ⟨j, hj, rfl⟩ := ran_c (n := 2) (by omega) e
  obtain ⟨y, h1, h2⟩ := L_bridgeBits hx.co
  have hT := setU_T (brP z.1.1) (Nat.le_refl 25)
  rw [L_middle hs hx.le, h1, M_bridge hs hg.le]
  simp only [obs]
  match j, hj with
  | 0, _ =>
    have t2 : ¬ nI 0 = 2 := by decide
    simp only [if_neg t2, if_pos nI_0]
    rw [L_manyIn hT, setU_pc]
    exact two_ok (z := z) rfl rfl (hx.kp h2) hg
  | 1, _ =>
    have t0 : ¬ nI 1 = 0 := by decide
    have t2 : ¬ nI 1 = 2 := by decide
    have t1 : nI 1 = 1 := rfl
    simp only [if_neg t2, if_neg t0, if_pos t1]
    have hl := setU_low (brP z.1.1)
    by_cases h0 : setU (brP z.1.1) 25 = 0
    · rw [if_pos (by rw [h0]; rfl), ← hl]
      unfold firstS
      rw [if_pos h0]
      exact two_ok (z := z) rfl rfl (hx.kp h2) hg
    · rw [if_neg (by rw [pz_z (by omega)]; exact h0), L_leastIn hT h0, ← hl]
      unfold firstS
      rw [if_neg h0]
      exact two_ok (z := z) rfl rfl (hx.kp h2) hg
  | 2, _ =>
    have t0 : ¬ nI 2 = 0 := by decide
    have t1 : ¬ nI 2 = 1 := by decide
    have t2 : nI 2 = 2 := rfl
    simp only [if_neg t1, if_neg t0, if_pos t2]
    exact two_ok (z := z) rfl rfl hx hg
theorem op_fewest {x : XS} {g : MS} {z : GS} (hx : RX x z) (hg : RM g z) (a b c : Int32) : two x g (f_X0_fewestTold x a b c) (f_X9_fewest g a b c) := by
  unfold f_X0_fewestTold f_X9_fewest
  rw [L_heir hx.he, M_isHeir hg.he, obs, M_wrongBy, isI]
  cases e : isH z.1.2.2.1 a
  · rw [if_neg (by decide), bXr, if_pos bI_f, obs, if_neg (by decide), obs, if_neg (by decide), no_id]
    exact two_no 1 (by omega) rfl rfl hx hg
  · obtain ⟨j, hj, rfl⟩ := isH_c hx.he.2.1 e
    rw [if_pos rfl, bXl, if_neg bI_n0, L_within b 0 40 (A := 0) (B := 40) rfl rfl]
    by_cases e1 : b < 0
    · rw [if_pos e1, bXr, if_pos e1, obs, obs, if_neg (by decide), obs, if_neg (by decide), no_id]
      exact two_no 4 (by omega) rfl rfl hx hg
    · rw [if_neg e1, if_neg e1]
      by_cases e2 : 40 < b
      · rw [if_pos e2, bXr, if_pos e2, obs, obs, if_neg (by decide), obs, if_neg (by decide), no_id]
        exact two_no 6 (by omega) rfl rfl hx hg
      · obtain ⟨v, hv, rfl⟩ := win_c (n := 40) (by omega) rfl e1 e2
        rw [if_neg e2, bXl, if_neg e2, obs, obs, if_pos rfl, obs, L_bit]
        cases e3 : decide (0 ≤ c ∧ c ≤ 1)
        · rw [if_neg (by decide), bXr, if_pos bI_f, obs, if_neg (by decide), no_id]
          exact two_no 2 (by omega) rfl rfl hx hg
        · obtain ⟨y, h1, h2⟩ := L_fewest (v := v) (what := c) hx.co hj hv
          rw [if_pos rfl, bXl, if_neg bI_n0, obs, if_pos rfl, h1, M_fewest hg.1.1 hg.le hg.he hj hv]
          exact two_ok (z := z) rfl rfl (hx.kp h2) hg
theorem g_two {x : XS} {g : MS} {z : GS} (hx : RX x z) (hg : RM g z) (a b : Int32) : (∃ i j, i < z.1.2.2.1 ∧ j < z.1.2.2.1 ∧ a = nI i ∧ b = nI j ∧ f_X0_mustBeTwo x a b = some (.inl x) ∧ f_X9_areTwo g a b = some 1) ∨ (f_X0_mustBeTwo x a b = some (.inr (-1, x)) ∧ f_X9_areTwo g a b = some 0) := by
  unfold f_X0_mustBeTwo f_X9_areTwo
  rw [L_heir hx.he, M_isHeir hg.he, M_isHeir hg.he, obs, obs]
  cases e : isH z.1.2.2.1 a
  · right
    rw [if_neg (by decide), bXr, if_pos bI_f]
    exact ⟨rfl, rfl⟩
  · obtain ⟨i, hi, rfl⟩ := isH_c hx.he.2.1 e
    rw [if_pos rfl, bXl, if_neg bI_n0, L_heir hx.he]
    cases e1 : isH z.1.2.2.1 b
    · right
      rw [if_neg (by decide), bXr, if_pos bI_f]
      exact ⟨rfl, rfl⟩
    · obtain ⟨j, hj, rfl⟩ := isH_c hx.he.2.1 e1
      rw [if_pos rfl, bXl, if_neg bI_n0]
      by_cases e2 : nI i = nI j
      · right
        rw [if_pos e2, obs, L_must_f, bXr]
        exact ⟨rfl, rfl⟩
      · left
        rw [if_neg e2, obs, L_must_t, bXl]
        exact ⟨i, j, hi, hj, rfl, rfl, rfl, rfl⟩
theorem op_two {x : XS} {g : MS} {z : GS} (hx : RX x z) (hg : RM g z) (a b : Int32) : two x g (f_X0_twoTold x a b) (f_X9_two g a b) := by
  unfold f_X0_twoTold f_X9_two
  rcases g_two hx hg a b with ⟨i, j, hi, hj, rfl, rfl, h1, h2⟩ | ⟨h1, h2⟩
  · obtain ⟨y, h3, h4⟩ := L_two hx.co hi hj
    rw [h1, h2, bXl, obs, if_neg (by decide), h3, M_two hg.1.1 hg.le hg.he hi hj]
    exact two_ok (z := z) rfl rfl (hx.kp h4) hg
  · rw [h1, h2, bXr, obs, if_pos rfl, no_id]
    exact two_no 1 (by omega) rfl rfl hx hg
