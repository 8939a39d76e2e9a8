/-! PLAIN LAWS 26: core, chance, mean, count; the face -/
theorem RX.let0 {x : XS} {z : GS} (h : RX x z) : RX (xS_letterMany x 0) (z.1, z.2.1, z.2.2.1, z.2.2.2.1, 0, z.2.2.2.2.2) := ⟨h.1, h.2.1, h.2.2.1, h.2.2.2.1, ⟨rfl, Nat.zero_le _⟩, h.2.2.2.2.2.1, fun k hk => absurd hk (Nat.not_lt_zero k), h.2.2.2.2.2.2.2⟩
theorem RM.let0 {g : MS} {z : GS} (h : RM g z) : RM (mS_letterMany g 0) (z.1, z.2.1, z.2.2.1, z.2.2.2.1, 0, z.2.2.2.2.2) := ⟨h.1, h.2.1, h.2.2.1, h.2.2.2.1, ⟨rfl, Nat.zero_le _⟩, h.2.2.2.2.2.1, fun k hk => absurd hk (Nat.not_lt_zero k), h.2.2.2.2.2.2.2⟩
theorem fault_le {x : Int32} {e : Nat} (hx : x.toInt ≤ -1000 ∧ -3000 ≤ x.toInt) (he : e ≤ 1000) : x - nI e ≤ -20 := by
  rw [Int32.le_iff_toInt_le]
  have h2 : (nI e).toInt = (e : Int) := nI_toInt (by omega)
  have h3 : (-20 : Int32).toInt = -20 := by decide
  rw [Int32.toInt_sub, h2, h3]
  have h4 : (x.toInt - (e : Int)).bmod (2 ^ 32) = x.toInt - (e : Int) := by
    apply Int.bmod_eq_of_le <;> omega
  rw [h4]
  omega
theorem act_fault {x y : XS} {w a b c f : Int32} (hf : f ≤ -20) (h : f_X0_doIt x w a b c = some (.inr (f, y))) : f_X0_act x w a b c = some (f, y) := by
  unfold f_X0_act
  rw [h, bHr]
  unfold f_X0_refuse
  rw [if_pos hf, obs]
theorem L55_fault {g : MS} {f : Int32} (hf : f ≠ -9) (n : Nat) : f_X9_core_L55 (n + 1) f g = some (f, g) := by rw [f_X9_core_L55, if_neg hf]
theorem op_core {x : XS} {g : MS} {z : GS} (hx : RX x z) (hg : RM g z) : agr (Option.bind (f_X0_act x 1 0 0 0) fun o1 => some (Sum.inl (o1.1, o1.2))) (f_X9_core g) := by
  have hl := hx.2.2.2.2.1.2
  have hH : hrS (xG_letters x) z.2.2.2.2.1 = hrS (mG_letters g) z.2.2.2.2.1 := by
    funext p
    unfold hrS
    by_cases e : p < z.2.2.2.2.1
    · rw [if_pos e, if_pos e]
      exact (hx.2.2.2.2.2.2.1 p e).trans (hg.2.2.2.2.2.2.1 p e).symm
    · rw [if_neg e, if_neg e]
  -- the class reads
  have hL : ∀ o, phS (hrS (xG_letters x) z.2.2.2.2.1) z.2.2.2.2.1 100 0 = o → match o with
      | .inl l => ∃ rd, f_X0_readCore_L22 (xS_letterMany x 0) 1000 0 (xG_letterMany x, 0) [] = some (.inl (nI l.length, rd, l))
      | .inr e => f_X0_readCore_L22 (xS_letterMany x 0) 1000 0 (xG_letterMany x, 0) [] = some (.inr (-1000 - nI e)) := by
    intro o ho
    have h := L_phase1 (g := xS_letterMany x 0) hl 100 1000 0 0 [] (by omega) (by omega) (by omega) (by omega)
    rw [hx.2.2.2.2.1.1]
    rcases h with h | ⟨l', q, h1, h2⟩
    · have h' : f_X0_readCore_L22 (xS_letterMany x 0) 1000 0 (nI z.2.2.2.2.1, 0) [] = (match phS (hrS (xG_letters x) z.2.2.2.2.1) z.2.2.2.2.1 100 0 with
        | .inl l' => some (.inl (nI (0 + l'.length), (nI z.2.2.2.2.1, nI z.2.2.2.2.1), [] ++ l'))
        | .inr e => some (.inr (-1000 - nI e))) := h
      rw [ho] at h'
      cases o with
      | inl l =>
        refine ⟨(nI z.2.2.2.2.1, nI z.2.2.2.2.1), ?_⟩
        rw [h']
        dsimp only
        rw [Nat.zero_add]
        rfl
      | inr e => exact h'
    · have h1' : phS (hrS (xG_letters x) z.2.2.2.2.1) z.2.2.2.2.1 100 0 = .inl l' := h1
      rw [ho] at h1'
      subst h1'
      have h2' : f_X0_readCore_L22 (xS_letterMany x 0) 1000 0 (nI z.2.2.2.2.1, 0) [] = some (.inl (nI (0 + l'.length), (nI z.2.2.2.2.1, nI q), [] ++ l')) := h2
      refine ⟨(nI z.2.2.2.2.1, nI q), ?_⟩
      rw [h2', Nat.zero_add]
      rfl
  -- the reference reads
  obtain ⟨nums', q, hM⟩ := M_phase1 (g := g) hg.2.2.2.2.1.1 hl 100 1000 0 0 (mG_numbers g) (by omega) (by omega) (by omega)
  rw [← hH] at hM
  obtain ⟨h, b1, b2, b3, b4⟩ := M_lays (hg.1.st nums' q)
  have b4' : kB g h := (kB.st g nums' q).tr b4
  have e0 : mS_place g (0 : Int32) = stM g (mG_numbers g) 0 := rfl
  have hx0 := hx.let0
  cases ho : phS (hrS (xG_letters x) z.2.2.2.2.1) z.2.2.2.2.1 100 0 with
  | inr e =>
    have he := phS_e hl 100 0 e (by omega) ho
    have hLe := hL _ ho
    rw [ho] at hM
    dsimp only at hM hLe
    obtain ⟨n', hM⟩ := hM
    have hf9 : (-1000 : Int32) - nI e ≠ -9 := fault_ne (by decide) (by omega)
    have hd : f_X0_doIt x 1 0 0 0 = some (.inr (-1000 - nI e, xS_letterMany x 0)) := by
      rw [do_1]
      unfold f_X0_readCore
      rw [obs, hLe, bXr]
    rw [act_fault (fault_le (by decide) (by omega)) hd, obs]
    refine ⟨-1000 - nI e, _, mS_letterMany (mS_place h 0) 0, _, rfl, ?_, hx0, (hg.core (a := z.1) (b2.pl 0) (b4'.tr (kB.pl h 0))).let0⟩
    unfold f_X9_core
    rw [obs, e0, show (0 : Int32) = nI 0 from rfl, hM, obs]
    dsimp only
    rw [b1, obs, obs, show (1000 : Nat) = 999 + 1 from rfl, L55_fault hf9 999, obs]
    dsimp only
    rw [obs, if_neg hf9]
  | inl l =>
    have hLl := hL _ ho
    rw [ho] at hM
    dsimp only at hM hLl
    obtain ⟨rd, hLl⟩ := hLl
    rw [Nat.zero_add] at hM
    have hset : f_X8_set (xG_mind (xS_letterMany x 0)) (xG_core0 (xS_letterMany x 0)) = some (setV (xG_mind x) (xG_core0 x)) := rfl
    have hm2 : mG_letterMany (mS_place h 0) = nI z.2.2.2.2.1 := (b4'.2.2.2.2.1).trans hg.2.2.2.2.1.1
    have hl2 : mG_letters (mS_place h 0) = mG_letters g := b4'.2.2.2.2.2.2.2.2.1
    rw [hH] at ho
    rcases phase2 (a0 := z.1) hl (L := mG_letters g) 100 1000 0 l (setV (xG_mind x) (xG_core0 x)) (mS_place h 0) z.1 (by omega) (by omega) ho hx.1.setV (b2.pl 0) b3 rfl hm2 hl2 hg.1.ok with ⟨cv', g', a', c1, c2, c3, c4, c5⟩ | ⟨e, cv', g', he, c1, c2, c3, c4⟩
    · have hd : f_X0_doIt x 1 0 0 0 = some (.inl (nI l.length, xS_core0 (xS_mind (xS_letterMany x 0) cv') (setV (xG_core0 x) cv'))) := by
        rw [do_1]
        unfold f_X0_readCore
        rw [obs, hLl, bXl]
        dsimp only
        rw [hset, obs, c1, bXl, obs]
        rfl
      rw [act_ok hd, obs]
      have hr := hx0.kp (kp.mind (xS_letterMany x 0) cv')
      refine ⟨nI l.length, _, mS_letterMany g' 0, _, rfl, ?_, hr.core c3.setV, (hg.core c4 ((b4'.tr (kB.pl h 0)).tr c5)).let0⟩
      unfold f_X9_core
      rw [obs, e0, show (0 : Int32) = nI 0 from rfl, hM, obs]
      dsimp only
      rw [b1, obs, obs]
      have c2' : f_X9_core_L55 1000 (-9) (mS_place h (nI 0)) = some (-9, g') := c2
      rw [c2', obs]
      dsimp only
      rw [obs, if_pos rfl]
    · have hf9 : (-2000 : Int32) - nI e ≠ -9 := fault_ne (by decide) he
      have hd : f_X0_doIt x 1 0 0 0 = some (.inr (-2000 - nI e, xS_mind (xS_letterMany x 0) cv')) := by
        rw [do_1]
        unfold f_X0_readCore
        rw [obs, hLl, bXl]
        dsimp only
        rw [hset, obs, c1, bXr]
      rw [act_fault (fault_le (by decide) he) hd, obs]
      refine ⟨-2000 - nI e, _, mS_letterMany g' 0, _, rfl, ?_, hx0.kp (kp.mind _ _), (hg.core c3 ((b4'.tr (kB.pl h 0)).tr c4)).let0⟩
      unfold f_X9_core
      rw [obs, e0, show (0 : Int32) = nI 0 from rfl, hM, obs]
      dsimp only
      rw [b1, obs, obs]
      have c2' : f_X9_core_L55 1000 (-9) (mS_place h (nI 0)) = some (-2000 - nI e, g') := c2
      rw [c2', obs]
      dsimp only
      rw [obs, if_neg hf9]
/-- far answers -/
theorem far_e {x : XS} {g : MS} {z : GS} (hx : RX x z) (hg : RM g z) {q : Nat} (hq : q < 7) : ∃ v y h, f_X0_far x (-(nI q)) = some (v, y) ∧ f_X9_noWide g (-(nI q)) = some (v, h) ∧ RX y (rfS z q) ∧ RM h (rfS z q) := by
  obtain ⟨y, a1, a2⟩ := L_refuse hx hq
  obtain ⟨h, b1, b2⟩ := M_no hg hq
  unfold f_X0_far f_X9_noWide
  rw [a1, b1]
  exact ⟨_, y, h, rfl, rfl, a2, b2⟩
def agrC (cx : Option (Int64 × XS)) (cm : Option (Int64 × MS)) : Prop := ∃ v x g z, cx = some (v, x) ∧ cm = some (v, g) ∧ RX x z ∧ RM g z
theorem far_c {x : XS} {g : MS} {z : GS} (hx : RX x z) (hg : RM g z) {q : Nat} (hq : q < 7) : agrC (Option.bind (f_X0_far x (-(nI q))) fun o2 => some (o2.1, o2.2)) (Option.bind (f_X9_noWide g (-(nI q))) fun o => some (o.1, o.2)) := by
  obtain ⟨v, y, h, a1, a2, a3, a4⟩ := far_e hx hg hq
  rw [a1, a2]
  exact ⟨v, y, h, _, rfl, rfl, a3, a4⟩
theorem op_chance {x : XS} {g : MS} {z : GS} (hx : RX x z) (hg : RM g z) (a b c d : Int32) : agrC (f_X0_chanceTold x a b c d) (f_X9_chance g a b c d) := by
  have f1 := far_c hx hg (q := 1) (by omega)
  have f2 := far_c hx hg (q := 2) (by omega)
  have f4 := far_c hx hg (q := 4) (by omega)
  have f6 := far_c hx hg (q := 6) (by omega)
  unfold f_X0_chanceTold f_X9_chance
  rw [L_heir hx.he, M_isHeir hg.he, obs]
  cases e : isH z.1.2.2.1 a
  · rw [if_neg (by decide), bHr, if_pos bI_f]
    exact f1
  · obtain ⟨j, hj, rfl⟩ := isH_c hx.he.2.1 e
    rw [if_pos rfl, bHl, if_neg bI_n0]
    by_cases e1 : b < 0
    · rw [if_pos e1, obs, L_must_f, bHr, if_pos e1]
      exact f4
    · rw [if_neg e1, if_neg e1]
      by_cases e2 : c < 0
      · rw [if_pos e2, obs, L_must_f, bHr, if_neg (Int32.not_le.2 e2)]
        exact f4
      · rw [if_neg e2, obs, L_must_t, bHl, if_pos (Int32.not_lt.1 e2)]
        by_cases e3 : 2 < b
        · rw [if_pos e3, obs, L_must_f, bHr, if_pos e3]
          exact f6
        · rw [if_neg e3, if_neg e3]
          by_cases e4 : 40 < c
          · rw [if_pos e4, obs, L_must_f, bHr, if_neg (Int32.not_le.2 e4)]
            exact f6
          · rw [if_neg e4, obs, L_must_t, bHl, if_pos (Int32.not_lt.1 e4), L_bit, isI, obs]
            obtain ⟨n, hn, rfl⟩ := win_c (n := 2) (by omega) rfl e1 e3
            obtain ⟨v, hv, rfl⟩ := win_c (n := 40) (by omega) rfl e2 e4
            cases e5 : decide (0 ≤ d ∧ d ≤ 1)
            · rw [if_neg (by decide), bHr, if_pos bI_f]
              exact f2
            · obtain ⟨y, h1, h2⟩ := L_chance (part := d) hx.co hj hv hn
              rw [if_pos rfl, bHl, if_neg bI_n0, h1, M_chance hg.1.1 hg.le hg.he hj hv hn]
              exact ⟨_, y, g, z, rfl, rfl, hx.kp h2, hg⟩
theorem op_mean {x : XS} {g : MS} {z : GS} (hx : RX x z) (hg : RM g z) (a : Int32) : agrC (f_X0_meanTold x a) (f_X9_mean g a) := by
  have f2 := far_c hx hg (q := 2) (by omega)
  unfold f_X0_meanTold f_X9_mean
  rw [L_bit, isI, obs]
  cases e5 : decide (0 ≤ a ∧ a ≤ 1)
  · rw [if_neg (by decide), bHr, if_pos bI_f]
    exact f2
  · rw [if_pos rfl, bHl, if_neg bI_n0, M_mean hg.1.1 hg.le hg.he, L_mean hx.co]
    exact ⟨_, x, g, z, rfl, rfl, hx, hg⟩
theorem op_count {x : XS} {g : MS} {z : GS} (hx : RX x z) (hg : RM g z) (a : Int32) : ∃ v, f_X0_count x a = some v ∧ f_X9_count g a = some v := by
  have hs := hx.1.1
  have hd := deed_ne hs
  unfold f_X0_count f_X9_count
  rw [isI, obs, inI a 11 16 (A := 11) (B := 16) rfl rfl, hx.he.1, hg.he.1, hx.1.2.2.2.1, hg.1.2.2.2.1, hx.le, hg.le, L_manyIn hs, M_bits hs, L_allShares hs hx.1.2.1 hx.he, M_sharesOf hs hg.he, L_chan hs hx.1.2.1, M_deed hs, hx.2.2.2.1.1, hg.2.2.2.1.1, hx.2.2.2.2.1.1, hg.2.2.2.2.1.1]
  simp only [obs]
  simp only [hd]
  cases e : decide (11 ≤ a ∧ a ≤ 16)
  · rw [if_pos bI_f, if_pos bI_f]
    by_cases a0 : a = 0
    · rw [if_pos a0, if_pos a0]; exact ⟨_, rfl, rfl⟩
    · rw [if_neg a0, if_neg a0]
      by_cases a1 : a = 1
      · rw [if_pos a1, if_pos a1]; exact ⟨_, rfl, rfl⟩
      · rw [if_neg a1, if_neg a1]
        by_cases a2 : a = 2
        · rw [if_pos a2, if_pos a2]; exact ⟨_, rfl, rfl⟩
        · rw [if_neg a2, if_neg a2]
          by_cases a3 : a = 3
          · rw [if_pos a3, if_pos a3]; exact ⟨_, rfl, rfl⟩
          · rw [if_neg a3, if_neg a3]
            by_cases a4 : a = 4
            · rw [if_pos a4, if_pos a4]; exact ⟨_, rfl, rfl⟩
            · rw [if_neg a4, if_neg a4]
              by_cases a5 : a = 5
              · rw [if_pos a5, if_pos a5]
                by_cases h0 : deedS z.1.1 = 0
                · rw [decide_eq_true h0, if_neg bI_n0, if_pos h0]; exact ⟨_, rfl, rfl⟩
                · rw [decide_eq_false h0, if_pos bI_f, if_neg h0]; exact ⟨_, rfl, rfl⟩
              · rw [if_neg a5, if_neg a5]
                by_cases a6 : a = 6
                · rw [if_pos a6]; exact ⟨_, rfl, rfl⟩
                · rw [if_neg a6]
                  by_cases a7 : a = 7
                  · rw [if_pos a7]; exact ⟨_, rfl, rfl⟩
                  · rw [if_neg a7]; exact ⟨_, rfl, rfl⟩
  · obtain ⟨h1, h2⟩ := of_decide_eq_true e
    have h0 : ¬ a < 0 := fun h => Int32.lt_irrefl (Int32.lt_of_lt_of_le (Int32.lt_trans h (by decide)) h1)
    obtain ⟨j, hj, rfl⟩ := nI_of h0
    have j1 : 11 ≤ j := (nI_leI (a := 11) (by omega) hj).1 h1
    have j2 : j ≤ 16 := (nI_leI (b := 16) hj (by omega)).1 h2
    have ne : ∀ k, k < 11 → ¬ nI j = nI k := fun k hk h => by
      have := (nI_eq hj (by omega)).1 h
      omega
    have e10 : nI j - 10 = nI (j - 10) := pk_sub (b := 10) (by omega)
    have hin : ¬ (nI (j - 10) < 0 ∨ 7 ≤ Int32.toNatClampNeg (nI (j - 10))) := nIn (by omega) (by omega)
    have hcl : Int32.toNatClampNeg (nI (j - 10)) = j - 10 := nI_clamp (by omega)
    have n0 : ¬ nI j = 0 := ne 0 (by omega)
    have n1 : ¬ nI j = 1 := ne 1 (by omega)
    have n2 : ¬ nI j = 2 := ne 2 (by omega)
    have n3 : ¬ nI j = 3 := ne 3 (by omega)
    have n4 : ¬ nI j = 4 := ne 4 (by omega)
    have n5 : ¬ nI j = 5 := ne 5 (by omega)
    have n6 : ¬ nI j = 6 := ne 6 (by omega)
    have n7 : ¬ nI j = 7 := ne 7 (by omega)
    rw [if_neg n0, if_neg n1, if_neg n2, if_neg n3, if_neg n4, if_neg n5, if_neg n6, if_neg n7, if_neg bI_n0, if_neg bI_n0, e10, if_neg hin, if_neg hin, hcl, hx.2.2.2.2.2.2.2 (j - 10) (by omega), hg.2.2.2.2.2.2.2 (j - 10) (by omega)]
    exact ⟨_, rfl, rfl⟩
