/-! PLAIN LAWS 10: settles in the class; join; bridge; middle -/
theorem n625 {k : Nat} (h : k < 625) : ¬ (625 : Int32) ≤ nI k := nI_ge h (by decide)
theorem L_settles {x : XS} {s m : Nat} {K F : Nat → Nat} {what : Int32} (hx : coR x s m K F) : ∃ y, f_X0_settledBy x what = some (settS s what, y) ∧ kp x y := by
  have hs := hx.1
  unfold f_X0_settledBy settS
  rw [L_chan hs hx.2.1]
  simp only [obs]
  by_cases h0 : deedS s = 0
  · rw [decide_eq_true h0, if_neg bI_n0, if_neg (fun z => z h0), L_openMind]
    simp only [obs]
    obtain ⟨y1, e1⟩ : ∃ y1, y1 = xS_mind x (setV (xG_mind x) (xG_core0 x)) := ⟨_, rfl⟩
    have k1 : kp x y1 := by rw [e1]; exact kp.mind _ _
    rw [← e1]
    have step : ∀ n a y, a < 25 → kp x y → (s.testBit a = true → f_X0_settledBy_L28 what (n + 1) (nI a) y = if set1P s a then some (.inl ((if what = 0 then 1 else nI a), xS_mind y (cvL (xG_mind y) (bdif s a)))) else f_X0_settledBy_L28 what n (nI (a + 1)) (xS_mind y (cvL (xG_mind y) (bdif s a)))) ∧ (s.testBit a = false → f_X0_settledBy_L28 what (n + 1) (nI a) y = f_X0_settledBy_L28 what n (nI (a + 1)) y) := by
      intro n a y ha hy
      have hc := (hx.kp hy).2.1
      have hT := bdif_T (a := a) hs
      refine ⟨fun hb => ?_, fun hb => ?_⟩
      · rw [f_X0_settledBy_L28, if_neg (n25 ha), hc.1, L_has (by omega) (by omega), hb]
        simp only [obs]
        rw [if_neg bI_n0, pz_shl1 a (by omega), pz_dif]
        show (Option.bind (f_X8_leave (xG_mind y) (nI (bdif s a))) fun o9 => Option.bind (f_X8_isInChancery (xG_mind (xS_mind y o9))) fun o11 => if o11 = 0 then if what = 0 then some (Sum.inl ((1 : Int32), xS_mind y o9)) else some (Sum.inl (nI a, xS_mind y o9)) else f_X0_settledBy_L28 what n (nI a + 1) (xS_mind y o9)) = _
        rw [L_leave _ hT, nI_1]
        simp only [obs]
        rw [L_chan hT (by rw [xgm]; exact cvL_R _ _)]
        simp only [obs]
        unfold set1P
        rw [hb]
        by_cases e : deedS (bdif s a) = 0
        · rw [decide_eq_true e, decide_eq_false (fun z => z e), if_neg bI_n0]; rfl
        · rw [decide_eq_false e, decide_eq_true e, if_pos bI_f]
          by_cases hw : what = 0
          · simp only [if_pos hw]; rfl
          · simp only [if_neg hw]; rfl
      · rw [f_X0_settledBy_L28, if_neg (n25 ha), hc.1, L_has (by omega) (by omega), hb]
        simp only [obs]
        rw [if_pos bI_f, nI_1]
    have l1 := loopF (fun n i (y : XS) => f_X0_settledBy_L28 what n i y) 25 (set1P s) (fun y => kp x y) (fun o r => ∃ y, kp x y ∧ r = match o with | some a => .inl ((if what = 0 then 1 else nI a), y) | none => .inr y) (fun n y hy => by
      refine ⟨.inr y, ?_, y, hy, rfl⟩
      rw [f_X0_settledBy_L28, if_pos (by decide)]) (fun n a y ha hy hp => by
      have hb : s.testBit a = true := by unfold set1P at hp; rw [Bool.and_eq_true] at hp; exact hp.1
      exact ⟨_, by rw [(step n a y ha hy).1 hb, hp]; rfl, _, hy.tr (kp.mind _ _), rfl⟩) (fun n a y ha hy hp => by
      cases hb : s.testBit a
      · exact ⟨y, hy, by rw [(step n a y ha hy).2 hb]⟩
      · exact ⟨_, hy.tr (kp.mind _ _), by rw [(step n a y ha hy).1 hb, hp]; rfl⟩) 1000 y1 k1 (by omega)
    obtain ⟨r1, h1, y2, h2, h3⟩ := l1
    rw [h1, h3]
    cases fstN (set1P s) 25 with
    | some a => exact ⟨y2, rfl, h2⟩
    | none =>
      have step2 : ∀ n k y, k < 625 → kp x y → (set2P s k = true → ∃ z, kp x z ∧ f_X0_settledBy_L89 what (n + 1) (nI k) y = some (.inl ((if what = 0 then 2 else nI (k / 25)), z))) ∧ (set2P s k = false → ∃ z, kp x z ∧ f_X0_settledBy_L89 what (n + 1) (nI k) y = f_X0_settledBy_L89 what n (nI (k + 1)) z) := by
        intro n k y hk hy
        have hc := (hx.kp hy).2.1
        have hT := bdif_T (a := k % 25) (bdif_T (a := k / 25) hs)
        have hcan : (if nI (k % 25) ≤ nI (k / 25) then some (0 : Int32) else Option.bind (f_X0_has (cG_left (xG_core0 y)) (nI (k / 25))) fun o21 => if o21 = 0 then some 0 else Option.bind (f_X0_has (cG_left (xG_core0 y)) (nI (k % 25))) fun o23 => if o23 = 0 then some 0 else some 1) = some (bI (decide (k / 25 < k % 25) && (s.testBit (k / 25) && s.testBit (k % 25)))) := by
          rw [hc.1, L_has (by omega) (by omega), L_has (by omega) (by omega)]
          simp only [obs]
          by_cases e : k / 25 < k % 25
          · rw [if_neg (nI_ge e (by omega)), decide_eq_true e]
            cases s.testBit (k / 25) <;> cases s.testBit (k % 25) <;> rfl
          · rw [if_pos (nI_le (by omega) (by omega)), decide_eq_false e]
            rfl
        rw [f_X0_settledBy_L89, if_neg (n625 hk)]
        simp only [obs]
        rw [rem25 (a := k) (by omega), div25 (a := k) (by omega), hcan]
        simp only [obs]
        rw [nI_1]
        unfold set2P
        cases e : (decide (k / 25 < k % 25) && (s.testBit (k / 25) && s.testBit (k % 25)))
        · rw [if_pos bI_f]
          refine ⟨fun h => ?_, fun _ => ⟨y, hy, rfl⟩⟩
          revert e h
          cases decide (k / 25 < k % 25) <;> cases s.testBit (k / 25) <;> cases s.testBit (k % 25) <;> simp
        · rw [if_neg bI_n0, pz_shl1 _ (by omega), pz_shl1 _ (by omega), pz_or, hc.1, pz_dif, bdif2, L_leave _ hT]
          simp only [obs]
          rw [L_chan hT (by rw [xgm]; exact cvL_R _ _)]
          simp only [obs]
          rw [Bool.and_eq_true, Bool.and_eq_true] at e
          rw [e.1, e.2.1, e.2.2]
          by_cases e2 : deedS (bdif (bdif s (k / 25)) (k % 25)) = 0
          · rw [decide_eq_true e2, decide_eq_false (fun z => z e2), if_neg bI_n0]
            exact ⟨fun h => (by cases h), fun _ => ⟨_, hy.tr (kp.mind _ _), rfl⟩⟩
          · rw [decide_eq_false e2, decide_eq_true e2, if_pos bI_f]
            refine ⟨fun _ => ⟨xS_mind y (cvL (xG_mind y) (bdif (bdif s (k / 25)) (k % 25))), hy.tr (kp.mind _ _), ?_⟩, fun h => by cases h⟩
            by_cases hw : what = 0
            · simp only [if_pos hw]
            · simp only [if_neg hw]
      have l2 := loopF (fun n i (y : XS) => f_X0_settledBy_L89 what n i y) 625 (set2P s) (fun y => kp x y) (fun o r => ∃ y, kp x y ∧ r = match o with | some k => .inl ((if what = 0 then 2 else nI (k / 25)), y) | none => .inr y) (fun n y hy => by
        refine ⟨.inr y, ?_, y, hy, rfl⟩
        rw [f_X0_settledBy_L89, if_pos (by decide)]) (fun n k y hk hy hp => by
        obtain ⟨z, hz1, hz2⟩ := (step2 n k y hk hy).1 hp
        exact ⟨_, hz2, z, hz1, rfl⟩) (fun n k y hk hy hp => by
        obtain ⟨z, hz1, hz2⟩ := (step2 n k y hk hy).2 hp
        exact ⟨z, hz1, hz2⟩) 1000 y2 h2 (by omega)
      obtain ⟨r2, h4, y3, h5, h6⟩ := l2
      show ∃ y, bsR (f_X0_settledBy_L89 what 1000 0 y2) (fun t15 => some (-9, t15)) = _ ∧ _
      rw [h4, h6]
      refine ⟨y3, ?_, h5⟩
      cases fstN (set2P s) 625 <;> rfl
  · rw [decide_eq_false h0, if_pos bI_f, if_pos h0]
    refine ⟨x, ?_, kp.rf x⟩
    by_cases hw : what = 0
    · simp only [if_pos hw]
    · simp only [if_neg hw]
/-- a set of some -/
def setU (P : Nat → Bool) : Nat → Nat
  | 0 => 0
  | k + 1 => setU P k ||| (if P k then 2 ^ k else 0)
theorem setU_bit (P : Nat → Bool) (j : Nat) : ∀ k, (setU P k).testBit j = (decide (j < k) && P j)
  | 0 => by unfold setU; rw [Nat.zero_testBit]; simp
  | k + 1 => by
    unfold setU
    rw [Nat.testBit_or, setU_bit P j k]
    by_cases e : j = k
    · subst e
      cases h : P j
      · simp
      · simp [Nat.testBit_two_pow]
    · have h1 : (if P k = true then 2 ^ k else 0).testBit j = false := by
        split
        · rw [Nat.testBit_two_pow]; exact decide_eq_false (fun z => e z.symm)
        · exact Nat.zero_testBit j
      rw [h1, Bool.or_false]
      congr 1
      exact decide_eq_decide.2 (by omega)
theorem setU_T (P : Nat → Bool) {k : Nat} (hk : k ≤ 25) : setU P k < 33554432 := lt_T fun j hj => by rw [setU_bit, decide_eq_false (by omega)]; rfl
theorem setU_pc (P : Nat → Bool) : pc (setU P 25) = cntU P 25 := by
  have key : ∀ k, k ≤ 25 → pcU (setU P 25) k = cntU P k := by
    intro k
    induction k with
    | zero => intro _; rfl
    | succ k ih =>
      intro hk
      rw [pcU, cntU, ih (by omega), setU_bit, decide_eq_true (show k < 25 by omega), Bool.true_and]
  exact key 25 (by omega)
theorem setU_low (P : Nat → Bool) : firstS (setU P 25) = fstN P 25 := by
  rw [← firstS_f (setU_T P (Nat.le_refl 25))]
  have hb : ∀ j, j < 25 → (setU P 25).testBit j = P j := fun j hj => by rw [setU_bit, decide_eq_true hj, Bool.true_and]
  have sp := fst_spec P 25
  cases e : fstN P 25 with
  | none => exact fst_none (fun j hj => by rw [hb j hj]; exact sp.2 e j hj)
  | some k =>
    obtain ⟨a, b, c⟩ := sp.1 k e
    exact fst_some a (by rw [hb k a]; exact b) (fun j hj => by rw [hb j (by omega)]; exact c j hj)
def brP (s c : Nat) : Bool := s.testBit c && decide (cntS s < cntS (bdif s c))
theorem L_bridgeBits {x : XS} {s m : Nat} {K F : Nat → Nat} (hx : coR x s m K F) : ∃ y, f_X0_bridgeBits x = some (nI (setU (brP s) 25), y) ∧ kp x y := by
  have hs := hx.1
  unfold f_X0_bridgeBits
  rw [L_openMind]
  simp only [obs]
  obtain ⟨y1, e1⟩ : ∃ y1, y1 = xS_mind x (setV (xG_mind x) (xG_core0 x)) := ⟨_, rfl⟩
  have k1 : kp x y1 := by rw [e1]; exact kp.mind _ _
  rw [← e1]
  have h := loopI (fun n i (q : Int32 × XS) => f_X0_bridgeBits_L9 n i q.1 q.2) 25 (fun k q => q.1 = nI (setU (brP s) k) ∧ kp x q.2) (fun r => r.1 = nI (setU (brP s) 25) ∧ kp x r.2) (by
    rintro n k ⟨q1, y⟩ hk ⟨i1, i2⟩
    (try dsimp only at i1 i2 ⊢)
    subst i1
    rcases Nat.lt_or_ge k 25 with hlt | hge
    · right
      refine ⟨hlt, ?_⟩
      have hc := (hx.kp i2).2.1
      have hT := bdif_T (a := k) hs
      have l1 := cntS_le s
      have l2 := cntS_le (bdif s k)
      have fin : ∀ (b : Bool) (z : XS), brP s k = b → (Option.bind (some (bI b, z)) fun o6 => if o6.1 = 0 then f_X0_bridgeBits_L9 n (nI (k + 1)) (nI (setU (brP s) k) ||| 0) o6.2 else f_X0_bridgeBits_L9 n (nI (k + 1)) (nI (setU (brP s) k) ||| nI (2 ^ k)) o6.2) = f_X0_bridgeBits_L9 n (nI (k + 1)) (nI (setU (brP s) (k + 1))) z := by
        intro b z hb
        simp only [obs]
        rw [setU, hb]
        have hz0 : nI (setU (brP s) k) ||| 0 = nI (setU (brP s) k ||| 0) := pz_or _ 0
        cases b
        · rw [if_pos bI_f, hz0]; rfl
        · rw [if_neg bI_n0, pz_or]; rfl
      rw [f_X0_bridgeBits_L9, if_neg (n25 hlt), hc.1, L_has (by omega) (by omega)]
      simp only [obs]
      rw [nI_1, pz_shl1 k (by omega), pz_dif]
      cases e : s.testBit k
      · rw [if_pos bI_f]
        exact ⟨(_, y), ⟨rfl, i2⟩, fin false y (by unfold brP; rw [e]; rfl)⟩
      · rw [if_neg bI_n0]
        show ∃ s', _ ∧ (Option.bind (Option.bind (f_X8_leave (xG_mind y) (nI (bdif s k))) fun o7 => if cG_pieceMany (xG_mind (xS_mind y o7)) ≤ cG_pieceMany (xG_core0 (xS_mind y o7)) then some ((0 : Int32), xS_mind y o7) else some (1, xS_mind y o7)) fun o6 => _) = _
        rw [L_leave _ hT]
        simp only [obs]
        rw [xgm, xgc, hc.2.2.1, (cvL_R (xG_mind y) (bdif s k)).2.2.1]
        refine ⟨(_, xS_mind y (cvL (xG_mind y) (bdif s k))), ⟨rfl, i2.tr (kp.mind _ _)⟩, ?_⟩
        by_cases e2 : cntS s < cntS (bdif s k)
        · rw [if_neg (nI_ge e2 (by omega))]
          exact fin true _ (by unfold brP; rw [e, decide_eq_true e2]; rfl)
        · rw [if_pos (nI_le (by omega) (by omega))]
          exact fin false _ (by unfold brP; rw [e, decide_eq_false e2]; rfl)
    · left
      have e : k = 25 := by omega
      subst e
      refine ⟨(nI (setU (brP s) 25), y), ?_, rfl, i2⟩
      rw [f_X0_bridgeBits_L9, if_pos (by decide)]) 1000 0 (0, y1) (by omega) ⟨rfl, k1⟩ (by omega)
  obtain ⟨r, h1, h2, h3⟩ := h
  rw [nI_0] at h1
  rw [h1]
  simp only [obs]
  rw [h2]
  exact ⟨_, rfl, h3⟩
/-- steps from a cell to another, and to all -/
def dst (k c : Nat) : Nat := ((k / 5 - c / 5) + (c / 5 - k / 5)) + ((k % 5 - c % 5) + (c % 5 - k % 5))
theorem dst_le : ∀ k, k < 25 → ∀ c, c < 25 → dst k c ≤ 8 := by decide
theorem dst_L : ∀ k, k < 25 → ∀ c, c < 25 → ((if 0 ≤ ((nI k / 5) - (nI c / 5)) then ((nI k / 5) - (nI c / 5)) else 0 - ((nI k / 5) - (nI c / 5))) + (if 0 ≤ ((nI k - nI k / 5 * 5) - (nI c - nI c / 5 * 5)) then ((nI k - nI k / 5 * 5) - (nI c - nI c / 5 * 5)) else 0 - ((nI k - nI k / 5 * 5) - (nI c - nI c / 5 * 5)))) = nI (dst k c) := by decide +kernel
theorem dst_M : ∀ k, k < 25 → ∀ c, c < 25 → (Option.bind (f_X9_most ((nI k / 5) - (nI c / 5)) (-((nI k / 5) - (nI c / 5)))) fun o9 => Option.bind (f_X9_most ((nI k - nI k / 5 * 5) - (nI c - nI c / 5 * 5)) (-((nI k - nI k / 5 * 5) - (nI c - nI c / 5 * 5)))) fun o10 => some (o9 + o10)) = some (nI (dst k c)) := by decide +kernel
def stU (s c : Nat) : Nat → Nat
  | 0 => 0
  | k + 1 => stU s c k + (if s.testBit k then dst k c else 0)
theorem stU_le {s c : Nat} (hc : c < 25) : ∀ k, k ≤ 25 → stU s c k ≤ 8 * k
  | 0, _ => Nat.le_refl _
  | k + 1, hk => by
    have h1 := stU_le (s := s) hc k (by omega)
    have h2 := dst_le k (by omega) c hc
    unfold stU
    split <;> omega
def stS (s c : Nat) : Nat := stU s c 25
theorem L_stepsFrom {x : XS} {s c : Nat} (hs : s < 33554432) (hl : cG_left (xG_core0 x) = nI s) (hc : c < 25) : f_X0_stepsFrom x (nI c) = some (nI (stS s c)) := by
  have h := loopU (fun n i (a : Int32) => f_X0_stepsFrom_L4 x (nI c) n i a) 25 (fun k => nI (stU s c k)) (nI (stS s c)) (fun n => by
    (try dsimp only)
    rw [f_X0_stepsFrom_L4, if_pos (by decide)]
    rfl) (fun n k hk => by
    (try dsimp only)
    rw [f_X0_stepsFrom_L4, if_neg (n25 hk), hl, L_has (by omega) (by omega)]
    simp only [obs]
    rw [dst_L k hk c hc, nI_1, stU, Int32.add_zero, nI_add]
    cases s.testBit k
    · rw [if_pos bI_f]; rfl
    · rw [if_neg bI_n0]; rfl) 1000 0 (by omega) (by omega)
  rw [nI_0] at h
  unfold f_X0_stepsFrom
  have h2 : f_X0_stepsFrom_L4 x (nI c) 1000 0 0 = some (nI (stS s c)) := h
  rw [h2]
  rfl
theorem M_stepsFrom {g : MS} {s c : Nat} (hs : s < 33554432) (hl : mG_left g = nI s) (hc : c < 25) : f_X9_stepsFrom g (nI c) = some (nI (stS s c)) := by
  have h := loopU (fun n i (a : Int32) => f_X9_stepsFrom_L4 g (nI c) n i a) 25 (fun k => nI (stU s c k)) (nI (stS s c)) (fun n => by
    (try dsimp only)
    rw [f_X9_stepsFrom_L4, if_pos (by decide)]
    rfl) (fun n k hk => by
    (try dsimp only)
    have hd := dst_M k hk c hc
    rw [f_X9_stepsFrom_L4, if_neg (n25 hk), hl, M_has (by omega) (by omega)]
    simp only [obs]
    rw [nI_1, stU, Int32.add_zero]
    cases s.testBit k
    · rw [if_pos bI_f]; rfl
    · rw [if_neg bI_n0, if_pos rfl]
      cases e1 : f_X9_most ((nI k / 5) - (nI c / 5)) (-((nI k / 5) - (nI c / 5))) with
      | none => rw [e1] at hd; cases hd
      | some v =>
        rw [e1] at hd
        simp only [obs] at hd ⊢
        cases e2 : f_X9_most ((nI k - nI k / 5 * 5) - (nI c - nI c / 5 * 5)) (-((nI k - nI k / 5 * 5) - (nI c - nI c / 5 * 5))) with
        | none => rw [e2] at hd; cases hd
        | some w =>
          rw [e2] at hd
          simp only [obs] at hd ⊢
          rw [Option.some.inj hd, nI_add]) 1000 0 (by omega) (by omega)
  rw [nI_0] at h
  unfold f_X9_stepsFrom
  have h2 : f_X9_stepsFrom_L4 g (nI c) 1000 0 0 = some (nI (stS s c)) := h
  rw [h2]
  rfl
/-- the first of those from which it is least far -/
def FM (s lo hi : Nat) (o : Option Nat) : Prop := match o with
  | none => ∀ j, lo ≤ j → j < hi → s.testBit j = false
  | some m => lo ≤ m ∧ m < hi ∧ s.testBit m = true ∧ ∀ j, lo ≤ j → j < hi → s.testBit j = true → stS s m ≤ stS s j ∧ (j < m → stS s m < stS s j)
theorem FM_uniq {s lo hi : Nat} {o p : Option Nat} (h1 : FM s lo hi o) (h2 : FM s lo hi p) : o = p := by
  cases o with
  | none =>
    cases p with
    | none => rfl
    | some m =>
      have := h1 m h2.1 h2.2.1
      rw [h2.2.2.1] at this
      cases this
  | some m =>
    cases p with
    | none =>
      have := h2 m h1.1 h1.2.1
      rw [h1.2.2.1] at this
      cases this
    | some n =>
      have a := h1.2.2.2 n h2.1 h2.2.1 h2.2.2.1
      have b := h2.2.2.2 m h1.1 h1.2.1 h1.2.2.1
      have : m = n := by
        rcases Nat.lt_trichotomy m n with h | h | h
        · have := b.2 h; omega
        · exact h
        · have := a.2 h; omega
      rw [this]
def midS (s : Nat) : Nat → Option Nat
  | 0 => none
  | k + 1 => if s.testBit k then (match midS s k with
    | none => some k
    | some f => if stS s k < stS s f then some k else some f) else midS s k
theorem midS_FM (s : Nat) : ∀ k, FM s 0 k (midS s k)
  | 0 => fun j _ hj => by omega
  | k + 1 => by
    have i := midS_FM s k
    unfold midS
    by_cases e : s.testBit k = true
    · rw [if_pos e]
      cases e2 : midS s k with
      | none =>
        rw [e2] at i
        refine ⟨by omega, by omega, e, fun j h1 h2 h3 => ?_⟩
        by_cases e3 : j = k
        · rw [e3]; exact ⟨Nat.le_refl _, fun h => by omega⟩
        · rw [i j h1 (by omega)] at h3; cases h3
      | some f =>
        rw [e2] at i
        dsimp only
        obtain ⟨i1, i2, i3, i4⟩ := i
        by_cases e3 : stS s k < stS s f
        · rw [if_pos e3]
          refine ⟨by omega, by omega, e, fun j h1 h2 h3 => ?_⟩
          by_cases e4 : j = k
          · rw [e4]; exact ⟨Nat.le_refl _, fun h => by omega⟩
          · have := (i4 j h1 (by omega) h3).1
            exact ⟨by omega, fun _ => by omega⟩
        · rw [if_neg e3]
          refine ⟨i1, by omega, i3, fun j h1 h2 h3 => ?_⟩
          by_cases e4 : j = k
          · rw [e4]; exact ⟨by omega, fun h => by omega⟩
          · exact i4 j h1 (by omega) h3
    · rw [if_neg e]
      have e' : s.testBit k = false := (Bool.not_eq_true _).mp e
      cases e2 : midS s k with
      | none =>
        rw [e2] at i
        intro j h1 h2
        by_cases e3 : j = k
        · rw [e3]; exact e'
        · exact i j h1 (by omega)
      | some f =>
        rw [e2] at i
        obtain ⟨i1, i2, i3, i4⟩ := i
        refine ⟨i1, by omega, i3, fun j h1 h2 h3 => ?_⟩
        by_cases e3 : j = k
        · rw [e3, e'] at h3; cases h3
        · exact i4 j h1 (by omega) h3
theorem midS_lt {s : Nat} {k f : Nat} (h : midS s k = some f) : f < k := by
  have := midS_FM s k
  rw [h] at this
  exact this.2.1
theorem L_middle {x : XS} {s : Nat} (hs : s < 33554432) (hl : cG_left (xG_core0 x) = nI s) : f_X0_middleCell x = some (encV (midS s 25)) := by
  have h := loopU (fun n i (a : Int32) => f_X0_middleCell_L5 x n i a) 25 (fun k => encV (midS s k)) (encV (midS s 25)) (fun n => by
    (try dsimp only)
    rw [f_X0_middleCell_L5, if_pos (by decide)]) (fun n k hk => by
    (try dsimp only)
    rw [f_X0_middleCell_L5, if_neg (n25 hk), hl, L_has (by omega) (by omega), L_stepsFrom hs hl hk]
    simp only [obs]
    rw [nI_1, midS]
    have l1 := stU_le (s := s) hk 25 (by omega)
    cases e2 : midS s k with
    | none =>
      rw [if_pos (by rfl)]
      simp only [obs]
      cases s.testBit k
      · rw [if_pos bI_f]; rfl
      · rw [if_neg bI_n0, if_neg (show ¬ (1 : Int32) = 0 by decide)]; rfl
    | some f =>
      have hf := midS_lt e2
      have l2 := stU_le (s := s) (c := f) (by omega) 25 (by omega)
      have hst : stS s k = stU s k 25 := rfl
      have hst2 : stS s f = stU s f 25 := rfl
      have hst3 : f_X0_stepsFrom x (encV (some f)) = some (nI (stS s f)) := L_stepsFrom hs hl (by omega)
      rw [if_neg (show ¬ encV (some f) = -9 from nI_m9 (by omega)), hst3]
      simp only [obs]
      (try dsimp only)
      by_cases e3 : stS s k < stS s f
      · rw [if_neg (nI_ge e3 (by omega)), if_pos e3]
        simp only [obs]
        cases s.testBit k
        · rw [if_pos bI_f]; rfl
        · rw [if_neg bI_n0, if_neg (show ¬ (1 : Int32) = 0 by decide)]; rfl
      · rw [if_pos (nI_le (by omega) (by omega)), if_neg e3]
        simp only [obs, if_true]
        cases s.testBit k
        · rw [if_pos bI_f]; rfl
        · rw [if_neg bI_n0]; rfl) 1000 0 (by omega) (by omega)
  rw [nI_0] at h
  unfold f_X0_middleCell
  have h2 : f_X0_middleCell_L5 x 1000 0 (-9) = some (encV (midS s 25)) := h
  rw [h2]
  rfl
/-- the least of those from lo on -/
def FI (P : Nat → Bool) (lo : Nat) (o : Option Nat) : Prop := match o with
  | none => ∀ j, lo ≤ j → j < 25 → P j = false
  | some m => lo ≤ m ∧ m < 25 ∧ P m = true ∧ ∀ j, lo ≤ j → j < m → P j = false
theorem M_bridge {g : MS} {s : Nat} (hs : s < 33554432) (hl : mG_left g = nI s) : f_X9_bridge_L29 g 1000 24 (-9) (-9) 0 = some (encV (midS s 25), encV (fstN (brP s) 25), nI (cntU (brP s) 25)) := by
  have key : ∀ (k fuel : Nat) (mid fst : Option Nat) (c : Nat), k ≤ 25 → k < fuel → FM s k 25 mid → FI (brP s) k fst → c + cntU (brP s) k = cntU (brP s) 25 → f_X9_bridge_L29 g fuel (if k = 0 then -1 else nI (k - 1)) (encV mid) (encV fst) (nI c) = some (encV (midS s 25), encV (fstN (brP s) 25), nI (cntU (brP s) 25)) := by
    intro k
    induction k with
    | zero =>
      intro fuel mid fst c _ hf h1 h2 h3
      obtain ⟨q, rfl⟩ : ∃ q, fuel = q + 1 := ⟨fuel - 1, by omega⟩
      rw [if_pos rfl, f_X9_bridge_L29, if_pos (by decide), FM_uniq h1 (midS_FM s 25)]
      have e1 : fst = fstN (brP s) 25 := by
        cases fst with
        | none => exact (fst_none (fun j hj => h2 j (by omega) hj)).symm
        | some m => exact (fst_some h2.2.1 h2.2.2.1 (fun j hj => h2.2.2.2 j (by omega) hj)).symm
      have e2 : c = cntU (brP s) 25 := h3
      rw [e1, e2]
    | succ k ih =>
      intro fuel mid fst c hk hf h1 h2 h3
      obtain ⟨q, rfl⟩ : ∃ q, fuel = q + 1 := ⟨fuel - 1, by omega⟩
      have hk25 : k < 25 := by omega
      rw [if_neg (by omega), show k + 1 - 1 = k by omega, f_X9_bridge_L29, if_neg (nI_pos (by omega)), hl, M_has (by omega) (by omega), pz_shl1 k (by omega), pz_dif]
      simp only [obs]
      have hdn : nI k + (-1) = if k = 0 then -1 else nI (k - 1) := by
        by_cases e : k = 0
        · rw [e]; rfl
        · rw [if_neg e]
          obtain ⟨j, rfl⟩ : ∃ j, k = j + 1 := ⟨k - 1, by omega⟩
          exact pk_m1 j
      rw [hdn]
      rw [cntU] at h3
      cases e : s.testBit k
      · have hp : brP s k = false := by unfold brP; rw [e]; rfl
        rw [if_pos bI_f]
        rw [hp] at h3
        refine ih q mid fst c (by omega) (by omega) ?_ ?_ (by simpa using h3)
        · cases mid with
          | none =>
            intro j h5 h6
            by_cases e3 : j = k
            · rw [e3]; exact e
            · exact h1 j (by omega) h6
          | some m =>
            refine ⟨by have := h1.1; omega, h1.2.1, h1.2.2.1, fun j h5 h6 h7 => ?_⟩
            by_cases e3 : j = k
            · rw [e3, e] at h7; cases h7
            · exact h1.2.2.2 j (by omega) h6 h7
        · cases fst with
          | none =>
            intro j h5 h6
            by_cases e3 : j = k
            · rw [e3]; exact hp
            · exact h2 j (by omega) h6
          | some m =>
            refine ⟨by have := h2.1; omega, h2.2.1, h2.2.2.1, fun j h5 h6 => ?_⟩
            by_cases e3 : j = k
            · rw [e3]; exact hp
            · exact h2.2.2.2 j (by omega) h6
      · have l1 := cntS_le s
        have l2 := cntS_le (dif s (2 ^ k))
        have hT : dif s (2 ^ k) < 33554432 := dif_T hs
        rw [if_neg bI_n0, M_heaps hT, M_heaps hs]
        simp only [obs]
        have hbr : (if nI (cntS (dif s (2 ^ k))) ≤ nI (cntS s) then some (0 : Int32) else some 1) = some (bI (brP s k)) := by
          unfold brP bdif
          rw [e]
          by_cases e2 : cntS s < cntS (dif s (2 ^ k))
          · rw [if_neg (nI_ge e2 (by omega)), decide_eq_true e2]; rfl
          · rw [if_pos (nI_le (by omega) (by omega)), decide_eq_false e2]; rfl
        rw [hbr]
        simp only [obs]
        have hcc : (if bI (brP s k) = 0 then some (0 : Int32) else some 1) = some (bI (brP s k)) := by cases brP s k <;> rfl
        rw [hcc]
        simp only [obs]
        have hff : (if bI (brP s k) = 0 then some (encV fst) else some (nI k)) = some (encV (if brP s k then some k else fst)) := by cases brP s k <;> rfl
        rw [hff]
        simp only [obs]
        rw [bt_add]
        have hFI : FI (brP s) k (if brP s k then some k else fst) := by
          cases hp : brP s k
          · cases fst with
            | none =>
              intro j h5 h6
              by_cases e3 : j = k
              · rw [e3]; exact hp
              · exact h2 j (by omega) h6
            | some m =>
              refine ⟨by have := h2.1; omega, h2.2.1, h2.2.2.1, fun j h5 h6 => ?_⟩
              by_cases e3 : j = k
              · rw [e3]; exact hp
              · exact h2.2.2.2 j (by omega) h6
          · exact ⟨Nat.le_refl _, hk25, hp, fun j h5 h6 => by omega⟩
        cases mid with
        | none =>
          rw [if_pos (show encV none < 0 by decide)]
          refine ih q (some k) _ _ (by omega) (by omega) ⟨Nat.le_refl _, hk25, e, fun j h5 h6 h7 => ?_⟩ hFI (by omega)
          by_cases e3 : j = k
          · rw [e3]; exact ⟨Nat.le_refl _, fun h => by omega⟩
          · rw [h1 j (by omega) h6] at h7; cases h7
        | some f =>
          have hf25 := h1.2.1
          have l3 : stU s k 25 ≤ 8 * 25 := stU_le hk25 25 (by omega)
          have l4 : stU s f 25 ≤ 8 * 25 := stU_le hf25 25 (by omega)
          have hst : stS s k = stU s k 25 := rfl
          have hst2 : stS s f = stU s f 25 := rfl
          have hst3 : f_X9_stepsFrom g (encV (some f)) = some (nI (stS s f)) := M_stepsFrom hs hl hf25
          rw [if_neg (show ¬ encV (some f) < 0 from nI_pos (by omega)), M_stepsFrom hs hl hk25, hst3]
          simp only [obs]
          by_cases e3 : stS s f < stS s k
          · rw [if_pos (nI_lt e3 (by omega))]
            refine ih q (some f) _ _ (by omega) (by omega) ⟨by have := h1.1; omega, hf25, h1.2.2.1, fun j h5 h6 h7 => ?_⟩ hFI (by omega)
            by_cases e4 : j = k
            · rw [e4]; exact ⟨by omega, fun _ => e3⟩
            · exact h1.2.2.2 j (by omega) h6 h7
          · rw [if_neg (nI_nlt (by omega) (by omega))]
            refine ih q (some k) _ _ (by omega) (by omega) ⟨Nat.le_refl _, hk25, e, fun j h5 h6 h7 => ?_⟩ hFI (by omega)
            by_cases e4 : j = k
            · rw [e4]; exact ⟨Nat.le_refl _, fun h => by omega⟩
            · have := (h1.2.2.2 j (by omega) h6 h7).1
              exact ⟨by omega, fun h => by omega⟩
  exact key 25 1000 none none 0 (by omega) (by omega) (fun j h1 h2 => by omega) (fun j h1 h2 => by omega) (by omega)
