/-! PLAIN LAWS 9: safe, can, settles, join, bridge -/
def cntU (P : Nat → Bool) : Nat → Nat
  | 0 => 0
  | n + 1 => cntU P n + (P n).toNat
theorem cntU_le (P : Nat → Bool) : ∀ n, cntU P n ≤ n
  | 0 => Nat.le_refl _
  | n + 1 => by
    have h1 := cntU_le P n
    have h2 : (P n).toNat ≤ 1 := Bool.toNat_le _
    unfold cntU
    omega
def allU (P : Nat → Bool) : Nat → Bool
  | 0 => true
  | n + 1 => allU P n && P n
theorem allU_congr {P Q : Nat → Bool} : ∀ n, (∀ k, k < n → P k = Q k) → allU P n = allU Q n
  | 0, _ => rfl
  | n + 1, h => by unfold allU; rw [allU_congr n (fun k hk => h k (by omega)), h n (by omega)]
theorem allU_f {P : Nat → Bool} {k : Nat} : ∀ n, k ≤ n → allU P k = false → allU P n = false
  | 0, hk, h => by
    have e : k = 0 := by omega
    rw [e] at h
    cases h
  | n + 1, hk, h => by
    by_cases e : k = n + 1
    · rw [← e]; exact h
    · unfold allU
      rw [allU_f n (by omega) h]
      rfl
theorem bI_and1 (b : Bool) : bI b &&& 1 = bI b := by cases b <;> decide
theorem bI_and0 (b : Bool) : bI b &&& 0 = 0 := by cases b <;> decide
theorem bI_n0 : ¬ bI true = 0 := by decide
/-- a bite that alters no share -/
def safeP (s : Nat) (K F : Nat → Nat) (t h : Nat) : Bool := decide (shS t (K h) (F h) = shS s (K h) (F h))
theorem L_isSafe {x : XS} {s t m : Nat} {K F : Nat → Nat} (hx : coR x s m K F) (ht : t < 33554432) (hc : cvR (xG_mind x) t) (hM : heR (xG_mind x) m K F) : f_X0_isSafe x = some (bI (allU (safeP s K F t) m)) := by
  have hm := hM.2.1
  have h := loopU (fun n i (a : Int32) => f_X0_isSafe_L4 x n i a) m (fun k => bI (allU (safeP s K F t) k)) (bI (allU (safeP s K F t) m)) (fun n => by
    (try dsimp only)
    rw [f_X0_isSafe_L4, hx.2.2.1, if_pos (nI_le (Nat.le_refl m) (by omega))]) (fun n k hk => by
    (try dsimp only)
    have l1 := shS_le (s := t) (kd := K k) (hM.F hk)
    have l2 := shS_le (s := s) (kd := K k) (hM.F hk)
    have he : nI (shS t (K k) (F k)) = nI (shS s (K k) (F k)) ↔ shS t (K k) (F k) = shS s (K k) (F k) := nI_eq (by omega) (by omega)
    rw [f_X0_isSafe_L4, hx.2.2.1, if_neg (nI_ge hk (by omega)), L_shareOf ht hc hM hk, L_shareOf hx.1 hx.2.1 hx.2.2 hk]
    simp only [obs]
    simp only [he]
    rw [allU, safeP, nI_1, bI_and1, bI_and0]
    by_cases e : shS t (K k) (F k) = shS s (K k) (F k)
    · rw [if_pos e, decide_eq_true e, Bool.and_true]
    · rw [if_neg e, decide_eq_false e, Bool.and_false]
      rfl) 1000 0 (by omega) (by omega)
  unfold f_X0_isSafe
  rw [nI_0] at h
  have h2 : f_X0_isSafe_L4 x 1000 0 1 = some (bI (allU (safeP s K F t) m)) := h
  rw [h2]
  simp only [obs]
  exact rz_b _
def canP (s : Nat) (a : Int32) (k : Nat) : Bool := decide (a < 0 ∨ a = nI (k / 25)) && canS s (k / 25) (k % 25)
def safP (s : Nat) (K F : Nat → Nat) (m k : Nat) : Bool := canS s (k / 25) (k % 25) && allU (safeP s K F (dif s (bitS (k / 25) (k % 25)))) m
theorem L_can {x : XS} {s m : Nat} {K F : Nat → Nat} {a : Int32} (hx : coR x s m K F) : ∃ y, f_X0_manyThatCan x a 0 = some (nI (cntU (canP s a) 100), y) ∧ kp x y := by
  unfold f_X0_manyThatCan
  rw [L_openMind]
  simp only [obs]
  obtain ⟨y1, e1⟩ : ∃ y1, y1 = xS_mind x (setV (xG_mind x) (xG_core0 x)) := ⟨_, rfl⟩
  have k1 : kp x y1 := by rw [e1]; exact kp.mind _ _
  rw [← e1]
  have hx1 := hx.kp k1
  have h := loopU (fun n i (q : Int32) => f_X0_manyThatCan_L11 a 0 n i q y1) 100 (fun k => nI (cntU (canP s a) k)) (nI (cntU (canP s a) 100), y1) (fun n => by
    (try dsimp only)
    rw [f_X0_manyThatCan_L11, if_pos (by decide)]) (fun n k hk => by
    (try dsimp only)
    have q1 : k / 25 < 4 := by omega
    have q2 : k % 25 < 25 := by omega
    rw [f_X0_manyThatCan_L11, if_neg (n100 hk)]
    simp only [obs]
    rw [rem25 (a := k) (by omega), div25 (a := k) (by omega), L_canBite hx1.2.1.1 q1 q2, cntU, canP, nI_1]
    simp only [obs]
    have ha : (if a < 0 then some (1 : Int32) else if a = nI (k / 25) then some 1 else some 0) = some (bI (decide (a < 0 ∨ a = nI (k / 25)))) := by
      by_cases c1 : a < 0
      · rw [if_pos c1, decide_eq_true (Or.inl c1)]; rfl
      · rw [if_neg c1]
        by_cases c2 : a = nI (k / 25)
        · rw [if_pos c2, decide_eq_true (Or.inr c2)]; rfl
        · rw [if_neg c2, decide_eq_false (fun z => z.elim c1 c2)]; rfl
    rw [ha]
    simp only [obs, if_true]
    cases decide (a < 0 ∨ a = nI (k / 25))
    · rw [if_pos bI_f]; rfl
    · rw [if_neg bI_n0]
      cases canS s (k / 25) (k % 25)
      · rw [if_pos bI_f]; rfl
      · rw [if_neg bI_n0, nI_1]; rfl) 1000 0 (by omega) (by omega)
  rw [nI_0] at h
  have h2 : f_X0_manyThatCan_L11 a 0 1000 0 0 y1 = some (nI (cntU (canP s a) 100), y1) := h
  rw [h2]
  exact ⟨y1, rfl, k1⟩
theorem L_safe {x : XS} {s m : Nat} {K F : Nat → Nat} (hx : coR x s m K F) : ∃ y, f_X0_manyThatCan x (-1) 1 = some (nI (cntU (safP s K F m) 100), y) ∧ kp x y := by
  unfold f_X0_manyThatCan
  rw [L_openMind]
  simp only [obs]
  obtain ⟨y1, e1⟩ : ∃ y1, y1 = xS_mind x (setV (xG_mind x) (xG_core0 x)) := ⟨_, rfl⟩
  have k1 : kp x y1 := by rw [e1]; exact kp.mind _ _
  have m1 : heR (xG_mind y1) m K F := by rw [e1, xgm]; exact setV_H hx.2.2
  rw [← e1]
  have h := loopI (fun n i (q : Int32 × XS) => f_X0_manyThatCan_L11 (-1) 1 n i q.1 q.2) 100 (fun k q => q.1 = nI (cntU (safP s K F m) k) ∧ kp x q.2 ∧ heR (xG_mind q.2) m K F) (fun r => r.1 = nI (cntU (safP s K F m) 100) ∧ kp x r.2) (by
    rintro n k ⟨q1, y⟩ hk ⟨i1, i2, i3⟩
    (try dsimp only at i1 i2 i3 ⊢)
    subst i1
    rcases Nat.lt_or_ge k 100 with hlt | hge
    · right
      refine ⟨hlt, ?_⟩
      have q1 : k / 25 < 4 := by omega
      have q2 : k % 25 < 25 := by omega
      have hy := hx.kp i2
      rw [f_X0_manyThatCan_L11, if_neg (n100 hlt), if_pos (show (-1 : Int32) < 0 by decide)]
      simp only [obs]
      rw [if_neg (show ¬ (1 : Int32) = 0 by decide), rem25 (a := k) (by omega), div25 (a := k) (by omega), L_canBite hy.2.1.1 q1 q2, nI_1]
      simp only [obs]
      cases e : canS s (k / 25) (k % 25)
      · rw [if_pos bI_f]
        refine ⟨(nI (cntU (safP s K F m) (k + 1)), y), ⟨rfl, i2, i3⟩, ?_⟩
        rw [cntU, safP, e]
        rfl
      · rw [if_neg bI_n0, if_neg (show ¬ (1 : Int32) = 0 by decide), L_cellsOf _ q1 _ q2, hy.2.1.1]
        simp only [obs]
        rw [pz_dif, L_leave _ (dif_T hx.1)]
        simp only [obs]
        have hz := hy.kp (kp.mind y (cvL (xG_mind y) (dif s (bitS (k / 25) (k % 25)))))
        rw [L_isSafe hz (dif_T hx.1) (by rw [xgm]; exact cvL_R _ _) (by rw [xgm]; exact cvL_H i3 _)]
        simp only [obs]
        refine ⟨(nI (cntU (safP s K F m) (k + 1)), xS_mind y (cvL (xG_mind y) (dif s (bitS (k / 25) (k % 25))))), ⟨rfl, i2.tr (kp.mind _ _), by rw [xgm]; exact cvL_H i3 _⟩, ?_⟩
        rw [cntU, safP, e]
        cases allU (safeP s K F (dif s (bitS (k / 25) (k % 25)))) m
        · rw [if_pos bI_f, Int32.add_zero]; rfl
        · rw [if_neg bI_n0, nI_1]; rfl
    · left
      have e : k = 100 := by omega
      subst e
      refine ⟨(nI (cntU (safP s K F m) 100), y), ?_, rfl, i2⟩
      rw [f_X0_manyThatCan_L11, if_pos (by decide)]) 1000 0 (0, y1) (by omega) ⟨rfl, k1, m1⟩ (by omega)
  obtain ⟨r, h1, h2, h3⟩ := h
  rw [nI_0] at h1
  rw [h1]
  simp only [obs]
  rw [h2]
  exact ⟨_, rfl, h3⟩
/-- sums over two loops in one another -/
theorem M_can {g : MS} {s : Nat} {a : Int32} (hl : mG_left g = nI s) : f_X9_can_L20 g a 1000 0 0 = some (nI (cntU (canP s a) 100)) := by
  have inner : ∀ sh, sh < 4 → f_X9_can_L28 g a (nI sh) 1000 0 (nI (cntU (canP s a) (25 * sh))) = some (nI (cntU (canP s a) (25 * (sh + 1)))) := by
    intro sh hsh
    have h := loopU (fun n i (q : Int32) => f_X9_can_L28 g a (nI sh) n i q) 25 (fun c => nI (cntU (canP s a) (25 * sh + c))) (nI (cntU (canP s a) (25 * (sh + 1)))) (fun n => by
      (try dsimp only)
      rw [f_X9_can_L28, if_pos (by decide)]
      rfl) (fun n c hc => by
      (try dsimp only)
      rw [f_X9_can_L28, if_neg (n25 hc), hl, M_canBite hsh hc]
      simp only [obs]
      rw [nI_1, Int32.add_zero, nI_1, ← Nat.add_assoc, cntU, canP, show (25 * sh + c) / 25 = sh by omega, show (25 * sh + c) % 25 = c by omega]
      by_cases c1 : a < 0
      · rw [if_pos c1, decide_eq_true (Or.inl c1)]
        cases canS s sh c
        · rw [if_pos bI_f]; rfl
        · rw [if_neg bI_n0]; rfl
      · rw [if_neg c1]
        by_cases c2 : nI sh = a
        · rw [if_pos c2, decide_eq_true (Or.inr c2.symm)]
          cases canS s sh c
          · rw [if_pos bI_f]; rfl
          · rw [if_neg bI_n0]; rfl
        · rw [if_neg c2, decide_eq_false (fun z => z.elim c1 (fun z2 => c2 z2.symm))]; rfl) 1000 0 (by omega) (by omega)
    rw [nI_0] at h
    exact h
  have h := loopU (fun n i (q : Int32) => f_X9_can_L20 g a n i q) 4 (fun sh => nI (cntU (canP s a) (25 * sh))) (nI (cntU (canP s a) 100)) (fun n => by
    (try dsimp only)
    rw [f_X9_can_L20, if_pos (by decide)]) (fun n sh hsh => by
    (try dsimp only)
    rw [f_X9_can_L20, if_neg (n4 hsh), inner sh hsh, nI_1]
    simp only [obs]) 1000 0 (by omega) (by omega)
  rw [nI_0] at h
  exact h
theorem M_safe {g : MS} {s m : Nat} {K F : Nat → Nat} (hs : s < 33554432) (hl : mG_left g = nI s) (hH : heM g m K F) : f_X9_safe g = some (nI (cntU (safP s K F m) 100)) := by
  have hm := hH.2.1
  have heirs : ∀ sh c, sh < 4 → c < 25 → f_X9_safe_L31 g (nI sh) (nI c) 1000 0 (bI (canS s sh c)) = some (bI (canS s sh c && allU (safeP s K F (dif s (bitS sh c))) m)) := by
    intro sh c hsh hc
    have h := loopI (fun n i (q : Int32) => f_X9_safe_L31 g (nI sh) (nI c) n i q) m (fun k q => q = bI (canS s sh c && allU (safeP s K F (dif s (bitS sh c))) k)) (fun r => r = bI (canS s sh c && allU (safeP s K F (dif s (bitS sh c))) m)) (by
      intro n k q hk hq
      (try dsimp only)
      subst hq
      rcases Nat.lt_or_ge k m with hlt | hge
      · rw [f_X9_safe_L31, hH.1, if_neg (nI_ge hlt (by omega))]
        cases e : (canS s sh c && allU (safeP s K F (dif s (bitS sh c))) k)
        · left
          refine ⟨_, if_pos bI_f, ?_⟩
          cases e2 : canS s sh c
          · rfl
          · rw [e2, Bool.true_and] at e
            rw [allU_f m hk e]
            rfl
        · right
          rw [Bool.and_eq_true] at e
          have l1 := shS_le (s := dif s (bitS sh c)) (kd := K k) (hH.F hlt)
          have l2 := shS_le (s := s) (kd := K k) (hH.F hlt)
          have he : nI (shS (dif s (bitS sh c)) (K k) (F k)) = nI (shS s (K k) (F k)) ↔ shS (dif s (bitS sh c)) (K k) (F k) = shS s (K k) (F k) := nI_eq (by omega) (by omega)
          refine ⟨hlt, _, rfl, ?_⟩
          rw [if_neg bI_n0, hl, M_bite _ hsh _ hc]
          simp only [obs]
          rw [pz_dif, M_shareOf (dif_T hs) hH hlt, M_shareOf hs hH hlt]
          simp only [obs]
          simp only [he]
          rw [nI_1, allU, e.1, e.2, safeP]
          by_cases e3 : shS (dif s (bitS sh c)) (K k) (F k) = shS s (K k) (F k)
          · rw [if_pos e3, decide_eq_true e3]; rfl
          · rw [if_neg e3, decide_eq_false e3]; rfl
      · left
        have e : k = m := by omega
        subst e
        refine ⟨_, ?_, rfl⟩
        rw [f_X9_safe_L31, hH.1, if_pos (nI_le (Nat.le_refl k) (by omega))]) 1000 0 (bI (canS s sh c)) (by omega) (by
      show _ = bI (canS s sh c && true)
      rw [Bool.and_true]) (by omega)
    obtain ⟨r, h1, h2⟩ := h
    rw [nI_0] at h1
    rw [h1, h2]
  have inner : ∀ sh, sh < 4 → f_X9_safe_L11 g (nI sh) 1000 0 (nI (cntU (safP s K F m) (25 * sh))) = some (nI (cntU (safP s K F m) (25 * (sh + 1)))) := by
    intro sh hsh
    have h := loopU (fun n i (q : Int32) => f_X9_safe_L11 g (nI sh) n i q) 25 (fun c => nI (cntU (safP s K F m) (25 * sh + c))) (nI (cntU (safP s K F m) (25 * (sh + 1)))) (fun n => by
      (try dsimp only)
      rw [f_X9_safe_L11, if_pos (by decide)]
      rfl) (fun n c hc => by
      (try dsimp only)
      rw [f_X9_safe_L11, if_neg (n25 hc), hl, M_canBite hsh hc]
      simp only [obs]
      rw [heirs sh c hsh hc]
      simp only [obs]
      rw [nI_1, Int32.add_zero, nI_1, ← Nat.add_assoc, cntU, safP, show (25 * sh + c) / 25 = sh by omega, show (25 * sh + c) % 25 = c by omega]
      cases (canS s sh c && allU (safeP s K F (dif s (bitS sh c))) m)
      · rw [if_pos bI_f]; rfl
      · rw [if_neg bI_n0]; rfl) 1000 0 (by omega) (by omega)
    rw [nI_0] at h
    exact h
  have h := loopU (fun n i (q : Int32) => f_X9_safe_L4 g n i q) 4 (fun sh => nI (cntU (safP s K F m) (25 * sh))) (nI (cntU (safP s K F m) 100)) (fun n => by
    (try dsimp only)
    rw [f_X9_safe_L4, if_pos (by decide)]) (fun n sh hsh => by
    (try dsimp only)
    rw [f_X9_safe_L4, if_neg (n4 hsh), inner sh hsh, nI_1]
    simp only [obs]) 1000 0 (by omega) (by omega)
  rw [nI_0] at h
  unfold f_X9_safe
  have h2 : f_X9_safe_L4 g 1000 0 0 = some (nI (cntU (safP s K F m) 100)) := h
  rw [h2]
  rfl
/-- what settles -/
def bdif (s a : Nat) : Nat := dif s (2 ^ a)
def set1P (s a : Nat) : Bool := s.testBit a && decide (deedS (bdif s a) ≠ 0)
def set2P (s k : Nat) : Bool := decide (k / 25 < k % 25) && (s.testBit (k / 25) && (s.testBit (k % 25) && decide (deedS (bdif (bdif s (k / 25)) (k % 25)) ≠ 0)))
def settS (s : Nat) (what : Int32) : Int32 := if deedS s ≠ 0 then (if what = 0 then 0 else -9) else match fstN (set1P s) 25 with
  | some a => if what = 0 then 1 else nI a
  | none => match fstN (set2P s) 625 with
    | some k => if what = 0 then 2 else nI (k / 25)
    | none => -9
theorem bdif2 (s a b : Nat) : dif s (2 ^ a ||| 2 ^ b) = bdif (bdif s a) b := by
  apply Nat.eq_of_testBit_eq
  intro k
  unfold bdif
  rw [tb_dif, tb_dif, tb_dif, Nat.testBit_or]
  cases s.testBit k <;> cases (2 ^ a).testBit k <;> cases (2 ^ b).testBit k <;> rfl
theorem bdif_T {s a : Nat} (h : s < 33554432) : bdif s a < 33554432 := dif_T h
theorem deed_ne {s : Nat} (hs : s < 33554432) : (nI (deedS s) = 0 ↔ deedS s = 0) := pz_z (by have := deedS_T hs; omega)
theorem M_settles {g : MS} {s : Nat} {what : Int32} (hs : s < 33554432) (hl : mG_left g = nI s) :
    (Option.bind (f_X9_deed (mG_left g)) fun o3 => if o3 = 0 then bsR (f_X9_settles_L39 g what 1000 0) fun t5 => bsR (f_X9_settles_L90 g what 1000 0) fun t14 => some ((-9), g) else if what = 0 then some (0, g) else some ((-9), g)) = some (settS s what, g) := by
  rw [hl, M_deed hs]
  simp only [obs]
  unfold settS
  by_cases h0 : deedS s = 0
  · rw [if_pos (by rw [h0]; rfl), if_neg (fun z => z h0)]
    have step : ∀ n a, a < 25 → f_X9_settles_L39 g what (n + 1) (nI a) = if set1P s a then some (.inl ((if what = 0 then 1 else nI a), g)) else f_X9_settles_L39 g what n (nI (a + 1)) := by
      intro n a ha
      have hT := bdif_T (a := a) hs
      rw [f_X9_settles_L39, if_neg (n25 ha), hl, M_has (by omega) (by omega), pz_shl1 a (by omega), pz_dif, M_deed (dif_T hs)]
      simp only [obs]
      rw [nI_1]
      have hd := deed_ne hT
      unfold bdif at hd hT
      unfold set1P bdif
      simp only [hd]
      cases s.testBit a
      · rw [if_pos bI_f]; rfl
      · rw [if_neg bI_n0]
        by_cases e : deedS (dif s (2 ^ a)) = 0
        · rw [if_pos e, decide_eq_false (fun z => z e)]; rfl
        · rw [if_neg e, decide_eq_true e]
          by_cases hw : what = 0
          · simp only [if_pos hw]; rfl
          · simp only [if_neg hw]; rfl
    have l1 := loopF (fun n i (_ : Unit) => f_X9_settles_L39 g what n i) 25 (set1P s) (fun _ => True) (fun o r => r = fRes o (fun a => ((if what = 0 then 1 else nI a), g))) (fun n _ _ => by
      refine ⟨_, ?_, rfl⟩
      rw [f_X9_settles_L39, if_pos (by decide)]
      rfl) (fun n a _ ha _ hp => ⟨_, by rw [step n a ha, hp]; rfl, rfl⟩) (fun n a _ ha _ hp => ⟨(), trivial, by rw [step n a ha, hp]; rfl⟩) 1000 () trivial (by omega)
    obtain ⟨r1, h1, h2⟩ := l1
    rw [h1, h2]
    cases fstN (set1P s) 25 with
    | some a => rfl
    | none =>
      -- the pairs
      have step2 : ∀ n a b, a < 25 → b < 25 → a < b → f_X9_settles_L100 g what (nI a) (n + 1) (nI b) = if set2P s (25 * a + b) then some (.inl ((if what = 0 then 2 else nI a), g)) else f_X9_settles_L100 g what (nI a) n (nI (b + 1)) := by
        intro n a b ha hb hab
        have hT := bdif_T (a := b) (bdif_T (a := a) hs)
        rw [f_X9_settles_L100, if_neg (n25 hb), hl, M_has (by omega) (by omega), M_has (by omega) (by omega), pz_shl1 a (by omega), pz_shl1 b (by omega), pz_dif, pz_dif, M_deed (dif_T (dif_T hs))]
        simp only [obs]
        rw [nI_1]
        have hd := deed_ne hT
        unfold bdif at hd hT
        unfold set2P bdif
        rw [show (25 * a + b) / 25 = a by omega, show (25 * a + b) % 25 = b by omega, decide_eq_true hab]
        simp only [hd]
        cases s.testBit a
        · rw [if_pos bI_f]; rfl
        · rw [if_neg bI_n0]
          cases s.testBit b
          · rw [if_pos bI_f]; rfl
          · rw [if_neg bI_n0]
            by_cases e : deedS (dif (dif s (2 ^ a)) (2 ^ b)) = 0
            · rw [if_pos e, decide_eq_false (fun z => z e)]; rfl
            · rw [if_neg e, decide_eq_true e]
              by_cases hw : what = 0
              · simp only [if_pos hw]; rfl
              · simp only [if_neg hw]; rfl
      have l2 := loopI (fun n i (_ : Unit) => f_X9_settles_L90 g what n i) 25 (fun a _ => ∀ j, j < 25 * a → set2P s j = false) (fun r => r = fRes (fstN (set2P s) 625) (fun k => ((if what = 0 then 2 else nI (k / 25)), g))) (by
        intro n a _ ha hj
        (try dsimp only)
        rcases Nat.lt_or_ge a 25 with hlt | hge
        · have l3 := loopI (fun n i (_ : Unit) => f_X9_settles_L100 g what (nI a) n i) 25 (fun b _ => a < b ∧ ∀ j, j < 25 * a + b → set2P s j = false) (fun r => (r = .inr () ∧ ∀ j, j < 25 * (a + 1) → set2P s j = false) ∨ r = fRes (fstN (set2P s) 625) (fun k => ((if what = 0 then 2 else nI (k / 25)), g)) ∧ ∃ q, r = .inl q) (by
            intro n b _ hb ⟨hab, hj2⟩
            (try dsimp only)
            rcases Nat.lt_or_ge b 25 with hlt2 | hge2
            · rw [step2 n a b hlt hlt2 hab]
              cases e : set2P s (25 * a + b)
              · right
                refine ⟨hlt2, (), ⟨by omega, fun j h5 => ?_⟩, rfl⟩
                by_cases e2 : j = 25 * a + b
                · rw [e2]; exact e
                · exact hj2 j (by omega)
              · left
                refine ⟨_, rfl, Or.inr ⟨?_, _, rfl⟩⟩
                rw [fst_some (P := set2P s) (k := 25 * a + b) (by omega) e hj2]
                unfold fRes
                dsimp only
                rw [show (25 * a + b) / 25 = a by omega]
            · left
              have e : b = 25 := by omega
              subst e
              refine ⟨.inr (), ?_, Or.inl ⟨rfl, fun j h5 => hj2 j (by omega)⟩⟩
              rw [f_X9_settles_L100, if_pos (by decide)]) 1000 (a + 1) () (by omega) ⟨by omega, fun j h5 => by
                rcases Nat.lt_or_ge j (25 * a) with h6 | h6
                · exact hj j h6
                · unfold set2P
                  rw [decide_eq_false (by omega)]
                  rfl⟩ (by omega)
          obtain ⟨r, h3, h4⟩ := l3
          rw [f_X9_settles_L90, if_neg (n25 hlt)]
          simp only [obs]
          rw [nI_1, h3]
          rcases h4 with ⟨rfl, h4⟩ | ⟨h4, q, hq⟩
          · right
            exact ⟨hlt, (), h4, rfl⟩
          · left
            subst hq
            exact ⟨_, rfl, h4⟩
        · left
          have e : a = 25 := by omega
          subst e
          refine ⟨.inr (), ?_, ?_⟩
          · rw [f_X9_settles_L90, if_pos (by decide)]
          · rw [fst_none (P := set2P s) (fun j h5 => hj j (by omega))]
            rfl) 1000 0 () (by omega) (fun j hj => by omega) (by omega)
      obtain ⟨r, h3, h4⟩ := l2
      rw [nI_0] at h3
      show bsR (f_X9_settles_L90 g what 1000 0) (fun t14 => some (-9, g)) = _
      rw [h3, h4]
      cases fstN (set2P s) 625 <;> rfl
  · rw [if_neg (by rw [deed_ne hs]; exact h0), if_pos h0]
    by_cases hw : what = 0
    · simp only [if_pos hw]
    · simp only [if_neg hw]
