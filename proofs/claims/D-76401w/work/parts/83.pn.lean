/-! PLAIN LAWS 14: fractions, chance, mean -/
theorem gcd_loop (L : Nat → Int64 → Int64 → Option Int64) (hL : ∀ n y x, L (n + 1) y x = if (lg_cmp y 0) = 0 then some x else if y = 0 then none else L n (x - x / y * y) y) : ∀ (y fuel x : Nat), y < fuel → y < 2147483648 → x < 2147483648 → L fuel (lN y) (lN x) = some (lN (Nat.gcd x y)) := by
  intro y
  induction y using Nat.strongRecOn with
  | ind y ih =>
    intro fuel x hf hy hx
    obtain ⟨n, rfl⟩ : ∃ n, fuel = n + 1 := ⟨fuel - 1, by omega⟩
    rw [hL]
    by_cases h0 : y = 0
    · subst h0
      rw [if_pos (by rw [lg_cmp_eq]; rfl), Nat.gcd_zero_right]
    · have hne : ¬ lN y = 0 := by
        have : lN y = lN 0 ↔ y = 0 := lN_eq (by omega) (by omega)
        intro z
        exact h0 (this.1 z)
      have hm := Nat.mod_lt x (Nat.pos_of_ne_zero h0)
      rw [if_neg (by rw [lg_cmp_eq]; exact hne), if_neg hne, pk_lRem (by omega) (by omega) (by omega), ih (x % y) hm n y (by omega) (by omega) hy, Nat.gcd_comm x y, Nat.gcd_rec y x, Nat.gcd_comm]
theorem L_divisor {a b : Nat} (ha : a < 2147483648) (hb : b < 1000) : f_X0_divisor (lN a) (lN b) = some (lN (Nat.gcd a b)) := by
  unfold f_X0_divisor
  rw [gcd_loop f_X0_divisor_L6 (fun n y x => by rw [f_X0_divisor_L6]; rfl) b 1000 a hb (by omega) ha]
  rfl
theorem M_gcd {a b : Nat} (ha : a < 2147483648) (hb : b < 1000) : f_X9_gcd (lN a) (lN b) = some (lN (Nat.gcd a b)) := by
  unfold f_X9_gcd
  rw [gcd_loop f_X9_gcd_L6 (fun n y x => by rw [f_X9_gcd_L6]; rfl) b 1000 a hb (by omega) ha]
  rfl
def parS (a b : Nat) (part : Int32) : Int64 := if a = 0 then Int32.toInt64 part else if part = 0 then lN (a / Nat.gcd a b) else lN (b / Nat.gcd a b)
theorem lN_z {a : Nat} (ha : a < 2147483648) : lN a = 0 ↔ a = 0 := lN_eq (a := a) (b := 0) (by omega) (by omega)
theorem gcd_lt {a b : Nat} (h : a ≠ 0) (ha : a < 2147483648) : Nat.gcd a b ≠ 0 ∧ Nat.gcd a b < 2147483648 := by
  have h1 := Nat.gcd_pos_of_pos_left b (Nat.pos_of_ne_zero h)
  have h2 := Nat.gcd_le_left b (Nat.pos_of_ne_zero h)
  exact ⟨by omega, by omega⟩
theorem L_partOf {a b : Nat} (part : Int32) (ha : a < 2147483648) (hb : b < 1000) : f_X0_partOf (lN a) (lN b) part = some (parS a b part) := by
  unfold f_X0_partOf parS
  by_cases h0 : a = 0
  · rw [if_pos (by rw [lg_cmp_eq, lN_z ha]; exact h0), if_pos h0]
  · obtain ⟨g1, g2⟩ := gcd_lt (b := b) h0 ha
    have hne : ¬ lN (Nat.gcd a b) = 0 := by rw [lN_z g2]; exact g1
    rw [if_neg (by rw [lg_cmp_eq, lN_z ha]; exact h0), if_neg h0, L_divisor ha hb]
    simp only [obs]
    rw [if_neg hne, pk_lDiv (by omega) (by omega) (by omega), pk_lDiv (by omega) (by omega) (by omega)]
    split <;> rfl
theorem M_partOf {a b : Nat} (part : Int32) (ha : a < 2147483648) (hb : b < 1000) : f_X9_partOf (lN a) (lN b) part = some (parS a b part) := by
  unfold f_X9_partOf parS
  by_cases h0 : a = 0
  · rw [if_pos (by rw [lg_cmp_eq, lN_z ha]; exact h0), if_pos h0]
  · obtain ⟨g1, g2⟩ := gcd_lt (b := b) h0 ha
    have hne : ¬ lN (Nat.gcd a b) = 0 := by rw [lN_z g2]; exact g1
    rw [if_neg (by rw [lg_cmp_eq, lN_z ha]; exact h0), if_neg h0, M_gcd ha hb]
    simp only [obs]
    by_cases hp : part = 0
    · rw [if_pos hp, if_pos hp]
      simp only [obs]
      rw [if_neg hne, pk_lDiv (by omega) (by omega) (by omega)]
    · rw [if_neg hp, if_neg hp]
      simp only [obs]
      rw [if_neg hne, pk_lDiv (by omega) (by omega) (by omega)]
/-- in how many ways -/
def sumC (f : Nat → Nat) (s : Nat) : Nat → Nat
  | 0 => 0
  | c + 1 => sumC f s c + (if s.testBit c then f c else 0)
def oneS (kd f v s : Nat) : Nat := if v ≤ shS s kd f then 1 else 0
def wayS (kd f v : Nat) : Nat → Nat → Nat
  | 0, s => oneS kd f v s
  | n + 1, s => if s = 0 then oneS kd f v s else sumC (fun c => wayS kd f v n (bdif s c)) s 25
theorem sumC_le {f : Nat → Nat} {B : Nat} (h : ∀ c, f c ≤ B) (s : Nat) : ∀ k, sumC f s k ≤ k * B
  | 0 => Nat.zero_le _
  | k + 1 => by
    have h1 := sumC_le h s k
    have h2 := h k
    unfold sumC
    rw [Nat.succ_mul]
    split <;> omega
theorem oneS_le (kd f v s : Nat) : oneS kd f v s ≤ 1 := by unfold oneS; split <;> omega
theorem wayS_le (kd f v : Nat) : ∀ n s, wayS kd f v n s ≤ 25 ^ n
  | 0, s => oneS_le kd f v s
  | n + 1, s => by
    unfold wayS
    split
    · have h1 := oneS_le kd f v s
      have h2 : 0 < 25 ^ (n + 1) := Nat.pow_pos (by omega)
      omega
    · have h1 := sumC_le (f := fun c => wayS kd f v n (bdif s c)) (B := 25 ^ n) (fun c => wayS_le kd f v n (bdif s c)) s 25
      rw [Nat.pow_succ, Nat.mul_comm]
      exact h1
theorem one_e {s kd f v : Nat} (hf : f < 10) (hv : v ≤ 40) : (if nI (shS s kd f) < nI v then some (0 : Int64) else some 1) = some (lN (oneS kd f v s)) := by
  have h := shS_le (s := s) (kd := kd) hf
  unfold oneS
  by_cases e : v ≤ shS s kd f
  · rw [if_neg (nI_nlt e (by omega)), if_pos e]; rfl
  · rw [if_pos (nI_lt (by omega) (by omega)), if_neg e]; rfl
theorem M_waysFor {g : MS} {m h v : Nat} {K F : Nat → Nat} (hH : heM g m K F) (hh : h < m) (hv : v ≤ 40) : ∀ d n s, n < d → n < 100 → s < 33554432 → f_X9_waysFor d g (nI s) (nI h) (nI v) (nI n) = some (lN (wayS (K h) (F h) v n s)) := by
  intro d
  induction d with
  | zero => intro n s hn; omega
  | succ d ih =>
    intro n s hn hn2 hs
    rw [f_X9_waysFor, M_shareOf hs hH hh]
    simp only [obs]
    rw [one_e (hH.F hh) hv]
    cases n with
    | zero => rw [if_pos nI_0]; rfl
    | succ n =>
      rw [if_neg (nI_ne0 (by omega) (by omega)), wayS]
      by_cases h0 : s = 0
      · rw [if_pos (by rw [h0]; rfl), if_pos h0]
      · rw [if_neg (by rw [pz_z (by omega)]; exact h0), if_neg h0]
        have hl := loopU (fun q i (a : Int64) => f_X9_waysFor_L31 (nI s) (nI h) (nI v) (nI (n + 1)) (f_X9_waysFor d g) q i a) 25 (fun c => lN (sumC (fun c => wayS (K h) (F h) v n (bdif s c)) s c)) (lN (sumC (fun c => wayS (K h) (F h) v n (bdif s c)) s 25)) (fun q => by
          (try dsimp only)
          rw [f_X9_waysFor_L31, if_pos (by decide)]) (fun q c hc => by
          (try dsimp only)
          rw [f_X9_waysFor_L31, if_neg (n25 hc), M_has (by omega) (by omega), pz_shl1 c (by omega), pz_dif, nI_pred, ih n _ (by omega) (by omega) (dif_T hs), nI_1 c]
          simp only [obs]
          rw [Int64.add_zero, lN_add, sumC]
          cases s.testBit c
          · rw [if_pos bI_f]; rfl
          · rw [if_neg bI_n0]; rfl) 1000 0 (by omega) (by omega)
        rw [nI_0] at hl
        have hl2 : f_X9_waysFor_L31 (nI s) (nI h) (nI v) (nI (n + 1)) (f_X9_waysFor d g) 1000 0 0 = some (lN (sumC (fun c => wayS (K h) (F h) v n (bdif s c)) s 25)) := hl
        rw [hl2]
        simp only [obs]
theorem L_manyWays {m h v : Nat} {K F : Nat → Nat} (hh : h < m) (hv : v ≤ 40) : ∀ d n s (x : XS), n < d → n < 100 → s < 33554432 → heR (xG_mind x) m K F → ∃ y, f_X0_manyWays d x (nI s) (nI n) (nI h) (nI v) = some (lN (wayS (K h) (F h) v n s), y) ∧ kp x y ∧ heR (xG_mind y) m K F := by
  intro d
  induction d with
  | zero => intro n s x hn; omega
  | succ d ih =>
    intro n s x hn hn2 hs hM
    rw [f_X0_manyWays, L_leave _ hs]
    simp only [obs]
    rw [L_mindLeave hs hM hh]
    simp only [obs]
    have leaf : ∃ y, (if nI (shS s (K h) (F h)) < nI v then some ((0 : Int64), xS_mind x (cvL (xG_mind x) s)) else some (1, xS_mind x (cvL (xG_mind x) s))) = some (lN (oneS (K h) (F h) v s), y) ∧ kp x y ∧ heR (xG_mind y) m K F := by
      refine ⟨xS_mind x (cvL (xG_mind x) s), ?_, kp.mind _ _, by rw [xgm]; exact cvL_H hM _⟩
      have e := one_e (s := s) (kd := K h) (hM.F hh) hv
      split at e
      · rename_i e2
        rw [if_pos e2, ← Option.some.inj e]
      · rename_i e2
        rw [if_neg e2, ← Option.some.inj e]
    cases n with
    | zero => rw [if_pos nI_0]; exact leaf
    | succ n =>
      rw [if_neg (nI_ne0 (by omega) (by omega)), wayS]
      by_cases h0 : s = 0
      · rw [if_pos (by rw [h0]; rfl), if_pos h0]
        exact leaf
      · rw [if_neg (by rw [pz_z (by omega)]; exact h0), if_neg h0]
        have hl := loopI (fun q i (a : Int64 × XS) => f_X0_manyWays_L35 (nI s) (nI (n + 1)) (nI h) (nI v) (f_X0_manyWays d) q i a.1 a.2) 25 (fun c a => a.1 = lN (sumC (fun c => wayS (K h) (F h) v n (bdif s c)) s c) ∧ kp x a.2 ∧ heR (xG_mind a.2) m K F) (fun r => r.1 = lN (sumC (fun c => wayS (K h) (F h) v n (bdif s c)) s 25) ∧ kp x r.2 ∧ heR (xG_mind r.2) m K F) (by
          rintro q c ⟨a1, y⟩ hk ⟨i1, i2, i3⟩
          (try dsimp only at i1 i2 i3 ⊢)
          subst i1
          rcases Nat.lt_or_ge c 25 with hlt | hge
          · right
            refine ⟨hlt, ?_⟩
            rw [f_X0_manyWays_L35, if_neg (n25 hlt), L_has (by omega) (by omega), pz_shl1 c (by omega), pz_dif, nI_pred, nI_1 c]
            simp only [obs]
            cases e : s.testBit c
            · rw [if_pos bI_f, Int64.add_zero]
              exact ⟨(lN (sumC (fun c => wayS (K h) (F h) v n (bdif s c)) s (c + 1)), y), ⟨rfl, i2, i3⟩, by rw [sumC, e]; rfl⟩
            · obtain ⟨z, z1, z2, z3⟩ := ih n (dif s (2 ^ c)) y (by omega) (by omega) (dif_T hs) i3
              rw [if_neg bI_n0, z1]
              simp only [obs]
              rw [lN_add]
              exact ⟨(lN (sumC (fun c => wayS (K h) (F h) v n (bdif s c)) s (c + 1)), z), ⟨rfl, i2.tr z2, z3⟩, by rw [sumC, e]; rfl⟩
          · left
            have e : c = 25 := by omega
            subst e
            exact ⟨_, by rw [f_X0_manyWays_L35, if_pos (by decide)], rfl, i2, i3⟩) 1000 0 (0, x) (by omega) ⟨rfl, kp.rf x, hM⟩ (by omega)
        obtain ⟨r, r1, r2, r3, r4⟩ := hl
        rw [nI_0] at r1
        refine ⟨r.2, ?_, r3, r4⟩
        have r1' : f_X0_manyWays_L35 (nI s) (nI (n + 1)) (nI h) (nI v) (f_X0_manyWays d) 1000 0 0 x = some r := r1
        rw [r1', ← r2]
        rfl
def prodU (p : Nat) : Nat → Nat
  | 0 => 1
  | k + 1 => prodU p k * (p - k)
def beS (p n : Nat) : Nat := prodU p (if n < p then n else p)
theorem prodU_le {p : Nat} (hp : p ≤ 25) : ∀ k, prodU p k ≤ 25 ^ k
  | 0 => Nat.le_refl _
  | k + 1 => by
    unfold prodU
    rw [Nat.pow_succ]
    exact Nat.mul_le_mul (prodU_le hp k) (by omega)
theorem beS_le {p n : Nat} (hp : p ≤ 25) (hn : n ≤ 2) : beS p n < 1000 := by
  unfold beS
  have h1 := prodU_le hp (if n < p then n else p)
  have h2 : (if n < p then n else p) ≤ 2 := by split <;> omega
  have h3 : 25 ^ (if n < p then n else p) ≤ 25 ^ 2 := Nat.pow_le_pow_right (by omega) h2
  omega
theorem M_below {g : MS} {s n : Nat} (hs : s < 33554432) (hl : mG_left g = nI s) (hn : n ≤ 2) : f_X9_chance_L70 g (nI n) 1000 0 1 = some (lN (beS (pc s) n)) := by
  have hp := pc_le s
  have hm : (if n < pc s then n else pc s) ≤ n ∧ (if n < pc s then n else pc s) ≤ pc s := by split <;> omega
  have h := loopU (fun q i (a : Int64) => f_X9_chance_L70 g (nI n) q i a) (if n < pc s then n else pc s) (fun k => lN (prodU (pc s) k)) (lN (beS (pc s) n)) (fun q => by
    (try dsimp only)
    rw [f_X9_chance_L70, hl, M_bits hs]
    simp only [obs]
    by_cases e : n < pc s
    · rw [if_pos e, if_pos (nI_le (Nat.le_refl n) (by omega))]
      unfold beS
      rw [if_pos e]
    · rw [if_neg e]
      unfold beS
      rw [if_neg e, if_pos (nI_le (Nat.le_refl (pc s)) (by omega))]
      split <;> rfl) (fun q k hk => by
    (try dsimp only)
    have e1 : nI (pc s) - nI k = nI (pc s - k) := pk_sub (by omega)
    rw [f_X9_chance_L70, if_neg (nI_ge (by omega) (by omega)), hl, M_bits hs]
    simp only [obs]
    rw [if_neg (nI_ge (by omega) (by omega)), e1, nI_l (by omega), lN_mul, nI_1]
    rfl) 1000 0 (by omega) (by omega)
  rw [nI_0] at h
  exact h
theorem L_below {p n : Nat} (hp : p ≤ 25) (hn : n ≤ 2) : f_X0_chancePart_L18 (nI n) 1000 0 (nI p) 1 = some (lN (beS p n)) := by
  have hm : (if n < p then n else p) ≤ n ∧ (if n < p then n else p) ≤ p := by split <;> omega
  have h := loopU (fun q i (a : Int32 × Int64) => f_X0_chancePart_L18 (nI n) q i a.1 a.2) (if n < p then n else p) (fun k => (nI (p - k), lN (prodU p k))) (lN (beS p n)) (fun q => by
    (try dsimp only)
    rw [f_X0_chancePart_L18]
    by_cases e : n < p
    · rw [if_pos e, if_pos (nI_le (Nat.le_refl n) (by omega))]
      unfold beS
      rw [if_pos e]
    · rw [if_neg e]
      unfold beS
      rw [if_neg e, Nat.sub_self, if_pos (show nI 0 ≤ 0 by decide)]
      split <;> rfl) (fun q k hk => by
    (try dsimp only)
    rw [f_X0_chancePart_L18, if_neg (nI_ge (by omega) (by omega)), if_neg (nI_nle (by omega) (by omega)), nI_l (by omega), lN_mul, nI_1]
    simp only [obs]
    obtain ⟨j, hj⟩ : ∃ j, p - k = j + 1 := ⟨p - k - 1, by omega⟩
    rw [show p - (k + 1) = j by omega, hj, pk_m1, prodU, hj]) 1000 0 (by omega) (by omega)
  rw [nI_0] at h
  exact h
theorem L_chance {x : XS} {s m h v n : Nat} {K F : Nat → Nat} {part : Int32} (hx : coR x s m K F) (hh : h < m) (hv : v ≤ 40) (hn : n ≤ 2) :
    ∃ y, f_X0_chancePart x (nI h) (nI n) (nI v) part = some (parS (wayS (K h) (F h) v n s) (beS (pc s) n) part, y) ∧ kp x y := by
  have hs := hx.1
  have hw := wayS_le (K h) (F h) v n s
  have hw2 : 25 ^ n ≤ 25 ^ 2 := Nat.pow_le_pow_right (by omega) hn
  unfold f_X0_chancePart
  rw [hx.2.1.1, L_manyIn hs]
  simp only [obs]
  rw [L_below (pc_le s) hn]
  simp only [obs]
  rw [L_openMind]
  simp only [obs]
  obtain ⟨y1, e1⟩ : ∃ y1, y1 = xS_mind x (setV (xG_mind x) (xG_core0 x)) := ⟨_, rfl⟩
  have k1 : kp x y1 := by rw [e1]; exact kp.mind _ _
  have m1 : heR (xG_mind y1) m K F := by rw [e1, xgm]; exact setV_H hx.2.2
  rw [← e1, (hx.kp k1).2.1.1]
  obtain ⟨y, h1, h2, h3⟩ := L_manyWays (h := h) hh hv 4 n s y1 (by omega) (by omega) hs m1
  rw [h1]
  simp only [obs]
  rw [L_partOf part (by omega) (beS_le (pc_le s) hn)]
  exact ⟨y, rfl, k1.tr h2⟩
theorem M_chance {g : MS} {s m h v n : Nat} {K F : Nat → Nat} {part : Int32} (hs : s < 33554432) (hl : mG_left g = nI s) (hH : heM g m K F) (hh : h < m) (hv : v ≤ 40) (hn : n ≤ 2) :
    (Option.bind (f_X9_chance_L70 g (nI n) 1000 0 1) fun o11 => Option.bind (f_X9_waysFor 4 g (mG_left g) (nI h) (nI v) (nI n)) fun o18 => Option.bind (f_X9_partOf o18 o11 part) fun o19 => some (o19, g)) = some (parS (wayS (K h) (F h) v n s) (beS (pc s) n) part, g) := by
  have hw := wayS_le (K h) (F h) v n s
  have hw2 : 25 ^ n ≤ 25 ^ 2 := Nat.pow_le_pow_right (by omega) hn
  rw [M_below hs hl hn, hl, M_waysFor hH hh hv 4 n s (by omega) (by omega) hs]
  simp only [obs]
  rw [M_partOf part (by omega) (beS_le (pc_le s) hn)]
  rfl
theorem sumU_le {s : Nat} {K F : Nat → Nat} : ∀ m, (∀ h, h < m → F h < 10) → sumU s K F m ≤ 100 * m
  | 0, _ => Nat.le_refl _
  | m + 1, hF => by
    have h1 := sumU_le (s := s) (K := K) (F := F) m (fun h hh => hF h (by omega))
    have h2 := shS_le (s := s) (kd := K m) (hF m (by omega))
    unfold sumU
    omega
def meanS (s m : Nat) (K F : Nat → Nat) (part : Int32) : Int64 := parS (sumU s K F m) m part
theorem M_mean {g : MS} {s m : Nat} {K F : Nat → Nat} {part : Int32} (hs : s < 33554432) (hl : mG_left g = nI s) (hH : heM g m K F) :
    (Option.bind (f_X9_sharesOf g (mG_left g)) fun o4 => Option.bind (f_X9_partOf (Int32.toInt64 o4) (Int32.toInt64 (mG_many g)) part) fun o5 => some (o5, g)) = some (meanS s m K F part, g) := by
  have hm := hH.2.1
  have hsum := sumU_le (s := s) (K := K) (F := F) m (fun h hh => hH.F hh)
  rw [hl, M_sharesOf hs hH, hH.1]
  simp only [obs]
  rw [nI_l (by omega), nI_l (by omega), M_partOf part (by omega) (by omega)]
  rfl
theorem L_mean {x : XS} {s m : Nat} {K F : Nat → Nat} {part : Int32} (hx : coR x s m K F) :
    (Option.bind (f_X8_allShares (xG_core0 x)) fun o3 => Option.bind (f_X0_partOf (Int32.toInt64 o3) (Int32.toInt64 (if (1 : Int32) < (cG_heirs (xG_core0 x)) then (cG_heirs (xG_core0 x)) else (1 : Int32))) part) fun o4 => some (o4, x)) = some (meanS s m K F part, x) := by
  have hm := hx.2.2.2.1
  have hsum := sumU_le (s := s) (K := K) (F := F) m (fun h hh => hx.2.2.F hh)
  rw [L_allShares hx.1 hx.2.1 hx.2.2, hx.2.2.1]
  simp only [obs]
  unfold meanS
  by_cases h1 : 1 < m
  · have : (1 : Int32) < nI m := nI_lt (a := 1) h1 (by omega)
    rw [if_pos this, nI_l (by omega), nI_l (by omega), L_partOf part (by omega) (by omega)]
    rfl
  · have : ¬ (1 : Int32) < nI m := nI_nlt (a := 1) (by omega) (by omega)
    have e1 : Int32.toInt64 1 = lN 1 := rfl
    rw [if_neg this, nI_l (by omega), e1, L_partOf part (by omega) (by omega)]
    simp only [obs]
    by_cases h0 : m = 0
    · subst h0
      rfl
    · have : m = 1 := by omega
      rw [this]
