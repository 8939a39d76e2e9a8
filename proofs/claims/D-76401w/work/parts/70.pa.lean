/-! PLAIN LAWS 1: cores as numbers below 2^25; bits, counts, loops -/
/-- not by rfl: simp then writes a proof, and no long def is opened to compare -/
theorem obs {α β : Type} (a : α) (f : α → Option β) : Option.bind (some a) f = f a := by
  cases h : f a with
  | none => exact h
  | some b => exact h
def bI (b : Bool) : Int32 := if b then 1 else 0
theorem bI_0 (b : Bool) : bI b = 0 ↔ b = false := by cases b <;> decide
theorem bI_t : bI true = 1 := rfl
theorem bI_f : bI false = 0 := rfl
theorem bI_01 (b : Bool) : bI b = 0 ∨ bI b = 1 := by cases b <;> decide
theorem rz_b (b : Bool) : rz (bI b) = some (bI b) := by unfold rz; rw [if_pos (bI_01 b)]
theorem bI_ite (c : Prop) [Decidable c] : (if c then (1 : Int32) else 0) = bI (decide c) := by by_cases h : c <;> simp [h, bI]
/-- a and not b -/
def dif (a b : Nat) : Nat := a ^^^ (a &&& b)
theorem tb_dif (a b k : Nat) : (dif a b).testBit k = (a.testBit k && !b.testBit k) := by
  unfold dif
  rw [Nat.testBit_xor, Nat.testBit_and]
  cases a.testBit k <;> cases b.testBit k <;> rfl
theorem lt_T {n : Nat} (h : ∀ k, 25 ≤ k → n.testBit k = false) : n < 33554432 := Nat.lt_pow_two_of_testBit n h
theorem tb_T {n k : Nat} (h : n < 33554432) (hk : 25 ≤ k) : n.testBit k = false := Nat.testBit_lt_two_pow (Nat.lt_of_lt_of_le h (Nat.pow_le_pow_right (n := 2) (by decide) hk))
theorem dif_T {a b : Nat} (h : a < 33554432) : dif a b < 33554432 := lt_T fun k hk => by rw [tb_dif, tb_T h hk]; rfl
theorem or_T {a b : Nat} (h : a < 33554432) (h2 : b < 33554432) : a ||| b < 33554432 := lt_T fun k hk => by rw [Nat.testBit_or, tb_T h hk, tb_T h2 hk]; rfl
theorem and_T {a b : Nat} (h : a < 33554432) : a &&& b < 33554432 := lt_T fun k hk => by rw [Nat.testBit_and, tb_T h hk]; rfl
theorem and_T' {a b : Nat} (h : b < 33554432) : a &&& b < 33554432 := lt_T fun k hk => by rw [Nat.testBit_and, tb_T h hk, Bool.and_false]
theorem pow_T {k : Nat} (h : k < 25) : 2 ^ k < 33554432 := Nat.pow_lt_pow_right (by decide) h
theorem ext_T {a b : Nat} (ha : a < 33554432) (hb : b < 33554432) (h : ∀ k, k < 25 → a.testBit k = b.testBit k) : a = b := by
  apply Nat.eq_of_testBit_eq
  intro k
  rcases Nat.lt_or_ge k 25 with hk | hk
  · exact h k hk
  · rw [tb_T ha hk, tb_T hb hk]
theorem z_T {a : Nat} (ha : a < 33554432) (h : ∀ k, k < 25 → a.testBit k = false) : a = 0 := ext_T ha (by decide) fun k hk => by rw [h k hk, Nat.zero_testBit]
theorem nz_T {a : Nat} (h : a ≠ 0) : ∃ k, a.testBit k = true := Nat.exists_testBit_of_ne_zero h
/-- Int32 and numbers -/
theorem pz_and (a b : Nat) : nI a &&& nI b = nI (a &&& b) := by
  apply Int32.toBitVec_inj.1
  show BitVec.ofNat 32 a &&& BitVec.ofNat 32 b = BitVec.ofNat 32 (a &&& b)
  apply BitVec.eq_of_getLsbD_eq
  intro i hi
  simp [hi]
theorem pz_or (a b : Nat) : nI a ||| nI b = nI (a ||| b) := by
  apply Int32.toBitVec_inj.1
  show BitVec.ofNat 32 a ||| BitVec.ofNat 32 b = BitVec.ofNat 32 (a ||| b)
  apply BitVec.eq_of_getLsbD_eq
  intro i hi
  simp [hi]
theorem pz_xor (a b : Nat) : nI a ^^^ nI b = nI (a ^^^ b) := by
  apply Int32.toBitVec_inj.1
  show BitVec.ofNat 32 a ^^^ BitVec.ofNat 32 b = BitVec.ofNat 32 (a ^^^ b)
  apply BitVec.eq_of_getLsbD_eq
  intro i hi
  simp [hi]
theorem pz_dif (a b : Nat) : nI a &&& (nI b ^^^ (-1)) = nI (dif a b) := by
  apply Int32.toBitVec_inj.1
  show BitVec.ofNat 32 a &&& (BitVec.ofNat 32 b ^^^ BitVec.allOnes 32) = BitVec.ofNat 32 (dif a b)
  apply BitVec.eq_of_getLsbD_eq
  intro i hi
  rw [BitVec.getLsbD_and, BitVec.getLsbD_xor, BitVec.getLsbD_ofNat, BitVec.getLsbD_ofNat, BitVec.getLsbD_ofNat, BitVec.getLsbD_allOnes, tb_dif]
  simp [hi]
theorem pz_z {n : Nat} (h : n < 2147483648) : nI n = 0 ↔ n = 0 := by rw [← nI_0]; exact nI_eq h (by decide)
theorem pz_sm : ∀ k, k < 32 → ((nI k &&& 31).toBitVec.smod 32).toNat = k := by decide +kernel
theorem pz_shl1 : ∀ k, k < 31 → (1 : Int32) <<< (nI k &&& 31) = nI (2 ^ k) := by decide +kernel
theorem pz_bit {n k : Nat} (hn : n < 2147483648) (hk : k < 32) : (nI n >>> (nI k &&& 31)) &&& 1 = bI (n.testBit k) := by
  rw [pk_shrN hn (nI k &&& 31) k (pz_sm k hk)]
  show nI (n / 2 ^ k) &&& nI 1 = _
  rw [pz_and, Nat.and_one_is_mod, Nat.testBit_eq_decide_div_mod_eq]
  rcases Nat.mod_two_eq_zero_or_one (n / 2 ^ k) with h | h <;> rw [h] <;> rfl
theorem L_has {n k : Nat} (hn : n < 2147483648) (hk : k < 32) : f_X0_has (nI n) (nI k) = some (bI (n.testBit k)) := by
  unfold f_X0_has
  rw [pz_bit hn hk]
  cases n.testBit k <;> rfl
theorem M_has {n k : Nat} (hn : n < 2147483648) (hk : k < 32) : f_X9_has (nI n) (nI k) = some (bI (n.testBit k)) := by
  unfold f_X9_has
  rw [pz_bit hn hk]
  cases n.testBit k <;> rfl
theorem n25 {k : Nat} (h : k < 25) : ¬ (25 : Int32) ≤ nI k := nI_ge h (by decide)
theorem n4 {k : Nat} (h : k < 4) : ¬ (4 : Int32) ≤ nI k := nI_ge h (by decide)
theorem n5 {k : Nat} (h : k < 5) : ¬ (5 : Int32) ≤ nI k := nI_ge h (by decide)
theorem n100 {k : Nat} (h : k < 100) : ¬ (100 : Int32) ≤ nI k := nI_ge h (by decide)
theorem n128 {k : Nat} (h : k < 128) : ¬ (128 : Int32) ≤ nI k := nI_ge h (by decide)
/-- loops: a place that climbs to N, an invariant, an end or a step -/
theorem loopI {σ ρ : Type} (L : Nat → Int32 → σ → Option ρ) (N : Nat) (I : Nat → σ → Prop) (Q : ρ → Prop)
    (hs : ∀ n k s, k ≤ N → I k s → (∃ r, L (n + 1) (nI k) s = some r ∧ Q r) ∨ (k < N ∧ ∃ s', I (k + 1) s' ∧ L (n + 1) (nI k) s = L n (nI (k + 1)) s')) :
    ∀ fuel k s, k ≤ N → I k s → N - k < fuel → ∃ r, L fuel (nI k) s = some r ∧ Q r := by
  intro fuel
  induction fuel with
  | zero => intro k s _ _ h; omega
  | succ n ih =>
    intro k s hk hi hf
    rcases hs n k s hk hi with h | ⟨hlt, s', h1, h2⟩
    · exact h
    · rw [h2]
      exact ih (k + 1) s' hlt h1 (by omega)
/-- loops of a known course: F k is what stands at place k -/
theorem loopU {σ ρ : Type} (L : Nat → Int32 → σ → Option ρ) (N : Nat) (F : Nat → σ) (r : ρ) (hend : ∀ n, L (n + 1) (nI N) (F N) = some r)
    (hstep : ∀ n k, k < N → L (n + 1) (nI k) (F k) = L n (nI (k + 1)) (F (k + 1))) : ∀ fuel k, k ≤ N → N - k < fuel → L fuel (nI k) (F k) = some r := by
  intro fuel
  induction fuel with
  | zero => intro k _ h; omega
  | succ n ih =>
    intro k hk hf
    rcases Nat.lt_or_ge k N with h | h
    · rw [hstep n k h]
      exact ih (k + 1) h (by omega)
    · have e : k = N := by omega
      subst e
      exact hend n
/-- loops by a measure -/
theorem loopM {σ ρ : Type} (L : Nat → σ → Option ρ) (μ : σ → Nat) (I : σ → Prop) (Q : ρ → Prop)
    (hs : ∀ n s, I s → (∃ r, L (n + 1) s = some r ∧ Q r) ∨ (∃ s', I s' ∧ μ s' < μ s ∧ L (n + 1) s = L n s')) :
    ∀ fuel s, I s → μ s < fuel → ∃ r, L fuel s = some r ∧ Q r := by
  intro fuel
  induction fuel with
  | zero => intro s _ h; omega
  | succ n ih =>
    intro s hi hf
    rcases hs n s hi with h | ⟨s', h1, h2, h3⟩
    · exact h
    · rw [h3]
      exact ih s' h1 (by omega)
/-- how many bits -/
def pcU (n : Nat) : Nat → Nat
  | 0 => 0
  | k + 1 => pcU n k + (n.testBit k).toNat
def pc (n : Nat) : Nat := pcU n 25
theorem pcU_le (n : Nat) : ∀ k, pcU n k ≤ k
  | 0 => Nat.le_refl _
  | k + 1 => by
    have := pcU_le n k
    have h : (n.testBit k).toNat ≤ 1 := Bool.toNat_le _
    unfold pcU
    omega
theorem pc_le (n : Nat) : pc n ≤ 25 := pcU_le n 25
theorem pcU_mono {a b : Nat} (h : ∀ k, a.testBit k = true → b.testBit k = true) : ∀ k, pcU a k ≤ pcU b k
  | 0 => Nat.le_refl _
  | k + 1 => by
    have h1 := pcU_mono h k
    have h2 := h k
    unfold pcU
    cases ha : a.testBit k
    · simp; omega
    · rw [h2 ha]; omega
theorem pc_mono {a b : Nat} (h : ∀ k, a.testBit k = true → b.testBit k = true) : pc a ≤ pc b := pcU_mono h 25
theorem pcU_lt {a b c : Nat} (h : ∀ k, a.testBit k = true → b.testBit k = true) (h1 : a.testBit c = false) (h2 : b.testBit c = true) : ∀ k, c < k → pcU a k < pcU b k
  | 0, hk => by omega
  | k + 1, hk => by
    unfold pcU
    rcases Nat.lt_or_ge c k with hc | hc
    · have i1 := pcU_lt h h1 h2 k hc
      have i2 := h k
      cases ha : a.testBit k
      · simp; omega
      · rw [i2 ha]; omega
    · have e : c = k := by omega
      subst e
      have i1 := pcU_mono h c
      rw [h1, h2]
      simp
      omega
theorem pc_lt {a b c : Nat} (h : ∀ k, a.testBit k = true → b.testBit k = true) (hc : c < 25) (h1 : a.testBit c = false) (h2 : b.testBit c = true) : pc a < pc b := pcU_lt h h1 h2 25 hc
theorem pcU_z : ∀ k, pcU 0 k = 0
  | 0 => rfl
  | k + 1 => by unfold pcU; rw [pcU_z k, Nat.zero_testBit]; rfl
theorem pc_0 : pc 0 = 0 := pcU_z 25
theorem pc_pos {a : Nat} (h : a < 33554432) (h0 : a ≠ 0) : 0 < pc a := by
  obtain ⟨k, hk⟩ := nz_T h0
  have h25 : k < 25 := by
    rcases Nat.lt_or_ge k 25 with h1 | h1
    · exact h1
    · rw [tb_T h h1] at hk; cases hk
  have := pc_lt (a := 0) (b := a) (c := k) (fun j hj => by rw [Nat.zero_testBit] at hj; cases hj) h25 (Nat.zero_testBit k) hk
  rw [pc_0] at this
  exact this
theorem pc_z {a : Nat} (h : a < 33554432) : pc a = 0 ↔ a = 0 := by
  constructor
  · intro e
    by_cases h0 : a = 0
    · exact h0
    · have := pc_pos h h0; omega
  · rintro rfl; exact pc_0
/-- the lowest bit goes: n & (n - 1) -/
theorem kern (n : Nat) : n ≠ 0 → ∃ c, n.testBit c = true ∧ (∀ j, j < c → n.testBit j = false) ∧ ∀ k, (n &&& (n - 1)).testBit k = (n.testBit k && !decide (k = c)) := by
  induction n using Nat.strongRecOn with
  | ind n ih =>
    intro h0
    rcases Nat.mod_two_eq_zero_or_one n with h | h
    · obtain ⟨c, h1, h2, h3⟩ := ih (n / 2) (by omega) (by omega)
      refine ⟨c + 1, by rw [Nat.testBit_succ]; exact h1, fun j hj => ?_, fun k => ?_⟩
      · cases j with
        | zero => rw [Nat.testBit_zero]; simp; omega
        | succ j => rw [Nat.testBit_succ]; exact h2 j (by omega)
      · cases k with
        | zero =>
          rw [Nat.testBit_and, Nat.testBit_zero]
          simp [h]
        | succ k =>
          have h4 := h3 k
          rw [Nat.testBit_and] at h4
          rw [Nat.testBit_and, Nat.testBit_succ, Nat.testBit_succ, show (n - 1) / 2 = n / 2 - 1 by omega, h4]
          simp
    · refine ⟨0, by rw [Nat.testBit_zero]; simp [h], fun j hj => by omega, fun k => ?_⟩
      cases k with
      | zero =>
        rw [Nat.testBit_and, Nat.testBit_zero, Nat.testBit_zero]
        have : (n - 1) % 2 = 0 := by omega
        simp [this]
      | succ k =>
        rw [Nat.testBit_and, Nat.testBit_succ, Nat.testBit_succ, show (n - 1) / 2 = n / 2 by omega]
        simp
theorem pcU_kern {n a c : Nat} (h : ∀ k, a.testBit k = (n.testBit k && !decide (k = c))) (hc : n.testBit c = true) : ∀ k, (c < k → pcU n k = pcU a k + 1) ∧ (k ≤ c → pcU n k = pcU a k)
  | 0 => ⟨fun h => by omega, fun _ => rfl⟩
  | k + 1 => by
    have i := pcU_kern h hc k
    refine ⟨fun hk => ?_, fun hk => ?_⟩
    · unfold pcU
      rw [h k]
      by_cases e : k = c
      · subst e
        rw [i.2 (Nat.le_refl _), hc]
        simp
      · rw [i.1 (by omega)]
        simp [e]
        omega
    · unfold pcU
      rw [h k, i.2 (by omega)]
      have e : k ≠ c := by omega
      simp [e]
theorem L_manyIn_L : ∀ (m fuel acc n : Nat), n < 33554432 → pc n = m → m < fuel → f_X0_manyIn_L4 fuel (nI n) (nI acc) = some (nI (acc + m)) := by
  intro m
  induction m with
  | zero =>
    intro fuel acc n hn hp hf
    obtain ⟨f, rfl⟩ : ∃ f, fuel = f + 1 := ⟨fuel - 1, by omega⟩
    have e := (pc_z hn).1 hp
    subst e
    rfl
  | succ m ih =>
    intro fuel acc n hn hp hf
    obtain ⟨f, rfl⟩ : ∃ f, fuel = f + 1 := ⟨fuel - 1, by omega⟩
    have h0 : n ≠ 0 := by rintro rfl; rw [pc_0] at hp; omega
    obtain ⟨c, h1, h2, h3⟩ := kern n h0
    have hc : c < 25 := by
      rcases Nat.lt_or_ge c 25 with h | h
      · exact h
      · rw [tb_T hn h] at h1; cases h1
    have hp2 : pc (n &&& (n - 1)) = m := by
      have := (pcU_kern h3 h1 25).1 hc
      unfold pc at hp ⊢
      omega
    rw [f_X0_manyIn_L4, if_neg (by rw [pz_z (by omega)]; exact h0)]
    show f_X0_manyIn_L4 f (nI n &&& (nI n - 1)) (nI acc + 1) = _
    have e1 : nI n - 1 = nI (n - 1) := by
      obtain ⟨q, rfl⟩ : ∃ q, n = q + 1 := ⟨n - 1, by omega⟩
      exact nI_pred q
    rw [e1, pz_and, nI_1, ih f (acc + 1) _ (and_T hn) hp2 (by omega)]
    congr 2
    omega
theorem L_manyIn {n : Nat} (hn : n < 33554432) : f_X0_manyIn (nI n) = some (nI (pc n)) := by
  unfold f_X0_manyIn
  have h := L_manyIn_L (pc n) 1000 0 n hn rfl (by have := pc_le n; omega)
  rw [nI_0] at h
  rw [h, Nat.zero_add]
  rfl
theorem M_bits {n : Nat} (hn : n < 33554432) : f_X9_bits (nI n) = some (nI (pc n)) := by
  unfold f_X9_bits
  have h := loopU (fun f i (a : Int32) => f_X9_bits_L4 (nI n) f i a) 25 (fun k => nI (pcU n k)) (nI (pc n)) (fun f => by
    show f_X9_bits_L4 (nI n) (f + 1) (nI 25) (nI (pcU n 25)) = _
    rw [f_X9_bits_L4, if_pos (by decide)]; rfl) (fun f k hk => by
    show f_X9_bits_L4 (nI n) (f + 1) (nI k) (nI (pcU n k)) = f_X9_bits_L4 (nI n) f (nI (k + 1)) (nI (pcU n (k + 1)))
    rw [f_X9_bits_L4, if_neg (n25 hk)]
    show f_X9_bits_L4 (nI n) f (nI k + 1) (nI (pcU n k) + ((nI n >>> (nI k &&& 31)) &&& 1)) = _
    rw [pz_bit (by omega) (by omega), nI_1]
    congr 1
    rw [pcU]
    cases n.testBit k
    · show nI _ + 0 = nI (_ + 0)
      rw [Nat.add_zero, Int32.add_zero]
    · exact nI_1 _) 1000 0 (by omega) (by omega)
  have h2 : f_X9_bits_L4 (nI n) 1000 0 0 = some (nI (pc n)) := h
  rw [h2]
  rfl
