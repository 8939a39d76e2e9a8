/-! PLAIN LAWS 11: rolling; alike; edges -/
def prm (c : Nat) : Nat := 5 * (c % 5) + 4 - c / 5
theorem prm_lt : ∀ c, c < 25 → prm c < 25 := by decide
theorem prm_e : ∀ c, c < 25 → (((((5 : Int32) * (nI c - nI c / 5 * 5)) + 5) - 1) - (nI c / 5)) = nI (prm c) := by decide +kernel
def rotS (n : Nat) : Nat := orU (fun c => 2 ^ prm c) n 25
theorem rot_T (n : Nat) : rotS n < 33554432 := orU_T (fun c hc => pow_T (prm_lt c hc)) n 25 (by omega)
theorem rot_or (a b : Nat) : rotS (a ||| b) = rotS a ||| rotS b := by
  apply Nat.eq_of_testBit_eq
  intro k
  rw [Bool.eq_iff_iff, Nat.testBit_or, Bool.or_eq_true]
  unfold rotS
  rw [orU_bit, orU_bit, orU_bit]
  constructor
  · rintro ⟨c, h1, h2, h3⟩
    rw [Nat.testBit_or, Bool.or_eq_true] at h2
    rcases h2 with h2 | h2
    · exact Or.inl ⟨c, h1, h2, h3⟩
    · exact Or.inr ⟨c, h1, h2, h3⟩
  · rintro (⟨c, h1, h2, h3⟩ | ⟨c, h1, h2, h3⟩)
    · exact ⟨c, h1, by rw [Nat.testBit_or, h2]; rfl, h3⟩
    · exact ⟨c, h1, by rw [Nat.testBit_or, h2, Bool.or_true], h3⟩
theorem rot4_p : ∀ c, c < 25 → rotS (rotS (rotS (rotS (2 ^ c)))) = 2 ^ c := by decide +kernel
theorem rot4 {n : Nat} (hn : n < 33554432) : rotS (rotS (rotS (rotS n))) = n := by
  have h := orU_hom (G := fun n => rotS (rotS (rotS (rotS n)))) (by decide +kernel) (fun a b _ _ => by
    show rotS (rotS (rotS (rotS (a ||| b)))) = _
    rw [rot_or, rot_or, rot_or, rot_or]) hn
  have h2 := orU_congr (F := fun c => rotS (rotS (rotS (rotS (2 ^ c))))) (G := fun c => 2 ^ c) n 25 (fun c hc => rot4_p c hc)
  have h3 : rotS (rotS (rotS (rotS n))) = orU (fun c => rotS (rotS (rotS (rotS (2 ^ c))))) n 25 := h
  rw [h3, h2, orU_id hn]
theorem rot_inj {a b : Nat} (ha : a < 33554432) (hb : b < 33554432) (h : rotS a = rotS b) : a = b := by rw [← rot4 ha, ← rot4 hb, h]
theorem L_rolled {s : Nat} (hs : s < 33554432) : f_X0_rolled (nI s) = some (nI (rotS s)) := by
  have h := loopU (fun n i (a : Int32) => f_X0_rolled_L4 (nI s) n i a) 25 (fun k => nI (orU (fun c => 2 ^ prm c) s k)) (nI (rotS s)) (fun n => by
    (try dsimp only)
    rw [f_X0_rolled_L4, if_pos (by decide)]
    rfl) (fun n k hk => by
    (try dsimp only)
    have z0 : nI (orU (fun c => 2 ^ prm c) s k) ||| 0 = nI (orU (fun c => 2 ^ prm c) s k ||| 0) := pz_or _ 0
    rw [f_X0_rolled_L4, if_neg (n25 hk)]
    simp only [obs]
    rw [prm_e k hk, L_has (by omega) (by omega), pz_shl1 _ (by have := prm_lt k hk; omega), z0, pz_or, nI_1]
    simp only [obs]
    rw [orU]
    cases s.testBit k
    · rw [if_pos bI_f]; rfl
    · rw [if_neg bI_n0]; rfl) 1000 0 (by omega) (by omega)
  rw [nI_0] at h
  unfold f_X0_rolled
  have h2 : f_X0_rolled_L4 (nI s) 1000 0 0 = some (nI (rotS s)) := h
  rw [h2]
  rfl
theorem bI_shl : ∀ p, p < 25 → bI false <<< (nI p &&& 31) = 0 := by decide +kernel
theorem M_turned {s : Nat} (hs : s < 33554432) : f_X9_turned (nI s) = some (nI (rotS s)) := by
  have h := loopU (fun n i (a : Int32) => f_X9_turned_L4 (nI s) n i a) 25 (fun k => nI (orU (fun c => 2 ^ prm c) s k)) (nI (rotS s)) (fun n => by
    (try dsimp only)
    rw [f_X9_turned_L4, if_pos (by decide)]
    rfl) (fun n k hk => by
    (try dsimp only)
    have z0 : nI (orU (fun c => 2 ^ prm c) s k) ||| 0 = nI (orU (fun c => 2 ^ prm c) s k ||| 0) := pz_or _ 0
    have hp := prm_lt k hk
    rw [f_X9_turned_L4, if_neg (n25 hk)]
    simp only [obs]
    rw [prm_e k hk, pz_bit (by omega) (by omega), nI_1, orU]
    cases s.testBit k
    · rw [bI_shl _ hp, z0]; rfl
    · rw [bI_t, pz_shl1 _ (by omega), pz_or]; rfl) 1000 0 (by omega) (by omega)
  rw [nI_0] at h
  unfold f_X9_turned
  have h2 : f_X9_turned_L4 (nI s) 1000 0 0 = some (nI (rotS s)) := h
  rw [h2]
  rfl
def rotN (s : Nat) : Nat → Nat
  | 0 => s
  | q + 1 => rotS (rotN s q)
theorem rotN_T {s : Nat} (hs : s < 33554432) : ∀ q, rotN s q < 33554432
  | 0 => hs
  | q + 1 => rot_T _
theorem M_turnedBy {s q : Nat} (hs : s < 33554432) (hq : q < 100) : f_X9_turnedBy (nI s) (nI q) = some (nI (rotN s q)) := by
  have h := loopU (fun n i (a : Int32) => f_X9_turnedBy_L4 (nI q) n i a) q (fun k => nI (rotN s k)) (nI (rotN s q)) (fun n => by
    (try dsimp only)
    rw [f_X9_turnedBy_L4, if_pos (nI_le (Nat.le_refl q) (by omega))]) (fun n k hk => by
    (try dsimp only)
    rw [f_X9_turnedBy_L4, if_neg (nI_ge hk (by omega)), M_turned (rotN_T hs k), nI_1]
    rfl) 1000 0 (by omega) (by omega)
  rw [nI_0] at h
  unfold f_X9_turnedBy
  have h2 : f_X9_turnedBy_L4 (nI q) 1000 0 (nI s) = some (nI (rotN s q)) := h
  rw [h2]
  rfl
theorem L_roll {cv : CV} {s q : Nat} (hs : s < 33554432) (hl : cG_left cv = nI s) (hq : q < 100) : f_X8_roll cv (nI q) = some (cvL cv (rotN s q)) := by
  have h := loopU (fun n i (a : Int32) => f_X8_roll_L7 (nI q) n i a) q (fun k => nI (rotN s k)) (nI (rotN s q)) (fun n => by
    (try dsimp only)
    rw [f_X8_roll_L7, if_pos (nI_le (Nat.le_refl q) (by omega))]) (fun n k hk => by
    (try dsimp only)
    rw [f_X8_roll_L7, if_neg (nI_ge hk (by omega)), L_rolled (rotN_T hs k), nI_1]
    rfl) 1000 0 (by omega) (by omega)
  rw [nI_0] at h
  unfold f_X8_roll
  rw [hl]
  simp only [obs]
  have h2 : f_X8_roll_L7 (nI q) 1000 0 (nI s) = some (nI (rotN s q)) := h
  rw [h2]
  simp only [obs]
  rw [L_leave _ (rotN_T hs q)]
  rfl
/-- the least of the four, how many are unlike -/
def mnU (s : Nat) : Nat → Nat
  | 0 => s
  | k + 1 => if rotN s (k + 1) < mnU s k then rotN s (k + 1) else mnU s k
theorem mnU_T {s : Nat} (hs : s < 33554432) : ∀ k, mnU s k < 33554432
  | 0 => hs
  | k + 1 => by
    unfold mnU
    split
    · exact rotN_T hs _
    · exact mnU_T hs k
def neP (s k o : Nat) : Bool := decide (rotN s o ≠ rotN s k)
def unU (s : Nat) : Nat → Nat
  | 0 => 1
  | k + 1 => unU s k + (allU (neP s (k + 1)) (k + 1)).toNat
theorem unU_le (s : Nat) : ∀ k, unU s k ≤ k + 1
  | 0 => Nat.le_refl _
  | k + 1 => by
    have h1 := unU_le s k
    have h2 : (allU (neP s (k + 1)) (k + 1)).toNat ≤ 1 := Bool.toNat_le _
    unfold unU
    omega
theorem unU_3 {s : Nat} (hs : s < 33554432) : unU s 3 = if rotN s 1 = s then 1 else if rotN s 2 = s then 2 else 4 := by
  have i1 : rotN s 1 = rotN s 2 ↔ rotN s 0 = rotN s 1 := ⟨fun h => rot_inj hs (rotN_T hs 1) h, fun h => congrArg rotS h⟩
  have i2 : rotN s 2 = rotN s 3 ↔ rotN s 1 = rotN s 2 := ⟨fun h => rot_inj (rotN_T hs 1) (rotN_T hs 2) h, fun h => congrArg rotS h⟩
  have i3 : rotN s 1 = rotN s 3 ↔ rotN s 0 = rotN s 2 := ⟨fun h => rot_inj hs (rotN_T hs 2) h, fun h => congrArg rotS h⟩
  have i4 : rotN s 0 = rotN s 3 → rotN s 0 = rotN s 1 := fun h => by
    have h2 : rotN s 1 = rotN s 4 := congrArg rotS h
    have h3 : rotN s 4 = s := rot4 hs
    rw [h2, h3]; rfl
  have e0 : rotN s 0 = s := rfl
  rw [e0] at i1 i3 i4
  simp only [unU, allU, neP, e0, Nat.zero_add]
  by_cases h1 : s = rotN s 1
  · have a2 : rotN s 1 = rotN s 2 := i1.2 h1
    have a3 : rotN s 2 = rotN s 3 := i2.2 a2
    rw [if_pos h1.symm]
    simp [← a3, ← a2, ← h1]
  · rw [if_neg (fun z => h1 z.symm)]
    by_cases h2 : s = rotN s 2
    · have a3 : rotN s 1 = rotN s 3 := i3.2 h2
      rw [if_pos h2.symm]
      simp [h1, ← h2, ← a3]
    · rw [if_neg (fun z => h2 z.symm)]
      have b1 : rotN s 1 ≠ rotN s 2 := fun z => h1 (i1.1 z)
      have b2 : rotN s 2 ≠ rotN s 3 := fun z => b1 (i2.1 z)
      have b3 : rotN s 1 ≠ rotN s 3 := fun z => h2 (i3.1 z)
      have b4 : s ≠ rotN s 3 := fun z => h1 (i4 z)
      simp [h1, h2, b1, b2, b3, b4]
def alikeS (s : Nat) (what : Int32) : Int32 := if what = 0 then nI (unU s 3) else nI (mnU s 3)
theorem M_alike {g : MS} {s : Nat} {what : Int32} (hs : s < 33554432) (hl : mG_left g = nI s) (hw : what = 0 ∨ what = 1) :
    (Option.bind (some ((mG_left g) : Int32)) fun v3 => Option.bind (f_X9_alike_L23 g 1000 1 v3) fun o4 => if what = 1 then some (o4, g) else Option.bind (f_X9_turnedBy (mG_left g) 1) fun o10 => if o10 = (mG_left g) then some (1, g) else Option.bind (f_X9_turnedBy (mG_left g) 2) fun o12 => if o12 = (mG_left g) then some (2, g) else some (4, g)) = some (alikeS s what, g) := by
  have h := loopU (fun n i (a : Int32) => f_X9_alike_L23 g n i a) 4 (fun k => nI (mnU s (k - 1))) (nI (mnU s 3)) (fun n => by
    (try dsimp only)
    rw [f_X9_alike_L23, if_pos (by decide)]) (fun n k hk => by
    (try dsimp only)
    rw [f_X9_alike_L23, if_neg (n4 hk), hl, M_turnedBy hs (by omega), nI_1]
    simp only [obs]
    unfold f_X9_least
    have t1 := rotN_T hs k
    have t2 := mnU_T hs (k - 1)
    cases k with
    | zero =>
      show Option.bind (if nI s ≤ nI s then some (nI s) else some (nI s)) _ = _
      rw [if_pos (nI_le (Nat.le_refl s) (by omega))]
      rfl
    | succ k =>
      show Option.bind (if nI (rotN s (k + 1)) ≤ nI (mnU s k) then some (nI (rotN s (k + 1))) else some (nI (mnU s k))) (fun o7 => f_X9_alike_L23 g n (nI (k + 1 + 1)) o7) = f_X9_alike_L23 g n (nI (k + 1 + 1)) (nI (mnU s (k + 1)))
      have t3 := mnU_T hs k
      rw [mnU]
      by_cases e : rotN s (k + 1) < mnU s k
      · rw [if_pos (nI_le (by omega) (by omega)), if_pos e]
        rfl
      · rw [if_neg e]
        by_cases e2 : rotN s (k + 1) = mnU s k
        · rw [e2, if_pos (nI_le (Nat.le_refl _) (by omega))]
          rfl
        · rw [if_neg (nI_ge (by omega) (by omega))]
          rfl) 1000 1 (by omega) (by omega)
  have h1 : f_X9_alike_L23 g 1000 1 (nI s) = some (nI (mnU s 3)) := h
  have t1 : f_X9_turnedBy (nI s) 1 = some (nI (rotN s 1)) := M_turnedBy (q := 1) hs (by omega)
  have t2 : f_X9_turnedBy (nI s) 2 = some (nI (rotN s 2)) := M_turnedBy (q := 2) hs (by omega)
  have r1 := rotN_T hs 1
  have r2 := rotN_T hs 2
  have e1 : nI (rotN s 1) = nI s ↔ rotN s 1 = s := nI_eq (by omega) (by omega)
  have e2 : nI (rotN s 2) = nI s ↔ rotN s 2 = s := nI_eq (by omega) (by omega)
  rw [hl]
  simp only [obs]
  rw [h1]
  simp only [obs]
  rw [t1]
  simp only [obs]
  rw [t2]
  simp only [obs]
  simp only [e1, e2]
  unfold alikeS
  rcases hw with rfl | rfl
  · rw [if_neg (by decide), if_pos rfl, unU_3 hs]
    by_cases c1 : rotN s 1 = s
    · rw [if_pos c1, if_pos c1]; rfl
    · rw [if_neg c1, if_neg c1]
      by_cases c2 : rotN s 2 = s
      · rw [if_pos c2, if_pos c2]; rfl
      · rw [if_neg c2, if_neg c2]; rfl
  · rw [if_pos rfl, if_neg (by decide)]
theorem L_alike {x : XS} {s : Nat} {what : Int32} (hs : s < 33554432) (hl : cG_left (xG_core0 x) = nI s) :
    (Option.bind (some ((cG_left (xG_core0 x)) : Int32)) fun v2 => Option.bind (some ((upd arr0 (Int32.toNatClampNeg (0 : Int32)) v2))) fun ta3 => Option.bind (some ((ta3 (Int32.toNatClampNeg (0 : Int32))) : Int32)) fun v4 => Option.bind (f_X0_alikeTold_L28 1000 1 1 v4 x ta3) fun o5 => if what = 0 then some (Sum.inl (o5.1, o5.2.2.1)) else some (Sum.inl (o5.2.1, o5.2.2.1))) = (some (Sum.inl (alikeS s what, x)) : Option ((Int32 × XS) ⊕ (Int32 × XS))) := by
  have key := loopI (fun n i (q : Int32 × Int32 × (Nat → Int32)) => f_X0_alikeTold_L28 n i q.1 q.2.1 x q.2.2) 4 (fun k q => 1 ≤ k ∧ q.1 = nI (unU s (k - 1)) ∧ q.2.1 = nI (mnU s (k - 1)) ∧ ∀ j, j < k → q.2.2 j = nI (rotN s j)) (fun r => r.1 = nI (unU s 3) ∧ r.2.1 = nI (mnU s 3) ∧ r.2.2.1 = x) (by
    rintro n k ⟨q1, q2, ta⟩ hk ⟨i0, i1, i2, i3⟩
    (try dsimp only at i1 i2 i3 ⊢)
    subst i1 i2
    rcases Nat.lt_or_ge k 4 with hlt | hge
    · right
      refine ⟨hlt, ?_⟩
      obtain ⟨j, rfl⟩ : ∃ j, k = j + 1 := ⟨k - 1, by omega⟩
      have hin1 : ¬ (nI j < 0 ∨ 4 ≤ Int32.toNatClampNeg (nI j)) := nIn (by omega) (by omega)
      have hcl1 : Int32.toNatClampNeg (nI j) = j := nI_clamp (by omega)
      have hin2 : ¬ (nI (j + 1) < 0 ∨ 4 ≤ Int32.toNatClampNeg (nI (j + 1))) := nIn hlt (by omega)
      have hcl2 : Int32.toNatClampNeg (nI (j + 1)) = j + 1 := nI_clamp (by omega)
      have t1 := rotN_T hs (j + 1)
      have t2 := mnU_T hs j
      have hta : ∀ o, o < j + 2 → upd ta (j + 1) (nI (rotN s (j + 1))) o = nI (rotN s o) := by
        intro o ho
        by_cases e : o = j + 1
        · rw [e, pk_us]
        · rw [pk_un e]
          exact i3 o (by omega)
      have inner : f_X0_alikeTold_L62 (nI (j + 1)) (upd ta (j + 1) (nI (rotN s (j + 1)))) 1000 0 1 = some (bI (allU (neP s (j + 1)) (j + 1))) := by
        have h := loopU (fun n i (a : Int32) => f_X0_alikeTold_L62 (nI (j + 1)) (upd ta (j + 1) (nI (rotN s (j + 1)))) n i a) (j + 1) (fun o => bI (allU (neP s (j + 1)) o)) (bI (allU (neP s (j + 1)) (j + 1))) (fun n => by
          (try dsimp only)
          rw [f_X0_alikeTold_L62, if_pos (nI_le (Nat.le_refl _) (by omega))]) (fun n o ho => by
          (try dsimp only)
          have hin3 : ¬ (nI o < 0 ∨ 4 ≤ Int32.toNatClampNeg (nI o)) := nIn (by omega) (by omega)
          have hcl3 : Int32.toNatClampNeg (nI o) = o := nI_clamp (by omega)
          have t3 := rotN_T hs o
          have he : nI (rotN s o) = nI (rotN s (j + 1)) ↔ rotN s o = rotN s (j + 1) := nI_eq (by omega) (by omega)
          rw [f_X0_alikeTold_L62, if_neg (nI_ge ho (by omega)), if_neg hin3, if_neg hin2, hcl3, hcl2, hta o (by omega), hta (j + 1) (by omega)]
          simp only [obs]
          simp only [he]
          rw [nI_1 o, allU, neP, bI_and1, bI_and0]
          by_cases e : rotN s o = rotN s (j + 1)
          · rw [if_pos e, decide_eq_false (fun z => z e), Bool.and_false]; rfl
          · rw [if_neg e, decide_eq_true e, Bool.and_true]) 1000 0 (by omega) (by omega)
        rw [nI_0] at h
        exact h
      refine ⟨(nI (unU s (j + 1)), nI (mnU s (j + 1)), upd ta (j + 1) (nI (rotN s (j + 1)))), ⟨by omega, rfl, rfl, hta⟩, ?_⟩
      rw [f_X0_alikeTold_L28, if_neg (n4 hlt), nI_pred, if_neg hin1, hcl1, i3 j (by omega), L_rolled (rotN_T hs j)]
      simp only [obs]
      rw [if_neg hin2, if_neg hin2, hcl2, show rotS (rotN s j) = rotN s (j + 1) from rfl]
      rw [pk_us, inner]
      simp only [obs]
      rw [Int32.add_zero, nI_1 (j + 1), nI_1]
      show (if bI (allU (neP s (j + 1)) (j + 1)) = 0 then f_X0_alikeTold_L28 n (nI (j + 1 + 1)) (nI (unU s j)) (if nI (rotN s (j + 1)) < nI (mnU s j) then nI (rotN s (j + 1)) else nI (mnU s j)) x (upd ta (j + 1) (nI (rotN s (j + 1)))) else f_X0_alikeTold_L28 n (nI (j + 1 + 1)) (nI (unU s j + 1)) (if nI (rotN s (j + 1)) < nI (mnU s j) then nI (rotN s (j + 1)) else nI (mnU s j)) x (upd ta (j + 1) (nI (rotN s (j + 1))))) = _
      have hmn : (if nI (rotN s (j + 1)) < nI (mnU s j) then nI (rotN s (j + 1)) else nI (mnU s j)) = nI (mnU s (j + 1)) := by
        rw [mnU]
        by_cases e : rotN s (j + 1) < mnU s j
        · rw [if_pos (nI_lt e (by omega)), if_pos e]
        · rw [if_neg (nI_nlt (by omega) (by omega)), if_neg e]
      rw [hmn, unU]
      cases allU (neP s (j + 1)) (j + 1)
      · rw [if_pos bI_f]; rfl
      · rw [if_neg bI_n0]; rfl
    · left
      have e : k = 4 := by omega
      subst e
      refine ⟨(nI (unU s 3), nI (mnU s 3), x, ta), ?_, rfl, rfl, rfl⟩
      rw [f_X0_alikeTold_L28, if_pos (by decide)]) 1000 1 (1, nI s, upd arr0 0 (nI s)) (by omega) ⟨by omega, rfl, rfl, fun j hj => by
        have e : j = 0 := by omega
        rw [e]
        show upd arr0 0 (nI s) 0 = nI s
        exact pk_us⟩ (by omega)
  obtain ⟨r, h1, h2, h3, h4⟩ := key
  rw [hl]
  simp only [obs]
  show (Option.bind (f_X0_alikeTold_L28 1000 1 1 (nI s) x (upd arr0 0 (nI s))) fun o5 => _) = _
  have h1' : f_X0_alikeTold_L28 1000 1 1 (nI s) x (upd arr0 0 (nI s)) = some r := h1
  rw [h1']
  simp only [obs]
  rw [h2, h3, h4]
  unfold alikeS
  split <;> rfl
/-- free sides -/
def toS (c w : Nat) : Option Nat := if w = 0 then (if c < 5 then none else some (c - 5)) else if w = 1 then (if c % 5 = 0 then none else some (c - 1)) else if w = 2 then (if c % 5 = 4 then none else some (c + 1)) else (if 20 ≤ c then none else some (c + 5))
theorem L_beside : ∀ c, c < 25 → ∀ w, w < 4 → f_X0_beside (nI c) (nI w) = some (encV (toS c w)) := by decide +kernel
theorem toS_lt : ∀ c, c < 25 → ∀ w, w < 4 → (toS c w).all (fun d => decide (d < 25)) = true := by decide +kernel
def toB (c w : Nat) : Nat := match toS c w with
  | none => 0
  | some d => 2 ^ d
theorem adj_to : ∀ c, c < 25 → adj c = ((toB c 0 ||| toB c 1) ||| toB c 2) ||| toB c 3 := by decide +kernel
theorem to_d1 : ∀ c, c < 25 → toB c 0 &&& toB c 1 = 0 := by decide +kernel
theorem to_d2 : ∀ c, c < 25 → (toB c 0 ||| toB c 1) &&& toB c 2 = 0 := by decide +kernel
theorem to_d3 : ∀ c, c < 25 → ((toB c 0 ||| toB c 1) ||| toB c 2) &&& toB c 3 = 0 := by decide +kernel
def fwP (s c w : Nat) : Bool := match toS c w with
  | none => true
  | some d => !s.testBit d
theorem pcU_or {a b : Nat} (h : a &&& b = 0) : ∀ k, pcU (a ||| b) k = pcU a k + pcU b k
  | 0 => rfl
  | k + 1 => by
    have h2 : (a &&& b).testBit k = false := by rw [h, Nat.zero_testBit]
    rw [Nat.testBit_and] at h2
    unfold pcU
    rw [pcU_or h k, Nat.testBit_or]
    cases h3 : a.testBit k
    · simp; omega
    · rw [h3, Bool.true_and] at h2
      rw [h2]
      simp
      omega
theorem pc_dj {a b s : Nat} (h : a &&& b = 0) : pc ((a ||| b) &&& s) = pc (a &&& s) + pc (b &&& s) := by
  rw [Nat.and_or_distrib_right]
  refine pcU_or ?_ 25
  apply Nat.eq_of_testBit_eq
  intro k
  have h2 : (a &&& b).testBit k = false := by rw [h, Nat.zero_testBit]
  rw [Nat.testBit_and] at h2
  rw [Nat.testBit_and, Nat.testBit_and, Nat.testBit_and, Nat.zero_testBit]
  revert h2
  cases a.testBit k <;> cases b.testBit k <;> simp
theorem pc_pow : ∀ d, d < 25 → pc (2 ^ d) = 1 := by decide +kernel
theorem pc_to {s c w : Nat} (hc : c < 25) (hw : w < 4) : pc (toB c w &&& s) + (fwP s c w).toNat = 1 := by
  have h := toS_lt c hc w hw
  unfold toB fwP
  cases e : toS c w with
  | none =>
    show pc (0 &&& s) + 1 = 1
    rw [Nat.zero_and, pc_0]
  | some d =>
    rw [e] at h
    have hd : d < 25 := of_decide_eq_true h
    show pc (2 ^ d &&& s) + (!s.testBit d).toNat = 1
    cases e2 : s.testBit d
    · rw [and_pow0 e2, pc_0]; rfl
    · rw [and_pow e2, pc_pow d hd]; rfl
theorem sides4 {s c : Nat} (hc : c < 25) : pc (adj c &&& s) + cntU (fwP s c) 4 = 4 := by
  have h0 := pc_to (s := s) hc (show 0 < 4 by omega)
  have h1 := pc_to (s := s) hc (show 1 < 4 by omega)
  have h2 := pc_to (s := s) hc (show 2 < 4 by omega)
  have h3 := pc_to (s := s) hc (show 3 < 4 by omega)
  rw [adj_to c hc, pc_dj (to_d3 c hc), pc_dj (to_d2 c hc), pc_dj (to_d1 c hc)]
  simp only [cntU]
  omega
def siU (s : Nat) : Nat → Nat
  | 0 => 0
  | c + 1 => siU s c + (if s.testBit c then cntU (fwP s c) 4 else 0)
theorem L_sides {x : XS} {s : Nat} (hs : s < 33554432) (hl : cG_left (xG_core0 x) = nI s) : f_X0_sides x = some (nI (siU s 25)) := by
  have inner : ∀ c a, c < 25 → f_X0_sides_L12 x (nI c) 1000 0 (nI a) = some (nI (a + (if s.testBit c then cntU (fwP s c) 4 else 0))) := by
    intro c a hc
    cases e : s.testBit c
    · rw [show (1000 : Nat) = 999 + 1 from rfl, f_X0_sides_L12, if_neg (by decide), hl, L_has (by omega) (by omega), e]
      simp only [obs]
      rw [if_pos bI_f]
      rfl
    · have h := loopU (fun n i (q : Int32) => f_X0_sides_L12 x (nI c) n i q) 4 (fun w => nI (a + cntU (fwP s c) w)) (nI (a + cntU (fwP s c) 4)) (fun n => by
        (try dsimp only)
        rw [f_X0_sides_L12, if_pos (by decide)]) (fun n w hw => by
        (try dsimp only)
        have ht := toS_lt c hc w hw
        rw [f_X0_sides_L12, if_neg (n4 hw), hl, L_has (by omega) (by omega), e, L_beside c hc w hw]
        simp only [obs]
        rw [if_neg bI_n0, nI_1, nI_1, Int32.add_zero, cntU, fwP]
        cases e2 : toS c w with
        | none => rw [if_pos (by rfl)]; rfl
        | some d =>
          rw [e2] at ht
          have hd : d < 25 := of_decide_eq_true ht
          have hh : f_X0_has (nI s) (encV (some d)) = some (bI (s.testBit d)) := L_has (by omega) (by omega)
          rw [if_neg (show ¬ encV (some d) = -9 from nI_m9 (by omega)), hh]
          simp only [obs]
          cases s.testBit d
          · rw [if_pos bI_f]; rfl
          · rw [if_neg bI_n0]; rfl) 1000 0 (by omega) (by omega)
      rw [nI_0] at h
      exact h
  have h := loopU (fun n i (q : Int32) => f_X0_sides_L4 x n i q) 25 (fun c => nI (siU s c)) (nI (siU s 25)) (fun n => by
    (try dsimp only)
    rw [f_X0_sides_L4, if_pos (by decide)]) (fun n c hc => by
    (try dsimp only)
    rw [f_X0_sides_L4, if_neg (n25 hc), inner c _ hc, nI_1]
    rfl) 1000 0 (by omega) (by omega)
  rw [nI_0] at h
  unfold f_X0_sides
  have h2 : f_X0_sides_L4 x 1000 0 0 = some (nI (siU s 25)) := h
  rw [h2]
  rfl
theorem M_sides {g : MS} {s : Nat} (hs : s < 33554432) (hl : mG_left g = nI s) : f_X9_edge_L35 g 1000 0 0 = some (nI (siU s 25)) := by
  have h := loopU (fun n i (q : Int32) => f_X9_edge_L35 g n i q) 25 (fun c => nI (siU s c)) (nI (siU s 25)) (fun n => by
    (try dsimp only)
    rw [f_X9_edge_L35, if_pos (by decide)]) (fun n c hc => by
    (try dsimp only)
    have h4 := sides4 (s := s) hc
    rw [f_X9_edge_L35, if_neg (n25 hc), hl, M_has (by omega) (by omega), pz_shl1 c (by omega), M_besideOf (pow_T hc)]
    simp only [obs]
    rw [pz_and, nbr_p c hc, M_bits (and_T (adj_T c hc))]
    simp only [obs]
    have e4 : (4 : Int32) - nI (pc (adj c &&& s)) = nI (4 - pc (adj c &&& s)) := pk_sub (a := 4) (by omega)
    rw [e4, nI_add, nI_1, Int32.add_zero, siU, show 4 - pc (adj c &&& s) = cntU (fwP s c) 4 by omega]
    cases s.testBit c
    · rw [if_pos bI_f]; rfl
    · rw [if_neg bI_n0]; rfl) 1000 0 (by omega) (by omega)
  rw [nI_0] at h
  exact h
/-- holes -/
def gonS (s : Nat) : Nat := dif 33554431 s
theorem gon_T (s : Nat) : gonS s < 33554432 := dif_T (by decide)
theorem gon_e (s : Nat) : (33554431 : Int32) &&& (nI s ^^^ (-1)) = nI (gonS s) := pz_dif 33554431 s
def hoP (h : Nat) : Bool := decide (h &&& 33080895 = 0)
def hoF (l : List Nat) (n : Nat) : Nat := l.foldl (fun n h => n + (hoP h).toNat) n
theorem M_border : f_X9_border = some (nI 33080895) := by decide +kernel
theorem L_isBorder : ∀ o, o < 25 → f_X0_isBorder (nI o) = some (bI ((33080895 : Nat).testBit o)) := by decide +kernel
theorem M_holes {s : Nat} (hs : s < 33554432) : f_X9_edge_L89 (nI s) 1000 (nI s) 0 = some (nI (hoF (hps s) 0)) := by
  have key : ∀ (f fuel r n : Nat), r < 33554432 → (∀ k, r.testBit k = true → s.testBit k = true) → pc r ≤ f → f < fuel → f_X9_edge_L89 (nI s) fuel (nI r) (nI n) = some (nI (hoF (cps s f r) n)) := by
    intro f
    induction f with
    | zero =>
      intro fuel r n hr _ hp hf
      obtain ⟨g, rfl⟩ : ∃ g, fuel = g + 1 := ⟨fuel - 1, by omega⟩
      have e : r = 0 := (pc_z hr).1 (by omega)
      subst e
      rw [f_X9_edge_L89, if_pos nI_0]
      rfl
    | succ f ih =>
      intro fuel r n hr hsub hp hf
      obtain ⟨g, rfl⟩ : ∃ g, fuel = g + 1 := ⟨fuel - 1, by omega⟩
      unfold cps
      by_cases h0 : r = 0
      · subst h0
        rw [if_pos rfl, f_X9_edge_L89, if_pos nI_0]
        rfl
      · obtain ⟨h1, h2, h3⟩ := low_spec hr h0
        obtain ⟨h4, h5⟩ := cps_rest (s := s) hr h0
        have hT := hS_T (s := s) h3
        rw [if_neg h0, f_X9_edge_L89, if_neg (by rw [pz_z (by omega)]; exact h0), M_leastOf hr h0]
        simp only [obs]
        rw [M_heapOf hs h3, if_pos (hsub _ h1)]
        simp only [obs]
        rw [M_border]
        simp only [obs]
        rw [pz_and, pz_dif]
        have hb : (if nI (hS s (low r) &&& 33080895) = 0 then some (1 : Int32) else some 0) = some (bI (hoP (hS s (low r)))) := by
          unfold hoP
          have hz : nI (hS s (low r) &&& 33080895) = 0 ↔ hS s (low r) &&& 33080895 = 0 := pz_z (by have := and_T (b := 33080895) hT; omega)
          by_cases e : hS s (low r) &&& 33080895 = 0
          · rw [if_pos (hz.2 e), decide_eq_true e]; rfl
          · rw [if_neg (fun z => e (hz.1 z)), decide_eq_false e]; rfl
        rw [hb]
        simp only [obs]
        rw [bt_add, ih g _ _ h4 (fun k hk => by rw [tb_dif, Bool.and_eq_true] at hk; exact hsub k hk.1) (by omega) (by omega)]
        rfl
  have h := key 25 1000 s 0 hs (fun _ h => h) (pc_le s) (by omega)
  rw [nI_0] at h
  exact h
theorem inside_e {h : Nat} (hT : h < 33554432) : allU (fun o => !(h.testBit o && (33080895 : Nat).testBit o)) 25 = hoP h := by
  have key : ∀ k, allU (fun o => !(h.testBit o && (33080895 : Nat).testBit o)) k = true ↔ ∀ o, o < k → (h &&& 33080895).testBit o = false := by
    intro k
    induction k with
    | zero => exact ⟨fun _ o ho => by omega, fun _ => rfl⟩
    | succ k ih =>
      unfold allU
      rw [Bool.and_eq_true, ih]
      constructor
      · rintro ⟨h1, h2⟩ o ho
        by_cases e : o = k
        · rw [e, Nat.testBit_and]
          revert h2
          cases (h.testBit k && (33080895 : Nat).testBit k) <;> simp
        · exact h1 o (by omega)
      · intro h1
        refine ⟨fun o ho => h1 o (by omega), ?_⟩
        have := h1 k (by omega)
        rw [Nat.testBit_and] at this
        rw [this]
        rfl
  unfold hoP
  rw [Bool.eq_iff_iff, key 25, decide_eq_true_eq]
  constructor
  · intro h1
    exact z_T (and_T hT) h1
  · intro h1 o _
    rw [h1, Nat.zero_testBit]
theorem L_holes {x : XS} {s : Nat} (hl : cG_left (xG_core0 x) = nI s) : f_X0_holes x = some (nI (hoF (hps (gonS s)) 0)) := by
  have hs := gon_T s
  have inside : ∀ h, h < 33554432 → f_X0_holes_L55 (nI h) 1000 0 1 = some (bI (hoP h)) := by
    intro h hT
    have hh := loopU (fun n i (q : Int32) => f_X0_holes_L55 (nI h) n i q) 25 (fun o => bI (allU (fun o => !(h.testBit o && (33080895 : Nat).testBit o)) o)) (bI (hoP h)) (fun n => by
      (try dsimp only)
      rw [f_X0_holes_L55, if_pos (by decide), inside_e hT]) (fun n o ho => by
      (try dsimp only)
      rw [f_X0_holes_L55, if_neg (n25 ho), L_has (by omega) (by omega), L_isBorder o ho]
      simp only [obs]
      rw [nI_1, bI_and1, bI_and0, allU]
      cases h.testBit o
      · rw [if_pos bI_f]
        simp
      · rw [if_neg bI_n0]
        cases (33080895 : Nat).testBit o
        · rw [if_pos bI_f]; simp
        · rw [if_neg bI_n0]
          simp only [Bool.and_true, Bool.not_true, Bool.and_false]
          rfl) 1000 0 (by omega) (by omega)
    rw [nI_0] at hh
    exact hh
  have key : ∀ (d fuel c r f n : Nat), c + d = 25 → d < fuel → r < 33554432 → (∀ j, j < c → r.testBit j = false) → (∀ k, r.testBit k = true → (gonS s).testBit k = true) → pc r ≤ f → f_X0_holes_L17 x fuel (nI c) (nI n) (nI r) = some (nI (hoF (cps (gonS s) f r) n)) := by
    intro d
    induction d with
    | zero =>
      intro fuel c r f n hc hf hr hlow hsub hp
      obtain ⟨g, rfl⟩ : ∃ g, fuel = g + 1 := ⟨fuel - 1, by omega⟩
      have e : c = 25 := by omega
      subst e
      have e : r = 0 := z_T hr hlow
      subst e
      rw [f_X0_holes_L17, if_pos (by decide)]
      cases f with
      | zero => rfl
      | succ f => unfold cps; rw [if_pos rfl]; rfl
    | succ d ih =>
      intro fuel c r f n hc hf hr hlow hsub hp
      obtain ⟨g, rfl⟩ : ∃ g, fuel = g + 1 := ⟨fuel - 1, by omega⟩
      rw [f_X0_holes_L17, if_neg (n25 (by omega)), L_has (by omega) (by omega)]
      simp only [obs]
      cases e : r.testBit c
      · rw [if_pos bI_f, nI_1]
        exact ih g (c + 1) r f n (by omega) (by omega) hr (fun j hj => by
          by_cases e2 : j = c
          · subst e2; exact e
          · exact hlow j (by omega)) hsub hp
      · have h0 : r ≠ 0 := by
          intro z
          rw [z, Nat.zero_testBit] at e
          cases e
        have hlw : low r = c := low_of e hlow (by omega)
        obtain ⟨h4, h5⟩ := cps_rest (s := gonS s) hr h0
        rw [hlw] at h4 h5
        have hT := hS_T (s := gonS s) (c := c) (by omega)
        obtain ⟨f', rfl⟩ : ∃ f', f = f' + 1 := ⟨f - 1, by have := pc_pos hr h0; omega⟩
        rw [if_neg bI_n0, hl, gon_e, L_heapOf hs (by omega)]
        simp only [obs]
        rw [inside _ hT]
        simp only [obs]
        have ih' := ih g (c + 1) (dif r (hS (gonS s) c)) f' (n + (hoP (hS (gonS s) c)).toNat) (by omega) (by omega) h4 (fun j hj => by
          rw [tb_dif]
          by_cases e2 : j = c
          · subst e2; rw [hS_self, e]; rfl
          · rw [hlow j (by omega)]; rfl) (fun k hk => by rw [tb_dif, Bool.and_eq_true] at hk; exact hsub k hk.1) (by omega)
        have hcp : cps (gonS s) (f' + 1) r = hS (gonS s) c :: cps (gonS s) f' (dif r (hS (gonS s) c)) := by rw [cps, if_neg h0, hlw]
        rw [hcp, pz_dif, nI_1, nI_1, Int32.add_zero]
        show _ = some (nI (hoF (cps (gonS s) f' (dif r (hS (gonS s) c))) (n + (hoP (hS (gonS s) c)).toNat)))
        rw [← ih']
        cases hoP (hS (gonS s) c)
        · rw [if_pos bI_f]; rfl
        · rw [if_neg bI_n0]; rfl
  unfold f_X0_holes
  rw [hl, gon_e]
  simp only [obs]
  have h := key 25 1000 0 (gonS s) 25 0 (by omega) (by omega) hs (fun j hj => by omega) (fun _ h => h) (pc_le _)
  rw [nI_0] at h
  rw [h]
  rfl
