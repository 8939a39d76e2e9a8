/-! PLAIN LAWS 2: bites, neighbours, what hangs together -/
/-- the cells of a shape at a cell, as bits; 0 where it does not fit -/
def bitS (sh c : Nat) : Nat := if (sh % 2 = 1 ∧ c % 5 = 4) ∨ (2 ≤ sh ∧ 20 ≤ c) then 0 else 2 ^ c + (if sh % 2 = 1 then 2 ^ (c + 1) else 0) + (if 2 ≤ sh then 2 ^ (c + 5) else 0) + (if sh = 3 then 2 ^ (c + 6) else 0)
theorem L_cellsOf : ∀ sh, sh < 4 → ∀ c, c < 25 → f_X0_cellsOf (nI sh) (nI c) = some (nI (bitS sh c)) := by decide +kernel
theorem M_bite : ∀ sh, sh < 4 → ∀ c, c < 25 → f_X9_bite (nI sh) (nI c) = some (nI (bitS sh c)) := by decide +kernel
theorem bitS_T : ∀ sh, sh < 4 → ∀ c, c < 25 → bitS sh c < 33554432 := by decide +kernel
theorem bitS_0 : ∀ c, c < 25 → bitS 0 c = 2 ^ c := by decide +kernel
theorem bitS_low : ∀ sh, sh < 4 → ∀ c, c < 25 → bitS sh c ≠ 0 → (bitS sh c).testBit c = true := by decide +kernel
/-- it can be bitten -/
def canS (s sh c : Nat) : Bool := decide (bitS sh c ≠ 0 ∧ dif (bitS sh c) s = 0)
theorem L_canBite {cv : CV} {s sh c : Nat} (hl : cG_left cv = nI s) (h1 : sh < 4) (h2 : c < 25) : f_X8_canBite cv (nI sh) (nI c) = some (bI (canS s sh c)) := by
  have hT := bitS_T sh h1 c h2
  unfold f_X8_canBite canS
  rw [L_cellsOf sh h1 c h2, hl]
  show (if nI (bitS sh c) = 0 then some 0 else if nI (bitS sh c) &&& (nI s ^^^ (-1)) = 0 then some 1 else some 0) = _
  rw [pz_dif]
  by_cases e1 : bitS sh c = 0
  · rw [if_pos (by rw [e1]; rfl), decide_eq_false (fun h => h.1 e1)]; rfl
  · rw [if_neg (by rw [pz_z (by omega)]; exact e1)]
    by_cases e2 : dif (bitS sh c) s = 0
    · rw [if_pos (by rw [e2]; rfl), decide_eq_true ⟨e1, e2⟩]; rfl
    · rw [if_neg (by rw [pz_z (by have := dif_T (b := s) hT; omega)]; exact e2), decide_eq_false (fun h => e2 h.2)]; rfl
theorem M_canBite {s sh c : Nat} (h1 : sh < 4) (h2 : c < 25) : f_X9_canBite (nI s) (nI sh) (nI c) = some (bI (canS s sh c)) := by
  have hT := bitS_T sh h1 c h2
  unfold f_X9_canBite canS
  rw [M_bite sh h1 c h2]
  show (if nI (bitS sh c) = 0 then some 0 else if nI (bitS sh c) &&& (nI s ^^^ (-1)) = 0 then some 1 else some 0) = _
  rw [pz_dif]
  by_cases e1 : bitS sh c = 0
  · rw [if_pos (by rw [e1]; rfl), decide_eq_false (fun h => h.1 e1)]; rfl
  · rw [if_neg (by rw [pz_z (by omega)]; exact e1)]
    by_cases e2 : dif (bitS sh c) s = 0
    · rw [if_pos (by rw [e2]; rfl), decide_eq_true ⟨e1, e2⟩]; rfl
    · rw [if_neg (by rw [pz_z (by have := dif_T (b := s) hT; omega)]; exact e2), decide_eq_false (fun h => e2 h.2)]; rfl
/-- the cells beside one -/
def adj (c : Nat) : Nat := (if 5 ≤ c then 2 ^ (c - 5) else 0) ||| (if c % 5 = 0 then 0 else 2 ^ (c - 1)) ||| (if c % 5 = 4 then 0 else 2 ^ (c + 1)) ||| (if c < 20 then 2 ^ (c + 5) else 0)
theorem L_besideBits : ∀ c, c < 25 → f_X0_besideBits (nI c) = some (nI (adj c)) := by decide +kernel
theorem adj_T : ∀ c, c < 25 → adj c < 33554432 := by decide +kernel
theorem adj_sym : ∀ c, c < 25 → ∀ d, d < 25 → (adj c).testBit d = (adj d).testBit c := by decide +kernel
/-- the cells beside some -/
def nbr (n : Nat) : Nat := ((((n * 32) ||| (n / 32)) ||| (dif n 17318416 * 2)) ||| (dif n 1082401 / 2)) &&& 33554431
theorem nbr_T (n : Nat) : nbr n < 33554432 := and_T' (by decide)
theorem M_besideL : f_X9_besideOf_L4 1000 0 0 = some 1082401 := by decide +kernel
theorem M_besideOf {n : Nat} (hn : n < 33554432) : f_X9_besideOf (nI n) = some (nI (nbr n)) := by
  have hd1 : dif n 17318416 < 33554432 := dif_T hn
  have hd2 : dif n 1082401 < 33554432 := dif_T hn
  unfold f_X9_besideOf
  rw [M_besideL]
  show some ((((((nI n <<< ((5 : Int32) &&& 31)) ||| (nI n >>> ((5 : Int32) &&& 31))) ||| ((nI n &&& (((1082401 : Int32) <<< ((4 : Int32) &&& 31)) ^^^ (-1))) <<< ((1 : Int32) &&& 31))) ||| ((nI n &&& ((1082401 : Int32) ^^^ (-1))) >>> ((1 : Int32) &&& 31))) &&& 33554431)) = _
  have e1 : (1082401 : Int32) <<< ((4 : Int32) &&& 31) = nI 17318416 := by decide +kernel
  have e2 : (1082401 : Int32) = nI 1082401 := rfl
  have e3 : (33554431 : Int32) = nI 33554431 := rfl
  rw [e1, e2, e3, pz_dif, pz_dif, pk_shlN ((5 : Int32) &&& 31) 5 (by decide +kernel) (by omega), pk_shrN (by omega) ((5 : Int32) &&& 31) 5 (by decide +kernel), pk_shlN ((1 : Int32) &&& 31) 1 (by decide +kernel) (by omega), pk_shrN (by omega) ((1 : Int32) &&& 31) 1 (by decide +kernel), pz_or, pz_or, pz_or, pz_and]
  rfl
theorem tb_mul (n k j : Nat) : (n * 2 ^ k).testBit j = (decide (k ≤ j) && n.testBit (j - k)) := by rw [← Nat.shiftLeft_eq, Nat.testBit_shiftLeft]
theorem tb_div (n k j : Nat) : (n / 2 ^ k).testBit j = n.testBit (k + j) := by rw [← Nat.shiftRight_eq_div_pow, Nat.testBit_shiftRight]
theorem nbr_bit (n k : Nat) : (nbr n).testBit k = (((((decide (5 ≤ k) && n.testBit (k - 5)) || n.testBit (5 + k)) || (decide (1 ≤ k) && (n.testBit (k - 1) && !(17318416 : Nat).testBit (k - 1)))) || (n.testBit (1 + k) && !(1082401 : Nat).testBit (1 + k))) && (33554431 : Nat).testBit k) := by
  unfold nbr
  have a1 := tb_mul n 5 k
  have a2 := tb_div n 5 k
  have a3 := tb_mul (dif n 17318416) 1 k
  have a4 := tb_div (dif n 1082401) 1 k
  rw [tb_dif] at a3 a4
  rw [Nat.testBit_and, Nat.testBit_or, Nat.testBit_or, Nat.testBit_or]
  rw [show (n * 32).testBit k = (n * 2 ^ 5).testBit k from rfl, show (n / 32).testBit k = (n / 2 ^ 5).testBit k from rfl, show (dif n 17318416 * 2).testBit k = (dif n 17318416 * 2 ^ 1).testBit k from rfl, show (dif n 1082401 / 2).testBit k = (dif n 1082401 / 2 ^ 1).testBit k from rfl, a1, a2, a3, a4]
theorem nbr_or (a b : Nat) : nbr (a ||| b) = nbr a ||| nbr b := by
  apply Nat.eq_of_testBit_eq
  intro k
  rw [Nat.testBit_or, nbr_bit, nbr_bit, nbr_bit]
  simp only [Nat.testBit_or]
  generalize (33554431 : Nat).testBit k = z
  generalize (17318416 : Nat).testBit (k - 1) = y
  generalize (1082401 : Nat).testBit (1 + k) = x
  generalize a.testBit (k - 5) = a1
  generalize a.testBit (5 + k) = a2
  generalize a.testBit (k - 1) = a3
  generalize a.testBit (1 + k) = a4
  generalize b.testBit (k - 5) = b1
  generalize b.testBit (5 + k) = b2
  generalize b.testBit (k - 1) = b3
  generalize b.testBit (1 + k) = b4
  generalize decide (5 ≤ k) = d1
  generalize decide (1 ≤ k) = d2
  cases z <;> cases y <;> cases x <;> cases d1 <;> cases d2 <;> simp <;> ac_rfl
theorem nbr_0 : nbr 0 = 0 := by decide +kernel
theorem nbr_p : ∀ c, c < 25 → nbr (2 ^ c) = adj c := by decide +kernel
/-- the cells of n below k, one after another -/
def orU (F : Nat → Nat) (n : Nat) : Nat → Nat
  | 0 => 0
  | k + 1 => orU F n k ||| (if n.testBit k then F k else 0)
theorem orU_T {F : Nat → Nat} (hF : ∀ c, c < 25 → F c < 33554432) (n : Nat) : ∀ k, k ≤ 25 → orU F n k < 33554432
  | 0, _ => by unfold orU; decide
  | k + 1, h => by
    unfold orU
    refine or_T (orU_T hF n k (by omega)) ?_
    split
    · exact hF k (by omega)
    · decide
theorem orU_bit (F : Nat → Nat) (n j : Nat) : ∀ k, (orU F n k).testBit j = true ↔ ∃ c, c < k ∧ n.testBit c = true ∧ (F c).testBit j = true
  | 0 => by
    unfold orU
    rw [Nat.zero_testBit]
    exact ⟨fun h => (by cases h), fun ⟨c, h, _⟩ => by omega⟩
  | k + 1 => by
    unfold orU
    rw [Nat.testBit_or, Bool.or_eq_true, orU_bit F n j k]
    constructor
    · rintro (⟨c, h1, h2, h3⟩ | h)
      · exact ⟨c, by omega, h2, h3⟩
      · by_cases e : n.testBit k = true
        · rw [if_pos e] at h; exact ⟨k, by omega, e, h⟩
        · rw [if_neg e, Nat.zero_testBit] at h; cases h
    · rintro ⟨c, h1, h2, h3⟩
      by_cases e : c = k
      · subst e; right; rw [if_pos h2]; exact h3
      · left; exact ⟨c, by omega, h2, h3⟩
theorem orU_id {n : Nat} (hn : n < 33554432) : orU (fun c => 2 ^ c) n 25 = n := by
  refine ext_T (orU_T (fun c h => pow_T h) n 25 (by omega)) hn fun k hk => ?_
  have h := orU_bit (fun c => 2 ^ c) n k 25
  have h2 : (∃ c, c < 25 ∧ n.testBit c = true ∧ (2 ^ c).testBit k = true) ↔ n.testBit k = true := by
    constructor
    · rintro ⟨c, h1, h2, h3⟩
      rw [Nat.testBit_two_pow, decide_eq_true_eq] at h3
      rw [← h3]; exact h2
    · intro h1
      exact ⟨k, hk, h1, by rw [Nat.testBit_two_pow]; simp⟩
  rw [Bool.eq_iff_iff, h]
  exact h2
/-- what is alike on 0, on one cell, and under or, is alike on all -/
theorem orU_hom {G : Nat → Nat} (h0 : G 0 = 0) (hor : ∀ a b, a < 33554432 → b < 33554432 → G (a ||| b) = G a ||| G b) {n : Nat} (hn : n < 33554432) : G n = orU (fun c => G (2 ^ c)) n 25 := by
  have key : ∀ k, k ≤ 25 → G (orU (fun c => 2 ^ c) n k) = orU (fun c => G (2 ^ c)) n k := by
    intro k
    induction k with
    | zero => intro _; exact h0
    | succ k ih =>
      intro hk
      unfold orU
      rw [hor _ _ (orU_T (fun c h => pow_T h) n k (by omega)) (by split; exact pow_T (by omega); decide), ih (by omega)]
      congr 1
      split
      · rfl
      · exact h0
  rw [← key 25 (by omega), orU_id hn]
theorem orU_congr {F G : Nat → Nat} (n : Nat) : ∀ k, (∀ c, c < k → F c = G c) → orU F n k = orU G n k
  | 0, _ => rfl
  | k + 1, h => by
    unfold orU
    rw [orU_congr n k (fun c hc => h c (by omega)), h k (by omega)]
theorem nbr_orU {n : Nat} (hn : n < 33554432) : nbr n = orU adj n 25 := by
  rw [orU_hom nbr_0 (fun a b _ _ => nbr_or a b) hn]
  exact orU_congr n 25 (fun c hc => nbr_p c hc)
theorem nbr_iff {n : Nat} (hn : n < 33554432) (k : Nat) : (nbr n).testBit k = true ↔ ∃ c, c < 25 ∧ n.testBit c = true ∧ (adj c).testBit k = true := by rw [nbr_orU hn]; exact orU_bit adj n k 25
theorem nbr_mono {a b : Nat} (ha : a < 33554432) (hb : b < 33554432) (h : ∀ k, a.testBit k = true → b.testBit k = true) (k : Nat) (hk : (nbr a).testBit k = true) : (nbr b).testBit k = true := by
  rw [nbr_iff ha] at hk
  rw [nbr_iff hb]
  obtain ⟨c, h1, h2, h3⟩ := hk
  exact ⟨c, h1, h c h2, h3⟩
/-- one step outward, and all steps -/
def stp (s h : Nat) : Nat := h ||| (nbr h &&& s)
def clo (s : Nat) : Nat → Nat → Nat
  | 0, h => h
  | f + 1, h => if stp s h = h then h else clo s f (stp s h)
theorem stp_T {s h : Nat} (hh : h < 33554432) : stp s h < 33554432 := or_T hh (and_T (nbr_T h))
theorem stp_bit (s h k : Nat) : (stp s h).testBit k = (h.testBit k || ((nbr h).testBit k && s.testBit k)) := by unfold stp; rw [Nat.testBit_or, Nat.testBit_and]
theorem stp_ge (s h k : Nat) (hk : h.testBit k = true) : (stp s h).testBit k = true := by rw [stp_bit, hk]; rfl
theorem stp_pc {s h : Nat} (hh : h < 33554432) (hne : stp s h ≠ h) : pc h < pc (stp s h) := by
  have : ∃ k, k < 25 ∧ h.testBit k = false ∧ (stp s h).testBit k = true := by
    apply Classical.byContradiction
    intro hno
    apply hne
    refine ext_T (stp_T hh) hh fun k hk => ?_
    cases e : h.testBit k
    · cases e2 : (stp s h).testBit k
      · rfl
      · exact (hno ⟨k, hk, e, e2⟩).elim
    · exact stp_ge s h k e
  obtain ⟨k, h1, h2, h3⟩ := this
  exact pc_lt (stp_ge s h) h1 h2 h3
theorem stp_full {s h : Nat} (hh : h < 33554432) (hp : 25 ≤ pc h) : stp s h = h := by
  apply Classical.byContradiction
  intro hne
  have h1 := stp_pc hh hne
  have h2 := pc_le (stp s h)
  omega
theorem clo_T {s : Nat} : ∀ (f h : Nat), h < 33554432 → clo s f h < 33554432
  | 0, h, hh => hh
  | f + 1, h, hh => by
    unfold clo
    split
    · exact hh
    · exact clo_T f _ (stp_T hh)
theorem clo_ge (s : Nat) : ∀ (f h k : Nat), h.testBit k = true → (clo s f h).testBit k = true
  | 0, h, k, hk => hk
  | f + 1, h, k, hk => by
    unfold clo
    split
    · exact hk
    · exact clo_ge s f _ k (stp_ge s h k hk)
theorem clo_sub (s : Nat) : ∀ (f h : Nat), (∀ k, h.testBit k = true → s.testBit k = true) → ∀ k, (clo s f h).testBit k = true → s.testBit k = true
  | 0, h, hs, k, hk => hs k hk
  | f + 1, h, hs, k, hk => by
    unfold clo at hk
    split at hk
    · exact hs k hk
    · refine clo_sub s f _ (fun j hj => ?_) k hk
      rw [stp_bit, Bool.or_eq_true, Bool.and_eq_true] at hj
      rcases hj with hj | hj
      · exact hs j hj
      · exact hj.2
theorem clo_fix {s : Nat} : ∀ (f h : Nat), h < 33554432 → 25 ≤ pc h + f → stp s (clo s f h) = clo s f h
  | 0, h, hh, hp => stp_full hh hp
  | f + 1, h, hh, hp => by
    unfold clo
    split
    · assumption
    · rename_i hne
      have := stp_pc hh hne
      exact clo_fix f _ (stp_T hh) (by omega)
/-- the least that is closed -/
theorem clo_least {s T : Nat} (hT : T < 33554432) (hc : ∀ k, (nbr T).testBit k = true → s.testBit k = true → T.testBit k = true) : ∀ (f h : Nat), h < 33554432 → (∀ k, h.testBit k = true → T.testBit k = true) → ∀ k, (clo s f h).testBit k = true → T.testBit k = true
  | 0, h, _, hs, k, hk => hs k hk
  | f + 1, h, hh, hs, k, hk => by
    unfold clo at hk
    split at hk
    · exact hs k hk
    · refine clo_least hT hc f _ (stp_T hh) (fun j hj => ?_) k hk
      rw [stp_bit, Bool.or_eq_true, Bool.and_eq_true] at hj
      rcases hj with hj | hj
      · exact hs j hj
      · exact hc j (nbr_mono hh hT hs j hj.1) hj.2
/-- the class's pass -/
theorem orU_and (F : Nat → Nat) (n s : Nat) : ∀ k, orU (fun c => F c &&& s) n k = orU F n k &&& s
  | 0 => by unfold orU; rw [Nat.zero_and]
  | k + 1 => by
    unfold orU
    rw [orU_and F n s k, Nat.and_or_distrib_right]
    congr 1
    split
    · rfl
    · rw [Nat.zero_and]
theorem L_heapOf_p {s w : Nat} (hs : s < 33554432) (hw : w < 33554432) : f_X0_heapOf_L16 (nI s) (nI w) 1000 0 (nI w) = some (nI (stp s w)) := by
  have h := loopU (fun f i (a : Int32) => f_X0_heapOf_L16 (nI s) (nI w) f i a) 25 (fun k => nI (w ||| orU (fun c => adj c &&& s) w k)) (nI (stp s w)) (fun f => by
    show f_X0_heapOf_L16 (nI s) (nI w) (f + 1) (nI 25) _ = _
    rw [f_X0_heapOf_L16, if_pos (by decide), orU_and, ← nbr_orU hw]; rfl) (fun f k hk => by
    show f_X0_heapOf_L16 (nI s) (nI w) (f + 1) (nI k) _ = f_X0_heapOf_L16 (nI s) (nI w) f (nI (k + 1)) (nI (w ||| orU (fun c => adj c &&& s) w (k + 1)))
    rw [f_X0_heapOf_L16, if_neg (n25 hk), L_has (by omega) (by omega)]
    show (if bI (w.testBit k) = 0 then f_X0_heapOf_L16 (nI s) (nI w) f (nI k + 1) (nI (w ||| orU (fun c => adj c &&& s) w k) ||| 0) else Option.bind (f_X0_besideBits (nI k)) fun o10 => f_X0_heapOf_L16 (nI s) (nI w) f (nI k + 1) (nI (w ||| orU (fun c => adj c &&& s) w k) ||| (o10 &&& nI s))) = _
    rw [L_besideBits k hk, nI_1]
    show (if bI (w.testBit k) = 0 then f_X0_heapOf_L16 (nI s) (nI w) f (nI (k + 1)) (nI (w ||| orU (fun c => adj c &&& s) w k) ||| nI 0) else f_X0_heapOf_L16 (nI s) (nI w) f (nI (k + 1)) (nI (w ||| orU (fun c => adj c &&& s) w k) ||| (nI (adj k) &&& nI s))) = _
    rw [pz_and, pz_or, pz_or, orU, Nat.or_assoc, Nat.or_assoc]
    cases w.testBit k <;> rfl) 1000 0 (by omega) (by omega)
  have h2 : f_X0_heapOf_L16 (nI s) (nI w) 1000 0 (nI (w ||| 0)) = some (nI (stp s w)) := h
  rw [Nat.or_zero] at h2
  exact h2
theorem L_heapOf_l {s : Nat} (hs : s < 33554432) : ∀ (f fuel h : Nat), h < 33554432 → 25 ≤ pc h + f → f + 2 ≤ fuel → f_X0_heapOf_L6 (nI s) fuel 1 (nI h) = some (nI (clo s f h)) := by
  have hend : ∀ (fuel h : Nat), h < 33554432 → 2 ≤ fuel → stp s h = h → f_X0_heapOf_L6 (nI s) fuel 1 (nI h) = some (nI h) := by
    intro fuel h hh hf he
    obtain ⟨g, rfl⟩ : ∃ g, fuel = g + 2 := ⟨fuel - 2, by omega⟩
    rw [show g + 2 = (g + 1) + 1 from rfl, f_X0_heapOf_L6, if_neg (by decide), L_heapOf_p hs hh, he]
    show (if nI h = nI h then f_X0_heapOf_L6 (nI s) (g + 1) 0 (nI h) else f_X0_heapOf_L6 (nI s) (g + 1) 1 (nI h)) = _
    rw [if_pos rfl, f_X0_heapOf_L6, if_pos rfl]
  intro f
  induction f with
  | zero =>
    intro fuel h hh hp hf
    exact hend fuel h hh hf (stp_full hh hp)
  | succ f ih =>
    intro fuel h hh hp hf
    unfold clo
    by_cases e : stp s h = h
    · rw [if_pos e]
      exact hend fuel h hh (by omega) e
    · rw [if_neg e]
      obtain ⟨g, rfl⟩ : ∃ g, fuel = g + 1 := ⟨fuel - 1, by omega⟩
      have hq := stp_pc hh e
      have hT := stp_T (s := s) hh
      rw [f_X0_heapOf_L6, if_neg (by decide), L_heapOf_p hs hh]
      show (if nI (stp s h) = nI h then f_X0_heapOf_L6 (nI s) g 0 (nI (stp s h)) else f_X0_heapOf_L6 (nI s) g 1 (nI (stp s h))) = _
      rw [if_neg (by rw [nI_eq (by omega) (by omega)]; exact e)]
      exact ih g _ hT (by omega) (by omega)
/-- the heap of a cell in s -/
def hS (s c : Nat) : Nat := clo s 25 (2 ^ c)
theorem L_heapOf {s c : Nat} (hs : s < 33554432) (hc : c < 25) : f_X0_heapOf (nI c) (nI s) = some (nI (hS s c)) := by
  unfold f_X0_heapOf
  rw [pz_shl1 c (by omega)]
  show Option.bind (f_X0_heapOf_L6 (nI s) 1000 1 (nI (2 ^ c))) (fun o2 => some o2) = _
  rw [L_heapOf_l hs 25 1000 (2 ^ c) (pow_T hc) (by omega) (by omega)]
  rfl
theorem M_heapOf_l {s : Nat} (hs : s < 33554432) : ∀ (f fuel h m : Nat), h < 33554432 → m ≠ 0 → m < 33554432 → 25 ≤ pc h + f → f + 2 ≤ fuel → f_X9_heapOf_L8 (nI s) fuel (nI m) (nI h) = some (nI (clo s f h)) := by
  have hstep : ∀ (g h m : Nat), h < 33554432 → m ≠ 0 → m < 33554432 → f_X9_heapOf_L8 (nI s) (g + 1) (nI m) (nI h) = f_X9_heapOf_L8 (nI s) g (nI (dif (nbr h &&& s) h)) (nI (stp s h)) := by
    intro g h m hh h0 hm
    rw [f_X9_heapOf_L8, if_neg (by rw [pz_z (by omega)]; exact h0), M_besideOf hh]
    show f_X9_heapOf_L8 (nI s) g ((nI (nbr h) &&& nI s) &&& (nI h ^^^ (-1))) (nI h ||| ((nI (nbr h) &&& nI s) &&& (nI h ^^^ (-1)))) = _
    rw [pz_and, pz_dif, pz_or]
    congr 2
    apply Nat.eq_of_testBit_eq
    intro k
    rw [stp_bit, Nat.testBit_or, tb_dif, Nat.testBit_and]
    cases h.testBit k <;> simp
  have hz : ∀ h, h < 33554432 → (dif (nbr h &&& s) h = 0 ↔ stp s h = h) := by
    intro h hh
    constructor
    · intro e
      refine ext_T (stp_T hh) hh fun k hk => ?_
      have h1 := tb_dif (nbr h &&& s) h k
      rw [e, Nat.zero_testBit, Nat.testBit_and] at h1
      rw [stp_bit]
      revert h1
      cases h.testBit k <;> simp
    · intro e
      refine z_T (dif_T (and_T (nbr_T h))) fun k hk => ?_
      have h1 := stp_bit s h k
      rw [e] at h1
      rw [tb_dif, Nat.testBit_and]
      revert h1
      cases h.testBit k <;> simp
  have hend : ∀ (fuel h m : Nat), h < 33554432 → m ≠ 0 → m < 33554432 → 2 ≤ fuel → stp s h = h → f_X9_heapOf_L8 (nI s) fuel (nI m) (nI h) = some (nI h) := by
    intro fuel h m hh h0 hm hf he
    obtain ⟨g, rfl⟩ : ∃ g, fuel = g + 2 := ⟨fuel - 2, by omega⟩
    rw [show g + 2 = (g + 1) + 1 from rfl, hstep _ h m hh h0 hm, (hz h hh).2 he, he]
    rw [f_X9_heapOf_L8, if_pos (by rfl)]
  intro f
  induction f with
  | zero =>
    intro fuel h m hh h0 hm hp hf
    exact hend fuel h m hh h0 hm hf (stp_full hh hp)
  | succ f ih =>
    intro fuel h m hh h0 hm hp hf
    unfold clo
    by_cases e : stp s h = h
    · rw [if_pos e]
      exact hend fuel h m hh h0 hm (by omega) e
    · rw [if_neg e]
      obtain ⟨g, rfl⟩ : ∃ g, fuel = g + 1 := ⟨fuel - 1, by omega⟩
      have hq := stp_pc hh e
      rw [hstep g h m hh h0 hm]
      exact ih g _ _ (stp_T hh) (fun z => e ((hz h hh).1 z)) (dif_T (and_T (nbr_T h))) (by omega) (by omega)
theorem and_pow {s c : Nat} (h : s.testBit c = true) : 2 ^ c &&& s = 2 ^ c := by
  apply Nat.eq_of_testBit_eq
  intro k
  rw [Nat.testBit_and, Nat.testBit_two_pow]
  by_cases e : c = k
  · subst e; simp [h]
  · simp [e]
theorem and_pow0 {s c : Nat} (h : s.testBit c = false) : 2 ^ c &&& s = 0 := by
  apply Nat.eq_of_testBit_eq
  intro k
  rw [Nat.testBit_and, Nat.testBit_two_pow, Nat.zero_testBit]
  by_cases e : c = k
  · subst e; simp [h]
  · simp [e]
theorem M_heapOf {s c : Nat} (hs : s < 33554432) (hc : c < 25) : f_X9_heapOf (nI s) (nI c) = some (nI (if s.testBit c then hS s c else 0)) := by
  unfold f_X9_heapOf
  rw [pz_shl1 c (by omega), pz_and]
  show Option.bind (f_X9_heapOf_L8 (nI s) 1000 (nI (2 ^ c &&& s)) (nI (2 ^ c &&& s))) (fun o2 => some o2) = _
  cases e : s.testBit c
  · rw [and_pow0 e]; rfl
  · rw [and_pow e, M_heapOf_l hs 25 1000 (2 ^ c) (2 ^ c) (pow_T hc) (Nat.ne_of_gt (Nat.two_pow_pos c)) (pow_T hc) (by omega) (by omega)]
    rfl
theorem hS_T {s c : Nat} (hc : c < 25) : hS s c < 33554432 := clo_T 25 _ (pow_T hc)
theorem hS_self (s c : Nat) : (hS s c).testBit c = true := clo_ge s 25 _ c (by rw [Nat.testBit_two_pow]; simp)
theorem hS_sub {s c : Nat} (h : s.testBit c = true) (k : Nat) (hk : (hS s c).testBit k = true) : s.testBit k = true := by
  refine clo_sub s 25 (2 ^ c) (fun j hj => ?_) k hk
  rw [Nat.testBit_two_pow, decide_eq_true_eq] at hj
  rw [← hj]; exact h
theorem hS_closed {s c : Nat} (hc : c < 25) (k : Nat) (h1 : (nbr (hS s c)).testBit k = true) (h2 : s.testBit k = true) : (hS s c).testBit k = true := by
  have h := clo_fix (s := s) 25 (2 ^ c) (pow_T hc) (by omega)
  have h3 := stp_bit s (hS s c) k
  unfold hS at *
  rw [h, h1, h2] at h3
  rw [h3]; simp
theorem hS_least {s c T : Nat} (hc : c < 25) (hT : T < 33554432) (hcl : ∀ k, (nbr T).testBit k = true → s.testBit k = true → T.testBit k = true) (h : T.testBit c = true) (k : Nat) (hk : (hS s c).testBit k = true) : T.testBit k = true := by
  refine clo_least hT hcl 25 (2 ^ c) (pow_T hc) (fun j hj => ?_) k hk
  rw [Nat.testBit_two_pow, decide_eq_true_eq] at hj
  rw [← hj]; exact h
/-- who hangs together has one heap -/
theorem hS_eq {s c d : Nat} (hs : s < 33554432) (hc : c < 25) (hsc : s.testBit c = true) (hd : (hS s c).testBit d = true) : hS s d = hS s c := by
  have hsd := hS_sub hsc d hd
  have hd25 : d < 25 := by
    rcases Nat.lt_or_ge d 25 with h | h
    · exact h
    · rw [tb_T hs h] at hsd; cases hsd
  have hle : ∀ k, (hS s d).testBit k = true → (hS s c).testBit k = true := hS_least hd25 (hS_T hc) (hS_closed hc) hd
  have hge : ∀ k, (hS s c).testBit k = true → (hS s d).testBit k = true := by
    by_cases hcd : (hS s d).testBit c = true
    · exact hS_least hc (hS_T hd25) (hS_closed hd25) hcd
    · have hTT : dif (hS s c) (hS s d) < 33554432 := dif_T (hS_T hc)
      have hcl : ∀ k, (nbr (dif (hS s c) (hS s d))).testBit k = true → s.testBit k = true → (dif (hS s c) (hS s d)).testBit k = true := by
        intro k h1 h2
        have h1' := h1
        rw [nbr_iff hTT] at h1
        obtain ⟨x, hx, hx1, hx2⟩ := h1
        rw [tb_dif, Bool.and_eq_true] at hx1
        have hk1 : (hS s c).testBit k = true := hS_closed hc k (nbr_mono hTT (hS_T hc) (fun j hj => by rw [tb_dif, Bool.and_eq_true] at hj; exact hj.1) k h1') h2
        have hk25 : k < 25 := by
          rcases Nat.lt_or_ge k 25 with h | h
          · exact h
          · rw [tb_T hs h] at h2; cases h2
        rw [tb_dif, hk1]
        cases hk2 : (hS s d).testBit k
        · rfl
        · have hx3 : (hS s d).testBit x = true := hS_closed hd25 x ((nbr_iff (hS_T hd25) x).2 ⟨k, hk25, hk2, by rw [adj_sym k hk25 x hx]; exact hx2⟩) (hS_sub hsc x hx1.1)
          rw [hx3] at hx1
          exact absurd hx1.2 (by decide)
      intro k hk
      have := hS_least hc hTT hcl (by rw [tb_dif, hS_self, (Bool.not_eq_true _).mp hcd]; rfl) d hd
      rw [tb_dif, hS_self] at this
      simp at this
  refine ext_T (hS_T hd25) (hS_T hc) fun k _ => ?_
  cases e1 : (hS s d).testBit k
  · cases e2 : (hS s c).testBit k
    · rfl
    · rw [hge k e2] at e1; cases e1
  · rw [hle k e1]
