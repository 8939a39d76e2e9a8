/-! PLAIN LAWS 4: shares -/
def ownU (d x : Nat) : Nat → Nat
  | 0 => 0
  | k + 1 => ownU d x k + (d.testBit (5 * k + x)).toNat
theorem ownU_le (d x : Nat) : ∀ k, ownU d x k ≤ k
  | 0 => Nat.le_refl _
  | k + 1 => by
    have h1 := ownU_le d x k
    have h2 : (d.testBit (5 * k + x)).toNat ≤ 1 := Bool.toNat_le _
    unfold ownU
    omega
def ownS (s f : Nat) : Nat := ownU (deedS s) (f % 5) 5
def eldS (s f : Nat) : Nat := ownS s f + (if (deedS s).testBit 2 then 5 else 0)
def widS (s f : Nat) : Nat := ownS s f / 2 + 2 * pc (deedS s &&& 14336)
def shS (s kd f : Nat) : Nat := if deedS s = 0 then (if kd = 3 then f else 0) else if kd = 1 then eldS s f else if kd = 2 then widS s f else if kd = 3 then eldS s f / 3 else if kd = 4 then 25 - pc s - f else if kd = 5 then widS s f + cntS s - 1 else ownS s f
theorem ownS_le (s f : Nat) : ownS s f ≤ 5 := ownU_le _ _ 5
theorem eldS_le (s f : Nat) : eldS s f ≤ 10 := by
  have := ownS_le s f
  unfold eldS
  split <;> omega
theorem widS_le (s f : Nat) : widS s f ≤ 52 := by
  have h1 := ownS_le s f
  have h2 := pc_le (deedS s &&& 14336)
  unfold widS
  omega
theorem shS_le {s kd f : Nat} (hf : f < 10) : shS s kd f ≤ 100 := by
  have h1 := ownS_le s f
  have h2 := eldS_le s f
  have h3 := widS_le s f
  have h4 := cntS_le s
  unfold shS
  split
  · split <;> omega
  · split
    · omega
    · split
      · omega
      · split
        · omega
        · split
          · omega
          · split <;> omega
theorem cntS_pos {s : Nat} (h : deedS s ≠ 0) : 0 < cntS s := by
  unfold cntS
  cases e : hps s with
  | nil =>
    apply absurd _ h
    unfold deedS
    rw [e]
    rfl
  | cons a l => simp
theorem bt_add (a : Nat) (b : Bool) : nI a + bI b = nI (a + b.toNat) := by
  cases b
  · show nI a + 0 = nI (a + 0)
    rw [Nat.add_zero, Int32.add_zero]
  · exact nI_1 a
theorem rem5 {a : Nat} (h : a < 2147483648) : nI a - nI a / 5 * 5 = nI (a % 5) := pk_rem (a := a) (d := 5) h (by omega) (by omega)
theorem div5 {a : Nat} (h : a < 2147483648) : nI a / 5 = nI (a / 5) := pk_div (a := a) (d := 5) h (by omega) (by omega)
theorem div2 {a : Nat} (h : a < 2147483648) : nI a / 2 = nI (a / 2) := pk_div (a := a) (d := 2) h (by omega) (by omega)
theorem div3 {a : Nat} (h : a < 2147483648) : nI a / 3 = nI (a / 3) := pk_div (a := a) (d := 3) h (by omega) (by omega)
theorem mul2 (a : Nat) : (2 : Int32) * nI a = nI (2 * a) := pk_mul 2 a
theorem mul5 (a : Nat) : (5 : Int32) * nI a = nI (5 * a) := pk_mul 5 a
theorem and4 (d : Nat) : nI d &&& 4 = 0 ↔ d.testBit 2 = false := by
  have e1 : nI d &&& 4 = nI (d &&& 4) := pz_and d 4
  rw [e1]
  cases h : d.testBit 2
  · have h2 : (4 : Nat) &&& d = 0 := and_pow0 (c := 2) h
    rw [Nat.and_comm] at h2
    rw [h2]
    exact ⟨fun _ => rfl, fun _ => rfl⟩
  · have h2 : (4 : Nat) &&& d = 4 := and_pow (c := 2) h
    rw [Nat.and_comm] at h2
    rw [h2]
    exact ⟨fun z => absurd z (by decide), fun z => by cases z⟩
theorem and14 (d : Nat) : nI d &&& 14336 = nI (d &&& 14336) := pz_and d 14336
theorem kdE {kd : Nat} (h : kd < 6) (j : Nat) (hj : j < 6) : nI kd = nI j ↔ kd = j := nI_eq (by omega) (by omega)
theorem sub1 {a : Nat} (h : 0 < a) : nI a - 1 = nI (a - 1) := by
  obtain ⟨q, rfl⟩ : ∃ q, a = q + 1 := ⟨a - 1, by omega⟩
  exact nI_pred q
/-- never below 0 -/
theorem pos_part {p f : Nat} (hp : p ≤ 25) (hf : f < 10) : (if (0 : Int32) < ((25 : Int32) - nI p) - nI f then ((25 : Int32) - nI p) - nI f else 0) = nI (25 - p - f) ∧ (if (0 : Int32) ≤ ((25 : Int32) - nI p) - nI f then some (((25 : Int32) - nI p) - nI f) else some 0) = some (nI (25 - p - f)) := by
  have e1 : (25 : Int32) - nI p = nI (25 - p) := pk_sub hp
  rw [e1]
  by_cases h : f ≤ 25 - p
  · rw [pk_sub h]
    have h2 : (0 : Int32) ≤ nI (25 - p - f) := nI_pos' (by omega)
    rw [if_pos h2]
    refine ⟨?_, rfl⟩
    by_cases h3 : 25 - p - f = 0
    · rw [h3, if_neg (by decide)]; rfl
    · have h4 : (0 : Int32) < nI (25 - p - f) := nI_lt (a := 0) (by omega) (by omega)
      rw [if_pos h4]
  · have h2 : nI (25 - p) - nI f < 0 := pk_sneg (by omega) (by omega)
    have h3 : ¬ (0 : Int32) < nI (25 - p) - nI f := fun h => Int32.lt_irrefl (Int32.lt_trans h h2)
    have h4 : ¬ (0 : Int32) ≤ nI (25 - p) - nI f := fun h => Int32.lt_irrefl (Int32.lt_of_le_of_lt h h2)
    rw [if_neg h3, if_neg h4, show 25 - p - f = 0 by omega]
    exact ⟨rfl, rfl⟩
theorem M_share_l {d f : Nat} (hd : d < 33554432) (hf : f < 10) : f_X9_shareBy_L26 (nI f) (nI d) 1000 0 0 = some (nI (ownU d (f % 5) 5)) := by
  have h := loopU (fun g i (a : Int32) => f_X9_shareBy_L26 (nI f) (nI d) g i a) 5 (fun k => nI (ownU d (f % 5) k)) (nI (ownU d (f % 5) 5)) (fun g => by
    show f_X9_shareBy_L26 (nI f) (nI d) (g + 1) (nI 5) _ = _
    rw [f_X9_shareBy_L26, if_pos (by decide)]) (fun g k hk => by
    show f_X9_shareBy_L26 (nI f) (nI d) (g + 1) (nI k) (nI (ownU d (f % 5) k)) = f_X9_shareBy_L26 (nI f) (nI d) g (nI (k + 1)) (nI (ownU d (f % 5) (k + 1)))
    rw [f_X9_shareBy_L26, if_neg (n5 hk)]
    simp only [obs]
    rw [rem5 (by omega), mul5, nI_add, pz_bit (by omega) (by omega), nI_1, bt_add]
    rfl) 1000 0 (by omega) (by omega)
  have e0 : ownU d (f % 5) 0 = 0 := rfl
  simp only [e0, nI_0] at h
  exact h
theorem M_shareBy {s kd f : Nat} (hs : s < 33554432) (hk : kd < 6) (hf : f < 10) : f_X9_shareBy (nI s) (nI kd) (nI f) = some (nI (shS s kd f)) := by
  have hd := deedS_T hs
  have ho := ownS_le s f
  have he := eldS_le s f
  have hw := widS_le s f
  have hc := cntS_le s
  have k1 : nI kd = 1 ↔ kd = 1 := kdE hk 1 (by omega)
  have k2 : nI kd = 2 ↔ kd = 2 := kdE hk 2 (by omega)
  have k3 : nI kd = 3 ↔ kd = 3 := kdE hk 3 (by omega)
  have k4 : nI kd = 4 ↔ kd = 4 := kdE hk 4 (by omega)
  have k5 : nI kd = 5 ↔ kd = 5 := kdE hk 5 (by omega)
  unfold f_X9_shareBy shS
  rw [M_deed hs]
  simp only [obs]
  simp only [k1, k2, k3, k4, k5]
  by_cases h0 : deedS s = 0
  · rw [if_pos (by rw [h0]; rfl), if_pos h0]
    split <;> rfl
  · have hcp := cntS_pos h0
    rw [if_neg (by rw [pz_z (by omega)]; exact h0), if_neg h0, M_share_l hd hf]
    simp only [obs]
    have a1 : (if nI (deedS s) &&& 4 = 0 then some (0 : Int32) else some 5) = some (nI (if (deedS s).testBit 2 then 5 else 0)) := by
      cases h2 : (deedS s).testBit 2
      · rw [if_pos ((and4 _).2 h2)]; rfl
      · rw [if_neg (by rw [and4, h2]; decide)]; rfl
    rw [a1]
    simp only [obs]
    rw [and14, M_bits (and_T hd)]
    simp only [obs]
    have a2 : nI (ownU (deedS s) (f % 5) 5) + nI (if (deedS s).testBit 2 then 5 else 0) = nI (eldS s f) := nI_add _ _
    have a3 : nI (ownU (deedS s) (f % 5) 5) / 2 + 2 * nI (pc (deedS s &&& 14336)) = nI (widS s f) := by
      rw [div2 (by have : ownU (deedS s) (f % 5) 5 ≤ 5 := ho; omega), mul2, nI_add]; rfl
    rw [a2, a3]
    have a4 : nI (eldS s f) / 3 = nI (eldS s f / 3) := div3 (by omega)
    have a5 : (nI (widS s f) + nI (cntS s)) - 1 = nI (widS s f + cntS s - 1) := by rw [nI_add]; exact sub1 (by omega)
    rw [a4, M_bits hs]
    simp only [obs]
    have a6 : f_X9_most 0 ((25 - nI (pc s)) - nI f) = some (nI (25 - pc s - f)) := (pos_part (pc_le s) hf).2
    rw [a6, M_heaps hs]
    simp only [obs]
    rw [a5]
    by_cases e1 : kd = 1
    · rw [if_pos e1, if_pos e1]
    · rw [if_neg e1, if_neg e1]
      by_cases e2 : kd = 2
      · rw [if_pos e2, if_pos e2]
      · rw [if_neg e2, if_neg e2]
        by_cases e3 : kd = 3
        · rw [if_pos e3, if_pos e3]
        · rw [if_neg e3, if_neg e3]
          by_cases e4 : kd = 4
          · rw [if_pos e4, if_pos e4]
          · rw [if_neg e4, if_neg e4]
            by_cases e5 : kd = 5
            · rw [if_pos e5, if_pos e5]
            · rw [if_neg e5, if_neg e5]; rfl
/-- a core that holds the cells s -/
def cvR (cv : CV) (s : Nat) : Prop := cG_left cv = nI s ∧ cG_deed cv = nI (deedS s) ∧ cG_pieceMany cv = nI (cntS s) ∧ cG_leastPiece cv = nI (lstS s)
/-- its heirs -/
def heR (cv : CV) (m : Nat) (K F : Nat → Nat) : Prop := cG_heirs cv = nI m ∧ m ≤ 5 ∧ ∀ h, h < m → F h < 10 ∧ (∃ hk : K h < 6, cG_kind cv h = some ⟨K h, hk⟩) ∧ cG_figures cv h = nI (F h)
theorem cvL_R (cv : CV) (s : Nat) : cvR (cvL cv s) s := ⟨rfl, rfl, rfl, rfl⟩
theorem cvL_H {cv : CV} {m : Nat} {K F : Nat → Nat} (h : heR cv m K F) (s : Nat) : heR (cvL cv s) m K F := h
theorem cvL_L (cv : CV) (s t : Nat) : cvL (cvL cv s) t = cvL cv t := rfl
theorem L_share2 {cv : CV} {d f : Nat} (hdd : cG_deed cv = nI d) (hd : d < 33554432) (hf : f < 10) : f_X2_share cv (nI f) = some (nI (ownU d (f % 5) 5)) := by
  have key : ∀ (q k fuel : Nat), k + q = 5 → q < fuel → f_X2_share_L7 cv fuel (nI (5 * k + f % 5)) (nI (ownU d (f % 5) k)) = some (nI (ownU d (f % 5) 5)) := by
    intro q
    induction q with
    | zero =>
      intro k fuel hk hf
      obtain ⟨g, rfl⟩ : ∃ g, fuel = g + 1 := ⟨fuel - 1, by omega⟩
      have e : k = 5 := by omega
      subst e
      have h25 : (25 : Int32) ≤ nI (5 * 5 + f % 5) := nI_le (a := 25) (by omega) (by omega)
      rw [f_X2_share_L7, if_pos h25]
    | succ q ih =>
      intro k fuel hk hf
      obtain ⟨g, rfl⟩ : ∃ g, fuel = g + 1 := ⟨fuel - 1, by omega⟩
      rw [f_X2_share_L7, if_neg (n25 (by omega)), hdd, L_has (by omega) (by omega)]
      simp only [obs]
      have i := ih (k + 1) g (by omega) (by omega)
      have e5 : nI (5 * k + f % 5) + 5 = nI (5 * (k + 1) + f % 5) := by
        have : nI (5 * k + f % 5) + nI 5 = nI (5 * k + f % 5 + 5) := nI_add _ _
        rw [show 5 * (k + 1) + f % 5 = 5 * k + f % 5 + 5 by omega]
        exact this
      rw [e5, ← i]
      cases h : d.testBit (5 * k + f % 5)
      · rw [if_pos bI_f, ownU, h, Int32.add_zero]
        rfl
      · rw [if_neg (by decide), ownU, h, nI_1]
        rfl
  unfold f_X2_share
  simp only [obs]
  rw [rem5 (by omega)]
  have h := key 5 0 1000 (by omega) (by omega)
  rw [Nat.mul_zero, Nat.zero_add] at h
  have e0 : ownU d (f % 5) 0 = 0 := rfl
  rw [e0, nI_0] at h
  rw [h]
  rfl
theorem L_has2 {d : Nat} (hd : d < 33554432) : f_X0_has (nI d) 2 = some (bI (d.testBit 2)) := L_has (k := 2) (by omega) (by omega)
theorem L_share3 {cv : CV} {s f : Nat} (hs : s < 33554432) (h : cvR cv s) (hf : f < 10) : f_X3_share cv (nI f) = some (nI (eldS s f)) := by
  have hd := deedS_T hs
  unfold f_X3_share
  rw [L_share2 h.2.1 hd hf]
  simp only [obs]
  rw [h.2.1, L_has2 hd]
  simp only [obs]
  unfold eldS ownS
  cases (deedS s).testBit 2
  · rw [if_pos bI_f, Int32.add_zero]; rfl
  · rw [if_neg (by decide)]
    exact congrArg some (nI_add _ 5)
theorem L_share4 {cv : CV} {s f : Nat} (hs : s < 33554432) (h : cvR cv s) (hf : f < 10) : f_X4_share cv (nI f) = some (nI (widS s f)) := by
  have hd := deedS_T hs
  have ho : ownU (deedS s) (f % 5) 5 ≤ 5 := ownS_le s f
  unfold f_X4_share
  rw [L_share2 h.2.1 hd hf]
  simp only [obs]
  rw [h.2.1, and14, L_manyIn (and_T hd)]
  simp only [obs]
  rw [div2 (by omega), mul2, nI_add]
  rfl
theorem L_K_share {cv : CV} {s f kd : Nat} (hs : s < 33554432) (h : cvR cv s) (h0 : deedS s ≠ 0) (hf : f < 10) (hk : kd < 6) : f_K_share ⟨kd, hk⟩ cv (nI f) = some (nI (shS s kd f)) := by
  have hd := deedS_T hs
  have he := eldS_le s f
  have hcp := cntS_pos h0
  unfold shS
  rw [if_neg h0]
  match kd, hk with
  | 0, _ =>
    show f_X2_share cv (nI f) = _
    rw [L_share2 h.2.1 hd hf]
    rfl
  | 1, _ =>
    show f_X3_share cv (nI f) = _
    rw [L_share3 hs h hf]
    rfl
  | 2, _ =>
    show f_X4_share cv (nI f) = _
    rw [L_share4 hs h hf]
    rfl
  | 3, _ =>
    show Option.bind (f_X3_share cv (nI f)) (fun o1 => some (o1 / 3)) = _
    rw [L_share3 hs h hf]
    simp only [obs]
    rw [div3 (by omega)]
    rfl
  | 4, _ =>
    show Option.bind (f_X0_manyIn (cG_left cv)) (fun o1 => some (if (0 : Int32) < (((25 : Int32) - o1) - nI f) then (((25 : Int32) - o1) - nI f) else (0 : Int32))) = _
    rw [h.1, L_manyIn hs]
    simp only [obs]
    rw [(pos_part (pc_le s) hf).1]
    rfl
  | 5, _ =>
    show Option.bind (f_X4_share cv (nI f)) (fun o1 => some ((o1 + (cG_pieceMany cv)) - 1)) = _
    rw [L_share4 hs h hf, h.2.2.1]
    simp only [obs]
    rw [nI_add, sub1 (by omega)]
    rfl
theorem L_K_chan {kd f : Nat} (hk : kd < 6) : f_K_inChancery ⟨kd, hk⟩ (nI f) = some (nI (if kd = 3 then f else 0)) := by
  match kd, hk with
  | 0, _ => rfl
  | 1, _ => rfl
  | 2, _ => rfl
  | 3, _ =>
    show some ((0 : Int32) + nI f) = _
    rw [Int32.zero_add]
    rfl
  | 4, _ => rfl
  | 5, _ => rfl
theorem L_chan {cv : CV} {s : Nat} (hs : s < 33554432) (h : cvR cv s) : f_X8_isInChancery cv = some (bI (decide (deedS s = 0))) := by
  have hd := deedS_T hs
  unfold f_X8_isInChancery
  rw [h.2.1]
  by_cases h0 : deedS s = 0
  · rw [if_pos (by rw [h0]; rfl), decide_eq_true h0]; rfl
  · rw [if_neg (by rw [pz_z (by omega)]; exact h0), decide_eq_false h0]; rfl
theorem nIn {h N : Nat} (hh : h < N) (hN : N < 2147483648) : ¬ (nI h < 0 ∨ N ≤ Int32.toNatClampNeg (nI h)) := nI_in hh hN
theorem L_shareOf {cv : CV} {s m h : Nat} {K F : Nat → Nat} (hs : s < 33554432) (hc : cvR cv s) (hH : heR cv m K F) (hh : h < m) : f_X8_shareOf cv (nI h) = some (nI (shS s (K h) (F h))) := by
  obtain ⟨h1, h2, h3⟩ := hH
  obtain ⟨hF, ⟨hK, hk⟩, hf⟩ := h3 h hh
  unfold f_X8_shareOf
  rw [L_chan hs hc]
  simp only [obs]
  have hcl : Int32.toNatClampNeg (nI h) = h := nI_clamp (by omega)
  have hin : ¬ (nI h < 0 ∨ 5 ≤ Int32.toNatClampNeg (nI h)) := nIn (by omega) (by omega)
  simp only [if_neg hin]
  rw [hcl, hk, hf]
  simp only [obs]
  by_cases h0 : deedS s = 0
  · rw [decide_eq_true h0, if_neg (by decide), L_K_chan hK]
    unfold shS
    rw [if_pos h0]
    rfl
  · rw [decide_eq_false h0, if_pos bI_f, L_K_share hs hc h0 hF hK]
    rfl
/-- the reference's heirs -/
def heM (g : MS) (m : Nat) (K F : Nat → Nat) : Prop := mG_many g = nI m ∧ m ≤ 5 ∧ ∀ h, h < m → F h < 10 ∧ K h < 6 ∧ mG_kind g h = nI (K h) ∧ mG_figure g h = nI (F h)
theorem M_shareOf {g : MS} {s m h : Nat} {K F : Nat → Nat} (hs : s < 33554432) (hH : heM g m K F) (hh : h < m) : f_X9_shareOf g (nI s) (nI h) = some (nI (shS s (K h) (F h))) := by
  obtain ⟨h1, h2, h3⟩ := hH
  obtain ⟨hF, hK, hk, hf⟩ := h3 h hh
  unfold f_X9_shareOf
  have hcl : Int32.toNatClampNeg (nI h) = h := nI_clamp (by omega)
  have hin : ¬ (nI h < 0 ∨ 5 ≤ Int32.toNatClampNeg (nI h)) := nIn (by omega) (by omega)
  simp only [if_neg hin]
  rw [hcl, hk, hf, M_shareBy hs hK hF]
  rfl
/-- all shares -/
def sumU (s : Nat) (K F : Nat → Nat) : Nat → Nat
  | 0 => 0
  | h + 1 => sumU s K F h + shS s (K h) (F h)
theorem L_allShares {cv : CV} {s m : Nat} {K F : Nat → Nat} (hs : s < 33554432) (hc : cvR cv s) (hH : heR cv m K F) : f_X8_allShares cv = some (nI (sumU s K F m)) := by
  have h := loopU (fun g i (a : Int32) => f_X8_allShares_L4 cv g i a) m (fun k => nI (sumU s K F k)) (nI (sumU s K F m)) (fun g => by
    show f_X8_allShares_L4 cv (g + 1) (nI m) _ = _
    rw [f_X8_allShares_L4, hH.1, if_pos (nI_le (Nat.le_refl m) (by have := hH.2.1; omega))]) (fun g k hk => by
    show f_X8_allShares_L4 cv (g + 1) (nI k) (nI (sumU s K F k)) = f_X8_allShares_L4 cv g (nI (k + 1)) (nI (sumU s K F (k + 1)))
    rw [f_X8_allShares_L4, hH.1, if_neg (nI_ge hk (by have := hH.2.1; omega)), L_shareOf hs hc hH hk]
    simp only [obs]
    rw [nI_1, nI_add]
    rfl) 1000 0 (by omega) (by have := hH.2.1; omega)
  have e0 : sumU s K F 0 = 0 := rfl
  simp only [e0, nI_0] at h
  unfold f_X8_allShares
  rw [h]
  rfl
theorem M_sharesOf {g : MS} {s m : Nat} {K F : Nat → Nat} (hs : s < 33554432) (hH : heM g m K F) : f_X9_sharesOf g (nI s) = some (nI (sumU s K F m)) := by
  have h := loopU (fun f i (a : Int32) => f_X9_sharesOf_L4 g (nI s) f i a) m (fun k => nI (sumU s K F k)) (nI (sumU s K F m)) (fun f => by
    show f_X9_sharesOf_L4 g (nI s) (f + 1) (nI m) _ = _
    rw [f_X9_sharesOf_L4, hH.1, if_pos (nI_le (Nat.le_refl m) (by have := hH.2.1; omega))]) (fun f k hk => by
    show f_X9_sharesOf_L4 g (nI s) (f + 1) (nI k) (nI (sumU s K F k)) = f_X9_sharesOf_L4 g (nI s) f (nI (k + 1)) (nI (sumU s K F (k + 1)))
    rw [f_X9_sharesOf_L4, hH.1, if_neg (nI_ge hk (by have := hH.2.1; omega)), M_shareOf hs hH hk]
    simp only [obs]
    rw [nI_1, nI_add]
    rfl) 1000 0 (by omega) (by have := hH.2.1; omega)
  have e0 : sumU s K F 0 = 0 := rfl
  simp only [e0, nI_0] at h
  unfold f_X9_sharesOf
  rw [h]
  rfl
