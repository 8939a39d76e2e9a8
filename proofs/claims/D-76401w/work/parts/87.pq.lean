/-! PLAIN LAWS 17: letters read -/
theorem bXl {α β ρ γ : Type} (u : α) (thr : β → γ) (f : α → Option (ρ ⊕ γ)) : bX (some (Sum.inl u)) thr f = f u := by
  cases h : f u with
  | none => exact h
  | some b => exact h
theorem bXr {α β ρ γ : Type} (b : β) (thr : β → γ) (f : α → Option (ρ ⊕ γ)) : bX (some (Sum.inr b)) thr f = some (Sum.inr (thr b)) := by
  cases h : some (Sum.inr (α := ρ) (thr b)) with
  | none => cases h
  | some c => exact h
theorem i64_lt (x y : Int32) : x.toInt64 < y.toInt64 ↔ x < y := by rw [Int64.lt_iff_toInt_lt, Int32.lt_iff_toInt_lt, Int32.toInt_toInt64, Int32.toInt_toInt64]
theorem inI (c a b : Int32) {A B : Int64} (hA : A = a.toInt64) (hB : B = b.toInt64) : f_X0_in c.toInt64 A B = some (bI (decide (a ≤ c ∧ c ≤ b))) := by
  subst hA hB
  unfold f_X0_in
  have h1 : lg_cmp c.toInt64 a.toInt64 < 0 ↔ c < a := by rw [lg_cmp_lt, i64_lt]
  have h2 : 0 < lg_cmp c.toInt64 b.toInt64 ↔ b < c := by rw [lg_cmp_gt, i64_lt]
  by_cases e1 : c < a
  · rw [if_pos (h1.2 e1), decide_eq_false (fun z => Int32.lt_irrefl (Int32.lt_of_lt_of_le e1 z.1))]; rfl
  · rw [if_neg (fun z => e1 (h1.1 z))]
    by_cases e2 : b < c
    · rw [if_pos (h2.2 e2), decide_eq_false (fun z => Int32.lt_irrefl (Int32.lt_of_lt_of_le e2 z.2))]; rfl
    · rw [if_neg (fun z => e2 (h2.1 z)), decide_eq_true ⟨Int32.not_lt.1 e1, Int32.not_lt.1 e2⟩]; rfl
theorem isI (c a b : Int32) : f_X9_isIn c a b = some (bI (decide (a ≤ c ∧ c ≤ b))) := by
  unfold f_X9_isIn
  by_cases e1 : c < a
  · rw [if_pos e1, decide_eq_false (fun z => Int32.lt_irrefl (Int32.lt_of_lt_of_le e1 z.1))]; rfl
  · rw [if_neg e1]
    by_cases e2 : b < c
    · rw [if_pos e2, decide_eq_false (fun z => Int32.lt_irrefl (Int32.lt_of_lt_of_le e2 z.2))]; rfl
    · rw [if_neg e2, decide_eq_true ⟨Int32.not_lt.1 e1, Int32.not_lt.1 e2⟩]; rfl
/-- the letter at a place, -1 behind the last -/
def hrS (L : Nat → Int32) (lm p : Nat) : Int32 := if p < lm then L p else -1
theorem L_here {g : XS} {lm p : Nat} (hl : lm ≤ 96) (hp : p < 1000) : f_X12_here g (nI lm, nI p) = some (hrS (xG_letters g) lm p) := by
  unfold f_X12_here hrS
  have hcl : Int32.toNatClampNeg (nI p) = p := nI_clamp (by omega)
  show (if nI lm ≤ nI p then some (-1) else if nI p < 0 ∨ 96 ≤ Int32.toNatClampNeg (nI p) then none else some (xG_letters g (Int32.toNatClampNeg (nI p)))) = _
  by_cases e : p < lm
  · have hin : ¬ (nI p < 0 ∨ 96 ≤ Int32.toNatClampNeg (nI p)) := nIn (by omega) (by omega)
    rw [if_neg (nI_ge e (by omega)), if_neg hin, hcl, if_pos e]
  · rw [if_pos (nI_le (by omega) (by omega)), if_neg e]
def dgP (c : Int32) : Bool := decide (48 ≤ c ∧ c ≤ 57)
theorem dgP_lt {L : Nat → Int32} {lm p : Nat} (h : dgP (hrS L lm p) = true) : p < lm := by
  unfold hrS at h
  by_cases e : p < lm
  · exact e
  · rw [if_neg e] at h
    cases h
theorem dg_n {c : Int32} (h : dgP c = true) : ∃ d : Nat, d < 10 ∧ c - 48 = nI d := by
  unfold dgP at h
  have h2 := of_decide_eq_true h
  have h0 : ¬ c < 0 := fun z => by
    have : (48 : Int32) < 0 := Int32.lt_of_le_of_lt h2.1 z
    exact absurd this (by decide)
  obtain ⟨j, hj, rfl⟩ := nI_of h0
  have a1 : 48 ≤ j := (nI_leI (a := 48) (by omega) hj).1 h2.1
  have a2 : j ≤ 57 := (nI_leI (b := 57) hj (by omega)).1 h2.2
  exact ⟨j - 48, by omega, pk_sub (b := 48) a1⟩
theorem L_digit {g : XS} {lm p : Nat} (hl : lm ≤ 96) (hp : p < 1000) : f_X12_digit g (nI lm, nI p) = if dgP (hrS (xG_letters g) lm p) then some (Sum.inl (hrS (xG_letters g) lm p - 48, (nI lm, nI (p + 1)))) else some (Sum.inr (-1000 - nI p, (nI lm, nI p))) := by
  unfold f_X12_digit
  rw [L_here hl hp]
  simp only [obs]
  rw [inI (hrS (xG_letters g) lm p) 48 57 (A := 48) (B := 57) rfl rfl]
  simp only [obs]
  unfold f_X12_mustStand
  cases e : decide (48 ≤ hrS (xG_letters g) lm p ∧ hrS (xG_letters g) lm p ≤ 57)
  · have hd : dgP (hrS (xG_letters g) lm p) = false := e
    rw [if_pos bI_f, bXr, hd]
    rfl
  · have hd : dgP (hrS (xG_letters g) lm p) = true := e
    have hlt := dgP_lt hd
    have hin : ¬ (nI p < 0 ∨ 96 ≤ Int32.toNatClampNeg (nI p)) := nIn (by omega) (by omega)
    have hcl : Int32.toNatClampNeg (nI p) = p := nI_clamp (by omega)
    rw [if_neg bI_n0, bXl, hd, if_pos rfl]
    show (if (nI p + 1) - 1 < 0 ∨ 96 ≤ Int32.toNatClampNeg ((nI p + 1) - 1) then none else some (Sum.inl (xG_letters g (Int32.toNatClampNeg ((nI p + 1) - 1)) - 48, (nI lm, nI p + 1)))) = _
    rw [nI_1, nI_pred, if_neg hin, hcl]
    unfold hrS
    rw [if_pos hlt]
theorem L_pair {g : XS} {lm p : Nat} (hl : lm ≤ 96) (hp : p < 900) : f_X12_pair g (nI lm, nI p) = if dgP (hrS (xG_letters g) lm p) then (if dgP (hrS (xG_letters g) lm (p + 1)) then some (Sum.inl ((10 : Int32) * (hrS (xG_letters g) lm p - 48) + (hrS (xG_letters g) lm (p + 1) - 48), (nI lm, nI (p + 2)))) else some (Sum.inr (-1000 - nI (p + 1), (nI lm, nI (p + 1))))) else some (Sum.inr (-1000 - nI p, (nI lm, nI p))) := by
  unfold f_X12_pair
  rw [L_digit hl (by omega)]
  cases e : dgP (hrS (xG_letters g) lm p)
  · rw [if_neg (by decide), bXr, if_neg (by decide)]
  · rw [if_pos rfl, bXl, if_pos rfl]
    show bX (f_X12_digit g (nI lm, nI (p + 1))) _ _ = _
    rw [L_digit hl (by omega)]
    cases e2 : dgP (hrS (xG_letters g) lm (p + 1))
    · rw [if_neg (by decide), bXr, if_neg (by decide)]
    · rw [if_pos rfl, bXl, if_pos rfl]
theorem L_take {g : XS} {lm p : Nat} (hl : lm ≤ 96) (hp : p < 1000) : f_X12_take g (nI lm, nI p) 59 = if hrS (xG_letters g) lm p = 59 then some (Sum.inl (nI lm, nI (p + 1))) else some (Sum.inr (-1000 - nI p, (nI lm, nI p))) := by
  unfold f_X12_take f_X12_mustStand
  rw [L_here hl hp]
  simp only [obs]
  by_cases e : hrS (xG_letters g) lm p = 59
  · rw [if_pos e, if_pos e]
    simp only [obs]
    rw [if_neg (by decide), bXl]
    show some (Sum.inl (nI lm, nI p + 1)) = _
    rw [nI_1]
  · rw [if_neg e, if_neg e]
    simp only [obs]
    rw [if_pos trivial, bXr]
def kdI (c : Int32) : Option (Fin 6) := if c = 101 then some 1 else if c = 107 then some 5 else if c = 108 then some 3 else if c = 110 then some 0 else if c = 112 then some 4 else if c = 119 then some 2 else none
def kdE' (bad : Int32) (o : Option (Fin 6)) : Int32 := match o with
  | none => bad
  | some k => nI k.val
theorem L_kindOf (c : Int32) : f_X0_kindOf c = some (kdE' (-1) (kdI c)) := by
  unfold f_X0_kindOf kdI
  repeat (first | rfl | split)
theorem M_kindBy (c : Int32) : f_X9_kindBy c = some (kdE' (-9) (kdI c)) := by
  unfold f_X9_kindBy kdI
  repeat (first | rfl | split)
def finS (H : Nat → Int32) (t : TL) (q : Nat) : (TL × Nat) ⊕ Nat := if H q = 59 then .inl (t, q + 1) else .inr q
def prsS (H : Nat → Int32) (p : Nat) : (TL × Nat) ⊕ Nat :=
  if H p = 110 then finS H (0, nI p, 0, 0, 0) (p + 1)
  else if H p = 104 then (match kdI (H (p + 1)) with
    | none => .inr (p + 1)
    | some k => if dgP (H (p + 2)) then finS H (1, nI p, k, H (p + 2) - 48, 0) (p + 3) else .inr (p + 2))
  else if H p = 108 then (if dgP (H (p + 1)) then (if dgP (H (p + 2)) then finS H (2, nI p, 0, (10 : Int32) * (H (p + 1) - 48) + (H (p + 2) - 48), 0) (p + 3) else .inr (p + 2)) else .inr (p + 1))
  else if H p = 114 then (if dgP (H (p + 1)) then finS H (3, nI p, 0, H (p + 1) - 48, 0) (p + 2) else .inr (p + 1))
  else if H p = 98 then (if dgP (H (p + 1)) then (if dgP (H (p + 2)) then (if dgP (H (p + 3)) then finS H (4, nI p, 0, H (p + 1) - 48, (10 : Int32) * (H (p + 2) - 48) + (H (p + 3) - 48)) (p + 4) else .inr (p + 3)) else .inr (p + 2)) else .inr (p + 1))
  else .inr p
def prsX (lm : Nat) (o : (TL × Nat) ⊕ Nat) : Option ((TL × RS) ⊕ (Int32 × RS)) := match o with
  | .inl u => some (.inl (u.1, (nI lm, nI u.2)))
  | .inr e => some (.inr (-1000 - nI e, (nI lm, nI e)))
theorem L_fin {g : XS} {lm p : Nat} (hl : lm ≤ 96) (hp : p < 1000) (t : TL) : (bX (f_X12_take g (nI lm, nI p) 59) (fun b7 => (b7.1, b7.2)) fun o7 => (some (Sum.inl (t, o7)) : Option ((TL × RS) ⊕ (Int32 × RS)))) = prsX lm (finS (hrS (xG_letters g) lm) t p) := by
  rw [L_take hl hp]
  unfold finS
  split
  · rw [bXl]; rfl
  · rw [bXr]; rfl
theorem L_heirTold {g : XS} {lm p : Nat} (hl : lm ≤ 96) (hp : p < 900) (a : Int32) : f_X12_heirTold g (nI lm, nI p) a = match kdI (hrS (xG_letters g) lm p) with
    | none => some (Sum.inr (-1000 - nI p, (nI lm, nI p)))
    | some k => if dgP (hrS (xG_letters g) lm (p + 1)) then some (Sum.inl ((1, a, k, hrS (xG_letters g) lm (p + 1) - 48, 0), (nI lm, nI (p + 2)))) else some (Sum.inr (-1000 - nI (p + 1), (nI lm, nI (p + 1)))) := by
  unfold f_X12_heirTold f_X12_mustStand
  rw [L_here hl (by omega)]
  simp only [obs]
  rw [L_kindOf]
  simp only [obs]
  cases e : kdI (hrS (xG_letters g) lm p) with
  | none =>
    rw [if_pos (show kdE' (-1) none < 0 by decide)]
    simp only [obs]
    rw [if_pos trivial, bXr]
  | some k =>
    have hk : ¬ kdE' (-1) (some k) < 0 := nI_pos (by have := k.isLt; omega)
    have hin : ¬ (nI k.val < 0 ∨ 6 ≤ Int32.toNatClampNeg (nI k.val)) := nIn k.isLt (by omega)
    have hcl : Int32.toNatClampNeg (nI k.val) = k.val := nI_clamp (by have := k.isLt; omega)
    rw [if_neg hk]
    simp only [obs]
    rw [if_neg (by decide), bXl]
    show (if nI k.val < 0 ∨ 6 ≤ Int32.toNatClampNeg (nI k.val) then none else Option.bind (kd0 (Int32.toNatClampNeg (nI k.val))) fun k7 => bX (f_X12_digit g (nI lm, nI p + 1)) (fun b8 => (b8.1, b8.2)) fun o8 => some (Sum.inl ((1, a, k7, o8.1, 0), o8.2))) = _
    rw [if_neg hin, hcl, kd0_e k.isLt, nI_1, L_digit hl (by omega)]
    simp only [obs]
    cases e2 : dgP (hrS (xG_letters g) lm (p + 1))
    · rw [if_neg (by decide), bXr, if_neg (by decide)]
    · rw [if_pos rfl, bXl, if_pos rfl]
theorem L_told {g : XS} {lm p : Nat} (hl : lm ≤ 96) (hp : p < 850) (c a : Int32) : f_X12_told g (nI lm, nI p) c a = if c = 108 then (if dgP (hrS (xG_letters g) lm p) then (if dgP (hrS (xG_letters g) lm (p + 1)) then some (Sum.inl ((2, a, 0, (10 : Int32) * (hrS (xG_letters g) lm p - 48) + (hrS (xG_letters g) lm (p + 1) - 48), 0), (nI lm, nI (p + 2)))) else some (Sum.inr (-1000 - nI (p + 1), (nI lm, nI (p + 1))))) else some (Sum.inr (-1000 - nI p, (nI lm, nI p))))
    else if dgP (hrS (xG_letters g) lm p) then (if c = 114 then some (Sum.inl ((3, a, 0, hrS (xG_letters g) lm p - 48, 0), (nI lm, nI (p + 1)))) else if dgP (hrS (xG_letters g) lm (p + 1)) then (if dgP (hrS (xG_letters g) lm (p + 2)) then some (Sum.inl ((4, a, 0, hrS (xG_letters g) lm p - 48, (10 : Int32) * (hrS (xG_letters g) lm (p + 1) - 48) + (hrS (xG_letters g) lm (p + 2) - 48)), (nI lm, nI (p + 3)))) else some (Sum.inr (-1000 - nI (p + 2), (nI lm, nI (p + 2))))) else some (Sum.inr (-1000 - nI (p + 1), (nI lm, nI (p + 1))))) else some (Sum.inr (-1000 - nI p, (nI lm, nI p))) := by
  unfold f_X12_told
  by_cases h1 : c = 108
  · rw [if_pos h1, if_pos h1, L_pair hl (by omega)]
    cases dgP (hrS (xG_letters g) lm p)
    · rw [if_neg (by decide), bXr, if_neg (by decide)]
    · rw [if_pos rfl, if_pos rfl]
      cases dgP (hrS (xG_letters g) lm (p + 1))
      · rw [if_neg (by decide), bXr, if_neg (by decide)]
      · rw [if_pos rfl, bXl, if_pos rfl]
  · rw [if_neg h1, if_neg h1, L_digit hl (by omega)]
    cases dgP (hrS (xG_letters g) lm p)
    · rw [if_neg (by decide), bXr, if_neg (by decide)]
    · rw [if_pos rfl, bXl, if_pos rfl]
      by_cases h2 : c = 114
      · rw [if_pos h2, if_pos h2]
      · rw [if_neg h2, if_neg h2]
        show bX (f_X12_pair g (nI lm, nI (p + 1))) _ _ = _
        rw [L_pair (p := p + 1) hl (by omega)]
        cases dgP (hrS (xG_letters g) lm (p + 1))
        · rw [if_neg (by decide), bXr, if_neg (by decide)]
        · rw [if_pos rfl, if_pos rfl]
          cases dgP (hrS (xG_letters g) lm (p + 1 + 1))
          · rw [if_neg (by decide), bXr, if_neg (by decide)]
          · rw [if_pos rfl, bXl, if_pos rfl]
theorem L_statement {g : XS} {lm p : Nat} (hl : lm ≤ 96) (hp : p < 800) : f_X12_statement g (nI lm, nI p) = prsX lm (prsS (hrS (xG_letters g) lm) p) := by
  have ht : ∀ q, q < 900 → ∀ t, (bX (f_X12_take g (nI lm, nI q) 59) (fun b7 => (b7.1, b7.2)) fun o7 => (some (Sum.inl (t, o7)) : Option ((TL × RS) ⊕ (Int32 × RS)))) = prsX lm (finS (hrS (xG_letters g) lm) t q) := fun q hq t => L_fin hl (by omega) t
  unfold f_X12_statement prsS f_X12_mustStand
  simp only [obs]
  rw [L_here hl (by omega)]
  simp only [obs]
  have e0 : rS_at ((nI lm, nI p) : RS) (rG_at ((nI lm, nI p) : RS) + 1) = (nI lm, nI (p + 1)) := by
    show ((nI lm, nI p + 1) : RS) = _
    rw [nI_1]
  have ea : rG_at ((nI lm, nI p) : RS) = nI p := rfl
  generalize hc : hrS (xG_letters g) lm p = c
  by_cases c1 : c = 110
  · subst c1
    rw [if_neg (by decide), if_neg (by decide), if_neg (by decide), if_neg (by decide), if_pos rfl]
    rw [obs]
    rw [if_neg (by decide), bXl, e0, ea, if_pos rfl, bXl, if_pos rfl]
    exact ht (p + 1) (by omega) _
  · by_cases c2 : c = 104
    · subst c2
      rw [if_pos rfl]
      rw [obs]
      rw [if_neg (by decide), bXl, e0, ea, if_neg (by decide), if_pos rfl, if_neg (by decide), if_pos rfl, L_heirTold hl (by omega)]
      cases kdI (hrS (xG_letters g) lm (p + 1)) with
      | none => rw [bXr]; rfl
      | some k =>
        dsimp only
        cases dgP (hrS (xG_letters g) lm (p + 1 + 1))
        · rw [if_neg (by decide), bXr, if_neg (by decide)]; rfl
        · rw [if_pos rfl, bXl, if_pos rfl]
          exact ht (p + 3) (by omega) _
    · simp only [if_neg c2, if_neg c1]
      by_cases c3 : c = 108
      · subst c3
        rw [if_neg (by decide), if_pos rfl]
        rw [obs]
        rw [if_neg (by decide), bXl, e0, ea, L_told hl (by omega), if_pos rfl, if_pos rfl]
        cases dgP (hrS (xG_letters g) lm (p + 1))
        · rw [if_neg (by decide), bXr, if_neg (by decide)]; rfl
        · rw [if_pos rfl, if_pos rfl]
          cases dgP (hrS (xG_letters g) lm (p + 1 + 1))
          · rw [if_neg (by decide), bXr, if_neg (by decide)]; rfl
          · rw [if_pos rfl, bXl, if_pos rfl]
            exact ht (p + 3) (by omega) _
      · by_cases c4 : c = 114
        · subst c4
          rw [if_neg (by decide), if_neg (by decide), if_pos rfl]
          rw [obs]
          rw [if_neg (by decide), bXl, e0, ea, L_told hl (by omega), if_neg c3, if_neg c3, if_pos rfl, if_pos rfl]
          cases dgP (hrS (xG_letters g) lm (p + 1))
          · rw [if_neg (by decide), bXr, if_neg (by decide)]; rfl
          · rw [if_pos rfl, bXl, if_pos rfl]
            exact ht (p + 2) (by omega) _
        · by_cases c5 : c = 98
          · subst c5
            rw [if_pos rfl]
            rw [obs]
            rw [if_neg (by decide), bXl, e0, ea, L_told hl (by omega)]
            simp only [if_neg c3, if_neg c4]
            rw [if_pos trivial]
            cases dgP (hrS (xG_letters g) lm (p + 1))
            · rw [if_neg (by decide), bXr, if_neg (by decide)]; rfl
            · rw [if_pos rfl, if_pos rfl]
              cases dgP (hrS (xG_letters g) lm (p + 1 + 1))
              · rw [if_neg (by decide), bXr, if_neg (by decide)]; rfl
              · rw [if_pos rfl, if_pos rfl]
                cases dgP (hrS (xG_letters g) lm (p + 1 + 2))
                · rw [if_neg (by decide), bXr, if_neg (by decide)]; rfl
                · rw [if_pos rfl, bXl, if_pos rfl]
                  exact ht (p + 4) (by omega) _
          · simp only [if_neg c5, if_neg c3, if_neg c4]
            rw [obs]
            rw [if_pos rfl, bXr]
            rfl
