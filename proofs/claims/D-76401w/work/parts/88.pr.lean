/-! PLAIN LAWS 18: letters read by the reference -/
def stM (g : MS) (nums : Nat → Int32) (q : Nat) : MS := mS_place (mS_numbers g nums) (nI q)
theorem stm_l (g : MS) (n : Nat → Int32) (q : Nat) : mG_letters (stM g n q) = mG_letters g := rfl
theorem stm_m (g : MS) (n : Nat → Int32) (q : Nat) : mG_letterMany (stM g n q) = mG_letterMany g := rfl
theorem stm_p (g : MS) (n : Nat → Int32) (q : Nat) : mG_place (stM g n q) = nI q := rfl
theorem stm_n (g : MS) (n : Nat → Int32) (q : Nat) : mG_numbers (stM g n q) = n := rfl
theorem stm_sn (g : MS) (n n2 : Nat → Int32) (q : Nat) : mS_numbers (stM g n q) n2 = stM g n2 q := rfl
theorem stm_sp (g : MS) (n : Nat → Int32) (q r : Nat) : mS_place (stM g n q) (nI r) = stM g n r := rfl
theorem stm_0 (g : MS) {q : Nat} (h : mG_place g = nI q) : stM g (mG_numbers g) q = g := by
  unfold stM
  rw [← h]
  rfl
theorem M_here {g : MS} {lm p : Nat} {n : Nat → Int32} (hm : mG_letterMany g = nI lm) (hl : lm ≤ 96) (hp : p < 1000) : f_X9_here (stM g n p) = some (hrS (mG_letters g) lm p) := by
  unfold f_X9_here hrS
  have hcl : Int32.toNatClampNeg (nI p) = p := nI_clamp (by omega)
  rw [stm_m, stm_p, hm, stm_l]
  by_cases e : p < lm
  · have hin : ¬ (nI p < 0 ∨ 96 ≤ Int32.toNatClampNeg (nI p)) := nIn (by omega) (by omega)
    rw [if_neg (nI_ge e (by omega)), if_neg hin, hcl, if_pos e]
  · rw [if_pos (nI_le (by omega) (by omega)), if_neg e]
theorem upd_upd (f : Nat → Int32) (k : Nat) (v w : Int32) : upd (upd f k v) k w = upd f k w := by
  funext j
  by_cases e : j = k
  · rw [e, pk_us, pk_us]
  · rw [pk_un e, pk_un e, pk_un e]
theorem sub_e (a b c : Int32) : (a + b) - c = a + (b - c) := by rw [Int32.sub_eq_add_neg, Int32.sub_eq_add_neg, Int32.add_assoc]
theorem M_num_s {g : MS} {lm p k d i : Nat} {n : Nat → Int32} (hm : mG_letterMany g = nI lm) (hl : lm ≤ 96) (hp : p < 1000) (hk : k < 2) (hi : i < d) (hd : d < 10) (f : Nat) :
    f_X9_readsNumber_L9 (nI k) (nI d) (f + 1) (nI i) (stM g n p) = if dgP (hrS (mG_letters g) lm p) then f_X9_readsNumber_L9 (nI k) (nI d) f (nI (i + 1)) (stM g (upd n k ((10 : Int32) * n k + (hrS (mG_letters g) lm p - 48))) (p + 1)) else some (.inl (0, stM g n p)) := by
  have hin : ¬ (nI k < 0 ∨ 2 ≤ Int32.toNatClampNeg (nI k)) := nIn hk (by omega)
  have hcl : Int32.toNatClampNeg (nI k) = k := nI_clamp (by omega)
  rw [f_X9_readsNumber_L9, if_neg (nI_ge hi (by omega)), M_here hm hl hp]
  simp only [obs]
  rw [isI]
  simp only [obs, if_neg hin]
  rw [hcl, stm_n, stm_sn, stm_p, nI_1 i, nI_1 p, stm_sp, sub_e]
  cases e : decide (48 ≤ hrS (mG_letters g) lm p ∧ hrS (mG_letters g) lm p ≤ 57)
  · have hd : dgP (hrS (mG_letters g) lm p) = false := e
    rw [if_pos bI_f, hd]
    rfl
  · have hd : dgP (hrS (mG_letters g) lm p) = true := e
    rw [if_neg bI_n0, hd]
    rfl
theorem M_num_e {g : MS} {p k d : Nat} {n : Nat → Int32} (hd : d < 10) (f : Nat) : f_X9_readsNumber_L9 (nI k) (nI d) (f + 1) (nI d) (stM g n p) = some (.inr (stM g n p)) := by
  rw [f_X9_readsNumber_L9, if_pos (nI_le (Nat.le_refl d) (by omega))]
theorem t10 (c : Int32) : (10 : Int32) * 0 + c = c := by rw [Int32.mul_zero, Int32.zero_add]
theorem M_rd1 {g : MS} {lm p k : Nat} {n : Nat → Int32} (hm : mG_letterMany g = nI lm) (hl : lm ≤ 96) (hp : p < 900) (hk : k < 2) : f_X9_readsNumber (stM g n p) (nI k) 1 = if dgP (hrS (mG_letters g) lm p) then some (1, stM g (upd n k (hrS (mG_letters g) lm p - 48)) (p + 1)) else some (0, stM g (upd n k 0) p) := by
  have hin : ¬ (nI k < 0 ∨ 2 ≤ Int32.toNatClampNeg (nI k)) := nIn hk (by omega)
  have hcl : Int32.toNatClampNeg (nI k) = k := nI_clamp (by omega)
  have s1 : f_X9_readsNumber_L9 (nI k) 1 (999 + 1) 0 (stM g (upd n k 0) p) = _ := M_num_s (d := 1) (i := 0) hm hl (by omega) hk (by omega) (by omega) 999
  unfold f_X9_readsNumber
  rw [if_neg hin, hcl, stm_n, stm_sn]
  simp only [obs]
  rw [show (1000 : Nat) = 999 + 1 from rfl, s1, pk_us, t10, upd_upd]
  cases dgP (hrS (mG_letters g) lm p)
  · rw [if_neg (by decide), if_neg (by decide)]
    rfl
  · have s2 : f_X9_readsNumber_L9 (nI k) (nI 1) (998 + 1) (nI (0 + 1)) (stM g (upd n k (hrS (mG_letters g) lm p - 48)) (p + 1)) = _ := M_num_e (d := 1) (by omega) 998
    rw [if_pos rfl, if_pos rfl, show (999 : Nat) = 998 + 1 from rfl, s2]
    rfl
theorem M_rd2 {g : MS} {lm p k : Nat} {n : Nat → Int32} (hm : mG_letterMany g = nI lm) (hl : lm ≤ 96) (hp : p < 900) (hk : k < 2) : f_X9_readsNumber (stM g n p) (nI k) 2 = if dgP (hrS (mG_letters g) lm p) then (if dgP (hrS (mG_letters g) lm (p + 1)) then some (1, stM g (upd n k ((10 : Int32) * (hrS (mG_letters g) lm p - 48) + (hrS (mG_letters g) lm (p + 1) - 48))) (p + 2)) else some (0, stM g (upd n k (hrS (mG_letters g) lm p - 48)) (p + 1))) else some (0, stM g (upd n k 0) p) := by
  have hin : ¬ (nI k < 0 ∨ 2 ≤ Int32.toNatClampNeg (nI k)) := nIn hk (by omega)
  have hcl : Int32.toNatClampNeg (nI k) = k := nI_clamp (by omega)
  have s1 : f_X9_readsNumber_L9 (nI k) 2 (999 + 1) 0 (stM g (upd n k 0) p) = _ := M_num_s (d := 2) (i := 0) hm hl (by omega) hk (by omega) (by omega) 999
  unfold f_X9_readsNumber
  rw [if_neg hin, hcl, stm_n, stm_sn]
  simp only [obs]
  rw [show (1000 : Nat) = 999 + 1 from rfl, s1, pk_us, t10, upd_upd]
  cases dgP (hrS (mG_letters g) lm p)
  · rw [if_neg (by decide), if_neg (by decide)]
    rfl
  · have s2 : f_X9_readsNumber_L9 (nI k) (nI 2) (998 + 1) (nI (0 + 1)) (stM g (upd n k (hrS (mG_letters g) lm p - 48)) (p + 1)) = _ := M_num_s (d := 2) (i := 1) hm hl (by omega) hk (by omega) (by omega) 998
    rw [if_pos rfl, if_pos rfl, show (999 : Nat) = 998 + 1 from rfl, s2, pk_us, upd_upd]
    cases dgP (hrS (mG_letters g) lm (p + 1))
    · rw [if_neg (by decide), if_neg (by decide)]
      rfl
    · have s3 : f_X9_readsNumber_L9 (nI k) (nI 2) (997 + 1) (nI (1 + 1)) (stM g (upd n k ((10 : Int32) * (hrS (mG_letters g) lm p - 48) + (hrS (mG_letters g) lm (p + 1) - 48))) (p + 1 + 1)) = _ := M_num_e (d := 2) (by omega) 997
      rw [if_pos rfl, if_pos rfl, show (998 : Nat) = 997 + 1 from rfl, s3]
      rfl
theorem M_readsKind {g : MS} {lm p : Nat} {n : Nat → Int32} (hm : mG_letterMany g = nI lm) (hl : lm ≤ 96) (hp : p < 900) : f_X9_readsKind (stM g n p) = match kdI (hrS (mG_letters g) lm p) with
    | none => some (0, stM g (upd n 0 (-9)) p)
    | some k => some (1, stM g (upd n 0 (nI k.val)) (p + 1)) := by
  have hcl : Int32.toNatClampNeg (0 : Int32) = 0 := nI_clamp (n := 0) (by omega)
  unfold f_X9_readsKind
  rw [M_here hm hl (by omega)]
  simp only [obs]
  rw [M_kindBy]
  simp only [obs]
  rw [hcl, stm_sn, stm_n, stm_n, pk_us]
  cases kdI (hrS (mG_letters g) lm p) with
  | none =>
    rw [if_neg (show ¬ (0 : Int32) ≤ kdE' (-9) none by decide)]
    simp only [obs]
    rw [Int32.add_zero, stm_p, stm_sp, stm_n, pk_us, if_pos (show kdE' (-9) none < 0 by decide)]
    rfl
  | some k =>
    have hk := k.isLt
    have h1 : (0 : Int32) ≤ kdE' (-9) (some k) := nI_pos' (n := k.val) (by omega)
    have h2 : ¬ kdE' (-9) (some k) < 0 := nI_pos (n := k.val) (by omega)
    rw [if_pos h1]
    simp only [obs]
    rw [stm_p, nI_1, stm_sp, stm_n, pk_us, if_neg h2]
    rfl
/-- the numbers that a statement leaves -/
def numOK (t : TL) (n : Nat → Int32) : Prop := (t.1 = 1 → n 0 = nI t.2.2.1.val ∧ n 1 = t.2.2.2.1) ∧ (t.1 = 2 → n 0 = t.2.2.2.1) ∧ (t.1 = 3 → n 0 = t.2.2.2.1) ∧ (t.1 = 4 → n 0 = t.2.2.2.1 ∧ n 1 = t.2.2.2.2)
def prM (g : MS) (n : Nat → Int32) (o : (TL × Nat) ⊕ Nat) : Int32 × MS := match o with
  | .inl u => (1, stM g n u.2)
  | .inr e => (0, stM g n e)
theorem M_fin {g : MS} {lm p : Nat} {n : Nat → Int32} (hm : mG_letterMany g = nI lm) (hl : lm ≤ 96) (hp : p < 1000) (t : TL) : (Option.bind (f_X9_here (stM g n p)) fun o14 => if o14 = 59 then Option.bind (some (mS_place (stM g n p) ((mG_place (stM g n p)) + 1))) fun g16 => some ((1 : Int32), g16) else some (0, stM g n p)) = some (prM g n (finS (hrS (mG_letters g) lm) t p)) := by
  rw [M_here hm hl hp]
  simp only [obs]
  rw [stm_p, nI_1, stm_sp]
  unfold finS
  split <;> rfl
theorem fin_t {H : Nat → Int32} {t : TL} {q : Nat} {u : TL × Nat} (h : finS H t q = .inl u) : u.1 = t := by
  unfold finS at h
  split at h
  · cases h; rfl
  · cases h
theorem M_statement {g : MS} {lm p : Nat} {n : Nat → Int32} (hm : mG_letterMany g = nI lm) (hl : lm ≤ 96) (hp : p < 800) :
    ∃ n', f_X9_readsStatement (stM g n p) = some (prM g n' (prsS (hrS (mG_letters g) lm) p)) ∧ ∀ u, prsS (hrS (mG_letters g) lm) p = .inl u → numOK u.1 n' := by
  have hf : ∀ n q, q < 900 → ∀ t, (Option.bind (f_X9_here (stM g n q)) fun o14 => if o14 = 59 then Option.bind (some (mS_place (stM g n q) ((mG_place (stM g n q)) + 1))) fun g16 => some ((1 : Int32), g16) else some (0, stM g n q)) = some (prM g n (finS (hrS (mG_letters g) lm) t q)) := fun n q hq t => M_fin hm hl (by omega) t
  have hne : ¬ (1 : Int32) = 0 := by decide
  unfold f_X9_readsStatement prsS
  rw [M_here hm hl (by omega)]
  rw [obs, obs, stm_p, nI_1, stm_sp]
  generalize hc : hrS (mG_letters g) lm p = c
  by_cases c1 : c = 98
  · have r1 := M_rd1 (g := g) (lm := lm) (p := p + 1) (k := 0) (n := n) hm hl (by omega) (by omega)
    have r1' : f_X9_readsNumber (stM g n (p + 1)) 0 1 = _ := r1
    have d1 : ¬ c = 110 := by rw [c1]; decide
    have d2 : ¬ c = 104 := by rw [c1]; decide
    have d3 : ¬ c = 108 := by rw [c1]; decide
    have d4 : ¬ c = 114 := by rw [c1]; decide
    rw [if_pos c1, r1', if_neg d1, if_neg d2, if_neg d3, if_neg d4, if_pos c1]
    cases dgP (hrS (mG_letters g) lm (p + 1))
    · rw [if_neg (by decide), if_neg (by decide)]
      exact ⟨_, rfl, fun u h => by cases h⟩
    · have r2 : f_X9_readsNumber (stM g (upd n 0 (hrS (mG_letters g) lm (p + 1) - 48)) (p + 1 + 1)) 1 2 = _ := M_rd2 (g := g) (lm := lm) (p := p + 1 + 1) (k := 1) (n := upd n 0 (hrS (mG_letters g) lm (p + 1) - 48)) hm hl (by omega) (by omega)
      rw [if_pos rfl, if_pos rfl, obs, if_neg hne, r2]
      cases dgP (hrS (mG_letters g) lm (p + 1 + 1))
      · rw [if_neg (by decide), if_neg (by decide)]
        exact ⟨_, rfl, fun u h => by cases h⟩
      · rw [if_pos rfl, if_pos rfl]
        cases dgP (hrS (mG_letters g) lm (p + 1 + 1 + 1))
        · rw [if_neg (by decide), if_neg (by decide)]
          exact ⟨_, rfl, fun u h => by cases h⟩
        · rw [if_pos rfl, if_pos rfl, obs, if_neg hne, obs, if_neg hne]
          refine ⟨_, hf _ (p + 4) (by omega) _, fun u h => ?_⟩
          rw [fin_t h]
          refine ⟨fun z => (by cases z), fun z => (by cases z), fun z => (by cases z), fun _ => ⟨?_, pk_us⟩⟩
          rw [pk_un (by decide), pk_us]
  · rw [if_neg c1]
    by_cases c2 : c = 104
    · have d1 : ¬ c = 110 := by rw [c2]; decide
      rw [if_pos c2, M_readsKind hm hl (by omega), if_neg d1, if_pos c2]
      cases kdI (hrS (mG_letters g) lm (p + 1)) with
      | none => exact ⟨_, rfl, fun u h => by cases h⟩
      | some k =>
        dsimp only
        have r2 : f_X9_readsNumber (stM g (upd n 0 (nI k.val)) (p + 1 + 1)) 1 1 = _ := M_rd1 (g := g) (lm := lm) (p := p + 1 + 1) (k := 1) (n := upd n 0 (nI k.val)) hm hl (by omega) (by omega)
        rw [obs, if_neg hne, r2]
        cases dgP (hrS (mG_letters g) lm (p + 1 + 1))
        · rw [if_neg (by decide), if_neg (by decide)]
          exact ⟨_, rfl, fun u h => by cases h⟩
        · rw [if_pos rfl, if_pos rfl, obs, if_neg hne, obs, if_neg hne]
          refine ⟨_, hf _ (p + 3) (by omega) _, fun u h => ?_⟩
          rw [fin_t h]
          refine ⟨fun _ => ⟨?_, pk_us⟩, fun z => (by cases z), fun z => (by cases z), fun z => (by cases z)⟩
          rw [pk_un (by decide), pk_us]
    · rw [if_neg c2]
      by_cases c3 : c = 108
      · have d1 : ¬ c = 110 := by rw [c3]; decide
        have r1 : f_X9_readsNumber (stM g n (p + 1)) 0 2 = _ := M_rd2 (g := g) (lm := lm) (p := p + 1) (k := 0) (n := n) hm hl (by omega) (by omega)
        rw [if_pos c3, r1, if_neg d1, if_neg c2, if_pos c3]
        cases dgP (hrS (mG_letters g) lm (p + 1))
        · rw [if_neg (by decide), if_neg (by decide)]
          exact ⟨_, rfl, fun u h => by cases h⟩
        · rw [if_pos rfl, if_pos rfl]
          cases dgP (hrS (mG_letters g) lm (p + 1 + 1))
          · rw [if_neg (by decide), if_neg (by decide)]
            exact ⟨_, rfl, fun u h => by cases h⟩
          · rw [if_pos rfl, if_pos rfl, obs, if_neg hne]
            refine ⟨_, hf _ (p + 3) (by omega) _, fun u h => ?_⟩
            rw [fin_t h]
            exact ⟨fun z => (by cases z), fun _ => pk_us, fun z => (by cases z), fun z => (by cases z)⟩
      · rw [if_neg c3]
        by_cases c4 : c = 110
        · rw [if_pos c4, if_pos c4]
          refine ⟨_, hf _ (p + 1) (by omega) _, fun u h => ?_⟩
          rw [fin_t h]
          exact ⟨fun z => (by cases z), fun z => (by cases z), fun z => (by cases z), fun z => (by cases z)⟩
        · rw [if_neg c4, if_neg c4, if_neg c2, if_neg c3]
          by_cases c5 : c = 114
          · have r1 : f_X9_readsNumber (stM g n (p + 1)) 0 1 = _ := M_rd1 (g := g) (lm := lm) (p := p + 1) (k := 0) (n := n) hm hl (by omega) (by omega)
            rw [if_pos c5, r1, if_pos c5]
            cases dgP (hrS (mG_letters g) lm (p + 1))
            · rw [if_neg (by decide), if_neg (by decide)]
              exact ⟨_, rfl, fun u h => by cases h⟩
            · rw [if_pos rfl, if_pos rfl, obs, if_neg hne]
              refine ⟨_, hf _ (p + 2) (by omega) _, fun u h => ?_⟩
              rw [fin_t h]
              exact ⟨fun z => (by cases z), fun z => (by cases z), fun _ => pk_us, fun z => (by cases z)⟩
          · rw [if_neg c5, if_neg c5, if_neg c1, obs, stm_p, nI_pred, stm_sp]
            exact ⟨n, rfl, fun u h => by cases h⟩
/-- what a statement is -/
def tlOK (H : Nat → Int32) (p : Nat) (t : TL) : Prop := t.2.1 = nI p ∧ ((t.1 = 0 ∧ H p = 110) ∨ (t.1 = 1 ∧ H p = 104 ∧ ∃ d, d < 10 ∧ t.2.2.2.1 = nI d) ∨ (t.1 = 2 ∧ H p = 108 ∧ ∃ d, d < 100 ∧ t.2.2.2.1 = nI d) ∨ (t.1 = 3 ∧ H p = 114 ∧ ∃ d, d < 10 ∧ t.2.2.2.1 = nI d) ∨ (t.1 = 4 ∧ H p = 98 ∧ (∃ d, d < 10 ∧ t.2.2.2.1 = nI d) ∧ ∃ d, d < 100 ∧ t.2.2.2.2 = nI d))
theorem fin_q {H : Nat → Int32} {t : TL} {q : Nat} {u : TL × Nat} (h : finS H t q = .inl u) : u.2 = q + 1 := by
  unfold finS at h
  split at h
  · cases h; rfl
  · cases h
theorem two_dg {a b : Int32} (h1 : dgP a = true) (h2 : dgP b = true) : ∃ d, d < 100 ∧ (10 : Int32) * (a - 48) + (b - 48) = nI d := by
  obtain ⟨x, hx, ex⟩ := dg_n h1
  obtain ⟨y, hy, ey⟩ := dg_n h2
  refine ⟨10 * x + y, by omega, ?_⟩
  rw [ex, ey, mul10, nI_add]
theorem prs_ok {H : Nat → Int32} {p : Nat} {u : TL × Nat} (h : prsS H p = .inl u) : tlOK H p u.1 ∧ p < u.2 ∧ u.2 ≤ p + 5 := by
  unfold prsS at h
  split at h
  · rename_i e
    rw [fin_t h, fin_q h]
    exact ⟨⟨rfl, Or.inl ⟨rfl, e⟩⟩, by omega, by omega⟩
  · split at h
    · rename_i e
      split at h
      · cases h
      · split at h
        · rename_i e2
          rw [fin_t h, fin_q h]
          exact ⟨⟨rfl, Or.inr (Or.inl ⟨rfl, e, dg_n e2⟩)⟩, by omega, by omega⟩
        · cases h
    · split at h
      · rename_i e
        split at h
        · rename_i e1
          split at h
          · rename_i e2
            rw [fin_t h, fin_q h]
            exact ⟨⟨rfl, Or.inr (Or.inr (Or.inl ⟨rfl, e, two_dg e1 e2⟩))⟩, by omega, by omega⟩
          · cases h
        · cases h
      · split at h
        · rename_i e
          split at h
          · rename_i e1
            rw [fin_t h, fin_q h]
            exact ⟨⟨rfl, Or.inr (Or.inr (Or.inr (Or.inl ⟨rfl, e, dg_n e1⟩)))⟩, by omega, by omega⟩
          · cases h
        · split at h
          · rename_i e
            split at h
            · rename_i e1
              split at h
              · rename_i e2
                split at h
                · rename_i e3
                  rw [fin_t h, fin_q h]
                  exact ⟨⟨rfl, Or.inr (Or.inr (Or.inr (Or.inr ⟨rfl, e, dg_n e1, two_dg e2 e3⟩)))⟩, by omega, by omega⟩
                · cases h
              · cases h
            · cases h
          · cases h
theorem prs_lt {L : Nat → Int32} {lm p : Nat} {u : TL × Nat} (h : prsS (hrS L lm) p = .inl u) : u.2 ≤ lm := by
  have key : ∀ t q v, finS (hrS L lm) t q = .inl v → v.2 ≤ lm := by
    intro t q v hv
    rw [fin_q hv]
    unfold finS at hv
    split at hv
    · rename_i e
      unfold hrS at e
      split at e
      · omega
      · cases e
    · cases hv
  unfold prsS at h
  repeat (first | exact key _ _ _ h | cases h | split at h)
