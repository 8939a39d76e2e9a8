/-! PLAIN LAWS 5: bites that would be -/
theorem rem25 {a : Nat} (h : a < 2147483648) : nI a - nI a / 25 * 25 = nI (a % 25) := pk_rem (a := a) (d := 25) h (by omega) (by omega)
theorem div25 {a : Nat} (h : a < 2147483648) : nI a / 25 = nI (a / 25) := pk_div (a := a) (d := 25) h (by omega) (by omega)
theorem rem100 {a : Nat} (h : a < 2147483648) : nI a - nI a / 100 * 100 = nI (a % 100) := pk_rem (a := a) (d := 100) h (by omega) (by omega)
theorem div100 {a : Nat} (h : a < 2147483648) : nI a / 100 = nI (a / 100) := pk_div (a := a) (d := 100) h (by omega) (by omega)
theorem mul100 (a : Nat) : (100 : Int32) * nI a = nI (100 * a) := pk_mul 100 a
theorem xgm (x : XS) (v : CV) : xG_mind (xS_mind x v) = v := rfl
theorem xgc (x : XS) (v : CV) : xG_core0 (xS_mind x v) = xG_core0 x := rfl
theorem xgg (x : XS) (v w : CV) : xS_mind (xS_mind x v) w = xS_mind x w := rfl
/-- a core set as another -/
def setV (cv ov : CV) : CV := (cG_left ov, cG_heirs ov, cG_bitten ov, cG_deed ov, cG_pieceMany ov, cG_leastPiece ov, va_cpy (cG_kind ov) (cG_kind cv) 0 0 5, va_cpy (cG_figures ov) (cG_figures cv) 0 0 5)
theorem L_set (cv ov : CV) : f_X8_set cv ov = some (setV cv ov) := rfl
theorem cpy5 {α : Type} (f g : Nat → α) {h : Nat} (hh : h < 5) : va_cpy f g 0 0 5 h = f h := by
  rw [pk_cpy_in (by omega) (by omega)]
  congr 1
  omega
theorem setV_R {cv ov : CV} {s : Nat} (h : cvR ov s) : cvR (setV cv ov) s := h
theorem setV_H {cv ov : CV} {m : Nat} {K F : Nat → Nat} (h : heR ov m K F) : heR (setV cv ov) m K F := by
  obtain ⟨h1, h2, h3⟩ := h
  refine ⟨h1, h2, fun k hk => ?_⟩
  obtain ⟨a, b, c⟩ := h3 k hk
  refine ⟨a, ?_, ?_⟩
  · show ∃ hk : K k < 6, va_cpy (cG_kind ov) (cG_kind cv) 0 0 5 k = _
    rw [cpy5 _ _ (by omega)]
    exact b
  · show va_cpy (cG_figures ov) (cG_figures cv) 0 0 5 k = _
    rw [cpy5 _ _ (by omega)]
    exact c
theorem L_openMind (x : XS) : f_X0_openMind x = some (xS_mind x (setV (xG_mind x) (xG_core0 x))) := rfl
/-- a code: which bite -/
def enc (o : Option Nat) : Int32 := match o with
  | none => -9
  | some k => nI (100 * (k / 25) + k % 25)
def aftS (s : Nat) (o : Option Nat) : Nat := match o with
  | none => s
  | some k => dif s (bitS (k / 25) (k % 25))
def bStep (s kd f : Nat) (sg : Int32) (k : Nat) (q : Option Nat × Int32) : Option Nat × Int32 := if canS s (k / 25) (k % 25) then (if q.2 < sg * nI (shS (dif s (bitS (k / 25) (k % 25))) kd f) then (some k, sg * nI (shS (dif s (bitS (k / 25) (k % 25))) kd f)) else q) else q
def bSeq (s kd f : Nat) (sg : Int32) : Nat → Option Nat × Int32
  | 0 => (none, sg * nI (shS s kd f))
  | k + 1 => bStep s kd f sg k (bSeq s kd f sg k)
def bestS (s kd f : Nat) (sg : Int32) : Option Nat := (bSeq s kd f sg 100).1
theorem bSeq_some (s kd f : Nat) (sg : Int32) : ∀ n k, (bSeq s kd f sg n).1 = some k → k < n ∧ canS s (k / 25) (k % 25) = true
  | 0, k, h => by cases h
  | n + 1, k, h => by
    unfold bSeq bStep at h
    split at h
    · split at h
      · cases h
        exact ⟨by omega, by assumption⟩
      · have := bSeq_some s kd f sg n k h
        exact ⟨by omega, this.2⟩
    · have := bSeq_some s kd f sg n k h
      exact ⟨by omega, this.2⟩
theorem bestS_some {s kd f : Nat} {sg : Int32} {k : Nat} (h : bestS s kd f sg = some k) : k < 100 ∧ canS s (k / 25) (k % 25) = true := bSeq_some s kd f sg 100 k h
def bV (s kd f : Nat) (sg : Int32) (k : Nat) : Int32 := sg * nI (shS (dif s (bitS (k / 25) (k % 25))) kd f)
theorem bS_no {s kd f : Nat} {sg : Int32} {k : Nat} (h : canS s (k / 25) (k % 25) = false) : bSeq s kd f sg (k + 1) = bSeq s kd f sg k := by
  rw [bSeq, bStep, h]
  rfl
theorem bS_lt {s kd f : Nat} {sg : Int32} {k : Nat} (h : canS s (k / 25) (k % 25) = true) (h2 : (bSeq s kd f sg k).2 < bV s kd f sg k) : bSeq s kd f sg (k + 1) = (some k, bV s kd f sg k) := by
  rw [bSeq, bStep, if_pos h]
  exact if_pos h2
theorem bS_ge {s kd f : Nat} {sg : Int32} {k : Nat} (h : canS s (k / 25) (k % 25) = true) (h2 : ¬ (bSeq s kd f sg k).2 < bV s kd f sg k) : bSeq s kd f sg (k + 1) = bSeq s kd f sg k := by
  rw [bSeq, bStep, if_pos h]
  exact if_neg h2
theorem L_bestFor {cv : CV} {s m h : Nat} {K F : Nat → Nat} {sg : Int32} (hs : s < 33554432) (hc : cvR cv s) (hH : heR cv m K F) (hh : h < m) : f_X0_bestFor cv (nI h) sg = some (enc (bestS s (K h) (F h) sg)) := by
  have hl := hc.1
  have key := loopI (fun g i (q : Int32 × Int32 × CV) => f_X0_bestFor_L29 cv (nI h) sg g i q.1 q.2.1 q.2.2) 100 (fun k q => q.1 = (bSeq s (K h) (F h) sg k).2 ∧ q.2.1 = enc (bSeq s (K h) (F h) sg k).1 ∧ heR q.2.2 m K F) (fun r => r.1 = enc (bestS s (K h) (F h) sg)) (by
    rintro n k ⟨q1, q2, q3⟩ hk ⟨i1, i2, i3⟩
    dsimp only at i1 i2 i3 ⊢
    subst i1 i2
    rcases Nat.lt_or_ge k 100 with h1 | h1
    · right
      refine ⟨h1, ?_⟩
      have k1 : k / 25 < 4 := by omega
      have k2 : k % 25 < 25 := by omega
      rw [f_X0_bestFor_L29, if_neg (n100 h1)]
      simp only [obs]
      rw [rem25 (a := k) (by omega), div25 (a := k) (by omega), L_canBite hl k1 k2]
      simp only [obs]
      rw [nI_1]
      cases e : canS s (k / 25) (k % 25)
      · rw [if_pos bI_f]
        refine ⟨((bSeq s (K h) (F h) sg (k + 1)).2, enc (bSeq s (K h) (F h) sg (k + 1)).1, q3), ⟨rfl, rfl, i3⟩, ?_⟩
        rw [bS_no e]
      · rw [if_neg (by decide), L_cellsOf _ k1 _ k2, hl]
        simp only [obs]
        rw [pz_dif, L_leave _ (dif_T hs)]
        simp only [obs]
        rw [L_shareOf (dif_T hs) (cvL_R _ _) (cvL_H i3 _) hh]
        simp only [obs]
        refine ⟨((bSeq s (K h) (F h) sg (k + 1)).2, enc (bSeq s (K h) (F h) sg (k + 1)).1, cvL q3 (dif s (bitS (k / 25) (k % 25)))), ⟨rfl, rfl, cvL_H i3 _⟩, ?_⟩
        show (Option.bind (if bV s (K h) (F h) sg k ≤ (bSeq s (K h) (F h) sg k).2 then some (enc (bSeq s (K h) (F h) sg k).1) else some (100 * nI (k / 25) + nI (k % 25))) fun o16 => f_X0_bestFor_L29 cv (nI h) sg n (nI (k + 1)) (if (bSeq s (K h) (F h) sg k).2 < bV s (K h) (F h) sg k then bV s (K h) (F h) sg k else (bSeq s (K h) (F h) sg k).2) o16 (cvL q3 (dif s (bitS (k / 25) (k % 25))))) = _
        by_cases e2 : (bSeq s (K h) (F h) sg k).2 < bV s (K h) (F h) sg k
        · rw [if_pos e2, if_neg (Int32.not_le.2 e2), bS_lt e e2, mul100, nI_add]
          rfl
        · rw [if_neg e2, if_pos (Int32.not_lt.1 e2), bS_ge e e2]
          rfl
    · left
      have e : k = 100 := by omega
      subst e
      refine ⟨(enc (bSeq s (K h) (F h) sg 100).1, q3), ?_, rfl⟩
      rw [f_X0_bestFor_L29, if_pos (by decide)])
  unfold f_X0_bestFor
  rw [L_shareOf hs hc hH hh]
  simp only [obs]
  rw [L_set]
  simp only [obs]
  obtain ⟨r, h1, h2⟩ := key 1000 0 (sg * nI (shS s (K h) (F h)), -9, setV cv0 cv) (by omega) ⟨rfl, rfl, setV_H hH⟩ (by omega)
  rw [nI_0] at h1
  rw [h1]
  simp only [obs]
  rw [h2]
theorem M_biteFor {g : MS} {s m h : Nat} {K F : Nat → Nat} {sg : Int32} (hs : s < 33554432) (hH : heM g m K F) (hh : h < m) : f_X9_biteFor g (nI s) (nI h) sg = some (enc (bestS s (K h) (F h) sg)) := by
  have inner : ∀ sh, sh < 4 → f_X9_biteFor_L26 g (nI s) (nI h) sg (nI sh) 1000 0 (bSeq s (K h) (F h) sg (25 * sh)).2 (enc (bSeq s (K h) (F h) sg (25 * sh)).1) = some ((bSeq s (K h) (F h) sg (25 * (sh + 1))).2, enc (bSeq s (K h) (F h) sg (25 * (sh + 1))).1) := by
    intro sh hsh
    have key := loopU (fun n i (q : Int32 × Int32) => f_X9_biteFor_L26 g (nI s) (nI h) sg (nI sh) n i q.1 q.2) 25 (fun c => ((bSeq s (K h) (F h) sg (25 * sh + c)).2, enc (bSeq s (K h) (F h) sg (25 * sh + c)).1)) ((bSeq s (K h) (F h) sg (25 * (sh + 1))).2, enc (bSeq s (K h) (F h) sg (25 * (sh + 1))).1) (fun n => by
      dsimp only
      rw [f_X9_biteFor_L26, if_pos (by decide)]
      rfl) (fun n c hc => by
      dsimp only
      have k1 : (25 * sh + c) / 25 = sh := by omega
      have k2 : (25 * sh + c) % 25 = c := by omega
      rw [f_X9_biteFor_L26, if_neg (n25 hc), M_canBite hsh hc]
      simp only [obs]
      rw [nI_1, ← Nat.add_assoc]
      cases e : canS s sh c
      · rw [if_pos bI_f, bS_no (by rw [k1, k2]; exact e)]
      · have e1 : canS s ((25 * sh + c) / 25) ((25 * sh + c) % 25) = true := by rw [k1, k2]; exact e
        rw [if_neg (by decide), M_bite _ hsh _ hc]
        simp only [obs]
        rw [pz_dif, M_shareOf (dif_T hs) hH hh]
        simp only [obs]
        have ev : sg * nI (shS (dif s (bitS sh c)) (K h) (F h)) = bV s (K h) (F h) sg (25 * sh + c) := by unfold bV; rw [k1, k2]
        rw [ev]
        by_cases e2 : (bSeq s (K h) (F h) sg (25 * sh + c)).2 < bV s (K h) (F h) sg (25 * sh + c)
        · rw [if_pos e2, bS_lt e1 e2, mul100, nI_add]
          dsimp only
          rw [enc, k1, k2]
        · rw [if_neg e2, bS_ge e1 e2]) 1000 0 (by omega) (by omega)
    rw [nI_0] at key
    exact key
  have outer := loopU (fun n i (q : Int32 × Int32) => f_X9_biteFor_L17 g (nI s) (nI h) sg n i q.1 q.2) 4 (fun sh => ((bSeq s (K h) (F h) sg (25 * sh)).2, enc (bSeq s (K h) (F h) sg (25 * sh)).1)) (enc (bestS s (K h) (F h) sg)) (fun n => by
    dsimp only
    rw [f_X9_biteFor_L17, if_pos (by decide)]
    rfl) (fun n sh hsh => by
    dsimp only
    rw [f_X9_biteFor_L17, if_neg (n4 hsh), inner sh hsh]
    simp only [obs]
    rw [nI_1]) 1000 0 (by omega) (by omega)
  unfold f_X9_biteFor
  rw [M_shareOf hs hH hh]
  simp only [obs]
  rw [nI_0] at outer
  have o2 : f_X9_biteFor_L17 g (nI s) (nI h) sg 1000 0 (sg * nI (shS s (K h) (F h))) (-9) = some (enc (bestS s (K h) (F h) sg)) := outer
  rw [o2]
  simp only [obs]
theorem enc_neg (o : Option Nat) (h : ∀ k, o = some k → k < 100) : (enc o = (-9) ↔ o = none) ∧ (enc o < 0 ↔ o = none) ∧ (0 ≤ enc o ↔ o ≠ none) := by
  cases o with
  | none => exact ⟨⟨fun _ => rfl, fun _ => rfl⟩, ⟨fun _ => rfl, fun _ => by decide⟩, ⟨fun z => absurd z (by decide), fun z => (z rfl).elim⟩⟩
  | some k =>
    have hk := h k rfl
    have hp : 100 * (k / 25) + k % 25 < 2 ^ 31 := by omega
    have h1 : ¬ nI (100 * (k / 25) + k % 25) < 0 := nI_pos hp
    have h2 : (0 : Int32) ≤ nI (100 * (k / 25) + k % 25) := nI_pos' hp
    have h3 : nI (100 * (k / 25) + k % 25) ≠ (-9) := fun z => h1 (by rw [z]; decide)
    exact ⟨⟨fun z => absurd z h3, fun z => by cases z⟩, ⟨fun z => absurd z h1, fun z => by cases z⟩, ⟨fun _ z => (by cases z), fun _ => h2⟩⟩
theorem L_without {s k : Nat} (hk : k < 100) : f_X0_without (nI s) (enc (some k)) = some (nI (dif s (bitS (k / 25) (k % 25)))) := by
  unfold f_X0_without enc
  dsimp only
  rw [rem100 (by omega), div100 (by omega), show (100 * (k / 25) + k % 25) / 100 = k / 25 by omega, show (100 * (k / 25) + k % 25) % 100 = k % 25 by omega, L_cellsOf _ (by omega) _ (by omega)]
  simp only [obs]
  rw [pz_dif]
theorem M_after {s : Nat} (o : Option Nat) (h : ∀ k, o = some k → k < 100) : f_X9_after (nI s) (enc o) = some (nI (aftS s o)) := by
  have hn := enc_neg o h
  cases o with
  | none => rfl
  | some k =>
    have hk := h k rfl
    unfold f_X9_after
    rw [if_pos (hn.2.2.2 (fun z => by cases z))]
    unfold enc
    dsimp only
    rw [rem100 (by omega), div100 (by omega), show (100 * (k / 25) + k % 25) / 100 = k / 25 by omega, show (100 * (k / 25) + k % 25) % 100 = k % 25 by omega, M_bite _ (by omega) _ (by omega)]
    simp only [obs]
    rw [pz_dif]
    rfl
theorem aft_T {s : Nat} (hs : s < 33554432) (o : Option Nat) : aftS s o < 33554432 := by
  cases o with
  | none => exact hs
  | some k => exact dif_T hs
