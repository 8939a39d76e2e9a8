/-! PLAIN LAWS 8: fewest bites, safe bites, bites that can be -/
def soS (kd f v : Nat) : Nat → Nat → Bool
  | 0, s => decide (v ≤ shS s kd f)
  | n + 1, s => (fstN (fun k => canS s (k / 25) (k % 25) && soS kd f v n (dif s (bitS (k / 25) (k % 25)))) 100).isSome
def soP (kd f v n s k : Nat) : Bool := canS s (k / 25) (k % 25) && soS kd f v n (dif s (bitS (k / 25) (k % 25)))
theorem soS_s (kd f v n s : Nat) : soS kd f v (n + 1) s = (fstN (soP kd f v n s) 100).isSome := rfl
theorem sh_ge {s kd f v : Nat} (hf : f < 10) (hv : v ≤ 40) : (if nI (shS s kd f) < nI v then some (0 : Int32) else some 1) = some (bI (soS kd f v 0 s)) := by
  have h := shS_le (s := s) (kd := kd) hf
  unfold soS
  by_cases e : v ≤ shS s kd f
  · rw [if_neg (nI_nlt e (by omega)), decide_eq_true e]; rfl
  · rw [if_pos (nI_lt (by omega) (by omega)), decide_eq_false e]; rfl
theorem M_isSoBy {g : MS} {m h v : Nat} {K F : Nat → Nat} (hH : heM g m K F) (hh : h < m) (hv : v ≤ 40) : ∀ d n s, n < d → n < 100 → s < 33554432 → f_X9_isSoBy d g (nI s) (nI h) (nI v) (nI n) = some (bI (soS (K h) (F h) v n s)) := by
  intro d
  induction d with
  | zero => intro n s hn; omega
  | succ d ih =>
    intro n s hn hn2 hs
    rw [f_X9_isSoBy]
    cases n with
    | zero =>
      rw [if_pos nI_0, M_shareOf hs hH hh]
      simp only [obs]
      exact sh_ge (hH.F hh) hv
    | succ n =>
      rw [if_neg (nI_ne0 (by omega) (by omega))]
      have inner : ∀ sh, sh < 4 → f_X9_isSoBy_L33 (nI s) (nI h) (nI v) (nI (n + 1)) (f_X9_isSoBy d g) (nI sh) 1000 0 = some (fRes (fstN (fun c => soP (K h) (F h) v n s (25 * sh + c)) 25) (fun _ => (1 : Int32))) := by
        intro sh hsh
        have step : ∀ q c, c < 25 → f_X9_isSoBy_L33 (nI s) (nI h) (nI v) (nI (n + 1)) (f_X9_isSoBy d g) (nI sh) (q + 1) (nI c) = if soP (K h) (F h) v n s (25 * sh + c) then some (.inl 1) else f_X9_isSoBy_L33 (nI s) (nI h) (nI v) (nI (n + 1)) (f_X9_isSoBy d g) (nI sh) q (nI (c + 1)) := by
          intro q c hc
          rw [f_X9_isSoBy_L33, if_neg (n25 hc), M_canBite hsh hc, M_bite _ hsh _ hc]
          simp only [obs]
          rw [pz_dif, nI_pred, ih n _ (by omega) (by omega) (dif_T hs), nI_1]
          simp only [obs]
          unfold soP
          rw [show (25 * sh + c) / 25 = sh by omega, show (25 * sh + c) % 25 = c by omega]
          cases canS s sh c <;> cases soS (K h) (F h) v n (dif s (bitS sh c)) <;> rfl
        have hl := loopF (fun q i (_ : Unit) => f_X9_isSoBy_L33 (nI s) (nI h) (nI v) (nI (n + 1)) (f_X9_isSoBy d g) (nI sh) q i) 25 (fun c => soP (K h) (F h) v n s (25 * sh + c)) (fun _ => True) (fun o r => r = fRes o (fun _ => (1 : Int32))) (fun q _ _ => by
          refine ⟨_, ?_, rfl⟩
          rw [f_X9_isSoBy_L33, if_pos (by decide)]
          rfl) (fun q c _ hc _ hp => ⟨_, by rw [step q c hc, hp]; rfl, rfl⟩) (fun q c _ hc _ hp => ⟨(), trivial, by rw [step q c hc, hp]; rfl⟩) 1000 () trivial (by omega)
        obtain ⟨r, h1, h2⟩ := hl
        rw [h1, h2]
      have outer := nestF (fun q i => f_X9_isSoBy_L24 (nI s) (nI h) (nI v) (nI (n + 1)) (f_X9_isSoBy d g) q i) (fun sh => f_X9_isSoBy_L33 (nI s) (nI h) (nI v) (nI (n + 1)) (f_X9_isSoBy d g) (nI sh) 1000 0) (soP (K h) (F h) v n s) (fun _ => (1 : Int32)) inner (fun q sh hsh => by
        rw [f_X9_isSoBy_L24, if_neg (n4 hsh), ← nI_1 sh]
        rfl) (fun q => by
        rw [f_X9_isSoBy_L24, if_pos (by decide)])
      rw [outer, soS_s]
      cases fstN (soP (K h) (F h) v n s) 100 <;> rfl
theorem M_firstSo {g : MS} {s m h v n : Nat} {K F : Nat → Nat} (hs : s < 33554432) (hl : mG_left g = nI s) (hH : heM g m K F) (hh : h < m) (hv : v ≤ 40) (hn : n < 3) : f_X9_firstSo g (nI h) (nI v) (nI (n + 1)) = some (enc (fstN (soP (K h) (F h) v n s) 100)) := by
  have inner : ∀ sh, sh < 4 → f_X9_firstSo_L12 g (nI h) (nI v) (nI (n + 1)) (nI sh) 1000 0 = some (fRes (fstN (fun c => soP (K h) (F h) v n s (25 * sh + c)) 25) (fun c => nI (100 * ((25 * sh + c) / 25) + (25 * sh + c) % 25))) := by
    intro sh hsh
    have step : ∀ q c, c < 25 → f_X9_firstSo_L12 g (nI h) (nI v) (nI (n + 1)) (nI sh) (q + 1) (nI c) = if soP (K h) (F h) v n s (25 * sh + c) then some (.inl (nI (100 * ((25 * sh + c) / 25) + (25 * sh + c) % 25))) else f_X9_firstSo_L12 g (nI h) (nI v) (nI (n + 1)) (nI sh) q (nI (c + 1)) := by
      intro q c hc
      rw [f_X9_firstSo_L12, if_neg (n25 hc), hl, M_canBite hsh hc, M_bite _ hsh _ hc]
      simp only [obs]
      rw [pz_dif, nI_pred, M_isSoBy hH hh hv 4 n _ (by omega) (by omega) (dif_T hs), nI_1, mul100, nI_add]
      simp only [obs]
      unfold soP
      rw [show (25 * sh + c) / 25 = sh by omega, show (25 * sh + c) % 25 = c by omega]
      cases canS s sh c <;> cases soS (K h) (F h) v n (dif s (bitS sh c)) <;> rfl
    have hl := loopF (fun q i (_ : Unit) => f_X9_firstSo_L12 g (nI h) (nI v) (nI (n + 1)) (nI sh) q i) 25 (fun c => soP (K h) (F h) v n s (25 * sh + c)) (fun _ => True) (fun o r => r = fRes o (fun c => nI (100 * ((25 * sh + c) / 25) + (25 * sh + c) % 25))) (fun q _ _ => by
      refine ⟨_, ?_, rfl⟩
      rw [f_X9_firstSo_L12, if_pos (by decide)]
      rfl) (fun q c _ hc _ hp => ⟨_, by rw [step q c hc, hp]; rfl, rfl⟩) (fun q c _ hc _ hp => ⟨(), trivial, by rw [step q c hc, hp]; rfl⟩) 1000 () trivial (by omega)
    obtain ⟨r, h1, h2⟩ := hl
    rw [h1, h2]
  have outer := nestF (fun q i => f_X9_firstSo_L3 g (nI h) (nI v) (nI (n + 1)) q i) (fun sh => f_X9_firstSo_L12 g (nI h) (nI v) (nI (n + 1)) (nI sh) 1000 0) (soP (K h) (F h) v n s) (fun k => nI (100 * (k / 25) + k % 25)) inner (fun q sh hsh => by
    rw [f_X9_firstSo_L3, if_neg (n4 hsh), ← nI_1 sh]
    rfl) (fun q => by
    rw [f_X9_firstSo_L3, if_pos (by decide)])
  unfold f_X9_firstSo
  rw [outer]
  cases fstN (soP (K h) (F h) v n s) 100 <;> rfl
def fewS (s kd f v : Nat) (what : Int32) : Int32 := if soS kd f v 0 s then (if what = 0 then 0 else -9) else match fstN (soP kd f v 0 s) 100 with
  | some k => if what = 0 then 1 else enc (some k)
  | none => match fstN (soP kd f v 1 s) 100 with
    | some k => if what = 0 then 2 else enc (some k)
    | none => -9
theorem M_fewest {g : MS} {s m h v : Nat} {K F : Nat → Nat} {what : Int32} (hs : s < 33554432) (hl : mG_left g = nI s) (hH : heM g m K F) (hh : h < m) (hv : v ≤ 40) :
    bsR (f_X9_fewest_L53 g (nI h) (nI v) what 1000 0) (fun _ => some ((-9), g)) = some (fewS s (K h) (F h) v what, g) := by
  have n3 : ∀ k, k < 3 → ¬ (3 : Int32) ≤ nI k := fun k hk => nI_ge hk (by decide)
  have f0 : f_X9_isSoBy 4 g (nI s) (nI h) (nI v) 0 = some (bI (soS (K h) (F h) v 0 s)) := M_isSoBy hH hh hv 4 0 s (by omega) (by omega) hs
  have f1 : f_X9_isSoBy 4 g (nI s) (nI h) (nI v) 1 = some (bI (soS (K h) (F h) v 1 s)) := M_isSoBy hH hh hv 4 1 s (by omega) (by omega) hs
  have f2 : f_X9_isSoBy 4 g (nI s) (nI h) (nI v) 2 = some (bI (soS (K h) (F h) v 2 s)) := M_isSoBy hH hh hv 4 2 s (by omega) (by omega) hs
  have g1 : f_X9_firstSo g (nI h) (nI v) 1 = some (enc (fstN (soP (K h) (F h) v 0 s) 100)) := M_firstSo (n := 0) hs hl hH hh hv (by omega)
  have g2 : f_X9_firstSo g (nI h) (nI v) 2 = some (enc (fstN (soP (K h) (F h) v 1 s) 100)) := M_firstSo (n := 1) hs hl hH hh hv (by omega)
  rw [soS_s] at f1 f2
  have t0 : ∀ n, f_X9_fewest_L53 g (nI h) (nI v) what (n + 1) 0 = if bI (soS (K h) (F h) v 0 s) = 0 then f_X9_fewest_L53 g (nI h) (nI v) what n 1 else if what = 0 then some (.inl (0, g)) else some (.inl (-9, g)) := by
    intro n
    rw [f_X9_fewest_L53, if_neg (by decide), hl, f0]
    simp only [obs, if_true]
    rfl
  have t1 : ∀ n, f_X9_fewest_L53 g (nI h) (nI v) what (n + 1) 1 = if bI (fstN (soP (K h) (F h) v 0 s) 100).isSome = 0 then f_X9_fewest_L53 g (nI h) (nI v) what n 2 else if what = 0 then some (.inl (1, g)) else some (.inl (enc (fstN (soP (K h) (F h) v 0 s) 100), g)) := by
    intro n
    rw [f_X9_fewest_L53, if_neg (by decide), hl, f1]
    simp only [obs]
    rw [if_neg (show ¬ (1 : Int32) = 0 by decide), g1]
    rfl
  have t2 : ∀ n, f_X9_fewest_L53 g (nI h) (nI v) what (n + 1) 2 = if bI (fstN (soP (K h) (F h) v 1 s) 100).isSome = 0 then f_X9_fewest_L53 g (nI h) (nI v) what n 3 else if what = 0 then some (.inl (2, g)) else some (.inl (enc (fstN (soP (K h) (F h) v 1 s) 100), g)) := by
    intro n
    rw [f_X9_fewest_L53, if_neg (by decide), hl, f2]
    simp only [obs]
    rw [if_neg (show ¬ (2 : Int32) = 0 by decide), g2]
    rfl
  have t3 : ∀ n, f_X9_fewest_L53 g (nI h) (nI v) what (n + 1) 3 = some (.inr ()) := by
    intro n
    rw [f_X9_fewest_L53, if_pos (by decide)]
  rw [show (1000 : Nat) = 996 + 1 + 1 + 1 + 1 from rfl, t0, t1, t2, t3]
  unfold fewS
  cases soS (K h) (F h) v 0 s
  · cases fstN (soP (K h) (F h) v 0 s) 100 with
    | some k =>
      by_cases hw : what = 0
      · simp only [hw, if_true]; rfl
      · simp only [if_neg hw]; rfl
    | none =>
      cases fstN (soP (K h) (F h) v 1 s) 100 with
      | some k =>
        by_cases hw : what = 0
        · simp only [hw, if_true]; rfl
        · simp only [if_neg hw]; rfl
      | none => rfl
  · by_cases hw : what = 0
    · simp only [hw, if_true]; rfl
    · simp only [if_neg hw]; rfl
/-- behind one bite -/
theorem L_hasBehindOne {x : XS} {t m h v : Nat} {K F : Nat → Nat} (ht : t < 33554432) (hH : heR (xG_mind x) m K F) (hh : h < m) (hv : v ≤ 40) :
    ∃ y, f_X0_hasBehindOne x (nI t) (nI h) (nI v) = some (bI (soS (K h) (F h) v 1 t), y) ∧ kp x y ∧ heR (xG_mind y) m K F := by
  have h := loopF (fun q i (y : XS) => f_X0_hasBehindOne_L3 (nI t) (nI h) (nI v) q i y) 100 (soP (K h) (F h) v 0 t) (fun y => kp x y ∧ heR (xG_mind y) m K F) (fun o r => ∃ y, kp x y ∧ heR (xG_mind y) m K F ∧ r = match o with | some _ => .inl (1, y) | none => .inr y) (fun q y hy => by
    refine ⟨.inr y, ?_, y, hy.1, hy.2, rfl⟩
    rw [f_X0_hasBehindOne_L3, if_pos (by decide)]) (fun q k y hk hy hp => by
    have k1 : k / 25 < 4 := by omega
    have k2 : k % 25 < 25 := by omega
    have hT := bitS_T _ k1 _ k2
    unfold soP canS at hp
    rw [Bool.and_eq_true, decide_eq_true_eq] at hp
    have e1 : ¬ nI (bitS (k / 25) (k % 25)) = 0 := by rw [pz_z (by omega)]; exact hp.1.1
    have e2 : nI (dif (bitS (k / 25) (k % 25)) t) = 0 := by rw [hp.1.2]; rfl
    have e3 := sh_ge (s := dif t (bitS (k / 25) (k % 25))) (kd := K h) (hH.F hh) hv
    rw [hp.2] at e3
    refine ⟨_, ?_, xS_mind y (cvL (xG_mind y) (dif t (bitS (k / 25) (k % 25)))), hy.1.tr (kp.mind _ _), ?_, rfl⟩
    · rw [f_X0_hasBehindOne_L3, if_neg (n100 hk), rem25 (a := k) (by omega), div25 (a := k) (by omega), L_cellsOf _ k1 _ k2]
      simp only [obs]
      rw [if_neg e1, pz_dif, if_pos e2, pz_dif, L_leave _ (dif_T ht)]
      simp only [obs]
      rw [L_mindLeave (dif_T ht) hy.2 hh]
      simp only [obs]
      split at e3
      · cases e3
      · rename_i e4
        rw [if_neg e4]
    · rw [xgm]; exact cvL_H hy.2 _) (fun q k y hk hy hp => by
    have k1 : k / 25 < 4 := by omega
    have k2 : k % 25 < 25 := by omega
    have hT := bitS_T _ k1 _ k2
    rw [f_X0_hasBehindOne_L3, if_neg (n100 hk), rem25 (a := k) (by omega), div25 (a := k) (by omega), L_cellsOf _ k1 _ k2]
    simp only [obs]
    rw [nI_1]
    by_cases e1 : bitS (k / 25) (k % 25) = 0
    · rw [if_pos (by rw [e1]; rfl)]
      exact ⟨y, hy, rfl⟩
    · rw [if_neg (by rw [pz_z (by omega)]; exact e1), pz_dif]
      by_cases e2 : dif (bitS (k / 25) (k % 25)) t = 0
      · rw [if_pos (by rw [e2]; rfl), pz_dif, L_leave _ (dif_T ht)]
        simp only [obs]
        rw [L_mindLeave (dif_T ht) hy.2 hh]
        simp only [obs]
        have e3 := sh_ge (s := dif t (bitS (k / 25) (k % 25))) (kd := K h) (hH.F hh) hv
        unfold soP canS at hp
        rw [decide_eq_true ⟨e1, e2⟩, Bool.true_and] at hp
        rw [hp] at e3
        split at e3
        · rename_i e4
          rw [if_pos e4]
          exact ⟨_, ⟨hy.1.tr (kp.mind _ _), by rw [xgm]; exact cvL_H hy.2 _⟩, rfl⟩
        · cases e3
      · rw [if_neg (by rw [pz_z (by have := dif_T (b := t) hT; omega)]; exact e2)]
        exact ⟨y, hy, rfl⟩) 1000 x ⟨kp.rf x, hH⟩ (by omega)
  obtain ⟨r, h1, y, h2, h3, h4⟩ := h
  refine ⟨y, ?_, h2, h3⟩
  unfold f_X0_hasBehindOne
  rw [h1, h4, soS_s]
  cases fstN (soP (K h) (F h) v 0 t) 100 <;> rfl
theorem L_fewest_n {x : XS} {s m h v n : Nat} {K F : Nat → Nat} {what : Int32} (hx : coR x s m K F) (hM : heR (xG_mind x) m K F) (hh : h < m) (hv : v ≤ 40) (hn : n < 2) :
    ∃ y, f_X0_fewestFor_L41 (nI h) (nI v) what (nI (n + 1)) 1000 0 x = some (match fstN (soP (K h) (F h) v n s) 100 with | some k => .inl ((if what = 0 then nI (n + 1) else enc (some k)), y) | none => .inr y) ∧ kp x y ∧ heR (xG_mind y) m K F := by
  have hs := hx.1
  have body : ∀ k y, k < 100 → kp x y → heR (xG_mind y) m K F → ∃ z, (if nI (n + 1) = 1 then Option.bind (f_X8_leave (xG_mind y) (nI (dif s (bitS (k / 25) (k % 25))))) fun o16 => Option.bind (f_X8_shareOf (xG_mind (xS_mind y o16)) (nI h)) fun o18 => if o18 < nI v then some ((0 : Int32), xS_mind y o16) else some (1, xS_mind y o16) else Option.bind (f_X0_hasBehindOne y (nI (dif s (bitS (k / 25) (k % 25)))) (nI h) (nI v)) fun o15 => some (o15.1, o15.2)) = some (bI (soS (K h) (F h) v n (dif s (bitS (k / 25) (k % 25)))), z) ∧ kp x z ∧ heR (xG_mind z) m K F := by
    intro k y hk hy1 hy2
    cases n with
    | zero =>
      rw [if_pos (show nI (0 + 1) = 1 from rfl), L_leave _ (dif_T hs)]
      simp only [obs]
      rw [L_mindLeave (dif_T hs) hy2 hh]
      simp only [obs]
      have e3 := sh_ge (s := dif s (bitS (k / 25) (k % 25))) (kd := K h) (hx.2.2.F hh) hv
      refine ⟨xS_mind y (cvL (xG_mind y) (dif s (bitS (k / 25) (k % 25)))), ?_, hy1.tr (kp.mind _ _), by rw [xgm]; exact cvL_H hy2 _⟩
      split at e3
      · rename_i e4
        rw [if_pos e4]
        cases e5 : soS (K h) (F h) v 0 (dif s (bitS (k / 25) (k % 25)))
        · rfl
        · rw [e5] at e3; cases e3
      · rename_i e4
        rw [if_neg e4]
        cases e5 : soS (K h) (F h) v 0 (dif s (bitS (k / 25) (k % 25)))
        · rw [e5] at e3; cases e3
        · rfl
    | succ n =>
      have e : n = 0 := by omega
      subst e
      obtain ⟨z, hz1, hz2, hz3⟩ := L_hasBehindOne (x := y) (t := dif s (bitS (k / 25) (k % 25))) (dif_T hs) hy2 hh hv
      rw [if_neg (by decide), hz1]
      exact ⟨z, rfl, hy1.tr hz2, hz3⟩
  have h := loopF (fun q i (y : XS) => f_X0_fewestFor_L41 (nI h) (nI v) what (nI (n + 1)) q i y) 100 (soP (K h) (F h) v n s) (fun y => kp x y ∧ heR (xG_mind y) m K F) (fun o r => ∃ y, kp x y ∧ heR (xG_mind y) m K F ∧ r = match o with | some k => .inl ((if what = 0 then nI (n + 1) else enc (some k)), y) | none => .inr y) (fun q y hy => by
    refine ⟨.inr y, ?_, y, hy.1, hy.2, rfl⟩
    rw [f_X0_fewestFor_L41, if_pos (by decide)]) (fun q k y hk hy hp => by
    have k1 : k / 25 < 4 := by omega
    have k2 : k % 25 < 25 := by omega
    have hc := hx.kp hy.1
    unfold soP at hp
    rw [Bool.and_eq_true] at hp
    obtain ⟨z, hz1, hz2, hz3⟩ := body k y hk hy.1 hy.2
    rw [hp.2] at hz1
    refine ⟨_, ?_, z, hz2, hz3, rfl⟩
    rw [f_X0_fewestFor_L41, if_neg (n100 hk), rem25 (a := k) (by omega), div25 (a := k) (by omega), L_canBite hc.2.1.1 k1 k2, hp.1, L_cellsOf _ k1 _ k2, hc.2.1.1]
    simp only [obs]
    rw [if_neg (by decide), pz_dif, hz1, mul100, nI_add]
    simp only [obs]
    rw [if_neg (by decide)]
    by_cases hw : what = 0
    · simp only [if_pos hw]
    · simp only [if_neg hw]
      rfl) (fun q k y hk hy hp => by
    have k1 : k / 25 < 4 := by omega
    have k2 : k % 25 < 25 := by omega
    have hc := hx.kp hy.1
    rw [f_X0_fewestFor_L41, if_neg (n100 hk), rem25 (a := k) (by omega), div25 (a := k) (by omega), L_canBite hc.2.1.1 k1 k2, L_cellsOf _ k1 _ k2, hc.2.1.1]
    simp only [obs]
    rw [nI_1]
    unfold soP at hp
    cases e : canS s (k / 25) (k % 25)
    · rw [if_pos bI_f]
      exact ⟨y, hy, rfl⟩
    · obtain ⟨z, hz1, hz2, hz3⟩ := body k y hk hy.1 hy.2
      rw [e, Bool.true_and] at hp
      rw [hp] at hz1
      rw [if_neg (by decide), pz_dif, hz1]
      simp only [obs]
      rw [if_pos bI_f]
      exact ⟨z, ⟨hz2, hz3⟩, rfl⟩) 1000 x ⟨kp.rf x, hM⟩ (by omega)
  obtain ⟨r, h1, y, h2, h3, h4⟩ := h
  exact ⟨y, by rw [h1, h4], h2, h3⟩
theorem L_fewest {x : XS} {s m h v : Nat} {K F : Nat → Nat} {what : Int32} (hx : coR x s m K F) (hh : h < m) (hv : v ≤ 40) : ∃ y, f_X0_fewestFor x (nI h) (nI v) what = some (fewS s (K h) (F h) v what, y) ∧ kp x y := by
  have hs := hx.1
  have e3 := sh_ge (s := s) (kd := K h) (hx.2.2.F hh) hv
  unfold f_X0_fewestFor fewS
  rw [L_shareOf hs hx.2.1 hx.2.2 hh]
  simp only [obs]
  cases e5 : soS (K h) (F h) v 0 s
  · rw [e5] at e3
    split at e3
    · rename_i e4
      rw [if_pos e4, L_openMind]
      simp only [obs]
      obtain ⟨y1, e1⟩ : ∃ y1, y1 = xS_mind x (setV (xG_mind x) (xG_core0 x)) := ⟨_, rfl⟩
      have k1 : kp x y1 := by rw [e1]; exact kp.mind _ _
      have m1 : heR (xG_mind y1) m K F := by rw [e1, xgm]; exact setV_H hx.2.2
      rw [← e1]
      obtain ⟨y2, a1, a2, a3⟩ := L_fewest_n (n := 0) (what := what) (hx.kp k1) m1 hh hv (by omega)
      obtain ⟨y3, b1, b2, b3⟩ := L_fewest_n (n := 1) (what := what) ((hx.kp k1).kp a2) a3 hh hv (by omega)
      have t1 : ∀ n y, f_X0_fewestFor_L32 (nI h) (nI v) what (n + 1) 1 y = bsO (f_X0_fewestFor_L41 (nI h) (nI v) what (nI (0 + 1)) 1000 0 y) fun t6 => f_X0_fewestFor_L32 (nI h) (nI v) what n 2 t6 := by
        intro n y
        rw [f_X0_fewestFor_L32, if_neg (by decide)]
        rfl
      have t2 : ∀ n y, f_X0_fewestFor_L32 (nI h) (nI v) what (n + 1) 2 y = bsO (f_X0_fewestFor_L41 (nI h) (nI v) what (nI (1 + 1)) 1000 0 y) fun t6 => f_X0_fewestFor_L32 (nI h) (nI v) what n 3 t6 := by
        intro n y
        rw [f_X0_fewestFor_L32, if_neg (by decide)]
        rfl
      have t3 : ∀ n y, f_X0_fewestFor_L32 (nI h) (nI v) what (n + 1) 3 y = some (.inr y) := by
        intro n y
        rw [f_X0_fewestFor_L32, if_pos (by decide)]
      rw [show (1000 : Nat) = 997 + 1 + 1 + 1 from rfl, t1, a1]
      cases fstN (soP (K h) (F h) v 0 s) 100 with
      | some k =>
        refine ⟨y2, ?_, k1.tr a2⟩
        by_cases hw : what = 0
        · simp only [if_pos hw]; rfl
        · simp only [if_neg hw]; rfl
      | none =>
        show ∃ y, bsR (f_X0_fewestFor_L32 (nI h) (nI v) what (997 + 1 + 1) 2 y2) (fun t4 => some (-9, t4)) = _ ∧ _
        rw [t2, b1]
        cases fstN (soP (K h) (F h) v 1 s) 100 with
        | some k =>
          refine ⟨y3, ?_, (k1.tr a2).tr b2⟩
          by_cases hw : what = 0
          · simp only [if_pos hw]; rfl
          · simp only [if_neg hw]; rfl
        | none =>
          refine ⟨y3, ?_, (k1.tr a2).tr b2⟩
          show bsR (f_X0_fewestFor_L32 (nI h) (nI v) what (997 + 1) 3 y3) (fun t4 => some (-9, t4)) = _
          rw [t3]
          rfl
    · cases e3
  · rw [e5] at e3
    split at e3
    · cases e3
    · rename_i e4
      rw [if_neg e4]
      refine ⟨x, ?_, kp.rf x⟩
      by_cases hw : what = 0
      · simp only [if_pos hw]; rfl
      · simp only [if_neg hw]; rfl
