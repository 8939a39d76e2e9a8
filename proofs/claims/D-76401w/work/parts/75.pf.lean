/-! PLAIN LAWS 6: best, worst, grudge, gain, two -/
/-- all but the mind and the tables is kept -/
def kp (x y : XS) : Prop := xG_core0 y = xG_core0 x ∧ xG_imaged y = xG_imaged x ∧ xG_hasImage y = xG_hasImage x ∧ xG_rowMany y = xG_rowMany x ∧ xG_letterMany y = xG_letterMany x ∧ xG_row y = xG_row x ∧ xG_letters y = xG_letters x ∧ xG_refused y = xG_refused x
theorem kp.rf (x : XS) : kp x x := ⟨rfl, rfl, rfl, rfl, rfl, rfl, rfl, rfl⟩
theorem kp.tr {x y z : XS} (h : kp x y) (k : kp y z) : kp x z := ⟨k.1.trans h.1, k.2.1.trans h.2.1, k.2.2.1.trans h.2.2.1, k.2.2.2.1.trans h.2.2.2.1, k.2.2.2.2.1.trans h.2.2.2.2.1, k.2.2.2.2.2.1.trans h.2.2.2.2.2.1, k.2.2.2.2.2.2.1.trans h.2.2.2.2.2.2.1, k.2.2.2.2.2.2.2.trans h.2.2.2.2.2.2.2⟩
theorem kp.mind (x : XS) (v : CV) : kp x (xS_mind x v) := ⟨rfl, rfl, rfl, rfl, rfl, rfl, rfl, rfl⟩
/-- the class's core holds this -/
def coR (x : XS) (s m : Nat) (K F : Nat → Nat) : Prop := s < 33554432 ∧ cvR (xG_core0 x) s ∧ heR (xG_core0 x) m K F
theorem coR.kp {x y : XS} {s m : Nat} {K F : Nat → Nat} (h : coR x s m K F) (k : kp x y) : coR y s m K F := by
  unfold coR
  rw [k.1]
  exact h
theorem best_lt {s kd f : Nat} {sg : Int32} : ∀ k, bestS s kd f sg = some k → k < 100 := fun _ h => (bestS_some h).1
/-- what another has by one's best bite -/
def gvS (s : Nat) (K F : Nat → Nat) (a b : Nat) : Option Nat := (bestS s (K a) (F a) 1).map fun k => shS (aftS s (some k)) (K b) (F b)
def encV (o : Option Nat) : Int32 := match o with
  | none => -9
  | some v => nI v
theorem nI_m9 {v : Nat} (h : v < 2147483648) : nI v ≠ -9 := fun z => nI_pos h (by rw [z]; decide)
theorem encV_9 {o : Option Nat} (h : ∀ v, o = some v → v < 2147483648) : encV o = -9 ↔ o = none := by
  cases o with
  | none => exact ⟨fun _ => rfl, fun _ => rfl⟩
  | some v => exact ⟨fun z => absurd z (nI_m9 (h v rfl)), fun z => by cases z⟩
theorem gvS_le {s m : Nat} {K F : Nat → Nat} {a b : Nat} (hF : F b < 10) : ∀ v, gvS s K F a b = some v → v ≤ 100 := by
  intro v hv
  unfold gvS at hv
  cases e : bestS s (K a) (F a) 1 with
  | none => rw [e] at hv; cases hv
  | some k =>
    rw [e] at hv
    cases hv
    exact shS_le hF
theorem heR.F {cv : CV} {m : Nat} {K F : Nat → Nat} (h : heR cv m K F) {a : Nat} (ha : a < m) : F a < 10 := (h.2.2 a ha).1
theorem heM.F {g : MS} {m : Nat} {K F : Nat → Nat} (h : heM g m K F) {a : Nat} (ha : a < m) : F a < 10 := (h.2.2 a ha).1
/-- leaving in the mind -/
theorem L_mindLeave {x : XS} {t m h : Nat} {K F : Nat → Nat} (ht : t < 33554432) (hH : heR (xG_mind x) m K F) (hh : h < m) : f_X8_shareOf (xG_mind (xS_mind x (cvL (xG_mind x) t))) (nI h) = some (nI (shS t (K h) (F h))) := L_shareOf ht (cvL_R _ _) (cvL_H hH _) hh
theorem L_shareBy {x : XS} {s m : Nat} {K F : Nat → Nat} (hx : coR x s m K F) {a b : Nat} (ha : a < m) (hb : b < m) : ∃ y, f_X0_shareBy x (nI a) (nI b) = some (encV (gvS s K F a b), y) ∧ kp x y := by
  obtain ⟨hs, hc, hH⟩ := hx
  unfold f_X0_shareBy
  rw [L_bestFor hs hc hH ha]
  simp only [obs]
  have hn := enc_neg (bestS s (K a) (F a) 1) best_lt
  cases e : bestS s (K a) (F a) 1 with
  | none =>
    refine ⟨x, ?_, kp.rf x⟩
    rw [if_pos (by rfl)]
    unfold gvS
    rw [e]
    rfl
  | some k =>
    have hk := best_lt k e
    rw [e] at hn
    rw [if_neg (fun z => by have := hn.1.1 z; cases this), L_openMind]
    simp only [obs]
    rw [xgc, hc.1, L_without hk]
    simp only [obs]
    rw [xgm, L_leave _ (dif_T hs)]
    simp only [obs]
    rw [xgm, L_shareOf (dif_T hs) (cvL_R _ _) (cvL_H (setV_H hH) _) hb]
    simp only [obs]
    have ev : encV (gvS s K F a b) = nI (shS (dif s (bitS (k / 25) (k % 25))) (K b) (F b)) := by
      unfold gvS
      rw [e]
      rfl
    rw [ev]
    exact ⟨_, rfl, kp.mind x _⟩
/-- best and worst, told -/
def bestTS (s kd f : Nat) (sg what : Int32) : Int32 := if what = 0 then enc (bestS s kd f sg) else match bestS s kd f sg with
  | none => -9
  | some k => nI (shS (aftS s (some k)) kd f)
theorem M_bestTS {g : MS} {s m h : Nat} {K F : Nat → Nat} {sg what : Int32} (hs : s < 33554432) (hl : mG_left g = nI s) (hH : heM g m K F) (hh : h < m) :
    (Option.bind (f_X9_biteFor g (mG_left g) (nI h) sg) fun o5 => if o5 < 0 then some (o5, g) else if what = 0 then some (o5, g) else Option.bind (f_X9_after (mG_left g) o5) fun o8 => Option.bind (f_X9_shareOf g o8 (nI h)) fun o9 => some (o9, g)) = some (bestTS s (K h) (F h) sg what, g) := by
  rw [hl, M_biteFor hs hH hh]
  simp only [obs]
  have hn := enc_neg (bestS s (K h) (F h) sg) best_lt
  unfold bestTS
  by_cases hw : what = 0
  · rw [if_pos hw, if_pos hw]
    split <;> rfl
  · rw [if_neg hw, if_neg hw]
    cases e : bestS s (K h) (F h) sg with
    | none => rfl
    | some k =>
      rw [e] at hn
      rw [if_neg (fun z => by have := hn.2.1.1 z; cases this), M_after (some k) (fun j hj => by cases hj; exact best_lt _ e)]
      simp only [obs]
      rw [M_shareOf (aft_T hs _) hH hh]
      simp only [obs]
theorem L_bestTS {x : XS} {s m h : Nat} {K F : Nat → Nat} {sg what : Int32} (hx : coR x s m K F) (hh : h < m) :
    ∃ y, (Option.bind (f_X0_bestFor (xG_core0 x) (nI h) sg) fun o3 => if what = 0 then some (Sum.inl (o3, x)) else if o3 = (-9) then some (Sum.inl (o3, x)) else Option.bind (f_X0_openMind x) fun o6 => Option.bind (f_X0_without (cG_left (xG_core0 o6)) o3) fun o7 => Option.bind (f_X8_leave (xG_mind o6) o7) fun o8 => Option.bind (some (xS_mind o6 o8)) fun g9 => Option.bind (f_X8_shareOf (xG_mind g9) (nI h)) fun o10 => some (Sum.inl (o10, g9))) = (some (Sum.inl (bestTS s (K h) (F h) sg what, y)) : Option ((Int32 × XS) ⊕ (Int32 × XS))) ∧ kp x y := by
  obtain ⟨hs, hc, hH⟩ := hx
  rw [L_bestFor hs hc hH hh]
  simp only [obs]
  have hn := enc_neg (bestS s (K h) (F h) sg) best_lt
  unfold bestTS
  by_cases hw : what = 0
  · rw [if_pos hw, if_pos hw]
    exact ⟨x, rfl, kp.rf x⟩
  · rw [if_neg hw, if_neg hw]
    cases e : bestS s (K h) (F h) sg with
    | none => exact ⟨x, rfl, kp.rf x⟩
    | some k =>
      rw [e] at hn
      rw [if_neg (fun z => by have := hn.1.1 z; cases this), L_openMind]
      simp only [obs]
      rw [xgc, hc.1, L_without (best_lt _ e)]
      simp only [obs]
      rw [xgm, L_leave _ (dif_T hs)]
      simp only [obs]
      rw [xgm, L_shareOf (dif_T hs) (cvL_R _ _) (cvL_H (setV_H hH) _) hh]
      exact ⟨_, rfl, kp.mind x _⟩
/-- who bears one the worst grudge -/
def gStep (s : Nat) (K F : Nat → Nat) (a o : Nat) (q : Option Nat × Int32) : Option Nat × Int32 := if o = a then q else match gvS s K F o a with
  | none => q
  | some v => if nI v < q.2 then (some o, nI v) else q
def gSeq (s : Nat) (K F : Nat → Nat) (a : Nat) : Nat → Option Nat × Int32
  | 0 => (none, 1000000000)
  | k + 1 => gStep s K F a k (gSeq s K F a k)
def grudS (s : Nat) (K F : Nat → Nat) (a m : Nat) : Option Nat := (gSeq s K F a m).1
theorem M_grudge {g : MS} {s m a : Nat} {K F : Nat → Nat} (hs : s < 33554432) (hl : mG_left g = nI s) (hH : heM g m K F) (ha : a < m) : f_X9_grudge_L23 g (nI a) 1000 0 1000000000 (-9) = some (encV (grudS s K F a m)) := by
  have hm := hH.2.1
  have key := loopU (fun n i (q : Int32 × Int32) => f_X9_grudge_L23 g (nI a) n i q.1 q.2) m (fun k => ((gSeq s K F a k).2, encV (gSeq s K F a k).1)) (encV (grudS s K F a m)) (fun n => by
    dsimp only
    rw [f_X9_grudge_L23, hH.1, if_pos (nI_le (Nat.le_refl m) (by omega))]
    rfl) (fun n k hk => by
    dsimp only
    rw [f_X9_grudge_L23, hH.1, if_neg (nI_ge hk (by omega)), nI_1]
    have hka : nI k = nI a ↔ k = a := nI_eq (by omega) (by omega)
    simp only [hka]
    rw [gSeq, gStep]
    by_cases e : k = a
    · rw [if_pos e, if_pos e]
      simp only [obs]
      rw [if_pos (by decide)]
    · rw [if_neg e, if_neg e, hl, M_biteFor hs hH hk]
      simp only [obs]
      have hn := enc_neg (bestS s (K k) (F k) 1) best_lt
      unfold gvS
      cases e2 : bestS s (K k) (F k) 1 with
      | none => rw [if_pos (by decide)]; rfl
      | some j =>
        rw [e2] at hn
        rw [if_neg (fun z => by have := hn.2.1.1 z; cases this), M_after (some j) (fun i hi => by cases hi; exact best_lt _ e2)]
        simp only [obs]
        rw [M_shareOf (aft_T hs _) hH ha]
        simp only [obs, Option.map_some]
        by_cases e3 : nI (shS (aftS s (some j)) (K a) (F a)) < (gSeq s K F a k).2
        · rw [if_pos e3, if_pos e3]; rfl
        · rw [if_neg e3, if_neg e3]) 1000 0 (by omega) (by omega)
  rw [nI_0] at key
  exact key
theorem L_grudge {x : XS} {s m a : Nat} {K F : Nat → Nat} (hx : coR x s m K F) (ha : a < m) : ∃ y, f_X0_worstGrudge x (nI a) = some (encV (grudS s K F a m), y) ∧ kp x y := by
  have hm := hx.2.2.2.1
  have key := loopI (fun n i (q : Int32 × Int32 × XS) => f_X0_worstGrudge_L9 (nI a) n i q.1 q.2.1 q.2.2) m (fun k q => q.1 = (gSeq s K F a k).2 ∧ q.2.1 = encV (gSeq s K F a k).1 ∧ kp x q.2.2) (fun r => r.1 = encV (grudS s K F a m) ∧ kp x r.2) (by
    rintro n k ⟨q1, q2, y⟩ hk ⟨i1, i2, i3⟩
    dsimp only at i1 i2 i3 ⊢
    subst i1 i2
    have hy := hx.kp i3
    rcases Nat.lt_or_ge k m with h1 | h1
    · right
      refine ⟨h1, ?_⟩
      have hka : nI k = nI a ↔ k = a := nI_eq (by omega) (by omega)
      rw [f_X0_worstGrudge_L9, hy.2.2.1, if_neg (nI_ge h1 (by omega)), nI_1]
      simp only [hka]
      by_cases e : k = a
      · refine ⟨((gSeq s K F a (k + 1)).2, encV (gSeq s K F a (k + 1)).1, y), ⟨rfl, rfl, i3⟩, ?_⟩
        rw [gSeq, gStep, if_pos e, if_pos e]
        simp only [obs, if_true]
      · obtain ⟨z, hz, hkp⟩ := L_shareBy hy h1 ha
        have hle : ∀ v, gvS s K F k a = some v → v ≤ 100 := gvS_le (m := m) (hx.2.2.F ha)
        refine ⟨((gSeq s K F a (k + 1)).2, encV (gSeq s K F a (k + 1)).1, z), ⟨rfl, rfl, i3.tr hkp⟩, ?_⟩
        rw [gSeq, gStep, if_neg e, if_neg e, hz]
        simp only [obs]
        cases e2 : gvS s K F k a with
        | none =>
          have h9 : encV none = -9 := rfl
          simp only [h9, obs, if_true]
        | some v =>
          have hv := hle v e2
          have h9 : ¬ encV (some v) = -9 := nI_m9 (by omega)
          have h10 : ¬ (1 : Int32) = 0 := by decide
          rw [if_neg h9]
          dsimp only
          by_cases e3 : nI v < (gSeq s K F a k).2
          · have e4 : ¬ (gSeq s K F a k).2 ≤ encV (some v) := Int32.not_le.2 e3
            rw [if_neg e4, if_pos e3]
            simp only [obs, if_neg h10]
            rfl
          · have e4 : (gSeq s K F a k).2 ≤ encV (some v) := Int32.not_lt.1 e3
            rw [if_pos e4, if_neg e3]
            simp only [obs, if_true]
    · left
      have e : k = m := by omega
      subst e
      refine ⟨(encV (gSeq s K F a k).1, y), ?_, rfl, i3⟩
      rw [f_X0_worstGrudge_L9, hy.2.2.1, if_pos (nI_le (Nat.le_refl k) (by omega))])
  obtain ⟨r, h1, h2, h3⟩ := key 20 0 (1000000000, -9, x) (by omega) ⟨rfl, rfl, kp.rf x⟩ (by omega)
  rw [nI_0] at h1
  refine ⟨r.2, ?_, h3⟩
  unfold f_X0_worstGrudge
  rw [h1]
  simp only [obs]
  rw [h2]
/-- what one gains by another's best bite -/
def gainS (s : Nat) (K F : Nat → Nat) (a b : Nat) : Int32 := match gvS s K F a b with
  | none => 0
  | some v => nI v - nI (shS s (K b) (F b))
theorem M_gain {g : MS} {s m a b : Nat} {K F : Nat → Nat} (hs : s < 33554432) (hl : mG_left g = nI s) (hH : heM g m K F) (ha : a < m) (hb : b < m) :
    (Option.bind (f_X9_biteFor g (mG_left g) (nI a) (1 : Int32)) fun o4 => Option.bind (f_X9_after (mG_left g) o4) fun o5 => Option.bind (f_X9_shareOf g o5 (nI b)) fun o6 => Option.bind (f_X9_shareOf g (mG_left g) (nI b)) fun o7 => some ((o6 - o7), g)) = some (gainS s K F a b, g) := by
  rw [hl, M_biteFor hs hH ha]
  simp only [obs]
  rw [M_after _ best_lt]
  simp only [obs]
  rw [M_shareOf (aft_T hs _) hH hb, M_shareOf hs hH hb]
  simp only [obs]
  unfold gainS gvS
  cases bestS s (K a) (F a) 1 with
  | none =>
    show some (nI (shS s (K b) (F b)) - nI (shS s (K b) (F b)), g) = some (0, g)
    rw [Int32.sub_self]
  | some k => rfl
theorem L_gain {x : XS} {s m a b : Nat} {K F : Nat → Nat} (hx : coR x s m K F) (ha : a < m) (hb : b < m) : ∃ y, f_X0_gainOf x (nI a) (nI b) = some (gainS s K F a b, y) ∧ kp x y := by
  obtain ⟨y, hy, hk⟩ := L_shareBy hx ha hb
  have hle : ∀ v, gvS s K F a b = some v → v ≤ 100 := gvS_le (m := m) (hx.2.2.F hb)
  refine ⟨y, ?_, hk⟩
  have hx' := hx.kp hk
  unfold f_X0_gainOf gainS
  rw [hy]
  simp only [obs]
  cases e : gvS s K F a b with
  | none => rfl
  | some v =>
    have h9 : ¬ encV (some v) = -9 := nI_m9 (by have := hle v e; omega)
    rw [if_neg h9, L_shareOf hx'.1 hx'.2.1 hx'.2.2 hb]
    rfl
