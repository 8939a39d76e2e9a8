/-! PLAIN LAWS 15: what one is, judging, lots -/
theorem heM.kp {g h : MS} {m : Nat} {K F : Nat → Nat} (a : heM g m K F) (k : kpm g h) : heM h m K F := by
  obtain ⟨k1, k2, k3, k4, k5, k6, k7, k8, k9, k10, k11, k12, k13, k14, k15, k16⟩ := k
  unfold heM
  rw [k3, k10, k11]
  exact a
def rowP (s kd f : Nat) (rw_ : Nat → Int32) (i : Nat) : Bool := decide (nI (shS (if i = 0 then s else bdif s (i - 1)) kd f) = rw_ i)
def fitP (s m : Nat) (K F : Nat → Nat) (h rm : Nat) (rw_ : Nat → Int32) (what : Int32) (k : Nat) : Bool := allU (rowP s (if what = 0 then k else K h) (if what = 1 then k else F h) rw_) rm
theorem bdT {s i : Nat} (hs : s < 33554432) : (if i = 0 then s else bdif s (i - 1)) < 33554432 := by
  split
  · exact hs
  · exact dif_T hs
theorem rowL {s i : Nat} (hi : i < 20) : (if nI i = 0 then some (nI s) else some (nI s &&& (((1 : Int32) <<< ((nI i - 1) &&& 31)) ^^^ (-1)))) = some (nI (if i = 0 then s else bdif s (i - 1))) := by
  by_cases e : i = 0
  · rw [if_pos (by rw [e]; rfl), if_pos e]
  · rw [if_neg (by rw [pz_z (by omega)]; exact e), if_neg e, sub1 (by omega), pz_shl1 _ (by omega), pz_dif]
    rfl
theorem L_isRow {x : XS} {s m h rm : Nat} {K F K' F' : Nat → Nat} (hx : coR x s m K F) (hM : heR (xG_mind x) m K' F') (hh : h < m) (hr : xG_rowMany x = nI rm) (hrm : rm ≤ 16) :
    ∃ y, f_X0_isRow x (nI h) = some (bI (allU (rowP s (K' h) (F' h) (xG_row x)) rm), y) ∧ kp x y := by
  have hs := hx.1
  have hl := loopI (fun n i (y : XS) => f_X0_isRow_L11 (nI h) (nI s) n i y) rm (fun k y => kp x y ∧ heR (xG_mind y) m K' F' ∧ allU (rowP s (K' h) (F' h) (xG_row x)) k = true) (fun r => ∃ y, kp x y ∧ ((r = .inl (0, y) ∧ allU (rowP s (K' h) (F' h) (xG_row x)) rm = false) ∨ (r = .inr y ∧ allU (rowP s (K' h) (F' h) (xG_row x)) rm = true))) (by
    intro n k y hk ⟨i1, i2, i3⟩
    (try dsimp only)
    have hry : xG_rowMany y = nI rm := i1.2.2.2.1.trans hr
    rcases Nat.lt_or_ge k rm with hlt | hge
    · have hin : ¬ (nI k < 0 ∨ 16 ≤ Int32.toNatClampNeg (nI k)) := nIn (by omega) (by omega)
      have hcl : Int32.toNatClampNeg (nI k) = k := nI_clamp (by omega)
      have hT : (if k = 0 then s else bdif s (k - 1)) < 33554432 := bdT hs
      rw [f_X0_isRow_L11, hry, if_neg (nI_ge hlt (by omega)), if_neg hin, rowL (by omega)]
      simp only [obs]
      rw [L_leave _ hT]
      simp only [obs]
      rw [L_mindLeave hT i2 hh]
      simp only [obs]
      rw [hcl, i1.2.2.2.2.2.1, nI_1]
      by_cases e : nI (shS (if k = 0 then s else bdif s (k - 1)) (K' h) (F' h)) = xG_row x k
      · right
        refine ⟨hlt, xS_mind y (cvL (xG_mind y) (if k = 0 then s else bdif s (k - 1))), ⟨i1.tr (kp.mind _ _), by rw [xgm]; exact cvL_H i2 _, ?_⟩, by rw [if_pos e.symm]⟩
        rw [allU, i3]
        exact decide_eq_true e
      · left
        rw [if_neg (fun z => e z.symm)]
        refine ⟨_, rfl, _, i1.tr (kp.mind _ _), Or.inl ⟨rfl, ?_⟩⟩
        refine allU_f (k := k + 1) rm (by omega) ?_
        rw [allU, i3]
        exact decide_eq_false e
    · left
      have e : k = rm := by omega
      subst e
      refine ⟨.inr y, ?_, y, i1, Or.inr ⟨rfl, i3⟩⟩
      rw [f_X0_isRow_L11, hry, if_pos (nI_le (Nat.le_refl k) (by omega))]) 1000 0 x (by omega) ⟨kp.rf x, hM, rfl⟩ (by omega)
  obtain ⟨r, h1, y, h2, h3⟩ := hl
  rw [nI_0] at h1
  unfold f_X0_isRow
  rw [hx.2.1.1]
  simp only [obs]
  rw [h1]
  refine ⟨y, ?_, h2⟩
  rcases h3 with ⟨rfl, h4⟩ | ⟨rfl, h4⟩
  · rw [h4]; rfl
  · rw [h4]; rfl
theorem kd0_e {k : Nat} (hk : k < 6) : kd0 k = some ⟨k, hk⟩ := dif_pos hk
theorem whN {what : Int32} (hw : what = 0 ∨ what = 1) : (if what = 0 then some (6 : Int32) else some 10) = some (nI (if what = 0 then 6 else 10)) := by
  rcases hw with rfl | rfl <;> rfl
theorem L_fitting {x : XS} {s m h rm : Nat} {K F : Nat → Nat} {what : Int32} (hx : coR x s m K F) (hh : h < m) (hr : xG_rowMany x = nI rm) (hrm : rm ≤ 16) (hw : what = 0 ∨ what = 1) :
    ∃ y, f_X0_fitting x (nI h) what = some (nI (setU (fitP s m K F h rm (xG_row x) what) (if what = 0 then 6 else 10)), y) ∧ kp x y := by
  have hm := hx.2.2.2.1
  have hN : (if what = 0 then 6 else 10) ≤ 10 := by split <;> omega
  have hin5 : ¬ (nI h < 0 ∨ 5 ≤ Int32.toNatClampNeg (nI h)) := nIn (by omega) (by omega)
  have hcl5 : Int32.toNatClampNeg (nI h) = h := nI_clamp (by omega)
  have hl := loopI (fun n i (q : Int32 × XS) => f_X0_fitting_L5 (nI h) what n i q.1 q.2) (if what = 0 then 6 else 10) (fun k q => q.1 = nI (setU (fitP s m K F h rm (xG_row x) what) k) ∧ kp x q.2) (fun r => r.1 = nI (setU (fitP s m K F h rm (xG_row x) what) (if what = 0 then 6 else 10)) ∧ kp x r.2) (by
    rintro n k ⟨q1, y⟩ hk ⟨i1, i2⟩
    (try dsimp only at i1 i2 ⊢)
    subst i1
    rcases Nat.lt_or_ge k (if what = 0 then 6 else 10) with hlt | hge
    · right
      refine ⟨hlt, ?_⟩
      have hc := hx.kp i2
      rw [f_X0_fitting_L5, whN hw]
      simp only [obs]
      rw [if_neg (nI_ge hlt (by omega)), L_openMind]
      simp only [obs]
      obtain ⟨y1, e1⟩ : ∃ y1, y1 = xS_mind y (setV (xG_mind y) (xG_core0 y)) := ⟨_, rfl⟩
      have k1 : kp y y1 := by rw [e1]; exact kp.mind _ _
      have m1 : heR (xG_mind y1) m K F := by rw [e1, xgm]; exact setV_H hc.2.2
      rw [← e1]
      obtain ⟨f1, ⟨hK, f2⟩, f3⟩ := m1.2.2 h hh
      have hkd : (if what = 0 then k else K h) < 6 := by
        rcases hw with rfl | rfl
        · rw [if_pos rfl] at hlt ⊢; exact hlt
        · rw [if_neg (by decide)]; exact hK
      have hfg : (if what = 1 then k else F h) < 10 := by
        rcases hw with rfl | rfl
        · rw [if_neg (by decide)]; exact f1
        · rw [if_pos rfl]; omega
      have hkk : (if what = 0 then if nI k < 0 ∨ 6 ≤ Int32.toNatClampNeg (nI k) then none else Option.bind (kd0 (Int32.toNatClampNeg (nI k))) fun k11 => some k11 else if nI h < 0 ∨ 5 ≤ Int32.toNatClampNeg (nI h) then none else Option.bind ((cG_kind (xG_mind y1)) (Int32.toNatClampNeg (nI h))) fun k9 => some k9) = some (⟨if what = 0 then k else K h, hkd⟩ : Fin 6) := by
        rcases hw with rfl | rfl
        · rw [if_pos rfl] at hlt
          have hin6 : ¬ (nI k < 0 ∨ 6 ≤ Int32.toNatClampNeg (nI k)) := nIn hlt (by omega)
          have hcl6 : Int32.toNatClampNeg (nI k) = k := nI_clamp (by omega)
          rw [if_pos rfl, if_neg hin6, hcl6, kd0_e hlt]
          rfl
        · rw [if_neg (by decide), if_neg hin5, hcl5, f2]
          rfl
      rw [hkk]
      simp only [obs, if_neg hin5]
      rw [hcl5]
      have hff : (if what = 1 then some (nI k) else some ((cG_figures (xG_mind (xS_mind y1 (cS_kind (xG_mind y1) (va_up (cG_kind (xG_mind y1)) h (some ⟨if what = 0 then k else K h, hkd⟩)))))) h)) = some (nI (if what = 1 then k else F h)) := by
        have f4 : (cG_figures (xG_mind (xS_mind y1 (cS_kind (xG_mind y1) (va_up (cG_kind (xG_mind y1)) h (some ⟨if what = 0 then k else K h, hkd⟩)))))) h = nI (F h) := f3
        rw [f4]
        split <;> rfl
      rw [hff]
      simp only [obs]
      obtain ⟨y2, e2⟩ : ∃ y2, y2 = xS_mind (xS_mind y1 (cS_kind (xG_mind y1) (va_up (cG_kind (xG_mind y1)) h (some ⟨if what = 0 then k else K h, hkd⟩)))) (cS_figures (xG_mind (xS_mind y1 (cS_kind (xG_mind y1) (va_up (cG_kind (xG_mind y1)) h (some ⟨if what = 0 then k else K h, hkd⟩))))) (upd (cG_figures (xG_mind (xS_mind y1 (cS_kind (xG_mind y1) (va_up (cG_kind (xG_mind y1)) h (some ⟨if what = 0 then k else K h, hkd⟩)))))) h (nI (if what = 1 then k else F h)))) := ⟨_, rfl⟩
      rw [← e2]
      have k2 : kp y1 y2 := by rw [e2]; exact (kp.mind _ _).tr (kp.mind _ _)
      have m2 : heR (xG_mind y2) m (upN K h (if what = 0 then k else K h)) (upN F h (if what = 1 then k else F h)) := by
        rw [e2, xgm, xgm]
        refine ⟨m1.1, m1.2.1, fun j hj => ?_⟩
        obtain ⟨g1, ⟨gK, g2⟩, g3⟩ := m1.2.2 j hj
        show upN F h (if what = 1 then k else F h) j < 10 ∧ (∃ hk : upN K h (if what = 0 then k else K h) j < 6, va_up (cG_kind (xG_mind y1)) h (some ⟨if what = 0 then k else K h, hkd⟩) j = some ⟨upN K h (if what = 0 then k else K h) j, hk⟩) ∧ upd (cG_figures (xG_mind y1)) h (nI (if what = 1 then k else F h)) j = nI (upN F h (if what = 1 then k else F h) j)
        by_cases e : j = h
        · subst e
          refine ⟨by rw [upN_s]; exact hfg, ⟨by rw [upN_s]; exact hkd, ?_⟩, by rw [pk_us, upN_s]⟩
          have : va_up (cG_kind (xG_mind y1)) j (some (⟨if what = 0 then k else K j, hkd⟩ : Fin 6)) j = some ⟨if what = 0 then k else K j, hkd⟩ := if_pos rfl
          rw [this]
          congr 1
          exact Fin.ext (upN_s _ _ _).symm
        · refine ⟨by rw [upN_n _ _ e]; exact g1, ⟨by rw [upN_n _ _ e]; exact gK, ?_⟩, by rw [pk_un e, upN_n _ _ e]; exact g3⟩
          have : va_up (cG_kind (xG_mind y1)) h (some (⟨if what = 0 then k else K h, hkd⟩ : Fin 6)) j = cG_kind (xG_mind y1) j := if_neg e
          rw [this, g2]
          congr 1
          exact Fin.ext (upN_n _ _ e).symm
      have hc2 := (hc.kp k1).kp k2
      obtain ⟨z, z1, z2⟩ := L_isRow (rm := rm) hc2 m2 hh (by rw [k2.2.2.2.1, k1.2.2.2.1, i2.2.2.2.1]; exact hr) hrm
      rw [upN_s, upN_s, k2.2.2.2.2.2.1, k1.2.2.2.2.2.1, i2.2.2.2.2.2.1] at z1
      rw [z1, nI_1, pz_shl1 k (by omega)]
      simp only [obs]
      refine ⟨(nI (setU (fitP s m K F h rm (xG_row x) what) (k + 1)), z), ⟨rfl, ((i2.tr k1).tr k2).tr z2⟩, ?_⟩
      have z0 : nI (setU (fitP s m K F h rm (xG_row x) what) k) ||| 0 = nI (setU (fitP s m K F h rm (xG_row x) what) k ||| 0) := pz_or _ 0
      rw [setU, z0, pz_or]
      unfold fitP
      cases allU (rowP s (if what = 0 then k else K h) (if what = 1 then k else F h) (xG_row x)) rm
      · rw [if_pos bI_f]; rfl
      · rw [if_neg bI_n0]; rfl
    · left
      have e : k = if what = 0 then 6 else 10 := by omega
      refine ⟨(nI (setU (fitP s m K F h rm (xG_row x) what) k), y), ?_, by rw [e], i2⟩
      rw [f_X0_fitting_L5, whN hw]
      simp only [obs]
      rw [if_pos (nI_le (by omega) (by omega))]) 1000 0 (0, x) (by omega) ⟨rfl, kp.rf x⟩ (by omega)
  obtain ⟨r, h1, h2, h3⟩ := hl
  rw [nI_0] at h1
  have h1' : f_X0_fitting_L5 (nI h) what 1000 0 0 x = some r := h1
  unfold f_X0_fitting
  rw [h1']
  simp only [obs]
  rw [h2]
  exact ⟨_, rfl, h3⟩
theorem M_whatIs {g : MS} {s m h rm : Nat} {K F : Nat → Nat} {what : Int32} (hs : s < 33554432) (hl : mG_left g = nI s) (hH : heM g m K F) (hh : h < m) (hr : mG_rowMany g = nI rm) (hrm : rm ≤ 16) (hw : what = 0 ∨ what = 1) :
    f_X9_whatIs_L35 g (nI h) what 1000 0 0 = some (nI (setU (fitP s m K F h rm (mG_row g) what) (if what = 0 then 6 else 10))) := by
  have hm := hH.2.1
  have hN : (if what = 0 then 6 else 10) ≤ 10 := by split <;> omega
  have hin5 : ¬ (nI h < 0 ∨ 5 ≤ Int32.toNatClampNeg (nI h)) := nIn (by omega) (by omega)
  have hcl5 : Int32.toNatClampNeg (nI h) = h := nI_clamp (by omega)
  obtain ⟨f1, hK, f2, f3⟩ := hH.2.2 h hh
  have inner : ∀ k, k < (if what = 0 then 6 else 10) → f_X9_whatIs_L57 g (nI h) what (nI k) 1000 0 1 = some (bI (fitP s m K F h rm (mG_row g) what k)) := by
    intro k hlt
    have hkd : (if what = 0 then k else K h) < 6 := by
      rcases hw with rfl | rfl
      · rw [if_pos rfl] at hlt ⊢; exact hlt
      · rw [if_neg (by decide)]; exact hK
    have hfg : (if what = 1 then k else F h) < 10 := by
      rcases hw with rfl | rfl
      · rw [if_neg (by decide)]; exact f1
      · rw [if_pos rfl]; omega
    have h2 := loopU (fun n i (a : Int32) => f_X9_whatIs_L57 g (nI h) what (nI k) n i a) rm (fun i => bI (allU (rowP s (if what = 0 then k else K h) (if what = 1 then k else F h) (mG_row g)) i)) (bI (fitP s m K F h rm (mG_row g) what k)) (fun n => by
      (try dsimp only)
      rw [f_X9_whatIs_L57, hr, if_pos (nI_le (Nat.le_refl rm) (by omega))]
      rfl) (fun n i hi => by
      (try dsimp only)
      have hin : ¬ (nI i < 0 ∨ 16 ≤ Int32.toNatClampNeg (nI i)) := nIn (by omega) (by omega)
      have hcl : Int32.toNatClampNeg (nI i) = i := nI_clamp (by omega)
      have hT : (if i = 0 then s else bdif s (i - 1)) < 33554432 := bdT hs
      have hk2 : (if what = 0 then some (nI k) else if nI h < 0 ∨ 5 ≤ Int32.toNatClampNeg (nI h) then none else some (mG_kind g (Int32.toNatClampNeg (nI h)))) = some (nI (if what = 0 then k else K h)) := by
        rw [if_neg hin5, hcl5, f2]
        split <;> rfl
      have hf2 : (if what = 1 then some (nI k) else if nI h < 0 ∨ 5 ≤ Int32.toNatClampNeg (nI h) then none else some (mG_figure g (Int32.toNatClampNeg (nI h)))) = some (nI (if what = 1 then k else F h)) := by
        rw [if_neg hin5, hcl5, f3]
        split <;> rfl
      rw [f_X9_whatIs_L57, hr, if_neg (nI_ge hi (by omega)), hl, rowL (by omega)]
      simp only [obs]
      rw [hk2]
      simp only [obs]
      rw [hf2]
      simp only [obs]
      rw [M_shareBy hT hkd hfg]
      simp only [obs]
      rw [if_neg hin, hcl, nI_1, bI_and1, bI_and0, allU]
      by_cases e : nI (shS (if i = 0 then s else bdif s (i - 1)) (if what = 0 then k else K h) (if what = 1 then k else F h)) = mG_row g i
      · have hp : rowP s (if what = 0 then k else K h) (if what = 1 then k else F h) (mG_row g) i = true := decide_eq_true e
        rw [if_pos e, hp, Bool.and_true]
      · have hp : rowP s (if what = 0 then k else K h) (if what = 1 then k else F h) (mG_row g) i = false := decide_eq_false e
        rw [if_neg e, hp, Bool.and_false]
        rfl) 1000 0 (by omega) (by omega)
    rw [nI_0] at h2
    exact h2
  have h := loopU (fun n i (a : Int32) => f_X9_whatIs_L35 g (nI h) what n i a) (if what = 0 then 6 else 10) (fun k => nI (setU (fitP s m K F h rm (mG_row g) what) k)) (nI (setU (fitP s m K F h rm (mG_row g) what) (if what = 0 then 6 else 10))) (fun n => by
    (try dsimp only)
    rw [f_X9_whatIs_L35, whN hw]
    simp only [obs]
    rw [if_pos (nI_le (Nat.le_refl _) (by omega))]) (fun n k hk => by
    (try dsimp only)
    have z0 : nI (setU (fitP s m K F h rm (mG_row g) what) k) ||| 0 = nI (setU (fitP s m K F h rm (mG_row g) what) k ||| 0) := pz_or _ 0
    rw [f_X9_whatIs_L35, whN hw]
    simp only [obs]
    rw [if_neg (nI_ge hk (by omega)), inner k hk, pz_shl1 k (by omega), pz_or, z0, nI_1, setU]
    simp only [obs]
    cases fitP s m K F h rm (mG_row g) what k
    · rw [if_pos bI_f]; rfl
    · rw [if_neg bI_n0]; rfl) 1000 0 (by omega) (by omega)
  rw [nI_0] at h
  exact h
/-- judging -/
def jP (s m : Nat) (K F : Nat → Nat) (rw_ : Nat → Int32) (k : Nat) : Bool := decide (m ≤ k) || !decide (nI (shS s (K k) (F k)) = rw_ k)
def judS (s m : Nat) (K F : Nat → Nat) (rw_ : Nat → Int32) (rm : Nat) : Int32 := encV (fstN (jP s m K F rw_) rm)
theorem L_judge {x : XS} {s m rm : Nat} {K F : Nat → Nat} (hx : coR x s m K F) (hr : xG_rowMany x = nI rm) (hrm : rm ≤ 16) : f_X0_judgeRow x = some (judS s m K F (xG_row x) rm, xS_rowMany x 0) := by
  have hm := hx.2.2.2.1
  have hx2 : coR (xS_rowMany x 0) s m K F := hx
  have hrow : xG_row (xS_rowMany x 0) = xG_row x := rfl
  have step : ∀ n k, k < rm → f_X0_judgeRow_L12 (nI rm) (xS_rowMany x 0) (n + 1) (nI k) = if jP s m K F (xG_row x) k then some (.inl (nI k, xS_rowMany x 0)) else f_X0_judgeRow_L12 (nI rm) (xS_rowMany x 0) n (nI (k + 1)) := by
    intro n k hk
    have hin : ¬ (nI k < 0 ∨ 16 ≤ Int32.toNatClampNeg (nI k)) := nIn (by omega) (by omega)
    have hcl : Int32.toNatClampNeg (nI k) = k := nI_clamp (by omega)
    rw [f_X0_judgeRow_L12, if_neg (nI_ge hk (by omega)), hx2.2.2.1]
    unfold jP
    by_cases e1 : m ≤ k
    · rw [if_pos (nI_le e1 (by omega)), decide_eq_true e1]
      rfl
    · rw [if_neg (nI_ge (by omega) (by omega)), L_shareOf hx2.1 hx2.2.1 hx2.2.2 (by omega), decide_eq_false e1]
      simp only [obs]
      rw [if_neg hin, hcl, hrow, nI_1]
      by_cases e2 : nI (shS s (K k) (F k)) = xG_row x k
      · rw [if_pos e2, decide_eq_true e2]; rfl
      · rw [if_neg e2, decide_eq_false e2]; rfl
  have h := loopF (fun n i (_ : Unit) => f_X0_judgeRow_L12 (nI rm) (xS_rowMany x 0) n i) rm (jP s m K F (xG_row x)) (fun _ => True) (fun o r => r = fRes o (fun k => (nI k, xS_rowMany x 0))) (fun n _ _ => by
    refine ⟨_, ?_, rfl⟩
    rw [f_X0_judgeRow_L12, if_pos (nI_le (Nat.le_refl rm) (by omega))]
    rfl) (fun n k _ hk _ hp => ⟨_, by rw [step n k hk, hp]; rfl, rfl⟩) (fun n k _ hk _ hp => ⟨(), trivial, by rw [step n k hk, hp]; rfl⟩) 1000 () trivial (by omega)
  obtain ⟨r, h1, h2⟩ := h
  unfold f_X0_judgeRow
  rw [hr]
  simp only [obs]
  rw [h1, h2]
  unfold judS
  cases fstN (jP s m K F (xG_row x)) rm <;> rfl
/-- is it an heir -/
theorem M_isHeirN {g : MS} {m k : Nat} {K F : Nat → Nat} (hH : heM g m K F) (hk : k < 1000) : f_X9_isHeir g (nI k) = some (bI (decide (k < m))) := by
  have hm := hH.2.1
  unfold f_X9_isHeir f_X9_isIn
  rw [hH.1, if_neg (nI_pos (by omega))]
  by_cases h0 : m = 0
  · subst h0
    have : nI 0 - 1 < nI k := by
      have h1 : (nI 0 - 1 : Int32) < 0 := by decide
      exact Int32.lt_of_lt_of_le h1 (nI_pos' (by omega))
    rw [if_pos this, decide_eq_false (by omega)]
    rfl
  · rw [sub1 (by omega)]
    by_cases e : k < m
    · rw [if_neg (nI_nlt (by omega) (by omega)), decide_eq_true e]; rfl
    · rw [if_pos (nI_lt (by omega) (by omega)), decide_eq_false e]; rfl
theorem M_judge {g : MS} {s m rm : Nat} {K F : Nat → Nat} (hs : s < 33554432) (hl : mG_left g = nI s) (hH : heM g m K F) (hr : mG_rowMany g = nI rm) (hrm : rm ≤ 16) : f_X9_judge g = some (judS s m K F (mG_row g) rm, mS_rowMany g 0) := by
  have hm := hH.2.1
  have hH2 : heM (mS_rowMany g 0) m K F := hH
  have hl2 : mG_left (mS_rowMany g 0) = nI s := hl
  have hrow : mG_row (mS_rowMany g 0) = mG_row g := rfl
  have step : ∀ n k, k < rm → f_X9_judge_L12 (nI rm) (mS_rowMany g 0) (n + 1) (nI k) = if jP s m K F (mG_row g) k then some (.inl (nI k, mS_rowMany g 0)) else f_X9_judge_L12 (nI rm) (mS_rowMany g 0) n (nI (k + 1)) := by
    intro n k hk
    have hin : ¬ (nI k < 0 ∨ 16 ≤ Int32.toNatClampNeg (nI k)) := nIn (by omega) (by omega)
    have hcl : Int32.toNatClampNeg (nI k) = k := nI_clamp (by omega)
    rw [f_X9_judge_L12, if_neg (nI_ge hk (by omega)), M_isHeirN hH2 (by omega), hl2]
    simp only [obs]
    unfold jP
    by_cases e1 : m ≤ k
    · rw [decide_eq_false (show ¬ k < m by omega), if_pos bI_f, decide_eq_true e1]
      rfl
    · rw [decide_eq_true (show k < m by omega), if_neg bI_n0, M_shareOf hs hH2 (by omega), decide_eq_false e1]
      simp only [obs]
      rw [if_neg hin, hcl, hrow, nI_1]
      by_cases e2 : nI (shS s (K k) (F k)) = mG_row g k
      · rw [if_pos e2, decide_eq_true e2]; rfl
      · rw [if_neg e2, decide_eq_false e2]; rfl
  have h := loopF (fun n i (_ : Unit) => f_X9_judge_L12 (nI rm) (mS_rowMany g 0) n i) rm (jP s m K F (mG_row g)) (fun _ => True) (fun o r => r = fRes o (fun k => (nI k, mS_rowMany g 0))) (fun n _ _ => by
    refine ⟨_, ?_, rfl⟩
    rw [f_X9_judge_L12, if_pos (nI_le (Nat.le_refl rm) (by omega))]
    rfl) (fun n k _ hk _ hp => ⟨_, by rw [step n k hk, hp]; rfl, rfl⟩) (fun n k _ hk _ hp => ⟨(), trivial, by rw [step n k hk, hp]; rfl⟩) 1000 () trivial (by omega)
  obtain ⟨r, h1, h2⟩ := h
  unfold f_X9_judge
  rw [hr]
  simp only [obs]
  rw [h1, h2]
  unfold judS
  cases fstN (jP s m K F (mG_row g)) rm <;> rfl
theorem jud_congr {s m : Nat} {K F : Nat → Nat} {r1 r2 : Nat → Int32} {rm : Nat} (h : ∀ k, k < rm → r1 k = r2 k) : judS s m K F r1 rm = judS s m K F r2 rm := by
  have key : ∀ n, n ≤ rm → fstN (jP s m K F r1) n = fstN (jP s m K F r2) n := by
    intro n
    induction n with
    | zero => intro _; rfl
    | succ n ih =>
      intro hn
      unfold fstN
      rw [ih (by omega)]
      have : jP s m K F r1 n = jP s m K F r2 n := by unfold jP; rw [h n (by omega)]
      rw [this]
  unfold judS
  rw [key rm (Nat.le_refl _)]
theorem fit_congr {s m h rm : Nat} {K F : Nat → Nat} {r1 r2 : Nat → Int32} {what : Int32} (hr : ∀ k, k < rm → r1 k = r2 k) : ∀ n, setU (fitP s m K F h rm r1 what) n = setU (fitP s m K F h rm r2 what) n
  | 0 => rfl
  | n + 1 => by
    unfold setU
    rw [fit_congr hr n]
    have : fitP s m K F h rm r1 what n = fitP s m K F h rm r2 what n := by
      unfold fitP
      exact allU_congr rm (fun k hk => by unfold rowP; rw [hr k hk])
    rw [this]
