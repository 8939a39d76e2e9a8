/-! PLAIN LAWS 21: both states, what is refused, what must be -/
abbrev GS : Type := AC × AC × Bool × Nat × Nat × (Nat → Int32) × (Nat → Int32) × (Nat → Int32)
def imR (g : MS) (a : AC) : Prop := (a.1 < 33554432 ∧ a.2.1 ≤ 999 ∧ a.2.2.1 ≤ 5 ∧ ∀ h, h < a.2.2.1 → a.2.2.2.2 h < 10 ∧ a.2.2.2.1 h < 6) ∧ mG_imageLeft g = nI a.1 ∧ mG_imageBites g = nI a.2.1 ∧ mG_imageMany g = nI a.2.2.1 ∧ ∀ h, h < a.2.2.1 → mG_imageKind g h = nI (a.2.2.2.1 h) ∧ mG_imageFigure g h = nI (a.2.2.2.2 h)
def RX (x : XS) (z : GS) : Prop := cxR (xG_core0 x) z.1 ∧ xG_hasImage x = bI z.2.2.1 ∧ (z.2.2.1 = true → cxR (xG_imaged x) z.2.1) ∧ (xG_rowMany x = nI z.2.2.2.1 ∧ z.2.2.2.1 ≤ 16) ∧ (xG_letterMany x = nI z.2.2.2.2.1 ∧ z.2.2.2.2.1 ≤ 96) ∧ (∀ k, k < z.2.2.2.1 → xG_row x k = z.2.2.2.2.2.1 k) ∧ (∀ k, k < z.2.2.2.2.1 → xG_letters x k = z.2.2.2.2.2.2.1 k) ∧ ∀ k, k < 7 → xG_refused x k = z.2.2.2.2.2.2.2 k
def RM (g : MS) (z : GS) : Prop := cmR g z.1 ∧ mG_hasImage g = bI z.2.2.1 ∧ (z.2.2.1 = true → imR g z.2.1) ∧ (mG_rowMany g = nI z.2.2.2.1 ∧ z.2.2.2.1 ≤ 16) ∧ (mG_letterMany g = nI z.2.2.2.2.1 ∧ z.2.2.2.2.1 ≤ 96) ∧ (∀ k, k < z.2.2.2.1 → mG_row g k = z.2.2.2.2.2.1 k) ∧ (∀ k, k < z.2.2.2.2.1 → mG_letters g k = z.2.2.2.2.2.2.1 k) ∧ ∀ k, k < 7 → mG_refused g k = z.2.2.2.2.2.2.2 k
theorem RX.kp {x y : XS} {z : GS} (h : RX x z) (k : kp x y) : RX y z := by
  obtain ⟨k1, k2, k3, k4, k5, k6, k7, k8⟩ := k
  unfold RX
  rw [k1, k2, k3, k4, k5, k6, k7, k8]
  exact h
theorem RM.kp {g h : MS} {z : GS} (a : RM g z) (k : kpm g h) : RM h z := by
  obtain ⟨k1, k2, k3, k4, k5, k6, k7, k8, k9, k10, k11, k12, k13, k14, k15, k16⟩ := k
  unfold RM cmR imR heM
  rw [k1, k2, k3, k4, k5, k6, k7, k8, k9, k10, k11, k12, k13, k14, k15, k16]
  exact a
theorem RX.co {x : XS} {z : GS} (h : RX x z) : coR x z.1.1 z.1.2.2.1 z.1.2.2.2.1 z.1.2.2.2.2 := ⟨h.1.1, h.1.2.1, h.1.2.2.2.2⟩
/-- what both answer -/
def agr (cx : Option ((Int32 × XS) ⊕ (Int32 × XS))) (cm : Option (Int32 × MS)) : Prop := ∃ v x g z, cx = some (.inl (v, x)) ∧ cm = some (v, g) ∧ RX x z ∧ RM g z
def agrL (cx : Option ((Int64 × XS) ⊕ (Int32 × XS))) (cm : Option (Int64 × MS)) : Prop := ∃ v x g z, cx = some (.inl (v, x)) ∧ cm = some (v, g) ∧ RX x z ∧ RM g z
theorem bX_id (e : Option ((Int32 × XS) ⊕ (Int32 × XS))) : (bX e (fun b => (b.1, b.2)) fun o => some (Sum.inl (o.1, o.2))) = e := by
  cases e with
  | none => rfl
  | some o => cases o <;> rfl
theorem bHl {α β ρ : Type} (u : α) (thr : β → Option ρ) (f : α → Option ρ) : bH (some (Sum.inl u)) thr f = f u := by
  cases h : f u with
  | none => exact h
  | some b => exact h
theorem bHr {α β ρ : Type} (b : β) (thr : β → Option ρ) (f : α → Option ρ) : bH (some (Sum.inr b)) thr f = thr b := by
  cases h : thr b with
  | none => exact h
  | some b => exact h
/-- a refusal is counted -/
def rfS (z : GS) (c : Nat) : GS := (z.1, z.2.1, z.2.2.1, z.2.2.2.1, z.2.2.2.2.1, z.2.2.2.2.2.1, z.2.2.2.2.2.2.1, upd z.2.2.2.2.2.2.2 c (z.2.2.2.2.2.2.2 c + 1))
theorem L_refuse {x : XS} {z : GS} (h : RX x z) {c : Nat} (hc : c < 7) : ∃ y, f_X0_refuse x (-(nI c)) = some (-(nI c), y) ∧ RX y (rfS z c) := by
  obtain ⟨h1, h2, h3, h4, h5, h6, h7, h8⟩ := h
  have hin : ¬ (nI c < 0 ∨ 7 ≤ Int32.toNatClampNeg (nI c)) := nIn hc (by omega)
  have hcl : Int32.toNatClampNeg (nI c) = c := nI_clamp (by omega)
  have hle : ∀ c, c < 7 → ¬ -(nI c) ≤ (-20 : Int32) := by decide
  unfold f_X0_refuse
  rw [if_neg (hle c hc), obs, Int32.neg_neg, if_neg hin, obs, if_neg hin, obs, hcl]
  refine ⟨_, rfl, h1, h2, h3, h4, h5, h6, h7, fun k hk => ?_⟩
  show upd (xG_refused x) c (xG_refused x c + 1) k = upd z.2.2.2.2.2.2.2 c (z.2.2.2.2.2.2.2 c + 1) k
  by_cases e : k = c
  · rw [e, pk_us, pk_us, h8 c hc]
  · rw [pk_un e, pk_un e, h8 k hk]
theorem M_no {g : MS} {z : GS} (h : RM g z) {c : Nat} (hc : c < 7) : ∃ g', f_X9_no g (-(nI c)) = some (-(nI c), g') ∧ RM g' (rfS z c) := by
  obtain ⟨h1, h2, h3, h4, h5, h6, h7, h8⟩ := h
  have hin : ¬ (nI c < 0 ∨ 7 ≤ Int32.toNatClampNeg (nI c)) := nIn hc (by omega)
  have hcl : Int32.toNatClampNeg (nI c) = c := nI_clamp (by omega)
  unfold f_X9_no
  rw [obs, Int32.neg_neg, if_neg hin, if_neg hin, obs, hcl]
  refine ⟨_, rfl, h1, h2, h3, h4, h5, h6, h7, fun k hk => ?_⟩
  show upd (mG_refused g) c (mG_refused g c + 1) k = upd z.2.2.2.2.2.2.2 c (z.2.2.2.2.2.2.2 c + 1) k
  by_cases e : k = c
  · rw [e, pk_us, pk_us, h8 c hc]
  · rw [pk_un e, pk_un e, h8 k hk]
/-- an act that returns; an act that is refused -/
theorem act_ok {x y : XS} {w a b c v : Int32} (h : f_X0_doIt x w a b c = some (.inl (v, y))) : f_X0_act x w a b c = some (v, y) := by
  unfold f_X0_act
  rw [h, bHl]
theorem act_no {x y : XS} {z : GS} {w a b c : Int32} {q : Nat} (hq : q < 7) (h : f_X0_doIt x w a b c = some (.inr (-(nI q), y))) (hz : RX y z) : ∃ y', f_X0_act x w a b c = some (-(nI q), y') ∧ RX y' (rfS z q) := by
  obtain ⟨y', h1, h2⟩ := L_refuse hz hq
  refine ⟨y', ?_, h2⟩
  unfold f_X0_act
  rw [h, bHr, h1, obs]
/-- an act of the class beside one of the reference: it returns, or it is refused by both -/
def two (x : XS) (g : MS) (dx : Option ((Int32 × XS) ⊕ (Int32 × XS))) (dm : Option (Int32 × MS)) : Prop :=
  (∃ v y h z, dx = some (.inl (v, y)) ∧ dm = some (v, h) ∧ RX y z ∧ RM h z) ∨ (∃ q y z, q < 7 ∧ dx = some (.inr (-(nI q), y)) ∧ dm = f_X9_no g (-(nI q)) ∧ RX y z ∧ RM g z)
theorem two_act {x : XS} {g : MS} {w a b c : Int32} {dm : Option (Int32 × MS)} (h : two x g (f_X0_doIt x w a b c) dm) : agr (Option.bind (f_X0_act x w a b c) fun o1 => some (Sum.inl (o1.1, o1.2))) dm := by
  rcases h with ⟨v, y, h, z, h1, h2, h3, h4⟩ | ⟨q, y, z, hq, h1, h2, h3, h4⟩
  · rw [act_ok h1, obs]
    exact ⟨v, y, h, z, rfl, h2, h3, h4⟩
  · obtain ⟨y', a1, a2⟩ := act_no hq h1 h3
    obtain ⟨g', b1, b2⟩ := M_no h4 hq
    rw [a1, obs, h2, b1]
    exact ⟨_, y', g', _, rfl, rfl, a2, b2⟩
/-- what must be -/
theorem L_must_t (e : Int32) : f_X0_must 1 e = some (.inl ()) := rfl
theorem L_must_f (e : Int32) : f_X0_must 0 e = some (.inr e) := rfl
theorem L_mustB (b : Bool) (e : Int32) : f_X0_must (bI b) e = if b then some (.inl ()) else some (.inr e) := by cases b <;> rfl
theorem L_bit (a : Int32) : f_X0_mustBeBit a = if decide (0 ≤ a ∧ a ≤ 1) then some (.inl ()) else some (.inr (-2)) := by
  unfold f_X0_mustBeBit
  rw [inI a 0 1 (A := 0) (B := 1) rfl rfl, obs, L_mustB]
  cases decide (0 ≤ a ∧ a ≤ 1)
  · rw [if_neg (by decide), bXr]
  · rw [if_pos rfl, bXl]
theorem bit_c {a : Int32} (h : decide (0 ≤ a ∧ a ≤ 1) = true) : a = 0 ∨ a = 1 := by
  obtain ⟨h1, h2⟩ := of_decide_eq_true h
  obtain ⟨j, hj, rfl⟩ := nI_of (x := a) (fun z => Int32.lt_irrefl (Int32.lt_of_le_of_lt h1 z))
  have := (nI_leI (b := 1) hj (by omega)).1 h2
  rcases Nat.le_one_iff_eq_zero_or_eq_one.1 this with rfl | rfl
  · exact Or.inl rfl
  · exact Or.inr rfl
theorem ran_c {a : Int32} {n : Nat} (hn : n < 2147483648) (h : decide (0 ≤ a ∧ a ≤ nI n) = true) : ∃ j, j ≤ n ∧ a = nI j := by
  obtain ⟨h1, h2⟩ := of_decide_eq_true h
  obtain ⟨j, hj, rfl⟩ := nI_of (x := a) (fun z => Int32.lt_irrefl (Int32.lt_of_le_of_lt h1 z))
  exact ⟨j, (nI_leI hj hn).1 h2, rfl⟩
theorem L_mustBe (a k : Int32) : f_X0_mustBe a k = if decide (0 ≤ a ∧ a ≤ k - 1) then some (.inl ()) else some (.inr (-1)) := by
  unfold f_X0_mustBe
  rw [inI a 0 (k - 1) (A := 0) (B := (k - 1).toInt64) rfl rfl, obs, L_mustB]
  cases decide (0 ≤ a ∧ a ≤ k - 1)
  · rw [if_neg (by decide), bXr]
  · rw [if_pos rfl, bXl]
theorem L_cell (a : Int32) : f_X0_mustBeCell a = if decide (0 ≤ a ∧ a ≤ 24) then some (.inl ()) else some (.inr (-1)) := by
  unfold f_X0_mustBeCell
  rw [L_mustBe, show (25 : Int32) - 1 = 24 from rfl]
  cases decide (0 ≤ a ∧ a ≤ 24)
  · rw [if_neg (by decide), bXr]
  · rw [if_pos rfl, bXl]
theorem M_isCell (a : Int32) : f_X9_isCell a = some (bI (decide (0 ≤ a ∧ a ≤ 24))) := by
  unfold f_X9_isCell
  rw [isI, obs, rz_b]
/-- an heir, or not -/
def isH (m : Nat) (a : Int32) : Bool := decide (0 ≤ a ∧ a ≤ nI m - 1)
theorem isH_c {m : Nat} {a : Int32} (hm : m ≤ 5) (h : isH m a = true) : ∃ j, j < m ∧ a = nI j := by
  unfold isH at h
  by_cases h0 : m = 0
  · subst h0
    obtain ⟨h1, h2⟩ := of_decide_eq_true h
    have : (0 : Int32) ≤ nI 0 - 1 := Int32.le_trans h1 h2
    exact absurd this (by decide)
  · rw [sub1 (by omega)] at h
    obtain ⟨j, hj, e⟩ := ran_c (by omega) h
    exact ⟨j, by omega, e⟩
theorem L_heir {x : XS} {m : Nat} {K F : Nat → Nat} (h : heR (xG_core0 x) m K F) (a : Int32) : f_X0_mustBeHeir x a = if isH m a then some (.inl x) else some (.inr (-1, x)) := by
  unfold f_X0_mustBeHeir isH
  rw [L_mustBe, h.1]
  cases decide (0 ≤ a ∧ a ≤ nI m - 1)
  · rw [if_neg (by decide), if_neg (by decide), bXr]
  · rw [if_pos rfl, if_pos rfl, bXl]
theorem M_isHeir {g : MS} {m : Nat} {K F : Nat → Nat} (h : heM g m K F) (a : Int32) : f_X9_isHeir g a = some (bI (isH m a)) := by
  unfold f_X9_isHeir isH
  rw [h.1, isI, obs, rz_b]
/-- within bounds -/
theorem L_within (a lo hi : Int32) {A B : Int64} (hA : A = lo.toInt64) (hB : B = hi.toInt64) : f_X0_within a.toInt64 A B = if a < lo then some (.inr (-4)) else if hi < a then some (.inr (-6)) else some (.inl ()) := by
  subst hA hB
  unfold f_X0_within
  have h1 : lg_cmp a.toInt64 lo.toInt64 < 0 ↔ a < lo := by rw [lg_cmp_lt, i64_lt]
  have h2 : 0 < lg_cmp a.toInt64 hi.toInt64 ↔ hi < a := by rw [lg_cmp_gt, i64_lt]
  by_cases e1 : a < lo
  · rw [if_pos (h1.2 e1), obs, L_must_f, bXr, if_pos e1]
  · rw [if_neg (fun z => e1 (h1.1 z)), obs, L_must_t, bXl, if_neg e1]
    by_cases e2 : hi < a
    · rw [if_pos (h2.2 e2), obs, L_must_f, bXr, if_pos e2]
    · rw [if_neg (fun z => e2 (h2.1 z)), obs, L_must_t, bXl, if_neg e2]
theorem M_wrongBy (a hi : Int32) : f_X9_wrongBy a hi = if a < 0 then some (-4) else if hi < a then some (-6) else some 0 := by
  unfold f_X9_wrongBy
  by_cases e1 : a < 0
  · rw [if_pos e1, if_neg (Int32.not_le.2 e1)]
  · rw [if_neg e1, if_pos (Int32.not_lt.1 e1)]
    by_cases e2 : hi < a
    · rw [if_pos e2, if_neg (Int32.not_le.2 e2)]
    · rw [if_neg e2, if_pos (Int32.not_lt.1 e2)]
theorem win_c {a hi : Int32} {n : Nat} (hn : n < 2147483648) (e : hi = nI n) (h1 : ¬ a < 0) (h2 : ¬ hi < a) : ∃ j, j ≤ n ∧ a = nI j := by
  subst e
  exact ran_c hn (decide_eq_true ⟨Int32.not_lt.1 h1, Int32.not_lt.1 h2⟩)
theorem m1e : (-1 : Int32) = -(nI 1) := rfl
theorem m2e : (-2 : Int32) = -(nI 2) := rfl
theorem m3e : (-3 : Int32) = -(nI 3) := rfl
theorem m4e : (-4 : Int32) = -(nI 4) := rfl
theorem m6e : (-6 : Int32) = -(nI 6) := rfl
theorem no_id {g : MS} {c : Int32} : (Option.bind (f_X9_no g c) fun o => some (o.1, o.2)) = f_X9_no g c := by
  cases f_X9_no g c <;> rfl
