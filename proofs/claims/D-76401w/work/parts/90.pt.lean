/-! PLAIN LAWS 20: core() -/
/-- what stands outside of a core, letters and all -/
def kB (g h : MS) : Prop := mG_imageLeft h = mG_imageLeft g ∧ mG_imageBites h = mG_imageBites g ∧ mG_imageMany h = mG_imageMany g ∧ mG_hasImage h = mG_hasImage g ∧ mG_letterMany h = mG_letterMany g ∧ mG_rowMany h = mG_rowMany g ∧ mG_imageKind h = mG_imageKind g ∧ mG_imageFigure h = mG_imageFigure g ∧ mG_letters h = mG_letters g ∧ mG_row h = mG_row g ∧ mG_refused h = mG_refused g
theorem kB.rf (g : MS) : kB g g := ⟨rfl, rfl, rfl, rfl, rfl, rfl, rfl, rfl, rfl, rfl, rfl⟩
theorem kB.tr {g h i : MS} (a : kB g h) (b : kB h i) : kB g i := by
  obtain ⟨a1, a2, a3, a4, a5, a6, a7, a8, a9, a10, a11⟩ := a
  obtain ⟨b1, b2, b3, b4, b5, b6, b7, b8, b9, b10, b11⟩ := b
  exact ⟨b1.trans a1, b2.trans a2, b3.trans a3, b4.trans a4, b5.trans a5, b6.trans a6, b7.trans a7, b8.trans a8, b9.trans a9, b10.trans a10, b11.trans a11⟩
theorem kB.of {g h : MS} (a : kA g h) : kB g h := by
  obtain ⟨a1, a2, a3, a4, a5, a6, a7, a8, a9, a10, a11, a12, a13, a14, a15, a16, a17⟩ := a
  exact ⟨a1, a2, a3, a7, a8, a9, a11, a12, a15, a16, a17⟩
theorem kB.st (g : MS) (n : Nat → Int32) (q : Nat) : kB g (stM g n q) := kB.rf g
theorem kB.pl (g : MS) (v : Int32) : kB g (mS_place g v) := kB.rf g
theorem kB.wk (g : MS) (f : Nat → Int32) : kB g (mS_wasKind g f) := kB.rf g
theorem kB.wf (g : MS) (f : Nat → Int32) : kB g (mS_wasFigure g f) := kB.rf g
theorem kB.ki (g : MS) (f : Nat → Int32) : kB g (mS_kind g f) := kB.rf g
theorem kB.fi (g : MS) (f : Nat → Int32) : kB g (mS_figure g f) := kB.rf g
theorem cmR.st {g : MS} {a : AC} (h : cmR g a) (n : Nat → Int32) (q : Nat) : cmR (stM g n q) a := h
theorem cmR.pl {g : MS} {a : AC} (h : cmR g a) (v : Int32) : cmR (mS_place g v) a := h
/-- what was laid by -/
def waR (g : MS) (a : AC) : Prop := mG_wasLeft g = nI a.1 ∧ mG_wasBites g = nI a.2.1 ∧ mG_wasMany g = nI a.2.2.1 ∧ ∀ h, h < a.2.2.1 → mG_wasKind g h = nI (a.2.2.2.1 h) ∧ mG_wasFigure g h = nI (a.2.2.2.2 h)
theorem waR.A {g h : MS} {a : AC} (w : waR g a) (k : kA g h) : waR h a := by
  obtain ⟨a1, a2, a3, a4, a5, a6, a7, a8, a9, a10, a11, a12, a13, a14, a15, a16, a17⟩ := k
  unfold waR
  rw [a4, a5, a6, a13, a14]
  exact w
theorem waR.st {g : MS} {a : AC} (h : waR g a) (n : Nat → Int32) (q : Nat) : waR (stM g n q) a := h
theorem M_lays {g : MS} {a : AC} (hg : cmR g a) : ∃ h, f_X9_lays g = some h ∧ cmR h a ∧ waR h a ∧ kB g h := by
  have hm := hg.2.2.2.2.2.1
  obtain ⟨g1, e1⟩ : ∃ g1, g1 = mS_wasMany (mS_wasBites (mS_wasLeft g (mG_left g)) (mG_bites g)) (mG_many g) := ⟨_, rfl⟩
  have b1 : kB g g1 := by rw [e1]; exact kB.rf g
  have c1 : cmR g1 a := by rw [e1]; exact hg
  have w1 : mG_wasLeft g1 = nI a.1 := by rw [e1]; exact hg.2.1
  have w2 : mG_wasBites g1 = nI a.2.1 := by rw [e1]; exact hg.2.2.2.1
  have w3 : mG_wasMany g1 = nI a.2.2.1 := by rw [e1]; exact hg.2.2.2.2.1
  have h := loopI (fun n i (z : MS) => f_X9_lays_L26 n i z) 5 (fun k z => cmR z a ∧ kB g z ∧ mG_wasLeft z = nI a.1 ∧ mG_wasBites z = nI a.2.1 ∧ mG_wasMany z = nI a.2.2.1 ∧ ∀ j, j < k → mG_wasKind z j = mG_kind z j ∧ mG_wasFigure z j = mG_figure z j) (fun z => cmR z a ∧ kB g z ∧ mG_wasLeft z = nI a.1 ∧ mG_wasBites z = nI a.2.1 ∧ mG_wasMany z = nI a.2.2.1 ∧ ∀ j, j < 5 → mG_wasKind z j = mG_kind z j ∧ mG_wasFigure z j = mG_figure z j) (by
    intro n k z hk ⟨i1, i2, i3, i4, i5, i6⟩
    (try dsimp only)
    rcases Nat.lt_or_ge k 5 with hlt | hge
    · right
      refine ⟨hlt, ?_⟩
      have hin : ¬ (nI k < 0 ∨ 5 ≤ Int32.toNatClampNeg (nI k)) := nIn hlt (by omega)
      have hcl : Int32.toNatClampNeg (nI k) = k := nI_clamp (by omega)
      rw [f_X9_lays_L26, if_neg (n5 hlt)]
      simp only [if_neg hin]
      rw [obs, obs, obs, hcl, nI_1]
      refine ⟨mS_wasFigure (mS_wasKind z (upd (mG_wasKind z) k (mG_kind z k))) (upd (mG_wasFigure z) k (mG_figure z k)), ⟨i1, i2.tr ((kB.wk _ _).tr (kB.wf _ _)), i3, i4, i5, fun j hj => ?_⟩, rfl⟩
      show upd (mG_wasKind z) k (mG_kind z k) j = mG_kind z j ∧ upd (mG_wasFigure z) k (mG_figure z k) j = mG_figure z j
      by_cases e : j = k
      · rw [e, pk_us, pk_us]
        exact ⟨rfl, rfl⟩
      · rw [pk_un e, pk_un e]
        exact i6 j (by omega)
    · left
      have e : k = 5 := by omega
      subst e
      refine ⟨z, ?_, i1, i2, i3, i4, i5, i6⟩
      rw [f_X9_lays_L26, if_pos (by decide)]) 1000 0 g1 (by omega) ⟨c1, b1, w1, w2, w3, fun j hj => by omega⟩ (by omega)
  obtain ⟨z, z1, z2, z3, z4, z5, z6, z7⟩ := h
  rw [nI_0] at z1
  have z1' : f_X9_lays_L26 1000 0 (mS_wasMany (mS_wasBites (mS_wasLeft g (mG_left g)) (mG_bites g)) (mG_many g)) = some z := by rw [← e1]; exact z1
  refine ⟨z, ?_, z2, ⟨z4, z5, z6, fun j hj => ?_⟩, z3⟩
  · unfold f_X9_lays
    rw [obs, obs, obs]
    show Option.bind (f_X9_lays_L26 1000 0 (mS_wasMany (mS_wasBites (mS_wasLeft g (mG_left g)) (mG_bites g)) (mG_many g))) (fun o4 => some o4) = _
    rw [z1']
    rfl
  · obtain ⟨x1, x2⟩ := z7 j (by omega)
    obtain ⟨y1, y2, y3, y4⟩ := z2.2.2.2.2.2.2 j hj
    exact ⟨x1.trans y3, x2.trans y4⟩
theorem M_laysBack {g : MS} {a : AC} (ha : a.1 < 33554432 ∧ a.2.1 ≤ 999 ∧ a.2.2.1 ≤ 5 ∧ ∀ h, h < a.2.2.1 → a.2.2.2.2 h < 10 ∧ a.2.2.2.1 h < 6) (hw : waR g a) : ∃ h, f_X9_laysBack g = some h ∧ cmR h a ∧ kB g h := by
  obtain ⟨g1, e1⟩ : ∃ g1, g1 = mS_many (mS_bites (mS_left g (mG_wasLeft g)) (mG_wasBites g)) (mG_wasMany g) := ⟨_, rfl⟩
  have b1 : kB g g1 := by rw [e1]; exact kB.rf g
  have w0 : waR g1 a := by rw [e1]; exact hw
  have w1 : mG_left g1 = nI a.1 := by rw [e1]; exact hw.1
  have w2 : mG_bites g1 = nI a.2.1 := by rw [e1]; exact hw.2.1
  have w3 : mG_many g1 = nI a.2.2.1 := by rw [e1]; exact hw.2.2.1
  have h := loopI (fun n i (z : MS) => f_X9_laysBack_L26 n i z) 5 (fun k z => waR z a ∧ kB g z ∧ mG_left z = nI a.1 ∧ mG_bites z = nI a.2.1 ∧ mG_many z = nI a.2.2.1 ∧ ∀ j, j < k → mG_kind z j = mG_wasKind z j ∧ mG_figure z j = mG_wasFigure z j) (fun z => waR z a ∧ kB g z ∧ mG_left z = nI a.1 ∧ mG_bites z = nI a.2.1 ∧ mG_many z = nI a.2.2.1 ∧ ∀ j, j < 5 → mG_kind z j = mG_wasKind z j ∧ mG_figure z j = mG_wasFigure z j) (by
    intro n k z hk ⟨i1, i2, i3, i4, i5, i6⟩
    (try dsimp only)
    rcases Nat.lt_or_ge k 5 with hlt | hge
    · right
      refine ⟨hlt, ?_⟩
      have hin : ¬ (nI k < 0 ∨ 5 ≤ Int32.toNatClampNeg (nI k)) := nIn hlt (by omega)
      have hcl : Int32.toNatClampNeg (nI k) = k := nI_clamp (by omega)
      rw [f_X9_laysBack_L26, if_neg (n5 hlt)]
      simp only [if_neg hin]
      rw [obs, obs, obs, hcl, nI_1]
      refine ⟨mS_figure (mS_kind z (upd (mG_kind z) k (mG_wasKind z k))) (upd (mG_figure z) k (mG_wasFigure z k)), ⟨i1, i2.tr ((kB.ki _ _).tr (kB.fi _ _)), i3, i4, i5, fun j hj => ?_⟩, rfl⟩
      show upd (mG_kind z) k (mG_wasKind z k) j = mG_wasKind z j ∧ upd (mG_figure z) k (mG_wasFigure z k) j = mG_wasFigure z j
      by_cases e : j = k
      · rw [e, pk_us, pk_us]
        exact ⟨rfl, rfl⟩
      · rw [pk_un e, pk_un e]
        exact i6 j (by omega)
    · left
      have e : k = 5 := by omega
      subst e
      refine ⟨z, ?_, i1, i2, i3, i4, i5, i6⟩
      rw [f_X9_laysBack_L26, if_pos (by decide)]) 1000 0 g1 (by omega) ⟨w0, b1, w1, w2, w3, fun j hj => by omega⟩ (by omega)
  obtain ⟨z, z1, z2, z3, z4, z5, z6, z7⟩ := h
  rw [nI_0] at z1
  have z1' : f_X9_laysBack_L26 1000 0 (mS_many (mS_bites (mS_left g (mG_wasLeft g)) (mG_wasBites g)) (mG_wasMany g)) = some z := by rw [← e1]; exact z1
  refine ⟨z, ?_, ⟨ha.1, z4, ha.2.1, z5, z6, ha.2.2.1, fun j hj => ?_⟩, z3⟩
  · unfold f_X9_laysBack
    rw [obs, obs, obs]
    show Option.bind (f_X9_laysBack_L26 1000 0 (mS_many (mS_bites (mS_left g (mG_wasLeft g)) (mG_wasBites g)) (mG_wasMany g))) (fun o4 => some o4) = _
    rw [z1']
    rfl
  · obtain ⟨x1, x2⟩ := z7 j (by have := ha.2.2.1; omega)
    obtain ⟨y1, y2⟩ := z2.2.2.2 j hj
    obtain ⟨f1, f2⟩ := ha.2.2.2 j hj
    exact ⟨f1, f2, x1.trans y1, x2.trans y2⟩
theorem cmR.ok {g : MS} {a : AC} (h : cmR g a) : a.1 < 33554432 ∧ a.2.1 ≤ 999 ∧ a.2.2.1 ≤ 5 ∧ ∀ h, h < a.2.2.1 → a.2.2.2.2 h < 10 ∧ a.2.2.2.1 h < 6 := ⟨h.1, h.2.2.1, h.2.2.2.2.2.1, fun j hj => ⟨(h.2.2.2.2.2.2 j hj).1, (h.2.2.2.2.2.2 j hj).2.1⟩⟩
/-- all statements, one after another -/
def phS (H : Nat → Int32) (lm : Nat) : Nat → Nat → (List TL) ⊕ Nat
  | 0, p => .inr p
  | f + 1, p => match prsS H p with
    | .inr e => .inr e
    | .inl u => if u.2 < lm then (match phS H lm f u.2 with
      | .inl l => .inl (u.1 :: l)
      | .inr e => .inr e) else .inl [u.1]
theorem prs_e {H : Nat → Int32} {p e : Nat} (h : prsS H p = .inr e) : e ≤ p + 4 := by
  have key : ∀ t q v, finS H t q = .inr v → v = q := by
    intro t q v hv
    unfold finS at hv
    split at hv
    · cases hv
    · cases hv; rfl
  unfold prsS at h
  repeat (first | (have := key _ _ _ h; omega) | (cases h; omega) | cases h | split at h)
theorem phS_e {H : Nat → Int32} {lm : Nat} (hl : lm ≤ 96) : ∀ f p e, p ≤ lm → phS H lm f p = .inr e → e ≤ 100
  | 0, p, e, hp, h => by cases h; omega
  | f + 1, p, e, hp, h => by
    unfold phS at h
    cases e1 : prsS H p with
    | inr x =>
      rw [e1] at h
      cases h
      have := prs_e e1
      omega
    | inl u =>
      rw [e1] at h
      dsimp only at h
      split at h
      · rename_i hu
        cases e2 : phS H lm f u.2 with
        | inl l => rw [e2] at h; cases h
        | inr x =>
          rw [e2] at h
          cases h
          exact phS_e hl f u.2 _ (by omega) e2
      · cases h
theorem L_phase1 {g : XS} {lm : Nat} (hl : lm ≤ 96) : ∀ (f fuel n p : Nat) (l : List TL), f ≤ fuel → lm - p < f → p ≤ lm → n ≤ p →
    f_X0_readCore_L22 g fuel (nI n) (nI lm, nI p) l = (match phS (hrS (xG_letters g) lm) lm f p with
      | .inl l' => some (.inl (nI (n + l'.length), (nI lm, nI lm), l ++ l'))
      | .inr e => some (.inr (-1000 - nI e))) ∨ (∃ l' q, phS (hrS (xG_letters g) lm) lm f p = .inl l' ∧ f_X0_readCore_L22 g fuel (nI n) (nI lm, nI p) l = some (.inl (nI (n + l'.length), (nI lm, nI q), l ++ l'))) := by
  intro f
  induction f with
  | zero => intro fuel n p l h1 h2; omega
  | succ f ih =>
    intro fuel n p l h1 h2 h3 h4
    obtain ⟨k, rfl⟩ : ∃ k, fuel = k + 1 := ⟨fuel - 1, by omega⟩
    rw [f_X0_readCore_L22, L_statement hl (by omega), phS]
    cases e1 : prsS (hrS (xG_letters g) lm) p with
    | inr e =>
      left
      unfold prsX
      dsimp only
      rw [bXr]
    | inl u =>
      obtain ⟨h5, h6, h7⟩ := prs_ok e1
      have h8 := prs_lt e1
      have hin : ¬ (nI n < 0 ∨ 96 ≤ Int32.toNatClampNeg (nI n)) := nIn (by omega) (by omega)
      unfold prsX
      dsimp only
      rw [bXl, if_neg hin, obs, nI_1]
      show ((if nI u.2 < nI lm then f_X0_readCore_L22 g k (nI (n + 1)) (nI lm, nI u.2) (l ++ [u.1]) else some (Sum.inl (nI (n + 1), (nI lm, nI u.2), l ++ [u.1]))) = _) ∨ _
      by_cases e2 : u.2 < lm
      · rw [if_pos (nI_lt e2 (by omega))]
        simp only [if_pos e2]
        have i := ih k (n + 1) u.2 (l ++ [u.1]) (by omega) (by omega) (by omega) (by omega)
        rcases i with i | ⟨l', q, i1, i2⟩
        · cases e3 : phS (hrS (xG_letters g) lm) lm f u.2 with
          | inl l' =>
            left
            rw [e3] at i
            rw [i]
            dsimp only
            rw [List.length_cons, show n + 1 + l'.length = n + (l'.length + 1) by omega, List.append_assoc]
            rfl
          | inr e =>
            left
            rw [e3] at i
            rw [i]
        · right
          rw [i1]
          refine ⟨u.1 :: l', q, rfl, ?_⟩
          rw [i2, List.length_cons, show n + 1 + l'.length = n + (l'.length + 1) by omega, List.append_assoc]
          rfl
      · rw [if_neg (nI_nlt (by omega) (by omega))]
        simp only [if_neg e2]
        right
        exact ⟨[u.1], u.2, rfl, rfl⟩
theorem fault_ne {x : Int32} {e : Nat} (hx : x.toInt ≤ -1000 ∧ -3000 ≤ x.toInt) (he : e ≤ 1000) : x - nI e ≠ -9 := by
  intro z
  have h1 : (x - nI e).toInt = (-9 : Int32).toInt := by rw [z]
  have h2 : (nI e).toInt = (e : Int) := nI_toInt (by omega)
  have h3 : (-9 : Int32).toInt = -9 := by decide
  rw [Int32.toInt_sub, h2, h3] at h1
  have h4 : (x.toInt - (e : Int)).bmod (2 ^ 32) = x.toInt - (e : Int) := by
    apply Int.bmod_eq_of_le <;> omega
  rw [h4] at h1
  omega
theorem M_phase1 {g : MS} {lm : Nat} (hm : mG_letterMany g = nI lm) (hl : lm ≤ 96) : ∀ (f fuel n p : Nat) (nums : Nat → Int32), f ≤ fuel → lm - p < f → p ≤ lm →
    ∃ nums' q, match phS (hrS (mG_letters g) lm) lm f p with
      | .inl l' => f_X9_core_L10 fuel (-9) (nI n) (stM g nums p) = some (-9, nI (n + l'.length), stM g nums' q)
      | .inr e => ∃ n', f_X9_core_L10 fuel (-9) (nI n) (stM g nums p) = some (-1000 - nI e, n', stM g nums' q) := by
  intro f
  induction f with
  | zero => intro fuel n p nums h1 h2; omega
  | succ f ih =>
    intro fuel n p nums h1 h2 h3
    obtain ⟨k, rfl⟩ : ∃ k, fuel = k + 1 := ⟨fuel - 1, by omega⟩
    obtain ⟨nums1, hs, -⟩ := M_statement (g := g) (lm := lm) (p := p) (n := nums) hm hl (by omega)
    have step : f_X9_core_L10 (k + 1) (-9) (nI n) (stM g nums p) = (match prsS (hrS (mG_letters g) lm) p with
        | .inr e => some (-1000 - nI e, nI (n + 1), stM g nums1 e)
        | .inl u => if u.2 < lm then f_X9_core_L10 k (-9) (nI (n + 1)) (stM g nums1 u.2) else some (-9, nI (n + 1), stM g nums1 u.2)) := by
      rw [f_X9_core_L10, hs]
      cases e1 : prsS (hrS (mG_letters g) lm) p with
      | inr e =>
        have he := prs_e e1
        unfold prM
        dsimp only
        rw [obs, if_pos rfl, stm_p, obs, obs, obs, if_neg (fault_ne (by decide) (by omega)), nI_1]
      | inl u =>
        have h8 := prs_lt e1
        unfold prM
        dsimp only
        rw [obs]
        dsimp only
        rw [if_neg (by decide), obs, obs, if_pos rfl, stm_p, stm_m, hm, nI_1]
        by_cases e2 : u.2 < lm
        · rw [if_pos (nI_lt e2 (by omega)), if_pos e2]
        · rw [if_neg (nI_nlt (by omega) (by omega)), if_neg e2]
    rw [step, phS]
    cases e1 : prsS (hrS (mG_letters g) lm) p with
    | inr e => exact ⟨nums1, e, nI (n + 1), rfl⟩
    | inl u =>
      obtain ⟨h5, h6, h7⟩ := prs_ok e1
      dsimp only
      by_cases e2 : u.2 < lm
      · simp only [if_pos e2]
        obtain ⟨nums2, q, i⟩ := ih k (n + 1) u.2 nums1 (by omega) (by omega) (by omega)
        refine ⟨nums2, q, ?_⟩
        cases e3 : phS (hrS (mG_letters g) lm) lm f u.2 with
        | inl l' =>
          rw [e3] at i
          dsimp only at i ⊢
          rw [i, List.length_cons, show n + 1 + l'.length = n + (l'.length + 1) by omega]
        | inr e =>
          rw [e3] at i
          exact i
      · simp only [if_neg e2]
        exact ⟨nums1, u.2, rfl⟩
theorem phase2 {lm : Nat} {a0 : AC} (hl : lm ≤ 96) {L : Nat → Int32} : ∀ (f fuel p : Nat) (l : List TL) (cv : CV) (g : MS) (a : AC), f < fuel → p ≤ lm → phS (hrS L lm) lm f p = .inl l → cxR cv a → cmR g a → waR g a0 → mG_place g = nI p → mG_letterMany g = nI lm → mG_letters g = L → (a0.1 < 33554432 ∧ a0.2.1 ≤ 999 ∧ a0.2.2.1 ≤ 5 ∧ ∀ h, h < a0.2.2.1 → a0.2.2.2.2 h < 10 ∧ a0.2.2.2.1 h < 6) →
    (∃ cv' g' a', f_X0_readCore_L58 l cv = some (.inl cv') ∧ f_X9_core_L55 fuel (-9) g = some (-9, g') ∧ cxR cv' a' ∧ cmR g' a' ∧ kB g g') ∨ (∃ e cv' g', e ≤ 1000 ∧ f_X0_readCore_L58 l cv = some (.inr (-2000 - nI e, cv')) ∧ f_X9_core_L55 fuel (-9) g = some (-2000 - nI e, g') ∧ cmR g' a0 ∧ kB g g') := by
  intro f
  induction f with
  | zero => intro fuel p l cv g a h1 h2 h3; cases h3
  | succ f ih =>
    intro fuel p l cv g a h1 h2 h3 hc hg hw hp hm hL ha0
    obtain ⟨k, rfl⟩ : ∃ k, fuel = k + 1 := ⟨fuel - 1, by omega⟩
    unfold phS at h3
    cases e1 : prsS (hrS L lm) p with
    | inr e => rw [e1] at h3; cases h3
    | inl u =>
      rw [e1] at h3
      dsimp only at h3
      obtain ⟨h5, h6, h7⟩ := prs_ok e1
      have h8 := prs_lt e1
      obtain ⟨rest, hl2, hrest⟩ : ∃ rest, l = u.1 :: rest ∧ ((u.2 < lm ∧ phS (hrS L lm) lm f u.2 = .inl rest) ∨ (u.2 = lm ∧ rest = [])) := by
        by_cases e2 : u.2 < lm
        · rw [if_pos e2] at h3
          cases e3 : phS (hrS L lm) lm f u.2 with
          | inl l' => rw [e3] at h3; cases h3; exact ⟨l', rfl, Or.inl ⟨e2, rfl⟩⟩
          | inr e => rw [e3] at h3; cases h3
        · rw [if_neg e2] at h3
          cases h3
          exact ⟨[], rfl, Or.inr ⟨by omega, rfl⟩⟩
      subst hl2
      obtain ⟨nums1, hs, hnum⟩ := M_statement (g := g) (lm := lm) (p := p) (n := mG_numbers g) hm hl (by omega)
      rw [stm_0 g hp, hL, e1] at hs
      rw [hL] at hnum
      have hs' : f_X9_readsStatement g = some (1, stM g nums1 u.2) := hs
      have hh : f_X9_here g = some (hrS L lm p) := by
        have := M_here (g := g) (lm := lm) (p := p) (n := mG_numbers g) hm hl (by omega)
        rw [stm_0 g hp, hL] at this
        exact this
      obtain ⟨ok, cv1, g1, a1, d1, d2, d3, d4, d5, d6⟩ := comes_e (g := stM g nums1 u.2) hc (hg.st nums1 u.2) h5 (hnum u e1)
      have hnle : ¬ mG_letterMany g ≤ mG_place g := by rw [hm, hp]; exact nI_ge (by omega) (by omega)
      have hk1 : kB g g1 := (kB.st g nums1 u.2).tr (kB.of d5)
      rw [f_X9_core_L55, if_pos rfl, if_neg hnle, obs, hh, obs, hs', obs, d2, obs, hp]
      rw [f_X0_readCore_L58, d1, obs]
      cases ok
      · right
        obtain ⟨rfl, rfl⟩ := d6 rfl
        obtain ⟨g2, b1, b2, b3⟩ := M_laysBack ha0 (hw.st nums1 u.2)
        obtain ⟨j, rfl⟩ : ∃ j, k = j + 1 := ⟨k - 1, by omega⟩
        refine ⟨p, cv1, g2, by omega, ?_, ?_, b2, hk1.tr b3⟩
        · rw [if_pos bI_f, h5.1]
        · rw [if_pos bI_f, obs, b1, obs, f_X9_core_L55, if_neg (fault_ne (by decide) (by omega))]
      · rw [if_neg bI_n0, if_neg bI_n0]
        have hw1 : waR g1 a0 := (hw.st nums1 u.2).A d5
        obtain ⟨q1, q2, q3, q4, q5, q6, q7, q8, q9, q10, q11, q12, q13, q14, q15, q16, q17⟩ := d5
        have hp1 : mG_place g1 = nI u.2 := q10
        have hm1 : mG_letterMany g1 = nI lm := q8.trans hm
        have hL1 : mG_letters g1 = L := q15.trans hL
        rcases hrest with ⟨e2, e3⟩ | ⟨e2, e3⟩
        · rcases ih k u.2 rest cv1 g1 a1 (by omega) (by omega) e3 d3 d4 hw1 hp1 hm1 hL1 ha0 with ⟨cv', g', a', i1, i2, i3, i4, i5⟩ | ⟨e, cv', g', i0, i1, i2, i3, i4⟩
          · exact Or.inl ⟨cv', g', a', i1, i2, i3, i4, hk1.tr i5⟩
          · exact Or.inr ⟨e, cv', g', i0, i1, i2, i3, hk1.tr i4⟩
        · left
          subst e3
          obtain ⟨j, rfl⟩ : ∃ j, k = j + 1 := ⟨k - 1, by omega⟩
          refine ⟨cv1, g1, a1, rfl, ?_, d3, d4, hk1⟩
          have hle : mG_letterMany g1 ≤ mG_place g1 := by rw [hm1, hp1, e2]; exact nI_le (Nat.le_refl _) (by omega)
          rw [f_X9_core_L55, if_pos rfl, if_pos hle]
