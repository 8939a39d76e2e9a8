/-! PLAIN LAWS 3: the heaps of a core one after another; deed, pieces, the least piece -/
/-- the first cell from c on -/
def lowF (n : Nat) : Nat → Nat → Nat
  | 0, c => c
  | f + 1, c => if n.testBit c then c else lowF n f (c + 1)
def low (n : Nat) : Nat := lowF n 25 0
theorem lowF_of {n c : Nat} (h1 : n.testBit c = true) : ∀ (f k : Nat), (∀ j, k ≤ j → j < c → n.testBit j = false) → k ≤ c → c - k < f → lowF n f k = c
  | 0, k, _, _, h => by omega
  | f + 1, k, hj, hk, hf => by
    unfold lowF
    by_cases e : k = c
    · subst e; rw [if_pos h1]
    · rw [if_neg (by rw [hj k (Nat.le_refl _) (by omega)]; decide)]
      exact lowF_of h1 f (k + 1) (fun j h2 h3 => hj j (by omega) h3) (by omega) (by omega)
theorem low_of {n c : Nat} (h1 : n.testBit c = true) (h2 : ∀ j, j < c → n.testBit j = false) (h3 : c < 25) : low n = c := lowF_of h1 25 0 (fun j _ hj => h2 j hj) (by omega) (by omega)
theorem low_spec {n : Nat} (hn : n < 33554432) (h0 : n ≠ 0) : n.testBit (low n) = true ∧ (∀ j, j < low n → n.testBit j = false) ∧ low n < 25 := by
  obtain ⟨c, h1, h2, -⟩ := kern n h0
  have hc : c < 25 := by
    rcases Nat.lt_or_ge c 25 with h | h
    · exact h
    · rw [tb_T hn h] at h1; cases h1
  rw [low_of h1 h2 hc]
  exact ⟨h1, h2, hc⟩
theorem M_leastOf {n : Nat} (hn : n < 33554432) (h0 : n ≠ 0) : f_X9_leastOf (nI n) = some (nI (low n)) := by
  obtain ⟨h1, h2, h3⟩ := low_spec hn h0
  have key : ∀ (d fuel k : Nat), k + d = low n → d < fuel → f_X9_leastOf_L2 (nI n) fuel (nI k) = some (nI (low n)) := by
    intro d
    induction d with
    | zero =>
      intro fuel k hk hf
      obtain ⟨g, rfl⟩ : ∃ g, fuel = g + 1 := ⟨fuel - 1, by omega⟩
      have e : k = low n := by omega
      subst e
      rw [f_X9_leastOf_L2, M_has (by omega) (by omega), h1]
      rfl
    | succ d ih =>
      intro fuel k hk hf
      obtain ⟨g, rfl⟩ : ∃ g, fuel = g + 1 := ⟨fuel - 1, by omega⟩
      rw [f_X9_leastOf_L2, M_has (by omega) (by omega), h2 k (by omega)]
      show f_X9_leastOf_L2 (nI n) g (nI k + 1) = _
      rw [nI_1]
      exact ih g (k + 1) (by omega) (by omega)
  unfold f_X9_leastOf
  have h := key (low n) 1000 0 (by omega) (by omega)
  rw [nI_0] at h
  rw [h]; rfl
theorem L_leastIn {n : Nat} (hn : n < 33554432) (h0 : n ≠ 0) : f_X0_leastIn (nI n) = some (nI (low n)) := by
  obtain ⟨h1, h2, h3⟩ := low_spec hn h0
  have key : ∀ (d fuel k : Nat), k + d = low n → d < fuel → f_X0_leastIn_L2 (nI n) fuel (nI k) = some (nI (low n)) := by
    intro d
    induction d with
    | zero =>
      intro fuel k hk hf
      obtain ⟨g, rfl⟩ : ∃ g, fuel = g + 1 := ⟨fuel - 1, by omega⟩
      have e : k = low n := by omega
      subst e
      rw [f_X0_leastIn_L2, L_has (by omega) (by omega), h1]
      rfl
    | succ d ih =>
      intro fuel k hk hf
      obtain ⟨g, rfl⟩ : ∃ g, fuel = g + 1 := ⟨fuel - 1, by omega⟩
      rw [f_X0_leastIn_L2, L_has (by omega) (by omega), h2 k (by omega)]
      show f_X0_leastIn_L2 (nI n) g (nI k + 1) = _
      rw [nI_1]
      exact ih g (k + 1) (by omega) (by omega)
  unfold f_X0_leastIn
  have h := key (low n) 1000 0 (by omega) (by omega)
  rw [nI_0] at h
  rw [h]; rfl
/-- the heaps of s that meet r, by their least cells -/
def cps (s : Nat) : Nat → Nat → List Nat
  | 0, _ => []
  | f + 1, r => if r = 0 then [] else hS s (low r) :: cps s f (dif r (hS s (low r)))
theorem cps_rest {s r : Nat} (hr : r < 33554432) (h0 : r ≠ 0) : dif r (hS s (low r)) < 33554432 ∧ pc (dif r (hS s (low r))) < pc r := by
  obtain ⟨h1, h2, h3⟩ := low_spec hr h0
  refine ⟨dif_T hr, pc_lt (c := low r) (fun k hk => ?_) h3 ?_ h1⟩
  · rw [tb_dif, Bool.and_eq_true] at hk; exact hk.1
  · rw [tb_dif, hS_self, h1]; rfl
theorem cps_fuel {s : Nat} : ∀ (f g r : Nat), r < 33554432 → pc r ≤ f → pc r ≤ g → cps s f r = cps s g r
  | 0, g, r, hr, hf, _ => by
    have e : r = 0 := (pc_z hr).1 (by omega)
    subst e
    cases g with
    | zero => rfl
    | succ g => unfold cps; rw [if_pos rfl]
  | f + 1, 0, r, hr, _, hg => by
    have e : r = 0 := (pc_z hr).1 (by omega)
    subst e
    unfold cps; rw [if_pos rfl]
  | f + 1, g + 1, r, hr, hf, hg => by
    unfold cps
    by_cases h0 : r = 0
    · rw [if_pos h0, if_pos h0]
    · obtain ⟨h1, h2⟩ := cps_rest (s := s) hr h0
      rw [if_neg h0, if_neg h0, cps_fuel f g _ h1 (by omega) (by omega)]
/-- all heaps -/
def hps (s : Nat) : List Nat := cps s 25 s
def cntS (s : Nat) : Nat := (hps s).length
theorem cps_len (s : Nat) : ∀ f r, (cps s f r).length ≤ f
  | 0, _ => Nat.le_refl _
  | f + 1, r => by
    unfold cps
    split
    · exact Nat.zero_le _
    · have := cps_len s f (dif r (hS s (low r)))
      simp only [List.length_cons]
      omega
theorem cntS_le (s : Nat) : cntS s ≤ 25 := cps_len s 25 s
theorem cps_T {s : Nat} : ∀ (f r : Nat), r < 33554432 → ∀ h ∈ cps s f r, h < 33554432 ∧ h ≠ 0
  | 0, _, _, h, hm => by cases hm
  | f + 1, r, hr, h, hm => by
    unfold cps at hm
    split at hm
    · cases hm
    · rename_i h0
      obtain ⟨h1, h2, h3⟩ := low_spec hr h0
      rcases List.mem_cons.1 hm with e | e
      · subst e
        refine ⟨hS_T h3, fun z => ?_⟩
        have := hS_self s (low r)
        rw [z, Nat.zero_testBit] at this
        cases this
      · exact cps_T f _ (dif_T hr) h e
/-- the reference's count -/
theorem M_heaps {s : Nat} (hs : s < 33554432) : f_X9_heaps (nI s) = some (nI (cntS s)) := by
  have key : ∀ (f fuel r n : Nat), r < 33554432 → (∀ k, r.testBit k = true → s.testBit k = true) → pc r ≤ f → f < fuel → f_X9_heaps_L4 (nI s) fuel (nI r) (nI n) = some (nI (n + (cps s f r).length)) := by
    intro f
    induction f with
    | zero =>
      intro fuel r n hr _ hp hf
      obtain ⟨g, rfl⟩ : ∃ g, fuel = g + 1 := ⟨fuel - 1, by omega⟩
      have e : r = 0 := (pc_z hr).1 (by omega)
      subst e
      rw [f_X9_heaps_L4, if_pos nI_0]
      rfl
    | succ f ih =>
      intro fuel r n hr hsub hp hf
      obtain ⟨g, rfl⟩ : ∃ g, fuel = g + 1 := ⟨fuel - 1, by omega⟩
      unfold cps
      by_cases h0 : r = 0
      · subst h0
        rw [if_pos rfl, f_X9_heaps_L4, if_pos nI_0]
        rfl
      · obtain ⟨h1, h2, h3⟩ := low_spec hr h0
        obtain ⟨h4, h5⟩ := cps_rest (s := s) hr h0
        rw [if_neg h0, f_X9_heaps_L4, if_neg (by rw [pz_z (by omega)]; exact h0), M_leastOf hr h0]
        show (Option.bind (f_X9_heapOf (nI s) (nI (low r))) fun o5 => f_X9_heaps_L4 (nI s) g (nI r &&& (o5 ^^^ (-1))) (nI n + 1)) = _
        rw [M_heapOf hs h3, if_pos (hsub _ h1)]
        show f_X9_heaps_L4 (nI s) g (nI r &&& (nI (hS s (low r)) ^^^ (-1))) (nI n + 1) = _
        rw [pz_dif, nI_1, ih g _ (n + 1) h4 (fun k hk => by rw [tb_dif, Bool.and_eq_true] at hk; exact hsub k hk.1) (by omega) (by omega), List.length_cons]
        congr 2
        omega
  unfold f_X9_heaps
  have h := key 25 1000 s 0 hs (fun _ h => h) (pc_le s) (by omega)
  rw [nI_0, Nat.zero_add] at h
  rw [h]; rfl
/-- the deed: alone, found -/
def dStep (q : Bool × Nat) (h : Nat) : Bool × Nat := if pc q.2 < pc h then (true, h) else ((if pc h = pc q.2 then false else q.1), q.2)
def dFold (l : List Nat) (q : Bool × Nat) : Bool × Nat := l.foldl dStep q
def deedS (s : Nat) : Nat := if (dFold (hps s) (false, 0)).1 then (dFold (hps s) (false, 0)).2 else 0
theorem dStep_T {q : Bool × Nat} {h : Nat} (hq : q.2 < 33554432) (hh : h < 33554432) : (dStep q h).2 < 33554432 := by
  unfold dStep
  split
  · exact hh
  · exact hq
theorem dFold_T : ∀ (l : List Nat) (q : Bool × Nat), q.2 < 33554432 → (∀ h ∈ l, h < 33554432) → (dFold l q).2 < 33554432
  | [], q, hq, _ => hq
  | h :: l, q, hq, hl => dFold_T l (dStep q h) (dStep_T hq (hl h List.mem_cons_self)) (fun x hx => hl x (List.mem_cons_of_mem _ hx))
theorem deedS_T {s : Nat} (hs : s < 33554432) : deedS s < 33554432 := by
  unfold deedS
  split
  · exact dFold_T _ _ (by decide) (fun h hm => (cps_T 25 s hs h hm).1)
  · decide
theorem M_deed {s : Nat} (hs : s < 33554432) : f_X9_deed (nI s) = some (nI (deedS s)) := by
  have key : ∀ (f fuel r : Nat) (q : Bool × Nat), r < 33554432 → q.2 < 33554432 → (∀ k, r.testBit k = true → s.testBit k = true) → pc r ≤ f → f < fuel → f_X9_deed_L6 (nI s) fuel (nI r) (bI q.1) (nI q.2) = some (bI (dFold (cps s f r) q).1, nI (dFold (cps s f r) q).2) := by
    intro f
    induction f with
    | zero =>
      intro fuel r q hr _ _ hp hf
      obtain ⟨g, rfl⟩ : ∃ g, fuel = g + 1 := ⟨fuel - 1, by omega⟩
      have e : r = 0 := (pc_z hr).1 (by omega)
      subst e
      rw [f_X9_deed_L6, if_pos nI_0]
      rfl
    | succ f ih =>
      intro fuel r q hr hq hsub hp hf
      obtain ⟨g, rfl⟩ : ∃ g, fuel = g + 1 := ⟨fuel - 1, by omega⟩
      unfold cps
      by_cases h0 : r = 0
      · subst h0
        rw [if_pos rfl, f_X9_deed_L6, if_pos nI_0]
        rfl
      · obtain ⟨h1, h2, h3⟩ := low_spec hr h0
        obtain ⟨h4, h5⟩ := cps_rest (s := s) hr h0
        have hT := hS_T (s := s) h3
        have p1 := pc_le (hS s (low r))
        have p2 := pc_le q.2
        rw [if_neg h0, f_X9_deed_L6, if_neg (by rw [pz_z (by omega)]; exact h0), M_leastOf hr h0]
        simp only [obs]
        rw [M_heapOf hs h3, if_pos (hsub _ h1)]
        simp only [obs]
        rw [M_bits hT, M_bits hq]
        simp only [obs]
        have ih' := ih g _ (dStep q (hS s (low r))) h4 (dStep_T hq hT) (fun k hk => by rw [tb_dif, Bool.and_eq_true] at hk; exact hsub k hk.1) (by omega) (by omega)
        show _ = some (bI (dFold (cps s f (dif r (hS s (low r)))) (dStep q (hS s (low r)))).1, nI (dFold (cps s f (dif r (hS s (low r)))) (dStep q (hS s (low r)))).2)
        rw [← ih', ← pz_dif]
        unfold dStep
        by_cases e1 : pc q.2 < pc (hS s (low r))
        · have e2 : ¬ pc (hS s (low r)) = pc q.2 := by omega
          rw [if_neg (by rw [nI_eq (by omega) (by omega)]; exact e2)]
          simp only [obs, if_pos (nI_lt e1 (show pc (hS s (low r)) < 2 ^ 31 by omega)), if_pos e1]
          rfl
        · have e3 : ¬ nI (pc q.2) < nI (pc (hS s (low r))) := nI_nlt (by omega) (by omega)
          simp only [if_neg e3, if_neg e1, obs]
          by_cases e2 : pc (hS s (low r)) = pc q.2
          · rw [if_pos (by rw [e2]), if_pos e2]; rfl
          · rw [if_neg (by rw [nI_eq (by omega) (by omega)]; exact e2), if_neg e2]; rfl
  unfold f_X9_deed
  have h := key 25 1000 s (false, 0) hs (by decide) (fun _ h => h) (pc_le s) (by omega)
  rw [bI_f, nI_0] at h
  rw [h]
  unfold deedS hps
  simp only [obs]
  cases (dFold (cps s 25 s) (false, 0)).1 <;> rfl
/-- the least number of a list, 0 where there is none -/
def mnS (v n : Nat) : Nat := if v = 0 then n else if n < v then n else v
def lstS (s : Nat) : Nat := (hps s).foldl (fun v h => mnS v (pc h)) 0
theorem mn_spec {α : Type} (g : α → Nat) : ∀ (l : List α) (v : Nat), (∀ a ∈ l, 0 < g a) → (l.foldl (fun v a => mnS v (g a)) v = 0 ↔ v = 0 ∧ l = []) ∧ ((l.foldl (fun v a => mnS v (g a)) v ≠ 0) → (l.foldl (fun v a => mnS v (g a)) v = v ∨ ∃ a ∈ l, l.foldl (fun v a => mnS v (g a)) v = g a) ∧ (v ≠ 0 → l.foldl (fun v a => mnS v (g a)) v ≤ v) ∧ ∀ a ∈ l, l.foldl (fun v a => mnS v (g a)) v ≤ g a)
  | [], v, _ => ⟨⟨fun h => ⟨h, rfl⟩, fun h => h.1⟩, fun _ => ⟨Or.inl rfl, fun _ => Nat.le_refl _, fun a h => by cases h⟩⟩
  | a :: l, v, hp => by
    have ha := hp a List.mem_cons_self
    obtain ⟨i1, i2⟩ := mn_spec g l (mnS v (g a)) (fun x hx => hp x (List.mem_cons_of_mem _ hx))
    simp only [List.foldl_cons]
    have hm : mnS v (g a) ≠ 0 := by unfold mnS; split; omega; split <;> omega
    refine ⟨⟨fun h => absurd (i1.1 h).1 hm, fun h => by cases h.2⟩, fun h => ?_⟩
    obtain ⟨j1, j2, j3⟩ := i2 h
    have j2 := j2 hm
    have hm1 : mnS v (g a) ≤ g a := by unfold mnS; split; omega; split <;> omega
    have hm2 : v ≠ 0 → mnS v (g a) ≤ v := by intro hv; unfold mnS; rw [if_neg hv]; split <;> omega
    refine ⟨?_, fun hv => Nat.le_trans j2 (hm2 hv), fun x hx => ?_⟩
    · rcases j1 with j1 | ⟨x, hx, j1⟩
      · rw [j1]
        unfold mnS
        split
        · exact Or.inr ⟨a, List.mem_cons_self, rfl⟩
        · split
          · exact Or.inr ⟨a, List.mem_cons_self, rfl⟩
          · exact Or.inl rfl
      · exact Or.inr ⟨x, List.mem_cons_of_mem _ hx, j1⟩
    · rcases List.mem_cons.1 hx with e | e
      · subst e; exact Nat.le_trans j2 hm1
      · exact j3 x e
/-- every heap of the list is a cell's; every cell's heap is in the list -/
theorem cps_in {s : Nat} : ∀ (f r : Nat), r < 33554432 → (∀ k, r.testBit k = true → s.testBit k = true) → ∀ h ∈ cps s f r, ∃ c, c < 25 ∧ s.testBit c = true ∧ h = hS s c
  | 0, _, _, _, h, hm => by cases hm
  | f + 1, r, hr, hsub, h, hm => by
    unfold cps at hm
    split at hm
    · cases hm
    · rename_i h0
      obtain ⟨h1, h2, h3⟩ := low_spec hr h0
      rcases List.mem_cons.1 hm with e | e
      · exact ⟨low r, h3, hsub _ h1, e⟩
      · exact cps_in f _ (dif_T hr) (fun k hk => by rw [tb_dif, Bool.and_eq_true] at hk; exact hsub k hk.1) h e
theorem cps_all {s : Nat} (hs : s < 33554432) : ∀ (f r : Nat), r < 33554432 → (∀ k, r.testBit k = true → s.testBit k = true) → pc r ≤ f → ∀ c, c < 25 → r.testBit c = true → hS s c ∈ cps s f r
  | 0, r, hr, _, hp, c, _, hc => by
    have e : r = 0 := (pc_z hr).1 (by omega)
    rw [e, Nat.zero_testBit] at hc
    cases hc
  | f + 1, r, hr, hsub, hp, c, h25, hc => by
    have h0 : r ≠ 0 := by
      intro e
      rw [e, Nat.zero_testBit] at hc
      cases hc
    obtain ⟨h1, h2, h3⟩ := low_spec hr h0
    obtain ⟨h4, h5⟩ := cps_rest (s := s) hr h0
    unfold cps
    rw [if_neg h0]
    cases e : (hS s (low r)).testBit c
    · exact List.mem_cons_of_mem _ (cps_all hs f _ h4 (fun k hk => by rw [tb_dif, Bool.and_eq_true] at hk; exact hsub k hk.1) (by omega) c h25 (by rw [tb_dif, hc, e]; rfl))
    · rw [hS_eq hs h3 (hsub _ h1) e]
      exact List.mem_cons_self
/-- the reference's least heap -/
def cells (s : Nat) : Nat → List Nat
  | 0 => []
  | k + 1 => cells s k ++ (if s.testBit k then [k] else [])
theorem cells_in (s c : Nat) : ∀ k, c ∈ cells s k ↔ c < k ∧ s.testBit c = true
  | 0 => ⟨fun h => (by cases h), fun h => by omega⟩
  | k + 1 => by
    unfold cells
    rw [List.mem_append, cells_in s c k]
    constructor
    · rintro (h | h)
      · exact ⟨by omega, h.2⟩
      · by_cases e : s.testBit k = true
        · rw [if_pos e, List.mem_singleton] at h; subst h; exact ⟨by omega, e⟩
        · rw [if_neg e] at h; cases h
    · rintro ⟨h1, h2⟩
      by_cases e : c = k
      · subst e; right; rw [if_pos h2]; exact List.mem_singleton.2 rfl
      · left; exact ⟨by omega, h2⟩
def lhU (s k : Nat) : Nat := (cells s k).foldl (fun v c => mnS v (pc (hS s c))) 0
theorem lhU_s (s k : Nat) : lhU s (k + 1) = if s.testBit k then mnS (lhU s k) (pc (hS s k)) else lhU s k := by
  unfold lhU
  rw [cells, List.foldl_append]
  split <;> rfl
theorem hS_pos {s c : Nat} (hc : c < 25) : 0 < pc (hS s c) := by
  refine pc_pos (hS_T hc) fun z => ?_
  have := hS_self s c
  rw [z, Nat.zero_testBit] at this
  cases this
theorem lhU_lst {s : Nat} (hs : s < 33554432) : lhU s 25 = lstS s := by
  have h1 := mn_spec (fun c => pc (hS s c)) (cells s 25) 0 (fun c hc => hS_pos ((cells_in s c 25).1 hc).1)
  have h2 := mn_spec pc (hps s) 0 (fun h hm => pc_pos (cps_T 25 s hs h hm).1 (cps_T 25 s hs h hm).2)
  have e1 : ∀ c, c ∈ cells s 25 → hS s c ∈ hps s := fun c hc => cps_all hs 25 s hs (fun _ h => h) (pc_le s) c ((cells_in s c 25).1 hc).1 ((cells_in s c 25).1 hc).2
  have e2 : ∀ h, h ∈ hps s → ∃ c, c ∈ cells s 25 ∧ h = hS s c := fun h hm => by
    obtain ⟨c, a, b, e⟩ := cps_in 25 s hs (fun _ h => h) h hm
    exact ⟨c, (cells_in s c 25).2 ⟨a, b⟩, e⟩
  show (cells s 25).foldl (fun v c => mnS v (pc (hS s c))) 0 = (hps s).foldl (fun v h => mnS v (pc h)) 0
  generalize (cells s 25).foldl (fun v c => mnS v (pc (hS s c))) 0 = A at *
  generalize (hps s).foldl (fun v h => mnS v (pc h)) 0 = B at *
  by_cases hA : A = 0
  · have h3 := (h1.1.1 hA).2
    have h4 : hps s = [] := by
      cases hl : hps s with
      | nil => rfl
      | cons h l =>
        obtain ⟨c, hc, -⟩ := e2 h (by rw [hl]; exact List.mem_cons_self)
        rw [h3] at hc
        cases hc
    rw [hA, h2.1.2 ⟨rfl, h4⟩]
  · have hB : B ≠ 0 := by
      intro hB
      have h4 := (h2.1.1 hB).2
      apply hA
      refine h1.1.2 ⟨rfl, ?_⟩
      cases hl : cells s 25 with
      | nil => rfl
      | cons c l =>
        have := e1 c (by rw [hl]; exact List.mem_cons_self)
        rw [h4] at this
        cases this
    obtain ⟨a1, -, a3⟩ := h1.2 hA
    obtain ⟨b1, -, b3⟩ := h2.2 hB
    apply Nat.le_antisymm
    · rcases b1 with b1 | ⟨h, hm, b1⟩
      · exact absurd b1 hB
      · obtain ⟨c, hc, rfl⟩ := e2 h hm
        rw [b1]; exact a3 c hc
    · rcases a1 with a1 | ⟨c, hc, a1⟩
      · exact absurd a1 hA
      · rw [a1]; exact b3 _ (e1 c hc)
theorem lhU_le (s : Nat) : ∀ k, lhU s k ≤ 25
  | 0 => Nat.zero_le _
  | k + 1 => by
    rw [lhU_s]
    have h1 := lhU_le s k
    have h2 := pc_le (hS s k)
    unfold mnS
    split
    · split
      · exact h2
      · split <;> assumption
    · exact h1
theorem M_leastHeap {s : Nat} (hs : s < 33554432) : f_X9_leastHeap (nI s) = some (nI (lstS s)) := by
  unfold f_X9_leastHeap
  have h := loopU (fun f i (a : Int32) => f_X9_leastHeap_L4 (nI s) f i a) 25 (fun k => nI (lhU s k)) (nI (lhU s 25)) (fun f => by
    show f_X9_leastHeap_L4 (nI s) (f + 1) (nI 25) _ = _
    rw [f_X9_leastHeap_L4, if_pos (by decide)]) (fun f k hk => by
    show f_X9_leastHeap_L4 (nI s) (f + 1) (nI k) (nI (lhU s k)) = f_X9_leastHeap_L4 (nI s) f (nI (k + 1)) (nI (lhU s (k + 1)))
    rw [f_X9_leastHeap_L4, if_neg (n25 hk), M_heapOf hs hk]
    simp only [obs]
    rw [lhU_s, nI_1]
    cases e : s.testBit k
    · have hb : f_X9_bits (nI (if false = true then hS s k else 0)) = some (nI 0) := by
        have := M_bits (n := 0) (by decide)
        rw [pc_0] at this
        exact this
      rw [hb]
      simp only [obs]
      rw [if_pos (by decide)]
      rfl
    · have hp := hS_pos (s := s) hk
      have hq := pc_le (hS s k)
      have hl := lhU_le s k
      rw [if_pos rfl, if_pos rfl, M_bits (hS_T hk)]
      simp only [obs]
      rw [if_neg (nI_nle hp (by omega))]
      unfold mnS
      by_cases e1 : lhU s k = 0
      · rw [if_pos (by rw [e1]; rfl), if_pos e1]
      · rw [if_neg (by rw [pz_z (by omega)]; exact e1), if_neg e1]
        by_cases e2 : pc (hS s k) < lhU s k
        · rw [if_neg (by rw [nI_leI (by omega) (by omega)]; omega), if_pos e2]
        · rw [if_pos (nI_le (by omega) (by omega)), if_neg e2]) 1000 0 (by omega) (by omega)
  have e0 : lhU s 0 = 0 := rfl
  simp only [e0, nI_0] at h
  rw [h, lhU_lst hs]
  rfl
/-- the core read again -/
def cvL (cv : CV) (s : Nat) : CV := (nI s, cG_heirs cv, cG_bitten cv, nI (deedS s), nI (cntS s), nI (lstS s), cG_kind cv, cG_figures cv)
/-- what the class keeps while it reads: pieces, least, deed, most -/
def lvF (l : List Nat) (a : Nat × Nat × (Bool × Nat)) : Nat × Nat × (Bool × Nat) := l.foldl (fun a h => (a.1 + 1, mnS a.2.1 (pc h), dStep a.2.2 h)) a
theorem lvF_1 : ∀ (l : List Nat) (a : Nat × Nat × (Bool × Nat)), lvF l a = (a.1 + l.length, l.foldl (fun v h => mnS v (pc h)) a.2.1, dFold l a.2.2)
  | [], a => rfl
  | h :: l, a => by
    show lvF l _ = _
    rw [lvF_1 l, List.length_cons]
    show (a.1 + 1 + l.length, _, _) = (a.1 + (l.length + 1), _, _)
    rw [show a.1 + 1 + l.length = a.1 + (l.length + 1) by omega]
    rfl
def cvA (cv : CV) (s : Nat) (a : Nat × Nat × (Bool × Nat)) : CV := (nI s, cG_heirs cv, cG_bitten cv, nI (if a.2.2.1 then a.2.2.2 else 0), nI a.1, nI a.2.1, cG_kind cv, cG_figures cv)
theorem L_leave {s : Nat} (cv : CV) (hs : s < 33554432) : f_X8_leave cv (nI s) = some (cvL cv s) := by
  have key : ∀ (d fuel c r f : Nat) (a : Nat × Nat × (Bool × Nat)), c + d = 25 → d < fuel → r < 33554432 → (∀ j, j < c → r.testBit j = false) → (∀ k, r.testBit k = true → s.testBit k = true) → pc r ≤ f → a.2.2.2 < 33554432 → a.1 + d ≤ 25 → a.2.1 ≤ 25 → f_X8_leave_L27 (nI s) fuel (nI c) (nI r) (nI (pc a.2.2.2)) (cvA cv s a) = some (cvA cv s (lvF (cps s f r) a)) := by
    intro d
    induction d with
    | zero =>
      intro fuel c r f a hc hf hr hlow hsub hp _ _ _
      obtain ⟨g, rfl⟩ : ∃ g, fuel = g + 1 := ⟨fuel - 1, by omega⟩
      have e : c = 25 := by omega
      subst e
      have e : r = 0 := z_T hr hlow
      subst e
      rw [f_X8_leave_L27, if_pos (by decide)]
      cases f with
      | zero => rfl
      | succ f => unfold cps; rw [if_pos rfl]; rfl
    | succ d ih =>
      intro fuel c r f a hc hf hr hlow hsub hp ha ha1 ha2
      obtain ⟨g, rfl⟩ : ∃ g, fuel = g + 1 := ⟨fuel - 1, by omega⟩
      rw [f_X8_leave_L27, if_neg (n25 (by omega)), L_has (by omega) (by omega)]
      simp only [obs]
      cases e : r.testBit c
      · rw [if_pos bI_f, nI_1]
        exact ih g (c + 1) r f a (by omega) (by omega) hr (fun j hj => by
          by_cases e2 : j = c
          · subst e2; exact e
          · exact hlow j (by omega)) hsub hp ha (by omega) ha2
      · have h0 : r ≠ 0 := by
          intro z
          rw [z, Nat.zero_testBit] at e
          cases e
        have hl : low r = c := low_of e hlow (by omega)
        obtain ⟨h4, h5⟩ := cps_rest (s := s) hr h0
        rw [hl] at h4 h5
        have hT := hS_T (s := s) (c := c) (by omega)
        have p1 := pc_le (hS s c)
        have p2 := pc_le a.2.2.2
        have hpos := hS_pos (s := s) (c := c) (by omega)
        obtain ⟨f', rfl⟩ : ∃ f', f = f' + 1 := ⟨f - 1, by have := pc_pos hr h0; omega⟩
        rw [if_neg (by decide), L_heapOf hs (by omega)]
        simp only [obs]
        rw [L_manyIn hT]
        simp only [obs]
        have ih' := ih g (c + 1) (dif r (hS s c)) f' (a.1 + 1, mnS a.2.1 (pc (hS s c)), dStep a.2.2 (hS s c)) (by omega) (by omega) h4 (fun j hj => by
          rw [tb_dif]
          by_cases e2 : j = c
          · subst e2; rw [hS_self, e]; rfl
          · rw [hlow j (by omega)]; rfl) (fun k hk => by rw [tb_dif, Bool.and_eq_true] at hk; exact hsub k hk.1) (by omega) (dStep_T ha hT) (by show a.1 + 1 + d ≤ 25; omega) (by show mnS _ _ ≤ 25; unfold mnS; split; exact p1; split <;> assumption)
        have hcp : cps s (f' + 1) r = hS s c :: cps s f' (dif r (hS s c)) := by rw [cps, if_neg h0, hl]
        rw [hcp]
        show _ = some (cvA cv s (lvF (cps s f' (dif r (hS s c))) (a.1 + 1, mnS a.2.1 (pc (hS s c)), dStep a.2.2 (hS s c))))
        rw [← ih', pz_dif, nI_1]
        have q1 : (if cG_leastPiece (cS_pieceMany (cvA cv s a) (cG_pieceMany (cvA cv s a) + 1)) = 0 then some (nI (pc (hS s c))) else some (if nI (pc (hS s c)) < cG_leastPiece (cS_pieceMany (cvA cv s a) (cG_pieceMany (cvA cv s a) + 1)) then nI (pc (hS s c)) else cG_leastPiece (cS_pieceMany (cvA cv s a) (cG_pieceMany (cvA cv s a) + 1)))) = some (nI (mnS a.2.1 (pc (hS s c)))) := by
          show (if nI a.2.1 = 0 then some (nI (pc (hS s c))) else some (if nI (pc (hS s c)) < nI a.2.1 then nI (pc (hS s c)) else nI a.2.1)) = _
          unfold mnS
          by_cases e1 : a.2.1 = 0
          · rw [if_pos (by rw [e1]; rfl), if_pos e1]
          · rw [if_neg (by rw [pz_z (by omega)]; exact e1), if_neg e1]
            by_cases e2 : pc (hS s c) < a.2.1
            · rw [if_pos (nI_lt e2 (by omega)), if_pos e2]
            · rw [if_neg (nI_nlt (by omega) (by omega)), if_neg e2]
        rw [q1]
        simp only [obs]
        have q2 : (if nI (pc (hS s c)) ≤ nI (pc a.2.2.2) then if nI (pc (hS s c)) = nI (pc a.2.2.2) then some 0 else some (cG_deed (cS_leastPiece (cS_pieceMany (cvA cv s a) (cG_pieceMany (cvA cv s a) + 1)) (nI (mnS a.2.1 (pc (hS s c)))))) else some (nI (hS s c))) = some (nI (if (dStep a.2.2 (hS s c)).1 then (dStep a.2.2 (hS s c)).2 else 0)) := by
          unfold dStep
          by_cases e1 : pc a.2.2.2 < pc (hS s c)
          · rw [if_neg (nI_ge e1 (by omega)), if_pos e1]; rfl
          · rw [if_pos (nI_le (by omega) (by omega)), if_neg e1]
            by_cases e2 : pc (hS s c) = pc a.2.2.2
            · rw [if_pos (by rw [e2]), if_pos e2]; rfl
            · rw [if_neg (by rw [nI_eq (by omega) (by omega)]; exact e2), if_neg e2]; rfl
        rw [q2]
        simp only [obs]
        have q3 : (if nI (pc a.2.2.2) < nI (pc (hS s c)) then nI (pc (hS s c)) else nI (pc a.2.2.2)) = nI (pc (dStep a.2.2 (hS s c)).2) := by
          unfold dStep
          by_cases e1 : pc a.2.2.2 < pc (hS s c)
          · rw [if_pos (nI_lt e1 (by omega)), if_pos e1]
          · rw [if_neg (nI_nlt (by omega) (by omega)), if_neg e1]
        rw [q3]
        congr 1
        show (nI s, cG_heirs cv, cG_bitten cv, nI (if (dStep a.2.2 (hS s c)).1 then (dStep a.2.2 (hS s c)).2 else 0), nI a.1 + 1, nI (mnS a.2.1 (pc (hS s c))), cG_kind cv, cG_figures cv) = _
        rw [nI_1]
        rfl
  unfold f_X8_leave
  simp only [obs]
  have h := key 25 1000 0 s 25 (0, 0, (false, 0)) (by omega) (by omega) hs (fun j hj => by omega) (fun _ h => h) (pc_le s) (by decide) (by decide) (by decide)
  have hpc0 : nI (pc 0) = 0 := by rw [pc_0]; rfl
  rw [nI_0] at h
  have h' : f_X8_leave_L27 (nI s) 1000 0 (nI s) (nI (pc 0)) (cvA cv s (0, 0, (false, 0))) = some (cvA cv s (lvF (cps s 25 s) (0, 0, (false, 0)))) := h
  rw [hpc0, lvF_1] at h'
  have h2 : cvA cv s (0, 0, (false, 0)) = cS_leastPiece (cS_pieceMany (cS_deed (cS_left cv (nI s)) 0) 0) 0 := rfl
  rw [h2] at h'
  rw [h']
  show some (nI s, cG_heirs cv, cG_bitten cv, nI (deedS s), nI (0 + (hps s).length), nI (lstS s), cG_kind cv, cG_figures cv) = some (cvL cv s)
  rw [Nat.zero_add]
  rfl
