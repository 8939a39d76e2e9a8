/-! PLAIN LAWS 7: the first of some; two who bite -/
def fstN (P : Nat → Bool) : Nat → Option Nat
  | 0 => none
  | n + 1 => match fstN P n with
    | some k => some k
    | none => if P n then some n else none
theorem fst_spec (P : Nat → Bool) : ∀ n, (∀ k, fstN P n = some k → k < n ∧ P k = true ∧ ∀ j, j < k → P j = false) ∧ (fstN P n = none → ∀ j, j < n → P j = false)
  | 0 => ⟨fun k h => (by cases h), fun _ j hj => by omega⟩
  | n + 1 => by
    obtain ⟨i1, i2⟩ := fst_spec P n
    unfold fstN
    cases e : fstN P n with
    | some k =>
      refine ⟨fun j h => ?_, fun h => by cases h⟩
      cases h
      obtain ⟨a, b, c⟩ := i1 k e
      exact ⟨by omega, b, c⟩
    | none =>
      have i := i2 e
      cases e2 : P n
      · refine ⟨fun j h => by simp at h, fun _ j hj => ?_⟩
        by_cases e3 : j = n
        · rw [e3]; exact e2
        · exact i j (by omega)
      · refine ⟨fun j h => ?_, fun h => by simp at h⟩
        simp at h
        subst h
        exact ⟨by omega, e2, i⟩
theorem fst_some {P : Nat → Bool} {n k : Nat} (hk : k < n) (h1 : P k = true) (h2 : ∀ j, j < k → P j = false) : fstN P n = some k := by
  obtain ⟨i1, i2⟩ := fst_spec P n
  cases e : fstN P n with
  | none => rw [i2 e k hk] at h1; cases h1
  | some j =>
    obtain ⟨a, b, c⟩ := i1 j e
    have : j = k := by
      rcases Nat.lt_trichotomy j k with h | h | h
      · rw [h2 j h] at b; cases b
      · exact h
      · rw [c k h] at h1; cases h1
    rw [this]
theorem fst_none {P : Nat → Bool} {n : Nat} (h : ∀ j, j < n → P j = false) : fstN P n = none := by
  cases e : fstN P n with
  | none => rfl
  | some j =>
    obtain ⟨a, b, -⟩ := (fst_spec P n).1 j e
    rw [h j a] at b
    cases b
/-- a loop that ends at the first -/
theorem loopF {σ ρ : Type} (L : Nat → Int32 → σ → Option ρ) (N : Nat) (P : Nat → Bool) (I : σ → Prop) (Q : Option Nat → ρ → Prop)
    (hend : ∀ n s, I s → ∃ r, L (n + 1) (nI N) s = some r ∧ Q none r)
    (hit : ∀ n k s, k < N → I s → P k = true → ∃ r, L (n + 1) (nI k) s = some r ∧ Q (some k) r)
    (hstep : ∀ n k s, k < N → I s → P k = false → ∃ s', I s' ∧ L (n + 1) (nI k) s = L n (nI (k + 1)) s') :
    ∀ fuel s, I s → N < fuel → ∃ r, L fuel 0 s = some r ∧ Q (fstN P N) r := by
  intro fuel s hi hf
  have h := loopI L N (fun k s => I s ∧ ∀ j, j < k → P j = false) (Q (fstN P N)) (by
    intro n k s hk ⟨h1, h2⟩
    rcases Nat.lt_or_ge k N with hlt | hge
    · cases e : P k
      · obtain ⟨s', i1, i2⟩ := hstep n k s hlt h1 e
        refine Or.inr ⟨hlt, s', ⟨i1, fun j hj => ?_⟩, i2⟩
        by_cases e2 : j = k
        · rw [e2]; exact e
        · exact h2 j (by omega)
      · obtain ⟨r, i1, i2⟩ := hit n k s hlt h1 e
        rw [← fst_some hlt e h2] at i2
        exact Or.inl ⟨r, i1, i2⟩
    · have e : k = N := by omega
      subst e
      obtain ⟨r, i1, i2⟩ := hend n s h1
      rw [← fst_none h2] at i2
      exact Or.inl ⟨r, i1, i2⟩) fuel 0 s (by omega) ⟨hi, fun j hj => by omega⟩ (by omega)
  rw [nI_0] at h
  exact h
def fRes {ρ : Type} (o : Option Nat) (res : Nat → ρ) : ρ ⊕ Unit := match o with
  | some k => .inl (res k)
  | none => .inr ()
/-- two loops in one another, by shape and cell -/
theorem nestF {ρ : Type} (O : Nat → Int32 → Option (ρ ⊕ Unit)) (In : Nat → Option (ρ ⊕ Unit)) (P : Nat → Bool) (res : Nat → ρ)
    (hIn : ∀ sh, sh < 4 → In sh = some (fRes (fstN (fun c => P (25 * sh + c)) 25) (fun c => res (25 * sh + c))))
    (hO : ∀ n sh, sh < 4 → O (n + 1) (nI sh) = bsO (In sh) (fun _ => O n (nI (sh + 1)))) (hE : ∀ n, O (n + 1) (nI 4) = some (.inr ())) :
    O 1000 0 = some (fRes (fstN P 100) res) := by
  have h := loopI (fun n i (_ : Unit) => O n i) 4 (fun sh _ => ∀ j, j < 25 * sh → P j = false) (fun r => r = fRes (fstN P 100) res) (by
    intro n sh _ hk hj
    rcases Nat.lt_or_ge sh 4 with hlt | hge
    · (try dsimp only)
      rw [hO n sh hlt, hIn sh hlt]
      have sp := fst_spec (fun c => P (25 * sh + c)) 25
      cases e : fstN (fun c => P (25 * sh + c)) 25 with
      | some c =>
        obtain ⟨a, b, d⟩ := sp.1 c e
        left
        refine ⟨_, rfl, ?_⟩
        rw [fst_some (P := P) (k := 25 * sh + c) (by omega) b (fun j hj2 => by
          rcases Nat.lt_or_ge j (25 * sh) with h1 | h1
          · exact hj j h1
          · have := d (j - 25 * sh) (by omega)
            rw [show 25 * sh + (j - 25 * sh) = j by omega] at this
            exact this)]
        rfl
      | none =>
        right
        refine ⟨hlt, (), fun j hj2 => ?_, rfl⟩
        rcases Nat.lt_or_ge j (25 * sh) with h1 | h1
        · exact hj j h1
        · have := sp.2 e (j - 25 * sh) (by omega)
          rw [show 25 * sh + (j - 25 * sh) = j by omega] at this
          exact this
    · have e : sh = 4 := by omega
      subst e
      left
      refine ⟨_, hE n, ?_⟩
      rw [fst_none (P := P) (fun j hj2 => hj j (by omega))]
      rfl) 1000 0 () (by omega) (fun j hj => by omega) (by omega)
  obtain ⟨r, h1, h2⟩ := h
  rw [nI_0] at h1
  rw [h1, h2]
theorem dif_pow {s c : Nat} : dif (2 ^ c) s = 0 ↔ s.testBit c = true := by
  unfold dif
  cases h : s.testBit c
  · rw [and_pow0 h, Nat.xor_zero]
    exact ⟨fun z => absurd z (Nat.ne_of_gt (Nat.two_pow_pos c)), fun z => by cases z⟩
  · rw [and_pow h, Nat.xor_self]
    exact ⟨fun _ => rfl, fun _ => rfl⟩
theorem can0 {s c : Nat} (hc : c < 25) : canS s 0 c = s.testBit c := by
  unfold canS
  rw [bitS_0 c hc]
  cases h : s.testBit c
  · exact decide_eq_false (fun z => by have := dif_pow.1 z.2; rw [h] at this; cases this)
  · exact decide_eq_true ⟨Nat.ne_of_gt (Nat.two_pow_pos c), dif_pow.2 h⟩
theorem can_z : ∀ sh, sh < 4 → ∀ c, c < 25 → canS 0 sh c = false := by decide +kernel
def firstS (s : Nat) : Option Nat := if s = 0 then none else some (low s)
theorem firstS_lt {s : Nat} (hs : s < 33554432) : ∀ k, firstS s = some k → k < 25 := by
  intro k hk
  unfold firstS at hk
  split at hk
  · cases hk
  · cases hk
    exact (low_spec hs (by assumption)).2.2
theorem enc_lt {k : Nat} (hk : k < 25) : enc (some k) = nI k := by
  unfold enc
  (try dsimp only)
  rw [show 100 * (k / 25) + k % 25 = k by omega]
theorem firstS_f {s : Nat} (hs : s < 33554432) : fstN (fun c => s.testBit c) 25 = firstS s := by
  unfold firstS
  by_cases h0 : s = 0
  · rw [if_pos h0]
    exact fst_none (fun j _ => by rw [h0, Nat.zero_testBit])
  · obtain ⟨h1, h2, h3⟩ := low_spec hs h0
    rw [if_neg h0]
    exact fst_some h3 h1 h2
theorem L_firstThatCan {cv : CV} {s : Nat} (hs : s < 33554432) (hl : cG_left cv = nI s) : f_X0_firstThatCan cv = some (enc (firstS s)) := by
  have h := loopF (fun n i (_ : Unit) => f_X0_firstThatCan_L2 cv n i) 25 (fun c => s.testBit c) (fun _ => True) (fun o r => r = fRes o nI) (fun n _ _ => by
    refine ⟨_, ?_, rfl⟩
    (try dsimp only)
    rw [f_X0_firstThatCan_L2, if_pos (by decide)]
    rfl) (fun n k _ hk _ hp => by
    refine ⟨_, ?_, rfl⟩
    (try dsimp only)
    have hb : f_X8_canBite cv 0 (nI k) = some (bI (s.testBit k)) := by rw [← can0 hk]; exact L_canBite (sh := 0) hl (by omega) hk
    rw [f_X0_firstThatCan_L2, if_neg (n25 hk), hb, hp]
    rfl) (fun n k _ hk _ hp => by
    refine ⟨(), trivial, ?_⟩
    (try dsimp only)
    have hb : f_X8_canBite cv 0 (nI k) = some (bI (s.testBit k)) := by rw [← can0 hk]; exact L_canBite (sh := 0) hl (by omega) hk
    rw [f_X0_firstThatCan_L2, if_neg (n25 hk), hb, hp, ← nI_1]
    rfl) 1000 () trivial (by omega)
  obtain ⟨r, h1, h2⟩ := h
  rw [firstS_f hs] at h2
  unfold f_X0_firstThatCan
  rw [h1, h2]
  cases e : firstS s with
  | none => rfl
  | some k => rw [enc_lt (firstS_lt hs k e)]; rfl
theorem M_firstBite {g : MS} {s : Nat} (hs : s < 33554432) : f_X9_firstBite g (nI s) = some (enc (firstS s)) := by
  have inner : ∀ sh, sh < 4 → f_X9_firstBite_L9 (nI s) (nI sh) 1000 0 = some (fRes (fstN (fun c => canS s ((25 * sh + c) / 25) ((25 * sh + c) % 25)) 25) (fun c => nI (100 * ((25 * sh + c) / 25) + (25 * sh + c) % 25))) := by
    intro sh hsh
    have h := loopF (fun n i (_ : Unit) => f_X9_firstBite_L9 (nI s) (nI sh) n i) 25 (fun c => canS s ((25 * sh + c) / 25) ((25 * sh + c) % 25)) (fun _ => True) (fun o r => r = fRes o (fun c => nI (100 * ((25 * sh + c) / 25) + (25 * sh + c) % 25))) (fun n _ _ => by
      refine ⟨_, ?_, rfl⟩
      (try dsimp only)
      rw [f_X9_firstBite_L9, if_pos (by decide)]
      rfl) (fun n k _ hk _ hp => by
      refine ⟨_, ?_, rfl⟩
      have k1 : (25 * sh + k) / 25 = sh := by omega
      have k2 : (25 * sh + k) % 25 = k := by omega
      (try dsimp only at hp ⊢)
      rw [k1, k2] at hp
      rw [f_X9_firstBite_L9, if_neg (n25 hk), M_canBite hsh hk, hp, mul100, nI_add]
      simp only [obs]
      rw [if_neg (by decide)]
      simp only [fRes, k1, k2]) (fun n k _ hk _ hp => by
      refine ⟨(), trivial, ?_⟩
      have k1 : (25 * sh + k) / 25 = sh := by omega
      have k2 : (25 * sh + k) % 25 = k := by omega
      (try dsimp only at hp ⊢)
      rw [k1, k2] at hp
      rw [f_X9_firstBite_L9, if_neg (n25 hk), M_canBite hsh hk, hp, ← nI_1]
      rfl) 1000 () trivial (by omega)
    obtain ⟨r, h1, h2⟩ := h
    rw [h1, h2]
  have outer := nestF (fun n i => f_X9_firstBite_L2 (nI s) n i) (fun sh => f_X9_firstBite_L9 (nI s) (nI sh) 1000 0) (fun k => canS s (k / 25) (k % 25)) (fun k => nI (100 * (k / 25) + k % 25)) inner (fun n sh hsh => by
    (try dsimp only)
    rw [f_X9_firstBite_L2, if_neg (n4 hsh), ← nI_1]
    rfl) (fun n => by
    (try dsimp only)
    rw [f_X9_firstBite_L2, if_pos (by decide)])
  unfold f_X9_firstBite
  rw [outer]
  have hf : fstN (fun k => canS s (k / 25) (k % 25)) 100 = firstS s := by
    unfold firstS
    by_cases h0 : s = 0
    · rw [if_pos h0, h0]
      exact fst_none (fun j hj => can_z _ (by omega) _ (by omega))
    · obtain ⟨h1, h2, h3⟩ := low_spec hs h0
      rw [if_neg h0]
      refine fst_some (by omega) ?_ (fun j hj => ?_)
      · rw [show low s / 25 = 0 by omega, show low s % 25 = low s by omega, can0 h3]
        exact h1
      · show canS s (j / 25) (j % 25) = false
        rw [show j / 25 = 0 by omega, show j % 25 = j by omega, can0 (by omega)]
        exact h2 j hj
  rw [hf]
  cases firstS s <;> rfl
/-- a bite -/
theorem L_bite {cv : CV} {t sh c : Nat} (ht : t < 33554432) (hl : cG_left cv = nI t) (h1 : sh < 4) (h2 : c < 25) : f_X8_bite cv (nI sh) (nI c) = some (cvL (cS_bitten cv (if cG_bitten cv + 1 < 999 then cG_bitten cv + 1 else 999)) (dif t (bitS sh c))) := by
  unfold f_X8_bite
  simp only [obs]
  rw [L_cellsOf _ h1 _ h2]
  simp only [obs]
  show Option.bind (f_X8_leave (cS_bitten cv (if cG_bitten cv + 1 < 999 then cG_bitten cv + 1 else 999)) (cG_left cv &&& (nI (bitS sh c) ^^^ (-1)))) (fun o4 => some o4) = _
  rw [hl, pz_dif, L_leave _ (dif_T ht)]
  rfl
def pickS (t kd f ch : Nat) : Option Nat := if ch = 0 then bestS t kd f 1 else firstS t
theorem pick_lt {t kd f ch : Nat} (ht : t < 33554432) : ∀ k, pickS t kd f ch = some k → k < 100 := by
  intro k hk
  unfold pickS at hk
  split at hk
  · exact best_lt k hk
  · have := firstS_lt ht k hk; omega
theorem L_biteAs {x : XS} {t m h ch : Nat} {K F : Nat → Nat} (ht : t < 33554432) (hc : cvR (xG_mind x) t) (hH : heR (xG_mind x) m K F) (hh : h < m) (hch : ch < 2) :
    ∃ v, f_X0_biteAs x (nI h) (nI ch) = some (xS_mind x v) ∧ cvR v (aftS t (pickS t (K h) (F h) ch)) ∧ heR v m K F := by
  have hpk : (if nI ch = 0 then Option.bind (f_X0_bestFor (xG_mind x) (nI h) (1 : Int32)) fun o4 => some o4 else Option.bind (f_X0_firstThatCan (xG_mind x)) fun o3 => some o3) = some (enc (pickS t (K h) (F h) ch)) := by
    unfold pickS
    rw [L_bestFor ht hc hH hh, L_firstThatCan ht hc.1]
    simp only [obs]
    by_cases e : ch = 0
    · rw [if_pos (by rw [e]; rfl), if_pos e]
    · rw [if_neg (by rw [pz_z (by omega)]; exact e), if_neg e]
  unfold f_X0_biteAs
  rw [hpk]
  simp only [obs]
  have hlt := pick_lt (kd := K h) (f := F h) (ch := ch) ht
  have hn := enc_neg (pickS t (K h) (F h) ch) hlt
  cases e : pickS t (K h) (F h) ch with
  | none => exact ⟨xG_mind x, rfl, hc, hH⟩
  | some k =>
    have hk := hlt k e
    rw [e] at hn
    rw [if_neg (fun z => by have := hn.1.1 z; cases this)]
    unfold enc
    (try dsimp only)
    rw [rem100 (by omega), div100 (by omega), show (100 * (k / 25) + k % 25) / 100 = k / 25 by omega, show (100 * (k / 25) + k % 25) % 100 = k % 25 by omega, L_bite ht hc.1 (by omega) (by omega)]
    exact ⟨_, rfl, cvL_R _ _, cvL_H (cv := cS_bitten (xG_mind x) _) hH _⟩
/-- where both have bitten -/
def c1S (s : Nat) (K F : Nat → Nat) (a x : Nat) : Nat := aftS s (pickS s (K a) (F a) x)
def c2S (s : Nat) (K F : Nat → Nat) (a b x y : Nat) : Nat := aftS (c1S s K F a x) (pickS (c1S s K F a x) (K b) (F b) y)
theorem c1_T {s : Nat} (hs : s < 33554432) (K F : Nat → Nat) (a x : Nat) : c1S s K F a x < 33554432 := aft_T hs _
theorem c2_T {s : Nat} (hs : s < 33554432) (K F : Nat → Nat) (a b x y : Nat) : c2S s K F a b x y < 33554432 := aft_T (c1_T hs K F a x) _
theorem M_shareBoth {g : MS} {s m w a b x y : Nat} {K F : Nat → Nat} (hs : s < 33554432) (hl : mG_left g = nI s) (hH : heM g m K F) (hw : w < m) (ha : a < m) (hb : b < m) (hx : x < 2) (hy : y < 2) :
    f_X9_shareBoth g (nI w) (nI a) (nI x) (nI b) (nI y) = some (nI (shS (c2S s K F a b x y) (K w) (F w))) := by
  have hpk : ∀ t h ch, t < 33554432 → h < m → ch < 2 → (if nI ch = 0 then Option.bind (f_X9_biteFor g (nI t) (nI h) (1 : Int32)) fun o4 => some o4 else Option.bind (f_X9_firstBite g (nI t)) fun o3 => some o3) = some (enc (pickS t (K h) (F h) ch)) := by
    intro t h ch ht hh hch
    unfold pickS
    rw [M_biteFor ht hH hh, M_firstBite ht]
    simp only [obs]
    by_cases e : ch = 0
    · rw [if_pos (by rw [e]; rfl), if_pos e]
    · rw [if_neg (by rw [pz_z (by omega)]; exact e), if_neg e]
  unfold f_X9_shareBoth
  rw [hl, hpk s a x hs ha hx]
  simp only [obs]
  rw [M_after _ (pick_lt hs)]
  simp only [obs]
  have e2 := hpk (c1S s K F a x) b y (c1_T hs K F a x) hb hy
  unfold c1S at e2
  rw [e2]
  simp only [obs]
  rw [M_after _ (pick_lt (aft_T hs _))]
  simp only [obs]
  rw [M_shareOf (aft_T (aft_T hs _) _) hH hw]
  rfl
def oneV (s : Nat) (K F : Nat → Nat) (a b w k : Nat) : Int32 := nI (shS (c2S s K F a b (k / 2) (k % 2)) (K w) (F w))
def twoP (s : Nat) (K F : Nat → Nat) (a b k : Nat) : Bool := decide (¬ oneV s K F a b a k < oneV s K F a b a (k ^^^ 2) ∧ ¬ oneV s K F a b b k < oneV s K F a b b (k ^^^ 1))
def twoR (o : Option Nat) : Int32 := match o with
  | none => -9
  | some k => nI (10 * (k / 2) + k % 2)
def twoS (s : Nat) (K F : Nat → Nat) (a b : Nat) : Int32 := twoR (fstN (twoP s K F a b) 4)
theorem mul10 (a : Nat) : (10 : Int32) * nI a = nI (10 * a) := pk_mul 10 a
theorem rem2 {a : Nat} (h : a < 2147483648) : nI a - nI a / 2 * 2 = nI (a % 2) := pk_rem (a := a) (d := 2) h (by omega) (by omega)
theorem x2_4 : ∀ k, k < 4 → (k ^^^ 2) < 4 ∧ (k ^^^ 2) / 2 = 1 - k / 2 ∧ (k ^^^ 2) % 2 = k % 2 ∧ (k ^^^ 1) < 4 ∧ (k ^^^ 1) / 2 = k / 2 ∧ (k ^^^ 1) % 2 = 1 - k % 2 := by decide
theorem M_two {g : MS} {s m a b : Nat} {K F : Nat → Nat} (hs : s < 33554432) (hl : mG_left g = nI s) (hH : heM g m K F) (ha : a < m) (hb : b < m) :
    bsR (f_X9_two_L17 g (nI a) (nI b) 1000 0) (fun _ => some ((-9), g)) = some (twoS s K F a b, g) := by
  have step : ∀ n k, k < 4 → f_X9_two_L17 g (nI a) (nI b) (n + 1) (nI k) = if twoP s K F a b k then some (Sum.inl (nI (10 * (k / 2) + k % 2), g)) else f_X9_two_L17 g (nI a) (nI b) n (nI (k + 1)) := by
    intro n k hk
    obtain ⟨y1, y2, y3, y4, y5, y6⟩ := x2_4 k hk
    have s1 : (1 : Int32) - nI (k / 2) = nI (1 - k / 2) := pk_sub (a := 1) (by omega)
    have s2 : (1 : Int32) - nI (k % 2) = nI (1 - k % 2) := pk_sub (a := 1) (by omega)
    rw [f_X9_two_L17, if_neg (n4 hk)]
    simp only [obs]
    rw [rem2 (a := k) (by omega), div2 (a := k) (by omega), s1, s2, M_shareBoth hs hl hH ha ha hb (by omega) (by omega), M_shareBoth hs hl hH ha ha hb (by omega) (by omega)]
    simp only [obs]
    rw [M_shareBoth hs hl hH hb ha hb (by omega) (by omega), M_shareBoth hs hl hH hb ha hb (by omega) (by omega)]
    simp only [obs]
    rw [mul10, nI_add, nI_1]
    unfold twoP oneV
    rw [y2, y3, y5, y6]
    by_cases e1 : nI (shS (c2S s K F a b (k / 2) (k % 2)) (K a) (F a)) < nI (shS (c2S s K F a b (1 - k / 2) (k % 2)) (K a) (F a))
    · rw [if_pos e1, decide_eq_false (fun h => h.1 e1)]
      rfl
    · rw [if_neg e1]
      by_cases e2 : nI (shS (c2S s K F a b (k / 2) (k % 2)) (K b) (F b)) < nI (shS (c2S s K F a b (k / 2) (1 - k % 2)) (K b) (F b))
      · rw [if_pos e2, decide_eq_false (fun h => h.2 e2)]
        rfl
      · rw [if_neg e2, decide_eq_true ⟨e1, e2⟩]
        rfl
  have h := loopF (fun n i (_ : Unit) => f_X9_two_L17 g (nI a) (nI b) n i) 4 (twoP s K F a b) (fun _ => True) (fun o r => r = fRes o (fun k => (nI (10 * (k / 2) + k % 2), g))) (fun n _ _ => by
    refine ⟨_, ?_, rfl⟩
    (try dsimp only)
    rw [f_X9_two_L17, if_pos (by decide)]
    rfl) (fun n k _ hk _ hp => ⟨_, by (try dsimp only); rw [step n k hk, hp]; rfl, rfl⟩) (fun n k _ hk _ hp => ⟨(), trivial, by (try dsimp only); rw [step n k hk, hp]; rfl⟩) 1000 () trivial (by omega)
  obtain ⟨r, h1, h2⟩ := h
  rw [h1, h2]
  unfold twoS
  cases fstN (twoP s K F a b) 4 <;> rfl
theorem xmo (x : XS) (v : CV) : xG_oneHas (xS_mind x v) = xG_oneHas x := rfl
theorem xmt (x : XS) (v : CV) : xG_otherHas (xS_mind x v) = xG_otherHas x := rfl
theorem xom (x : XS) (f : Nat → Int32) : xG_mind (xS_oneHas x f) = xG_mind x := rfl
theorem xoo (x : XS) (f : Nat → Int32) : xG_oneHas (xS_oneHas x f) = f := rfl
theorem xot (x : XS) (f : Nat → Int32) : xG_otherHas (xS_oneHas x f) = xG_otherHas x := rfl
theorem xto (x : XS) (f : Nat → Int32) : xG_oneHas (xS_otherHas x f) = xG_oneHas x := rfl
theorem xtt (x : XS) (f : Nat → Int32) : xG_otherHas (xS_otherHas x f) = f := rfl
theorem kp.one (x : XS) (f : Nat → Int32) : kp x (xS_oneHas x f) := ⟨rfl, rfl, rfl, rfl, rfl, rfl, rfl, rfl⟩
theorem kp.oth (x : XS) (f : Nat → Int32) : kp x (xS_otherHas x f) := ⟨rfl, rfl, rfl, rfl, rfl, rfl, rfl, rfl⟩
theorem L_two {x : XS} {s m a b : Nat} {K F : Nat → Nat} (hx : coR x s m K F) (ha : a < m) (hb : b < m) : ∃ y, f_X0_restingBites x (nI a) (nI b) = some (twoS s K F a b, y) ∧ kp x y := by
  have hs := hx.1
  have key := loopI (fun n i (y : XS) => f_X0_restingBites_L2 (nI a) (nI b) n i y) 4 (fun k y => kp x y ∧ ∀ j, j < k → xG_oneHas y j = oneV s K F a b a j ∧ xG_otherHas y j = oneV s K F a b b j) (fun y => kp x y ∧ ∀ j, j < 4 → xG_oneHas y j = oneV s K F a b a j ∧ xG_otherHas y j = oneV s K F a b b j) (by
    intro n k y hk ⟨i1, i2⟩
    (try dsimp only)
    rcases Nat.lt_or_ge k 4 with h1 | h1
    · right
      refine ⟨h1, ?_⟩
      have hy := hx.kp i1
      have hin : ¬ (nI k < 0 ∨ 4 ≤ Int32.toNatClampNeg (nI k)) := nIn h1 (by omega)
      have hcl : Int32.toNatClampNeg (nI k) = k := nI_clamp (by omega)
      rw [f_X0_restingBites_L2, if_neg (n4 h1), L_openMind]
      simp only [obs]
      rw [rem2 (a := k) (by omega), div2 (a := k) (by omega)]
      obtain ⟨y1, ey1⟩ : ∃ y1, y1 = xS_mind y (setV (xG_mind y) (xG_core0 y)) := ⟨_, rfl⟩
      have k1 : kp y y1 := by rw [ey1]; exact kp.mind _ _
      have m1 : xG_mind y1 = setV (xG_mind y) (xG_core0 y) := by rw [ey1, xgm]
      have o1 : xG_oneHas y1 = xG_oneHas y := by rw [ey1, xmo]
      have p1 : xG_otherHas y1 = xG_otherHas y := by rw [ey1, xmt]
      rw [← ey1]
      obtain ⟨v, hv1, hv2, hv3⟩ := L_biteAs (x := y1) (h := a) (ch := k / 2) hs (by rw [m1]; exact setV_R hy.2.1) (by rw [m1]; exact setV_H hy.2.2) ha (by omega)
      rw [hv1]
      simp only [obs]
      obtain ⟨y2, ey2⟩ : ∃ y2, y2 = xS_mind y1 v := ⟨_, rfl⟩
      have k2 : kp y1 y2 := by rw [ey2]; exact kp.mind _ _
      have m2 : xG_mind y2 = v := by rw [ey2, xgm]
      have o2 : xG_oneHas y2 = xG_oneHas y1 := by rw [ey2, xmo]
      have p2 : xG_otherHas y2 = xG_otherHas y1 := by rw [ey2, xmt]
      rw [← ey2]
      obtain ⟨w, hw1, hw2, hw3⟩ := L_biteAs (x := y2) (h := b) (ch := k % 2) (c1_T hs K F a (k / 2)) (by rw [m2]; exact hv2) (by rw [m2]; exact hv3) hb (by omega)
      rw [hw1]
      simp only [obs]
      obtain ⟨y3, ey3⟩ : ∃ y3, y3 = xS_mind y2 w := ⟨_, rfl⟩
      have k3 : kp y2 y3 := by rw [ey3]; exact kp.mind _ _
      have m3 : xG_mind y3 = w := by rw [ey3, xgm]
      have o3 : xG_oneHas y3 = xG_oneHas y := by rw [ey3, xmo, o2, o1]
      have p3 : xG_otherHas y3 = xG_otherHas y := by rw [ey3, xmt, p2, p1]
      rw [← ey3, m3, L_shareOf (c2_T hs K F a b (k / 2) (k % 2)) hw2 hw3 ha]
      simp only [obs, if_neg hin]
      rw [hcl, xom, m3, L_shareOf (c2_T hs K F a b (k / 2) (k % 2)) hw2 hw3 hb]
      simp only [obs]
      rw [nI_1]
      refine ⟨_, ⟨((i1.tr k1).tr (k2.tr k3)).tr ((kp.one _ _).tr (kp.oth _ _)), fun j hj => ?_⟩, rfl⟩
      rw [xto, xoo, xtt, xot, o3, p3]
      by_cases e : j = k
      · rw [e, pk_us, pk_us]
        exact ⟨rfl, rfl⟩
      · rw [pk_un e, pk_un e]
        exact i2 j (by omega)
    · left
      have e : k = 4 := by omega
      subst e
      refine ⟨y, ?_, i1, i2⟩
      rw [f_X0_restingBites_L2, if_pos (by decide)]) 20 0 x (by omega) ⟨kp.rf x, fun j hj => by omega⟩ (by omega)
  obtain ⟨y, h1, h2, h3⟩ := key
  rw [nI_0] at h1
  have step : ∀ n k, k < 4 → f_X0_restingBites_L65 y (n + 1) (nI k) = if twoP s K F a b k then some (Sum.inl (nI (10 * (k / 2) + k % 2), y)) else f_X0_restingBites_L65 y n (nI (k + 1)) := by
    intro n k hk
    obtain ⟨y1, y2, y3, y4, y5, y6⟩ := x2_4 k hk
    have hin : ¬ (nI k < 0 ∨ 4 ≤ Int32.toNatClampNeg (nI k)) := nIn hk (by omega)
    have hcl : Int32.toNatClampNeg (nI k) = k := nI_clamp (by omega)
    have ex2 : nI k ^^^ 2 = nI (k ^^^ 2) := pz_xor k 2
    have ex1 : nI k ^^^ 1 = nI (k ^^^ 1) := pz_xor k 1
    have hin2 : ¬ (nI (k ^^^ 2) < 0 ∨ 4 ≤ Int32.toNatClampNeg (nI (k ^^^ 2))) := nIn y1 (by omega)
    have hcl2 : Int32.toNatClampNeg (nI (k ^^^ 2)) = k ^^^ 2 := nI_clamp (by omega)
    have hin1 : ¬ (nI (k ^^^ 1) < 0 ∨ 4 ≤ Int32.toNatClampNeg (nI (k ^^^ 1))) := nIn y4 (by omega)
    have hcl1 : Int32.toNatClampNeg (nI (k ^^^ 1)) = k ^^^ 1 := nI_clamp (by omega)
    rw [f_X0_restingBites_L65, if_neg (n4 hk), ex2, ex1, if_neg hin, if_neg hin2, if_neg hin, if_neg hin1, hcl, hcl2, hcl1, (h3 k hk).1, (h3 k hk).2, (h3 _ y1).1, (h3 _ y4).2, rem2 (a := k) (by omega), div2 (a := k) (by omega), mul10, nI_add, nI_1]
    simp only [obs]
    unfold twoP
    by_cases e1 : oneV s K F a b a k < oneV s K F a b a (k ^^^ 2)
    · rw [if_pos e1, decide_eq_false (fun h => h.1 e1)]
      rfl
    · rw [if_neg e1]
      by_cases e2 : oneV s K F a b b k < oneV s K F a b b (k ^^^ 1)
      · rw [if_pos e2, decide_eq_false (fun h => h.2 e2)]
        rfl
      · rw [if_neg e2, decide_eq_true ⟨e1, e2⟩]
        rfl
  have h := loopF (fun n i (_ : Unit) => f_X0_restingBites_L65 y n i) 4 (twoP s K F a b) (fun _ => True) (fun o r => r = fRes o (fun k => (nI (10 * (k / 2) + k % 2), y))) (fun n _ _ => by
    refine ⟨_, ?_, rfl⟩
    (try dsimp only)
    rw [f_X0_restingBites_L65, if_pos (by decide)]
    rfl) (fun n k _ hk _ hp => ⟨_, by (try dsimp only); rw [step n k hk, hp]; rfl, rfl⟩) (fun n k _ hk _ hp => ⟨(), trivial, by (try dsimp only); rw [step n k hk, hp]; rfl⟩) 20 () trivial (by omega)
  obtain ⟨r, h4, h5⟩ := h
  refine ⟨y, ?_, h2⟩
  unfold f_X0_restingBites
  rw [h1]
  simp only [obs]
  rw [h4, h5]
  unfold twoS
  cases fstN (twoP s K F a b) 4 <;> rfl
