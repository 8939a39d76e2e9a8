/-! PLAIN LAWS 25: letters, rows, lots, images, fractions, counts -/
theorem chr_e : ∀ j, j < 256 → vp_nar .char (UInt32.toInt32 (Int32.toUInt32 (nI j) % 65536)) = nI j := by
  intro j hj
  rw [pk_vc, pk_char, pk_tn (by omega), Nat.mod_eq_of_lt (by omega)]
theorem byt_e : ∀ j, j < 100 → vp_nar .byte (Int8.toInt32 (Int32.toInt8 (nI j))) = nI j := by
  intro j hj
  rw [pk_vb]
  exact (by decide +kernel : ∀ j, j < 100 → Int8.toInt32 (Int32.toInt8 (nI j)) = nI j) j hj
theorem op_letter {x : XS} {g : MS} {z : GS} (hx : RX x z) (hg : RM g z) (a : Int32) : two x g (f_X0_letterIt x a) (f_X9_letter g a) := by
  obtain ⟨x1, x2, x3, x4, ⟨x5, x5'⟩, x6, x7, x8⟩ := hx
  obtain ⟨g1, g2, g3, g4, ⟨g5, g5'⟩, g6, g7, g8⟩ := hg
  have hx : RX x z := ⟨x1, x2, x3, x4, ⟨x5, x5'⟩, x6, x7, x8⟩
  have hg : RM g z := ⟨g1, g2, g3, g4, ⟨g5, g5'⟩, g6, g7, g8⟩
  unfold f_X0_letterIt f_X9_letter
  rw [L_within a 0 255 (A := 0) (B := 255) rfl rfl]
  by_cases e1 : a < 0
  · rw [if_pos e1, bXr, if_neg (Int32.not_le.2 e1), no_id]
    exact two_no 4 (by omega) rfl rfl hx hg
  · rw [if_neg e1, if_pos (Int32.not_lt.1 e1)]
    by_cases e2 : 255 < a
    · rw [if_pos e2, bXr, if_pos e2, no_id]
      exact two_no 6 (by omega) rfl rfl hx hg
    · obtain ⟨j, hj, rfl⟩ := win_c (n := 255) (by omega) rfl e1 e2
      rw [if_neg e2, bXl, if_neg e2, x5, g5]
      by_cases e3 : z.2.2.2.2.1 = 96
      · have h1 : (96 : Int32) ≤ nI z.2.2.2.2.1 := by rw [e3]; decide
        have h2 : nI z.2.2.2.2.1 = 96 := by rw [e3]; rfl
        rw [if_pos h1, obs, L_must_f, bXr, if_pos h2, no_id]
        exact two_no 6 (by omega) rfl rfl hx hg
      · have hlt : z.2.2.2.2.1 < 96 := by omega
        have h1 : ¬ (96 : Int32) ≤ nI z.2.2.2.2.1 := nI_ge (b := 96) hlt (by omega)
        have h2 : ¬ nI z.2.2.2.2.1 = 96 := fun h => h1 (by rw [h]; decide)
        have hin : ¬ (nI z.2.2.2.2.1 < 0 ∨ 96 ≤ Int32.toNatClampNeg (nI z.2.2.2.2.1)) := nIn hlt (by omega)
        have hcl : Int32.toNatClampNeg (nI z.2.2.2.2.1) = z.2.2.2.2.1 := nI_clamp (by omega)
        rw [if_neg h1, obs, L_must_t, bXl, obs, if_neg h2, if_neg hin, if_neg hin, chr_e j (by omega), hcl, obs, obs, obs, obs]
        have q1 : xG_letterMany (xS_letters x (upd (xG_letters x) z.2.2.2.2.1 (nI j))) = nI z.2.2.2.2.1 := x5
        have q2 : mG_letterMany (mS_letters g (upd (mG_letters g) z.2.2.2.2.1 (nI j))) = nI z.2.2.2.2.1 := g5
        rw [q1, q2, nI_1]
        refine two_ok (z := z) (z' := (z.1, z.2.1, z.2.2.1, z.2.2.2.1, z.2.2.2.2.1 + 1, z.2.2.2.2.2.1, upd z.2.2.2.2.2.2.1 z.2.2.2.2.1 (nI j), z.2.2.2.2.2.2.2)) rfl rfl ⟨x1, x2, x3, x4, ⟨rfl, by show z.2.2.2.2.1 + 1 ≤ 96; omega⟩, x6, fun k hk => ?_, x8⟩ ⟨g1, g2, g3, g4, ⟨rfl, by show z.2.2.2.2.1 + 1 ≤ 96; omega⟩, g6, fun k hk => ?_, g8⟩
        · show upd (xG_letters x) z.2.2.2.2.1 (nI j) k = upd z.2.2.2.2.2.2.1 z.2.2.2.2.1 (nI j) k
          have hk' : k < z.2.2.2.2.1 + 1 := hk
          by_cases ek : k = z.2.2.2.2.1
          · rw [ek, pk_us, pk_us]
          · rw [pk_un ek, pk_un ek]; exact x7 k (by omega)
        · show upd (mG_letters g) z.2.2.2.2.1 (nI j) k = upd z.2.2.2.2.2.2.1 z.2.2.2.2.1 (nI j) k
          have hk' : k < z.2.2.2.2.1 + 1 := hk
          by_cases ek : k = z.2.2.2.2.1
          · rw [ek, pk_us, pk_us]
          · rw [pk_un ek, pk_un ek]; exact g7 k (by omega)
theorem op_row {x : XS} {g : MS} {z : GS} (hx : RX x z) (hg : RM g z) (a : Int32) : two x g (bX (f_X0_within (Int32.toInt64 a) (0 : Int64) (99 : Int64)) (fun b8 => (b8, x)) fun o8 => Option.bind (α := Int32) (if 16 ≤ (xG_rowMany x) then some 0 else some 1) fun o10 => bX (f_X0_must o10 (-6 : Int32)) (fun b11 => (b11, x)) fun o11 => Option.bind (some ((Int8.toInt32 (Int32.toInt8 a)) : Int32)) fun v12 => if (xG_rowMany x) < 0 ∨ 16 ≤ Int32.toNatClampNeg (xG_rowMany x) then none else Option.bind (some (xS_row x (upd (xG_row x) (Int32.toNatClampNeg (xG_rowMany x)) (vp_nar .byte v12)))) fun g14 => Option.bind (some (xS_rowMany g14 ((xG_rowMany g14) + 1))) fun g15 => some (Sum.inl ((xG_rowMany g15), g15))) (f_X9_row g a) := by
  obtain ⟨x1, x2, x3, ⟨x4, x4'⟩, x5, x6, x7, x8⟩ := hx
  obtain ⟨g1, g2, g3, ⟨g4, g4'⟩, g5, g6, g7, g8⟩ := hg
  have hx : RX x z := ⟨x1, x2, x3, ⟨x4, x4'⟩, x5, x6, x7, x8⟩
  have hg : RM g z := ⟨g1, g2, g3, ⟨g4, g4'⟩, g5, g6, g7, g8⟩
  unfold f_X9_row
  rw [L_within a 0 99 (A := 0) (B := 99) rfl rfl, M_wrongBy]
  by_cases e1 : a < 0
  · rw [if_pos e1, bXr, if_pos e1, obs, if_neg (by decide), obs, if_neg (by decide), no_id]
    exact two_no 4 (by omega) rfl rfl hx hg
  · rw [if_neg e1, if_neg e1]
    by_cases e2 : 99 < a
    · rw [if_pos e2, bXr, if_pos e2, obs, if_neg (by decide), obs, if_neg (by decide), no_id]
      exact two_no 6 (by omega) rfl rfl hx hg
    · obtain ⟨j, hj, rfl⟩ := win_c (n := 99) (by omega) rfl e1 e2
      rw [if_neg e2, bXl, if_neg e2, x4, g4]
      simp only [obs, if_true]
      by_cases e3 : z.2.2.2.1 = 16
      · have h1 : (16 : Int32) ≤ nI z.2.2.2.1 := by rw [e3]; decide
        have h2 : nI z.2.2.2.1 = 16 := by rw [e3]; rfl
        rw [if_pos h1, obs, L_must_f, bXr, if_pos h2, obs, if_neg (by decide), no_id]
        exact two_no 6 (by omega) rfl rfl hx hg
      · have hlt : z.2.2.2.1 < 16 := by omega
        have h1 : ¬ (16 : Int32) ≤ nI z.2.2.2.1 := nI_ge (b := 16) hlt (by omega)
        have h2 : ¬ nI z.2.2.2.1 = 16 := fun h => h1 (by rw [h]; decide)
        have hin : ¬ (nI z.2.2.2.1 < 0 ∨ 16 ≤ Int32.toNatClampNeg (nI z.2.2.2.1)) := nIn hlt (by omega)
        have hcl : Int32.toNatClampNeg (nI z.2.2.2.1) = z.2.2.2.1 := nI_clamp (by omega)
        rw [if_neg h1, obs, L_must_t, bXl, if_neg h2, obs, if_pos rfl, if_neg hin, if_neg hin, byt_e j (by omega), hcl]
        have q1 : xG_rowMany (xS_row x (upd (xG_row x) z.2.2.2.1 (nI j))) = nI z.2.2.2.1 := x4
        have q2 : mG_rowMany (mS_row g (upd (mG_row g) z.2.2.2.1 (nI j))) = nI z.2.2.2.1 := g4
        rw [q1, q2, nI_1]
        refine two_ok (z := z) (z' := (z.1, z.2.1, z.2.2.1, z.2.2.2.1 + 1, z.2.2.2.2.1, upd z.2.2.2.2.2.1 z.2.2.2.1 (nI j), z.2.2.2.2.2.2)) rfl rfl ⟨x1, x2, x3, ⟨rfl, by show z.2.2.2.1 + 1 ≤ 16; omega⟩, x5, fun k hk => ?_, x7, x8⟩ ⟨g1, g2, g3, ⟨rfl, by show z.2.2.2.1 + 1 ≤ 16; omega⟩, g5, fun k hk => ?_, g7, g8⟩
        · show upd (xG_row x) z.2.2.2.1 (nI j) k = upd z.2.2.2.2.2.1 z.2.2.2.1 (nI j) k
          have hk' : k < z.2.2.2.1 + 1 := hk
          by_cases ek : k = z.2.2.2.1
          · rw [ek, pk_us, pk_us]
          · rw [pk_un ek, pk_un ek]; exact x6 k (by omega)
        · show upd (mG_row g) z.2.2.2.1 (nI j) k = upd z.2.2.2.2.2.1 z.2.2.2.1 (nI j) k
          have hk' : k < z.2.2.2.1 + 1 := hk
          by_cases ek : k = z.2.2.2.1
          · rw [ek, pk_us, pk_us]
          · rw [pk_un ek, pk_un ek]; exact g6 k (by omega)
theorem RX.row0 {x : XS} {z : GS} (h : RX x z) : RX (xS_rowMany x 0) (z.1, z.2.1, z.2.2.1, 0, z.2.2.2.2) := ⟨h.1, h.2.1, h.2.2.1, ⟨rfl, Nat.zero_le _⟩, h.2.2.2.2.1, fun k hk => absurd hk (Nat.not_lt_zero k), h.2.2.2.2.2.2.1, h.2.2.2.2.2.2.2⟩
theorem RM.row0 {g : MS} {z : GS} (h : RM g z) : RM (mS_rowMany g 0) (z.1, z.2.1, z.2.2.1, 0, z.2.2.2.2) := ⟨h.1, h.2.1, h.2.2.1, ⟨rfl, Nat.zero_le _⟩, h.2.2.2.2.1, fun k hk => absurd hk (Nat.not_lt_zero k), h.2.2.2.2.2.2.1, h.2.2.2.2.2.2.2⟩
theorem op_judge {x : XS} {g : MS} {z : GS} (hx : RX x z) (hg : RM g z) : two x g (Option.bind (f_X0_judgeRow x) fun o16 => some (Sum.inl (o16.1, o16.2))) (f_X9_judge g) := by
  have hr : ∀ k, k < z.2.2.2.1 → mG_row g k = xG_row x k := fun k hk => (hg.2.2.2.2.2.1 k hk).trans (hx.2.2.2.2.2.1 k hk).symm
  rw [L_judge hx.co hx.2.2.2.1.1 hx.2.2.2.1.2, M_judge hg.1.1 hg.le hg.he hg.2.2.2.1.1 hg.2.2.2.1.2, jud_congr hr]
  exact two_ok (z := z) rfl rfl hx.row0 hg.row0
theorem op_clear {x : XS} {g : MS} {z : GS} (hx : RX x z) (hg : RM g z) : two x g (Option.bind (some ((xG_rowMany x) : Int32)) fun v17 => Option.bind (some (xS_rowMany x (0 : Int32))) fun g18 => some (Sum.inl (v17, g18))) (f_X9_clear g) := by
  unfold f_X9_clear
  rw [hx.2.2.2.1.1, hg.2.2.2.1.1]
  exact two_ok (z := z) rfl rfl hx.row0 hg.row0
theorem op_lots {x : XS} {g : MS} {z : GS} (hx : RX x z) (hg : RM g z) (a b c : Int32) : two x g (f_X0_lotsTold x a b c) (f_X9_lots g a b c) := by
  unfold f_X0_lotsTold f_X9_lots
  rw [L_within a 1 20 (A := 1) (B := 20) rfl rfl]
  by_cases e1 : a < 1
  · rw [if_pos e1, bXr, if_neg (Int32.not_le.2 e1), no_id]
    exact two_no 4 (by omega) rfl rfl hx hg
  · rw [if_neg e1, if_pos (Int32.not_lt.1 e1)]
    by_cases e2 : 20 < a
    · rw [if_pos e2, bXr, if_neg (Int32.not_le.2 e2), no_id]
      exact two_no 6 (by omega) rfl rfl hx hg
    · have h0 : ¬ a < 0 := fun h => e1 (Int32.lt_trans h (by decide))
      obtain ⟨q, hq, rfl⟩ := win_c (n := 20) (by omega) rfl h0 e2
      rw [if_neg e2, bXl, if_pos (Int32.not_lt.1 e2)]
      refine g_bit hx hg c _ _ (fun hb => ?_)
      obtain ⟨J, hJ⟩ : ∃ J, J = 6 := ⟨6, rfl⟩
      obtain ⟨y, h1, h2⟩ := L_lots (x := x) (z := b) (what := c) hJ hx.co hq
      obtain ⟨h, h3, h4⟩ := M_lots (g := mS_seed g b) (z := b) (what := c) hJ hg.1.1 hg.le hg.he hq rfl
      rw [h1, obs, obs, h3, obs]
      exact two_ok (z := z) rfl rfl (hx.kp h2) (hg.kp ((kpm.se g b).tr h4))
theorem cxR.setV {cv ov : CV} {a : AC} (h : cxR ov a) : cxR (setV cv ov) a := ⟨h.1, setV_R h.2.1, h.2.2.1, h.2.2.2.1, setV_H h.2.2.2.2⟩
theorem op_image {x : XS} {g : MS} {z : GS} (hx : RX x z) (hg : RM g z) : two x g (Option.bind (some (xS_hasImage x (1 : Int32))) fun g20 => Option.bind (f_X8_set (xG_imaged g20) (xG_core0 g20)) fun o21 => Option.bind (some (xS_imaged g20 o21)) fun g22 => some (Sum.inl ((cG_bitten (xG_core0 g22)), g22))) (f_X9_image g) := by
  obtain ⟨g1, e1⟩ : ∃ g1, g1 = mS_imageMany (mS_imageBites (mS_imageLeft g (mG_left g)) (mG_bites g)) (mG_many g) := ⟨_, rfl⟩
  have hm := hg.he.2.1
  have w1 : mG_imageLeft g1 = nI z.1.1 := by rw [e1]; exact hg.le
  have w2 : mG_imageBites g1 = nI z.1.2.1 := by rw [e1]; exact hg.1.2.2.2.1
  have w3 : mG_imageMany g1 = nI z.1.2.2.1 := by rw [e1]; exact hg.he.1
  have c1 : cmR g1 z.1 := by rw [e1]; exact hg.1
  have o1 : (mG_rowMany g1 = mG_rowMany g ∧ mG_letterMany g1 = mG_letterMany g ∧ mG_row g1 = mG_row g ∧ mG_letters g1 = mG_letters g ∧ mG_refused g1 = mG_refused g) := by rw [e1]; exact ⟨rfl, rfl, rfl, rfl, rfl⟩
  have h := loopI (fun n i (y : MS) => f_X9_image_L26 n i y) 5 (fun k y => cmR y z.1 ∧ mG_imageLeft y = nI z.1.1 ∧ mG_imageBites y = nI z.1.2.1 ∧ mG_imageMany y = nI z.1.2.2.1 ∧ (mG_rowMany y = mG_rowMany g ∧ mG_letterMany y = mG_letterMany g ∧ mG_row y = mG_row g ∧ mG_letters y = mG_letters g ∧ mG_refused y = mG_refused g) ∧ ∀ j, j < k → mG_imageKind y j = mG_kind y j ∧ mG_imageFigure y j = mG_figure y j) (fun y => cmR y z.1 ∧ mG_imageLeft y = nI z.1.1 ∧ mG_imageBites y = nI z.1.2.1 ∧ mG_imageMany y = nI z.1.2.2.1 ∧ (mG_rowMany y = mG_rowMany g ∧ mG_letterMany y = mG_letterMany g ∧ mG_row y = mG_row g ∧ mG_letters y = mG_letters g ∧ mG_refused y = mG_refused g) ∧ ∀ j, j < 5 → mG_imageKind y j = mG_kind y j ∧ mG_imageFigure y j = mG_figure y j) (by
    intro n k y hk ⟨i1, i2, i3, i4, i5, i6⟩
    (try dsimp only)
    rcases Nat.lt_or_ge k 5 with hlt | hge
    · right
      refine ⟨hlt, ?_⟩
      have hin : ¬ (nI k < 0 ∨ 5 ≤ Int32.toNatClampNeg (nI k)) := nIn hlt (by omega)
      have hcl : Int32.toNatClampNeg (nI k) = k := nI_clamp (by omega)
      rw [f_X9_image_L26, if_neg (n5 hlt)]
      simp only [if_neg hin]
      rw [obs, obs, obs, hcl, nI_1]
      refine ⟨mS_imageFigure (mS_imageKind y (upd (mG_imageKind y) k (mG_kind y k))) (upd (mG_imageFigure y) k (mG_figure y k)), ⟨i1, i2, i3, i4, i5, fun j hj => ?_⟩, rfl⟩
      show upd (mG_imageKind y) k (mG_kind y k) j = mG_kind y j ∧ upd (mG_imageFigure y) k (mG_figure y k) j = mG_figure y j
      by_cases e : j = k
      · rw [e, pk_us, pk_us]
        exact ⟨rfl, rfl⟩
      · rw [pk_un e, pk_un e]
        exact i6 j (by omega)
    · left
      have e : k = 5 := by omega
      subst e
      refine ⟨y, ?_, i1, i2, i3, i4, i5, i6⟩
      rw [f_X9_image_L26, if_pos (by decide)]) 1000 0 g1 (by omega) ⟨c1, w1, w2, w3, o1, fun j hj => by omega⟩ (by omega)
  obtain ⟨y, y1, y2, y3, y4, y5, y6, y7⟩ := h
  rw [nI_0] at y1
  have y1' : f_X9_image_L26 1000 0 (mS_imageMany (mS_imageBites (mS_imageLeft g (mG_left g)) (mG_bites g)) (mG_many g)) = some y := by rw [← e1]; exact y1
  have hM : f_X9_image g = some (nI z.1.2.1, mS_hasImage y 1) := by
    unfold f_X9_image
    rw [obs, obs, obs]
    show Option.bind (f_X9_image_L26 1000 0 (mS_imageMany (mS_imageBites (mS_imageLeft g (mG_left g)) (mG_bites g)) (mG_many g))) _ = _
    rw [y1', obs, obs]
    have : mG_bites (mS_hasImage y 1) = nI z.1.2.1 := y2.2.2.2.1
    rw [this]
  obtain ⟨p1, p2, p3, p4, p5⟩ := y6
  rw [hM]
  have hb : cG_bitten (xG_core0 x) = nI z.1.2.1 := hx.1.2.2.2.1
  refine two_ok (z := z) (y := xS_imaged (xS_hasImage x 1) (setV (xG_imaged x) (xG_core0 x))) (z' := (z.1, z.1, true, z.2.2.2)) ?_ rfl ⟨hx.1, rfl, fun _ => hx.1.setV, hx.2.2.2⟩ ⟨y2, rfl, fun _ => ⟨hg.1.ok, y3, y4, y5, fun j hj => ?_⟩, ?_⟩
  · rw [obs, L_set, obs, obs]
    show some (Sum.inl (cG_bitten (xG_core0 x), _)) = _
    rw [hb]
    rfl
  · have hj' : j < z.1.2.2.1 := hj
    obtain ⟨q1, q2⟩ := y7 j (by omega)
    obtain ⟨r1, r2, r3, r4⟩ := y2.2.2.2.2.2.2 j hj
    exact ⟨q1.trans r3, q2.trans r4⟩
  · obtain ⟨-, -, -, h4, h5, h6, h7, h8⟩ := hg
    refine ⟨⟨p1.trans h4.1, h4.2⟩, ⟨p2.trans h5.1, h5.2⟩, fun i hi => ?_, fun i hi => ?_, fun i hi => ?_⟩
    · show mG_row y i = _
      rw [p3]; exact h6 i hi
    · show mG_letters y i = _
      rw [p4]; exact h7 i hi
    · show mG_refused y i = _
      rw [p5]; exact h8 i hi
theorem op_on {x : XS} {g : MS} {z : GS} (hx : RX x z) (hg : RM g z) : two x g (bX (f_X0_must (xG_hasImage x) (-3 : Int32)) (fun b23 => (b23, x)) fun o23 => Option.bind (f_X8_set (xG_core0 x) (xG_imaged x)) fun o24 => Option.bind (some (xS_core0 x o24)) fun g25 => some (Sum.inl ((cG_bitten (xG_core0 g25)), g25))) (f_X9_on g) := by
  rw [hx.2.1, L_mustB]
  unfold f_X9_on
  rw [hg.2.1]
  cases e0 : z.2.2.1
  · rw [if_neg (by decide), bXr, if_pos bI_f, no_id]
    exact two_no 3 (by omega) rfl rfl hx hg
  · have him := hx.2.2.1 e0
    obtain ⟨hok, m1, m2, m3, m4⟩ := hg.2.2.1 e0
    have hm5 := hok.2.2.1
    obtain ⟨g1, e1⟩ : ∃ g1, g1 = mS_many (mS_bites (mS_left g (mG_imageLeft g)) (mG_imageBites g)) (mG_imageMany g) := ⟨_, rfl⟩
    have w1 : mG_left g1 = nI z.2.1.1 := by rw [e1]; exact m1
    have w2 : mG_bites g1 = nI z.2.1.2.1 := by rw [e1]; exact m2
    have w3 : mG_many g1 = nI z.2.1.2.2.1 := by rw [e1]; exact m3
    have b1 : kB g g1 := by rw [e1]; exact kB.rf g
    have h := loopI (fun n i (y : MS) => f_X9_on_L40 n i y) 5 (fun k y => kB g y ∧ mG_left y = nI z.2.1.1 ∧ mG_bites y = nI z.2.1.2.1 ∧ mG_many y = nI z.2.1.2.2.1 ∧ ∀ j, j < k → mG_kind y j = mG_imageKind y j ∧ mG_figure y j = mG_imageFigure y j) (fun y => kB g y ∧ mG_left y = nI z.2.1.1 ∧ mG_bites y = nI z.2.1.2.1 ∧ mG_many y = nI z.2.1.2.2.1 ∧ ∀ j, j < 5 → mG_kind y j = mG_imageKind y j ∧ mG_figure y j = mG_imageFigure y j) (by
      intro n k y hk ⟨i2, i3, i4, i5, i6⟩
      (try dsimp only)
      rcases Nat.lt_or_ge k 5 with hlt | hge
      · right
        refine ⟨hlt, ?_⟩
        have hin : ¬ (nI k < 0 ∨ 5 ≤ Int32.toNatClampNeg (nI k)) := nIn hlt (by omega)
        have hcl : Int32.toNatClampNeg (nI k) = k := nI_clamp (by omega)
        rw [f_X9_on_L40, if_neg (n5 hlt)]
        simp only [if_neg hin]
        rw [obs, obs, obs, hcl, nI_1]
        refine ⟨mS_figure (mS_kind y (upd (mG_kind y) k (mG_imageKind y k))) (upd (mG_figure y) k (mG_imageFigure y k)), ⟨i2.tr ((kB.ki _ _).tr (kB.fi _ _)), i3, i4, i5, fun j hj => ?_⟩, rfl⟩
        show upd (mG_kind y) k (mG_imageKind y k) j = mG_imageKind y j ∧ upd (mG_figure y) k (mG_imageFigure y k) j = mG_imageFigure y j
        by_cases e : j = k
        · rw [e, pk_us, pk_us]
          exact ⟨rfl, rfl⟩
        · rw [pk_un e, pk_un e]
          exact i6 j (by omega)
      · left
        have e : k = 5 := by omega
        subst e
        refine ⟨y, ?_, i2, i3, i4, i5, i6⟩
        rw [f_X9_on_L40, if_pos (by decide)]) 1000 0 g1 (by omega) ⟨b1, w1, w2, w3, fun j hj => by omega⟩ (by omega)
    obtain ⟨y, y1, y2, y3, y4, y5, y6⟩ := h
    rw [nI_0] at y1
    have y1' : f_X9_on_L40 1000 0 (mS_many (mS_bites (mS_left g (mG_imageLeft g)) (mG_imageBites g)) (mG_imageMany g)) = some y := by rw [← e1]; exact y1
    have hc : cmR y z.2.1 := by
      refine ⟨hok.1, y3, hok.2.1, y4, y5, hm5, fun j hj => ?_⟩
      obtain ⟨q1, q2⟩ := y6 j (by omega)
      obtain ⟨f1, f2⟩ := hok.2.2.2 j hj
      obtain ⟨k1, k2⟩ := m4 j hj
      refine ⟨f1, f2, ?_, ?_⟩
      · rw [q1, y2.2.2.2.2.2.2.1]; exact k1
      · rw [q2, y2.2.2.2.2.2.2.2.1]; exact k2
    rw [if_pos rfl, bXl, if_neg bI_n0, obs, obs, obs]
    have hM : (Option.bind (f_X9_on_L40 1000 0 (mS_many (mS_bites (mS_left g (mG_imageLeft g)) (mG_imageBites g)) (mG_imageMany g))) fun o5 => some (mG_bites o5, o5)) = some (nI z.2.1.2.1, y) := by
      rw [y1', obs, y4]
    have hb : cG_bitten (xG_imaged x) = nI z.2.1.2.1 := him.2.2.2.1
    refine two_ok (z := z) (y := xS_core0 x (setV (xG_core0 x) (xG_imaged x))) (h := y) (v := nI z.2.1.2.1) ?_ hM (hx.core him.setV) (hg.core hc y2)
    rw [L_set, obs, obs]
    show some (Sum.inl (cG_bitten (xG_imaged x), _)) = _
    rw [hb]
theorem op_gain {x : XS} {g : MS} {z : GS} (hx : RX x z) (hg : RM g z) (a b : Int32) : (∃ v y, f_X0_gainTold x a b = some (.inl (v, y)) ∧ f_X9_gain g a b = some (v, g) ∧ RX y z) ∨ (f_X0_gainTold x a b = some (.inr (-(nI 1), x)) ∧ f_X9_gain g a b = f_X9_noFar g (-(nI 1))) := by
  unfold f_X0_gainTold f_X9_gain
  rcases g_two hx hg a b with ⟨i, j, hi, hj, rfl, rfl, h1, h2⟩ | ⟨h1, h2⟩
  · obtain ⟨y, h3, h4⟩ := L_gain hx.co hi hj
    left
    rw [h1, h2, bXl, obs, if_neg (by decide), h3, M_gain hg.1.1 hg.le hg.he hi hj]
    exact ⟨_, y, rfl, rfl, hx.kp h4⟩
  · right
    rw [h1, h2, bXr, obs, if_pos rfl]
    refine ⟨rfl, ?_⟩
    rw [← m1e]
    cases f_X9_noFar g (-1) <;> rfl
