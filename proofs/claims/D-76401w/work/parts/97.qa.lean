/-! PLAIN LAWS 27: the face, and the start -/
theorem bd_id (e : Option (Int32 × MS)) : (Option.bind e fun o1 => some (o1.1, o1.2)) = e := by cases e <;> rfl
theorem face_letter {x : XS} {g : MS} {z : GS} (hx : RX x z) (hg : RM g z) (a : Int32) : agr (f_X0_letter x a) (f_X9_letter g a) := by
  unfold f_X0_letter
  exact two_act (by rw [do_0]; exact op_letter hx hg a)
theorem face_cell {x : XS} {g : MS} {z : GS} (hx : RX x z) (hg : RM g z) (a b : Int32) : agr (f_X0_cell x a b) (f_X9_cell g a b) := by
  unfold f_X0_cell
  exact two_act (by rw [do_2]; exact op_cell hx hg a b)
theorem face_heir {x : XS} {g : MS} {z : GS} (hx : RX x z) (hg : RM g z) (a b : Int32) : agr (f_X0_heir x a b) (f_X9_heir g a b) := by
  unfold f_X0_heir
  exact two_act (by rw [do_3]; exact op_heir hx hg a b)
theorem face_bites {x : XS} {g : MS} {z : GS} (hx : RX x z) (hg : RM g z) (a b : Int32) : agr (f_X0_bites x a b) (f_X9_bites g a b) := by
  unfold f_X0_bites
  exact two_act (by rw [do_4]; exact op_bites hx hg a b)
theorem face_heals {x : XS} {g : MS} {z : GS} (hx : RX x z) (hg : RM g z) (a : Int32) : agr (f_X0_heals x a) (f_X9_heals g a) := by
  unfold f_X0_heals
  exact two_act (by rw [do_5]; exact op_heals hx hg a)
theorem face_rolls {x : XS} {g : MS} {z : GS} (hx : RX x z) (hg : RM g z) (a : Int32) : agr (f_X0_rolls x a) (f_X9_rolls g a) := by
  unfold f_X0_rolls
  exact two_act (by rw [do_6]; exact op_rolls hx hg a)
theorem face_turn {x : XS} {g : MS} {z : GS} (hx : RX x z) (hg : RM g z) (a b c : Int32) : agr (f_X0_turn x a b c) (f_X9_turn g a b c) := by
  unfold f_X0_turn
  exact two_act (by rw [do_7]; exact op_turn hx hg a b c)
theorem face_anew {x : XS} {g : MS} {z : GS} (hx : RX x z) (hg : RM g z) : agr (f_X0_anew x) (f_X9_anew g) := by
  unfold f_X0_anew
  exact two_act (by rw [do_8]; exact op_anew hx hg)
theorem face_shares {x : XS} {g : MS} {z : GS} (hx : RX x z) (hg : RM g z) (a : Int32) : agr (f_X0_shares x a) (f_X9_shares g a) := by
  unfold f_X0_shares
  exact two_act (by rw [do_9]; exact op_shares hx hg a)
theorem face_pieces {x : XS} {g : MS} {z : GS} (hx : RX x z) (hg : RM g z) (a : Int32) : agr (f_X0_pieces x a) (f_X9_pieces g a) := by
  unfold f_X0_pieces
  exact two_act (by rw [do_10]; exact op_pieces hx hg a)
theorem face_edge {x : XS} {g : MS} {z : GS} (hx : RX x z) (hg : RM g z) (a : Int32) : agr (f_X0_edge x a) (f_X9_edge g a) := by
  unfold f_X0_edge
  exact two_act (by rw [do_11]; exact op_edge hx hg a)
theorem face_best {x : XS} {g : MS} {z : GS} (hx : RX x z) (hg : RM g z) (a b : Int32) : agr (f_X0_best x a b) (f_X9_best g a b) := by
  unfold f_X0_best f_X9_best
  rw [bd_id]
  exact two_act (by rw [do_12]; exact op_best hx hg a b 1)
theorem face_worst {x : XS} {g : MS} {z : GS} (hx : RX x z) (hg : RM g z) (a b : Int32) : agr (f_X0_worst x a b) (f_X9_worst g a b) := by
  unfold f_X0_worst f_X9_worst
  rw [bd_id]
  exact two_act (by rw [do_13]; exact op_best hx hg a b (-1))
theorem face_fewest {x : XS} {g : MS} {z : GS} (hx : RX x z) (hg : RM g z) (a b c : Int32) : agr (f_X0_fewest x a b c) (f_X9_fewest g a b c) := by
  unfold f_X0_fewest
  exact two_act (by rw [do_14]; exact op_fewest hx hg a b c)
theorem face_safe {x : XS} {g : MS} {z : GS} (hx : RX x z) (hg : RM g z) : agr (f_X0_safe x) ((Option.bind (f_X9_safe g) fun o => some (o, g))) := by
  unfold f_X0_safe
  exact two_act (by rw [do_15]; exact op_safe hx hg)
theorem face_can {x : XS} {g : MS} {z : GS} (hx : RX x z) (hg : RM g z) (a : Int32) : agr (f_X0_can x a) (f_X9_can g a) := by
  unfold f_X0_can
  exact two_act (by rw [do_16]; exact op_can hx hg a)
theorem face_ways {x : XS} {g : MS} {z : GS} (hx : RX x z) (hg : RM g z) (a : Int32) : agr (f_X0_ways x a) (f_X9_ways g a) := by
  unfold f_X0_ways
  exact two_act (by rw [do_17]; exact op_ways hx hg a)
theorem face_alike {x : XS} {g : MS} {z : GS} (hx : RX x z) (hg : RM g z) (a : Int32) : agr (f_X0_alike x a) (f_X9_alike g a) := by
  unfold f_X0_alike
  exact two_act (by rw [do_18]; exact op_alike hx hg a)
theorem face_settles {x : XS} {g : MS} {z : GS} (hx : RX x z) (hg : RM g z) (a : Int32) : agr (f_X0_settles x a) (f_X9_settles g a) := by
  unfold f_X0_settles
  exact two_act (by rw [do_19]; exact op_settles hx hg a)
theorem face_pips {x : XS} {g : MS} {z : GS} (hx : RX x z) (hg : RM g z) (a : Int32) : agr (f_X0_pips x a) (f_X9_pips g a) := by
  unfold f_X0_pips
  exact two_act (by rw [do_20]; exact op_pips hx hg a)
theorem face_grudge {x : XS} {g : MS} {z : GS} (hx : RX x z) (hg : RM g z) (a : Int32) : agr (f_X0_grudge x a) (f_X9_grudge g a) := by
  unfold f_X0_grudge
  exact two_act (by rw [do_21]; exact op_grudge hx hg a)
theorem face_join {x : XS} {g : MS} {z : GS} (hx : RX x z) (hg : RM g z) (a : Int32) : agr (f_X0_join x a) (f_X9_join g a) := by
  unfold f_X0_join
  exact two_act (by rw [do_23]; exact op_join hx hg a)
theorem face_bridge {x : XS} {g : MS} {z : GS} (hx : RX x z) (hg : RM g z) (a : Int32) : agr (f_X0_bridge x a) (f_X9_bridge g a) := by
  unfold f_X0_bridge
  exact two_act (by rw [do_24]; exact op_bridge hx hg a)
theorem face_two {x : XS} {g : MS} {z : GS} (hx : RX x z) (hg : RM g z) (a b : Int32) : agr (f_X0_two x a b) (f_X9_two g a b) := by
  unfold f_X0_two
  exact two_act (by rw [do_25]; exact op_two hx hg a b)
theorem face_whatIs {x : XS} {g : MS} {z : GS} (hx : RX x z) (hg : RM g z) (a b : Int32) : agr (f_X0_whatIs x a b) (f_X9_whatIs g a b) := by
  unfold f_X0_whatIs
  exact two_act (by rw [do_26]; exact op_what hx hg a b)
theorem face_row {x : XS} {g : MS} {z : GS} (hx : RX x z) (hg : RM g z) (a : Int32) : agr (f_X0_row x a) (f_X9_row g a) := by
  unfold f_X0_row
  exact two_act (by rw [do_27]; exact op_row hx hg a)
theorem face_judge {x : XS} {g : MS} {z : GS} (hx : RX x z) (hg : RM g z) : agr (f_X0_judge x) (f_X9_judge g) := by
  unfold f_X0_judge
  exact two_act (by rw [do_28]; exact op_judge hx hg)
theorem face_clear {x : XS} {g : MS} {z : GS} (hx : RX x z) (hg : RM g z) : agr (f_X0_clear x) (f_X9_clear g) := by
  unfold f_X0_clear
  exact two_act (by rw [do_29]; exact op_clear hx hg)
theorem face_lots {x : XS} {g : MS} {z : GS} (hx : RX x z) (hg : RM g z) (a b c : Int32) : agr (f_X0_lots x a b c) (f_X9_lots g a b c) := by
  unfold f_X0_lots
  exact two_act (by rw [do_30]; exact op_lots hx hg a b c)
theorem face_image {x : XS} {g : MS} {z : GS} (hx : RX x z) (hg : RM g z) : agr (f_X0_image x) (f_X9_image g) := by
  unfold f_X0_image
  exact two_act (by rw [do_31]; exact op_image hx hg)
theorem face_on {x : XS} {g : MS} {z : GS} (hx : RX x z) (hg : RM g z) : agr (f_X0_on x) (f_X9_on g) := by
  unfold f_X0_on
  exact two_act (by rw [do_32]; exact op_on hx hg)
theorem face_core {x : XS} {g : MS} {z : GS} (hx : RX x z) (hg : RM g z) : agr (f_X0_core x) (f_X9_core g) := op_core hx hg
theorem face_gain {x : XS} {g : MS} {z : GS} (hx : RX x z) (hg : RM g z) (a b : Int32) : agr (f_X0_gain x a b) (f_X9_gain g a b) := by
  unfold f_X0_gain f_X0_actFar
  rw [do_22]
  rcases op_gain hx hg a b with ⟨v, y, h1, h2, h3⟩ | ⟨h1, h2⟩
  · rw [h1, bHl, obs]
    exact ⟨v, y, g, z, rfl, h2, h3, hg⟩
  · obtain ⟨y, a1, a2⟩ := L_refuse hx (c := 1) (by omega)
    obtain ⟨h, b1, b2⟩ := M_no hg (c := 1) (by omega)
    rw [h1, bHr, a1, obs, obs, h2]
    unfold f_X9_noFar
    rw [b1]
    exact ⟨_, y, h, _, rfl, rfl, a2, b2⟩
theorem face_chance {x : XS} {g : MS} {z : GS} (hx : RX x z) (hg : RM g z) (a b c d : Int32) : agrL (f_X0_chance x a b c d) (f_X9_chance g a b c d) := by
  obtain ⟨v, y, h, z', h1, h2, h3, h4⟩ := op_chance hx hg a b c d
  unfold f_X0_chance
  rw [h1, obs]
  exact ⟨v, y, h, z', rfl, h2, h3, h4⟩
theorem face_mean {x : XS} {g : MS} {z : GS} (hx : RX x z) (hg : RM g z) (a : Int32) : agrL (f_X0_mean x a) (f_X9_mean g a) := by
  obtain ⟨v, y, h, z', h1, h2, h3, h4⟩ := op_mean hx hg a
  unfold f_X0_mean
  rw [h1, obs]
  exact ⟨v, y, h, z', rfl, h2, h3, h4⟩
def ac0 : AC := (33554431, 0, 0, fun _ => 0, fun _ => 0)
def gs0 : GS := (ac0, ac0, false, 0, 0, fun _ => 0, fun _ => 0, fun _ => 0)
theorem deed0 : deedS 33554431 = 33554431 := by decide +kernel
theorem cnt0 : cntS 33554431 = 1 := by decide +kernel
theorem lst0 : lstS 33554431 = 25 := by decide +kernel
theorem start_X : RX xs0 gs0 := by
  refine ⟨⟨by show 33554431 < 33554432; omega, ⟨rfl, ?_, ?_, ?_⟩, by show 0 ≤ 999; omega, rfl, rfl, by show 0 ≤ 5; omega, fun h hh => absurd hh (Nat.not_lt_zero h)⟩, rfl, fun h => (by cases h), ⟨rfl, by show 0 ≤ 16; omega⟩, ⟨rfl, by show 0 ≤ 96; omega⟩, fun k hk => absurd hk (Nat.not_lt_zero k), fun k hk => absurd hk (Nat.not_lt_zero k), fun k _ => rfl⟩
  · show (33554431 : Int32) = nI (deedS 33554431)
    rw [deed0]
    rfl
  · show (1 : Int32) = nI (cntS 33554431)
    rw [cnt0]
    rfl
  · show (25 : Int32) = nI (lstS 33554431)
    rw [lst0]
    rfl
theorem start_M : RM ms0 gs0 := ⟨⟨by show 33554431 < 33554432; omega, rfl, by show 0 ≤ 999; omega, rfl, rfl, by show 0 ≤ 5; omega, fun h hh => absurd hh (Nat.not_lt_zero h)⟩, rfl, fun h => (by cases h), ⟨rfl, by show 0 ≤ 16; omega⟩, ⟨rfl, by show 0 ≤ 96; omega⟩, fun k hk => absurd hk (Nat.not_lt_zero k), fun k hk => absurd hk (Nat.not_lt_zero k), fun k _ => rfl⟩
