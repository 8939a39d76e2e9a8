/-! PLAIN LAWS 22: what doIt does, number by number -/
theorem do_0 (x : XS) (a b c : Int32) : f_X0_doIt x 0 a b c = f_X0_letterIt x a := by
  unfold f_X0_doIt
  rw [if_neg (show ¬ (9 : Int32) ≤ 0 by decide), bX_id]
  unfold f_X0_ofCore
  rw [if_pos (show (0 : Int32) = 0 by decide)]
  rw [bX_id]
theorem do_1 (x : XS) (a b c : Int32) : f_X0_doIt x 1 a b c = f_X0_readCore x := by
  unfold f_X0_doIt
  rw [if_neg (show ¬ (9 : Int32) ≤ 1 by decide), bX_id]
  unfold f_X0_ofCore
  rw [if_neg (show ¬ (1 : Int32) = 0 by decide)]
  rw [if_pos (show (1 : Int32) = 1 by decide)]
  rw [bX_id]
theorem do_2 (x : XS) (a b c : Int32) : f_X0_doIt x 2 a b c = f_X0_cellAsked x a b := by
  unfold f_X0_doIt
  rw [if_neg (show ¬ (9 : Int32) ≤ 2 by decide), bX_id]
  unfold f_X0_ofCore
  rw [if_neg (show ¬ (2 : Int32) = 0 by decide)]
  rw [if_neg (show ¬ (2 : Int32) = 1 by decide)]
  rw [if_pos (show (2 : Int32) = 2 by decide)]
  rw [bX_id]
theorem do_3 (x : XS) (a b c : Int32) : f_X0_doIt x 3 a b c = f_X0_heirAsked x a b := by
  unfold f_X0_doIt
  rw [if_neg (show ¬ (9 : Int32) ≤ 3 by decide), bX_id]
  unfold f_X0_ofCore
  rw [if_neg (show ¬ (3 : Int32) = 0 by decide)]
  rw [if_neg (show ¬ (3 : Int32) = 1 by decide)]
  rw [if_neg (show ¬ (3 : Int32) = 2 by decide)]
  rw [if_pos (show (3 : Int32) = 3 by decide)]
  rw [bX_id]
theorem do_4 (x : XS) (a b c : Int32) : f_X0_doIt x 4 a b c = f_X0_biteIt x a b := by
  unfold f_X0_doIt
  rw [if_neg (show ¬ (9 : Int32) ≤ 4 by decide), bX_id]
  unfold f_X0_ofCore
  rw [if_neg (show ¬ (4 : Int32) = 0 by decide)]
  rw [if_neg (show ¬ (4 : Int32) = 1 by decide)]
  rw [if_neg (show ¬ (4 : Int32) = 2 by decide)]
  rw [if_neg (show ¬ (4 : Int32) = 3 by decide)]
  rw [if_pos (show (4 : Int32) = 4 by decide)]
  rw [bX_id]
theorem do_5 (x : XS) (a b c : Int32) : f_X0_doIt x 5 a b c = f_X0_healIt x a := by
  unfold f_X0_doIt
  rw [if_neg (show ¬ (9 : Int32) ≤ 5 by decide), bX_id]
  unfold f_X0_ofCore
  rw [if_neg (show ¬ (5 : Int32) = 0 by decide)]
  rw [if_neg (show ¬ (5 : Int32) = 1 by decide)]
  rw [if_neg (show ¬ (5 : Int32) = 2 by decide)]
  rw [if_neg (show ¬ (5 : Int32) = 3 by decide)]
  rw [if_neg (show ¬ (5 : Int32) = 4 by decide)]
  rw [if_pos (show (5 : Int32) = 5 by decide)]
  rw [bX_id]
theorem do_6 (x : XS) (a b c : Int32) : f_X0_doIt x 6 a b c = f_X0_rollIt x a := by
  unfold f_X0_doIt
  rw [if_neg (show ¬ (9 : Int32) ≤ 6 by decide), bX_id]
  unfold f_X0_ofCore
  rw [if_neg (show ¬ (6 : Int32) = 0 by decide)]
  rw [if_neg (show ¬ (6 : Int32) = 1 by decide)]
  rw [if_neg (show ¬ (6 : Int32) = 2 by decide)]
  rw [if_neg (show ¬ (6 : Int32) = 3 by decide)]
  rw [if_neg (show ¬ (6 : Int32) = 4 by decide)]
  rw [if_neg (show ¬ (6 : Int32) = 5 by decide)]
  rw [if_pos (show (6 : Int32) = 6 by decide)]
  rw [bX_id]
theorem do_7 (x : XS) (a b c : Int32) : f_X0_doIt x 7 a b c = f_X0_turnIt x a b c := by
  unfold f_X0_doIt
  rw [if_neg (show ¬ (9 : Int32) ≤ 7 by decide), bX_id]
  unfold f_X0_ofCore
  rw [if_neg (show ¬ (7 : Int32) = 0 by decide)]
  rw [if_neg (show ¬ (7 : Int32) = 1 by decide)]
  rw [if_neg (show ¬ (7 : Int32) = 2 by decide)]
  rw [if_neg (show ¬ (7 : Int32) = 3 by decide)]
  rw [if_neg (show ¬ (7 : Int32) = 4 by decide)]
  rw [if_neg (show ¬ (7 : Int32) = 5 by decide)]
  rw [if_neg (show ¬ (7 : Int32) = 6 by decide)]
  rw [if_pos (show (7 : Int32) = 7 by decide)]
  rw [bX_id]
theorem do_8 (x : XS) (a b c : Int32) : f_X0_doIt x 8 a b c = (Option.bind (f_X0_allAnew x) fun o => some (Sum.inl (o.1, o.2))) := by
  unfold f_X0_doIt
  rw [if_neg (show ¬ (9 : Int32) ≤ 8 by decide), bX_id]
  unfold f_X0_ofCore
  rw [if_neg (show ¬ (8 : Int32) = 0 by decide)]
  rw [if_neg (show ¬ (8 : Int32) = 1 by decide)]
  rw [if_neg (show ¬ (8 : Int32) = 2 by decide)]
  rw [if_neg (show ¬ (8 : Int32) = 3 by decide)]
  rw [if_neg (show ¬ (8 : Int32) = 4 by decide)]
  rw [if_neg (show ¬ (8 : Int32) = 5 by decide)]
  rw [if_neg (show ¬ (8 : Int32) = 6 by decide)]
  rw [if_neg (show ¬ (8 : Int32) = 7 by decide)]
theorem do_9 (x : XS) (a b c : Int32) : f_X0_doIt x 9 a b c = f_X0_sharesTold x a := by
  unfold f_X0_doIt
  rw [if_pos (show (9 : Int32) ≤ 9 by decide), if_neg (show ¬ (18 : Int32) ≤ 9 by decide), bX_id]
  unfold f_X0_ofBites
  rw [if_pos (show (9 : Int32) = 9 by decide)]
  rw [bX_id]
theorem do_10 (x : XS) (a b c : Int32) : f_X0_doIt x 10 a b c = f_X0_piecesTold x a := by
  unfold f_X0_doIt
  rw [if_pos (show (9 : Int32) ≤ 10 by decide), if_neg (show ¬ (18 : Int32) ≤ 10 by decide), bX_id]
  unfold f_X0_ofBites
  rw [if_neg (show ¬ (10 : Int32) = 9 by decide)]
  rw [if_pos (show (10 : Int32) = 10 by decide)]
  rw [bX_id]
theorem do_11 (x : XS) (a b c : Int32) : f_X0_doIt x 11 a b c = f_X0_edgeTold x a := by
  unfold f_X0_doIt
  rw [if_pos (show (9 : Int32) ≤ 11 by decide), if_neg (show ¬ (18 : Int32) ≤ 11 by decide), bX_id]
  unfold f_X0_ofBites
  rw [if_neg (show ¬ (11 : Int32) = 9 by decide)]
  rw [if_neg (show ¬ (11 : Int32) = 10 by decide)]
  rw [if_pos (show (11 : Int32) = 11 by decide)]
  rw [bX_id]
theorem do_12 (x : XS) (a b c : Int32) : f_X0_doIt x 12 a b c = f_X0_bestTold x a b 1 := by
  unfold f_X0_doIt
  rw [if_pos (show (9 : Int32) ≤ 12 by decide), if_neg (show ¬ (18 : Int32) ≤ 12 by decide), bX_id]
  unfold f_X0_ofBites
  rw [if_neg (show ¬ (12 : Int32) = 9 by decide)]
  rw [if_neg (show ¬ (12 : Int32) = 10 by decide)]
  rw [if_neg (show ¬ (12 : Int32) = 11 by decide)]
  rw [if_pos (show (12 : Int32) = 12 by decide)]
  rw [bX_id]
theorem do_13 (x : XS) (a b c : Int32) : f_X0_doIt x 13 a b c = f_X0_bestTold x a b (-1) := by
  unfold f_X0_doIt
  rw [if_pos (show (9 : Int32) ≤ 13 by decide), if_neg (show ¬ (18 : Int32) ≤ 13 by decide), bX_id]
  unfold f_X0_ofBites
  rw [if_neg (show ¬ (13 : Int32) = 9 by decide)]
  rw [if_neg (show ¬ (13 : Int32) = 10 by decide)]
  rw [if_neg (show ¬ (13 : Int32) = 11 by decide)]
  rw [if_neg (show ¬ (13 : Int32) = 12 by decide)]
  rw [if_pos (show (13 : Int32) = 13 by decide)]
  rw [bX_id]
theorem do_14 (x : XS) (a b c : Int32) : f_X0_doIt x 14 a b c = f_X0_fewestTold x a b c := by
  unfold f_X0_doIt
  rw [if_pos (show (9 : Int32) ≤ 14 by decide), if_neg (show ¬ (18 : Int32) ≤ 14 by decide), bX_id]
  unfold f_X0_ofBites
  rw [if_neg (show ¬ (14 : Int32) = 9 by decide)]
  rw [if_neg (show ¬ (14 : Int32) = 10 by decide)]
  rw [if_neg (show ¬ (14 : Int32) = 11 by decide)]
  rw [if_neg (show ¬ (14 : Int32) = 12 by decide)]
  rw [if_neg (show ¬ (14 : Int32) = 13 by decide)]
  rw [if_pos (show (14 : Int32) = 14 by decide)]
  rw [bX_id]
theorem do_15 (x : XS) (a b c : Int32) : f_X0_doIt x 15 a b c = (Option.bind (f_X0_manyThatCan x (-1) 1) fun o => some (Sum.inl (o.1, o.2))) := by
  unfold f_X0_doIt
  rw [if_pos (show (9 : Int32) ≤ 15 by decide), if_neg (show ¬ (18 : Int32) ≤ 15 by decide), bX_id]
  unfold f_X0_ofBites
  rw [if_neg (show ¬ (15 : Int32) = 9 by decide)]
  rw [if_neg (show ¬ (15 : Int32) = 10 by decide)]
  rw [if_neg (show ¬ (15 : Int32) = 11 by decide)]
  rw [if_neg (show ¬ (15 : Int32) = 12 by decide)]
  rw [if_neg (show ¬ (15 : Int32) = 13 by decide)]
  rw [if_neg (show ¬ (15 : Int32) = 14 by decide)]
  rw [if_pos (show (15 : Int32) = 15 by decide)]
theorem do_16 (x : XS) (a b c : Int32) : f_X0_doIt x 16 a b c = f_X0_canTold x a := by
  unfold f_X0_doIt
  rw [if_pos (show (9 : Int32) ≤ 16 by decide), if_neg (show ¬ (18 : Int32) ≤ 16 by decide), bX_id]
  unfold f_X0_ofBites
  rw [if_neg (show ¬ (16 : Int32) = 9 by decide)]
  rw [if_neg (show ¬ (16 : Int32) = 10 by decide)]
  rw [if_neg (show ¬ (16 : Int32) = 11 by decide)]
  rw [if_neg (show ¬ (16 : Int32) = 12 by decide)]
  rw [if_neg (show ¬ (16 : Int32) = 13 by decide)]
  rw [if_neg (show ¬ (16 : Int32) = 14 by decide)]
  rw [if_neg (show ¬ (16 : Int32) = 15 by decide)]
  rw [if_pos (show (16 : Int32) = 16 by decide)]
  rw [bX_id]
theorem do_17 (x : XS) (a b c : Int32) : f_X0_doIt x 17 a b c = f_X0_waysTold x a := by
  unfold f_X0_doIt
  rw [if_pos (show (9 : Int32) ≤ 17 by decide), if_neg (show ¬ (18 : Int32) ≤ 17 by decide), bX_id]
  unfold f_X0_ofBites
  rw [if_neg (show ¬ (17 : Int32) = 9 by decide)]
  rw [if_neg (show ¬ (17 : Int32) = 10 by decide)]
  rw [if_neg (show ¬ (17 : Int32) = 11 by decide)]
  rw [if_neg (show ¬ (17 : Int32) = 12 by decide)]
  rw [if_neg (show ¬ (17 : Int32) = 13 by decide)]
  rw [if_neg (show ¬ (17 : Int32) = 14 by decide)]
  rw [if_neg (show ¬ (17 : Int32) = 15 by decide)]
  rw [if_neg (show ¬ (17 : Int32) = 16 by decide)]
  rw [bX_id]
theorem do_18 (x : XS) (a b c : Int32) : f_X0_doIt x 18 a b c = f_X0_alikeTold x a := by
  unfold f_X0_doIt
  rw [if_pos (show (9 : Int32) ≤ 18 by decide), if_pos (show (18 : Int32) ≤ 18 by decide), bX_id]
  unfold f_X0_ofRest
  rw [if_pos (show (18 : Int32) = 18 by decide)]
  rw [bX_id]
theorem do_19 (x : XS) (a b c : Int32) : f_X0_doIt x 19 a b c = f_X0_settlesTold x a := by
  unfold f_X0_doIt
  rw [if_pos (show (9 : Int32) ≤ 19 by decide), if_pos (show (18 : Int32) ≤ 19 by decide), bX_id]
  unfold f_X0_ofRest
  rw [if_neg (show ¬ (19 : Int32) = 18 by decide)]
  rw [if_pos (show (19 : Int32) = 19 by decide)]
  rw [bX_id]
theorem do_20 (x : XS) (a b c : Int32) : f_X0_doIt x 20 a b c = f_X0_pipsTold x a := by
  unfold f_X0_doIt
  rw [if_pos (show (9 : Int32) ≤ 20 by decide), if_pos (show (18 : Int32) ≤ 20 by decide), bX_id]
  unfold f_X0_ofRest
  rw [if_neg (show ¬ (20 : Int32) = 18 by decide)]
  rw [if_neg (show ¬ (20 : Int32) = 19 by decide)]
  rw [if_pos (show (20 : Int32) = 20 by decide)]
  rw [bX_id]
theorem do_21 (x : XS) (a b c : Int32) : f_X0_doIt x 21 a b c = (bX (f_X0_mustBeHeir x a) (fun b12 => (b12.1, b12.2)) fun o12 => Option.bind (f_X0_worstGrudge o12 a) fun o13 => some (Sum.inl (o13.1, o13.2))) := by
  unfold f_X0_doIt
  rw [if_pos (show (9 : Int32) ≤ 21 by decide), if_pos (show (18 : Int32) ≤ 21 by decide), bX_id]
  unfold f_X0_ofRest
  rw [if_neg (show ¬ (21 : Int32) = 18 by decide)]
  rw [if_neg (show ¬ (21 : Int32) = 19 by decide)]
  rw [if_neg (show ¬ (21 : Int32) = 20 by decide)]
  rw [if_pos (show (21 : Int32) = 21 by decide)]
theorem do_22 (x : XS) (a b c : Int32) : f_X0_doIt x 22 a b c = f_X0_gainTold x a b := by
  unfold f_X0_doIt
  rw [if_pos (show (9 : Int32) ≤ 22 by decide), if_pos (show (18 : Int32) ≤ 22 by decide), bX_id]
  unfold f_X0_ofRest
  rw [if_neg (show ¬ (22 : Int32) = 18 by decide)]
  rw [if_neg (show ¬ (22 : Int32) = 19 by decide)]
  rw [if_neg (show ¬ (22 : Int32) = 20 by decide)]
  rw [if_neg (show ¬ (22 : Int32) = 21 by decide)]
  rw [if_pos (show (22 : Int32) = 22 by decide)]
  rw [bX_id]
theorem do_23 (x : XS) (a b c : Int32) : f_X0_doIt x 23 a b c = f_X0_joinTold x a := by
  unfold f_X0_doIt
  rw [if_pos (show (9 : Int32) ≤ 23 by decide), if_pos (show (18 : Int32) ≤ 23 by decide), bX_id]
  unfold f_X0_ofRest
  rw [if_neg (show ¬ (23 : Int32) = 18 by decide)]
  rw [if_neg (show ¬ (23 : Int32) = 19 by decide)]
  rw [if_neg (show ¬ (23 : Int32) = 20 by decide)]
  rw [if_neg (show ¬ (23 : Int32) = 21 by decide)]
  rw [if_neg (show ¬ (23 : Int32) = 22 by decide)]
  rw [if_pos (show (23 : Int32) = 23 by decide)]
  rw [bX_id]
theorem do_24 (x : XS) (a b c : Int32) : f_X0_doIt x 24 a b c = f_X0_bridgeTold x a := by
  unfold f_X0_doIt
  rw [if_pos (show (9 : Int32) ≤ 24 by decide), if_pos (show (18 : Int32) ≤ 24 by decide), bX_id]
  unfold f_X0_ofRest
  rw [if_neg (show ¬ (24 : Int32) = 18 by decide)]
  rw [if_neg (show ¬ (24 : Int32) = 19 by decide)]
  rw [if_neg (show ¬ (24 : Int32) = 20 by decide)]
  rw [if_neg (show ¬ (24 : Int32) = 21 by decide)]
  rw [if_neg (show ¬ (24 : Int32) = 22 by decide)]
  rw [if_neg (show ¬ (24 : Int32) = 23 by decide)]
  rw [if_pos (show (24 : Int32) = 24 by decide)]
  rw [bX_id]
theorem do_25 (x : XS) (a b c : Int32) : f_X0_doIt x 25 a b c = f_X0_twoTold x a b := by
  unfold f_X0_doIt
  rw [if_pos (show (9 : Int32) ≤ 25 by decide), if_pos (show (18 : Int32) ≤ 25 by decide), bX_id]
  unfold f_X0_ofRest
  rw [if_neg (show ¬ (25 : Int32) = 18 by decide)]
  rw [if_neg (show ¬ (25 : Int32) = 19 by decide)]
  rw [if_neg (show ¬ (25 : Int32) = 20 by decide)]
  rw [if_neg (show ¬ (25 : Int32) = 21 by decide)]
  rw [if_neg (show ¬ (25 : Int32) = 22 by decide)]
  rw [if_neg (show ¬ (25 : Int32) = 23 by decide)]
  rw [if_neg (show ¬ (25 : Int32) = 24 by decide)]
  rw [if_pos (show (25 : Int32) = 25 by decide)]
  rw [bX_id]
theorem do_26 (x : XS) (a b c : Int32) : f_X0_doIt x 26 a b c = f_X0_whatTold x a b := by
  unfold f_X0_doIt
  rw [if_pos (show (9 : Int32) ≤ 26 by decide), if_pos (show (18 : Int32) ≤ 26 by decide), bX_id]
  unfold f_X0_ofRest
  rw [if_neg (show ¬ (26 : Int32) = 18 by decide)]
  rw [if_neg (show ¬ (26 : Int32) = 19 by decide)]
  rw [if_neg (show ¬ (26 : Int32) = 20 by decide)]
  rw [if_neg (show ¬ (26 : Int32) = 21 by decide)]
  rw [if_neg (show ¬ (26 : Int32) = 22 by decide)]
  rw [if_neg (show ¬ (26 : Int32) = 23 by decide)]
  rw [if_neg (show ¬ (26 : Int32) = 24 by decide)]
  rw [if_neg (show ¬ (26 : Int32) = 25 by decide)]
  rw [bX_id]
  unfold f_X0_ofLast
  rw [if_pos (show (26 : Int32) = 26 by decide)]
  rw [bX_id]
theorem do_27 (x : XS) (a b c : Int32) : f_X0_doIt x 27 a b c = (bX (f_X0_within (Int32.toInt64 a) (0 : Int64) (99 : Int64)) (fun b8 => (b8, x)) fun o8 => Option.bind (α := Int32) (if 16 ≤ (xG_rowMany x) then some 0 else some 1) fun o10 => bX (f_X0_must o10 (-6 : Int32)) (fun b11 => (b11, x)) fun o11 => Option.bind (some ((Int8.toInt32 (Int32.toInt8 a)) : Int32)) fun v12 => if (xG_rowMany x) < 0 ∨ 16 ≤ Int32.toNatClampNeg (xG_rowMany x) then none else Option.bind (some (xS_row x (upd (xG_row x) (Int32.toNatClampNeg (xG_rowMany x)) (vp_nar .byte v12)))) fun g14 => Option.bind (some (xS_rowMany g14 ((xG_rowMany g14) + 1))) fun g15 => some (Sum.inl ((xG_rowMany g15), g15))) := by
  unfold f_X0_doIt
  rw [if_pos (show (9 : Int32) ≤ 27 by decide), if_pos (show (18 : Int32) ≤ 27 by decide), bX_id]
  unfold f_X0_ofRest
  rw [if_neg (show ¬ (27 : Int32) = 18 by decide)]
  rw [if_neg (show ¬ (27 : Int32) = 19 by decide)]
  rw [if_neg (show ¬ (27 : Int32) = 20 by decide)]
  rw [if_neg (show ¬ (27 : Int32) = 21 by decide)]
  rw [if_neg (show ¬ (27 : Int32) = 22 by decide)]
  rw [if_neg (show ¬ (27 : Int32) = 23 by decide)]
  rw [if_neg (show ¬ (27 : Int32) = 24 by decide)]
  rw [if_neg (show ¬ (27 : Int32) = 25 by decide)]
  rw [bX_id]
  unfold f_X0_ofLast
  rw [if_neg (show ¬ (27 : Int32) = 26 by decide)]
  rw [if_pos (show (27 : Int32) = 27 by decide)]
theorem do_28 (x : XS) (a b c : Int32) : f_X0_doIt x 28 a b c = (Option.bind (f_X0_judgeRow x) fun o16 => some (Sum.inl (o16.1, o16.2))) := by
  unfold f_X0_doIt
  rw [if_pos (show (9 : Int32) ≤ 28 by decide), if_pos (show (18 : Int32) ≤ 28 by decide), bX_id]
  unfold f_X0_ofRest
  rw [if_neg (show ¬ (28 : Int32) = 18 by decide)]
  rw [if_neg (show ¬ (28 : Int32) = 19 by decide)]
  rw [if_neg (show ¬ (28 : Int32) = 20 by decide)]
  rw [if_neg (show ¬ (28 : Int32) = 21 by decide)]
  rw [if_neg (show ¬ (28 : Int32) = 22 by decide)]
  rw [if_neg (show ¬ (28 : Int32) = 23 by decide)]
  rw [if_neg (show ¬ (28 : Int32) = 24 by decide)]
  rw [if_neg (show ¬ (28 : Int32) = 25 by decide)]
  rw [bX_id]
  unfold f_X0_ofLast
  rw [if_neg (show ¬ (28 : Int32) = 26 by decide)]
  rw [if_neg (show ¬ (28 : Int32) = 27 by decide)]
  rw [if_pos (show (28 : Int32) = 28 by decide)]
theorem do_29 (x : XS) (a b c : Int32) : f_X0_doIt x 29 a b c = (Option.bind (some ((xG_rowMany x) : Int32)) fun v17 => Option.bind (some (xS_rowMany x (0 : Int32))) fun g18 => some (Sum.inl (v17, g18))) := by
  unfold f_X0_doIt
  rw [if_pos (show (9 : Int32) ≤ 29 by decide), if_pos (show (18 : Int32) ≤ 29 by decide), bX_id]
  unfold f_X0_ofRest
  rw [if_neg (show ¬ (29 : Int32) = 18 by decide)]
  rw [if_neg (show ¬ (29 : Int32) = 19 by decide)]
  rw [if_neg (show ¬ (29 : Int32) = 20 by decide)]
  rw [if_neg (show ¬ (29 : Int32) = 21 by decide)]
  rw [if_neg (show ¬ (29 : Int32) = 22 by decide)]
  rw [if_neg (show ¬ (29 : Int32) = 23 by decide)]
  rw [if_neg (show ¬ (29 : Int32) = 24 by decide)]
  rw [if_neg (show ¬ (29 : Int32) = 25 by decide)]
  rw [bX_id]
  unfold f_X0_ofLast
  rw [if_neg (show ¬ (29 : Int32) = 26 by decide)]
  rw [if_neg (show ¬ (29 : Int32) = 27 by decide)]
  rw [if_neg (show ¬ (29 : Int32) = 28 by decide)]
  rw [if_pos (show (29 : Int32) = 29 by decide)]
theorem do_30 (x : XS) (a b c : Int32) : f_X0_doIt x 30 a b c = f_X0_lotsTold x a b c := by
  unfold f_X0_doIt
  rw [if_pos (show (9 : Int32) ≤ 30 by decide), if_pos (show (18 : Int32) ≤ 30 by decide), bX_id]
  unfold f_X0_ofRest
  rw [if_neg (show ¬ (30 : Int32) = 18 by decide)]
  rw [if_neg (show ¬ (30 : Int32) = 19 by decide)]
  rw [if_neg (show ¬ (30 : Int32) = 20 by decide)]
  rw [if_neg (show ¬ (30 : Int32) = 21 by decide)]
  rw [if_neg (show ¬ (30 : Int32) = 22 by decide)]
  rw [if_neg (show ¬ (30 : Int32) = 23 by decide)]
  rw [if_neg (show ¬ (30 : Int32) = 24 by decide)]
  rw [if_neg (show ¬ (30 : Int32) = 25 by decide)]
  rw [bX_id]
  unfold f_X0_ofLast
  rw [if_neg (show ¬ (30 : Int32) = 26 by decide)]
  rw [if_neg (show ¬ (30 : Int32) = 27 by decide)]
  rw [if_neg (show ¬ (30 : Int32) = 28 by decide)]
  rw [if_neg (show ¬ (30 : Int32) = 29 by decide)]
  rw [if_pos (show (30 : Int32) = 30 by decide)]
  rw [bX_id]
theorem do_31 (x : XS) (a b c : Int32) : f_X0_doIt x 31 a b c = (Option.bind (some (xS_hasImage x (1 : Int32))) fun g20 => Option.bind (f_X8_set (xG_imaged g20) (xG_core0 g20)) fun o21 => Option.bind (some (xS_imaged g20 o21)) fun g22 => some (Sum.inl ((cG_bitten (xG_core0 g22)), g22))) := by
  unfold f_X0_doIt
  rw [if_pos (show (9 : Int32) ≤ 31 by decide), if_pos (show (18 : Int32) ≤ 31 by decide), bX_id]
  unfold f_X0_ofRest
  rw [if_neg (show ¬ (31 : Int32) = 18 by decide)]
  rw [if_neg (show ¬ (31 : Int32) = 19 by decide)]
  rw [if_neg (show ¬ (31 : Int32) = 20 by decide)]
  rw [if_neg (show ¬ (31 : Int32) = 21 by decide)]
  rw [if_neg (show ¬ (31 : Int32) = 22 by decide)]
  rw [if_neg (show ¬ (31 : Int32) = 23 by decide)]
  rw [if_neg (show ¬ (31 : Int32) = 24 by decide)]
  rw [if_neg (show ¬ (31 : Int32) = 25 by decide)]
  rw [bX_id]
  unfold f_X0_ofLast
  rw [if_neg (show ¬ (31 : Int32) = 26 by decide)]
  rw [if_neg (show ¬ (31 : Int32) = 27 by decide)]
  rw [if_neg (show ¬ (31 : Int32) = 28 by decide)]
  rw [if_neg (show ¬ (31 : Int32) = 29 by decide)]
  rw [if_neg (show ¬ (31 : Int32) = 30 by decide)]
  rw [if_pos (show (31 : Int32) = 31 by decide)]
theorem do_32 (x : XS) (a b c : Int32) : f_X0_doIt x 32 a b c = (bX (f_X0_must (xG_hasImage x) (-3 : Int32)) (fun b23 => (b23, x)) fun o23 => Option.bind (f_X8_set (xG_core0 x) (xG_imaged x)) fun o24 => Option.bind (some (xS_core0 x o24)) fun g25 => some (Sum.inl ((cG_bitten (xG_core0 g25)), g25))) := by
  unfold f_X0_doIt
  rw [if_pos (show (9 : Int32) ≤ 32 by decide), if_pos (show (18 : Int32) ≤ 32 by decide), bX_id]
  unfold f_X0_ofRest
  rw [if_neg (show ¬ (32 : Int32) = 18 by decide)]
  rw [if_neg (show ¬ (32 : Int32) = 19 by decide)]
  rw [if_neg (show ¬ (32 : Int32) = 20 by decide)]
  rw [if_neg (show ¬ (32 : Int32) = 21 by decide)]
  rw [if_neg (show ¬ (32 : Int32) = 22 by decide)]
  rw [if_neg (show ¬ (32 : Int32) = 23 by decide)]
  rw [if_neg (show ¬ (32 : Int32) = 24 by decide)]
  rw [if_neg (show ¬ (32 : Int32) = 25 by decide)]
  rw [bX_id]
  unfold f_X0_ofLast
  rw [if_neg (show ¬ (32 : Int32) = 26 by decide)]
  rw [if_neg (show ¬ (32 : Int32) = 27 by decide)]
  rw [if_neg (show ¬ (32 : Int32) = 28 by decide)]
  rw [if_neg (show ¬ (32 : Int32) = 29 by decide)]
  rw [if_neg (show ¬ (32 : Int32) = 30 by decide)]
  rw [if_neg (show ¬ (32 : Int32) = 31 by decide)]
