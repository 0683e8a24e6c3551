/-! THE PURE PICTURE: X0 L (written by gen/main.py) -/
set_option maxRecDepth 100000
theorem ztbL {x : Int32} (lo : Int) (n : Nat) {hi : Int} (l : List Int32) (e : hi = lo + n - 1) (hl : ∀ j, j < n → ∃ k ∈ l, k.toInt = lo + j) (h : ∀ k ∈ l, ¬ x.toInt = k.toInt) : x.toInt < lo ∨ hi < x.toInt :=
  ztb lo n e fun j hj q => by
    obtain ⟨k, hk, hk2⟩ := hl j hj
    exact h k hk (q.trans hk2.symm)
def M_X0_feed : zM := (yX0_feed, cX0_feed, 8, (.some .int), [(0, 16, 19, 13)])
theorem mf_X0_feed : zMs M_X0_feed 7 := ⟨⟨q559, q179, ⟨by decide +kernel, by decide +kernel⟩, by decide +kernel, by decide⟩, q558⟩
def f_X0_feed (p0 : Option Nat) (p1 : Int32) (p2 : Int32) (p3 : Int32) (p4 : Int32) (p5 : Int32) (p6 : Option Nat) (h : zH) : Option (Int32 × zH) :=
  (zrv 1 p0 h).bind fun b1 =>
  zb3 (f_X1_feed (some b1) p1 p2 p3 p4 p5 h) (fun x6 h7 =>
  (zsJ p6 (0 : Int32) x6.toInt64 h7).bind fun h10 =>
  some ((0 : Int32), h10))
  (fun q8 h9 =>
  if zk h9 q8 = 22 then
  some ((1 : Int32), h9)
  else none)
theorem w_X0_feed {G : zG} {p0 : Option Nat} {p1 : Int32} {p2 : Int32} {p3 : Int32} {p4 : Int32} {p5 : Int32} {p6 : Option Nat} {h : zH} {vx : Int32} {vh : zH} (H : f_X0_feed p0 p1 p2 p3 p4 p5 p6 h = some (vx, vh)) : zMet G M_X0_feed 8 [vR p0, vI p1, vI p2, vI p3, vI p4, vI p5, vR p6] h (.inl (some (vI vx))) vh := by
  refine zMet.of (by decide +kernel) (Nat.le_of_ble_eq_true rfl) ?_
  show zW G M_X0_feed 8 h (.inl (some (vI vx))) vh 0 [(0, vR p0), (1, vI p1), (2, vI p2), (3, vI p3), (4, vI p4), (5, vI p5), (6, vR p6)] [] h
  unfold f_X0_feed at H
  refine zw_aload (pc := 0) dX0_feed_0 6 rfl ?_
  refine zw_iconst (pc := 2) (v := (0 : Int32)) dX0_feed_2 (by decide) ?_
  refine zw_aload_n (pc := 3) dX0_feed_3 rfl 0 rfl ?_
  refine zw_iload_n (pc := 4) dX0_feed_4 rfl 1 rfl ?_
  refine zw_iload_n (pc := 5) dX0_feed_5 rfl 2 rfl ?_
  refine zw_iload_n (pc := 6) dX0_feed_6 rfl 3 rfl ?_
  refine zw_iload (pc := 7) dX0_feed_7 4 rfl ?_
  refine zw_iload (pc := 9) dX0_feed_9 5 rfl ?_
  obtain ⟨b1, e3, H⟩ := zbind H
  obtain ⟨e2, e4⟩ := zrv_ok e3
  rcases zbind3 H with ⟨x6, h7, e5, H⟩ | ⟨q8, h9, e5, H⟩
  · refine zw_invV (pc := 11) (M' := M_X1_feed) (A := [vI p1, vI p2, vI p3, vI p4, vI p5]) [vI (0 : Int32), vR p6] dX0_feed_11 (Or.inl q561) mf_X1_feed q563 (zkq e4 rfl) (w_X1_feed e5) (Nat.le_of_ble_eq_true rfl) rfl (by rw [← e2]; rfl) (Nat.le_of_ble_eq_true rfl) (zkv ?_) zkn9
    refine zw_i2l (pc := 14) dX0_feed_14 ?_
    obtain ⟨h10, e11, H⟩ := zbind H
    refine zy_last (pc := 15) dX0_feed_15 e11 ?_
    refine zw_goto (pc := 16) (tgt := 23) dX0_feed_16 rfl ?_
    refine zw_iconst (pc := 23) (v := (0 : Int32)) dX0_feed_23 (by decide) ?_
    obtain ⟨rfl, rfl⟩ := Prod.mk.inj (Option.some.inj H)
    exact zw_iret (pc := 24) dX0_feed_24 rfl rfl rfl
  · refine zw_invV (pc := 11) (M' := M_X1_feed) (A := [vI p1, vI p2, vI p3, vI p4, vI p5]) [vI (0 : Int32), vR p6] dX0_feed_11 (Or.inl q561) mf_X1_feed q563 (zkq e4 rfl) (w_X1_feed e5) (Nat.le_of_ble_eq_true rfl) rfl (by rw [← e2]; rfl) (Nat.le_of_ble_eq_true rfl) zkv0 (zkx ?_)
    rcases zif H with ⟨c12, H⟩ | ⟨c12, H⟩
    · have c12 := c12
      refine zx_catch [] ⟨0, 16, 19, 13⟩ [] (zkq c12 rfl) rfl (fun _ hz => nomatch hz) rfl (by decide) q560 (by decide +kernel) ?_
      refine zw_astore (pc := 19) (lv' := [(7, vR (some q8)), (0, vR p0), (1, vI p1), (2, vI p2), (3, vI p3), (4, vI p4), (5, vI p5), (6, vR p6)]) dX0_feed_19 (by decide) rfl ?_
      refine zw_iconst (pc := 21) (v := (1 : Int32)) dX0_feed_21 (by decide) ?_
      obtain ⟨rfl, rfl⟩ := Prod.mk.inj (Option.some.inj H)
      exact zw_iret (pc := 22) dX0_feed_22 rfl rfl rfl
    cases H
def M_X0_truncate : zM := (yX0_truncate, cX0_truncate, 4, (.some .int), [(0, 9, 12, 19)])
theorem mf_X0_truncate : zMs M_X0_truncate 3 := ⟨⟨q597, q179, ⟨by decide +kernel, by decide +kernel⟩, by decide +kernel, by decide⟩, q596⟩
def f_X0_truncate (p0 : Option Nat) (p1 : Int32) (p2 : Option Nat) (h : zH) : Option (Int32 × zH) :=
  (zrv 1 p0 h).bind fun b1 =>
  zb3 (f_X1_truncate (some b1) p1 h) (fun x6 h7 =>
  (zsJ p2 (0 : Int32) x6.toInt64 h7).bind fun h10 =>
  some ((0 : Int32), h10))
  (fun q8 h9 =>
  if zk h9 q8 = 21 then
  some ((1 : Int32), h9)
  else none)
theorem w_X0_truncate {G : zG} {p0 : Option Nat} {p1 : Int32} {p2 : Option Nat} {h : zH} {vx : Int32} {vh : zH} (H : f_X0_truncate p0 p1 p2 h = some (vx, vh)) : zMet G M_X0_truncate 8 [vR p0, vI p1, vR p2] h (.inl (some (vI vx))) vh := by
  refine zMet.of (by decide +kernel) (Nat.le_of_ble_eq_true rfl) ?_
  show zW G M_X0_truncate 8 h (.inl (some (vI vx))) vh 0 [(0, vR p0), (1, vI p1), (2, vR p2)] [] h
  unfold f_X0_truncate at H
  refine zw_aload_n (pc := 0) dX0_truncate_0 rfl 2 rfl ?_
  refine zw_iconst (pc := 1) (v := (0 : Int32)) dX0_truncate_1 (by decide) ?_
  refine zw_aload_n (pc := 2) dX0_truncate_2 rfl 0 rfl ?_
  refine zw_iload_n (pc := 3) dX0_truncate_3 rfl 1 rfl ?_
  obtain ⟨b1, e3, H⟩ := zbind H
  obtain ⟨e2, e4⟩ := zrv_ok e3
  rcases zbind3 H with ⟨x6, h7, e5, H⟩ | ⟨q8, h9, e5, H⟩
  · refine zw_invV (pc := 4) (M' := M_X1_truncate) (A := [vI p1]) [vI (0 : Int32), vR p2] dX0_truncate_4 (Or.inl q599) mf_X1_truncate q601 (zkq e4 rfl) (w_X1_truncate e5) (Nat.le_of_ble_eq_true rfl) rfl (by rw [← e2]; rfl) (Nat.le_of_ble_eq_true rfl) (zkv ?_) zkn9
    refine zw_i2l (pc := 7) dX0_truncate_7 ?_
    obtain ⟨h10, e11, H⟩ := zbind H
    refine zy_last (pc := 8) dX0_truncate_8 e11 ?_
    refine zw_goto (pc := 9) (tgt := 15) dX0_truncate_9 rfl ?_
    refine zw_iconst (pc := 15) (v := (0 : Int32)) dX0_truncate_15 (by decide) ?_
    obtain ⟨rfl, rfl⟩ := Prod.mk.inj (Option.some.inj H)
    exact zw_iret (pc := 16) dX0_truncate_16 rfl rfl rfl
  · refine zw_invV (pc := 4) (M' := M_X1_truncate) (A := [vI p1]) [vI (0 : Int32), vR p2] dX0_truncate_4 (Or.inl q599) mf_X1_truncate q601 (zkq e4 rfl) (w_X1_truncate e5) (Nat.le_of_ble_eq_true rfl) rfl (by rw [← e2]; rfl) (Nat.le_of_ble_eq_true rfl) zkv0 (zkx ?_)
    rcases zif H with ⟨c12, H⟩ | ⟨c12, H⟩
    · have c12 := c12
      refine zx_catch [] ⟨0, 9, 12, 19⟩ [] (zkq c12 rfl) rfl (fun _ hz => nomatch hz) rfl (by decide) q598 (by decide +kernel) ?_
      refine zw_astore_n (pc := 12) (lv' := [(3, vR (some q8)), (0, vR p0), (1, vI p1), (2, vR p2)]) dX0_truncate_12 rfl (by decide) rfl ?_
      refine zw_iconst (pc := 13) (v := (1 : Int32)) dX0_truncate_13 (by decide) ?_
      obtain ⟨rfl, rfl⟩ := Prod.mk.inj (Option.some.inj H)
      exact zw_iret (pc := 14) dX0_truncate_14 rfl rfl rfl
    cases H
def M_X0_readText : zM := (yX0_readText, cX0_readText, 3, (.some .int), [(0, 8, 11, 19)])
theorem mf_X0_readText : zMs M_X0_readText 2 := ⟨⟨q624, q179, ⟨by decide +kernel, by decide +kernel⟩, by decide +kernel, by decide⟩, q623⟩
def f_X0_readText (p0 : Option Nat) (p1 : Option Nat) (h : zH) : Option (Int32 × zH) :=
  (zrv 1 p0 h).bind fun b1 =>
  zb3 (f_X1_readText (some b1) h) (fun x6 h7 =>
  (zsJ p1 (0 : Int32) x6.toInt64 h7).bind fun h10 =>
  some ((0 : Int32), h10))
  (fun q8 h9 =>
  if zk h9 q8 = 21 then
  some ((1 : Int32), h9)
  else none)
theorem w_X0_readText {G : zG} {p0 : Option Nat} {p1 : Option Nat} {h : zH} {vx : Int32} {vh : zH} (H : f_X0_readText p0 p1 h = some (vx, vh)) : zMet G M_X0_readText 213 [vR p0, vR p1] h (.inl (some (vI vx))) vh := by
  refine zMet.of (by decide +kernel) (Nat.le_of_ble_eq_true rfl) ?_
  show zW G M_X0_readText 213 h (.inl (some (vI vx))) vh 0 [(0, vR p0), (1, vR p1)] [] h
  unfold f_X0_readText at H
  refine zw_aload_n (pc := 0) dX0_readText_0 rfl 1 rfl ?_
  refine zw_iconst (pc := 1) (v := (0 : Int32)) dX0_readText_1 (by decide) ?_
  refine zw_aload_n (pc := 2) dX0_readText_2 rfl 0 rfl ?_
  obtain ⟨b1, e3, H⟩ := zbind H
  obtain ⟨e2, e4⟩ := zrv_ok e3
  rcases zbind3 H with ⟨x6, h7, e5, H⟩ | ⟨q8, h9, e5, H⟩
  · refine zw_invV (pc := 3) (M' := M_X1_readText) (A := []) [vI (0 : Int32), vR p1] dX0_readText_3 (Or.inl q625) mf_X1_readText q627 (zkq e4 rfl) (w_X1_readText e5) (Nat.le_of_ble_eq_true rfl) rfl (by rw [← e2]; rfl) (Nat.le_of_ble_eq_true rfl) (zkv ?_) zkn9
    refine zw_i2l (pc := 6) dX0_readText_6 ?_
    obtain ⟨h10, e11, H⟩ := zbind H
    refine zy_last (pc := 7) dX0_readText_7 e11 ?_
    refine zw_goto (pc := 8) (tgt := 14) dX0_readText_8 rfl ?_
    refine zw_iconst (pc := 14) (v := (0 : Int32)) dX0_readText_14 (by decide) ?_
    obtain ⟨rfl, rfl⟩ := Prod.mk.inj (Option.some.inj H)
    exact zw_iret (pc := 15) dX0_readText_15 rfl rfl rfl
  · refine zw_invV (pc := 3) (M' := M_X1_readText) (A := []) [vI (0 : Int32), vR p1] dX0_readText_3 (Or.inl q625) mf_X1_readText q627 (zkq e4 rfl) (w_X1_readText e5) (Nat.le_of_ble_eq_true rfl) rfl (by rw [← e2]; rfl) (Nat.le_of_ble_eq_true rfl) zkv0 (zkx ?_)
    rcases zif H with ⟨c12, H⟩ | ⟨c12, H⟩
    · have c12 := c12
      refine zx_catch [] ⟨0, 8, 11, 19⟩ [] (zkq c12 rfl) rfl (fun _ hz => nomatch hz) rfl (by decide) q598 (by decide +kernel) ?_
      refine zw_astore_n (pc := 11) (lv' := [(2, vR (some q8)), (0, vR p0), (1, vR p1)]) dX0_readText_11 rfl (by decide) rfl ?_
      refine zw_iconst (pc := 12) (v := (1 : Int32)) dX0_readText_12 (by decide) ?_
      obtain ⟨rfl, rfl⟩ := Prod.mk.inj (Option.some.inj H)
      exact zw_iret (pc := 13) dX0_readText_13 rfl rfl rfl
    cases H
def M_X0_runScript : zM := (yX0_runScript, cX0_runScript, 3, (.some .int), [(0, 8, 11, 19)])
theorem mf_X0_runScript : zMs M_X0_runScript 2 := ⟨⟨q1464, q179, ⟨by decide +kernel, by decide +kernel⟩, by decide +kernel, by decide⟩, q1463⟩
def f_X0_runScript (p0 : Option Nat) (p1 : Option Nat) (h : zH) : Option (Int32 × zH) :=
  (zrv 1 p0 h).bind fun b1 =>
  zb3 (f_X1_runScript (some b1) h) (fun x6 h7 =>
  (zsJ p1 (0 : Int32) x6.toInt64 h7).bind fun h10 =>
  some ((0 : Int32), h10))
  (fun q8 h9 =>
  if zk h9 q8 = 21 then
  some ((1 : Int32), h9)
  else none)
theorem w_X0_runScript {G : zG} {p0 : Option Nat} {p1 : Option Nat} {h : zH} {vx : Int32} {vh : zH} (H : f_X0_runScript p0 p1 h = some (vx, vh)) : zMet G M_X0_runScript 342 [vR p0, vR p1] h (.inl (some (vI vx))) vh := by
  refine zMet.of (by decide +kernel) (Nat.le_of_ble_eq_true rfl) ?_
  show zW G M_X0_runScript 342 h (.inl (some (vI vx))) vh 0 [(0, vR p0), (1, vR p1)] [] h
  unfold f_X0_runScript at H
  refine zw_aload_n (pc := 0) dX0_runScript_0 rfl 1 rfl ?_
  refine zw_iconst (pc := 1) (v := (0 : Int32)) dX0_runScript_1 (by decide) ?_
  refine zw_aload_n (pc := 2) dX0_runScript_2 rfl 0 rfl ?_
  obtain ⟨b1, e3, H⟩ := zbind H
  obtain ⟨e2, e4⟩ := zrv_ok e3
  rcases zbind3 H with ⟨x6, h7, e5, H⟩ | ⟨q8, h9, e5, H⟩
  · refine zw_invV (pc := 3) (M' := M_X1_runScript) (A := []) [vI (0 : Int32), vR p1] dX0_runScript_3 (Or.inl q1465) mf_X1_runScript q1467 (zkq e4 rfl) (w_X1_runScript e5) (Nat.le_of_ble_eq_true rfl) rfl (by rw [← e2]; rfl) (Nat.le_of_ble_eq_true rfl) (zkv ?_) zkn9
    refine zw_i2l (pc := 6) dX0_runScript_6 ?_
    obtain ⟨h10, e11, H⟩ := zbind H
    refine zy_last (pc := 7) dX0_runScript_7 e11 ?_
    refine zw_goto (pc := 8) (tgt := 14) dX0_runScript_8 rfl ?_
    refine zw_iconst (pc := 14) (v := (0 : Int32)) dX0_runScript_14 (by decide) ?_
    obtain ⟨rfl, rfl⟩ := Prod.mk.inj (Option.some.inj H)
    exact zw_iret (pc := 15) dX0_runScript_15 rfl rfl rfl
  · refine zw_invV (pc := 3) (M' := M_X1_runScript) (A := []) [vI (0 : Int32), vR p1] dX0_runScript_3 (Or.inl q1465) mf_X1_runScript q1467 (zkq e4 rfl) (w_X1_runScript e5) (Nat.le_of_ble_eq_true rfl) rfl (by rw [← e2]; rfl) (Nat.le_of_ble_eq_true rfl) zkv0 (zkx ?_)
    rcases zif H with ⟨c12, H⟩ | ⟨c12, H⟩
    · have c12 := c12
      refine zx_catch [] ⟨0, 8, 11, 19⟩ [] (zkq c12 rfl) rfl (fun _ hz => nomatch hz) rfl (by decide) q598 (by decide +kernel) ?_
      refine zw_astore_n (pc := 11) (lv' := [(2, vR (some q8)), (0, vR p0), (1, vR p1)]) dX0_runScript_11 rfl (by decide) rfl ?_
      refine zw_iconst (pc := 12) (v := (1 : Int32)) dX0_runScript_12 (by decide) ?_
      obtain ⟨rfl, rfl⟩ := Prod.mk.inj (Option.some.inj H)
      exact zw_iret (pc := 13) dX0_runScript_13 rfl rfl rfl
    cases H
def M_X0_rowCount : zM := (yX0_rowCount, cX0_rowCount, 4, (.some .int), [(0, 9, 12, 31)])
theorem mf_X0_rowCount : zMs M_X0_rowCount 3 := ⟨⟨q1718, q179, ⟨by decide +kernel, by decide +kernel⟩, by decide +kernel, by decide⟩, q1717⟩
def f_X0_rowCount (p0 : Option Nat) (p1 : Int32) (p2 : Option Nat) (h : zH) : Option (Int32 × zH) :=
  (zrv 1 p0 h).bind fun b1 =>
  zb3 (f_X1_rowCount (some b1) p1 h) (fun x6 h7 =>
  (zsJ p2 (0 : Int32) x6.toInt64 h7).bind fun h10 =>
  some ((0 : Int32), h10))
  (fun q8 h9 =>
  if zk h9 q8 = 20 then
  some ((1 : Int32), h9)
  else none)
theorem w_X0_rowCount {G : zG} {p0 : Option Nat} {p1 : Int32} {p2 : Option Nat} {h : zH} {vx : Int32} {vh : zH} (H : f_X0_rowCount p0 p1 p2 h = some (vx, vh)) : zMet G M_X0_rowCount 9 [vR p0, vI p1, vR p2] h (.inl (some (vI vx))) vh := by
  refine zMet.of (by decide +kernel) (Nat.le_of_ble_eq_true rfl) ?_
  show zW G M_X0_rowCount 9 h (.inl (some (vI vx))) vh 0 [(0, vR p0), (1, vI p1), (2, vR p2)] [] h
  unfold f_X0_rowCount at H
  refine zw_aload_n (pc := 0) dX0_rowCount_0 rfl 2 rfl ?_
  refine zw_iconst (pc := 1) (v := (0 : Int32)) dX0_rowCount_1 (by decide) ?_
  refine zw_aload_n (pc := 2) dX0_rowCount_2 rfl 0 rfl ?_
  refine zw_iload_n (pc := 3) dX0_rowCount_3 rfl 1 rfl ?_
  obtain ⟨b1, e3, H⟩ := zbind H
  obtain ⟨e2, e4⟩ := zrv_ok e3
  rcases zbind3 H with ⟨x6, h7, e5, H⟩ | ⟨q8, h9, e5, H⟩
  · refine zw_invV (pc := 4) (M' := M_X1_rowCount) (A := [vI p1]) [vI (0 : Int32), vR p2] dX0_rowCount_4 (Or.inl q1720) mf_X1_rowCount q1722 (zkq e4 rfl) (w_X1_rowCount e5) (Nat.le_of_ble_eq_true rfl) rfl (by rw [← e2]; rfl) (Nat.le_of_ble_eq_true rfl) (zkv ?_) zkn9
    refine zw_i2l (pc := 7) dX0_rowCount_7 ?_
    obtain ⟨h10, e11, H⟩ := zbind H
    refine zy_last (pc := 8) dX0_rowCount_8 e11 ?_
    refine zw_goto (pc := 9) (tgt := 15) dX0_rowCount_9 rfl ?_
    refine zw_iconst (pc := 15) (v := (0 : Int32)) dX0_rowCount_15 (by decide) ?_
    obtain ⟨rfl, rfl⟩ := Prod.mk.inj (Option.some.inj H)
    exact zw_iret (pc := 16) dX0_rowCount_16 rfl rfl rfl
  · refine zw_invV (pc := 4) (M' := M_X1_rowCount) (A := [vI p1]) [vI (0 : Int32), vR p2] dX0_rowCount_4 (Or.inl q1720) mf_X1_rowCount q1722 (zkq e4 rfl) (w_X1_rowCount e5) (Nat.le_of_ble_eq_true rfl) rfl (by rw [← e2]; rfl) (Nat.le_of_ble_eq_true rfl) zkv0 (zkx ?_)
    rcases zif H with ⟨c12, H⟩ | ⟨c12, H⟩
    · have c12 := c12
      refine zx_catch [] ⟨0, 9, 12, 31⟩ [] (zkq c12 rfl) rfl (fun _ hz => nomatch hz) rfl (by decide) q1719 (by decide +kernel) ?_
      refine zw_astore_n (pc := 12) (lv' := [(3, vR (some q8)), (0, vR p0), (1, vI p1), (2, vR p2)]) dX0_rowCount_12 rfl (by decide) rfl ?_
      refine zw_iconst (pc := 13) (v := (1 : Int32)) dX0_rowCount_13 (by decide) ?_
      obtain ⟨rfl, rfl⟩ := Prod.mk.inj (Option.some.inj H)
      exact zw_iret (pc := 14) dX0_rowCount_14 rfl rfl rfl
    cases H
def M_X0_columnCount : zM := (yX0_columnCount, cX0_columnCount, 4, (.some .int), [(0, 9, 12, 31)])
theorem mf_X0_columnCount : zMs M_X0_columnCount 3 := ⟨⟨q1726, q179, ⟨by decide +kernel, by decide +kernel⟩, by decide +kernel, by decide⟩, q1725⟩
def f_X0_columnCount (p0 : Option Nat) (p1 : Int32) (p2 : Option Nat) (h : zH) : Option (Int32 × zH) :=
  (zrv 1 p0 h).bind fun b1 =>
  zb3 (f_X1_columnCount (some b1) p1 h) (fun x6 h7 =>
  (zsJ p2 (0 : Int32) x6.toInt64 h7).bind fun h10 =>
  some ((0 : Int32), h10))
  (fun q8 h9 =>
  if zk h9 q8 = 20 then
  some ((1 : Int32), h9)
  else none)
theorem w_X0_columnCount {G : zG} {p0 : Option Nat} {p1 : Int32} {p2 : Option Nat} {h : zH} {vx : Int32} {vh : zH} (H : f_X0_columnCount p0 p1 p2 h = some (vx, vh)) : zMet G M_X0_columnCount 9 [vR p0, vI p1, vR p2] h (.inl (some (vI vx))) vh := by
  refine zMet.of (by decide +kernel) (Nat.le_of_ble_eq_true rfl) ?_
  show zW G M_X0_columnCount 9 h (.inl (some (vI vx))) vh 0 [(0, vR p0), (1, vI p1), (2, vR p2)] [] h
  unfold f_X0_columnCount at H
  refine zw_aload_n (pc := 0) dX0_columnCount_0 rfl 2 rfl ?_
  refine zw_iconst (pc := 1) (v := (0 : Int32)) dX0_columnCount_1 (by decide) ?_
  refine zw_aload_n (pc := 2) dX0_columnCount_2 rfl 0 rfl ?_
  refine zw_iload_n (pc := 3) dX0_columnCount_3 rfl 1 rfl ?_
  obtain ⟨b1, e3, H⟩ := zbind H
  obtain ⟨e2, e4⟩ := zrv_ok e3
  rcases zbind3 H with ⟨x6, h7, e5, H⟩ | ⟨q8, h9, e5, H⟩
  · refine zw_invV (pc := 4) (M' := M_X1_columnCount) (A := [vI p1]) [vI (0 : Int32), vR p2] dX0_columnCount_4 (Or.inl q1727) mf_X1_columnCount q1729 (zkq e4 rfl) (w_X1_columnCount e5) (Nat.le_of_ble_eq_true rfl) rfl (by rw [← e2]; rfl) (Nat.le_of_ble_eq_true rfl) (zkv ?_) zkn9
    refine zw_i2l (pc := 7) dX0_columnCount_7 ?_
    obtain ⟨h10, e11, H⟩ := zbind H
    refine zy_last (pc := 8) dX0_columnCount_8 e11 ?_
    refine zw_goto (pc := 9) (tgt := 15) dX0_columnCount_9 rfl ?_
    refine zw_iconst (pc := 15) (v := (0 : Int32)) dX0_columnCount_15 (by decide) ?_
    obtain ⟨rfl, rfl⟩ := Prod.mk.inj (Option.some.inj H)
    exact zw_iret (pc := 16) dX0_columnCount_16 rfl rfl rfl
  · refine zw_invV (pc := 4) (M' := M_X1_columnCount) (A := [vI p1]) [vI (0 : Int32), vR p2] dX0_columnCount_4 (Or.inl q1727) mf_X1_columnCount q1729 (zkq e4 rfl) (w_X1_columnCount e5) (Nat.le_of_ble_eq_true rfl) rfl (by rw [← e2]; rfl) (Nat.le_of_ble_eq_true rfl) zkv0 (zkx ?_)
    rcases zif H with ⟨c12, H⟩ | ⟨c12, H⟩
    · have c12 := c12
      refine zx_catch [] ⟨0, 9, 12, 31⟩ [] (zkq c12 rfl) rfl (fun _ hz => nomatch hz) rfl (by decide) q1719 (by decide +kernel) ?_
      refine zw_astore_n (pc := 12) (lv' := [(3, vR (some q8)), (0, vR p0), (1, vI p1), (2, vR p2)]) dX0_columnCount_12 rfl (by decide) rfl ?_
      refine zw_iconst (pc := 13) (v := (1 : Int32)) dX0_columnCount_13 (by decide) ?_
      obtain ⟨rfl, rfl⟩ := Prod.mk.inj (Option.some.inj H)
      exact zw_iret (pc := 14) dX0_columnCount_14 rfl rfl rfl
    cases H
def M_X0_storedCount : zM := (yX0_storedCount, cX0_storedCount, 4, (.some .int), [(0, 9, 12, 31)])
theorem mf_X0_storedCount : zMs M_X0_storedCount 3 := ⟨⟨q1733, q179, ⟨by decide +kernel, by decide +kernel⟩, by decide +kernel, by decide⟩, q1732⟩
def f_X0_storedCount (p0 : Option Nat) (p1 : Int32) (p2 : Option Nat) (h : zH) : Option (Int32 × zH) :=
  (zrv 1 p0 h).bind fun b1 =>
  zb3 (f_X1_storedCount (some b1) p1 h) (fun x6 h7 =>
  (zsJ p2 (0 : Int32) x6.toInt64 h7).bind fun h10 =>
  some ((0 : Int32), h10))
  (fun q8 h9 =>
  if zk h9 q8 = 20 then
  some ((1 : Int32), h9)
  else none)
theorem w_X0_storedCount {G : zG} {p0 : Option Nat} {p1 : Int32} {p2 : Option Nat} {h : zH} {vx : Int32} {vh : zH} (H : f_X0_storedCount p0 p1 p2 h = some (vx, vh)) : zMet G M_X0_storedCount 9 [vR p0, vI p1, vR p2] h (.inl (some (vI vx))) vh := by
  refine zMet.of (by decide +kernel) (Nat.le_of_ble_eq_true rfl) ?_
  show zW G M_X0_storedCount 9 h (.inl (some (vI vx))) vh 0 [(0, vR p0), (1, vI p1), (2, vR p2)] [] h
  unfold f_X0_storedCount at H
  refine zw_aload_n (pc := 0) dX0_storedCount_0 rfl 2 rfl ?_
  refine zw_iconst (pc := 1) (v := (0 : Int32)) dX0_storedCount_1 (by decide) ?_
  refine zw_aload_n (pc := 2) dX0_storedCount_2 rfl 0 rfl ?_
  refine zw_iload_n (pc := 3) dX0_storedCount_3 rfl 1 rfl ?_
  obtain ⟨b1, e3, H⟩ := zbind H
  obtain ⟨e2, e4⟩ := zrv_ok e3
  rcases zbind3 H with ⟨x6, h7, e5, H⟩ | ⟨q8, h9, e5, H⟩
  · refine zw_invV (pc := 4) (M' := M_X1_storedCount) (A := [vI p1]) [vI (0 : Int32), vR p2] dX0_storedCount_4 (Or.inl q1734) mf_X1_storedCount q1736 (zkq e4 rfl) (w_X1_storedCount e5) (Nat.le_of_ble_eq_true rfl) rfl (by rw [← e2]; rfl) (Nat.le_of_ble_eq_true rfl) (zkv ?_) zkn9
    refine zw_i2l (pc := 7) dX0_storedCount_7 ?_
    obtain ⟨h10, e11, H⟩ := zbind H
    refine zy_last (pc := 8) dX0_storedCount_8 e11 ?_
    refine zw_goto (pc := 9) (tgt := 15) dX0_storedCount_9 rfl ?_
    refine zw_iconst (pc := 15) (v := (0 : Int32)) dX0_storedCount_15 (by decide) ?_
    obtain ⟨rfl, rfl⟩ := Prod.mk.inj (Option.some.inj H)
    exact zw_iret (pc := 16) dX0_storedCount_16 rfl rfl rfl
  · refine zw_invV (pc := 4) (M' := M_X1_storedCount) (A := [vI p1]) [vI (0 : Int32), vR p2] dX0_storedCount_4 (Or.inl q1734) mf_X1_storedCount q1736 (zkq e4 rfl) (w_X1_storedCount e5) (Nat.le_of_ble_eq_true rfl) rfl (by rw [← e2]; rfl) (Nat.le_of_ble_eq_true rfl) zkv0 (zkx ?_)
    rcases zif H with ⟨c12, H⟩ | ⟨c12, H⟩
    · have c12 := c12
      refine zx_catch [] ⟨0, 9, 12, 31⟩ [] (zkq c12 rfl) rfl (fun _ hz => nomatch hz) rfl (by decide) q1719 (by decide +kernel) ?_
      refine zw_astore_n (pc := 12) (lv' := [(3, vR (some q8)), (0, vR p0), (1, vI p1), (2, vR p2)]) dX0_storedCount_12 rfl (by decide) rfl ?_
      refine zw_iconst (pc := 13) (v := (1 : Int32)) dX0_storedCount_13 (by decide) ?_
      obtain ⟨rfl, rfl⟩ := Prod.mk.inj (Option.some.inj H)
      exact zw_iret (pc := 14) dX0_storedCount_14 rfl rfl rfl
    cases H
def M_X0_rowPointer : zM := (yX0_rowPointer, cX0_rowPointer, 5, (.some .int), [(0, 10, 13, 31)])
theorem mf_X0_rowPointer : zMs M_X0_rowPointer 4 := ⟨⟨q1740, q179, ⟨by decide +kernel, by decide +kernel⟩, by decide +kernel, by decide⟩, q1739⟩
def f_X0_rowPointer (p0 : Option Nat) (p1 : Int32) (p2 : Int32) (p3 : Option Nat) (h : zH) : Option (Int32 × zH) :=
  (zrv 1 p0 h).bind fun b1 =>
  zb3 (f_X1_rowPointer (some b1) p1 p2 h) (fun x6 h7 =>
  (zsJ p3 (0 : Int32) x6.toInt64 h7).bind fun h10 =>
  some ((0 : Int32), h10))
  (fun q8 h9 =>
  if zk h9 q8 = 20 then
  some ((1 : Int32), h9)
  else none)
theorem w_X0_rowPointer {G : zG} {p0 : Option Nat} {p1 : Int32} {p2 : Int32} {p3 : Option Nat} {h : zH} {vx : Int32} {vh : zH} (H : f_X0_rowPointer p0 p1 p2 p3 h = some (vx, vh)) : zMet G M_X0_rowPointer 9 [vR p0, vI p1, vI p2, vR p3] h (.inl (some (vI vx))) vh := by
  refine zMet.of (by decide +kernel) (Nat.le_of_ble_eq_true rfl) ?_
  show zW G M_X0_rowPointer 9 h (.inl (some (vI vx))) vh 0 [(0, vR p0), (1, vI p1), (2, vI p2), (3, vR p3)] [] h
  unfold f_X0_rowPointer at H
  refine zw_aload_n (pc := 0) dX0_rowPointer_0 rfl 3 rfl ?_
  refine zw_iconst (pc := 1) (v := (0 : Int32)) dX0_rowPointer_1 (by decide) ?_
  refine zw_aload_n (pc := 2) dX0_rowPointer_2 rfl 0 rfl ?_
  refine zw_iload_n (pc := 3) dX0_rowPointer_3 rfl 1 rfl ?_
  refine zw_iload_n (pc := 4) dX0_rowPointer_4 rfl 2 rfl ?_
  obtain ⟨b1, e3, H⟩ := zbind H
  obtain ⟨e2, e4⟩ := zrv_ok e3
  rcases zbind3 H with ⟨x6, h7, e5, H⟩ | ⟨q8, h9, e5, H⟩
  · refine zw_invV (pc := 5) (M' := M_X1_rowPointer) (A := [vI p1, vI p2]) [vI (0 : Int32), vR p3] dX0_rowPointer_5 (Or.inl q1741) mf_X1_rowPointer q1743 (zkq e4 rfl) (w_X1_rowPointer e5) (Nat.le_of_ble_eq_true rfl) rfl (by rw [← e2]; rfl) (Nat.le_of_ble_eq_true rfl) (zkv ?_) zkn9
    refine zw_i2l (pc := 8) dX0_rowPointer_8 ?_
    obtain ⟨h10, e11, H⟩ := zbind H
    refine zy_last (pc := 9) dX0_rowPointer_9 e11 ?_
    refine zw_goto (pc := 10) (tgt := 17) dX0_rowPointer_10 rfl ?_
    refine zw_iconst (pc := 17) (v := (0 : Int32)) dX0_rowPointer_17 (by decide) ?_
    obtain ⟨rfl, rfl⟩ := Prod.mk.inj (Option.some.inj H)
    exact zw_iret (pc := 18) dX0_rowPointer_18 rfl rfl rfl
  · refine zw_invV (pc := 5) (M' := M_X1_rowPointer) (A := [vI p1, vI p2]) [vI (0 : Int32), vR p3] dX0_rowPointer_5 (Or.inl q1741) mf_X1_rowPointer q1743 (zkq e4 rfl) (w_X1_rowPointer e5) (Nat.le_of_ble_eq_true rfl) rfl (by rw [← e2]; rfl) (Nat.le_of_ble_eq_true rfl) zkv0 (zkx ?_)
    rcases zif H with ⟨c12, H⟩ | ⟨c12, H⟩
    · have c12 := c12
      refine zx_catch [] ⟨0, 10, 13, 31⟩ [] (zkq c12 rfl) rfl (fun _ hz => nomatch hz) rfl (by decide) q1719 (by decide +kernel) ?_
      refine zw_astore (pc := 13) (lv' := [(4, vR (some q8)), (0, vR p0), (1, vI p1), (2, vI p2), (3, vR p3)]) dX0_rowPointer_13 (by decide) rfl ?_
      refine zw_iconst (pc := 15) (v := (1 : Int32)) dX0_rowPointer_15 (by decide) ?_
      obtain ⟨rfl, rfl⟩ := Prod.mk.inj (Option.some.inj H)
      exact zw_iret (pc := 16) dX0_rowPointer_16 rfl rfl rfl
    cases H
def M_X0_columnIndex : zM := (yX0_columnIndex, cX0_columnIndex, 5, (.some .int), [(0, 10, 13, 31)])
theorem mf_X0_columnIndex : zMs M_X0_columnIndex 4 := ⟨⟨q1747, q179, ⟨by decide +kernel, by decide +kernel⟩, by decide +kernel, by decide⟩, q1746⟩
def f_X0_columnIndex (p0 : Option Nat) (p1 : Int32) (p2 : Int32) (p3 : Option Nat) (h : zH) : Option (Int32 × zH) :=
  (zrv 1 p0 h).bind fun b1 =>
  zb3 (f_X1_columnIndex (some b1) p1 p2 h) (fun x6 h7 =>
  (zsJ p3 (0 : Int32) x6.toInt64 h7).bind fun h10 =>
  some ((0 : Int32), h10))
  (fun q8 h9 =>
  if zk h9 q8 = 20 then
  some ((1 : Int32), h9)
  else none)
theorem w_X0_columnIndex {G : zG} {p0 : Option Nat} {p1 : Int32} {p2 : Int32} {p3 : Option Nat} {h : zH} {vx : Int32} {vh : zH} (H : f_X0_columnIndex p0 p1 p2 p3 h = some (vx, vh)) : zMet G M_X0_columnIndex 10 [vR p0, vI p1, vI p2, vR p3] h (.inl (some (vI vx))) vh := by
  refine zMet.of (by decide +kernel) (Nat.le_of_ble_eq_true rfl) ?_
  show zW G M_X0_columnIndex 10 h (.inl (some (vI vx))) vh 0 [(0, vR p0), (1, vI p1), (2, vI p2), (3, vR p3)] [] h
  unfold f_X0_columnIndex at H
  refine zw_aload_n (pc := 0) dX0_columnIndex_0 rfl 3 rfl ?_
  refine zw_iconst (pc := 1) (v := (0 : Int32)) dX0_columnIndex_1 (by decide) ?_
  refine zw_aload_n (pc := 2) dX0_columnIndex_2 rfl 0 rfl ?_
  refine zw_iload_n (pc := 3) dX0_columnIndex_3 rfl 1 rfl ?_
  refine zw_iload_n (pc := 4) dX0_columnIndex_4 rfl 2 rfl ?_
  obtain ⟨b1, e3, H⟩ := zbind H
  obtain ⟨e2, e4⟩ := zrv_ok e3
  rcases zbind3 H with ⟨x6, h7, e5, H⟩ | ⟨q8, h9, e5, H⟩
  · refine zw_invV (pc := 5) (M' := M_X1_columnIndex) (A := [vI p1, vI p2]) [vI (0 : Int32), vR p3] dX0_columnIndex_5 (Or.inl q1748) mf_X1_columnIndex q1750 (zkq e4 rfl) (w_X1_columnIndex e5) (Nat.le_of_ble_eq_true rfl) rfl (by rw [← e2]; rfl) (Nat.le_of_ble_eq_true rfl) (zkv ?_) zkn9
    refine zw_i2l (pc := 8) dX0_columnIndex_8 ?_
    obtain ⟨h10, e11, H⟩ := zbind H
    refine zy_last (pc := 9) dX0_columnIndex_9 e11 ?_
    refine zw_goto (pc := 10) (tgt := 17) dX0_columnIndex_10 rfl ?_
    refine zw_iconst (pc := 17) (v := (0 : Int32)) dX0_columnIndex_17 (by decide) ?_
    obtain ⟨rfl, rfl⟩ := Prod.mk.inj (Option.some.inj H)
    exact zw_iret (pc := 18) dX0_columnIndex_18 rfl rfl rfl
  · refine zw_invV (pc := 5) (M' := M_X1_columnIndex) (A := [vI p1, vI p2]) [vI (0 : Int32), vR p3] dX0_columnIndex_5 (Or.inl q1748) mf_X1_columnIndex q1750 (zkq e4 rfl) (w_X1_columnIndex e5) (Nat.le_of_ble_eq_true rfl) rfl (by rw [← e2]; rfl) (Nat.le_of_ble_eq_true rfl) zkv0 (zkx ?_)
    rcases zif H with ⟨c12, H⟩ | ⟨c12, H⟩
    · have c12 := c12
      refine zx_catch [] ⟨0, 10, 13, 31⟩ [] (zkq c12 rfl) rfl (fun _ hz => nomatch hz) rfl (by decide) q1719 (by decide +kernel) ?_
      refine zw_astore (pc := 13) (lv' := [(4, vR (some q8)), (0, vR p0), (1, vI p1), (2, vI p2), (3, vR p3)]) dX0_columnIndex_13 (by decide) rfl ?_
      refine zw_iconst (pc := 15) (v := (1 : Int32)) dX0_columnIndex_15 (by decide) ?_
      obtain ⟨rfl, rfl⟩ := Prod.mk.inj (Option.some.inj H)
      exact zw_iret (pc := 16) dX0_columnIndex_16 rfl rfl rfl
    cases H
def M_X0_storedValue : zM := (yX0_storedValue, cX0_storedValue, 5, (.some .int), [(0, 10, 13, 31)])
theorem mf_X0_storedValue : zMs M_X0_storedValue 4 := ⟨⟨q1758, q179, ⟨by decide +kernel, by decide +kernel⟩, by decide +kernel, by decide⟩, q1757⟩
def f_X0_storedValue (p0 : Option Nat) (p1 : Int32) (p2 : Int32) (p3 : Option Nat) (h : zH) : Option (Int32 × zH) :=
  (zrv 1 p0 h).bind fun b1 =>
  zb3 (f_X1_storedValue (some b1) p1 p2 h) (fun x6 h7 =>
  (zsJ p3 (0 : Int32) x6.toInt64 h7).bind fun h10 =>
  some ((0 : Int32), h10))
  (fun q8 h9 =>
  if zk h9 q8 = 20 then
  some ((1 : Int32), h9)
  else none)
theorem w_X0_storedValue {G : zG} {p0 : Option Nat} {p1 : Int32} {p2 : Int32} {p3 : Option Nat} {h : zH} {vx : Int32} {vh : zH} (H : f_X0_storedValue p0 p1 p2 p3 h = some (vx, vh)) : zMet G M_X0_storedValue 10 [vR p0, vI p1, vI p2, vR p3] h (.inl (some (vI vx))) vh := by
  refine zMet.of (by decide +kernel) (Nat.le_of_ble_eq_true rfl) ?_
  show zW G M_X0_storedValue 10 h (.inl (some (vI vx))) vh 0 [(0, vR p0), (1, vI p1), (2, vI p2), (3, vR p3)] [] h
  unfold f_X0_storedValue at H
  refine zw_aload_n (pc := 0) dX0_storedValue_0 rfl 3 rfl ?_
  refine zw_iconst (pc := 1) (v := (0 : Int32)) dX0_storedValue_1 (by decide) ?_
  refine zw_aload_n (pc := 2) dX0_storedValue_2 rfl 0 rfl ?_
  refine zw_iload_n (pc := 3) dX0_storedValue_3 rfl 1 rfl ?_
  refine zw_iload_n (pc := 4) dX0_storedValue_4 rfl 2 rfl ?_
  obtain ⟨b1, e3, H⟩ := zbind H
  obtain ⟨e2, e4⟩ := zrv_ok e3
  rcases zbind3 H with ⟨x6, h7, e5, H⟩ | ⟨q8, h9, e5, H⟩
  · refine zw_invV (pc := 5) (M' := M_X1_storedValue) (A := [vI p1, vI p2]) [vI (0 : Int32), vR p3] dX0_storedValue_5 (Or.inl q1759) mf_X1_storedValue q1761 (zkq e4 rfl) (w_X1_storedValue e5) (Nat.le_of_ble_eq_true rfl) rfl (by rw [← e2]; rfl) (Nat.le_of_ble_eq_true rfl) (zkv ?_) zkn9
    refine zw_i2l (pc := 8) dX0_storedValue_8 ?_
    obtain ⟨h10, e11, H⟩ := zbind H
    refine zy_last (pc := 9) dX0_storedValue_9 e11 ?_
    refine zw_goto (pc := 10) (tgt := 17) dX0_storedValue_10 rfl ?_
    refine zw_iconst (pc := 17) (v := (0 : Int32)) dX0_storedValue_17 (by decide) ?_
    obtain ⟨rfl, rfl⟩ := Prod.mk.inj (Option.some.inj H)
    exact zw_iret (pc := 18) dX0_storedValue_18 rfl rfl rfl
  · refine zw_invV (pc := 5) (M' := M_X1_storedValue) (A := [vI p1, vI p2]) [vI (0 : Int32), vR p3] dX0_storedValue_5 (Or.inl q1759) mf_X1_storedValue q1761 (zkq e4 rfl) (w_X1_storedValue e5) (Nat.le_of_ble_eq_true rfl) rfl (by rw [← e2]; rfl) (Nat.le_of_ble_eq_true rfl) zkv0 (zkx ?_)
    rcases zif H with ⟨c12, H⟩ | ⟨c12, H⟩
    · have c12 := c12
      refine zx_catch [] ⟨0, 10, 13, 31⟩ [] (zkq c12 rfl) rfl (fun _ hz => nomatch hz) rfl (by decide) q1719 (by decide +kernel) ?_
      refine zw_astore (pc := 13) (lv' := [(4, vR (some q8)), (0, vR p0), (1, vI p1), (2, vI p2), (3, vR p3)]) dX0_storedValue_13 (by decide) rfl ?_
      refine zw_iconst (pc := 15) (v := (1 : Int32)) dX0_storedValue_15 (by decide) ?_
      obtain ⟨rfl, rfl⟩ := Prod.mk.inj (Option.some.inj H)
      exact zw_iret (pc := 16) dX0_storedValue_16 rfl rfl rfl
    cases H
def M_X0_rowOf : zM := (yX0_rowOf, cX0_rowOf, 5, (.some .int), [(0, 10, 13, 31)])
theorem mf_X0_rowOf : zMs M_X0_rowOf 4 := ⟨⟨q1765, q179, ⟨by decide +kernel, by decide +kernel⟩, by decide +kernel, by decide⟩, q1764⟩
def f_X0_rowOf (p0 : Option Nat) (p1 : Int32) (p2 : Int32) (p3 : Option Nat) (h : zH) : Option (Int32 × zH) :=
  (zrv 1 p0 h).bind fun b1 =>
  zb3 (f_X1_rowOf (some b1) p1 p2 h) (fun x6 h7 =>
  (zsJ p3 (0 : Int32) x6.toInt64 h7).bind fun h10 =>
  some ((0 : Int32), h10))
  (fun q8 h9 =>
  if zk h9 q8 = 20 then
  some ((1 : Int32), h9)
  else none)
theorem w_X0_rowOf {G : zG} {p0 : Option Nat} {p1 : Int32} {p2 : Int32} {p3 : Option Nat} {h : zH} {vx : Int32} {vh : zH} (H : f_X0_rowOf p0 p1 p2 p3 h = some (vx, vh)) : zMet G M_X0_rowOf 10 [vR p0, vI p1, vI p2, vR p3] h (.inl (some (vI vx))) vh := by
  refine zMet.of (by decide +kernel) (Nat.le_of_ble_eq_true rfl) ?_
  show zW G M_X0_rowOf 10 h (.inl (some (vI vx))) vh 0 [(0, vR p0), (1, vI p1), (2, vI p2), (3, vR p3)] [] h
  unfold f_X0_rowOf at H
  refine zw_aload_n (pc := 0) dX0_rowOf_0 rfl 3 rfl ?_
  refine zw_iconst (pc := 1) (v := (0 : Int32)) dX0_rowOf_1 (by decide) ?_
  refine zw_aload_n (pc := 2) dX0_rowOf_2 rfl 0 rfl ?_
  refine zw_iload_n (pc := 3) dX0_rowOf_3 rfl 1 rfl ?_
  refine zw_iload_n (pc := 4) dX0_rowOf_4 rfl 2 rfl ?_
  obtain ⟨b1, e3, H⟩ := zbind H
  obtain ⟨e2, e4⟩ := zrv_ok e3
  rcases zbind3 H with ⟨x6, h7, e5, H⟩ | ⟨q8, h9, e5, H⟩
  · refine zw_invV (pc := 5) (M' := M_X1_rowOf) (A := [vI p1, vI p2]) [vI (0 : Int32), vR p3] dX0_rowOf_5 (Or.inl q1766) mf_X1_rowOf q1768 (zkq e4 rfl) (w_X1_rowOf e5) (Nat.le_of_ble_eq_true rfl) rfl (by rw [← e2]; rfl) (Nat.le_of_ble_eq_true rfl) (zkv ?_) zkn9
    refine zw_i2l (pc := 8) dX0_rowOf_8 ?_
    obtain ⟨h10, e11, H⟩ := zbind H
    refine zy_last (pc := 9) dX0_rowOf_9 e11 ?_
    refine zw_goto (pc := 10) (tgt := 17) dX0_rowOf_10 rfl ?_
    refine zw_iconst (pc := 17) (v := (0 : Int32)) dX0_rowOf_17 (by decide) ?_
    obtain ⟨rfl, rfl⟩ := Prod.mk.inj (Option.some.inj H)
    exact zw_iret (pc := 18) dX0_rowOf_18 rfl rfl rfl
  · refine zw_invV (pc := 5) (M' := M_X1_rowOf) (A := [vI p1, vI p2]) [vI (0 : Int32), vR p3] dX0_rowOf_5 (Or.inl q1766) mf_X1_rowOf q1768 (zkq e4 rfl) (w_X1_rowOf e5) (Nat.le_of_ble_eq_true rfl) rfl (by rw [← e2]; rfl) (Nat.le_of_ble_eq_true rfl) zkv0 (zkx ?_)
    rcases zif H with ⟨c12, H⟩ | ⟨c12, H⟩
    · have c12 := c12
      refine zx_catch [] ⟨0, 10, 13, 31⟩ [] (zkq c12 rfl) rfl (fun _ hz => nomatch hz) rfl (by decide) q1719 (by decide +kernel) ?_
      refine zw_astore (pc := 13) (lv' := [(4, vR (some q8)), (0, vR p0), (1, vI p1), (2, vI p2), (3, vR p3)]) dX0_rowOf_13 (by decide) rfl ?_
      refine zw_iconst (pc := 15) (v := (1 : Int32)) dX0_rowOf_15 (by decide) ?_
      obtain ⟨rfl, rfl⟩ := Prod.mk.inj (Option.some.inj H)
      exact zw_iret (pc := 16) dX0_rowOf_16 rfl rfl rfl
    cases H
def M_X0_value : zM := (yX0_value, cX0_value, 6, (.some .int), [(0, 12, 15, 31)])
theorem mf_X0_value : zMs M_X0_value 5 := ⟨⟨q1776, q179, ⟨by decide +kernel, by decide +kernel⟩, by decide +kernel, by decide⟩, q1775⟩
def f_X0_value (p0 : Option Nat) (p1 : Int32) (p2 : Int32) (p3 : Int32) (p4 : Option Nat) (h : zH) : Option (Int32 × zH) :=
  (zrv 1 p0 h).bind fun b1 =>
  zb3 (f_X1_value (some b1) p1 p2 p3 h) (fun x6 h7 =>
  (zsJ p4 (0 : Int32) x6.toInt64 h7).bind fun h10 =>
  some ((0 : Int32), h10))
  (fun q8 h9 =>
  if zk h9 q8 = 20 then
  some ((1 : Int32), h9)
  else none)
theorem w_X0_value {G : zG} {p0 : Option Nat} {p1 : Int32} {p2 : Int32} {p3 : Int32} {p4 : Option Nat} {h : zH} {vx : Int32} {vh : zH} (H : f_X0_value p0 p1 p2 p3 p4 h = some (vx, vh)) : zMet G M_X0_value 11 [vR p0, vI p1, vI p2, vI p3, vR p4] h (.inl (some (vI vx))) vh := by
  refine zMet.of (by decide +kernel) (Nat.le_of_ble_eq_true rfl) ?_
  show zW G M_X0_value 11 h (.inl (some (vI vx))) vh 0 [(0, vR p0), (1, vI p1), (2, vI p2), (3, vI p3), (4, vR p4)] [] h
  unfold f_X0_value at H
  refine zw_aload (pc := 0) dX0_value_0 4 rfl ?_
  refine zw_iconst (pc := 2) (v := (0 : Int32)) dX0_value_2 (by decide) ?_
  refine zw_aload_n (pc := 3) dX0_value_3 rfl 0 rfl ?_
  refine zw_iload_n (pc := 4) dX0_value_4 rfl 1 rfl ?_
  refine zw_iload_n (pc := 5) dX0_value_5 rfl 2 rfl ?_
  refine zw_iload_n (pc := 6) dX0_value_6 rfl 3 rfl ?_
  obtain ⟨b1, e3, H⟩ := zbind H
  obtain ⟨e2, e4⟩ := zrv_ok e3
  rcases zbind3 H with ⟨x6, h7, e5, H⟩ | ⟨q8, h9, e5, H⟩
  · refine zw_invV (pc := 7) (M' := M_X1_value) (A := [vI p1, vI p2, vI p3]) [vI (0 : Int32), vR p4] dX0_value_7 (Or.inl q1777) mf_X1_value q1779 (zkq e4 rfl) (w_X1_value e5) (Nat.le_of_ble_eq_true rfl) rfl (by rw [← e2]; rfl) (Nat.le_of_ble_eq_true rfl) (zkv ?_) zkn9
    refine zw_i2l (pc := 10) dX0_value_10 ?_
    obtain ⟨h10, e11, H⟩ := zbind H
    refine zy_last (pc := 11) dX0_value_11 e11 ?_
    refine zw_goto (pc := 12) (tgt := 19) dX0_value_12 rfl ?_
    refine zw_iconst (pc := 19) (v := (0 : Int32)) dX0_value_19 (by decide) ?_
    obtain ⟨rfl, rfl⟩ := Prod.mk.inj (Option.some.inj H)
    exact zw_iret (pc := 20) dX0_value_20 rfl rfl rfl
  · refine zw_invV (pc := 7) (M' := M_X1_value) (A := [vI p1, vI p2, vI p3]) [vI (0 : Int32), vR p4] dX0_value_7 (Or.inl q1777) mf_X1_value q1779 (zkq e4 rfl) (w_X1_value e5) (Nat.le_of_ble_eq_true rfl) rfl (by rw [← e2]; rfl) (Nat.le_of_ble_eq_true rfl) zkv0 (zkx ?_)
    rcases zif H with ⟨c12, H⟩ | ⟨c12, H⟩
    · have c12 := c12
      refine zx_catch [] ⟨0, 12, 15, 31⟩ [] (zkq c12 rfl) rfl (fun _ hz => nomatch hz) rfl (by decide) q1719 (by decide +kernel) ?_
      refine zw_astore (pc := 15) (lv' := [(5, vR (some q8)), (0, vR p0), (1, vI p1), (2, vI p2), (3, vI p3), (4, vR p4)]) dX0_value_15 (by decide) rfl ?_
      refine zw_iconst (pc := 17) (v := (1 : Int32)) dX0_value_17 (by decide) ?_
      obtain ⟨rfl, rfl⟩ := Prod.mk.inj (Option.some.inj H)
      exact zw_iret (pc := 18) dX0_value_18 rfl rfl rfl
    cases H
def M_X0_storageIndex : zM := (yX0_storageIndex, cX0_storageIndex, 6, (.some .int), [(0, 12, 15, 31)])
theorem mf_X0_storageIndex : zMs M_X0_storageIndex 5 := ⟨⟨q1783, q179, ⟨by decide +kernel, by decide +kernel⟩, by decide +kernel, by decide⟩, q1782⟩
def f_X0_storageIndex (p0 : Option Nat) (p1 : Int32) (p2 : Int32) (p3 : Int32) (p4 : Option Nat) (h : zH) : Option (Int32 × zH) :=
  (zrv 1 p0 h).bind fun b1 =>
  zb3 (f_X1_storageIndex (some b1) p1 p2 p3 h) (fun x6 h7 =>
  (zsJ p4 (0 : Int32) x6.toInt64 h7).bind fun h10 =>
  some ((0 : Int32), h10))
  (fun q8 h9 =>
  if zk h9 q8 = 20 then
  some ((1 : Int32), h9)
  else none)
theorem w_X0_storageIndex {G : zG} {p0 : Option Nat} {p1 : Int32} {p2 : Int32} {p3 : Int32} {p4 : Option Nat} {h : zH} {vx : Int32} {vh : zH} (H : f_X0_storageIndex p0 p1 p2 p3 p4 h = some (vx, vh)) : zMet G M_X0_storageIndex 11 [vR p0, vI p1, vI p2, vI p3, vR p4] h (.inl (some (vI vx))) vh := by
  refine zMet.of (by decide +kernel) (Nat.le_of_ble_eq_true rfl) ?_
  show zW G M_X0_storageIndex 11 h (.inl (some (vI vx))) vh 0 [(0, vR p0), (1, vI p1), (2, vI p2), (3, vI p3), (4, vR p4)] [] h
  unfold f_X0_storageIndex at H
  refine zw_aload (pc := 0) dX0_storageIndex_0 4 rfl ?_
  refine zw_iconst (pc := 2) (v := (0 : Int32)) dX0_storageIndex_2 (by decide) ?_
  refine zw_aload_n (pc := 3) dX0_storageIndex_3 rfl 0 rfl ?_
  refine zw_iload_n (pc := 4) dX0_storageIndex_4 rfl 1 rfl ?_
  refine zw_iload_n (pc := 5) dX0_storageIndex_5 rfl 2 rfl ?_
  refine zw_iload_n (pc := 6) dX0_storageIndex_6 rfl 3 rfl ?_
  obtain ⟨b1, e3, H⟩ := zbind H
  obtain ⟨e2, e4⟩ := zrv_ok e3
  rcases zbind3 H with ⟨x6, h7, e5, H⟩ | ⟨q8, h9, e5, H⟩
  · refine zw_invV (pc := 7) (M' := M_X1_storageIndex) (A := [vI p1, vI p2, vI p3]) [vI (0 : Int32), vR p4] dX0_storageIndex_7 (Or.inl q1784) mf_X1_storageIndex q1786 (zkq e4 rfl) (w_X1_storageIndex e5) (Nat.le_of_ble_eq_true rfl) rfl (by rw [← e2]; rfl) (Nat.le_of_ble_eq_true rfl) (zkv ?_) zkn9
    refine zw_i2l (pc := 10) dX0_storageIndex_10 ?_
    obtain ⟨h10, e11, H⟩ := zbind H
    refine zy_last (pc := 11) dX0_storageIndex_11 e11 ?_
    refine zw_goto (pc := 12) (tgt := 19) dX0_storageIndex_12 rfl ?_
    refine zw_iconst (pc := 19) (v := (0 : Int32)) dX0_storageIndex_19 (by decide) ?_
    obtain ⟨rfl, rfl⟩ := Prod.mk.inj (Option.some.inj H)
    exact zw_iret (pc := 20) dX0_storageIndex_20 rfl rfl rfl
  · refine zw_invV (pc := 7) (M' := M_X1_storageIndex) (A := [vI p1, vI p2, vI p3]) [vI (0 : Int32), vR p4] dX0_storageIndex_7 (Or.inl q1784) mf_X1_storageIndex q1786 (zkq e4 rfl) (w_X1_storageIndex e5) (Nat.le_of_ble_eq_true rfl) rfl (by rw [← e2]; rfl) (Nat.le_of_ble_eq_true rfl) zkv0 (zkx ?_)
    rcases zif H with ⟨c12, H⟩ | ⟨c12, H⟩
    · have c12 := c12
      refine zx_catch [] ⟨0, 12, 15, 31⟩ [] (zkq c12 rfl) rfl (fun _ hz => nomatch hz) rfl (by decide) q1719 (by decide +kernel) ?_
      refine zw_astore (pc := 15) (lv' := [(5, vR (some q8)), (0, vR p0), (1, vI p1), (2, vI p2), (3, vI p3), (4, vR p4)]) dX0_storageIndex_15 (by decide) rfl ?_
      refine zw_iconst (pc := 17) (v := (1 : Int32)) dX0_storageIndex_17 (by decide) ?_
      obtain ⟨rfl, rfl⟩ := Prod.mk.inj (Option.some.inj H)
      exact zw_iret (pc := 18) dX0_storageIndex_18 rfl rfl rfl
    cases H
def M_X0_explicitZeros : zM := (yX0_explicitZeros, cX0_explicitZeros, 4, (.some .int), [(0, 9, 12, 31)])
theorem mf_X0_explicitZeros : zMs M_X0_explicitZeros 3 := ⟨⟨q1790, q179, ⟨by decide +kernel, by decide +kernel⟩, by decide +kernel, by decide⟩, q1789⟩
def f_X0_explicitZeros (p0 : Option Nat) (p1 : Int32) (p2 : Option Nat) (h : zH) : Option (Int32 × zH) :=
  (zrv 1 p0 h).bind fun b1 =>
  zb3 (f_X1_explicitZeros (some b1) p1 h) (fun x6 h7 =>
  (zsJ p2 (0 : Int32) x6.toInt64 h7).bind fun h10 =>
  some ((0 : Int32), h10))
  (fun q8 h9 =>
  if zk h9 q8 = 20 then
  some ((1 : Int32), h9)
  else none)
theorem w_X0_explicitZeros {G : zG} {p0 : Option Nat} {p1 : Int32} {p2 : Option Nat} {h : zH} {vx : Int32} {vh : zH} (H : f_X0_explicitZeros p0 p1 p2 h = some (vx, vh)) : zMet G M_X0_explicitZeros 9 [vR p0, vI p1, vR p2] h (.inl (some (vI vx))) vh := by
  refine zMet.of (by decide +kernel) (Nat.le_of_ble_eq_true rfl) ?_
  show zW G M_X0_explicitZeros 9 h (.inl (some (vI vx))) vh 0 [(0, vR p0), (1, vI p1), (2, vR p2)] [] h
  unfold f_X0_explicitZeros at H
  refine zw_aload_n (pc := 0) dX0_explicitZeros_0 rfl 2 rfl ?_
  refine zw_iconst (pc := 1) (v := (0 : Int32)) dX0_explicitZeros_1 (by decide) ?_
  refine zw_aload_n (pc := 2) dX0_explicitZeros_2 rfl 0 rfl ?_
  refine zw_iload_n (pc := 3) dX0_explicitZeros_3 rfl 1 rfl ?_
  obtain ⟨b1, e3, H⟩ := zbind H
  obtain ⟨e2, e4⟩ := zrv_ok e3
  rcases zbind3 H with ⟨x6, h7, e5, H⟩ | ⟨q8, h9, e5, H⟩
  · refine zw_invV (pc := 4) (M' := M_X1_explicitZeros) (A := [vI p1]) [vI (0 : Int32), vR p2] dX0_explicitZeros_4 (Or.inl q1791) mf_X1_explicitZeros q1793 (zkq e4 rfl) (w_X1_explicitZeros e5) (Nat.le_of_ble_eq_true rfl) rfl (by rw [← e2]; rfl) (Nat.le_of_ble_eq_true rfl) (zkv ?_) zkn9
    refine zw_i2l (pc := 7) dX0_explicitZeros_7 ?_
    obtain ⟨h10, e11, H⟩ := zbind H
    refine zy_last (pc := 8) dX0_explicitZeros_8 e11 ?_
    refine zw_goto (pc := 9) (tgt := 15) dX0_explicitZeros_9 rfl ?_
    refine zw_iconst (pc := 15) (v := (0 : Int32)) dX0_explicitZeros_15 (by decide) ?_
    obtain ⟨rfl, rfl⟩ := Prod.mk.inj (Option.some.inj H)
    exact zw_iret (pc := 16) dX0_explicitZeros_16 rfl rfl rfl
  · refine zw_invV (pc := 4) (M' := M_X1_explicitZeros) (A := [vI p1]) [vI (0 : Int32), vR p2] dX0_explicitZeros_4 (Or.inl q1791) mf_X1_explicitZeros q1793 (zkq e4 rfl) (w_X1_explicitZeros e5) (Nat.le_of_ble_eq_true rfl) rfl (by rw [← e2]; rfl) (Nat.le_of_ble_eq_true rfl) zkv0 (zkx ?_)
    rcases zif H with ⟨c12, H⟩ | ⟨c12, H⟩
    · have c12 := c12
      refine zx_catch [] ⟨0, 9, 12, 31⟩ [] (zkq c12 rfl) rfl (fun _ hz => nomatch hz) rfl (by decide) q1719 (by decide +kernel) ?_
      refine zw_astore_n (pc := 12) (lv' := [(3, vR (some q8)), (0, vR p0), (1, vI p1), (2, vR p2)]) dX0_explicitZeros_12 rfl (by decide) rfl ?_
      refine zw_iconst (pc := 13) (v := (1 : Int32)) dX0_explicitZeros_13 (by decide) ?_
      obtain ⟨rfl, rfl⟩ := Prod.mk.inj (Option.some.inj H)
      exact zw_iret (pc := 14) dX0_explicitZeros_14 rfl rfl rfl
    cases H
def M_X0_rowLength : zM := (yX0_rowLength, cX0_rowLength, 5, (.some .int), [(0, 10, 13, 31)])
theorem mf_X0_rowLength : zMs M_X0_rowLength 4 := ⟨⟨q1801, q179, ⟨by decide +kernel, by decide +kernel⟩, by decide +kernel, by decide⟩, q1800⟩
def f_X0_rowLength (p0 : Option Nat) (p1 : Int32) (p2 : Int32) (p3 : Option Nat) (h : zH) : Option (Int32 × zH) :=
  (zrv 1 p0 h).bind fun b1 =>
  zb3 (f_X1_rowLength (some b1) p1 p2 h) (fun x6 h7 =>
  (zsJ p3 (0 : Int32) x6.toInt64 h7).bind fun h10 =>
  some ((0 : Int32), h10))
  (fun q8 h9 =>
  if zk h9 q8 = 20 then
  some ((1 : Int32), h9)
  else none)
theorem w_X0_rowLength {G : zG} {p0 : Option Nat} {p1 : Int32} {p2 : Int32} {p3 : Option Nat} {h : zH} {vx : Int32} {vh : zH} (H : f_X0_rowLength p0 p1 p2 p3 h = some (vx, vh)) : zMet G M_X0_rowLength 10 [vR p0, vI p1, vI p2, vR p3] h (.inl (some (vI vx))) vh := by
  refine zMet.of (by decide +kernel) (Nat.le_of_ble_eq_true rfl) ?_
  show zW G M_X0_rowLength 10 h (.inl (some (vI vx))) vh 0 [(0, vR p0), (1, vI p1), (2, vI p2), (3, vR p3)] [] h
  unfold f_X0_rowLength at H
  refine zw_aload_n (pc := 0) dX0_rowLength_0 rfl 3 rfl ?_
  refine zw_iconst (pc := 1) (v := (0 : Int32)) dX0_rowLength_1 (by decide) ?_
  refine zw_aload_n (pc := 2) dX0_rowLength_2 rfl 0 rfl ?_
  refine zw_iload_n (pc := 3) dX0_rowLength_3 rfl 1 rfl ?_
  refine zw_iload_n (pc := 4) dX0_rowLength_4 rfl 2 rfl ?_
  obtain ⟨b1, e3, H⟩ := zbind H
  obtain ⟨e2, e4⟩ := zrv_ok e3
  rcases zbind3 H with ⟨x6, h7, e5, H⟩ | ⟨q8, h9, e5, H⟩
  · refine zw_invV (pc := 5) (M' := M_X1_rowLength) (A := [vI p1, vI p2]) [vI (0 : Int32), vR p3] dX0_rowLength_5 (Or.inl q1802) mf_X1_rowLength q1804 (zkq e4 rfl) (w_X1_rowLength e5) (Nat.le_of_ble_eq_true rfl) rfl (by rw [← e2]; rfl) (Nat.le_of_ble_eq_true rfl) (zkv ?_) zkn9
    refine zw_i2l (pc := 8) dX0_rowLength_8 ?_
    obtain ⟨h10, e11, H⟩ := zbind H
    refine zy_last (pc := 9) dX0_rowLength_9 e11 ?_
    refine zw_goto (pc := 10) (tgt := 17) dX0_rowLength_10 rfl ?_
    refine zw_iconst (pc := 17) (v := (0 : Int32)) dX0_rowLength_17 (by decide) ?_
    obtain ⟨rfl, rfl⟩ := Prod.mk.inj (Option.some.inj H)
    exact zw_iret (pc := 18) dX0_rowLength_18 rfl rfl rfl
  · refine zw_invV (pc := 5) (M' := M_X1_rowLength) (A := [vI p1, vI p2]) [vI (0 : Int32), vR p3] dX0_rowLength_5 (Or.inl q1802) mf_X1_rowLength q1804 (zkq e4 rfl) (w_X1_rowLength e5) (Nat.le_of_ble_eq_true rfl) rfl (by rw [← e2]; rfl) (Nat.le_of_ble_eq_true rfl) zkv0 (zkx ?_)
    rcases zif H with ⟨c12, H⟩ | ⟨c12, H⟩
    · have c12 := c12
      refine zx_catch [] ⟨0, 10, 13, 31⟩ [] (zkq c12 rfl) rfl (fun _ hz => nomatch hz) rfl (by decide) q1719 (by decide +kernel) ?_
      refine zw_astore (pc := 13) (lv' := [(4, vR (some q8)), (0, vR p0), (1, vI p1), (2, vI p2), (3, vR p3)]) dX0_rowLength_13 (by decide) rfl ?_
      refine zw_iconst (pc := 15) (v := (1 : Int32)) dX0_rowLength_15 (by decide) ?_
      obtain ⟨rfl, rfl⟩ := Prod.mk.inj (Option.some.inj H)
      exact zw_iret (pc := 16) dX0_rowLength_16 rfl rfl rfl
    cases H
def M_X0_columnLength : zM := (yX0_columnLength, cX0_columnLength, 5, (.some .int), [(0, 10, 13, 31)])
theorem mf_X0_columnLength : zMs M_X0_columnLength 4 := ⟨⟨q1808, q179, ⟨by decide +kernel, by decide +kernel⟩, by decide +kernel, by decide⟩, q1807⟩
def f_X0_columnLength (p0 : Option Nat) (p1 : Int32) (p2 : Int32) (p3 : Option Nat) (h : zH) : Option (Int32 × zH) :=
  (zrv 1 p0 h).bind fun b1 =>
  zb3 (f_X1_columnLength (some b1) p1 p2 h) (fun x6 h7 =>
  (zsJ p3 (0 : Int32) x6.toInt64 h7).bind fun h10 =>
  some ((0 : Int32), h10))
  (fun q8 h9 =>
  if zk h9 q8 = 20 then
  some ((1 : Int32), h9)
  else none)
theorem w_X0_columnLength {G : zG} {p0 : Option Nat} {p1 : Int32} {p2 : Int32} {p3 : Option Nat} {h : zH} {vx : Int32} {vh : zH} (H : f_X0_columnLength p0 p1 p2 p3 h = some (vx, vh)) : zMet G M_X0_columnLength 9 [vR p0, vI p1, vI p2, vR p3] h (.inl (some (vI vx))) vh := by
  refine zMet.of (by decide +kernel) (Nat.le_of_ble_eq_true rfl) ?_
  show zW G M_X0_columnLength 9 h (.inl (some (vI vx))) vh 0 [(0, vR p0), (1, vI p1), (2, vI p2), (3, vR p3)] [] h
  unfold f_X0_columnLength at H
  refine zw_aload_n (pc := 0) dX0_columnLength_0 rfl 3 rfl ?_
  refine zw_iconst (pc := 1) (v := (0 : Int32)) dX0_columnLength_1 (by decide) ?_
  refine zw_aload_n (pc := 2) dX0_columnLength_2 rfl 0 rfl ?_
  refine zw_iload_n (pc := 3) dX0_columnLength_3 rfl 1 rfl ?_
  refine zw_iload_n (pc := 4) dX0_columnLength_4 rfl 2 rfl ?_
  obtain ⟨b1, e3, H⟩ := zbind H
  obtain ⟨e2, e4⟩ := zrv_ok e3
  rcases zbind3 H with ⟨x6, h7, e5, H⟩ | ⟨q8, h9, e5, H⟩
  · refine zw_invV (pc := 5) (M' := M_X1_columnLength) (A := [vI p1, vI p2]) [vI (0 : Int32), vR p3] dX0_columnLength_5 (Or.inl q1809) mf_X1_columnLength q1811 (zkq e4 rfl) (w_X1_columnLength e5) (Nat.le_of_ble_eq_true rfl) rfl (by rw [← e2]; rfl) (Nat.le_of_ble_eq_true rfl) (zkv ?_) zkn9
    refine zw_i2l (pc := 8) dX0_columnLength_8 ?_
    obtain ⟨h10, e11, H⟩ := zbind H
    refine zy_last (pc := 9) dX0_columnLength_9 e11 ?_
    refine zw_goto (pc := 10) (tgt := 17) dX0_columnLength_10 rfl ?_
    refine zw_iconst (pc := 17) (v := (0 : Int32)) dX0_columnLength_17 (by decide) ?_
    obtain ⟨rfl, rfl⟩ := Prod.mk.inj (Option.some.inj H)
    exact zw_iret (pc := 18) dX0_columnLength_18 rfl rfl rfl
  · refine zw_invV (pc := 5) (M' := M_X1_columnLength) (A := [vI p1, vI p2]) [vI (0 : Int32), vR p3] dX0_columnLength_5 (Or.inl q1809) mf_X1_columnLength q1811 (zkq e4 rfl) (w_X1_columnLength e5) (Nat.le_of_ble_eq_true rfl) rfl (by rw [← e2]; rfl) (Nat.le_of_ble_eq_true rfl) zkv0 (zkx ?_)
    rcases zif H with ⟨c12, H⟩ | ⟨c12, H⟩
    · have c12 := c12
      refine zx_catch [] ⟨0, 10, 13, 31⟩ [] (zkq c12 rfl) rfl (fun _ hz => nomatch hz) rfl (by decide) q1719 (by decide +kernel) ?_
      refine zw_astore (pc := 13) (lv' := [(4, vR (some q8)), (0, vR p0), (1, vI p1), (2, vI p2), (3, vR p3)]) dX0_columnLength_13 (by decide) rfl ?_
      refine zw_iconst (pc := 15) (v := (1 : Int32)) dX0_columnLength_15 (by decide) ?_
      obtain ⟨rfl, rfl⟩ := Prod.mk.inj (Option.some.inj H)
      exact zw_iret (pc := 16) dX0_columnLength_16 rfl rfl rfl
    cases H
def M_X0_longestRow : zM := (yX0_longestRow, cX0_longestRow, 4, (.some .int), [(0, 9, 12, 31)])
theorem mf_X0_longestRow : zMs M_X0_longestRow 3 := ⟨⟨q1819, q179, ⟨by decide +kernel, by decide +kernel⟩, by decide +kernel, by decide⟩, q1818⟩
def f_X0_longestRow (p0 : Option Nat) (p1 : Int32) (p2 : Option Nat) (h : zH) : Option (Int32 × zH) :=
  (zrv 1 p0 h).bind fun b1 =>
  zb3 (f_X1_longestRow (some b1) p1 h) (fun x6 h7 =>
  (zsJ p2 (0 : Int32) x6.toInt64 h7).bind fun h10 =>
  some ((0 : Int32), h10))
  (fun q8 h9 =>
  if zk h9 q8 = 20 then
  some ((1 : Int32), h9)
  else none)
theorem w_X0_longestRow {G : zG} {p0 : Option Nat} {p1 : Int32} {p2 : Option Nat} {h : zH} {vx : Int32} {vh : zH} (H : f_X0_longestRow p0 p1 p2 h = some (vx, vh)) : zMet G M_X0_longestRow 9 [vR p0, vI p1, vR p2] h (.inl (some (vI vx))) vh := by
  refine zMet.of (by decide +kernel) (Nat.le_of_ble_eq_true rfl) ?_
  show zW G M_X0_longestRow 9 h (.inl (some (vI vx))) vh 0 [(0, vR p0), (1, vI p1), (2, vR p2)] [] h
  unfold f_X0_longestRow at H
  refine zw_aload_n (pc := 0) dX0_longestRow_0 rfl 2 rfl ?_
  refine zw_iconst (pc := 1) (v := (0 : Int32)) dX0_longestRow_1 (by decide) ?_
  refine zw_aload_n (pc := 2) dX0_longestRow_2 rfl 0 rfl ?_
  refine zw_iload_n (pc := 3) dX0_longestRow_3 rfl 1 rfl ?_
  obtain ⟨b1, e3, H⟩ := zbind H
  obtain ⟨e2, e4⟩ := zrv_ok e3
  rcases zbind3 H with ⟨x6, h7, e5, H⟩ | ⟨q8, h9, e5, H⟩
  · refine zw_invV (pc := 4) (M' := M_X1_longestRow) (A := [vI p1]) [vI (0 : Int32), vR p2] dX0_longestRow_4 (Or.inl q1820) mf_X1_longestRow q1822 (zkq e4 rfl) (w_X1_longestRow e5) (Nat.le_of_ble_eq_true rfl) rfl (by rw [← e2]; rfl) (Nat.le_of_ble_eq_true rfl) (zkv ?_) zkn9
    refine zw_i2l (pc := 7) dX0_longestRow_7 ?_
    obtain ⟨h10, e11, H⟩ := zbind H
    refine zy_last (pc := 8) dX0_longestRow_8 e11 ?_
    refine zw_goto (pc := 9) (tgt := 15) dX0_longestRow_9 rfl ?_
    refine zw_iconst (pc := 15) (v := (0 : Int32)) dX0_longestRow_15 (by decide) ?_
    obtain ⟨rfl, rfl⟩ := Prod.mk.inj (Option.some.inj H)
    exact zw_iret (pc := 16) dX0_longestRow_16 rfl rfl rfl
  · refine zw_invV (pc := 4) (M' := M_X1_longestRow) (A := [vI p1]) [vI (0 : Int32), vR p2] dX0_longestRow_4 (Or.inl q1820) mf_X1_longestRow q1822 (zkq e4 rfl) (w_X1_longestRow e5) (Nat.le_of_ble_eq_true rfl) rfl (by rw [← e2]; rfl) (Nat.le_of_ble_eq_true rfl) zkv0 (zkx ?_)
    rcases zif H with ⟨c12, H⟩ | ⟨c12, H⟩
    · have c12 := c12
      refine zx_catch [] ⟨0, 9, 12, 31⟩ [] (zkq c12 rfl) rfl (fun _ hz => nomatch hz) rfl (by decide) q1719 (by decide +kernel) ?_
      refine zw_astore_n (pc := 12) (lv' := [(3, vR (some q8)), (0, vR p0), (1, vI p1), (2, vR p2)]) dX0_longestRow_12 rfl (by decide) rfl ?_
      refine zw_iconst (pc := 13) (v := (1 : Int32)) dX0_longestRow_13 (by decide) ?_
      obtain ⟨rfl, rfl⟩ := Prod.mk.inj (Option.some.inj H)
      exact zw_iret (pc := 14) dX0_longestRow_14 rfl rfl rfl
    cases H
def M_X0_emptyRows : zM := (yX0_emptyRows, cX0_emptyRows, 4, (.some .int), [(0, 9, 12, 31)])
theorem mf_X0_emptyRows : zMs M_X0_emptyRows 3 := ⟨⟨q1826, q179, ⟨by decide +kernel, by decide +kernel⟩, by decide +kernel, by decide⟩, q1825⟩
def f_X0_emptyRows (p0 : Option Nat) (p1 : Int32) (p2 : Option Nat) (h : zH) : Option (Int32 × zH) :=
  (zrv 1 p0 h).bind fun b1 =>
  zb3 (f_X1_emptyRows (some b1) p1 h) (fun x6 h7 =>
  (zsJ p2 (0 : Int32) x6.toInt64 h7).bind fun h10 =>
  some ((0 : Int32), h10))
  (fun q8 h9 =>
  if zk h9 q8 = 20 then
  some ((1 : Int32), h9)
  else none)
theorem w_X0_emptyRows {G : zG} {p0 : Option Nat} {p1 : Int32} {p2 : Option Nat} {h : zH} {vx : Int32} {vh : zH} (H : f_X0_emptyRows p0 p1 p2 h = some (vx, vh)) : zMet G M_X0_emptyRows 9 [vR p0, vI p1, vR p2] h (.inl (some (vI vx))) vh := by
  refine zMet.of (by decide +kernel) (Nat.le_of_ble_eq_true rfl) ?_
  show zW G M_X0_emptyRows 9 h (.inl (some (vI vx))) vh 0 [(0, vR p0), (1, vI p1), (2, vR p2)] [] h
  unfold f_X0_emptyRows at H
  refine zw_aload_n (pc := 0) dX0_emptyRows_0 rfl 2 rfl ?_
  refine zw_iconst (pc := 1) (v := (0 : Int32)) dX0_emptyRows_1 (by decide) ?_
  refine zw_aload_n (pc := 2) dX0_emptyRows_2 rfl 0 rfl ?_
  refine zw_iload_n (pc := 3) dX0_emptyRows_3 rfl 1 rfl ?_
  obtain ⟨b1, e3, H⟩ := zbind H
  obtain ⟨e2, e4⟩ := zrv_ok e3
  rcases zbind3 H with ⟨x6, h7, e5, H⟩ | ⟨q8, h9, e5, H⟩
  · refine zw_invV (pc := 4) (M' := M_X1_emptyRows) (A := [vI p1]) [vI (0 : Int32), vR p2] dX0_emptyRows_4 (Or.inl q1827) mf_X1_emptyRows q1829 (zkq e4 rfl) (w_X1_emptyRows e5) (Nat.le_of_ble_eq_true rfl) rfl (by rw [← e2]; rfl) (Nat.le_of_ble_eq_true rfl) (zkv ?_) zkn9
    refine zw_i2l (pc := 7) dX0_emptyRows_7 ?_
    obtain ⟨h10, e11, H⟩ := zbind H
    refine zy_last (pc := 8) dX0_emptyRows_8 e11 ?_
    refine zw_goto (pc := 9) (tgt := 15) dX0_emptyRows_9 rfl ?_
    refine zw_iconst (pc := 15) (v := (0 : Int32)) dX0_emptyRows_15 (by decide) ?_
    obtain ⟨rfl, rfl⟩ := Prod.mk.inj (Option.some.inj H)
    exact zw_iret (pc := 16) dX0_emptyRows_16 rfl rfl rfl
  · refine zw_invV (pc := 4) (M' := M_X1_emptyRows) (A := [vI p1]) [vI (0 : Int32), vR p2] dX0_emptyRows_4 (Or.inl q1827) mf_X1_emptyRows q1829 (zkq e4 rfl) (w_X1_emptyRows e5) (Nat.le_of_ble_eq_true rfl) rfl (by rw [← e2]; rfl) (Nat.le_of_ble_eq_true rfl) zkv0 (zkx ?_)
    rcases zif H with ⟨c12, H⟩ | ⟨c12, H⟩
    · have c12 := c12
      refine zx_catch [] ⟨0, 9, 12, 31⟩ [] (zkq c12 rfl) rfl (fun _ hz => nomatch hz) rfl (by decide) q1719 (by decide +kernel) ?_
      refine zw_astore_n (pc := 12) (lv' := [(3, vR (some q8)), (0, vR p0), (1, vI p1), (2, vR p2)]) dX0_emptyRows_12 rfl (by decide) rfl ?_
      refine zw_iconst (pc := 13) (v := (1 : Int32)) dX0_emptyRows_13 (by decide) ?_
      obtain ⟨rfl, rfl⟩ := Prod.mk.inj (Option.some.inj H)
      exact zw_iret (pc := 14) dX0_emptyRows_14 rfl rfl rfl
    cases H
def M_X0_bandwidth : zM := (yX0_bandwidth, cX0_bandwidth, 4, (.some .int), [(0, 9, 12, 31)])
theorem mf_X0_bandwidth : zMs M_X0_bandwidth 3 := ⟨⟨q1833, q179, ⟨by decide +kernel, by decide +kernel⟩, by decide +kernel, by decide⟩, q1832⟩
def f_X0_bandwidth (p0 : Option Nat) (p1 : Int32) (p2 : Option Nat) (h : zH) : Option (Int32 × zH) :=
  (zrv 1 p0 h).bind fun b1 =>
  zb3 (f_X1_bandwidth (some b1) p1 h) (fun x6 h7 =>
  (zsJ p2 (0 : Int32) x6.toInt64 h7).bind fun h10 =>
  some ((0 : Int32), h10))
  (fun q8 h9 =>
  if zk h9 q8 = 20 then
  some ((1 : Int32), h9)
  else none)
theorem w_X0_bandwidth {G : zG} {p0 : Option Nat} {p1 : Int32} {p2 : Option Nat} {h : zH} {vx : Int32} {vh : zH} (H : f_X0_bandwidth p0 p1 p2 h = some (vx, vh)) : zMet G M_X0_bandwidth 9 [vR p0, vI p1, vR p2] h (.inl (some (vI vx))) vh := by
  refine zMet.of (by decide +kernel) (Nat.le_of_ble_eq_true rfl) ?_
  show zW G M_X0_bandwidth 9 h (.inl (some (vI vx))) vh 0 [(0, vR p0), (1, vI p1), (2, vR p2)] [] h
  unfold f_X0_bandwidth at H
  refine zw_aload_n (pc := 0) dX0_bandwidth_0 rfl 2 rfl ?_
  refine zw_iconst (pc := 1) (v := (0 : Int32)) dX0_bandwidth_1 (by decide) ?_
  refine zw_aload_n (pc := 2) dX0_bandwidth_2 rfl 0 rfl ?_
  refine zw_iload_n (pc := 3) dX0_bandwidth_3 rfl 1 rfl ?_
  obtain ⟨b1, e3, H⟩ := zbind H
  obtain ⟨e2, e4⟩ := zrv_ok e3
  rcases zbind3 H with ⟨x6, h7, e5, H⟩ | ⟨q8, h9, e5, H⟩
  · refine zw_invV (pc := 4) (M' := M_X1_bandwidth) (A := [vI p1]) [vI (0 : Int32), vR p2] dX0_bandwidth_4 (Or.inl q1834) mf_X1_bandwidth q1836 (zkq e4 rfl) (w_X1_bandwidth e5) (Nat.le_of_ble_eq_true rfl) rfl (by rw [← e2]; rfl) (Nat.le_of_ble_eq_true rfl) (zkv ?_) zkn9
    refine zw_i2l (pc := 7) dX0_bandwidth_7 ?_
    obtain ⟨h10, e11, H⟩ := zbind H
    refine zy_last (pc := 8) dX0_bandwidth_8 e11 ?_
    refine zw_goto (pc := 9) (tgt := 15) dX0_bandwidth_9 rfl ?_
    refine zw_iconst (pc := 15) (v := (0 : Int32)) dX0_bandwidth_15 (by decide) ?_
    obtain ⟨rfl, rfl⟩ := Prod.mk.inj (Option.some.inj H)
    exact zw_iret (pc := 16) dX0_bandwidth_16 rfl rfl rfl
  · refine zw_invV (pc := 4) (M' := M_X1_bandwidth) (A := [vI p1]) [vI (0 : Int32), vR p2] dX0_bandwidth_4 (Or.inl q1834) mf_X1_bandwidth q1836 (zkq e4 rfl) (w_X1_bandwidth e5) (Nat.le_of_ble_eq_true rfl) rfl (by rw [← e2]; rfl) (Nat.le_of_ble_eq_true rfl) zkv0 (zkx ?_)
    rcases zif H with ⟨c12, H⟩ | ⟨c12, H⟩
    · have c12 := c12
      refine zx_catch [] ⟨0, 9, 12, 31⟩ [] (zkq c12 rfl) rfl (fun _ hz => nomatch hz) rfl (by decide) q1719 (by decide +kernel) ?_
      refine zw_astore_n (pc := 12) (lv' := [(3, vR (some q8)), (0, vR p0), (1, vI p1), (2, vR p2)]) dX0_bandwidth_12 rfl (by decide) rfl ?_
      refine zw_iconst (pc := 13) (v := (1 : Int32)) dX0_bandwidth_13 (by decide) ?_
      obtain ⟨rfl, rfl⟩ := Prod.mk.inj (Option.some.inj H)
      exact zw_iret (pc := 14) dX0_bandwidth_14 rfl rfl rfl
    cases H
def M_X0_rowSum : zM := (yX0_rowSum, cX0_rowSum, 5, (.some .int), [(0, 10, 13, 31)])
theorem mf_X0_rowSum : zMs M_X0_rowSum 4 := ⟨⟨q1849, q179, ⟨by decide +kernel, by decide +kernel⟩, by decide +kernel, by decide⟩, q1848⟩
def f_X0_rowSum (p0 : Option Nat) (p1 : Int32) (p2 : Int32) (p3 : Option Nat) (h : zH) : Option (Int32 × zH) :=
  (zrv 1 p0 h).bind fun b1 =>
  zb3 (f_X1_rowSum (some b1) p1 p2 h) (fun x6 h7 =>
  (zsJ p3 (0 : Int32) x6.toInt64 h7).bind fun h10 =>
  some ((0 : Int32), h10))
  (fun q8 h9 =>
  if zk h9 q8 = 20 then
  some ((1 : Int32), h9)
  else none)
theorem w_X0_rowSum {G : zG} {p0 : Option Nat} {p1 : Int32} {p2 : Int32} {p3 : Option Nat} {h : zH} {vx : Int32} {vh : zH} (H : f_X0_rowSum p0 p1 p2 p3 h = some (vx, vh)) : zMet G M_X0_rowSum 10 [vR p0, vI p1, vI p2, vR p3] h (.inl (some (vI vx))) vh := by
  refine zMet.of (by decide +kernel) (Nat.le_of_ble_eq_true rfl) ?_
  show zW G M_X0_rowSum 10 h (.inl (some (vI vx))) vh 0 [(0, vR p0), (1, vI p1), (2, vI p2), (3, vR p3)] [] h
  unfold f_X0_rowSum at H
  refine zw_aload_n (pc := 0) dX0_rowSum_0 rfl 3 rfl ?_
  refine zw_iconst (pc := 1) (v := (0 : Int32)) dX0_rowSum_1 (by decide) ?_
  refine zw_aload_n (pc := 2) dX0_rowSum_2 rfl 0 rfl ?_
  refine zw_iload_n (pc := 3) dX0_rowSum_3 rfl 1 rfl ?_
  refine zw_iload_n (pc := 4) dX0_rowSum_4 rfl 2 rfl ?_
  obtain ⟨b1, e3, H⟩ := zbind H
  obtain ⟨e2, e4⟩ := zrv_ok e3
  rcases zbind3 H with ⟨x6, h7, e5, H⟩ | ⟨q8, h9, e5, H⟩
  · refine zw_invV (pc := 5) (M' := M_X1_rowSum) (A := [vI p1, vI p2]) [vI (0 : Int32), vR p3] dX0_rowSum_5 (Or.inl q1850) mf_X1_rowSum q1852 (zkq e4 rfl) (w_X1_rowSum e5) (Nat.le_of_ble_eq_true rfl) rfl (by rw [← e2]; rfl) (Nat.le_of_ble_eq_true rfl) (zkv ?_) zkn9
    refine zw_i2l (pc := 8) dX0_rowSum_8 ?_
    obtain ⟨h10, e11, H⟩ := zbind H
    refine zy_last (pc := 9) dX0_rowSum_9 e11 ?_
    refine zw_goto (pc := 10) (tgt := 17) dX0_rowSum_10 rfl ?_
    refine zw_iconst (pc := 17) (v := (0 : Int32)) dX0_rowSum_17 (by decide) ?_
    obtain ⟨rfl, rfl⟩ := Prod.mk.inj (Option.some.inj H)
    exact zw_iret (pc := 18) dX0_rowSum_18 rfl rfl rfl
  · refine zw_invV (pc := 5) (M' := M_X1_rowSum) (A := [vI p1, vI p2]) [vI (0 : Int32), vR p3] dX0_rowSum_5 (Or.inl q1850) mf_X1_rowSum q1852 (zkq e4 rfl) (w_X1_rowSum e5) (Nat.le_of_ble_eq_true rfl) rfl (by rw [← e2]; rfl) (Nat.le_of_ble_eq_true rfl) zkv0 (zkx ?_)
    rcases zif H with ⟨c12, H⟩ | ⟨c12, H⟩
    · have c12 := c12
      refine zx_catch [] ⟨0, 10, 13, 31⟩ [] (zkq c12 rfl) rfl (fun _ hz => nomatch hz) rfl (by decide) q1719 (by decide +kernel) ?_
      refine zw_astore (pc := 13) (lv' := [(4, vR (some q8)), (0, vR p0), (1, vI p1), (2, vI p2), (3, vR p3)]) dX0_rowSum_13 (by decide) rfl ?_
      refine zw_iconst (pc := 15) (v := (1 : Int32)) dX0_rowSum_15 (by decide) ?_
      obtain ⟨rfl, rfl⟩ := Prod.mk.inj (Option.some.inj H)
      exact zw_iret (pc := 16) dX0_rowSum_16 rfl rfl rfl
    cases H
def M_X0_largestMagnitude : zM := (yX0_largestMagnitude, cX0_largestMagnitude, 4, (.some .int), [(0, 9, 12, 31)])
theorem mf_X0_largestMagnitude : zMs M_X0_largestMagnitude 3 := ⟨⟨q1856, q179, ⟨by decide +kernel, by decide +kernel⟩, by decide +kernel, by decide⟩, q1855⟩
def f_X0_largestMagnitude (p0 : Option Nat) (p1 : Int32) (p2 : Option Nat) (h : zH) : Option (Int32 × zH) :=
  (zrv 1 p0 h).bind fun b1 =>
  zb3 (f_X1_largestMagnitude (some b1) p1 h) (fun x6 h7 =>
  (zsJ p2 (0 : Int32) x6.toInt64 h7).bind fun h10 =>
  some ((0 : Int32), h10))
  (fun q8 h9 =>
  if zk h9 q8 = 20 then
  some ((1 : Int32), h9)
  else none)
theorem w_X0_largestMagnitude {G : zG} {p0 : Option Nat} {p1 : Int32} {p2 : Option Nat} {h : zH} {vx : Int32} {vh : zH} (H : f_X0_largestMagnitude p0 p1 p2 h = some (vx, vh)) : zMet G M_X0_largestMagnitude 9 [vR p0, vI p1, vR p2] h (.inl (some (vI vx))) vh := by
  refine zMet.of (by decide +kernel) (Nat.le_of_ble_eq_true rfl) ?_
  show zW G M_X0_largestMagnitude 9 h (.inl (some (vI vx))) vh 0 [(0, vR p0), (1, vI p1), (2, vR p2)] [] h
  unfold f_X0_largestMagnitude at H
  refine zw_aload_n (pc := 0) dX0_largestMagnitude_0 rfl 2 rfl ?_
  refine zw_iconst (pc := 1) (v := (0 : Int32)) dX0_largestMagnitude_1 (by decide) ?_
  refine zw_aload_n (pc := 2) dX0_largestMagnitude_2 rfl 0 rfl ?_
  refine zw_iload_n (pc := 3) dX0_largestMagnitude_3 rfl 1 rfl ?_
  obtain ⟨b1, e3, H⟩ := zbind H
  obtain ⟨e2, e4⟩ := zrv_ok e3
  rcases zbind3 H with ⟨x6, h7, e5, H⟩ | ⟨q8, h9, e5, H⟩
  · refine zw_invV (pc := 4) (M' := M_X1_largestMagnitude) (A := [vI p1]) [vI (0 : Int32), vR p2] dX0_largestMagnitude_4 (Or.inl q1857) mf_X1_largestMagnitude q1859 (zkq e4 rfl) (w_X1_largestMagnitude e5) (Nat.le_of_ble_eq_true rfl) rfl (by rw [← e2]; rfl) (Nat.le_of_ble_eq_true rfl) (zkv ?_) zkn9
    refine zw_i2l (pc := 7) dX0_largestMagnitude_7 ?_
    obtain ⟨h10, e11, H⟩ := zbind H
    refine zy_last (pc := 8) dX0_largestMagnitude_8 e11 ?_
    refine zw_goto (pc := 9) (tgt := 15) dX0_largestMagnitude_9 rfl ?_
    refine zw_iconst (pc := 15) (v := (0 : Int32)) dX0_largestMagnitude_15 (by decide) ?_
    obtain ⟨rfl, rfl⟩ := Prod.mk.inj (Option.some.inj H)
    exact zw_iret (pc := 16) dX0_largestMagnitude_16 rfl rfl rfl
  · refine zw_invV (pc := 4) (M' := M_X1_largestMagnitude) (A := [vI p1]) [vI (0 : Int32), vR p2] dX0_largestMagnitude_4 (Or.inl q1857) mf_X1_largestMagnitude q1859 (zkq e4 rfl) (w_X1_largestMagnitude e5) (Nat.le_of_ble_eq_true rfl) rfl (by rw [← e2]; rfl) (Nat.le_of_ble_eq_true rfl) zkv0 (zkx ?_)
    rcases zif H with ⟨c12, H⟩ | ⟨c12, H⟩
    · have c12 := c12
      refine zx_catch [] ⟨0, 9, 12, 31⟩ [] (zkq c12 rfl) rfl (fun _ hz => nomatch hz) rfl (by decide) q1719 (by decide +kernel) ?_
      refine zw_astore_n (pc := 12) (lv' := [(3, vR (some q8)), (0, vR p0), (1, vI p1), (2, vR p2)]) dX0_largestMagnitude_12 rfl (by decide) rfl ?_
      refine zw_iconst (pc := 13) (v := (1 : Int32)) dX0_largestMagnitude_13 (by decide) ?_
      obtain ⟨rfl, rfl⟩ := Prod.mk.inj (Option.some.inj H)
      exact zw_iret (pc := 14) dX0_largestMagnitude_14 rfl rfl rfl
    cases H
def M_X0_trace : zM := (yX0_trace, cX0_trace, 4, (.some .int), [(0, 9, 12, 31), (0, 9, 15, 13)])
theorem mf_X0_trace : zMs M_X0_trace 3 := ⟨⟨q1865, q179, ⟨by decide +kernel, by decide +kernel⟩, by decide +kernel, by decide⟩, q1864⟩
def f_X0_trace (p0 : Option Nat) (p1 : Int32) (p2 : Option Nat) (h : zH) : Option (Int32 × zH) :=
  (zrv 1 p0 h).bind fun b1 =>
  zb3 (f_X1_trace (some b1) p1 h) (fun x6 h7 =>
  (zsJ p2 (0 : Int32) x6.toInt64 h7).bind fun h10 =>
  some ((0 : Int32), h10))
  (fun q8 h9 =>
  if zk h9 q8 = 20 then
  some ((1 : Int32), h9)
  else if zk h9 q8 = 22 then
  some ((2 : Int32), h9)
  else none)
theorem w_X0_trace {G : zG} {p0 : Option Nat} {p1 : Int32} {p2 : Option Nat} {h : zH} {vx : Int32} {vh : zH} (H : f_X0_trace p0 p1 p2 h = some (vx, vh)) : zMet G M_X0_trace 9 [vR p0, vI p1, vR p2] h (.inl (some (vI vx))) vh := by
  refine zMet.of (by decide +kernel) (Nat.le_of_ble_eq_true rfl) ?_
  show zW G M_X0_trace 9 h (.inl (some (vI vx))) vh 0 [(0, vR p0), (1, vI p1), (2, vR p2)] [] h
  unfold f_X0_trace at H
  refine zw_aload_n (pc := 0) dX0_trace_0 rfl 2 rfl ?_
  refine zw_iconst (pc := 1) (v := (0 : Int32)) dX0_trace_1 (by decide) ?_
  refine zw_aload_n (pc := 2) dX0_trace_2 rfl 0 rfl ?_
  refine zw_iload_n (pc := 3) dX0_trace_3 rfl 1 rfl ?_
  obtain ⟨b1, e3, H⟩ := zbind H
  obtain ⟨e2, e4⟩ := zrv_ok e3
  rcases zbind3 H with ⟨x6, h7, e5, H⟩ | ⟨q8, h9, e5, H⟩
  · refine zw_invV (pc := 4) (M' := M_X1_trace) (A := [vI p1]) [vI (0 : Int32), vR p2] dX0_trace_4 (Or.inl q1866) mf_X1_trace q1868 (zkq e4 rfl) (w_X1_trace e5) (Nat.le_of_ble_eq_true rfl) rfl (by rw [← e2]; rfl) (Nat.le_of_ble_eq_true rfl) (zkv ?_) zkn9
    refine zw_i2l (pc := 7) dX0_trace_7 ?_
    obtain ⟨h10, e11, H⟩ := zbind H
    refine zy_last (pc := 8) dX0_trace_8 e11 ?_
    refine zw_goto (pc := 9) (tgt := 18) dX0_trace_9 rfl ?_
    refine zw_iconst (pc := 18) (v := (0 : Int32)) dX0_trace_18 (by decide) ?_
    obtain ⟨rfl, rfl⟩ := Prod.mk.inj (Option.some.inj H)
    exact zw_iret (pc := 19) dX0_trace_19 rfl rfl rfl
  · refine zw_invV (pc := 4) (M' := M_X1_trace) (A := [vI p1]) [vI (0 : Int32), vR p2] dX0_trace_4 (Or.inl q1866) mf_X1_trace q1868 (zkq e4 rfl) (w_X1_trace e5) (Nat.le_of_ble_eq_true rfl) rfl (by rw [← e2]; rfl) (Nat.le_of_ble_eq_true rfl) zkv0 (zkx ?_)
    rcases zif H with ⟨c12, H⟩ | ⟨c12, H⟩
    · have c12 := c12
      refine zx_catch [] ⟨0, 9, 12, 31⟩ [⟨0, 9, 15, 13⟩] (zkq c12 rfl) rfl (fun _ hz => nomatch hz) rfl (by decide) q1719 (by decide +kernel) ?_
      refine zw_astore_n (pc := 12) (lv' := [(3, vR (some q8)), (0, vR p0), (1, vI p1), (2, vR p2)]) dX0_trace_12 rfl (by decide) rfl ?_
      refine zw_iconst (pc := 13) (v := (1 : Int32)) dX0_trace_13 (by decide) ?_
      obtain ⟨rfl, rfl⟩ := Prod.mk.inj (Option.some.inj H)
      exact zw_iret (pc := 14) dX0_trace_14 rfl rfl rfl
    rcases zif H with ⟨c13, H⟩ | ⟨c13, H⟩
    · have c13 := c13
      refine zx_catch [⟨0, 9, 12, 31⟩] ⟨0, 9, 15, 13⟩ [] (zkq c13 rfl) rfl (List.forall_mem_cons.mpr ⟨Or.inr ⟨by decide, "java/lang/IndexOutOfBoundsException", q1719, by decide +kernel⟩, (fun _ hz => nomatch hz)⟩) rfl (by decide) q560 (by decide +kernel) ?_
      refine zw_astore_n (pc := 15) (lv' := [(3, vR (some q8)), (0, vR p0), (1, vI p1), (2, vR p2)]) dX0_trace_15 rfl (by decide) rfl ?_
      refine zw_iconst (pc := 16) (v := (2 : Int32)) dX0_trace_16 (by decide) ?_
      obtain ⟨rfl, rfl⟩ := Prod.mk.inj (Option.some.inj H)
      exact zw_iret (pc := 17) dX0_trace_17 rfl rfl rfl
    cases H
def M_X0_isSymmetric : zM := (yX0_isSymmetric, cX0_isSymmetric, 4, (.some .int), [(0, 16, 19, 31)])
theorem mf_X0_isSymmetric : zMs M_X0_isSymmetric 3 := ⟨⟨q1872, q179, ⟨by decide +kernel, by decide +kernel⟩, by decide +kernel, by decide⟩, q1871⟩
def f_X0_isSymmetric (p0 : Option Nat) (p1 : Int32) (p2 : Option Nat) (h : zH) : Option (Int32 × zH) :=
  (zrv 1 p0 h).bind fun b1 =>
  zb3 (f_X1_isSymmetric (some b1) p1 h) (fun x6 h7 =>
  if x6 = 0 then
  (zsJ p2 (0 : Int32) (0 : Int64) h7).bind fun h11 =>
  some ((0 : Int32), h11)
  else
  (zsJ p2 (0 : Int32) (1 : Int64) h7).bind fun h13 =>
  some ((0 : Int32), h13))
  (fun q8 h9 =>
  if zk h9 q8 = 20 then
  some ((1 : Int32), h9)
  else none)
theorem w_X0_isSymmetric {G : zG} {p0 : Option Nat} {p1 : Int32} {p2 : Option Nat} {h : zH} {vx : Int32} {vh : zH} (H : f_X0_isSymmetric p0 p1 p2 h = some (vx, vh)) : zMet G M_X0_isSymmetric 9 [vR p0, vI p1, vR p2] h (.inl (some (vI vx))) vh := by
  refine zMet.of (by decide +kernel) (Nat.le_of_ble_eq_true rfl) ?_
  show zW G M_X0_isSymmetric 9 h (.inl (some (vI vx))) vh 0 [(0, vR p0), (1, vI p1), (2, vR p2)] [] h
  unfold f_X0_isSymmetric at H
  refine zw_aload_n (pc := 0) dX0_isSymmetric_0 rfl 2 rfl ?_
  refine zw_iconst (pc := 1) (v := (0 : Int32)) dX0_isSymmetric_1 (by decide) ?_
  refine zw_aload_n (pc := 2) dX0_isSymmetric_2 rfl 0 rfl ?_
  refine zw_iload_n (pc := 3) dX0_isSymmetric_3 rfl 1 rfl ?_
  obtain ⟨b1, e3, H⟩ := zbind H
  obtain ⟨e2, e4⟩ := zrv_ok e3
  rcases zbind3 H with ⟨x6, h7, e5, H⟩ | ⟨q8, h9, e5, H⟩
  · refine zw_invV (pc := 4) (M' := M_X1_isSymmetric) (A := [vI p1]) [vI (0 : Int32), vR p2] dX0_isSymmetric_4 (Or.inl q1873) mf_X1_isSymmetric q1875 (zkq e4 rfl) (w_X1_isSymmetric e5) (Nat.le_of_ble_eq_true rfl) rfl (by rw [← e2]; rfl) (Nat.le_of_ble_eq_true rfl) (zkv ?_) zkn9
    rcases zif H with ⟨c10, H⟩ | ⟨c10, H⟩
    · refine zw_if_eq (pc := 7) (tgt := 14) dX0_isSymmetric_7 rfl (fun _ => ?_) (fun q => absurd c10 q)
      refine zw_lconst (pc := 14) (v := (0 : Int64)) dX0_isSymmetric_14 (by decide) ?_
      obtain ⟨h11, e12, H⟩ := zbind H
      refine zy_last (pc := 15) dX0_isSymmetric_15 e12 ?_
      refine zw_goto (pc := 16) (tgt := 22) dX0_isSymmetric_16 rfl ?_
      refine zw_iconst (pc := 22) (v := (0 : Int32)) dX0_isSymmetric_22 (by decide) ?_
      obtain ⟨rfl, rfl⟩ := Prod.mk.inj (Option.some.inj H)
      exact zw_iret (pc := 23) dX0_isSymmetric_23 rfl rfl rfl
    · refine zw_if_eq (pc := 7) (tgt := 14) dX0_isSymmetric_7 rfl (fun q => absurd q c10) (fun _ => ?_)
      refine zw_lconst (pc := 10) (v := (1 : Int64)) dX0_isSymmetric_10 (by decide) ?_
      refine zw_goto (pc := 11) (tgt := 15) dX0_isSymmetric_11 rfl ?_
      obtain ⟨h13, e14, H⟩ := zbind H
      refine zy_last (pc := 15) dX0_isSymmetric_15 e14 ?_
      refine zw_goto (pc := 16) (tgt := 22) dX0_isSymmetric_16 rfl ?_
      refine zw_iconst (pc := 22) (v := (0 : Int32)) dX0_isSymmetric_22 (by decide) ?_
      obtain ⟨rfl, rfl⟩ := Prod.mk.inj (Option.some.inj H)
      exact zw_iret (pc := 23) dX0_isSymmetric_23 rfl rfl rfl
  · refine zw_invV (pc := 4) (M' := M_X1_isSymmetric) (A := [vI p1]) [vI (0 : Int32), vR p2] dX0_isSymmetric_4 (Or.inl q1873) mf_X1_isSymmetric q1875 (zkq e4 rfl) (w_X1_isSymmetric e5) (Nat.le_of_ble_eq_true rfl) rfl (by rw [← e2]; rfl) (Nat.le_of_ble_eq_true rfl) zkv0 (zkx ?_)
    rcases zif H with ⟨c15, H⟩ | ⟨c15, H⟩
    · have c15 := c15
      refine zx_catch [] ⟨0, 16, 19, 31⟩ [] (zkq c15 rfl) rfl (fun _ hz => nomatch hz) rfl (by decide) q1719 (by decide +kernel) ?_
      refine zw_astore_n (pc := 19) (lv' := [(3, vR (some q8)), (0, vR p0), (1, vI p1), (2, vR p2)]) dX0_isSymmetric_19 rfl (by decide) rfl ?_
      refine zw_iconst (pc := 20) (v := (1 : Int32)) dX0_isSymmetric_20 (by decide) ?_
      obtain ⟨rfl, rfl⟩ := Prod.mk.inj (Option.some.inj H)
      exact zw_iret (pc := 21) dX0_isSymmetric_21 rfl rfl rfl
    cases H
def M_X0_haveSameValues : zM := (yX0_haveSameValues, cX0_haveSameValues, 5, (.some .int), [(0, 17, 20, 31)])
theorem mf_X0_haveSameValues : zMs M_X0_haveSameValues 4 := ⟨⟨q1879, q179, ⟨by decide +kernel, by decide +kernel⟩, by decide +kernel, by decide⟩, q1878⟩
def f_X0_haveSameValues (p0 : Option Nat) (p1 : Int32) (p2 : Int32) (p3 : Option Nat) (h : zH) : Option (Int32 × zH) :=
  (zrv 1 p0 h).bind fun b1 =>
  zb3 (f_X1_haveSameValues (some b1) p1 p2 h) (fun x6 h7 =>
  if x6 = 0 then
  (zsJ p3 (0 : Int32) (0 : Int64) h7).bind fun h11 =>
  some ((0 : Int32), h11)
  else
  (zsJ p3 (0 : Int32) (1 : Int64) h7).bind fun h13 =>
  some ((0 : Int32), h13))
  (fun q8 h9 =>
  if zk h9 q8 = 20 then
  some ((1 : Int32), h9)
  else none)
theorem w_X0_haveSameValues {G : zG} {p0 : Option Nat} {p1 : Int32} {p2 : Int32} {p3 : Option Nat} {h : zH} {vx : Int32} {vh : zH} (H : f_X0_haveSameValues p0 p1 p2 p3 h = some (vx, vh)) : zMet G M_X0_haveSameValues 9 [vR p0, vI p1, vI p2, vR p3] h (.inl (some (vI vx))) vh := by
  refine zMet.of (by decide +kernel) (Nat.le_of_ble_eq_true rfl) ?_
  show zW G M_X0_haveSameValues 9 h (.inl (some (vI vx))) vh 0 [(0, vR p0), (1, vI p1), (2, vI p2), (3, vR p3)] [] h
  unfold f_X0_haveSameValues at H
  refine zw_aload_n (pc := 0) dX0_haveSameValues_0 rfl 3 rfl ?_
  refine zw_iconst (pc := 1) (v := (0 : Int32)) dX0_haveSameValues_1 (by decide) ?_
  refine zw_aload_n (pc := 2) dX0_haveSameValues_2 rfl 0 rfl ?_
  refine zw_iload_n (pc := 3) dX0_haveSameValues_3 rfl 1 rfl ?_
  refine zw_iload_n (pc := 4) dX0_haveSameValues_4 rfl 2 rfl ?_
  obtain ⟨b1, e3, H⟩ := zbind H
  obtain ⟨e2, e4⟩ := zrv_ok e3
  rcases zbind3 H with ⟨x6, h7, e5, H⟩ | ⟨q8, h9, e5, H⟩
  · refine zw_invV (pc := 5) (M' := M_X1_haveSameValues) (A := [vI p1, vI p2]) [vI (0 : Int32), vR p3] dX0_haveSameValues_5 (Or.inl q1880) mf_X1_haveSameValues q1882 (zkq e4 rfl) (w_X1_haveSameValues e5) (Nat.le_of_ble_eq_true rfl) rfl (by rw [← e2]; rfl) (Nat.le_of_ble_eq_true rfl) (zkv ?_) zkn9
    rcases zif H with ⟨c10, H⟩ | ⟨c10, H⟩
    · refine zw_if_eq (pc := 8) (tgt := 15) dX0_haveSameValues_8 rfl (fun _ => ?_) (fun q => absurd c10 q)
      refine zw_lconst (pc := 15) (v := (0 : Int64)) dX0_haveSameValues_15 (by decide) ?_
      obtain ⟨h11, e12, H⟩ := zbind H
      refine zy_last (pc := 16) dX0_haveSameValues_16 e12 ?_
      refine zw_goto (pc := 17) (tgt := 24) dX0_haveSameValues_17 rfl ?_
      refine zw_iconst (pc := 24) (v := (0 : Int32)) dX0_haveSameValues_24 (by decide) ?_
      obtain ⟨rfl, rfl⟩ := Prod.mk.inj (Option.some.inj H)
      exact zw_iret (pc := 25) dX0_haveSameValues_25 rfl rfl rfl
    · refine zw_if_eq (pc := 8) (tgt := 15) dX0_haveSameValues_8 rfl (fun q => absurd q c10) (fun _ => ?_)
      refine zw_lconst (pc := 11) (v := (1 : Int64)) dX0_haveSameValues_11 (by decide) ?_
      refine zw_goto (pc := 12) (tgt := 16) dX0_haveSameValues_12 rfl ?_
      obtain ⟨h13, e14, H⟩ := zbind H
      refine zy_last (pc := 16) dX0_haveSameValues_16 e14 ?_
      refine zw_goto (pc := 17) (tgt := 24) dX0_haveSameValues_17 rfl ?_
      refine zw_iconst (pc := 24) (v := (0 : Int32)) dX0_haveSameValues_24 (by decide) ?_
      obtain ⟨rfl, rfl⟩ := Prod.mk.inj (Option.some.inj H)
      exact zw_iret (pc := 25) dX0_haveSameValues_25 rfl rfl rfl
  · refine zw_invV (pc := 5) (M' := M_X1_haveSameValues) (A := [vI p1, vI p2]) [vI (0 : Int32), vR p3] dX0_haveSameValues_5 (Or.inl q1880) mf_X1_haveSameValues q1882 (zkq e4 rfl) (w_X1_haveSameValues e5) (Nat.le_of_ble_eq_true rfl) rfl (by rw [← e2]; rfl) (Nat.le_of_ble_eq_true rfl) zkv0 (zkx ?_)
    rcases zif H with ⟨c15, H⟩ | ⟨c15, H⟩
    · have c15 := c15
      refine zx_catch [] ⟨0, 17, 20, 31⟩ [] (zkq c15 rfl) rfl (fun _ hz => nomatch hz) rfl (by decide) q1719 (by decide +kernel) ?_
      refine zw_astore (pc := 20) (lv' := [(4, vR (some q8)), (0, vR p0), (1, vI p1), (2, vI p2), (3, vR p3)]) dX0_haveSameValues_20 (by decide) rfl ?_
      refine zw_iconst (pc := 22) (v := (1 : Int32)) dX0_haveSameValues_22 (by decide) ?_
      obtain ⟨rfl, rfl⟩ := Prod.mk.inj (Option.some.inj H)
      exact zw_iret (pc := 23) dX0_haveSameValues_23 rfl rfl rfl
    cases H
def M_X0_haveSameStructure : zM := (yX0_haveSameStructure, cX0_haveSameStructure, 5, (.some .int), [(0, 17, 20, 31)])
theorem mf_X0_haveSameStructure : zMs M_X0_haveSameStructure 4 := ⟨⟨q1886, q179, ⟨by decide +kernel, by decide +kernel⟩, by decide +kernel, by decide⟩, q1885⟩
def f_X0_haveSameStructure (p0 : Option Nat) (p1 : Int32) (p2 : Int32) (p3 : Option Nat) (h : zH) : Option (Int32 × zH) :=
  (zrv 1 p0 h).bind fun b1 =>
  zb3 (f_X1_haveSameStructure (some b1) p1 p2 h) (fun x6 h7 =>
  if x6 = 0 then
  (zsJ p3 (0 : Int32) (0 : Int64) h7).bind fun h11 =>
  some ((0 : Int32), h11)
  else
  (zsJ p3 (0 : Int32) (1 : Int64) h7).bind fun h13 =>
  some ((0 : Int32), h13))
  (fun q8 h9 =>
  if zk h9 q8 = 20 then
  some ((1 : Int32), h9)
  else none)
theorem w_X0_haveSameStructure {G : zG} {p0 : Option Nat} {p1 : Int32} {p2 : Int32} {p3 : Option Nat} {h : zH} {vx : Int32} {vh : zH} (H : f_X0_haveSameStructure p0 p1 p2 p3 h = some (vx, vh)) : zMet G M_X0_haveSameStructure 9 [vR p0, vI p1, vI p2, vR p3] h (.inl (some (vI vx))) vh := by
  refine zMet.of (by decide +kernel) (Nat.le_of_ble_eq_true rfl) ?_
  show zW G M_X0_haveSameStructure 9 h (.inl (some (vI vx))) vh 0 [(0, vR p0), (1, vI p1), (2, vI p2), (3, vR p3)] [] h
  unfold f_X0_haveSameStructure at H
  refine zw_aload_n (pc := 0) dX0_haveSameStructure_0 rfl 3 rfl ?_
  refine zw_iconst (pc := 1) (v := (0 : Int32)) dX0_haveSameStructure_1 (by decide) ?_
  refine zw_aload_n (pc := 2) dX0_haveSameStructure_2 rfl 0 rfl ?_
  refine zw_iload_n (pc := 3) dX0_haveSameStructure_3 rfl 1 rfl ?_
  refine zw_iload_n (pc := 4) dX0_haveSameStructure_4 rfl 2 rfl ?_
  obtain ⟨b1, e3, H⟩ := zbind H
  obtain ⟨e2, e4⟩ := zrv_ok e3
  rcases zbind3 H with ⟨x6, h7, e5, H⟩ | ⟨q8, h9, e5, H⟩
  · refine zw_invV (pc := 5) (M' := M_X1_haveSameStructure) (A := [vI p1, vI p2]) [vI (0 : Int32), vR p3] dX0_haveSameStructure_5 (Or.inl q1887) mf_X1_haveSameStructure q1889 (zkq e4 rfl) (w_X1_haveSameStructure e5) (Nat.le_of_ble_eq_true rfl) rfl (by rw [← e2]; rfl) (Nat.le_of_ble_eq_true rfl) (zkv ?_) zkn9
    rcases zif H with ⟨c10, H⟩ | ⟨c10, H⟩
    · refine zw_if_eq (pc := 8) (tgt := 15) dX0_haveSameStructure_8 rfl (fun _ => ?_) (fun q => absurd c10 q)
      refine zw_lconst (pc := 15) (v := (0 : Int64)) dX0_haveSameStructure_15 (by decide) ?_
      obtain ⟨h11, e12, H⟩ := zbind H
      refine zy_last (pc := 16) dX0_haveSameStructure_16 e12 ?_
      refine zw_goto (pc := 17) (tgt := 24) dX0_haveSameStructure_17 rfl ?_
      refine zw_iconst (pc := 24) (v := (0 : Int32)) dX0_haveSameStructure_24 (by decide) ?_
      obtain ⟨rfl, rfl⟩ := Prod.mk.inj (Option.some.inj H)
      exact zw_iret (pc := 25) dX0_haveSameStructure_25 rfl rfl rfl
    · refine zw_if_eq (pc := 8) (tgt := 15) dX0_haveSameStructure_8 rfl (fun q => absurd q c10) (fun _ => ?_)
      refine zw_lconst (pc := 11) (v := (1 : Int64)) dX0_haveSameStructure_11 (by decide) ?_
      refine zw_goto (pc := 12) (tgt := 16) dX0_haveSameStructure_12 rfl ?_
      obtain ⟨h13, e14, H⟩ := zbind H
      refine zy_last (pc := 16) dX0_haveSameStructure_16 e14 ?_
      refine zw_goto (pc := 17) (tgt := 24) dX0_haveSameStructure_17 rfl ?_
      refine zw_iconst (pc := 24) (v := (0 : Int32)) dX0_haveSameStructure_24 (by decide) ?_
      obtain ⟨rfl, rfl⟩ := Prod.mk.inj (Option.some.inj H)
      exact zw_iret (pc := 25) dX0_haveSameStructure_25 rfl rfl rfl
  · refine zw_invV (pc := 5) (M' := M_X1_haveSameStructure) (A := [vI p1, vI p2]) [vI (0 : Int32), vR p3] dX0_haveSameStructure_5 (Or.inl q1887) mf_X1_haveSameStructure q1889 (zkq e4 rfl) (w_X1_haveSameStructure e5) (Nat.le_of_ble_eq_true rfl) rfl (by rw [← e2]; rfl) (Nat.le_of_ble_eq_true rfl) zkv0 (zkx ?_)
    rcases zif H with ⟨c15, H⟩ | ⟨c15, H⟩
    · have c15 := c15
      refine zx_catch [] ⟨0, 17, 20, 31⟩ [] (zkq c15 rfl) rfl (fun _ hz => nomatch hz) rfl (by decide) q1719 (by decide +kernel) ?_
      refine zw_astore (pc := 20) (lv' := [(4, vR (some q8)), (0, vR p0), (1, vI p1), (2, vI p2), (3, vR p3)]) dX0_haveSameStructure_20 (by decide) rfl ?_
      refine zw_iconst (pc := 22) (v := (1 : Int32)) dX0_haveSameStructure_22 (by decide) ?_
      obtain ⟨rfl, rfl⟩ := Prod.mk.inj (Option.some.inj H)
      exact zw_iret (pc := 23) dX0_haveSameStructure_23 rfl rfl rfl
    cases H
def M_X0_sumObstacle : zM := (yX0_sumObstacle, cX0_sumObstacle, 5, (.some .int), [(0, 10, 13, 31)])
theorem mf_X0_sumObstacle : zMs M_X0_sumObstacle 4 := ⟨⟨q1893, q179, ⟨by decide +kernel, by decide +kernel⟩, by decide +kernel, by decide⟩, q1892⟩
def f_X0_sumObstacle (p0 : Option Nat) (p1 : Int32) (p2 : Int32) (p3 : Option Nat) (h : zH) : Option (Int32 × zH) :=
  (zrv 1 p0 h).bind fun b1 =>
  zb3 (f_X1_sumObstacle (some b1) p1 p2 h) (fun x6 h7 =>
  (zsJ p3 (0 : Int32) x6.toInt64 h7).bind fun h10 =>
  some ((0 : Int32), h10))
  (fun q8 h9 =>
  if zk h9 q8 = 20 then
  some ((1 : Int32), h9)
  else none)
theorem w_X0_sumObstacle {G : zG} {p0 : Option Nat} {p1 : Int32} {p2 : Int32} {p3 : Option Nat} {h : zH} {vx : Int32} {vh : zH} (H : f_X0_sumObstacle p0 p1 p2 p3 h = some (vx, vh)) : zMet G M_X0_sumObstacle 10 [vR p0, vI p1, vI p2, vR p3] h (.inl (some (vI vx))) vh := by
  refine zMet.of (by decide +kernel) (Nat.le_of_ble_eq_true rfl) ?_
  show zW G M_X0_sumObstacle 10 h (.inl (some (vI vx))) vh 0 [(0, vR p0), (1, vI p1), (2, vI p2), (3, vR p3)] [] h
  unfold f_X0_sumObstacle at H
  refine zw_aload_n (pc := 0) dX0_sumObstacle_0 rfl 3 rfl ?_
  refine zw_iconst (pc := 1) (v := (0 : Int32)) dX0_sumObstacle_1 (by decide) ?_
  refine zw_aload_n (pc := 2) dX0_sumObstacle_2 rfl 0 rfl ?_
  refine zw_iload_n (pc := 3) dX0_sumObstacle_3 rfl 1 rfl ?_
  refine zw_iload_n (pc := 4) dX0_sumObstacle_4 rfl 2 rfl ?_
  obtain ⟨b1, e3, H⟩ := zbind H
  obtain ⟨e2, e4⟩ := zrv_ok e3
  rcases zbind3 H with ⟨x6, h7, e5, H⟩ | ⟨q8, h9, e5, H⟩
  · refine zw_invV (pc := 5) (M' := M_X1_sumObstacle) (A := [vI p1, vI p2]) [vI (0 : Int32), vR p3] dX0_sumObstacle_5 (Or.inl q1894) mf_X1_sumObstacle q1896 (zkq e4 rfl) (w_X1_sumObstacle e5) (Nat.le_of_ble_eq_true rfl) rfl (by rw [← e2]; rfl) (Nat.le_of_ble_eq_true rfl) (zkv ?_) zkn9
    refine zw_i2l (pc := 8) dX0_sumObstacle_8 ?_
    obtain ⟨h10, e11, H⟩ := zbind H
    refine zy_last (pc := 9) dX0_sumObstacle_9 e11 ?_
    refine zw_goto (pc := 10) (tgt := 17) dX0_sumObstacle_10 rfl ?_
    refine zw_iconst (pc := 17) (v := (0 : Int32)) dX0_sumObstacle_17 (by decide) ?_
    obtain ⟨rfl, rfl⟩ := Prod.mk.inj (Option.some.inj H)
    exact zw_iret (pc := 18) dX0_sumObstacle_18 rfl rfl rfl
  · refine zw_invV (pc := 5) (M' := M_X1_sumObstacle) (A := [vI p1, vI p2]) [vI (0 : Int32), vR p3] dX0_sumObstacle_5 (Or.inl q1894) mf_X1_sumObstacle q1896 (zkq e4 rfl) (w_X1_sumObstacle e5) (Nat.le_of_ble_eq_true rfl) rfl (by rw [← e2]; rfl) (Nat.le_of_ble_eq_true rfl) zkv0 (zkx ?_)
    rcases zif H with ⟨c12, H⟩ | ⟨c12, H⟩
    · have c12 := c12
      refine zx_catch [] ⟨0, 10, 13, 31⟩ [] (zkq c12 rfl) rfl (fun _ hz => nomatch hz) rfl (by decide) q1719 (by decide +kernel) ?_
      refine zw_astore (pc := 13) (lv' := [(4, vR (some q8)), (0, vR p0), (1, vI p1), (2, vI p2), (3, vR p3)]) dX0_sumObstacle_13 (by decide) rfl ?_
      refine zw_iconst (pc := 15) (v := (1 : Int32)) dX0_sumObstacle_15 (by decide) ?_
      obtain ⟨rfl, rfl⟩ := Prod.mk.inj (Option.some.inj H)
      exact zw_iret (pc := 16) dX0_sumObstacle_16 rfl rfl rfl
    cases H
def M_X0_productObstacle : zM := (yX0_productObstacle, cX0_productObstacle, 5, (.some .int), [(0, 10, 13, 31)])
theorem mf_X0_productObstacle : zMs M_X0_productObstacle 4 := ⟨⟨q1903, q179, ⟨by decide +kernel, by decide +kernel⟩, by decide +kernel, by decide⟩, q1902⟩
def f_X0_productObstacle (p0 : Option Nat) (p1 : Int32) (p2 : Int32) (p3 : Option Nat) (h : zH) : Option (Int32 × zH) :=
  (zrv 1 p0 h).bind fun b1 =>
  zb3 (f_X1_productObstacle (some b1) p1 p2 h) (fun x6 h7 =>
  (zsJ p3 (0 : Int32) x6.toInt64 h7).bind fun h10 =>
  some ((0 : Int32), h10))
  (fun q8 h9 =>
  if zk h9 q8 = 20 then
  some ((1 : Int32), h9)
  else none)
theorem w_X0_productObstacle {G : zG} {p0 : Option Nat} {p1 : Int32} {p2 : Int32} {p3 : Option Nat} {h : zH} {vx : Int32} {vh : zH} (H : f_X0_productObstacle p0 p1 p2 p3 h = some (vx, vh)) : zMet G M_X0_productObstacle 10 [vR p0, vI p1, vI p2, vR p3] h (.inl (some (vI vx))) vh := by
  refine zMet.of (by decide +kernel) (Nat.le_of_ble_eq_true rfl) ?_
  show zW G M_X0_productObstacle 10 h (.inl (some (vI vx))) vh 0 [(0, vR p0), (1, vI p1), (2, vI p2), (3, vR p3)] [] h
  unfold f_X0_productObstacle at H
  refine zw_aload_n (pc := 0) dX0_productObstacle_0 rfl 3 rfl ?_
  refine zw_iconst (pc := 1) (v := (0 : Int32)) dX0_productObstacle_1 (by decide) ?_
  refine zw_aload_n (pc := 2) dX0_productObstacle_2 rfl 0 rfl ?_
  refine zw_iload_n (pc := 3) dX0_productObstacle_3 rfl 1 rfl ?_
  refine zw_iload_n (pc := 4) dX0_productObstacle_4 rfl 2 rfl ?_
  obtain ⟨b1, e3, H⟩ := zbind H
  obtain ⟨e2, e4⟩ := zrv_ok e3
  rcases zbind3 H with ⟨x6, h7, e5, H⟩ | ⟨q8, h9, e5, H⟩
  · refine zw_invV (pc := 5) (M' := M_X1_productObstacle) (A := [vI p1, vI p2]) [vI (0 : Int32), vR p3] dX0_productObstacle_5 (Or.inl q1904) mf_X1_productObstacle q1906 (zkq e4 rfl) (w_X1_productObstacle e5) (Nat.le_of_ble_eq_true rfl) rfl (by rw [← e2]; rfl) (Nat.le_of_ble_eq_true rfl) (zkv ?_) zkn9
    refine zw_i2l (pc := 8) dX0_productObstacle_8 ?_
    obtain ⟨h10, e11, H⟩ := zbind H
    refine zy_last (pc := 9) dX0_productObstacle_9 e11 ?_
    refine zw_goto (pc := 10) (tgt := 17) dX0_productObstacle_10 rfl ?_
    refine zw_iconst (pc := 17) (v := (0 : Int32)) dX0_productObstacle_17 (by decide) ?_
    obtain ⟨rfl, rfl⟩ := Prod.mk.inj (Option.some.inj H)
    exact zw_iret (pc := 18) dX0_productObstacle_18 rfl rfl rfl
  · refine zw_invV (pc := 5) (M' := M_X1_productObstacle) (A := [vI p1, vI p2]) [vI (0 : Int32), vR p3] dX0_productObstacle_5 (Or.inl q1904) mf_X1_productObstacle q1906 (zkq e4 rfl) (w_X1_productObstacle e5) (Nat.le_of_ble_eq_true rfl) rfl (by rw [← e2]; rfl) (Nat.le_of_ble_eq_true rfl) zkv0 (zkx ?_)
    rcases zif H with ⟨c12, H⟩ | ⟨c12, H⟩
    · have c12 := c12
      refine zx_catch [] ⟨0, 10, 13, 31⟩ [] (zkq c12 rfl) rfl (fun _ hz => nomatch hz) rfl (by decide) q1719 (by decide +kernel) ?_
      refine zw_astore (pc := 13) (lv' := [(4, vR (some q8)), (0, vR p0), (1, vI p1), (2, vI p2), (3, vR p3)]) dX0_productObstacle_13 (by decide) rfl ?_
      refine zw_iconst (pc := 15) (v := (1 : Int32)) dX0_productObstacle_15 (by decide) ?_
      obtain ⟨rfl, rfl⟩ := Prod.mk.inj (Option.some.inj H)
      exact zw_iret (pc := 16) dX0_productObstacle_16 rfl rfl rfl
    cases H
def M_X0_productStoredCount : zM := (yX0_productStoredCount, cX0_productStoredCount, 5, (.some .int), [(0, 10, 13, 31)])
theorem mf_X0_productStoredCount : zMs M_X0_productStoredCount 4 := ⟨⟨q1910, q179, ⟨by decide +kernel, by decide +kernel⟩, by decide +kernel, by decide⟩, q1909⟩
def f_X0_productStoredCount (p0 : Option Nat) (p1 : Int32) (p2 : Int32) (p3 : Option Nat) (h : zH) : Option (Int32 × zH) :=
  (zrv 1 p0 h).bind fun b1 =>
  zb3 (f_X1_productStoredCount (some b1) p1 p2 h) (fun x6 h7 =>
  (zsJ p3 (0 : Int32) x6.toInt64 h7).bind fun h10 =>
  some ((0 : Int32), h10))
  (fun q8 h9 =>
  if zk h9 q8 = 20 then
  some ((1 : Int32), h9)
  else none)
theorem w_X0_productStoredCount {G : zG} {p0 : Option Nat} {p1 : Int32} {p2 : Int32} {p3 : Option Nat} {h : zH} {vx : Int32} {vh : zH} (H : f_X0_productStoredCount p0 p1 p2 p3 h = some (vx, vh)) : zMet G M_X0_productStoredCount 9 [vR p0, vI p1, vI p2, vR p3] h (.inl (some (vI vx))) vh := by
  refine zMet.of (by decide +kernel) (Nat.le_of_ble_eq_true rfl) ?_
  show zW G M_X0_productStoredCount 9 h (.inl (some (vI vx))) vh 0 [(0, vR p0), (1, vI p1), (2, vI p2), (3, vR p3)] [] h
  unfold f_X0_productStoredCount at H
  refine zw_aload_n (pc := 0) dX0_productStoredCount_0 rfl 3 rfl ?_
  refine zw_iconst (pc := 1) (v := (0 : Int32)) dX0_productStoredCount_1 (by decide) ?_
  refine zw_aload_n (pc := 2) dX0_productStoredCount_2 rfl 0 rfl ?_
  refine zw_iload_n (pc := 3) dX0_productStoredCount_3 rfl 1 rfl ?_
  refine zw_iload_n (pc := 4) dX0_productStoredCount_4 rfl 2 rfl ?_
  obtain ⟨b1, e3, H⟩ := zbind H
  obtain ⟨e2, e4⟩ := zrv_ok e3
  rcases zbind3 H with ⟨x6, h7, e5, H⟩ | ⟨q8, h9, e5, H⟩
  · refine zw_invV (pc := 5) (M' := M_X1_productStoredCount) (A := [vI p1, vI p2]) [vI (0 : Int32), vR p3] dX0_productStoredCount_5 (Or.inl q1911) mf_X1_productStoredCount q1913 (zkq e4 rfl) (w_X1_productStoredCount e5) (Nat.le_of_ble_eq_true rfl) rfl (by rw [← e2]; rfl) (Nat.le_of_ble_eq_true rfl) (zkv ?_) zkn9
    refine zw_i2l (pc := 8) dX0_productStoredCount_8 ?_
    obtain ⟨h10, e11, H⟩ := zbind H
    refine zy_last (pc := 9) dX0_productStoredCount_9 e11 ?_
    refine zw_goto (pc := 10) (tgt := 17) dX0_productStoredCount_10 rfl ?_
    refine zw_iconst (pc := 17) (v := (0 : Int32)) dX0_productStoredCount_17 (by decide) ?_
    obtain ⟨rfl, rfl⟩ := Prod.mk.inj (Option.some.inj H)
    exact zw_iret (pc := 18) dX0_productStoredCount_18 rfl rfl rfl
  · refine zw_invV (pc := 5) (M' := M_X1_productStoredCount) (A := [vI p1, vI p2]) [vI (0 : Int32), vR p3] dX0_productStoredCount_5 (Or.inl q1911) mf_X1_productStoredCount q1913 (zkq e4 rfl) (w_X1_productStoredCount e5) (Nat.le_of_ble_eq_true rfl) rfl (by rw [← e2]; rfl) (Nat.le_of_ble_eq_true rfl) zkv0 (zkx ?_)
    rcases zif H with ⟨c12, H⟩ | ⟨c12, H⟩
    · have c12 := c12
      refine zx_catch [] ⟨0, 10, 13, 31⟩ [] (zkq c12 rfl) rfl (fun _ hz => nomatch hz) rfl (by decide) q1719 (by decide +kernel) ?_
      refine zw_astore (pc := 13) (lv' := [(4, vR (some q8)), (0, vR p0), (1, vI p1), (2, vI p2), (3, vR p3)]) dX0_productStoredCount_13 (by decide) rfl ?_
      refine zw_iconst (pc := 15) (v := (1 : Int32)) dX0_productStoredCount_15 (by decide) ?_
      obtain ⟨rfl, rfl⟩ := Prod.mk.inj (Option.some.inj H)
      exact zw_iret (pc := 16) dX0_productStoredCount_16 rfl rfl rfl
    cases H
def M_X0_productWork : zM := (yX0_productWork, cX0_productWork, 5, (.some .int), [(0, 10, 13, 31)])
theorem mf_X0_productWork : zMs M_X0_productWork 4 := ⟨⟨q1918, q179, ⟨by decide +kernel, by decide +kernel⟩, by decide +kernel, by decide⟩, q1917⟩
def f_X0_productWork (p0 : Option Nat) (p1 : Int32) (p2 : Int32) (p3 : Option Nat) (h : zH) : Option (Int32 × zH) :=
  (zrv 1 p0 h).bind fun b1 =>
  zb3 (f_X1_productWork (some b1) p1 p2 h) (fun x6 h7 =>
  (zsJ p3 (0 : Int32) x6.toInt64 h7).bind fun h10 =>
  some ((0 : Int32), h10))
  (fun q8 h9 =>
  if zk h9 q8 = 20 then
  some ((1 : Int32), h9)
  else none)
theorem w_X0_productWork {G : zG} {p0 : Option Nat} {p1 : Int32} {p2 : Int32} {p3 : Option Nat} {h : zH} {vx : Int32} {vh : zH} (H : f_X0_productWork p0 p1 p2 p3 h = some (vx, vh)) : zMet G M_X0_productWork 9 [vR p0, vI p1, vI p2, vR p3] h (.inl (some (vI vx))) vh := by
  refine zMet.of (by decide +kernel) (Nat.le_of_ble_eq_true rfl) ?_
  show zW G M_X0_productWork 9 h (.inl (some (vI vx))) vh 0 [(0, vR p0), (1, vI p1), (2, vI p2), (3, vR p3)] [] h
  unfold f_X0_productWork at H
  refine zw_aload_n (pc := 0) dX0_productWork_0 rfl 3 rfl ?_
  refine zw_iconst (pc := 1) (v := (0 : Int32)) dX0_productWork_1 (by decide) ?_
  refine zw_aload_n (pc := 2) dX0_productWork_2 rfl 0 rfl ?_
  refine zw_iload_n (pc := 3) dX0_productWork_3 rfl 1 rfl ?_
  refine zw_iload_n (pc := 4) dX0_productWork_4 rfl 2 rfl ?_
  obtain ⟨b1, e3, H⟩ := zbind H
  obtain ⟨e2, e4⟩ := zrv_ok e3
  rcases zbind3 H with ⟨x6, h7, e5, H⟩ | ⟨q8, h9, e5, H⟩
  · refine zw_invV (pc := 5) (M' := M_X1_productWork) (A := [vI p1, vI p2]) [vI (0 : Int32), vR p3] dX0_productWork_5 (Or.inl q1919) mf_X1_productWork q1921 (zkq e4 rfl) (w_X1_productWork e5) (Nat.le_of_ble_eq_true rfl) rfl (by rw [← e2]; rfl) (Nat.le_of_ble_eq_true rfl) (zkv ?_) zkn9
    refine zw_i2l (pc := 8) dX0_productWork_8 ?_
    obtain ⟨h10, e11, H⟩ := zbind H
    refine zy_last (pc := 9) dX0_productWork_9 e11 ?_
    refine zw_goto (pc := 10) (tgt := 17) dX0_productWork_10 rfl ?_
    refine zw_iconst (pc := 17) (v := (0 : Int32)) dX0_productWork_17 (by decide) ?_
    obtain ⟨rfl, rfl⟩ := Prod.mk.inj (Option.some.inj H)
    exact zw_iret (pc := 18) dX0_productWork_18 rfl rfl rfl
  · refine zw_invV (pc := 5) (M' := M_X1_productWork) (A := [vI p1, vI p2]) [vI (0 : Int32), vR p3] dX0_productWork_5 (Or.inl q1919) mf_X1_productWork q1921 (zkq e4 rfl) (w_X1_productWork e5) (Nat.le_of_ble_eq_true rfl) rfl (by rw [← e2]; rfl) (Nat.le_of_ble_eq_true rfl) zkv0 (zkx ?_)
    rcases zif H with ⟨c12, H⟩ | ⟨c12, H⟩
    · have c12 := c12
      refine zx_catch [] ⟨0, 10, 13, 31⟩ [] (zkq c12 rfl) rfl (fun _ hz => nomatch hz) rfl (by decide) q1719 (by decide +kernel) ?_
      refine zw_astore (pc := 13) (lv' := [(4, vR (some q8)), (0, vR p0), (1, vI p1), (2, vI p2), (3, vR p3)]) dX0_productWork_13 (by decide) rfl ?_
      refine zw_iconst (pc := 15) (v := (1 : Int32)) dX0_productWork_15 (by decide) ?_
      obtain ⟨rfl, rfl⟩ := Prod.mk.inj (Option.some.inj H)
      exact zw_iret (pc := 16) dX0_productWork_16 rfl rfl rfl
    cases H
def M_X0_sumStoredCount : zM := (yX0_sumStoredCount, cX0_sumStoredCount, 5, (.some .int), [(0, 10, 13, 31)])
theorem mf_X0_sumStoredCount : zMs M_X0_sumStoredCount 4 := ⟨⟨q1926, q179, ⟨by decide +kernel, by decide +kernel⟩, by decide +kernel, by decide⟩, q1925⟩
def f_X0_sumStoredCount (p0 : Option Nat) (p1 : Int32) (p2 : Int32) (p3 : Option Nat) (h : zH) : Option (Int32 × zH) :=
  (zrv 1 p0 h).bind fun b1 =>
  zb3 (f_X1_sumStoredCount (some b1) p1 p2 h) (fun x6 h7 =>
  (zsJ p3 (0 : Int32) x6.toInt64 h7).bind fun h10 =>
  some ((0 : Int32), h10))
  (fun q8 h9 =>
  if zk h9 q8 = 20 then
  some ((1 : Int32), h9)
  else none)
theorem w_X0_sumStoredCount {G : zG} {p0 : Option Nat} {p1 : Int32} {p2 : Int32} {p3 : Option Nat} {h : zH} {vx : Int32} {vh : zH} (H : f_X0_sumStoredCount p0 p1 p2 p3 h = some (vx, vh)) : zMet G M_X0_sumStoredCount 9 [vR p0, vI p1, vI p2, vR p3] h (.inl (some (vI vx))) vh := by
  refine zMet.of (by decide +kernel) (Nat.le_of_ble_eq_true rfl) ?_
  show zW G M_X0_sumStoredCount 9 h (.inl (some (vI vx))) vh 0 [(0, vR p0), (1, vI p1), (2, vI p2), (3, vR p3)] [] h
  unfold f_X0_sumStoredCount at H
  refine zw_aload_n (pc := 0) dX0_sumStoredCount_0 rfl 3 rfl ?_
  refine zw_iconst (pc := 1) (v := (0 : Int32)) dX0_sumStoredCount_1 (by decide) ?_
  refine zw_aload_n (pc := 2) dX0_sumStoredCount_2 rfl 0 rfl ?_
  refine zw_iload_n (pc := 3) dX0_sumStoredCount_3 rfl 1 rfl ?_
  refine zw_iload_n (pc := 4) dX0_sumStoredCount_4 rfl 2 rfl ?_
  obtain ⟨b1, e3, H⟩ := zbind H
  obtain ⟨e2, e4⟩ := zrv_ok e3
  rcases zbind3 H with ⟨x6, h7, e5, H⟩ | ⟨q8, h9, e5, H⟩
  · refine zw_invV (pc := 5) (M' := M_X1_sumStoredCount) (A := [vI p1, vI p2]) [vI (0 : Int32), vR p3] dX0_sumStoredCount_5 (Or.inl q1927) mf_X1_sumStoredCount q1929 (zkq e4 rfl) (w_X1_sumStoredCount e5) (Nat.le_of_ble_eq_true rfl) rfl (by rw [← e2]; rfl) (Nat.le_of_ble_eq_true rfl) (zkv ?_) zkn9
    refine zw_i2l (pc := 8) dX0_sumStoredCount_8 ?_
    obtain ⟨h10, e11, H⟩ := zbind H
    refine zy_last (pc := 9) dX0_sumStoredCount_9 e11 ?_
    refine zw_goto (pc := 10) (tgt := 17) dX0_sumStoredCount_10 rfl ?_
    refine zw_iconst (pc := 17) (v := (0 : Int32)) dX0_sumStoredCount_17 (by decide) ?_
    obtain ⟨rfl, rfl⟩ := Prod.mk.inj (Option.some.inj H)
    exact zw_iret (pc := 18) dX0_sumStoredCount_18 rfl rfl rfl
  · refine zw_invV (pc := 5) (M' := M_X1_sumStoredCount) (A := [vI p1, vI p2]) [vI (0 : Int32), vR p3] dX0_sumStoredCount_5 (Or.inl q1927) mf_X1_sumStoredCount q1929 (zkq e4 rfl) (w_X1_sumStoredCount e5) (Nat.le_of_ble_eq_true rfl) rfl (by rw [← e2]; rfl) (Nat.le_of_ble_eq_true rfl) zkv0 (zkx ?_)
    rcases zif H with ⟨c12, H⟩ | ⟨c12, H⟩
    · have c12 := c12
      refine zx_catch [] ⟨0, 10, 13, 31⟩ [] (zkq c12 rfl) rfl (fun _ hz => nomatch hz) rfl (by decide) q1719 (by decide +kernel) ?_
      refine zw_astore (pc := 13) (lv' := [(4, vR (some q8)), (0, vR p0), (1, vI p1), (2, vI p2), (3, vR p3)]) dX0_sumStoredCount_13 (by decide) rfl ?_
      refine zw_iconst (pc := 15) (v := (1 : Int32)) dX0_sumStoredCount_15 (by decide) ?_
      obtain ⟨rfl, rfl⟩ := Prod.mk.inj (Option.some.inj H)
      exact zw_iret (pc := 16) dX0_sumStoredCount_16 rfl rfl rfl
    cases H
def M_X0_costliestEntry : zM := (yX0_costliestEntry, cX0_costliestEntry, 5, (.some .int), [(0, 10, 13, 31)])
theorem mf_X0_costliestEntry : zMs M_X0_costliestEntry 4 := ⟨⟨q1934, q179, ⟨by decide +kernel, by decide +kernel⟩, by decide +kernel, by decide⟩, q1933⟩
def f_X0_costliestEntry (p0 : Option Nat) (p1 : Int32) (p2 : Int32) (p3 : Option Nat) (h : zH) : Option (Int32 × zH) :=
  (zrv 1 p0 h).bind fun b1 =>
  zb3 (f_X1_costliestEntry (some b1) p1 p2 h) (fun x6 h7 =>
  (zsJ p3 (0 : Int32) x6.toInt64 h7).bind fun h10 =>
  some ((0 : Int32), h10))
  (fun q8 h9 =>
  if zk h9 q8 = 20 then
  some ((1 : Int32), h9)
  else none)
theorem w_X0_costliestEntry {G : zG} {p0 : Option Nat} {p1 : Int32} {p2 : Int32} {p3 : Option Nat} {h : zH} {vx : Int32} {vh : zH} (H : f_X0_costliestEntry p0 p1 p2 p3 h = some (vx, vh)) : zMet G M_X0_costliestEntry 9 [vR p0, vI p1, vI p2, vR p3] h (.inl (some (vI vx))) vh := by
  refine zMet.of (by decide +kernel) (Nat.le_of_ble_eq_true rfl) ?_
  show zW G M_X0_costliestEntry 9 h (.inl (some (vI vx))) vh 0 [(0, vR p0), (1, vI p1), (2, vI p2), (3, vR p3)] [] h
  unfold f_X0_costliestEntry at H
  refine zw_aload_n (pc := 0) dX0_costliestEntry_0 rfl 3 rfl ?_
  refine zw_iconst (pc := 1) (v := (0 : Int32)) dX0_costliestEntry_1 (by decide) ?_
  refine zw_aload_n (pc := 2) dX0_costliestEntry_2 rfl 0 rfl ?_
  refine zw_iload_n (pc := 3) dX0_costliestEntry_3 rfl 1 rfl ?_
  refine zw_iload_n (pc := 4) dX0_costliestEntry_4 rfl 2 rfl ?_
  obtain ⟨b1, e3, H⟩ := zbind H
  obtain ⟨e2, e4⟩ := zrv_ok e3
  rcases zbind3 H with ⟨x6, h7, e5, H⟩ | ⟨q8, h9, e5, H⟩
  · refine zw_invV (pc := 5) (M' := M_X1_costliestEntry) (A := [vI p1, vI p2]) [vI (0 : Int32), vR p3] dX0_costliestEntry_5 (Or.inl q1935) mf_X1_costliestEntry q1937 (zkq e4 rfl) (w_X1_costliestEntry e5) (Nat.le_of_ble_eq_true rfl) rfl (by rw [← e2]; rfl) (Nat.le_of_ble_eq_true rfl) (zkv ?_) zkn9
    refine zw_i2l (pc := 8) dX0_costliestEntry_8 ?_
    obtain ⟨h10, e11, H⟩ := zbind H
    refine zy_last (pc := 9) dX0_costliestEntry_9 e11 ?_
    refine zw_goto (pc := 10) (tgt := 17) dX0_costliestEntry_10 rfl ?_
    refine zw_iconst (pc := 17) (v := (0 : Int32)) dX0_costliestEntry_17 (by decide) ?_
    obtain ⟨rfl, rfl⟩ := Prod.mk.inj (Option.some.inj H)
    exact zw_iret (pc := 18) dX0_costliestEntry_18 rfl rfl rfl
  · refine zw_invV (pc := 5) (M' := M_X1_costliestEntry) (A := [vI p1, vI p2]) [vI (0 : Int32), vR p3] dX0_costliestEntry_5 (Or.inl q1935) mf_X1_costliestEntry q1937 (zkq e4 rfl) (w_X1_costliestEntry e5) (Nat.le_of_ble_eq_true rfl) rfl (by rw [← e2]; rfl) (Nat.le_of_ble_eq_true rfl) zkv0 (zkx ?_)
    rcases zif H with ⟨c12, H⟩ | ⟨c12, H⟩
    · have c12 := c12
      refine zx_catch [] ⟨0, 10, 13, 31⟩ [] (zkq c12 rfl) rfl (fun _ hz => nomatch hz) rfl (by decide) q1719 (by decide +kernel) ?_
      refine zw_astore (pc := 13) (lv' := [(4, vR (some q8)), (0, vR p0), (1, vI p1), (2, vI p2), (3, vR p3)]) dX0_costliestEntry_13 (by decide) rfl ?_
      refine zw_iconst (pc := 15) (v := (1 : Int32)) dX0_costliestEntry_15 (by decide) ?_
      obtain ⟨rfl, rfl⟩ := Prod.mk.inj (Option.some.inj H)
      exact zw_iret (pc := 16) dX0_costliestEntry_16 rfl rfl rfl
    cases H
def M_X0_density : zM := (yX0_density, cX0_density, 4, (.some .int), [(0, 9, 12, 31)])
theorem mf_X0_density : zMs M_X0_density 3 := ⟨⟨q1941, q179, ⟨by decide +kernel, by decide +kernel⟩, by decide +kernel, by decide⟩, q1940⟩
def f_X0_density (p0 : Option Nat) (p1 : Int32) (p2 : Option Nat) (h : zH) : Option (Int32 × zH) :=
  (zrv 1 p0 h).bind fun b1 =>
  zb3 (f_X1_density (some b1) p1 h) (fun x6 h7 =>
  if (FP.f2d x6) &&& 0x7fffffffffffffff ≤ 0x7ff0000000000000 then
  (zsD p2 (0 : Int32) (FP.f2d x6) h7).bind fun h11 =>
  some ((0 : Int32), h11)
  else none)
  (fun q8 h9 =>
  if zk h9 q8 = 20 then
  some ((1 : Int32), h9)
  else none)
theorem w_X0_density {G : zG} {p0 : Option Nat} {p1 : Int32} {p2 : Option Nat} {h : zH} {vx : Int32} {vh : zH} (H : f_X0_density p0 p1 p2 h = some (vx, vh)) : zMet G M_X0_density 9 [vR p0, vI p1, vR p2] h (.inl (some (vI vx))) vh := by
  refine zMet.of (by decide +kernel) (Nat.le_of_ble_eq_true rfl) ?_
  show zW G M_X0_density 9 h (.inl (some (vI vx))) vh 0 [(0, vR p0), (1, vI p1), (2, vR p2)] [] h
  unfold f_X0_density at H
  refine zw_aload_n (pc := 0) dX0_density_0 rfl 2 rfl ?_
  refine zw_iconst (pc := 1) (v := (0 : Int32)) dX0_density_1 (by decide) ?_
  refine zw_aload_n (pc := 2) dX0_density_2 rfl 0 rfl ?_
  refine zw_iload_n (pc := 3) dX0_density_3 rfl 1 rfl ?_
  obtain ⟨b1, e3, H⟩ := zbind H
  obtain ⟨e2, e4⟩ := zrv_ok e3
  rcases zbind3 H with ⟨x6, h7, e5, H⟩ | ⟨q8, h9, e5, H⟩
  · refine zw_invV (pc := 4) (M' := M_X1_density) (A := [vI p1]) [vI (0 : Int32), vR p2] dX0_density_4 (Or.inl q1942) mf_X1_density q1944 (zkq e4 rfl) (w_X1_density e5) (Nat.le_of_ble_eq_true rfl) rfl (by rw [← e2]; rfl) (Nat.le_of_ble_eq_true rfl) (zkv ?_) zkn9
    obtain ⟨c10, H⟩ := zgd H
    refine zw_f2d (pc := 7) dX0_density_7 c10 ?_
    obtain ⟨h11, e12, H⟩ := zbind H
    refine zy_dast (pc := 8) dX0_density_8 e12 ?_
    refine zw_goto (pc := 9) (tgt := 15) dX0_density_9 rfl ?_
    refine zw_iconst (pc := 15) (v := (0 : Int32)) dX0_density_15 (by decide) ?_
    obtain ⟨rfl, rfl⟩ := Prod.mk.inj (Option.some.inj H)
    exact zw_iret (pc := 16) dX0_density_16 rfl rfl rfl
  · refine zw_invV (pc := 4) (M' := M_X1_density) (A := [vI p1]) [vI (0 : Int32), vR p2] dX0_density_4 (Or.inl q1942) mf_X1_density q1944 (zkq e4 rfl) (w_X1_density e5) (Nat.le_of_ble_eq_true rfl) rfl (by rw [← e2]; rfl) (Nat.le_of_ble_eq_true rfl) zkv0 (zkx ?_)
    rcases zif H with ⟨c13, H⟩ | ⟨c13, H⟩
    · have c13 := c13
      refine zx_catch [] ⟨0, 9, 12, 31⟩ [] (zkq c13 rfl) rfl (fun _ hz => nomatch hz) rfl (by decide) q1719 (by decide +kernel) ?_
      refine zw_astore_n (pc := 12) (lv' := [(3, vR (some q8)), (0, vR p0), (1, vI p1), (2, vR p2)]) dX0_density_12 rfl (by decide) rfl ?_
      refine zw_iconst (pc := 13) (v := (1 : Int32)) dX0_density_13 (by decide) ?_
      obtain ⟨rfl, rfl⟩ := Prod.mk.inj (Option.some.inj H)
      exact zw_iret (pc := 14) dX0_density_14 rfl rfl rfl
    cases H
def M_X0_meanStoredValue : zM := (yX0_meanStoredValue, cX0_meanStoredValue, 4, (.some .int), [(0, 8, 11, 31)])
theorem mf_X0_meanStoredValue : zMs M_X0_meanStoredValue 3 := ⟨⟨q1948, q179, ⟨by decide +kernel, by decide +kernel⟩, by decide +kernel, by decide⟩, q1947⟩
def f_X0_meanStoredValue (p0 : Option Nat) (p1 : Int32) (p2 : Option Nat) (h : zH) : Option (Int32 × zH) :=
  (zrv 1 p0 h).bind fun b1 =>
  zb3 (f_X1_meanStoredValue (some b1) p1 h) (fun x6 h7 =>
  (zsD p2 (0 : Int32) x6 h7).bind fun h10 =>
  some ((0 : Int32), h10))
  (fun q8 h9 =>
  if zk h9 q8 = 20 then
  some ((1 : Int32), h9)
  else none)
theorem w_X0_meanStoredValue {G : zG} {p0 : Option Nat} {p1 : Int32} {p2 : Option Nat} {h : zH} {vx : Int32} {vh : zH} (H : f_X0_meanStoredValue p0 p1 p2 h = some (vx, vh)) : zMet G M_X0_meanStoredValue 9 [vR p0, vI p1, vR p2] h (.inl (some (vI vx))) vh := by
  refine zMet.of (by decide +kernel) (Nat.le_of_ble_eq_true rfl) ?_
  show zW G M_X0_meanStoredValue 9 h (.inl (some (vI vx))) vh 0 [(0, vR p0), (1, vI p1), (2, vR p2)] [] h
  unfold f_X0_meanStoredValue at H
  refine zw_aload_n (pc := 0) dX0_meanStoredValue_0 rfl 2 rfl ?_
  refine zw_iconst (pc := 1) (v := (0 : Int32)) dX0_meanStoredValue_1 (by decide) ?_
  refine zw_aload_n (pc := 2) dX0_meanStoredValue_2 rfl 0 rfl ?_
  refine zw_iload_n (pc := 3) dX0_meanStoredValue_3 rfl 1 rfl ?_
  obtain ⟨b1, e3, H⟩ := zbind H
  obtain ⟨e2, e4⟩ := zrv_ok e3
  rcases zbind3 H with ⟨x6, h7, e5, H⟩ | ⟨q8, h9, e5, H⟩
  · refine zw_invV (pc := 4) (M' := M_X1_meanStoredValue) (A := [vI p1]) [vI (0 : Int32), vR p2] dX0_meanStoredValue_4 (Or.inl q1949) mf_X1_meanStoredValue q1951 (zkq e4 rfl) (w_X1_meanStoredValue e5) (Nat.le_of_ble_eq_true rfl) rfl (by rw [← e2]; rfl) (Nat.le_of_ble_eq_true rfl) (zkv ?_) zkn9
    obtain ⟨h10, e11, H⟩ := zbind H
    refine zy_dast (pc := 7) dX0_meanStoredValue_7 e11 ?_
    refine zw_goto (pc := 8) (tgt := 14) dX0_meanStoredValue_8 rfl ?_
    refine zw_iconst (pc := 14) (v := (0 : Int32)) dX0_meanStoredValue_14 (by decide) ?_
    obtain ⟨rfl, rfl⟩ := Prod.mk.inj (Option.some.inj H)
    exact zw_iret (pc := 15) dX0_meanStoredValue_15 rfl rfl rfl
  · refine zw_invV (pc := 4) (M' := M_X1_meanStoredValue) (A := [vI p1]) [vI (0 : Int32), vR p2] dX0_meanStoredValue_4 (Or.inl q1949) mf_X1_meanStoredValue q1951 (zkq e4 rfl) (w_X1_meanStoredValue e5) (Nat.le_of_ble_eq_true rfl) rfl (by rw [← e2]; rfl) (Nat.le_of_ble_eq_true rfl) zkv0 (zkx ?_)
    rcases zif H with ⟨c12, H⟩ | ⟨c12, H⟩
    · have c12 := c12
      refine zx_catch [] ⟨0, 8, 11, 31⟩ [] (zkq c12 rfl) rfl (fun _ hz => nomatch hz) rfl (by decide) q1719 (by decide +kernel) ?_
      refine zw_astore_n (pc := 11) (lv' := [(3, vR (some q8)), (0, vR p0), (1, vI p1), (2, vR p2)]) dX0_meanStoredValue_11 rfl (by decide) rfl ?_
      refine zw_iconst (pc := 12) (v := (1 : Int32)) dX0_meanStoredValue_12 (by decide) ?_
      obtain ⟨rfl, rfl⟩ := Prod.mk.inj (Option.some.inj H)
      exact zw_iret (pc := 13) dX0_meanStoredValue_13 rfl rfl rfl
    cases H
def M_X0_create : zM := (yX0_create, cX0_create, 6, (.some .int), [(0, 12, 15, 31), (0, 12, 19, 19)])
theorem mf_X0_create : zMs M_X0_create 5 := ⟨⟨q1955, q179, ⟨by decide +kernel, by decide +kernel⟩, by decide +kernel, by decide⟩, q1954⟩
def f_X0_create (p0 : Option Nat) (p1 : Int32) (p2 : Int32) (p3 : Int32) (p4 : Option Nat) (h : zH) : Option (Int32 × zH) :=
  (zrv 1 p0 h).bind fun b1 =>
  zb3 (f_X1_create (some b1) p1 p2 p3 h) (fun x6 h7 =>
  (zsJ p4 (0 : Int32) x6.toInt64 h7).bind fun h10 =>
  some ((0 : Int32), h10))
  (fun q8 h9 =>
  if zk h9 q8 = 20 then
  some ((1 : Int32), h9)
  else if zk h9 q8 = 21 then
  some ((2 : Int32), h9)
  else none)
theorem w_X0_create {G : zG} {p0 : Option Nat} {p1 : Int32} {p2 : Int32} {p3 : Int32} {p4 : Option Nat} {h : zH} {vx : Int32} {vh : zH} (H : f_X0_create p0 p1 p2 p3 p4 h = some (vx, vh)) : zMet G M_X0_create 10 [vR p0, vI p1, vI p2, vI p3, vR p4] h (.inl (some (vI vx))) vh := by
  refine zMet.of (by decide +kernel) (Nat.le_of_ble_eq_true rfl) ?_
  show zW G M_X0_create 10 h (.inl (some (vI vx))) vh 0 [(0, vR p0), (1, vI p1), (2, vI p2), (3, vI p3), (4, vR p4)] [] h
  unfold f_X0_create at H
  refine zw_aload (pc := 0) dX0_create_0 4 rfl ?_
  refine zw_iconst (pc := 2) (v := (0 : Int32)) dX0_create_2 (by decide) ?_
  refine zw_aload_n (pc := 3) dX0_create_3 rfl 0 rfl ?_
  refine zw_iload_n (pc := 4) dX0_create_4 rfl 1 rfl ?_
  refine zw_iload_n (pc := 5) dX0_create_5 rfl 2 rfl ?_
  refine zw_iload_n (pc := 6) dX0_create_6 rfl 3 rfl ?_
  obtain ⟨b1, e3, H⟩ := zbind H
  obtain ⟨e2, e4⟩ := zrv_ok e3
  rcases zbind3 H with ⟨x6, h7, e5, H⟩ | ⟨q8, h9, e5, H⟩
  · refine zw_invV (pc := 7) (M' := M_X1_create) (A := [vI p1, vI p2, vI p3]) [vI (0 : Int32), vR p4] dX0_create_7 (Or.inl q1956) mf_X1_create q1958 (zkq e4 rfl) (w_X1_create e5) (Nat.le_of_ble_eq_true rfl) rfl (by rw [← e2]; rfl) (Nat.le_of_ble_eq_true rfl) (zkv ?_) zkn9
    refine zw_i2l (pc := 10) dX0_create_10 ?_
    obtain ⟨h10, e11, H⟩ := zbind H
    refine zy_last (pc := 11) dX0_create_11 e11 ?_
    refine zw_goto (pc := 12) (tgt := 23) dX0_create_12 rfl ?_
    refine zw_iconst (pc := 23) (v := (0 : Int32)) dX0_create_23 (by decide) ?_
    obtain ⟨rfl, rfl⟩ := Prod.mk.inj (Option.some.inj H)
    exact zw_iret (pc := 24) dX0_create_24 rfl rfl rfl
  · refine zw_invV (pc := 7) (M' := M_X1_create) (A := [vI p1, vI p2, vI p3]) [vI (0 : Int32), vR p4] dX0_create_7 (Or.inl q1956) mf_X1_create q1958 (zkq e4 rfl) (w_X1_create e5) (Nat.le_of_ble_eq_true rfl) rfl (by rw [← e2]; rfl) (Nat.le_of_ble_eq_true rfl) zkv0 (zkx ?_)
    rcases zif H with ⟨c12, H⟩ | ⟨c12, H⟩
    · have c12 := c12
      refine zx_catch [] ⟨0, 12, 15, 31⟩ [⟨0, 12, 19, 19⟩] (zkq c12 rfl) rfl (fun _ hz => nomatch hz) rfl (by decide) q1719 (by decide +kernel) ?_
      refine zw_astore (pc := 15) (lv' := [(5, vR (some q8)), (0, vR p0), (1, vI p1), (2, vI p2), (3, vI p3), (4, vR p4)]) dX0_create_15 (by decide) rfl ?_
      refine zw_iconst (pc := 17) (v := (1 : Int32)) dX0_create_17 (by decide) ?_
      obtain ⟨rfl, rfl⟩ := Prod.mk.inj (Option.some.inj H)
      exact zw_iret (pc := 18) dX0_create_18 rfl rfl rfl
    rcases zif H with ⟨c13, H⟩ | ⟨c13, H⟩
    · have c13 := c13
      refine zx_catch [⟨0, 12, 15, 31⟩] ⟨0, 12, 19, 19⟩ [] (zkq c13 rfl) rfl (List.forall_mem_cons.mpr ⟨Or.inr ⟨by decide, "java/lang/IndexOutOfBoundsException", q1719, by decide +kernel⟩, (fun _ hz => nomatch hz)⟩) rfl (by decide) q598 (by decide +kernel) ?_
      refine zw_astore (pc := 19) (lv' := [(5, vR (some q8)), (0, vR p0), (1, vI p1), (2, vI p2), (3, vI p3), (4, vR p4)]) dX0_create_19 (by decide) rfl ?_
      refine zw_iconst (pc := 21) (v := (2 : Int32)) dX0_create_21 (by decide) ?_
      obtain ⟨rfl, rfl⟩ := Prod.mk.inj (Option.some.inj H)
      exact zw_iret (pc := 22) dX0_create_22 rfl rfl rfl
    cases H
def M_X0_set : zM := (yX0_set, cX0_set, 7, (.some .int), [(0, 14, 17, 31), (0, 14, 21, 19)])
theorem mf_X0_set : zMs M_X0_set 6 := ⟨⟨q1962, q179, ⟨by decide +kernel, by decide +kernel⟩, by decide +kernel, by decide⟩, q1961⟩
def f_X0_set (p0 : Option Nat) (p1 : Int32) (p2 : Int32) (p3 : Int32) (p4 : Int32) (p5 : Option Nat) (h : zH) : Option ((Int32 ⊕ Nat) × zH) :=
  (zrv 1 p0 h).bind fun b1 =>
  zb3 (f_X1_set (some b1) p1 p2 p3 p4 h) (fun x6 h7 =>
  (zsJ p5 (0 : Int32) x6.toInt64 h7).bind fun h10 =>
  some (.inl (0 : Int32), h10))
  (fun q8 h9 =>
  if zk h9 q8 = 20 then
  some (.inl (1 : Int32), h9)
  else if zk h9 q8 = 21 then
  some (.inl (2 : Int32), h9)
  else if zk h9 q8 = 22 then
  some (.inr q8, h9)
  else none)
theorem w_X0_set {G : zG} {p0 : Option Nat} {p1 : Int32} {p2 : Int32} {p3 : Int32} {p4 : Int32} {p5 : Option Nat} {h : zH} {vo : Int32 ⊕ Nat} {vh : zH} (H : f_X0_set p0 p1 p2 p3 p4 p5 h = some (vo, vh)) : zMet G M_X0_set 14 [vR p0, vI p1, vI p2, vI p3, vI p4, vR p5] h (zoI vo) vh := by
  refine zMet.of (by decide +kernel) (Nat.le_of_ble_eq_true rfl) ?_
  show zW G M_X0_set 14 h (zoI vo) vh 0 [(0, vR p0), (1, vI p1), (2, vI p2), (3, vI p3), (4, vI p4), (5, vR p5)] [] h
  unfold f_X0_set at H
  refine zw_aload (pc := 0) dX0_set_0 5 rfl ?_
  refine zw_iconst (pc := 2) (v := (0 : Int32)) dX0_set_2 (by decide) ?_
  refine zw_aload_n (pc := 3) dX0_set_3 rfl 0 rfl ?_
  refine zw_iload_n (pc := 4) dX0_set_4 rfl 1 rfl ?_
  refine zw_iload_n (pc := 5) dX0_set_5 rfl 2 rfl ?_
  refine zw_iload_n (pc := 6) dX0_set_6 rfl 3 rfl ?_
  refine zw_iload (pc := 7) dX0_set_7 4 rfl ?_
  obtain ⟨b1, e3, H⟩ := zbind H
  obtain ⟨e2, e4⟩ := zrv_ok e3
  rcases zbind3 H with ⟨x6, h7, e5, H⟩ | ⟨q8, h9, e5, H⟩
  · refine zw_invV (pc := 9) (M' := M_X1_set) (A := [vI p1, vI p2, vI p3, vI p4]) [vI (0 : Int32), vR p5] dX0_set_9 (Or.inl q1963) mf_X1_set q1965 (zkq e4 rfl) (w_X1_set e5) (Nat.le_of_ble_eq_true rfl) rfl (by rw [← e2]; rfl) (Nat.le_of_ble_eq_true rfl) (zkv ?_) zkn9
    refine zw_i2l (pc := 12) dX0_set_12 ?_
    obtain ⟨h10, e11, H⟩ := zbind H
    refine zy_last (pc := 13) dX0_set_13 e11 ?_
    refine zw_goto (pc := 14) (tgt := 25) dX0_set_14 rfl ?_
    refine zw_iconst (pc := 25) (v := (0 : Int32)) dX0_set_25 (by decide) ?_
    obtain ⟨rfl, rfl⟩ := Prod.mk.inj (Option.some.inj H)
    exact zw_iret (pc := 26) dX0_set_26 rfl rfl rfl
  · refine zw_invV (pc := 9) (M' := M_X1_set) (A := [vI p1, vI p2, vI p3, vI p4]) [vI (0 : Int32), vR p5] dX0_set_9 (Or.inl q1963) mf_X1_set q1965 (zkq e4 rfl) (w_X1_set e5) (Nat.le_of_ble_eq_true rfl) rfl (by rw [← e2]; rfl) (Nat.le_of_ble_eq_true rfl) zkv0 (zkx ?_)
    rcases zif H with ⟨c12, H⟩ | ⟨c12, H⟩
    · have c12 := c12
      refine zx_catch [] ⟨0, 14, 17, 31⟩ [⟨0, 14, 21, 19⟩] (zkq c12 rfl) rfl (fun _ hz => nomatch hz) rfl (by decide) q1719 (by decide +kernel) ?_
      refine zw_astore (pc := 17) (lv' := [(6, vR (some q8)), (0, vR p0), (1, vI p1), (2, vI p2), (3, vI p3), (4, vI p4), (5, vR p5)]) dX0_set_17 (by decide) rfl ?_
      refine zw_iconst (pc := 19) (v := (1 : Int32)) dX0_set_19 (by decide) ?_
      obtain ⟨rfl, rfl⟩ := Prod.mk.inj (Option.some.inj H)
      exact zw_iret (pc := 20) dX0_set_20 rfl rfl rfl
    rcases zif H with ⟨c13, H⟩ | ⟨c13, H⟩
    · have c13 := c13
      refine zx_catch [⟨0, 14, 17, 31⟩] ⟨0, 14, 21, 19⟩ [] (zkq c13 rfl) rfl (List.forall_mem_cons.mpr ⟨Or.inr ⟨by decide, "java/lang/IndexOutOfBoundsException", q1719, by decide +kernel⟩, (fun _ hz => nomatch hz)⟩) rfl (by decide) q598 (by decide +kernel) ?_
      refine zw_astore (pc := 21) (lv' := [(6, vR (some q8)), (0, vR p0), (1, vI p1), (2, vI p2), (3, vI p3), (4, vI p4), (5, vR p5)]) dX0_set_21 (by decide) rfl ?_
      refine zw_iconst (pc := 23) (v := (2 : Int32)) dX0_set_23 (by decide) ?_
      obtain ⟨rfl, rfl⟩ := Prod.mk.inj (Option.some.inj H)
      exact zw_iret (pc := 24) dX0_set_24 rfl rfl rfl
    rcases zif H with ⟨c14, H⟩ | ⟨c14, H⟩
    · have c14 := c14
      obtain ⟨rfl, rfl⟩ := Prod.mk.inj (Option.some.inj H)
      exact zx_out (zkq c14 rfl) (List.forall_mem_cons.mpr ⟨Or.inr ⟨by decide, "java/lang/IndexOutOfBoundsException", q1719, by decide +kernel⟩, (List.forall_mem_cons.mpr ⟨Or.inr ⟨by decide, "java/lang/IllegalArgumentException", q598, by decide +kernel⟩, (fun _ hz => nomatch hz)⟩)⟩) rfl rfl
    cases H
def M_X0_erase : zM := (yX0_erase, cX0_erase, 6, (.some .int), [(0, 12, 15, 31), (0, 12, 19, 13)])
theorem mf_X0_erase : zMs M_X0_erase 5 := ⟨⟨q1969, q179, ⟨by decide +kernel, by decide +kernel⟩, by decide +kernel, by decide⟩, q1968⟩
def f_X0_erase (p0 : Option Nat) (p1 : Int32) (p2 : Int32) (p3 : Int32) (p4 : Option Nat) (h : zH) : Option (Int32 × zH) :=
  (zrv 1 p0 h).bind fun b1 =>
  zb3 (f_X1_erase (some b1) p1 p2 p3 h) (fun x6 h7 =>
  (zsJ p4 (0 : Int32) x6.toInt64 h7).bind fun h10 =>
  some ((0 : Int32), h10))
  (fun q8 h9 =>
  if zk h9 q8 = 20 then
  some ((1 : Int32), h9)
  else if zk h9 q8 = 22 then
  some ((2 : Int32), h9)
  else none)
theorem w_X0_erase {G : zG} {p0 : Option Nat} {p1 : Int32} {p2 : Int32} {p3 : Int32} {p4 : Option Nat} {h : zH} {vx : Int32} {vh : zH} (H : f_X0_erase p0 p1 p2 p3 p4 h = some (vx, vh)) : zMet G M_X0_erase 14 [vR p0, vI p1, vI p2, vI p3, vR p4] h (.inl (some (vI vx))) vh := by
  refine zMet.of (by decide +kernel) (Nat.le_of_ble_eq_true rfl) ?_
  show zW G M_X0_erase 14 h (.inl (some (vI vx))) vh 0 [(0, vR p0), (1, vI p1), (2, vI p2), (3, vI p3), (4, vR p4)] [] h
  unfold f_X0_erase at H
  refine zw_aload (pc := 0) dX0_erase_0 4 rfl ?_
  refine zw_iconst (pc := 2) (v := (0 : Int32)) dX0_erase_2 (by decide) ?_
  refine zw_aload_n (pc := 3) dX0_erase_3 rfl 0 rfl ?_
  refine zw_iload_n (pc := 4) dX0_erase_4 rfl 1 rfl ?_
  refine zw_iload_n (pc := 5) dX0_erase_5 rfl 2 rfl ?_
  refine zw_iload_n (pc := 6) dX0_erase_6 rfl 3 rfl ?_
  obtain ⟨b1, e3, H⟩ := zbind H
  obtain ⟨e2, e4⟩ := zrv_ok e3
  rcases zbind3 H with ⟨x6, h7, e5, H⟩ | ⟨q8, h9, e5, H⟩
  · refine zw_invV (pc := 7) (M' := M_X1_erase) (A := [vI p1, vI p2, vI p3]) [vI (0 : Int32), vR p4] dX0_erase_7 (Or.inl q1970) mf_X1_erase q1972 (zkq e4 rfl) (w_X1_erase e5) (Nat.le_of_ble_eq_true rfl) rfl (by rw [← e2]; rfl) (Nat.le_of_ble_eq_true rfl) (zkv ?_) zkn9
    refine zw_i2l (pc := 10) dX0_erase_10 ?_
    obtain ⟨h10, e11, H⟩ := zbind H
    refine zy_last (pc := 11) dX0_erase_11 e11 ?_
    refine zw_goto (pc := 12) (tgt := 23) dX0_erase_12 rfl ?_
    refine zw_iconst (pc := 23) (v := (0 : Int32)) dX0_erase_23 (by decide) ?_
    obtain ⟨rfl, rfl⟩ := Prod.mk.inj (Option.some.inj H)
    exact zw_iret (pc := 24) dX0_erase_24 rfl rfl rfl
  · refine zw_invV (pc := 7) (M' := M_X1_erase) (A := [vI p1, vI p2, vI p3]) [vI (0 : Int32), vR p4] dX0_erase_7 (Or.inl q1970) mf_X1_erase q1972 (zkq e4 rfl) (w_X1_erase e5) (Nat.le_of_ble_eq_true rfl) rfl (by rw [← e2]; rfl) (Nat.le_of_ble_eq_true rfl) zkv0 (zkx ?_)
    rcases zif H with ⟨c12, H⟩ | ⟨c12, H⟩
    · have c12 := c12
      refine zx_catch [] ⟨0, 12, 15, 31⟩ [⟨0, 12, 19, 13⟩] (zkq c12 rfl) rfl (fun _ hz => nomatch hz) rfl (by decide) q1719 (by decide +kernel) ?_
      refine zw_astore (pc := 15) (lv' := [(5, vR (some q8)), (0, vR p0), (1, vI p1), (2, vI p2), (3, vI p3), (4, vR p4)]) dX0_erase_15 (by decide) rfl ?_
      refine zw_iconst (pc := 17) (v := (1 : Int32)) dX0_erase_17 (by decide) ?_
      obtain ⟨rfl, rfl⟩ := Prod.mk.inj (Option.some.inj H)
      exact zw_iret (pc := 18) dX0_erase_18 rfl rfl rfl
    rcases zif H with ⟨c13, H⟩ | ⟨c13, H⟩
    · have c13 := c13
      refine zx_catch [⟨0, 12, 15, 31⟩] ⟨0, 12, 19, 13⟩ [] (zkq c13 rfl) rfl (List.forall_mem_cons.mpr ⟨Or.inr ⟨by decide, "java/lang/IndexOutOfBoundsException", q1719, by decide +kernel⟩, (fun _ hz => nomatch hz)⟩) rfl (by decide) q560 (by decide +kernel) ?_
      refine zw_astore (pc := 19) (lv' := [(5, vR (some q8)), (0, vR p0), (1, vI p1), (2, vI p2), (3, vI p3), (4, vR p4)]) dX0_erase_19 (by decide) rfl ?_
      refine zw_iconst (pc := 21) (v := (2 : Int32)) dX0_erase_21 (by decide) ?_
      obtain ⟨rfl, rfl⟩ := Prod.mk.inj (Option.some.inj H)
      exact zw_iret (pc := 22) dX0_erase_22 rfl rfl rfl
    cases H
def M_X0_dropZeros : zM := (yX0_dropZeros, cX0_dropZeros, 4, (.some .int), [(0, 9, 12, 31)])
theorem mf_X0_dropZeros : zMs M_X0_dropZeros 3 := ⟨⟨q1976, q179, ⟨by decide +kernel, by decide +kernel⟩, by decide +kernel, by decide⟩, q1975⟩
def f_X0_dropZeros (p0 : Option Nat) (p1 : Int32) (p2 : Option Nat) (h : zH) : Option ((Int32 ⊕ Nat) × zH) :=
  (zrv 1 p0 h).bind fun b1 =>
  zb3 (f_X1_dropZeros (some b1) p1 h) (fun x6 h7 =>
  (zsJ p2 (0 : Int32) x6.toInt64 h7).bind fun h10 =>
  some (.inl (0 : Int32), h10))
  (fun q8 h9 =>
  if zk h9 q8 = 20 then
  some (.inl (1 : Int32), h9)
  else if zk h9 q8 = 22 then
  some (.inr q8, h9)
  else none)
theorem w_X0_dropZeros {G : zG} {p0 : Option Nat} {p1 : Int32} {p2 : Option Nat} {h : zH} {vo : Int32 ⊕ Nat} {vh : zH} (H : f_X0_dropZeros p0 p1 p2 h = some (vo, vh)) : zMet G M_X0_dropZeros 14 [vR p0, vI p1, vR p2] h (zoI vo) vh := by
  refine zMet.of (by decide +kernel) (Nat.le_of_ble_eq_true rfl) ?_
  show zW G M_X0_dropZeros 14 h (zoI vo) vh 0 [(0, vR p0), (1, vI p1), (2, vR p2)] [] h
  unfold f_X0_dropZeros at H
  refine zw_aload_n (pc := 0) dX0_dropZeros_0 rfl 2 rfl ?_
  refine zw_iconst (pc := 1) (v := (0 : Int32)) dX0_dropZeros_1 (by decide) ?_
  refine zw_aload_n (pc := 2) dX0_dropZeros_2 rfl 0 rfl ?_
  refine zw_iload_n (pc := 3) dX0_dropZeros_3 rfl 1 rfl ?_
  obtain ⟨b1, e3, H⟩ := zbind H
  obtain ⟨e2, e4⟩ := zrv_ok e3
  rcases zbind3 H with ⟨x6, h7, e5, H⟩ | ⟨q8, h9, e5, H⟩
  · refine zw_invV (pc := 4) (M' := M_X1_dropZeros) (A := [vI p1]) [vI (0 : Int32), vR p2] dX0_dropZeros_4 (Or.inl q1977) mf_X1_dropZeros q1979 (zkq e4 rfl) (w_X1_dropZeros e5) (Nat.le_of_ble_eq_true rfl) rfl (by rw [← e2]; rfl) (Nat.le_of_ble_eq_true rfl) (zkv ?_) zkn9
    refine zw_i2l (pc := 7) dX0_dropZeros_7 ?_
    obtain ⟨h10, e11, H⟩ := zbind H
    refine zy_last (pc := 8) dX0_dropZeros_8 e11 ?_
    refine zw_goto (pc := 9) (tgt := 15) dX0_dropZeros_9 rfl ?_
    refine zw_iconst (pc := 15) (v := (0 : Int32)) dX0_dropZeros_15 (by decide) ?_
    obtain ⟨rfl, rfl⟩ := Prod.mk.inj (Option.some.inj H)
    exact zw_iret (pc := 16) dX0_dropZeros_16 rfl rfl rfl
  · refine zw_invV (pc := 4) (M' := M_X1_dropZeros) (A := [vI p1]) [vI (0 : Int32), vR p2] dX0_dropZeros_4 (Or.inl q1977) mf_X1_dropZeros q1979 (zkq e4 rfl) (w_X1_dropZeros e5) (Nat.le_of_ble_eq_true rfl) rfl (by rw [← e2]; rfl) (Nat.le_of_ble_eq_true rfl) zkv0 (zkx ?_)
    rcases zif H with ⟨c12, H⟩ | ⟨c12, H⟩
    · have c12 := c12
      refine zx_catch [] ⟨0, 9, 12, 31⟩ [] (zkq c12 rfl) rfl (fun _ hz => nomatch hz) rfl (by decide) q1719 (by decide +kernel) ?_
      refine zw_astore_n (pc := 12) (lv' := [(3, vR (some q8)), (0, vR p0), (1, vI p1), (2, vR p2)]) dX0_dropZeros_12 rfl (by decide) rfl ?_
      refine zw_iconst (pc := 13) (v := (1 : Int32)) dX0_dropZeros_13 (by decide) ?_
      obtain ⟨rfl, rfl⟩ := Prod.mk.inj (Option.some.inj H)
      exact zw_iret (pc := 14) dX0_dropZeros_14 rfl rfl rfl
    rcases zif H with ⟨c13, H⟩ | ⟨c13, H⟩
    · have c13 := c13
      obtain ⟨rfl, rfl⟩ := Prod.mk.inj (Option.some.inj H)
      exact zx_out (zkq c13 rfl) (List.forall_mem_cons.mpr ⟨Or.inr ⟨by decide, "java/lang/IndexOutOfBoundsException", q1719, by decide +kernel⟩, (fun _ hz => nomatch hz)⟩) rfl rfl
    cases H
def M_X0_swapRows : zM := (yX0_swapRows, cX0_swapRows, 6, (.some .int), [(0, 12, 15, 31)])
theorem mf_X0_swapRows : zMs M_X0_swapRows 5 := ⟨⟨q1983, q179, ⟨by decide +kernel, by decide +kernel⟩, by decide +kernel, by decide⟩, q1982⟩
def f_X0_swapRows (p0 : Option Nat) (p1 : Int32) (p2 : Int32) (p3 : Int32) (p4 : Option Nat) (h : zH) : Option ((Int32 ⊕ Nat) × zH) :=
  (zrv 1 p0 h).bind fun b1 =>
  zb3 (f_X1_swapRows (some b1) p1 p2 p3 h) (fun x6 h7 =>
  (zsJ p4 (0 : Int32) x6.toInt64 h7).bind fun h10 =>
  some (.inl (0 : Int32), h10))
  (fun q8 h9 =>
  if zk h9 q8 = 20 then
  some (.inl (1 : Int32), h9)
  else if zk h9 q8 = 22 then
  some (.inr q8, h9)
  else none)
theorem w_X0_swapRows {G : zG} {p0 : Option Nat} {p1 : Int32} {p2 : Int32} {p3 : Int32} {p4 : Option Nat} {h : zH} {vo : Int32 ⊕ Nat} {vh : zH} (H : f_X0_swapRows p0 p1 p2 p3 p4 h = some (vo, vh)) : zMet G M_X0_swapRows 14 [vR p0, vI p1, vI p2, vI p3, vR p4] h (zoI vo) vh := by
  refine zMet.of (by decide +kernel) (Nat.le_of_ble_eq_true rfl) ?_
  show zW G M_X0_swapRows 14 h (zoI vo) vh 0 [(0, vR p0), (1, vI p1), (2, vI p2), (3, vI p3), (4, vR p4)] [] h
  unfold f_X0_swapRows at H
  refine zw_aload (pc := 0) dX0_swapRows_0 4 rfl ?_
  refine zw_iconst (pc := 2) (v := (0 : Int32)) dX0_swapRows_2 (by decide) ?_
  refine zw_aload_n (pc := 3) dX0_swapRows_3 rfl 0 rfl ?_
  refine zw_iload_n (pc := 4) dX0_swapRows_4 rfl 1 rfl ?_
  refine zw_iload_n (pc := 5) dX0_swapRows_5 rfl 2 rfl ?_
  refine zw_iload_n (pc := 6) dX0_swapRows_6 rfl 3 rfl ?_
  obtain ⟨b1, e3, H⟩ := zbind H
  obtain ⟨e2, e4⟩ := zrv_ok e3
  rcases zbind3 H with ⟨x6, h7, e5, H⟩ | ⟨q8, h9, e5, H⟩
  · refine zw_invV (pc := 7) (M' := M_X1_swapRows) (A := [vI p1, vI p2, vI p3]) [vI (0 : Int32), vR p4] dX0_swapRows_7 (Or.inl q1984) mf_X1_swapRows q1986 (zkq e4 rfl) (w_X1_swapRows e5) (Nat.le_of_ble_eq_true rfl) rfl (by rw [← e2]; rfl) (Nat.le_of_ble_eq_true rfl) (zkv ?_) zkn9
    refine zw_i2l (pc := 10) dX0_swapRows_10 ?_
    obtain ⟨h10, e11, H⟩ := zbind H
    refine zy_last (pc := 11) dX0_swapRows_11 e11 ?_
    refine zw_goto (pc := 12) (tgt := 19) dX0_swapRows_12 rfl ?_
    refine zw_iconst (pc := 19) (v := (0 : Int32)) dX0_swapRows_19 (by decide) ?_
    obtain ⟨rfl, rfl⟩ := Prod.mk.inj (Option.some.inj H)
    exact zw_iret (pc := 20) dX0_swapRows_20 rfl rfl rfl
  · refine zw_invV (pc := 7) (M' := M_X1_swapRows) (A := [vI p1, vI p2, vI p3]) [vI (0 : Int32), vR p4] dX0_swapRows_7 (Or.inl q1984) mf_X1_swapRows q1986 (zkq e4 rfl) (w_X1_swapRows e5) (Nat.le_of_ble_eq_true rfl) rfl (by rw [← e2]; rfl) (Nat.le_of_ble_eq_true rfl) zkv0 (zkx ?_)
    rcases zif H with ⟨c12, H⟩ | ⟨c12, H⟩
    · have c12 := c12
      refine zx_catch [] ⟨0, 12, 15, 31⟩ [] (zkq c12 rfl) rfl (fun _ hz => nomatch hz) rfl (by decide) q1719 (by decide +kernel) ?_
      refine zw_astore (pc := 15) (lv' := [(5, vR (some q8)), (0, vR p0), (1, vI p1), (2, vI p2), (3, vI p3), (4, vR p4)]) dX0_swapRows_15 (by decide) rfl ?_
      refine zw_iconst (pc := 17) (v := (1 : Int32)) dX0_swapRows_17 (by decide) ?_
      obtain ⟨rfl, rfl⟩ := Prod.mk.inj (Option.some.inj H)
      exact zw_iret (pc := 18) dX0_swapRows_18 rfl rfl rfl
    rcases zif H with ⟨c13, H⟩ | ⟨c13, H⟩
    · have c13 := c13
      obtain ⟨rfl, rfl⟩ := Prod.mk.inj (Option.some.inj H)
      exact zx_out (zkq c13 rfl) (List.forall_mem_cons.mpr ⟨Or.inr ⟨by decide, "java/lang/IndexOutOfBoundsException", q1719, by decide +kernel⟩, (fun _ hz => nomatch hz)⟩) rfl rfl
    cases H
def M_X0_scale : zM := (yX0_scale, cX0_scale, 5, (.some .int), [(0, 10, 13, 31), (0, 10, 17, 19), (0, 10, 21, 13)])
theorem mf_X0_scale : zMs M_X0_scale 4 := ⟨⟨q1990, q179, ⟨by decide +kernel, by decide +kernel⟩, by decide +kernel, by decide⟩, q1989⟩
def f_X0_scale (p0 : Option Nat) (p1 : Int32) (p2 : Int32) (p3 : Option Nat) (h : zH) : Option (Int32 × zH) :=
  (zrv 1 p0 h).bind fun b1 =>
  zb3 (f_X1_scale (some b1) p1 p2 h) (fun x6 h7 =>
  (zsJ p3 (0 : Int32) x6.toInt64 h7).bind fun h10 =>
  some ((0 : Int32), h10))
  (fun q8 h9 =>
  if zk h9 q8 = 20 then
  some ((1 : Int32), h9)
  else if zk h9 q8 = 21 then
  some ((2 : Int32), h9)
  else if zk h9 q8 = 22 then
  some ((3 : Int32), h9)
  else none)
theorem w_X0_scale {G : zG} {p0 : Option Nat} {p1 : Int32} {p2 : Int32} {p3 : Option Nat} {h : zH} {vx : Int32} {vh : zH} (H : f_X0_scale p0 p1 p2 p3 h = some (vx, vh)) : zMet G M_X0_scale 14 [vR p0, vI p1, vI p2, vR p3] h (.inl (some (vI vx))) vh := by
  refine zMet.of (by decide +kernel) (Nat.le_of_ble_eq_true rfl) ?_
  show zW G M_X0_scale 14 h (.inl (some (vI vx))) vh 0 [(0, vR p0), (1, vI p1), (2, vI p2), (3, vR p3)] [] h
  unfold f_X0_scale at H
  refine zw_aload_n (pc := 0) dX0_scale_0 rfl 3 rfl ?_
  refine zw_iconst (pc := 1) (v := (0 : Int32)) dX0_scale_1 (by decide) ?_
  refine zw_aload_n (pc := 2) dX0_scale_2 rfl 0 rfl ?_
  refine zw_iload_n (pc := 3) dX0_scale_3 rfl 1 rfl ?_
  refine zw_iload_n (pc := 4) dX0_scale_4 rfl 2 rfl ?_
  obtain ⟨b1, e3, H⟩ := zbind H
  obtain ⟨e2, e4⟩ := zrv_ok e3
  rcases zbind3 H with ⟨x6, h7, e5, H⟩ | ⟨q8, h9, e5, H⟩
  · refine zw_invV (pc := 5) (M' := M_X1_scale) (A := [vI p1, vI p2]) [vI (0 : Int32), vR p3] dX0_scale_5 (Or.inl q1991) mf_X1_scale q1993 (zkq e4 rfl) (w_X1_scale e5) (Nat.le_of_ble_eq_true rfl) rfl (by rw [← e2]; rfl) (Nat.le_of_ble_eq_true rfl) (zkv ?_) zkn9
    refine zw_i2l (pc := 8) dX0_scale_8 ?_
    obtain ⟨h10, e11, H⟩ := zbind H
    refine zy_last (pc := 9) dX0_scale_9 e11 ?_
    refine zw_goto (pc := 10) (tgt := 25) dX0_scale_10 rfl ?_
    refine zw_iconst (pc := 25) (v := (0 : Int32)) dX0_scale_25 (by decide) ?_
    obtain ⟨rfl, rfl⟩ := Prod.mk.inj (Option.some.inj H)
    exact zw_iret (pc := 26) dX0_scale_26 rfl rfl rfl
  · refine zw_invV (pc := 5) (M' := M_X1_scale) (A := [vI p1, vI p2]) [vI (0 : Int32), vR p3] dX0_scale_5 (Or.inl q1991) mf_X1_scale q1993 (zkq e4 rfl) (w_X1_scale e5) (Nat.le_of_ble_eq_true rfl) rfl (by rw [← e2]; rfl) (Nat.le_of_ble_eq_true rfl) zkv0 (zkx ?_)
    rcases zif H with ⟨c12, H⟩ | ⟨c12, H⟩
    · have c12 := c12
      refine zx_catch [] ⟨0, 10, 13, 31⟩ [⟨0, 10, 17, 19⟩, ⟨0, 10, 21, 13⟩] (zkq c12 rfl) rfl (fun _ hz => nomatch hz) rfl (by decide) q1719 (by decide +kernel) ?_
      refine zw_astore (pc := 13) (lv' := [(4, vR (some q8)), (0, vR p0), (1, vI p1), (2, vI p2), (3, vR p3)]) dX0_scale_13 (by decide) rfl ?_
      refine zw_iconst (pc := 15) (v := (1 : Int32)) dX0_scale_15 (by decide) ?_
      obtain ⟨rfl, rfl⟩ := Prod.mk.inj (Option.some.inj H)
      exact zw_iret (pc := 16) dX0_scale_16 rfl rfl rfl
    rcases zif H with ⟨c13, H⟩ | ⟨c13, H⟩
    · have c13 := c13
      refine zx_catch [⟨0, 10, 13, 31⟩] ⟨0, 10, 17, 19⟩ [⟨0, 10, 21, 13⟩] (zkq c13 rfl) rfl (List.forall_mem_cons.mpr ⟨Or.inr ⟨by decide, "java/lang/IndexOutOfBoundsException", q1719, by decide +kernel⟩, (fun _ hz => nomatch hz)⟩) rfl (by decide) q598 (by decide +kernel) ?_
      refine zw_astore (pc := 17) (lv' := [(4, vR (some q8)), (0, vR p0), (1, vI p1), (2, vI p2), (3, vR p3)]) dX0_scale_17 (by decide) rfl ?_
      refine zw_iconst (pc := 19) (v := (2 : Int32)) dX0_scale_19 (by decide) ?_
      obtain ⟨rfl, rfl⟩ := Prod.mk.inj (Option.some.inj H)
      exact zw_iret (pc := 20) dX0_scale_20 rfl rfl rfl
    rcases zif H with ⟨c14, H⟩ | ⟨c14, H⟩
    · have c14 := c14
      refine zx_catch [⟨0, 10, 13, 31⟩, ⟨0, 10, 17, 19⟩] ⟨0, 10, 21, 13⟩ [] (zkq c14 rfl) rfl (List.forall_mem_cons.mpr ⟨Or.inr ⟨by decide, "java/lang/IndexOutOfBoundsException", q1719, by decide +kernel⟩, (List.forall_mem_cons.mpr ⟨Or.inr ⟨by decide, "java/lang/IllegalArgumentException", q598, by decide +kernel⟩, (fun _ hz => nomatch hz)⟩)⟩) rfl (by decide) q560 (by decide +kernel) ?_
      refine zw_astore (pc := 21) (lv' := [(4, vR (some q8)), (0, vR p0), (1, vI p1), (2, vI p2), (3, vR p3)]) dX0_scale_21 (by decide) rfl ?_
      refine zw_iconst (pc := 23) (v := (3 : Int32)) dX0_scale_23 (by decide) ?_
      obtain ⟨rfl, rfl⟩ := Prod.mk.inj (Option.some.inj H)
      exact zw_iret (pc := 24) dX0_scale_24 rfl rfl rfl
    cases H
def M_X0_transposeInto : zM := (yX0_transposeInto, cX0_transposeInto, 5, (.some .int), [(0, 10, 13, 31)])
theorem mf_X0_transposeInto : zMs M_X0_transposeInto 4 := ⟨⟨q2006, q179, ⟨by decide +kernel, by decide +kernel⟩, by decide +kernel, by decide⟩, q2005⟩
def f_X0_transposeInto (p0 : Option Nat) (p1 : Int32) (p2 : Int32) (p3 : Option Nat) (h : zH) : Option ((Int32 ⊕ Nat) × zH) :=
  (zrv 1 p0 h).bind fun b1 =>
  zb3 (f_X1_transposeInto (some b1) p1 p2 h) (fun x6 h7 =>
  (zsJ p3 (0 : Int32) x6.toInt64 h7).bind fun h10 =>
  some (.inl (0 : Int32), h10))
  (fun q8 h9 =>
  if zk h9 q8 = 20 then
  some (.inl (1 : Int32), h9)
  else if zk h9 q8 = 22 then
  some (.inr q8, h9)
  else none)
theorem w_X0_transposeInto {G : zG} {p0 : Option Nat} {p1 : Int32} {p2 : Int32} {p3 : Option Nat} {h : zH} {vo : Int32 ⊕ Nat} {vh : zH} (H : f_X0_transposeInto p0 p1 p2 p3 h = some (vo, vh)) : zMet G M_X0_transposeInto 14 [vR p0, vI p1, vI p2, vR p3] h (zoI vo) vh := by
  refine zMet.of (by decide +kernel) (Nat.le_of_ble_eq_true rfl) ?_
  show zW G M_X0_transposeInto 14 h (zoI vo) vh 0 [(0, vR p0), (1, vI p1), (2, vI p2), (3, vR p3)] [] h
  unfold f_X0_transposeInto at H
  refine zw_aload_n (pc := 0) dX0_transposeInto_0 rfl 3 rfl ?_
  refine zw_iconst (pc := 1) (v := (0 : Int32)) dX0_transposeInto_1 (by decide) ?_
  refine zw_aload_n (pc := 2) dX0_transposeInto_2 rfl 0 rfl ?_
  refine zw_iload_n (pc := 3) dX0_transposeInto_3 rfl 1 rfl ?_
  refine zw_iload_n (pc := 4) dX0_transposeInto_4 rfl 2 rfl ?_
  obtain ⟨b1, e3, H⟩ := zbind H
  obtain ⟨e2, e4⟩ := zrv_ok e3
  rcases zbind3 H with ⟨x6, h7, e5, H⟩ | ⟨q8, h9, e5, H⟩
  · refine zw_invV (pc := 5) (M' := M_X1_transposeInto) (A := [vI p1, vI p2]) [vI (0 : Int32), vR p3] dX0_transposeInto_5 (Or.inl q2007) mf_X1_transposeInto q2009 (zkq e4 rfl) (w_X1_transposeInto e5) (Nat.le_of_ble_eq_true rfl) rfl (by rw [← e2]; rfl) (Nat.le_of_ble_eq_true rfl) (zkv ?_) zkn9
    refine zw_i2l (pc := 8) dX0_transposeInto_8 ?_
    obtain ⟨h10, e11, H⟩ := zbind H
    refine zy_last (pc := 9) dX0_transposeInto_9 e11 ?_
    refine zw_goto (pc := 10) (tgt := 17) dX0_transposeInto_10 rfl ?_
    refine zw_iconst (pc := 17) (v := (0 : Int32)) dX0_transposeInto_17 (by decide) ?_
    obtain ⟨rfl, rfl⟩ := Prod.mk.inj (Option.some.inj H)
    exact zw_iret (pc := 18) dX0_transposeInto_18 rfl rfl rfl
  · refine zw_invV (pc := 5) (M' := M_X1_transposeInto) (A := [vI p1, vI p2]) [vI (0 : Int32), vR p3] dX0_transposeInto_5 (Or.inl q2007) mf_X1_transposeInto q2009 (zkq e4 rfl) (w_X1_transposeInto e5) (Nat.le_of_ble_eq_true rfl) rfl (by rw [← e2]; rfl) (Nat.le_of_ble_eq_true rfl) zkv0 (zkx ?_)
    rcases zif H with ⟨c12, H⟩ | ⟨c12, H⟩
    · have c12 := c12
      refine zx_catch [] ⟨0, 10, 13, 31⟩ [] (zkq c12 rfl) rfl (fun _ hz => nomatch hz) rfl (by decide) q1719 (by decide +kernel) ?_
      refine zw_astore (pc := 13) (lv' := [(4, vR (some q8)), (0, vR p0), (1, vI p1), (2, vI p2), (3, vR p3)]) dX0_transposeInto_13 (by decide) rfl ?_
      refine zw_iconst (pc := 15) (v := (1 : Int32)) dX0_transposeInto_15 (by decide) ?_
      obtain ⟨rfl, rfl⟩ := Prod.mk.inj (Option.some.inj H)
      exact zw_iret (pc := 16) dX0_transposeInto_16 rfl rfl rfl
    rcases zif H with ⟨c13, H⟩ | ⟨c13, H⟩
    · have c13 := c13
      obtain ⟨rfl, rfl⟩ := Prod.mk.inj (Option.some.inj H)
      exact zx_out (zkq c13 rfl) (List.forall_mem_cons.mpr ⟨Or.inr ⟨by decide, "java/lang/IndexOutOfBoundsException", q1719, by decide +kernel⟩, (fun _ hz => nomatch hz)⟩) rfl rfl
    cases H
def M_X0_addInto : zM := (yX0_addInto, cX0_addInto, 6, (.some .int), [(0, 12, 15, 31), (0, 12, 19, 13)])
theorem mf_X0_addInto : zMs M_X0_addInto 5 := ⟨⟨q2019, q179, ⟨by decide +kernel, by decide +kernel⟩, by decide +kernel, by decide⟩, q2018⟩
def f_X0_addInto (p0 : Option Nat) (p1 : Int32) (p2 : Int32) (p3 : Int32) (p4 : Option Nat) (h : zH) : Option (Int32 × zH) :=
  (zrv 1 p0 h).bind fun b1 =>
  zb3 (f_X1_addInto (some b1) p1 p2 p3 h) (fun x6 h7 =>
  (zsJ p4 (0 : Int32) x6.toInt64 h7).bind fun h10 =>
  some ((0 : Int32), h10))
  (fun q8 h9 =>
  if zk h9 q8 = 20 then
  some ((1 : Int32), h9)
  else if zk h9 q8 = 22 then
  some ((2 : Int32), h9)
  else none)
theorem w_X0_addInto {G : zG} {p0 : Option Nat} {p1 : Int32} {p2 : Int32} {p3 : Int32} {p4 : Option Nat} {h : zH} {vx : Int32} {vh : zH} (H : f_X0_addInto p0 p1 p2 p3 p4 h = some (vx, vh)) : zMet G M_X0_addInto 14 [vR p0, vI p1, vI p2, vI p3, vR p4] h (.inl (some (vI vx))) vh := by
  refine zMet.of (by decide +kernel) (Nat.le_of_ble_eq_true rfl) ?_
  show zW G M_X0_addInto 14 h (.inl (some (vI vx))) vh 0 [(0, vR p0), (1, vI p1), (2, vI p2), (3, vI p3), (4, vR p4)] [] h
  unfold f_X0_addInto at H
  refine zw_aload (pc := 0) dX0_addInto_0 4 rfl ?_
  refine zw_iconst (pc := 2) (v := (0 : Int32)) dX0_addInto_2 (by decide) ?_
  refine zw_aload_n (pc := 3) dX0_addInto_3 rfl 0 rfl ?_
  refine zw_iload_n (pc := 4) dX0_addInto_4 rfl 1 rfl ?_
  refine zw_iload_n (pc := 5) dX0_addInto_5 rfl 2 rfl ?_
  refine zw_iload_n (pc := 6) dX0_addInto_6 rfl 3 rfl ?_
  obtain ⟨b1, e3, H⟩ := zbind H
  obtain ⟨e2, e4⟩ := zrv_ok e3
  rcases zbind3 H with ⟨x6, h7, e5, H⟩ | ⟨q8, h9, e5, H⟩
  · refine zw_invV (pc := 7) (M' := M_X1_addInto) (A := [vI p1, vI p2, vI p3]) [vI (0 : Int32), vR p4] dX0_addInto_7 (Or.inl q2020) mf_X1_addInto q2022 (zkq e4 rfl) (w_X1_addInto e5) (Nat.le_of_ble_eq_true rfl) rfl (by rw [← e2]; rfl) (Nat.le_of_ble_eq_true rfl) (zkv ?_) zkn9
    refine zw_i2l (pc := 10) dX0_addInto_10 ?_
    obtain ⟨h10, e11, H⟩ := zbind H
    refine zy_last (pc := 11) dX0_addInto_11 e11 ?_
    refine zw_goto (pc := 12) (tgt := 23) dX0_addInto_12 rfl ?_
    refine zw_iconst (pc := 23) (v := (0 : Int32)) dX0_addInto_23 (by decide) ?_
    obtain ⟨rfl, rfl⟩ := Prod.mk.inj (Option.some.inj H)
    exact zw_iret (pc := 24) dX0_addInto_24 rfl rfl rfl
  · refine zw_invV (pc := 7) (M' := M_X1_addInto) (A := [vI p1, vI p2, vI p3]) [vI (0 : Int32), vR p4] dX0_addInto_7 (Or.inl q2020) mf_X1_addInto q2022 (zkq e4 rfl) (w_X1_addInto e5) (Nat.le_of_ble_eq_true rfl) rfl (by rw [← e2]; rfl) (Nat.le_of_ble_eq_true rfl) zkv0 (zkx ?_)
    rcases zif H with ⟨c12, H⟩ | ⟨c12, H⟩
    · have c12 := c12
      refine zx_catch [] ⟨0, 12, 15, 31⟩ [⟨0, 12, 19, 13⟩] (zkq c12 rfl) rfl (fun _ hz => nomatch hz) rfl (by decide) q1719 (by decide +kernel) ?_
      refine zw_astore (pc := 15) (lv' := [(5, vR (some q8)), (0, vR p0), (1, vI p1), (2, vI p2), (3, vI p3), (4, vR p4)]) dX0_addInto_15 (by decide) rfl ?_
      refine zw_iconst (pc := 17) (v := (1 : Int32)) dX0_addInto_17 (by decide) ?_
      obtain ⟨rfl, rfl⟩ := Prod.mk.inj (Option.some.inj H)
      exact zw_iret (pc := 18) dX0_addInto_18 rfl rfl rfl
    rcases zif H with ⟨c13, H⟩ | ⟨c13, H⟩
    · have c13 := c13
      refine zx_catch [⟨0, 12, 15, 31⟩] ⟨0, 12, 19, 13⟩ [] (zkq c13 rfl) rfl (List.forall_mem_cons.mpr ⟨Or.inr ⟨by decide, "java/lang/IndexOutOfBoundsException", q1719, by decide +kernel⟩, (fun _ hz => nomatch hz)⟩) rfl (by decide) q560 (by decide +kernel) ?_
      refine zw_astore (pc := 19) (lv' := [(5, vR (some q8)), (0, vR p0), (1, vI p1), (2, vI p2), (3, vI p3), (4, vR p4)]) dX0_addInto_19 (by decide) rfl ?_
      refine zw_iconst (pc := 21) (v := (2 : Int32)) dX0_addInto_21 (by decide) ?_
      obtain ⟨rfl, rfl⟩ := Prod.mk.inj (Option.some.inj H)
      exact zw_iret (pc := 22) dX0_addInto_22 rfl rfl rfl
    cases H
def M_X0_multiplyInto : zM := (yX0_multiplyInto, cX0_multiplyInto, 6, (.some .int), [(0, 12, 15, 31), (0, 12, 19, 13)])
theorem mf_X0_multiplyInto : zMs M_X0_multiplyInto 5 := ⟨⟨q2032, q179, ⟨by decide +kernel, by decide +kernel⟩, by decide +kernel, by decide⟩, q2031⟩
def f_X0_multiplyInto (p0 : Option Nat) (p1 : Int32) (p2 : Int32) (p3 : Int32) (p4 : Option Nat) (h : zH) : Option (Int32 × zH) :=
  (zrv 1 p0 h).bind fun b1 =>
  zb3 (f_X1_multiplyInto (some b1) p1 p2 p3 h) (fun x6 h7 =>
  (zsJ p4 (0 : Int32) x6.toInt64 h7).bind fun h10 =>
  some ((0 : Int32), h10))
  (fun q8 h9 =>
  if zk h9 q8 = 20 then
  some ((1 : Int32), h9)
  else if zk h9 q8 = 22 then
  some ((2 : Int32), h9)
  else none)
theorem w_X0_multiplyInto {G : zG} {p0 : Option Nat} {p1 : Int32} {p2 : Int32} {p3 : Int32} {p4 : Option Nat} {h : zH} {vx : Int32} {vh : zH} (H : f_X0_multiplyInto p0 p1 p2 p3 p4 h = some (vx, vh)) : zMet G M_X0_multiplyInto 14 [vR p0, vI p1, vI p2, vI p3, vR p4] h (.inl (some (vI vx))) vh := by
  refine zMet.of (by decide +kernel) (Nat.le_of_ble_eq_true rfl) ?_
  show zW G M_X0_multiplyInto 14 h (.inl (some (vI vx))) vh 0 [(0, vR p0), (1, vI p1), (2, vI p2), (3, vI p3), (4, vR p4)] [] h
  unfold f_X0_multiplyInto at H
  refine zw_aload (pc := 0) dX0_multiplyInto_0 4 rfl ?_
  refine zw_iconst (pc := 2) (v := (0 : Int32)) dX0_multiplyInto_2 (by decide) ?_
  refine zw_aload_n (pc := 3) dX0_multiplyInto_3 rfl 0 rfl ?_
  refine zw_iload_n (pc := 4) dX0_multiplyInto_4 rfl 1 rfl ?_
  refine zw_iload_n (pc := 5) dX0_multiplyInto_5 rfl 2 rfl ?_
  refine zw_iload_n (pc := 6) dX0_multiplyInto_6 rfl 3 rfl ?_
  obtain ⟨b1, e3, H⟩ := zbind H
  obtain ⟨e2, e4⟩ := zrv_ok e3
  rcases zbind3 H with ⟨x6, h7, e5, H⟩ | ⟨q8, h9, e5, H⟩
  · refine zw_invV (pc := 7) (M' := M_X1_multiplyInto) (A := [vI p1, vI p2, vI p3]) [vI (0 : Int32), vR p4] dX0_multiplyInto_7 (Or.inl q2033) mf_X1_multiplyInto q2035 (zkq e4 rfl) (w_X1_multiplyInto e5) (Nat.le_of_ble_eq_true rfl) rfl (by rw [← e2]; rfl) (Nat.le_of_ble_eq_true rfl) (zkv ?_) zkn9
    refine zw_i2l (pc := 10) dX0_multiplyInto_10 ?_
    obtain ⟨h10, e11, H⟩ := zbind H
    refine zy_last (pc := 11) dX0_multiplyInto_11 e11 ?_
    refine zw_goto (pc := 12) (tgt := 23) dX0_multiplyInto_12 rfl ?_
    refine zw_iconst (pc := 23) (v := (0 : Int32)) dX0_multiplyInto_23 (by decide) ?_
    obtain ⟨rfl, rfl⟩ := Prod.mk.inj (Option.some.inj H)
    exact zw_iret (pc := 24) dX0_multiplyInto_24 rfl rfl rfl
  · refine zw_invV (pc := 7) (M' := M_X1_multiplyInto) (A := [vI p1, vI p2, vI p3]) [vI (0 : Int32), vR p4] dX0_multiplyInto_7 (Or.inl q2033) mf_X1_multiplyInto q2035 (zkq e4 rfl) (w_X1_multiplyInto e5) (Nat.le_of_ble_eq_true rfl) rfl (by rw [← e2]; rfl) (Nat.le_of_ble_eq_true rfl) zkv0 (zkx ?_)
    rcases zif H with ⟨c12, H⟩ | ⟨c12, H⟩
    · have c12 := c12
      refine zx_catch [] ⟨0, 12, 15, 31⟩ [⟨0, 12, 19, 13⟩] (zkq c12 rfl) rfl (fun _ hz => nomatch hz) rfl (by decide) q1719 (by decide +kernel) ?_
      refine zw_astore (pc := 15) (lv' := [(5, vR (some q8)), (0, vR p0), (1, vI p1), (2, vI p2), (3, vI p3), (4, vR p4)]) dX0_multiplyInto_15 (by decide) rfl ?_
      refine zw_iconst (pc := 17) (v := (1 : Int32)) dX0_multiplyInto_17 (by decide) ?_
      obtain ⟨rfl, rfl⟩ := Prod.mk.inj (Option.some.inj H)
      exact zw_iret (pc := 18) dX0_multiplyInto_18 rfl rfl rfl
    rcases zif H with ⟨c13, H⟩ | ⟨c13, H⟩
    · have c13 := c13
      refine zx_catch [⟨0, 12, 15, 31⟩] ⟨0, 12, 19, 13⟩ [] (zkq c13 rfl) rfl (List.forall_mem_cons.mpr ⟨Or.inr ⟨by decide, "java/lang/IndexOutOfBoundsException", q1719, by decide +kernel⟩, (fun _ hz => nomatch hz)⟩) rfl (by decide) q560 (by decide +kernel) ?_
      refine zw_astore (pc := 19) (lv' := [(5, vR (some q8)), (0, vR p0), (1, vI p1), (2, vI p2), (3, vI p3), (4, vR p4)]) dX0_multiplyInto_19 (by decide) rfl ?_
      refine zw_iconst (pc := 21) (v := (2 : Int32)) dX0_multiplyInto_21 (by decide) ?_
      obtain ⟨rfl, rfl⟩ := Prod.mk.inj (Option.some.inj H)
      exact zw_iret (pc := 22) dX0_multiplyInto_22 rfl rfl rfl
    cases H
def M_X0_undo : zM := (yX0_undo, cX0_undo, 3, (.some .int), [(0, 8, 11, 13)])
theorem mf_X0_undo : zMs M_X0_undo 2 := ⟨⟨q2045, q179, ⟨by decide +kernel, by decide +kernel⟩, by decide +kernel, by decide⟩, q2044⟩
def f_X0_undo (p0 : Option Nat) (p1 : Option Nat) (h : zH) : Option (Int32 × zH) :=
  (zrv 1 p0 h).bind fun b1 =>
  zb3 (f_X1_undo (some b1) h) (fun x6 h7 =>
  (zsJ p1 (0 : Int32) x6.toInt64 h7).bind fun h10 =>
  some ((0 : Int32), h10))
  (fun q8 h9 =>
  if zk h9 q8 = 22 then
  some ((1 : Int32), h9)
  else none)
theorem w_X0_undo {G : zG} {p0 : Option Nat} {p1 : Option Nat} {h : zH} {vx : Int32} {vh : zH} (H : f_X0_undo p0 p1 h = some (vx, vh)) : zMet G M_X0_undo 8 [vR p0, vR p1] h (.inl (some (vI vx))) vh := by
  refine zMet.of (by decide +kernel) (Nat.le_of_ble_eq_true rfl) ?_
  show zW G M_X0_undo 8 h (.inl (some (vI vx))) vh 0 [(0, vR p0), (1, vR p1)] [] h
  unfold f_X0_undo at H
  refine zw_aload_n (pc := 0) dX0_undo_0 rfl 1 rfl ?_
  refine zw_iconst (pc := 1) (v := (0 : Int32)) dX0_undo_1 (by decide) ?_
  refine zw_aload_n (pc := 2) dX0_undo_2 rfl 0 rfl ?_
  obtain ⟨b1, e3, H⟩ := zbind H
  obtain ⟨e2, e4⟩ := zrv_ok e3
  rcases zbind3 H with ⟨x6, h7, e5, H⟩ | ⟨q8, h9, e5, H⟩
  · refine zw_invV (pc := 3) (M' := M_X1_undo) (A := []) [vI (0 : Int32), vR p1] dX0_undo_3 (Or.inl q2046) mf_X1_undo q2048 (zkq e4 rfl) (w_X1_undo e5) (Nat.le_of_ble_eq_true rfl) rfl (by rw [← e2]; rfl) (Nat.le_of_ble_eq_true rfl) (zkv ?_) zkn9
    refine zw_i2l (pc := 6) dX0_undo_6 ?_
    obtain ⟨h10, e11, H⟩ := zbind H
    refine zy_last (pc := 7) dX0_undo_7 e11 ?_
    refine zw_goto (pc := 8) (tgt := 14) dX0_undo_8 rfl ?_
    refine zw_iconst (pc := 14) (v := (0 : Int32)) dX0_undo_14 (by decide) ?_
    obtain ⟨rfl, rfl⟩ := Prod.mk.inj (Option.some.inj H)
    exact zw_iret (pc := 15) dX0_undo_15 rfl rfl rfl
  · refine zw_invV (pc := 3) (M' := M_X1_undo) (A := []) [vI (0 : Int32), vR p1] dX0_undo_3 (Or.inl q2046) mf_X1_undo q2048 (zkq e4 rfl) (w_X1_undo e5) (Nat.le_of_ble_eq_true rfl) rfl (by rw [← e2]; rfl) (Nat.le_of_ble_eq_true rfl) zkv0 (zkx ?_)
    rcases zif H with ⟨c12, H⟩ | ⟨c12, H⟩
    · have c12 := c12
      refine zx_catch [] ⟨0, 8, 11, 13⟩ [] (zkq c12 rfl) rfl (fun _ hz => nomatch hz) rfl (by decide) q560 (by decide +kernel) ?_
      refine zw_astore_n (pc := 11) (lv' := [(2, vR (some q8)), (0, vR p0), (1, vR p1)]) dX0_undo_11 rfl (by decide) rfl ?_
      refine zw_iconst (pc := 12) (v := (1 : Int32)) dX0_undo_12 (by decide) ?_
      obtain ⟨rfl, rfl⟩ := Prod.mk.inj (Option.some.inj H)
      exact zw_iret (pc := 13) dX0_undo_13 rfl rfl rfl
    cases H
def M_X0_printMatrix : zM := (yX0_printMatrix, cX0_printMatrix, 4, (.some .int), [(0, 9, 12, 31)])
theorem mf_X0_printMatrix : zMs M_X0_printMatrix 3 := ⟨⟨q2067, q179, ⟨by decide +kernel, by decide +kernel⟩, by decide +kernel, by decide⟩, q2066⟩
def f_X0_printMatrix (p0 : Option Nat) (p1 : Int32) (p2 : Option Nat) (h : zH) : Option (Int32 × zH) :=
  (zrv 1 p0 h).bind fun b1 =>
  zb3 (f_X1_printMatrix (some b1) p1 h) (fun x6 h7 =>
  (zsJ p2 (0 : Int32) x6.toInt64 h7).bind fun h10 =>
  some ((0 : Int32), h10))
  (fun q8 h9 =>
  if zk h9 q8 = 20 then
  some ((1 : Int32), h9)
  else none)
theorem w_X0_printMatrix {G : zG} {p0 : Option Nat} {p1 : Int32} {p2 : Option Nat} {h : zH} {vx : Int32} {vh : zH} (H : f_X0_printMatrix p0 p1 p2 h = some (vx, vh)) : zMet G M_X0_printMatrix 11 [vR p0, vI p1, vR p2] h (.inl (some (vI vx))) vh := by
  refine zMet.of (by decide +kernel) (Nat.le_of_ble_eq_true rfl) ?_
  show zW G M_X0_printMatrix 11 h (.inl (some (vI vx))) vh 0 [(0, vR p0), (1, vI p1), (2, vR p2)] [] h
  unfold f_X0_printMatrix at H
  refine zw_aload_n (pc := 0) dX0_printMatrix_0 rfl 2 rfl ?_
  refine zw_iconst (pc := 1) (v := (0 : Int32)) dX0_printMatrix_1 (by decide) ?_
  refine zw_aload_n (pc := 2) dX0_printMatrix_2 rfl 0 rfl ?_
  refine zw_iload_n (pc := 3) dX0_printMatrix_3 rfl 1 rfl ?_
  obtain ⟨b1, e3, H⟩ := zbind H
  obtain ⟨e2, e4⟩ := zrv_ok e3
  rcases zbind3 H with ⟨x6, h7, e5, H⟩ | ⟨q8, h9, e5, H⟩
  · refine zw_invV (pc := 4) (M' := M_X1_printMatrix) (A := [vI p1]) [vI (0 : Int32), vR p2] dX0_printMatrix_4 (Or.inl q2068) mf_X1_printMatrix q2070 (zkq e4 rfl) (w_X1_printMatrix e5) (Nat.le_of_ble_eq_true rfl) rfl (by rw [← e2]; rfl) (Nat.le_of_ble_eq_true rfl) (zkv ?_) zkn9
    refine zw_i2l (pc := 7) dX0_printMatrix_7 ?_
    obtain ⟨h10, e11, H⟩ := zbind H
    refine zy_last (pc := 8) dX0_printMatrix_8 e11 ?_
    refine zw_goto (pc := 9) (tgt := 15) dX0_printMatrix_9 rfl ?_
    refine zw_iconst (pc := 15) (v := (0 : Int32)) dX0_printMatrix_15 (by decide) ?_
    obtain ⟨rfl, rfl⟩ := Prod.mk.inj (Option.some.inj H)
    exact zw_iret (pc := 16) dX0_printMatrix_16 rfl rfl rfl
  · refine zw_invV (pc := 4) (M' := M_X1_printMatrix) (A := [vI p1]) [vI (0 : Int32), vR p2] dX0_printMatrix_4 (Or.inl q2068) mf_X1_printMatrix q2070 (zkq e4 rfl) (w_X1_printMatrix e5) (Nat.le_of_ble_eq_true rfl) rfl (by rw [← e2]; rfl) (Nat.le_of_ble_eq_true rfl) zkv0 (zkx ?_)
    rcases zif H with ⟨c12, H⟩ | ⟨c12, H⟩
    · have c12 := c12
      refine zx_catch [] ⟨0, 9, 12, 31⟩ [] (zkq c12 rfl) rfl (fun _ hz => nomatch hz) rfl (by decide) q1719 (by decide +kernel) ?_
      refine zw_astore_n (pc := 12) (lv' := [(3, vR (some q8)), (0, vR p0), (1, vI p1), (2, vR p2)]) dX0_printMatrix_12 rfl (by decide) rfl ?_
      refine zw_iconst (pc := 13) (v := (1 : Int32)) dX0_printMatrix_13 (by decide) ?_
      obtain ⟨rfl, rfl⟩ := Prod.mk.inj (Option.some.inj H)
      exact zw_iret (pc := 14) dX0_printMatrix_14 rfl rfl rfl
    cases H
def M_X0_outputByte : zM := (yX0_outputByte, cX0_outputByte, 4, (.some .int), [(0, 9, 12, 31)])
theorem mf_X0_outputByte : zMs M_X0_outputByte 3 := ⟨⟨q2129, q179, ⟨by decide +kernel, by decide +kernel⟩, by decide +kernel, by decide⟩, q2128⟩
def f_X0_outputByte (p0 : Option Nat) (p1 : Int32) (p2 : Option Nat) (h : zH) : Option (Int32 × zH) :=
  (zrv 1 p0 h).bind fun b1 =>
  zb3 (f_X1_outputByte (some b1) p1 h) (fun x6 h7 =>
  (zsJ p2 (0 : Int32) x6.toInt64 h7).bind fun h10 =>
  some ((0 : Int32), h10))
  (fun q8 h9 =>
  if zk h9 q8 = 20 then
  some ((1 : Int32), h9)
  else none)
theorem w_X0_outputByte {G : zG} {p0 : Option Nat} {p1 : Int32} {p2 : Option Nat} {h : zH} {vx : Int32} {vh : zH} (H : f_X0_outputByte p0 p1 p2 h = some (vx, vh)) : zMet G M_X0_outputByte 8 [vR p0, vI p1, vR p2] h (.inl (some (vI vx))) vh := by
  refine zMet.of (by decide +kernel) (Nat.le_of_ble_eq_true rfl) ?_
  show zW G M_X0_outputByte 8 h (.inl (some (vI vx))) vh 0 [(0, vR p0), (1, vI p1), (2, vR p2)] [] h
  unfold f_X0_outputByte at H
  refine zw_aload_n (pc := 0) dX0_outputByte_0 rfl 2 rfl ?_
  refine zw_iconst (pc := 1) (v := (0 : Int32)) dX0_outputByte_1 (by decide) ?_
  refine zw_aload_n (pc := 2) dX0_outputByte_2 rfl 0 rfl ?_
  refine zw_iload_n (pc := 3) dX0_outputByte_3 rfl 1 rfl ?_
  obtain ⟨b1, e3, H⟩ := zbind H
  obtain ⟨e2, e4⟩ := zrv_ok e3
  rcases zbind3 H with ⟨x6, h7, e5, H⟩ | ⟨q8, h9, e5, H⟩
  · refine zw_invV (pc := 4) (M' := M_X1_outputByte) (A := [vI p1]) [vI (0 : Int32), vR p2] dX0_outputByte_4 (Or.inl q2130) mf_X1_outputByte q2132 (zkq e4 rfl) (w_X1_outputByte e5) (Nat.le_of_ble_eq_true rfl) rfl (by rw [← e2]; rfl) (Nat.le_of_ble_eq_true rfl) (zkv ?_) zkn9
    refine zw_i2l (pc := 7) dX0_outputByte_7 ?_
    obtain ⟨h10, e11, H⟩ := zbind H
    refine zy_last (pc := 8) dX0_outputByte_8 e11 ?_
    refine zw_goto (pc := 9) (tgt := 15) dX0_outputByte_9 rfl ?_
    refine zw_iconst (pc := 15) (v := (0 : Int32)) dX0_outputByte_15 (by decide) ?_
    obtain ⟨rfl, rfl⟩ := Prod.mk.inj (Option.some.inj H)
    exact zw_iret (pc := 16) dX0_outputByte_16 rfl rfl rfl
  · refine zw_invV (pc := 4) (M' := M_X1_outputByte) (A := [vI p1]) [vI (0 : Int32), vR p2] dX0_outputByte_4 (Or.inl q2130) mf_X1_outputByte q2132 (zkq e4 rfl) (w_X1_outputByte e5) (Nat.le_of_ble_eq_true rfl) rfl (by rw [← e2]; rfl) (Nat.le_of_ble_eq_true rfl) zkv0 (zkx ?_)
    rcases zif H with ⟨c12, H⟩ | ⟨c12, H⟩
    · have c12 := c12
      refine zx_catch [] ⟨0, 9, 12, 31⟩ [] (zkq c12 rfl) rfl (fun _ hz => nomatch hz) rfl (by decide) q1719 (by decide +kernel) ?_
      refine zw_astore_n (pc := 12) (lv' := [(3, vR (some q8)), (0, vR p0), (1, vI p1), (2, vR p2)]) dX0_outputByte_12 rfl (by decide) rfl ?_
      refine zw_iconst (pc := 13) (v := (1 : Int32)) dX0_outputByte_13 (by decide) ?_
      obtain ⟨rfl, rfl⟩ := Prod.mk.inj (Option.some.inj H)
      exact zw_iret (pc := 14) dX0_outputByte_14 rfl rfl rfl
    cases H
def M_X0_restoreState : zM := (yX0_restoreState, cX0_restoreState, 3, (.some .int), [(0, 8, 11, 13)])
theorem mf_X0_restoreState : zMs M_X0_restoreState 2 := ⟨⟨q2146, q179, ⟨by decide +kernel, by decide +kernel⟩, by decide +kernel, by decide⟩, q2145⟩
def f_X0_restoreState (p0 : Option Nat) (p1 : Option Nat) (h : zH) : Option (Int32 × zH) :=
  (zrv 1 p0 h).bind fun b1 =>
  zb3 (f_X1_restoreState (some b1) h) (fun x6 h7 =>
  (zsJ p1 (0 : Int32) x6.toInt64 h7).bind fun h10 =>
  some ((0 : Int32), h10))
  (fun q8 h9 =>
  if zk h9 q8 = 22 then
  some ((1 : Int32), h9)
  else none)
theorem w_X0_restoreState {G : zG} {p0 : Option Nat} {p1 : Option Nat} {h : zH} {vx : Int32} {vh : zH} (H : f_X0_restoreState p0 p1 h = some (vx, vh)) : zMet G M_X0_restoreState 8 [vR p0, vR p1] h (.inl (some (vI vx))) vh := by
  refine zMet.of (by decide +kernel) (Nat.le_of_ble_eq_true rfl) ?_
  show zW G M_X0_restoreState 8 h (.inl (some (vI vx))) vh 0 [(0, vR p0), (1, vR p1)] [] h
  unfold f_X0_restoreState at H
  refine zw_aload_n (pc := 0) dX0_restoreState_0 rfl 1 rfl ?_
  refine zw_iconst (pc := 1) (v := (0 : Int32)) dX0_restoreState_1 (by decide) ?_
  refine zw_aload_n (pc := 2) dX0_restoreState_2 rfl 0 rfl ?_
  obtain ⟨b1, e3, H⟩ := zbind H
  obtain ⟨e2, e4⟩ := zrv_ok e3
  rcases zbind3 H with ⟨x6, h7, e5, H⟩ | ⟨q8, h9, e5, H⟩
  · refine zw_invV (pc := 3) (M' := M_X1_restoreState) (A := []) [vI (0 : Int32), vR p1] dX0_restoreState_3 (Or.inl q2147) mf_X1_restoreState q2149 (zkq e4 rfl) (w_X1_restoreState e5) (Nat.le_of_ble_eq_true rfl) rfl (by rw [← e2]; rfl) (Nat.le_of_ble_eq_true rfl) (zkv ?_) zkn9
    refine zw_i2l (pc := 6) dX0_restoreState_6 ?_
    obtain ⟨h10, e11, H⟩ := zbind H
    refine zy_last (pc := 7) dX0_restoreState_7 e11 ?_
    refine zw_goto (pc := 8) (tgt := 14) dX0_restoreState_8 rfl ?_
    refine zw_iconst (pc := 14) (v := (0 : Int32)) dX0_restoreState_14 (by decide) ?_
    obtain ⟨rfl, rfl⟩ := Prod.mk.inj (Option.some.inj H)
    exact zw_iret (pc := 15) dX0_restoreState_15 rfl rfl rfl
  · refine zw_invV (pc := 3) (M' := M_X1_restoreState) (A := []) [vI (0 : Int32), vR p1] dX0_restoreState_3 (Or.inl q2147) mf_X1_restoreState q2149 (zkq e4 rfl) (w_X1_restoreState e5) (Nat.le_of_ble_eq_true rfl) rfl (by rw [← e2]; rfl) (Nat.le_of_ble_eq_true rfl) zkv0 (zkx ?_)
    rcases zif H with ⟨c12, H⟩ | ⟨c12, H⟩
    · have c12 := c12
      refine zx_catch [] ⟨0, 8, 11, 13⟩ [] (zkq c12 rfl) rfl (fun _ hz => nomatch hz) rfl (by decide) q560 (by decide +kernel) ?_
      refine zw_astore_n (pc := 11) (lv' := [(2, vR (some q8)), (0, vR p0), (1, vR p1)]) dX0_restoreState_11 rfl (by decide) rfl ?_
      refine zw_iconst (pc := 12) (v := (1 : Int32)) dX0_restoreState_12 (by decide) ?_
      obtain ⟨rfl, rfl⟩ := Prod.mk.inj (Option.some.inj H)
      exact zw_iret (pc := 13) dX0_restoreState_13 rfl rfl rfl
    cases H
theorem ln_L_8 : zCl "CsrCalculatorLaw" 8 1 := ⟨_, by decide, by decide, rfl, q222, q223, q180⟩
theorem ln_L_164 : zCl "CsrCalculatorLaw" 164 4 := ⟨_, by decide, by decide, rfl, q2151, q2152, q189⟩
def M_L_law : zM := (⟨"CsrCalculatorLaw", "law", "([I)Z"⟩, cL_law, 9, some .boolean, [])
def B_L_law_264 (k28 : Option Nat → Option Nat → Option Nat → Option Nat → Option Nat → Int32 → zH → Option ((Int32 ⊕ Nat) × zH)) (a0 : Option Nat) (a1 : Option Nat) (a2 : Option Nat) (a3 : Option Nat) (a4 : Option Nat) (a5 : Int32) (h : zH) : Option ((Int32 ⊕ Nat) × zH) :=
  (zaI 50 a0 (a5 + (1 : Int32)) h).bind fun x1 =>
  (zaI 50 a0 (a5 + (2 : Int32)) h).bind fun x3 =>
  (zaI 50 a0 (a5 + (3 : Int32)) h).bind fun x5 =>
  (zaI 50 a0 (a5 + (4 : Int32)) h).bind fun x7 =>
  (zaI 50 a0 (a5 + (5 : Int32)) h).bind fun x9 =>
  zb2 (f_X0_feed a1 x1 x3 x5 x7 x9 a3 h) fun x13 h12 =>
  (zaI 50 a0 (a5 + (1 : Int32)) h12).bind fun x14 =>
  (zaI 50 a0 (a5 + (2 : Int32)) h12).bind fun x16 =>
  (zaI 50 a0 (a5 + (3 : Int32)) h12).bind fun x18 =>
  (zaI 50 a0 (a5 + (4 : Int32)) h12).bind fun x20 =>
  (zaI 50 a0 (a5 + (5 : Int32)) h12).bind fun x22 =>
  (zrv 4 a2 h12).bind fun b24 =>
  zb2 (f_X4_feed (some b24) x14 x16 x18 x20 x22 h12) fun x30 h29 =>
  (zrv 4 a2 h29).bind fun b31 =>
  (f_X4_thrown (some b31) h29).bind fun x36 =>
  if x36 = x13 then
  if x13 = 0 then
  (zaJ a3 (0 : Int32) h29).bind fun x39 =>
  if x39 = x30.toInt64 then
  k28 a0 a1 a2 a3 a4 (a5 + (6 : Int32)) h29
  else
  some (.inl (0 : Int32), h29)
  else
  k28 a0 a1 a2 a3 a4 (a5 + (6 : Int32)) h29
  else
  some (.inl (0 : Int32), h29)
theorem wB_L_law_264 {G : zG} {h0 h : zH} {vo : Int32 ⊕ Nat} {vh : zH} {k28 : Option Nat → Option Nat → Option Nat → Option Nat → Option Nat → Int32 → zH → Option ((Int32 ⊕ Nat) × zH)} (hk28 : ∀ (b0 : Option Nat) (b1 : Option Nat) (b2 : Option Nat) (b3 : Option Nat) (b4 : Option Nat) (b5 : Int32) (h' : zH), k28 b0 b1 b2 b3 b4 b5 h' = some (vo, vh) → zW G M_L_law 343 h0 (zoI vo) vh 28 [(0, vR b0), (1, vR b1), (2, vR b2), (3, vR b3), (4, vR b4), (5, vI b5)] [] h') {a0 : Option Nat} {a1 : Option Nat} {a2 : Option Nat} {a3 : Option Nat} {a4 : Option Nat} {a5 : Int32} (H : B_L_law_264 k28 a0 a1 a2 a3 a4 a5 h = some (vo, vh)) : zW G M_L_law 343 h0 (zoI vo) vh 264 [(0, vR a0), (1, vR a1), (2, vR a2), (3, vR a3), (4, vR a4), (5, vI a5)] [] h := by
  unfold B_L_law_264 at H
  refine zw_aload_n (pc := 264) dL_law_264 rfl 1 rfl ?_
  refine zw_aload_n (pc := 265) dL_law_265 rfl 0 rfl ?_
  refine zw_iload (pc := 266) dL_law_266 5 rfl ?_
  refine zw_iconst (pc := 268) (v := (1 : Int32)) dL_law_268 (by decide) ?_
  refine zw_iadd (pc := 269) dL_law_269 ?_
  obtain ⟨x1, e2, H⟩ := zbind H
  refine zy_iald (pc := 270) dL_law_270 e2 ?_
  refine zw_aload_n (pc := 271) dL_law_271 rfl 0 rfl ?_
  refine zw_iload (pc := 272) dL_law_272 5 rfl ?_
  refine zw_iconst (pc := 274) (v := (2 : Int32)) dL_law_274 (by decide) ?_
  refine zw_iadd (pc := 275) dL_law_275 ?_
  obtain ⟨x3, e4, H⟩ := zbind H
  refine zy_iald (pc := 276) dL_law_276 e4 ?_
  refine zw_aload_n (pc := 277) dL_law_277 rfl 0 rfl ?_
  refine zw_iload (pc := 278) dL_law_278 5 rfl ?_
  refine zw_iconst (pc := 280) (v := (3 : Int32)) dL_law_280 (by decide) ?_
  refine zw_iadd (pc := 281) dL_law_281 ?_
  obtain ⟨x5, e6, H⟩ := zbind H
  refine zy_iald (pc := 282) dL_law_282 e6 ?_
  refine zw_aload_n (pc := 283) dL_law_283 rfl 0 rfl ?_
  refine zw_iload (pc := 284) dL_law_284 5 rfl ?_
  refine zw_iconst (pc := 286) (v := (4 : Int32)) dL_law_286 (by decide) ?_
  refine zw_iadd (pc := 287) dL_law_287 ?_
  obtain ⟨x7, e8, H⟩ := zbind H
  refine zy_iald (pc := 288) dL_law_288 e8 ?_
  refine zw_aload_n (pc := 289) dL_law_289 rfl 0 rfl ?_
  refine zw_iload (pc := 290) dL_law_290 5 rfl ?_
  refine zw_iconst (pc := 292) (v := (5 : Int32)) dL_law_292 (by decide) ?_
  refine zw_iadd (pc := 293) dL_law_293 ?_
  obtain ⟨x9, e10, H⟩ := zbind H
  refine zy_iald (pc := 294) dL_law_294 e10 ?_
  refine zw_aload_n (pc := 295) dL_law_295 rfl 3 rfl ?_
  obtain ⟨x13, h12, e11, H⟩ := zbind2 H
  refine zw_invS (pc := 296) (M' := M_X0_feed) (A := [vR a1, vI x1, vI x3, vI x5, vI x7, vI x9, vR a3]) [] dL_law_296 (Or.inl q557) mf_X0_feed (w_X0_feed e11) (Nat.le_of_ble_eq_true rfl) rfl rfl (Nat.le_of_ble_eq_true rfl) (zkv ?_) zkn9
  refine zw_istore (pc := 299) (lv' := [(6, vI x13), (0, vR a0), (1, vR a1), (2, vR a2), (3, vR a3), (4, vR a4), (5, vI a5)]) dL_law_299 (by decide) rfl ?_
  refine zw_aload_n (pc := 301) dL_law_301 rfl 3 rfl ?_
  refine zw_aload_n (pc := 302) dL_law_302 rfl 1 rfl ?_
  refine zw_iload (pc := 303) dL_law_303 6 rfl ?_
  refine zw_iconst (pc := 305) (v := (1 : Int32)) dL_law_305 (by decide) ?_
  refine zw_iadd (pc := 306) dL_law_306 ?_
  obtain ⟨x14, e15, H⟩ := zbind H
  refine zy_iald (pc := 307) dL_law_307 e15 ?_
  refine zw_aload_n (pc := 308) dL_law_308 rfl 1 rfl ?_
  refine zw_iload (pc := 309) dL_law_309 6 rfl ?_
  refine zw_iconst (pc := 311) (v := (2 : Int32)) dL_law_311 (by decide) ?_
  refine zw_iadd (pc := 312) dL_law_312 ?_
  obtain ⟨x16, e17, H⟩ := zbind H
  refine zy_iald (pc := 313) dL_law_313 e17 ?_
  refine zw_aload_n (pc := 314) dL_law_314 rfl 1 rfl ?_
  refine zw_iload (pc := 315) dL_law_315 6 rfl ?_
  refine zw_iconst (pc := 317) (v := (3 : Int32)) dL_law_317 (by decide) ?_
  refine zw_iadd (pc := 318) dL_law_318 ?_
  obtain ⟨x18, e19, H⟩ := zbind H
  refine zy_iald (pc := 319) dL_law_319 e19 ?_
  refine zw_aload_n (pc := 320) dL_law_320 rfl 1 rfl ?_
  refine zw_iload (pc := 321) dL_law_321 6 rfl ?_
  refine zw_iconst (pc := 323) (v := (4 : Int32)) dL_law_323 (by decide) ?_
  refine zw_iadd (pc := 324) dL_law_324 ?_
  obtain ⟨x20, e21, H⟩ := zbind H
  refine zy_iald (pc := 325) dL_law_325 e21 ?_
  refine zw_aload_n (pc := 326) dL_law_326 rfl 1 rfl ?_
  refine zw_iload (pc := 327) dL_law_327 6 rfl ?_
  refine zw_iconst (pc := 329) (v := (5 : Int32)) dL_law_329 (by decide) ?_
  refine zw_iadd (pc := 330) dL_law_330 ?_
  obtain ⟨x22, e23, H⟩ := zbind H
  refine zy_iald (pc := 331) dL_law_331 e23 ?_
  obtain ⟨b24, e26, H⟩ := zbind H
  obtain ⟨e25, e27⟩ := zrv_ok e26
  obtain ⟨x30, h29, e28, H⟩ := zbind2 H
  refine zw_invV (pc := 332) (M' := M_X4_feed) (A := [vI x14, vI x16, vI x18, vI x20, vI x22]) [] dL_law_332 (Or.inl q2306) mf_X4_feed q2308 (zkq e27 rfl) (w_X4_feed e28) (Nat.le_of_ble_eq_true rfl) rfl (by rw [← e25]; rfl) (Nat.le_of_ble_eq_true rfl) (zkv ?_) zkn9
  refine zw_istore (pc := 335) (lv' := [(7, vI x30), (6, vI x13), (0, vR a0), (1, vR a1), (2, vR a2), (3, vR a3), (4, vR a4), (5, vI a5)]) dL_law_335 (by decide) rfl ?_
  refine zw_aload_n (pc := 337) dL_law_337 rfl 4 rfl ?_
  obtain ⟨b31, e33, H⟩ := zbind H
  obtain ⟨e32, e34⟩ := zrv_ok e33
  obtain ⟨x36, e35, H⟩ := zbind H
  refine zw_invV (pc := 338) (M' := M_X4_thrown) (A := []) [] dL_law_338 (Or.inl q2302) mf_X4_thrown q2304 (zkq e34 rfl) (w_X4_thrown e35) (Nat.le_of_ble_eq_true rfl) rfl (by rw [← e32]; rfl) (Nat.le_of_ble_eq_true rfl) (zkv ?_) zkn9
  refine zw_iload (pc := 341) dL_law_341 1 rfl ?_
  rcases zif H with ⟨c37, H⟩ | ⟨c37, H⟩
  · refine zw_icmp_eq (pc := 343) (tgt := 348) dL_law_343 rfl (fun _ => ?_) (fun q => absurd c37 q)
    refine zw_iload (pc := 348) dL_law_348 1 rfl ?_
    rcases zif H with ⟨c38, H⟩ | ⟨c38, H⟩
    · refine zw_if_ne (pc := 350) (tgt := 365) dL_law_350 rfl (fun q => absurd c38 q) (fun _ => ?_)
      refine zw_aload_n (pc := 353) dL_law_353 rfl 5 rfl ?_
      refine zw_iconst (pc := 354) (v := (0 : Int32)) dL_law_354 (by decide) ?_
      obtain ⟨x39, e40, H⟩ := zbind H
      refine zy_lald (pc := 355) dL_law_355 e40 ?_
      refine zw_iload (pc := 356) dL_law_356 0 rfl ?_
      refine zw_i2l (pc := 358) dL_law_358 ?_
      refine zw_lcmp (pc := 359) dL_law_359 ?_
      rcases zif H with ⟨c41, H⟩ | ⟨c41, H⟩
      · refine zw_if_eq (pc := 360) (tgt := 365) dL_law_360 rfl (fun _ => ?_) (fun q => absurd (lgc_eq.mpr c41) q)
        refine zw_goto (pc := 365) (tgt := 3377) dL_law_365 rfl ?_
        refine zw_iinc (pc := 3377) (v := (a5 + (6 : Int32))) (lv' := [(5, vI (a5 + (6 : Int32))), (7, vI x30), (6, vI x13), (0, vR a0), (1, vR a1), (2, vR a2), (3, vR a3), (4, vR a4)]) dL_law_3377 7 rfl rfl (by decide) rfl ?_
        refine zw_goto (pc := 3380) (tgt := 28) dL_law_3380 rfl ?_
        refine zW_pick (lv' := [(0, vR a0), (1, vR a1), (2, vR a2), (3, vR a3), (4, vR a4), (5, vI (a5 + (6 : Int32)))]) [3, 4, 5, 6, 7, 0] rfl ?_
        exact hk28 _ _ _ _ _ _ _ H
      · refine zw_if_eq (pc := 360) (tgt := 365) dL_law_360 rfl (fun q => absurd q (fun q => c41 (lgc_eq.mp q))) (fun _ => ?_)
        refine zw_iconst (pc := 363) (v := (0 : Int32)) dL_law_363 (by decide) ?_
        obtain ⟨rfl, rfl⟩ := Prod.mk.inj (Option.some.inj H)
        exact zw_zret (pc := 364) dL_law_364 rfl rfl rfl rfl
    · refine zw_if_ne (pc := 350) (tgt := 365) dL_law_350 rfl (fun _ => ?_) (fun q => absurd q c38)
      refine zw_goto (pc := 365) (tgt := 3377) dL_law_365 rfl ?_
      refine zw_iinc (pc := 3377) (v := (a5 + (6 : Int32))) (lv' := [(5, vI (a5 + (6 : Int32))), (7, vI x30), (6, vI x13), (0, vR a0), (1, vR a1), (2, vR a2), (3, vR a3), (4, vR a4)]) dL_law_3377 7 rfl rfl (by decide) rfl ?_
      refine zw_goto (pc := 3380) (tgt := 28) dL_law_3380 rfl ?_
      refine zW_pick (lv' := [(0, vR a0), (1, vR a1), (2, vR a2), (3, vR a3), (4, vR a4), (5, vI (a5 + (6 : Int32)))]) [3, 4, 5, 6, 7, 0] rfl ?_
      exact hk28 _ _ _ _ _ _ _ H
  · refine zw_icmp_eq (pc := 343) (tgt := 348) dL_law_343 rfl (fun q => absurd q c37) (fun _ => ?_)
    refine zw_iconst (pc := 346) (v := (0 : Int32)) dL_law_346 (by decide) ?_
    obtain ⟨rfl, rfl⟩ := Prod.mk.inj (Option.some.inj H)
    exact zw_zret (pc := 347) dL_law_347 rfl rfl rfl rfl
def B_L_law_368 (k28 : Option Nat → Option Nat → Option Nat → Option Nat → Option Nat → Int32 → zH → Option ((Int32 ⊕ Nat) × zH)) (a0 : Option Nat) (a1 : Option Nat) (a2 : Option Nat) (a3 : Option Nat) (a4 : Option Nat) (a5 : Int32) (h : zH) : Option ((Int32 ⊕ Nat) × zH) :=
  (zaI 50 a0 (a5 + (1 : Int32)) h).bind fun x1 =>
  zb2 (f_X0_truncate a1 x1 a3 h) fun x5 h4 =>
  (zaI 50 a0 (a5 + (1 : Int32)) h4).bind fun x6 =>
  (zrv 4 a2 h4).bind fun b8 =>
  zb2 (f_X4_truncate (some b8) x6 h4) fun x14 h13 =>
  (zrv 4 a2 h13).bind fun b15 =>
  (f_X4_thrown (some b15) h13).bind fun x20 =>
  if x20 = x5 then
  if x5 = 0 then
  (zaJ a3 (0 : Int32) h13).bind fun x23 =>
  if x23 = x14.toInt64 then
  k28 a0 a1 a2 a3 a4 (a5 + (6 : Int32)) h13
  else
  some (.inl (0 : Int32), h13)
  else
  k28 a0 a1 a2 a3 a4 (a5 + (6 : Int32)) h13
  else
  some (.inl (0 : Int32), h13)
theorem wB_L_law_368 {G : zG} {h0 h : zH} {vo : Int32 ⊕ Nat} {vh : zH} {k28 : Option Nat → Option Nat → Option Nat → Option Nat → Option Nat → Int32 → zH → Option ((Int32 ⊕ Nat) × zH)} (hk28 : ∀ (b0 : Option Nat) (b1 : Option Nat) (b2 : Option Nat) (b3 : Option Nat) (b4 : Option Nat) (b5 : Int32) (h' : zH), k28 b0 b1 b2 b3 b4 b5 h' = some (vo, vh) → zW G M_L_law 343 h0 (zoI vo) vh 28 [(0, vR b0), (1, vR b1), (2, vR b2), (3, vR b3), (4, vR b4), (5, vI b5)] [] h') {a0 : Option Nat} {a1 : Option Nat} {a2 : Option Nat} {a3 : Option Nat} {a4 : Option Nat} {a5 : Int32} (H : B_L_law_368 k28 a0 a1 a2 a3 a4 a5 h = some (vo, vh)) : zW G M_L_law 343 h0 (zoI vo) vh 368 [(0, vR a0), (1, vR a1), (2, vR a2), (3, vR a3), (4, vR a4), (5, vI a5)] [] h := by
  unfold B_L_law_368 at H
  refine zw_aload_n (pc := 368) dL_law_368 rfl 1 rfl ?_
  refine zw_aload_n (pc := 369) dL_law_369 rfl 0 rfl ?_
  refine zw_iload (pc := 370) dL_law_370 5 rfl ?_
  refine zw_iconst (pc := 372) (v := (1 : Int32)) dL_law_372 (by decide) ?_
  refine zw_iadd (pc := 373) dL_law_373 ?_
  obtain ⟨x1, e2, H⟩ := zbind H
  refine zy_iald (pc := 374) dL_law_374 e2 ?_
  refine zw_aload_n (pc := 375) dL_law_375 rfl 3 rfl ?_
  obtain ⟨x5, h4, e3, H⟩ := zbind2 H
  refine zw_invS (pc := 376) (M' := M_X0_truncate) (A := [vR a1, vI x1, vR a3]) [] dL_law_376 (Or.inl q595) mf_X0_truncate (w_X0_truncate e3) (Nat.le_of_ble_eq_true rfl) rfl rfl (Nat.le_of_ble_eq_true rfl) (zkv ?_) zkn9
  refine zw_istore (pc := 379) (lv' := [(6, vI x5), (0, vR a0), (1, vR a1), (2, vR a2), (3, vR a3), (4, vR a4), (5, vI a5)]) dL_law_379 (by decide) rfl ?_
  refine zw_aload_n (pc := 381) dL_law_381 rfl 3 rfl ?_
  refine zw_aload_n (pc := 382) dL_law_382 rfl 1 rfl ?_
  refine zw_iload (pc := 383) dL_law_383 6 rfl ?_
  refine zw_iconst (pc := 385) (v := (1 : Int32)) dL_law_385 (by decide) ?_
  refine zw_iadd (pc := 386) dL_law_386 ?_
  obtain ⟨x6, e7, H⟩ := zbind H
  refine zy_iald (pc := 387) dL_law_387 e7 ?_
  obtain ⟨b8, e10, H⟩ := zbind H
  obtain ⟨e9, e11⟩ := zrv_ok e10
  obtain ⟨x14, h13, e12, H⟩ := zbind2 H
  refine zw_invV (pc := 388) (M' := M_X4_truncate) (A := [vI x6]) [] dL_law_388 (Or.inl q2321) mf_X4_truncate q2323 (zkq e11 rfl) (w_X4_truncate e12) (Nat.le_of_ble_eq_true rfl) rfl (by rw [← e9]; rfl) (Nat.le_of_ble_eq_true rfl) (zkv ?_) zkn9
  refine zw_istore (pc := 391) (lv' := [(7, vI x14), (6, vI x5), (0, vR a0), (1, vR a1), (2, vR a2), (3, vR a3), (4, vR a4), (5, vI a5)]) dL_law_391 (by decide) rfl ?_
  refine zw_aload_n (pc := 393) dL_law_393 rfl 4 rfl ?_
  obtain ⟨b15, e17, H⟩ := zbind H
  obtain ⟨e16, e18⟩ := zrv_ok e17
  obtain ⟨x20, e19, H⟩ := zbind H
  refine zw_invV (pc := 394) (M' := M_X4_thrown) (A := []) [] dL_law_394 (Or.inl q2302) mf_X4_thrown q2304 (zkq e18 rfl) (w_X4_thrown e19) (Nat.le_of_ble_eq_true rfl) rfl (by rw [← e16]; rfl) (Nat.le_of_ble_eq_true rfl) (zkv ?_) zkn9
  refine zw_iload (pc := 397) dL_law_397 1 rfl ?_
  rcases zif H with ⟨c21, H⟩ | ⟨c21, H⟩
  · refine zw_icmp_eq (pc := 399) (tgt := 404) dL_law_399 rfl (fun _ => ?_) (fun q => absurd c21 q)
    refine zw_iload (pc := 404) dL_law_404 1 rfl ?_
    rcases zif H with ⟨c22, H⟩ | ⟨c22, H⟩
    · refine zw_if_ne (pc := 406) (tgt := 421) dL_law_406 rfl (fun q => absurd c22 q) (fun _ => ?_)
      refine zw_aload_n (pc := 409) dL_law_409 rfl 5 rfl ?_
      refine zw_iconst (pc := 410) (v := (0 : Int32)) dL_law_410 (by decide) ?_
      obtain ⟨x23, e24, H⟩ := zbind H
      refine zy_lald (pc := 411) dL_law_411 e24 ?_
      refine zw_iload (pc := 412) dL_law_412 0 rfl ?_
      refine zw_i2l (pc := 414) dL_law_414 ?_
      refine zw_lcmp (pc := 415) dL_law_415 ?_
      rcases zif H with ⟨c25, H⟩ | ⟨c25, H⟩
      · refine zw_if_eq (pc := 416) (tgt := 421) dL_law_416 rfl (fun _ => ?_) (fun q => absurd (lgc_eq.mpr c25) q)
        refine zw_goto (pc := 421) (tgt := 3377) dL_law_421 rfl ?_
        refine zw_iinc (pc := 3377) (v := (a5 + (6 : Int32))) (lv' := [(5, vI (a5 + (6 : Int32))), (7, vI x14), (6, vI x5), (0, vR a0), (1, vR a1), (2, vR a2), (3, vR a3), (4, vR a4)]) dL_law_3377 7 rfl rfl (by decide) rfl ?_
        refine zw_goto (pc := 3380) (tgt := 28) dL_law_3380 rfl ?_
        refine zW_pick (lv' := [(0, vR a0), (1, vR a1), (2, vR a2), (3, vR a3), (4, vR a4), (5, vI (a5 + (6 : Int32)))]) [3, 4, 5, 6, 7, 0] rfl ?_
        exact hk28 _ _ _ _ _ _ _ H
      · refine zw_if_eq (pc := 416) (tgt := 421) dL_law_416 rfl (fun q => absurd q (fun q => c25 (lgc_eq.mp q))) (fun _ => ?_)
        refine zw_iconst (pc := 419) (v := (0 : Int32)) dL_law_419 (by decide) ?_
        obtain ⟨rfl, rfl⟩ := Prod.mk.inj (Option.some.inj H)
        exact zw_zret (pc := 420) dL_law_420 rfl rfl rfl rfl
    · refine zw_if_ne (pc := 406) (tgt := 421) dL_law_406 rfl (fun _ => ?_) (fun q => absurd q c22)
      refine zw_goto (pc := 421) (tgt := 3377) dL_law_421 rfl ?_
      refine zw_iinc (pc := 3377) (v := (a5 + (6 : Int32))) (lv' := [(5, vI (a5 + (6 : Int32))), (7, vI x14), (6, vI x5), (0, vR a0), (1, vR a1), (2, vR a2), (3, vR a3), (4, vR a4)]) dL_law_3377 7 rfl rfl (by decide) rfl ?_
      refine zw_goto (pc := 3380) (tgt := 28) dL_law_3380 rfl ?_
      refine zW_pick (lv' := [(0, vR a0), (1, vR a1), (2, vR a2), (3, vR a3), (4, vR a4), (5, vI (a5 + (6 : Int32)))]) [3, 4, 5, 6, 7, 0] rfl ?_
      exact hk28 _ _ _ _ _ _ _ H
  · refine zw_icmp_eq (pc := 399) (tgt := 404) dL_law_399 rfl (fun q => absurd q c21) (fun _ => ?_)
    refine zw_iconst (pc := 402) (v := (0 : Int32)) dL_law_402 (by decide) ?_
    obtain ⟨rfl, rfl⟩ := Prod.mk.inj (Option.some.inj H)
    exact zw_zret (pc := 403) dL_law_403 rfl rfl rfl rfl
def B_L_law_424 (k28 : Option Nat → Option Nat → Option Nat → Option Nat → Option Nat → Int32 → zH → Option ((Int32 ⊕ Nat) × zH)) (a0 : Option Nat) (a1 : Option Nat) (a2 : Option Nat) (a3 : Option Nat) (a4 : Option Nat) (a5 : Int32) (h : zH) : Option ((Int32 ⊕ Nat) × zH) :=
  zb2 (f_X0_readText a1 a3 h) fun x3 h2 =>
  (zrv 4 a2 h2).bind fun b4 =>
  zb2 (f_X4_readText (some b4) h2) fun x10 h9 =>
  (zrv 4 a2 h9).bind fun b11 =>
  (f_X4_thrown (some b11) h9).bind fun x16 =>
  if x16 = x3 then
  if x3 = 0 then
  (zaJ a3 (0 : Int32) h9).bind fun x19 =>
  if x19 = x10.toInt64 then
  k28 a0 a1 a2 a3 a4 (a5 + (6 : Int32)) h9
  else
  some (.inl (0 : Int32), h9)
  else
  k28 a0 a1 a2 a3 a4 (a5 + (6 : Int32)) h9
  else
  some (.inl (0 : Int32), h9)
theorem wB_L_law_424 {G : zG} {h0 h : zH} {vo : Int32 ⊕ Nat} {vh : zH} {k28 : Option Nat → Option Nat → Option Nat → Option Nat → Option Nat → Int32 → zH → Option ((Int32 ⊕ Nat) × zH)} (hk28 : ∀ (b0 : Option Nat) (b1 : Option Nat) (b2 : Option Nat) (b3 : Option Nat) (b4 : Option Nat) (b5 : Int32) (h' : zH), k28 b0 b1 b2 b3 b4 b5 h' = some (vo, vh) → zW G M_L_law 343 h0 (zoI vo) vh 28 [(0, vR b0), (1, vR b1), (2, vR b2), (3, vR b3), (4, vR b4), (5, vI b5)] [] h') {a0 : Option Nat} {a1 : Option Nat} {a2 : Option Nat} {a3 : Option Nat} {a4 : Option Nat} {a5 : Int32} (H : B_L_law_424 k28 a0 a1 a2 a3 a4 a5 h = some (vo, vh)) : zW G M_L_law 343 h0 (zoI vo) vh 424 [(0, vR a0), (1, vR a1), (2, vR a2), (3, vR a3), (4, vR a4), (5, vI a5)] [] h := by
  unfold B_L_law_424 at H
  refine zw_aload_n (pc := 424) dL_law_424 rfl 1 rfl ?_
  refine zw_aload_n (pc := 425) dL_law_425 rfl 3 rfl ?_
  obtain ⟨x3, h2, e1, H⟩ := zbind2 H
  refine zw_invS (pc := 426) (M' := M_X0_readText) (A := [vR a1, vR a3]) [] dL_law_426 (Or.inl q622) mf_X0_readText (w_X0_readText e1) (Nat.le_of_ble_eq_true rfl) rfl rfl (Nat.le_of_ble_eq_true rfl) (zkv ?_) zkn9
  refine zw_istore (pc := 429) (lv' := [(6, vI x3), (0, vR a0), (1, vR a1), (2, vR a2), (3, vR a3), (4, vR a4), (5, vI a5)]) dL_law_429 (by decide) rfl ?_
  refine zw_aload_n (pc := 431) dL_law_431 rfl 3 rfl ?_
  obtain ⟨b4, e6, H⟩ := zbind H
  obtain ⟨e5, e7⟩ := zrv_ok e6
  obtain ⟨x10, h9, e8, H⟩ := zbind2 H
  refine zw_invV (pc := 432) (M' := M_X4_readText) (A := []) [] dL_law_432 (Or.inl q2562) mf_X4_readText q2564 (zkq e7 rfl) (w_X4_readText e8) (Nat.le_of_ble_eq_true rfl) rfl (by rw [← e5]; rfl) (Nat.le_of_ble_eq_true rfl) (zkv ?_) zkn9
  refine zw_istore (pc := 435) (lv' := [(7, vI x10), (6, vI x3), (0, vR a0), (1, vR a1), (2, vR a2), (3, vR a3), (4, vR a4), (5, vI a5)]) dL_law_435 (by decide) rfl ?_
  refine zw_aload_n (pc := 437) dL_law_437 rfl 4 rfl ?_
  obtain ⟨b11, e13, H⟩ := zbind H
  obtain ⟨e12, e14⟩ := zrv_ok e13
  obtain ⟨x16, e15, H⟩ := zbind H
  refine zw_invV (pc := 438) (M' := M_X4_thrown) (A := []) [] dL_law_438 (Or.inl q2302) mf_X4_thrown q2304 (zkq e14 rfl) (w_X4_thrown e15) (Nat.le_of_ble_eq_true rfl) rfl (by rw [← e12]; rfl) (Nat.le_of_ble_eq_true rfl) (zkv ?_) zkn9
  refine zw_iload (pc := 441) dL_law_441 1 rfl ?_
  rcases zif H with ⟨c17, H⟩ | ⟨c17, H⟩
  · refine zw_icmp_eq (pc := 443) (tgt := 448) dL_law_443 rfl (fun _ => ?_) (fun q => absurd c17 q)
    refine zw_iload (pc := 448) dL_law_448 1 rfl ?_
    rcases zif H with ⟨c18, H⟩ | ⟨c18, H⟩
    · refine zw_if_ne (pc := 450) (tgt := 465) dL_law_450 rfl (fun q => absurd c18 q) (fun _ => ?_)
      refine zw_aload_n (pc := 453) dL_law_453 rfl 5 rfl ?_
      refine zw_iconst (pc := 454) (v := (0 : Int32)) dL_law_454 (by decide) ?_
      obtain ⟨x19, e20, H⟩ := zbind H
      refine zy_lald (pc := 455) dL_law_455 e20 ?_
      refine zw_iload (pc := 456) dL_law_456 0 rfl ?_
      refine zw_i2l (pc := 458) dL_law_458 ?_
      refine zw_lcmp (pc := 459) dL_law_459 ?_
      rcases zif H with ⟨c21, H⟩ | ⟨c21, H⟩
      · refine zw_if_eq (pc := 460) (tgt := 465) dL_law_460 rfl (fun _ => ?_) (fun q => absurd (lgc_eq.mpr c21) q)
        refine zw_goto (pc := 465) (tgt := 3377) dL_law_465 rfl ?_
        refine zw_iinc (pc := 3377) (v := (a5 + (6 : Int32))) (lv' := [(5, vI (a5 + (6 : Int32))), (7, vI x10), (6, vI x3), (0, vR a0), (1, vR a1), (2, vR a2), (3, vR a3), (4, vR a4)]) dL_law_3377 7 rfl rfl (by decide) rfl ?_
        refine zw_goto (pc := 3380) (tgt := 28) dL_law_3380 rfl ?_
        refine zW_pick (lv' := [(0, vR a0), (1, vR a1), (2, vR a2), (3, vR a3), (4, vR a4), (5, vI (a5 + (6 : Int32)))]) [3, 4, 5, 6, 7, 0] rfl ?_
        exact hk28 _ _ _ _ _ _ _ H
      · refine zw_if_eq (pc := 460) (tgt := 465) dL_law_460 rfl (fun q => absurd q (fun q => c21 (lgc_eq.mp q))) (fun _ => ?_)
        refine zw_iconst (pc := 463) (v := (0 : Int32)) dL_law_463 (by decide) ?_
        obtain ⟨rfl, rfl⟩ := Prod.mk.inj (Option.some.inj H)
        exact zw_zret (pc := 464) dL_law_464 rfl rfl rfl rfl
    · refine zw_if_ne (pc := 450) (tgt := 465) dL_law_450 rfl (fun _ => ?_) (fun q => absurd q c18)
      refine zw_goto (pc := 465) (tgt := 3377) dL_law_465 rfl ?_
      refine zw_iinc (pc := 3377) (v := (a5 + (6 : Int32))) (lv' := [(5, vI (a5 + (6 : Int32))), (7, vI x10), (6, vI x3), (0, vR a0), (1, vR a1), (2, vR a2), (3, vR a3), (4, vR a4)]) dL_law_3377 7 rfl rfl (by decide) rfl ?_
      refine zw_goto (pc := 3380) (tgt := 28) dL_law_3380 rfl ?_
      refine zW_pick (lv' := [(0, vR a0), (1, vR a1), (2, vR a2), (3, vR a3), (4, vR a4), (5, vI (a5 + (6 : Int32)))]) [3, 4, 5, 6, 7, 0] rfl ?_
      exact hk28 _ _ _ _ _ _ _ H
  · refine zw_icmp_eq (pc := 443) (tgt := 448) dL_law_443 rfl (fun q => absurd q c17) (fun _ => ?_)
    refine zw_iconst (pc := 446) (v := (0 : Int32)) dL_law_446 (by decide) ?_
    obtain ⟨rfl, rfl⟩ := Prod.mk.inj (Option.some.inj H)
    exact zw_zret (pc := 447) dL_law_447 rfl rfl rfl rfl
def B_L_law_468 (k28 : Option Nat → Option Nat → Option Nat → Option Nat → Option Nat → Int32 → zH → Option ((Int32 ⊕ Nat) × zH)) (a0 : Option Nat) (a1 : Option Nat) (a2 : Option Nat) (a3 : Option Nat) (a4 : Option Nat) (a5 : Int32) (h : zH) : Option ((Int32 ⊕ Nat) × zH) :=
  zb2 (f_X0_runScript a1 a3 h) fun x3 h2 =>
  (zrv 4 a2 h2).bind fun b4 =>
  zb2 (f_X4_runScript (some b4) h2) fun x10 h9 =>
  (zrv 4 a2 h9).bind fun b11 =>
  (f_X4_thrown (some b11) h9).bind fun x16 =>
  if x16 = x3 then
  if x3 = 0 then
  (zaJ a3 (0 : Int32) h9).bind fun x19 =>
  if x19 = x10.toInt64 then
  k28 a0 a1 a2 a3 a4 (a5 + (6 : Int32)) h9
  else
  some (.inl (0 : Int32), h9)
  else
  k28 a0 a1 a2 a3 a4 (a5 + (6 : Int32)) h9
  else
  some (.inl (0 : Int32), h9)
theorem wB_L_law_468 {G : zG} {h0 h : zH} {vo : Int32 ⊕ Nat} {vh : zH} {k28 : Option Nat → Option Nat → Option Nat → Option Nat → Option Nat → Int32 → zH → Option ((Int32 ⊕ Nat) × zH)} (hk28 : ∀ (b0 : Option Nat) (b1 : Option Nat) (b2 : Option Nat) (b3 : Option Nat) (b4 : Option Nat) (b5 : Int32) (h' : zH), k28 b0 b1 b2 b3 b4 b5 h' = some (vo, vh) → zW G M_L_law 343 h0 (zoI vo) vh 28 [(0, vR b0), (1, vR b1), (2, vR b2), (3, vR b3), (4, vR b4), (5, vI b5)] [] h') {a0 : Option Nat} {a1 : Option Nat} {a2 : Option Nat} {a3 : Option Nat} {a4 : Option Nat} {a5 : Int32} (H : B_L_law_468 k28 a0 a1 a2 a3 a4 a5 h = some (vo, vh)) : zW G M_L_law 343 h0 (zoI vo) vh 468 [(0, vR a0), (1, vR a1), (2, vR a2), (3, vR a3), (4, vR a4), (5, vI a5)] [] h := by
  unfold B_L_law_468 at H
  refine zw_aload_n (pc := 468) dL_law_468 rfl 1 rfl ?_
  refine zw_aload_n (pc := 469) dL_law_469 rfl 3 rfl ?_
  obtain ⟨x3, h2, e1, H⟩ := zbind2 H
  refine zw_invS (pc := 470) (M' := M_X0_runScript) (A := [vR a1, vR a3]) [] dL_law_470 (Or.inl q1462) mf_X0_runScript (w_X0_runScript e1) (Nat.le_of_ble_eq_true rfl) rfl rfl (Nat.le_of_ble_eq_true rfl) (zkv ?_) zkn9
  refine zw_istore (pc := 473) (lv' := [(6, vI x3), (0, vR a0), (1, vR a1), (2, vR a2), (3, vR a3), (4, vR a4), (5, vI a5)]) dL_law_473 (by decide) rfl ?_
  refine zw_aload_n (pc := 475) dL_law_475 rfl 3 rfl ?_
  obtain ⟨b4, e6, H⟩ := zbind H
  obtain ⟨e5, e7⟩ := zrv_ok e6
  obtain ⟨x10, h9, e8, H⟩ := zbind2 H
  refine zw_invV (pc := 476) (M' := M_X4_runScript) (A := []) [] dL_law_476 (Or.inl q2948) mf_X4_runScript q2950 (zkq e7 rfl) (w_X4_runScript e8) (Nat.le_of_ble_eq_true rfl) rfl (by rw [← e5]; rfl) (Nat.le_of_ble_eq_true rfl) (zkv ?_) zkn9
  refine zw_istore (pc := 479) (lv' := [(7, vI x10), (6, vI x3), (0, vR a0), (1, vR a1), (2, vR a2), (3, vR a3), (4, vR a4), (5, vI a5)]) dL_law_479 (by decide) rfl ?_
  refine zw_aload_n (pc := 481) dL_law_481 rfl 4 rfl ?_
  obtain ⟨b11, e13, H⟩ := zbind H
  obtain ⟨e12, e14⟩ := zrv_ok e13
  obtain ⟨x16, e15, H⟩ := zbind H
  refine zw_invV (pc := 482) (M' := M_X4_thrown) (A := []) [] dL_law_482 (Or.inl q2302) mf_X4_thrown q2304 (zkq e14 rfl) (w_X4_thrown e15) (Nat.le_of_ble_eq_true rfl) rfl (by rw [← e12]; rfl) (Nat.le_of_ble_eq_true rfl) (zkv ?_) zkn9
  refine zw_iload (pc := 485) dL_law_485 1 rfl ?_
  rcases zif H with ⟨c17, H⟩ | ⟨c17, H⟩
  · refine zw_icmp_eq (pc := 487) (tgt := 492) dL_law_487 rfl (fun _ => ?_) (fun q => absurd c17 q)
    refine zw_iload (pc := 492) dL_law_492 1 rfl ?_
    rcases zif H with ⟨c18, H⟩ | ⟨c18, H⟩
    · refine zw_if_ne (pc := 494) (tgt := 509) dL_law_494 rfl (fun q => absurd c18 q) (fun _ => ?_)
      refine zw_aload_n (pc := 497) dL_law_497 rfl 5 rfl ?_
      refine zw_iconst (pc := 498) (v := (0 : Int32)) dL_law_498 (by decide) ?_
      obtain ⟨x19, e20, H⟩ := zbind H
      refine zy_lald (pc := 499) dL_law_499 e20 ?_
      refine zw_iload (pc := 500) dL_law_500 0 rfl ?_
      refine zw_i2l (pc := 502) dL_law_502 ?_
      refine zw_lcmp (pc := 503) dL_law_503 ?_
      rcases zif H with ⟨c21, H⟩ | ⟨c21, H⟩
      · refine zw_if_eq (pc := 504) (tgt := 509) dL_law_504 rfl (fun _ => ?_) (fun q => absurd (lgc_eq.mpr c21) q)
        refine zw_goto (pc := 509) (tgt := 3377) dL_law_509 rfl ?_
        refine zw_iinc (pc := 3377) (v := (a5 + (6 : Int32))) (lv' := [(5, vI (a5 + (6 : Int32))), (7, vI x10), (6, vI x3), (0, vR a0), (1, vR a1), (2, vR a2), (3, vR a3), (4, vR a4)]) dL_law_3377 7 rfl rfl (by decide) rfl ?_
        refine zw_goto (pc := 3380) (tgt := 28) dL_law_3380 rfl ?_
        refine zW_pick (lv' := [(0, vR a0), (1, vR a1), (2, vR a2), (3, vR a3), (4, vR a4), (5, vI (a5 + (6 : Int32)))]) [3, 4, 5, 6, 7, 0] rfl ?_
        exact hk28 _ _ _ _ _ _ _ H
      · refine zw_if_eq (pc := 504) (tgt := 509) dL_law_504 rfl (fun q => absurd q (fun q => c21 (lgc_eq.mp q))) (fun _ => ?_)
        refine zw_iconst (pc := 507) (v := (0 : Int32)) dL_law_507 (by decide) ?_
        obtain ⟨rfl, rfl⟩ := Prod.mk.inj (Option.some.inj H)
        exact zw_zret (pc := 508) dL_law_508 rfl rfl rfl rfl
    · refine zw_if_ne (pc := 494) (tgt := 509) dL_law_494 rfl (fun _ => ?_) (fun q => absurd q c18)
      refine zw_goto (pc := 509) (tgt := 3377) dL_law_509 rfl ?_
      refine zw_iinc (pc := 3377) (v := (a5 + (6 : Int32))) (lv' := [(5, vI (a5 + (6 : Int32))), (7, vI x10), (6, vI x3), (0, vR a0), (1, vR a1), (2, vR a2), (3, vR a3), (4, vR a4)]) dL_law_3377 7 rfl rfl (by decide) rfl ?_
      refine zw_goto (pc := 3380) (tgt := 28) dL_law_3380 rfl ?_
      refine zW_pick (lv' := [(0, vR a0), (1, vR a1), (2, vR a2), (3, vR a3), (4, vR a4), (5, vI (a5 + (6 : Int32)))]) [3, 4, 5, 6, 7, 0] rfl ?_
      exact hk28 _ _ _ _ _ _ _ H
  · refine zw_icmp_eq (pc := 487) (tgt := 492) dL_law_487 rfl (fun q => absurd q c17) (fun _ => ?_)
    refine zw_iconst (pc := 490) (v := (0 : Int32)) dL_law_490 (by decide) ?_
    obtain ⟨rfl, rfl⟩ := Prod.mk.inj (Option.some.inj H)
    exact zw_zret (pc := 491) dL_law_491 rfl rfl rfl rfl
def B_L_law_512 (k28 : Option Nat → Option Nat → Option Nat → Option Nat → Option Nat → Int32 → zH → Option ((Int32 ⊕ Nat) × zH)) (a0 : Option Nat) (a1 : Option Nat) (a2 : Option Nat) (a3 : Option Nat) (a4 : Option Nat) (a5 : Int32) (h : zH) : Option ((Int32 ⊕ Nat) × zH) :=
  (zrv 1 a1 h).bind fun b1 =>
  (f_X1_errorCode (some b1) h).bind fun x6 =>
  (zrv 4 a2 h).bind fun b7 =>
  zb2 (f_X4_errorCode (some b7) h) fun x13 h12 =>
  if x6 = x13 then
  k28 a0 a1 a2 a3 a4 (a5 + (6 : Int32)) h12
  else
  some (.inl (0 : Int32), h12)
theorem wB_L_law_512 {G : zG} {h0 h : zH} {vo : Int32 ⊕ Nat} {vh : zH} {k28 : Option Nat → Option Nat → Option Nat → Option Nat → Option Nat → Int32 → zH → Option ((Int32 ⊕ Nat) × zH)} (hk28 : ∀ (b0 : Option Nat) (b1 : Option Nat) (b2 : Option Nat) (b3 : Option Nat) (b4 : Option Nat) (b5 : Int32) (h' : zH), k28 b0 b1 b2 b3 b4 b5 h' = some (vo, vh) → zW G M_L_law 343 h0 (zoI vo) vh 28 [(0, vR b0), (1, vR b1), (2, vR b2), (3, vR b3), (4, vR b4), (5, vI b5)] [] h') {a0 : Option Nat} {a1 : Option Nat} {a2 : Option Nat} {a3 : Option Nat} {a4 : Option Nat} {a5 : Int32} (H : B_L_law_512 k28 a0 a1 a2 a3 a4 a5 h = some (vo, vh)) : zW G M_L_law 343 h0 (zoI vo) vh 512 [(0, vR a0), (1, vR a1), (2, vR a2), (3, vR a3), (4, vR a4), (5, vI a5)] [] h := by
  unfold B_L_law_512 at H
  refine zw_aload_n (pc := 512) dL_law_512 rfl 1 rfl ?_
  obtain ⟨b1, e3, H⟩ := zbind H
  obtain ⟨e2, e4⟩ := zrv_ok e3
  obtain ⟨x6, e5, H⟩ := zbind H
  refine zw_invV (pc := 513) (M' := M_X1_errorCode) (A := []) [] dL_law_513 (Or.inl q365) mf_X1_errorCode q367 (zkq e4 rfl) (w_X1_errorCode e5) (Nat.le_of_ble_eq_true rfl) rfl (by rw [← e2]; rfl) (Nat.le_of_ble_eq_true rfl) (zkv ?_) zkn9
  refine zw_aload_n (pc := 516) dL_law_516 rfl 2 rfl ?_
  obtain ⟨b7, e9, H⟩ := zbind H
  obtain ⟨e8, e10⟩ := zrv_ok e9
  obtain ⟨x13, h12, e11, H⟩ := zbind2 H
  refine zw_invV (pc := 517) (M' := M_X4_errorCode) (A := []) [vI x6] dL_law_517 (Or.inl q2328) mf_X4_errorCode q2330 (zkq e10 rfl) (w_X4_errorCode e11) (Nat.le_of_ble_eq_true rfl) rfl (by rw [← e8]; rfl) (Nat.le_of_ble_eq_true rfl) (zkv ?_) zkn9
  rcases zif H with ⟨c14, H⟩ | ⟨c14, H⟩
  · refine zw_icmp_eq (pc := 520) (tgt := 3377) dL_law_520 rfl (fun _ => ?_) (fun q => absurd c14 q)
    refine zw_iinc (pc := 3377) (v := (a5 + (6 : Int32))) (lv' := [(5, vI (a5 + (6 : Int32))), (0, vR a0), (1, vR a1), (2, vR a2), (3, vR a3), (4, vR a4)]) dL_law_3377 5 rfl rfl (by decide) rfl ?_
    refine zw_goto (pc := 3380) (tgt := 28) dL_law_3380 rfl ?_
    refine zW_pick (lv' := [(0, vR a0), (1, vR a1), (2, vR a2), (3, vR a3), (4, vR a4), (5, vI (a5 + (6 : Int32)))]) [1, 2, 3, 4, 5, 0] rfl ?_
    exact hk28 _ _ _ _ _ _ _ H
  · refine zw_icmp_eq (pc := 520) (tgt := 3377) dL_law_520 rfl (fun q => absurd q c14) (fun _ => ?_)
    refine zw_iconst (pc := 523) (v := (0 : Int32)) dL_law_523 (by decide) ?_
    obtain ⟨rfl, rfl⟩ := Prod.mk.inj (Option.some.inj H)
    exact zw_zret (pc := 524) dL_law_524 rfl rfl rfl rfl
def B_L_law_525 (k28 : Option Nat → Option Nat → Option Nat → Option Nat → Option Nat → Int32 → zH → Option ((Int32 ⊕ Nat) × zH)) (a0 : Option Nat) (a1 : Option Nat) (a2 : Option Nat) (a3 : Option Nat) (a4 : Option Nat) (a5 : Int32) (h : zH) : Option ((Int32 ⊕ Nat) × zH) :=
  (zrv 1 a1 h).bind fun b1 =>
  (f_X1_errorOffset (some b1) h).bind fun x6 =>
  (zrv 4 a2 h).bind fun b7 =>
  zb2 (f_X4_errorOffset (some b7) h) fun x13 h12 =>
  if x6 = x13 then
  k28 a0 a1 a2 a3 a4 (a5 + (6 : Int32)) h12
  else
  some (.inl (0 : Int32), h12)
theorem wB_L_law_525 {G : zG} {h0 h : zH} {vo : Int32 ⊕ Nat} {vh : zH} {k28 : Option Nat → Option Nat → Option Nat → Option Nat → Option Nat → Int32 → zH → Option ((Int32 ⊕ Nat) × zH)} (hk28 : ∀ (b0 : Option Nat) (b1 : Option Nat) (b2 : Option Nat) (b3 : Option Nat) (b4 : Option Nat) (b5 : Int32) (h' : zH), k28 b0 b1 b2 b3 b4 b5 h' = some (vo, vh) → zW G M_L_law 343 h0 (zoI vo) vh 28 [(0, vR b0), (1, vR b1), (2, vR b2), (3, vR b3), (4, vR b4), (5, vI b5)] [] h') {a0 : Option Nat} {a1 : Option Nat} {a2 : Option Nat} {a3 : Option Nat} {a4 : Option Nat} {a5 : Int32} (H : B_L_law_525 k28 a0 a1 a2 a3 a4 a5 h = some (vo, vh)) : zW G M_L_law 343 h0 (zoI vo) vh 525 [(0, vR a0), (1, vR a1), (2, vR a2), (3, vR a3), (4, vR a4), (5, vI a5)] [] h := by
  unfold B_L_law_525 at H
  refine zw_aload_n (pc := 525) dL_law_525 rfl 1 rfl ?_
  obtain ⟨b1, e3, H⟩ := zbind H
  obtain ⟨e2, e4⟩ := zrv_ok e3
  obtain ⟨x6, e5, H⟩ := zbind H
  refine zw_invV (pc := 526) (M' := M_X1_errorOffset) (A := []) [] dL_law_526 (Or.inl q369) mf_X1_errorOffset q371 (zkq e4 rfl) (w_X1_errorOffset e5) (Nat.le_of_ble_eq_true rfl) rfl (by rw [← e2]; rfl) (Nat.le_of_ble_eq_true rfl) (zkv ?_) zkn9
  refine zw_aload_n (pc := 529) dL_law_529 rfl 2 rfl ?_
  obtain ⟨b7, e9, H⟩ := zbind H
  obtain ⟨e8, e10⟩ := zrv_ok e9
  obtain ⟨x13, h12, e11, H⟩ := zbind2 H
  refine zw_invV (pc := 530) (M' := M_X4_errorOffset) (A := []) [vI x6] dL_law_530 (Or.inl q2332) mf_X4_errorOffset q2334 (zkq e10 rfl) (w_X4_errorOffset e11) (Nat.le_of_ble_eq_true rfl) rfl (by rw [← e8]; rfl) (Nat.le_of_ble_eq_true rfl) (zkv ?_) zkn9
  rcases zif H with ⟨c14, H⟩ | ⟨c14, H⟩
  · refine zw_icmp_eq (pc := 533) (tgt := 3377) dL_law_533 rfl (fun _ => ?_) (fun q => absurd c14 q)
    refine zw_iinc (pc := 3377) (v := (a5 + (6 : Int32))) (lv' := [(5, vI (a5 + (6 : Int32))), (0, vR a0), (1, vR a1), (2, vR a2), (3, vR a3), (4, vR a4)]) dL_law_3377 5 rfl rfl (by decide) rfl ?_
    refine zw_goto (pc := 3380) (tgt := 28) dL_law_3380 rfl ?_
    refine zW_pick (lv' := [(0, vR a0), (1, vR a1), (2, vR a2), (3, vR a3), (4, vR a4), (5, vI (a5 + (6 : Int32)))]) [1, 2, 3, 4, 5, 0] rfl ?_
    exact hk28 _ _ _ _ _ _ _ H
  · refine zw_icmp_eq (pc := 533) (tgt := 3377) dL_law_533 rfl (fun q => absurd q c14) (fun _ => ?_)
    refine zw_iconst (pc := 536) (v := (0 : Int32)) dL_law_536 (by decide) ?_
    obtain ⟨rfl, rfl⟩ := Prod.mk.inj (Option.some.inj H)
    exact zw_zret (pc := 537) dL_law_537 rfl rfl rfl rfl
def B_L_law_538 (k28 : Option Nat → Option Nat → Option Nat → Option Nat → Option Nat → Int32 → zH → Option ((Int32 ⊕ Nat) × zH)) (a0 : Option Nat) (a1 : Option Nat) (a2 : Option Nat) (a3 : Option Nat) (a4 : Option Nat) (a5 : Int32) (h : zH) : Option ((Int32 ⊕ Nat) × zH) :=
  (zaI 50 a0 (a5 + (1 : Int32)) h).bind fun x1 =>
  zb2 (f_X0_rowCount a1 x1 a3 h) fun x5 h4 =>
  (zaI 50 a0 (a5 + (1 : Int32)) h4).bind fun x6 =>
  (zrv 4 a2 h4).bind fun b8 =>
  zb2 (f_X4_rowCount (some b8) x6 h4) fun x14 h13 =>
  (zrv 4 a2 h13).bind fun b15 =>
  (f_X4_thrown (some b15) h13).bind fun x20 =>
  if x20 = x5 then
  if x5 = 0 then
  (zaJ a3 (0 : Int32) h13).bind fun x23 =>
  if x23 = x14.toInt64 then
  k28 a0 a1 a2 a3 a4 (a5 + (6 : Int32)) h13
  else
  some (.inl (0 : Int32), h13)
  else
  k28 a0 a1 a2 a3 a4 (a5 + (6 : Int32)) h13
  else
  some (.inl (0 : Int32), h13)
theorem wB_L_law_538 {G : zG} {h0 h : zH} {vo : Int32 ⊕ Nat} {vh : zH} {k28 : Option Nat → Option Nat → Option Nat → Option Nat → Option Nat → Int32 → zH → Option ((Int32 ⊕ Nat) × zH)} (hk28 : ∀ (b0 : Option Nat) (b1 : Option Nat) (b2 : Option Nat) (b3 : Option Nat) (b4 : Option Nat) (b5 : Int32) (h' : zH), k28 b0 b1 b2 b3 b4 b5 h' = some (vo, vh) → zW G M_L_law 343 h0 (zoI vo) vh 28 [(0, vR b0), (1, vR b1), (2, vR b2), (3, vR b3), (4, vR b4), (5, vI b5)] [] h') {a0 : Option Nat} {a1 : Option Nat} {a2 : Option Nat} {a3 : Option Nat} {a4 : Option Nat} {a5 : Int32} (H : B_L_law_538 k28 a0 a1 a2 a3 a4 a5 h = some (vo, vh)) : zW G M_L_law 343 h0 (zoI vo) vh 538 [(0, vR a0), (1, vR a1), (2, vR a2), (3, vR a3), (4, vR a4), (5, vI a5)] [] h := by
  unfold B_L_law_538 at H
  refine zw_aload_n (pc := 538) dL_law_538 rfl 1 rfl ?_
  refine zw_aload_n (pc := 539) dL_law_539 rfl 0 rfl ?_
  refine zw_iload (pc := 540) dL_law_540 5 rfl ?_
  refine zw_iconst (pc := 542) (v := (1 : Int32)) dL_law_542 (by decide) ?_
  refine zw_iadd (pc := 543) dL_law_543 ?_
  obtain ⟨x1, e2, H⟩ := zbind H
  refine zy_iald (pc := 544) dL_law_544 e2 ?_
  refine zw_aload_n (pc := 545) dL_law_545 rfl 3 rfl ?_
  obtain ⟨x5, h4, e3, H⟩ := zbind2 H
  refine zw_invS (pc := 546) (M' := M_X0_rowCount) (A := [vR a1, vI x1, vR a3]) [] dL_law_546 (Or.inl q1716) mf_X0_rowCount (w_X0_rowCount e3) (Nat.le_of_ble_eq_true rfl) rfl rfl (Nat.le_of_ble_eq_true rfl) (zkv ?_) zkn9
  refine zw_istore (pc := 549) (lv' := [(6, vI x5), (0, vR a0), (1, vR a1), (2, vR a2), (3, vR a3), (4, vR a4), (5, vI a5)]) dL_law_549 (by decide) rfl ?_
  refine zw_aload_n (pc := 551) dL_law_551 rfl 3 rfl ?_
  refine zw_aload_n (pc := 552) dL_law_552 rfl 1 rfl ?_
  refine zw_iload (pc := 553) dL_law_553 6 rfl ?_
  refine zw_iconst (pc := 555) (v := (1 : Int32)) dL_law_555 (by decide) ?_
  refine zw_iadd (pc := 556) dL_law_556 ?_
  obtain ⟨x6, e7, H⟩ := zbind H
  refine zy_iald (pc := 557) dL_law_557 e7 ?_
  obtain ⟨b8, e10, H⟩ := zbind H
  obtain ⟨e9, e11⟩ := zrv_ok e10
  obtain ⟨x14, h13, e12, H⟩ := zbind2 H
  refine zw_invV (pc := 558) (M' := M_X4_rowCount) (A := [vI x6]) [] dL_law_558 (Or.inl q2733) mf_X4_rowCount q2735 (zkq e11 rfl) (w_X4_rowCount e12) (Nat.le_of_ble_eq_true rfl) rfl (by rw [← e9]; rfl) (Nat.le_of_ble_eq_true rfl) (zkv ?_) zkn9
  refine zw_istore (pc := 561) (lv' := [(7, vI x14), (6, vI x5), (0, vR a0), (1, vR a1), (2, vR a2), (3, vR a3), (4, vR a4), (5, vI a5)]) dL_law_561 (by decide) rfl ?_
  refine zw_aload_n (pc := 563) dL_law_563 rfl 4 rfl ?_
  obtain ⟨b15, e17, H⟩ := zbind H
  obtain ⟨e16, e18⟩ := zrv_ok e17
  obtain ⟨x20, e19, H⟩ := zbind H
  refine zw_invV (pc := 564) (M' := M_X4_thrown) (A := []) [] dL_law_564 (Or.inl q2302) mf_X4_thrown q2304 (zkq e18 rfl) (w_X4_thrown e19) (Nat.le_of_ble_eq_true rfl) rfl (by rw [← e16]; rfl) (Nat.le_of_ble_eq_true rfl) (zkv ?_) zkn9
  refine zw_iload (pc := 567) dL_law_567 1 rfl ?_
  rcases zif H with ⟨c21, H⟩ | ⟨c21, H⟩
  · refine zw_icmp_eq (pc := 569) (tgt := 574) dL_law_569 rfl (fun _ => ?_) (fun q => absurd c21 q)
    refine zw_iload (pc := 574) dL_law_574 1 rfl ?_
    rcases zif H with ⟨c22, H⟩ | ⟨c22, H⟩
    · refine zw_if_ne (pc := 576) (tgt := 591) dL_law_576 rfl (fun q => absurd c22 q) (fun _ => ?_)
      refine zw_aload_n (pc := 579) dL_law_579 rfl 5 rfl ?_
      refine zw_iconst (pc := 580) (v := (0 : Int32)) dL_law_580 (by decide) ?_
      obtain ⟨x23, e24, H⟩ := zbind H
      refine zy_lald (pc := 581) dL_law_581 e24 ?_
      refine zw_iload (pc := 582) dL_law_582 0 rfl ?_
      refine zw_i2l (pc := 584) dL_law_584 ?_
      refine zw_lcmp (pc := 585) dL_law_585 ?_
      rcases zif H with ⟨c25, H⟩ | ⟨c25, H⟩
      · refine zw_if_eq (pc := 586) (tgt := 591) dL_law_586 rfl (fun _ => ?_) (fun q => absurd (lgc_eq.mpr c25) q)
        refine zw_goto (pc := 591) (tgt := 3377) dL_law_591 rfl ?_
        refine zw_iinc (pc := 3377) (v := (a5 + (6 : Int32))) (lv' := [(5, vI (a5 + (6 : Int32))), (7, vI x14), (6, vI x5), (0, vR a0), (1, vR a1), (2, vR a2), (3, vR a3), (4, vR a4)]) dL_law_3377 7 rfl rfl (by decide) rfl ?_
        refine zw_goto (pc := 3380) (tgt := 28) dL_law_3380 rfl ?_
        refine zW_pick (lv' := [(0, vR a0), (1, vR a1), (2, vR a2), (3, vR a3), (4, vR a4), (5, vI (a5 + (6 : Int32)))]) [3, 4, 5, 6, 7, 0] rfl ?_
        exact hk28 _ _ _ _ _ _ _ H
      · refine zw_if_eq (pc := 586) (tgt := 591) dL_law_586 rfl (fun q => absurd q (fun q => c25 (lgc_eq.mp q))) (fun _ => ?_)
        refine zw_iconst (pc := 589) (v := (0 : Int32)) dL_law_589 (by decide) ?_
        obtain ⟨rfl, rfl⟩ := Prod.mk.inj (Option.some.inj H)
        exact zw_zret (pc := 590) dL_law_590 rfl rfl rfl rfl
    · refine zw_if_ne (pc := 576) (tgt := 591) dL_law_576 rfl (fun _ => ?_) (fun q => absurd q c22)
      refine zw_goto (pc := 591) (tgt := 3377) dL_law_591 rfl ?_
      refine zw_iinc (pc := 3377) (v := (a5 + (6 : Int32))) (lv' := [(5, vI (a5 + (6 : Int32))), (7, vI x14), (6, vI x5), (0, vR a0), (1, vR a1), (2, vR a2), (3, vR a3), (4, vR a4)]) dL_law_3377 7 rfl rfl (by decide) rfl ?_
      refine zw_goto (pc := 3380) (tgt := 28) dL_law_3380 rfl ?_
      refine zW_pick (lv' := [(0, vR a0), (1, vR a1), (2, vR a2), (3, vR a3), (4, vR a4), (5, vI (a5 + (6 : Int32)))]) [3, 4, 5, 6, 7, 0] rfl ?_
      exact hk28 _ _ _ _ _ _ _ H
  · refine zw_icmp_eq (pc := 569) (tgt := 574) dL_law_569 rfl (fun q => absurd q c21) (fun _ => ?_)
    refine zw_iconst (pc := 572) (v := (0 : Int32)) dL_law_572 (by decide) ?_
    obtain ⟨rfl, rfl⟩ := Prod.mk.inj (Option.some.inj H)
    exact zw_zret (pc := 573) dL_law_573 rfl rfl rfl rfl
def B_L_law_594 (k28 : Option Nat → Option Nat → Option Nat → Option Nat → Option Nat → Int32 → zH → Option ((Int32 ⊕ Nat) × zH)) (a0 : Option Nat) (a1 : Option Nat) (a2 : Option Nat) (a3 : Option Nat) (a4 : Option Nat) (a5 : Int32) (h : zH) : Option ((Int32 ⊕ Nat) × zH) :=
  (zaI 50 a0 (a5 + (1 : Int32)) h).bind fun x1 =>
  zb2 (f_X0_columnCount a1 x1 a3 h) fun x5 h4 =>
  (zaI 50 a0 (a5 + (1 : Int32)) h4).bind fun x6 =>
  (zrv 4 a2 h4).bind fun b8 =>
  zb2 (f_X4_columnCount (some b8) x6 h4) fun x14 h13 =>
  (zrv 4 a2 h13).bind fun b15 =>
  (f_X4_thrown (some b15) h13).bind fun x20 =>
  if x20 = x5 then
  if x5 = 0 then
  (zaJ a3 (0 : Int32) h13).bind fun x23 =>
  if x23 = x14.toInt64 then
  k28 a0 a1 a2 a3 a4 (a5 + (6 : Int32)) h13
  else
  some (.inl (0 : Int32), h13)
  else
  k28 a0 a1 a2 a3 a4 (a5 + (6 : Int32)) h13
  else
  some (.inl (0 : Int32), h13)
theorem wB_L_law_594 {G : zG} {h0 h : zH} {vo : Int32 ⊕ Nat} {vh : zH} {k28 : Option Nat → Option Nat → Option Nat → Option Nat → Option Nat → Int32 → zH → Option ((Int32 ⊕ Nat) × zH)} (hk28 : ∀ (b0 : Option Nat) (b1 : Option Nat) (b2 : Option Nat) (b3 : Option Nat) (b4 : Option Nat) (b5 : Int32) (h' : zH), k28 b0 b1 b2 b3 b4 b5 h' = some (vo, vh) → zW G M_L_law 343 h0 (zoI vo) vh 28 [(0, vR b0), (1, vR b1), (2, vR b2), (3, vR b3), (4, vR b4), (5, vI b5)] [] h') {a0 : Option Nat} {a1 : Option Nat} {a2 : Option Nat} {a3 : Option Nat} {a4 : Option Nat} {a5 : Int32} (H : B_L_law_594 k28 a0 a1 a2 a3 a4 a5 h = some (vo, vh)) : zW G M_L_law 343 h0 (zoI vo) vh 594 [(0, vR a0), (1, vR a1), (2, vR a2), (3, vR a3), (4, vR a4), (5, vI a5)] [] h := by
  unfold B_L_law_594 at H
  refine zw_aload_n (pc := 594) dL_law_594 rfl 1 rfl ?_
  refine zw_aload_n (pc := 595) dL_law_595 rfl 0 rfl ?_
  refine zw_iload (pc := 596) dL_law_596 5 rfl ?_
  refine zw_iconst (pc := 598) (v := (1 : Int32)) dL_law_598 (by decide) ?_
  refine zw_iadd (pc := 599) dL_law_599 ?_
  obtain ⟨x1, e2, H⟩ := zbind H
  refine zy_iald (pc := 600) dL_law_600 e2 ?_
  refine zw_aload_n (pc := 601) dL_law_601 rfl 3 rfl ?_
  obtain ⟨x5, h4, e3, H⟩ := zbind2 H
  refine zw_invS (pc := 602) (M' := M_X0_columnCount) (A := [vR a1, vI x1, vR a3]) [] dL_law_602 (Or.inl q1724) mf_X0_columnCount (w_X0_columnCount e3) (Nat.le_of_ble_eq_true rfl) rfl rfl (Nat.le_of_ble_eq_true rfl) (zkv ?_) zkn9
  refine zw_istore (pc := 605) (lv' := [(6, vI x5), (0, vR a0), (1, vR a1), (2, vR a2), (3, vR a3), (4, vR a4), (5, vI a5)]) dL_law_605 (by decide) rfl ?_
  refine zw_aload_n (pc := 607) dL_law_607 rfl 3 rfl ?_
  refine zw_aload_n (pc := 608) dL_law_608 rfl 1 rfl ?_
  refine zw_iload (pc := 609) dL_law_609 6 rfl ?_
  refine zw_iconst (pc := 611) (v := (1 : Int32)) dL_law_611 (by decide) ?_
  refine zw_iadd (pc := 612) dL_law_612 ?_
  obtain ⟨x6, e7, H⟩ := zbind H
  refine zy_iald (pc := 613) dL_law_613 e7 ?_
  obtain ⟨b8, e10, H⟩ := zbind H
  obtain ⟨e9, e11⟩ := zrv_ok e10
  obtain ⟨x14, h13, e12, H⟩ := zbind2 H
  refine zw_invV (pc := 614) (M' := M_X4_columnCount) (A := [vI x6]) [] dL_law_614 (Or.inl q2737) mf_X4_columnCount q2739 (zkq e11 rfl) (w_X4_columnCount e12) (Nat.le_of_ble_eq_true rfl) rfl (by rw [← e9]; rfl) (Nat.le_of_ble_eq_true rfl) (zkv ?_) zkn9
  refine zw_istore (pc := 617) (lv' := [(7, vI x14), (6, vI x5), (0, vR a0), (1, vR a1), (2, vR a2), (3, vR a3), (4, vR a4), (5, vI a5)]) dL_law_617 (by decide) rfl ?_
  refine zw_aload_n (pc := 619) dL_law_619 rfl 4 rfl ?_
  obtain ⟨b15, e17, H⟩ := zbind H
  obtain ⟨e16, e18⟩ := zrv_ok e17
  obtain ⟨x20, e19, H⟩ := zbind H
  refine zw_invV (pc := 620) (M' := M_X4_thrown) (A := []) [] dL_law_620 (Or.inl q2302) mf_X4_thrown q2304 (zkq e18 rfl) (w_X4_thrown e19) (Nat.le_of_ble_eq_true rfl) rfl (by rw [← e16]; rfl) (Nat.le_of_ble_eq_true rfl) (zkv ?_) zkn9
  refine zw_iload (pc := 623) dL_law_623 1 rfl ?_
  rcases zif H with ⟨c21, H⟩ | ⟨c21, H⟩
  · refine zw_icmp_eq (pc := 625) (tgt := 630) dL_law_625 rfl (fun _ => ?_) (fun q => absurd c21 q)
    refine zw_iload (pc := 630) dL_law_630 1 rfl ?_
    rcases zif H with ⟨c22, H⟩ | ⟨c22, H⟩
    · refine zw_if_ne (pc := 632) (tgt := 647) dL_law_632 rfl (fun q => absurd c22 q) (fun _ => ?_)
      refine zw_aload_n (pc := 635) dL_law_635 rfl 5 rfl ?_
      refine zw_iconst (pc := 636) (v := (0 : Int32)) dL_law_636 (by decide) ?_
      obtain ⟨x23, e24, H⟩ := zbind H
      refine zy_lald (pc := 637) dL_law_637 e24 ?_
      refine zw_iload (pc := 638) dL_law_638 0 rfl ?_
      refine zw_i2l (pc := 640) dL_law_640 ?_
      refine zw_lcmp (pc := 641) dL_law_641 ?_
      rcases zif H with ⟨c25, H⟩ | ⟨c25, H⟩
      · refine zw_if_eq (pc := 642) (tgt := 647) dL_law_642 rfl (fun _ => ?_) (fun q => absurd (lgc_eq.mpr c25) q)
        refine zw_goto (pc := 647) (tgt := 3377) dL_law_647 rfl ?_
        refine zw_iinc (pc := 3377) (v := (a5 + (6 : Int32))) (lv' := [(5, vI (a5 + (6 : Int32))), (7, vI x14), (6, vI x5), (0, vR a0), (1, vR a1), (2, vR a2), (3, vR a3), (4, vR a4)]) dL_law_3377 7 rfl rfl (by decide) rfl ?_
        refine zw_goto (pc := 3380) (tgt := 28) dL_law_3380 rfl ?_
        refine zW_pick (lv' := [(0, vR a0), (1, vR a1), (2, vR a2), (3, vR a3), (4, vR a4), (5, vI (a5 + (6 : Int32)))]) [3, 4, 5, 6, 7, 0] rfl ?_
        exact hk28 _ _ _ _ _ _ _ H
      · refine zw_if_eq (pc := 642) (tgt := 647) dL_law_642 rfl (fun q => absurd q (fun q => c25 (lgc_eq.mp q))) (fun _ => ?_)
        refine zw_iconst (pc := 645) (v := (0 : Int32)) dL_law_645 (by decide) ?_
        obtain ⟨rfl, rfl⟩ := Prod.mk.inj (Option.some.inj H)
        exact zw_zret (pc := 646) dL_law_646 rfl rfl rfl rfl
    · refine zw_if_ne (pc := 632) (tgt := 647) dL_law_632 rfl (fun _ => ?_) (fun q => absurd q c22)
      refine zw_goto (pc := 647) (tgt := 3377) dL_law_647 rfl ?_
      refine zw_iinc (pc := 3377) (v := (a5 + (6 : Int32))) (lv' := [(5, vI (a5 + (6 : Int32))), (7, vI x14), (6, vI x5), (0, vR a0), (1, vR a1), (2, vR a2), (3, vR a3), (4, vR a4)]) dL_law_3377 7 rfl rfl (by decide) rfl ?_
      refine zw_goto (pc := 3380) (tgt := 28) dL_law_3380 rfl ?_
      refine zW_pick (lv' := [(0, vR a0), (1, vR a1), (2, vR a2), (3, vR a3), (4, vR a4), (5, vI (a5 + (6 : Int32)))]) [3, 4, 5, 6, 7, 0] rfl ?_
      exact hk28 _ _ _ _ _ _ _ H
  · refine zw_icmp_eq (pc := 625) (tgt := 630) dL_law_625 rfl (fun q => absurd q c21) (fun _ => ?_)
    refine zw_iconst (pc := 628) (v := (0 : Int32)) dL_law_628 (by decide) ?_
    obtain ⟨rfl, rfl⟩ := Prod.mk.inj (Option.some.inj H)
    exact zw_zret (pc := 629) dL_law_629 rfl rfl rfl rfl
def B_L_law_650 (k28 : Option Nat → Option Nat → Option Nat → Option Nat → Option Nat → Int32 → zH → Option ((Int32 ⊕ Nat) × zH)) (a0 : Option Nat) (a1 : Option Nat) (a2 : Option Nat) (a3 : Option Nat) (a4 : Option Nat) (a5 : Int32) (h : zH) : Option ((Int32 ⊕ Nat) × zH) :=
  (zaI 50 a0 (a5 + (1 : Int32)) h).bind fun x1 =>
  zb2 (f_X0_storedCount a1 x1 a3 h) fun x5 h4 =>
  (zaI 50 a0 (a5 + (1 : Int32)) h4).bind fun x6 =>
  (zrv 4 a2 h4).bind fun b8 =>
  zb2 (f_X4_storedCount (some b8) x6 h4) fun x14 h13 =>
  (zrv 4 a2 h13).bind fun b15 =>
  (f_X4_thrown (some b15) h13).bind fun x20 =>
  if x20 = x5 then
  if x5 = 0 then
  (zaJ a3 (0 : Int32) h13).bind fun x23 =>
  if x23 = x14.toInt64 then
  k28 a0 a1 a2 a3 a4 (a5 + (6 : Int32)) h13
  else
  some (.inl (0 : Int32), h13)
  else
  k28 a0 a1 a2 a3 a4 (a5 + (6 : Int32)) h13
  else
  some (.inl (0 : Int32), h13)
theorem wB_L_law_650 {G : zG} {h0 h : zH} {vo : Int32 ⊕ Nat} {vh : zH} {k28 : Option Nat → Option Nat → Option Nat → Option Nat → Option Nat → Int32 → zH → Option ((Int32 ⊕ Nat) × zH)} (hk28 : ∀ (b0 : Option Nat) (b1 : Option Nat) (b2 : Option Nat) (b3 : Option Nat) (b4 : Option Nat) (b5 : Int32) (h' : zH), k28 b0 b1 b2 b3 b4 b5 h' = some (vo, vh) → zW G M_L_law 343 h0 (zoI vo) vh 28 [(0, vR b0), (1, vR b1), (2, vR b2), (3, vR b3), (4, vR b4), (5, vI b5)] [] h') {a0 : Option Nat} {a1 : Option Nat} {a2 : Option Nat} {a3 : Option Nat} {a4 : Option Nat} {a5 : Int32} (H : B_L_law_650 k28 a0 a1 a2 a3 a4 a5 h = some (vo, vh)) : zW G M_L_law 343 h0 (zoI vo) vh 650 [(0, vR a0), (1, vR a1), (2, vR a2), (3, vR a3), (4, vR a4), (5, vI a5)] [] h := by
  unfold B_L_law_650 at H
  refine zw_aload_n (pc := 650) dL_law_650 rfl 1 rfl ?_
  refine zw_aload_n (pc := 651) dL_law_651 rfl 0 rfl ?_
  refine zw_iload (pc := 652) dL_law_652 5 rfl ?_
  refine zw_iconst (pc := 654) (v := (1 : Int32)) dL_law_654 (by decide) ?_
  refine zw_iadd (pc := 655) dL_law_655 ?_
  obtain ⟨x1, e2, H⟩ := zbind H
  refine zy_iald (pc := 656) dL_law_656 e2 ?_
  refine zw_aload_n (pc := 657) dL_law_657 rfl 3 rfl ?_
  obtain ⟨x5, h4, e3, H⟩ := zbind2 H
  refine zw_invS (pc := 658) (M' := M_X0_storedCount) (A := [vR a1, vI x1, vR a3]) [] dL_law_658 (Or.inl q1731) mf_X0_storedCount (w_X0_storedCount e3) (Nat.le_of_ble_eq_true rfl) rfl rfl (Nat.le_of_ble_eq_true rfl) (zkv ?_) zkn9
  refine zw_istore (pc := 661) (lv' := [(6, vI x5), (0, vR a0), (1, vR a1), (2, vR a2), (3, vR a3), (4, vR a4), (5, vI a5)]) dL_law_661 (by decide) rfl ?_
  refine zw_aload_n (pc := 663) dL_law_663 rfl 3 rfl ?_
  refine zw_aload_n (pc := 664) dL_law_664 rfl 1 rfl ?_
  refine zw_iload (pc := 665) dL_law_665 6 rfl ?_
  refine zw_iconst (pc := 667) (v := (1 : Int32)) dL_law_667 (by decide) ?_
  refine zw_iadd (pc := 668) dL_law_668 ?_
  obtain ⟨x6, e7, H⟩ := zbind H
  refine zy_iald (pc := 669) dL_law_669 e7 ?_
  obtain ⟨b8, e10, H⟩ := zbind H
  obtain ⟨e9, e11⟩ := zrv_ok e10
  obtain ⟨x14, h13, e12, H⟩ := zbind2 H
  refine zw_invV (pc := 670) (M' := M_X4_storedCount) (A := [vI x6]) [] dL_law_670 (Or.inl q2741) mf_X4_storedCount q2743 (zkq e11 rfl) (w_X4_storedCount e12) (Nat.le_of_ble_eq_true rfl) rfl (by rw [← e9]; rfl) (Nat.le_of_ble_eq_true rfl) (zkv ?_) zkn9
  refine zw_istore (pc := 673) (lv' := [(7, vI x14), (6, vI x5), (0, vR a0), (1, vR a1), (2, vR a2), (3, vR a3), (4, vR a4), (5, vI a5)]) dL_law_673 (by decide) rfl ?_
  refine zw_aload_n (pc := 675) dL_law_675 rfl 4 rfl ?_
  obtain ⟨b15, e17, H⟩ := zbind H
  obtain ⟨e16, e18⟩ := zrv_ok e17
  obtain ⟨x20, e19, H⟩ := zbind H
  refine zw_invV (pc := 676) (M' := M_X4_thrown) (A := []) [] dL_law_676 (Or.inl q2302) mf_X4_thrown q2304 (zkq e18 rfl) (w_X4_thrown e19) (Nat.le_of_ble_eq_true rfl) rfl (by rw [← e16]; rfl) (Nat.le_of_ble_eq_true rfl) (zkv ?_) zkn9
  refine zw_iload (pc := 679) dL_law_679 1 rfl ?_
  rcases zif H with ⟨c21, H⟩ | ⟨c21, H⟩
  · refine zw_icmp_eq (pc := 681) (tgt := 686) dL_law_681 rfl (fun _ => ?_) (fun q => absurd c21 q)
    refine zw_iload (pc := 686) dL_law_686 1 rfl ?_
    rcases zif H with ⟨c22, H⟩ | ⟨c22, H⟩
    · refine zw_if_ne (pc := 688) (tgt := 703) dL_law_688 rfl (fun q => absurd c22 q) (fun _ => ?_)
      refine zw_aload_n (pc := 691) dL_law_691 rfl 5 rfl ?_
      refine zw_iconst (pc := 692) (v := (0 : Int32)) dL_law_692 (by decide) ?_
      obtain ⟨x23, e24, H⟩ := zbind H
      refine zy_lald (pc := 693) dL_law_693 e24 ?_
      refine zw_iload (pc := 694) dL_law_694 0 rfl ?_
      refine zw_i2l (pc := 696) dL_law_696 ?_
      refine zw_lcmp (pc := 697) dL_law_697 ?_
      rcases zif H with ⟨c25, H⟩ | ⟨c25, H⟩
      · refine zw_if_eq (pc := 698) (tgt := 703) dL_law_698 rfl (fun _ => ?_) (fun q => absurd (lgc_eq.mpr c25) q)
        refine zw_goto (pc := 703) (tgt := 3377) dL_law_703 rfl ?_
        refine zw_iinc (pc := 3377) (v := (a5 + (6 : Int32))) (lv' := [(5, vI (a5 + (6 : Int32))), (7, vI x14), (6, vI x5), (0, vR a0), (1, vR a1), (2, vR a2), (3, vR a3), (4, vR a4)]) dL_law_3377 7 rfl rfl (by decide) rfl ?_
        refine zw_goto (pc := 3380) (tgt := 28) dL_law_3380 rfl ?_
        refine zW_pick (lv' := [(0, vR a0), (1, vR a1), (2, vR a2), (3, vR a3), (4, vR a4), (5, vI (a5 + (6 : Int32)))]) [3, 4, 5, 6, 7, 0] rfl ?_
        exact hk28 _ _ _ _ _ _ _ H
      · refine zw_if_eq (pc := 698) (tgt := 703) dL_law_698 rfl (fun q => absurd q (fun q => c25 (lgc_eq.mp q))) (fun _ => ?_)
        refine zw_iconst (pc := 701) (v := (0 : Int32)) dL_law_701 (by decide) ?_
        obtain ⟨rfl, rfl⟩ := Prod.mk.inj (Option.some.inj H)
        exact zw_zret (pc := 702) dL_law_702 rfl rfl rfl rfl
    · refine zw_if_ne (pc := 688) (tgt := 703) dL_law_688 rfl (fun _ => ?_) (fun q => absurd q c22)
      refine zw_goto (pc := 703) (tgt := 3377) dL_law_703 rfl ?_
      refine zw_iinc (pc := 3377) (v := (a5 + (6 : Int32))) (lv' := [(5, vI (a5 + (6 : Int32))), (7, vI x14), (6, vI x5), (0, vR a0), (1, vR a1), (2, vR a2), (3, vR a3), (4, vR a4)]) dL_law_3377 7 rfl rfl (by decide) rfl ?_
      refine zw_goto (pc := 3380) (tgt := 28) dL_law_3380 rfl ?_
      refine zW_pick (lv' := [(0, vR a0), (1, vR a1), (2, vR a2), (3, vR a3), (4, vR a4), (5, vI (a5 + (6 : Int32)))]) [3, 4, 5, 6, 7, 0] rfl ?_
      exact hk28 _ _ _ _ _ _ _ H
  · refine zw_icmp_eq (pc := 681) (tgt := 686) dL_law_681 rfl (fun q => absurd q c21) (fun _ => ?_)
    refine zw_iconst (pc := 684) (v := (0 : Int32)) dL_law_684 (by decide) ?_
    obtain ⟨rfl, rfl⟩ := Prod.mk.inj (Option.some.inj H)
    exact zw_zret (pc := 685) dL_law_685 rfl rfl rfl rfl
def B_L_law_706 (k28 : Option Nat → Option Nat → Option Nat → Option Nat → Option Nat → Int32 → zH → Option ((Int32 ⊕ Nat) × zH)) (a0 : Option Nat) (a1 : Option Nat) (a2 : Option Nat) (a3 : Option Nat) (a4 : Option Nat) (a5 : Int32) (h : zH) : Option ((Int32 ⊕ Nat) × zH) :=
  (zaI 50 a0 (a5 + (1 : Int32)) h).bind fun x1 =>
  (zaI 50 a0 (a5 + (2 : Int32)) h).bind fun x3 =>
  zb2 (f_X0_rowPointer a1 x1 x3 a3 h) fun x7 h6 =>
  (zaI 50 a0 (a5 + (1 : Int32)) h6).bind fun x8 =>
  (zaI 50 a0 (a5 + (2 : Int32)) h6).bind fun x10 =>
  (zrv 4 a2 h6).bind fun b12 =>
  zb2 (f_X4_rowPointer (some b12) x8 x10 h6) fun x18 h17 =>
  (zrv 4 a2 h17).bind fun b19 =>
  (f_X4_thrown (some b19) h17).bind fun x24 =>
  if x24 = x7 then
  if x7 = 0 then
  (zaJ a3 (0 : Int32) h17).bind fun x27 =>
  if x27 = x18.toInt64 then
  k28 a0 a1 a2 a3 a4 (a5 + (6 : Int32)) h17
  else
  some (.inl (0 : Int32), h17)
  else
  k28 a0 a1 a2 a3 a4 (a5 + (6 : Int32)) h17
  else
  some (.inl (0 : Int32), h17)
theorem wB_L_law_706 {G : zG} {h0 h : zH} {vo : Int32 ⊕ Nat} {vh : zH} {k28 : Option Nat → Option Nat → Option Nat → Option Nat → Option Nat → Int32 → zH → Option ((Int32 ⊕ Nat) × zH)} (hk28 : ∀ (b0 : Option Nat) (b1 : Option Nat) (b2 : Option Nat) (b3 : Option Nat) (b4 : Option Nat) (b5 : Int32) (h' : zH), k28 b0 b1 b2 b3 b4 b5 h' = some (vo, vh) → zW G M_L_law 343 h0 (zoI vo) vh 28 [(0, vR b0), (1, vR b1), (2, vR b2), (3, vR b3), (4, vR b4), (5, vI b5)] [] h') {a0 : Option Nat} {a1 : Option Nat} {a2 : Option Nat} {a3 : Option Nat} {a4 : Option Nat} {a5 : Int32} (H : B_L_law_706 k28 a0 a1 a2 a3 a4 a5 h = some (vo, vh)) : zW G M_L_law 343 h0 (zoI vo) vh 706 [(0, vR a0), (1, vR a1), (2, vR a2), (3, vR a3), (4, vR a4), (5, vI a5)] [] h := by
  unfold B_L_law_706 at H
  refine zw_aload_n (pc := 706) dL_law_706 rfl 1 rfl ?_
  refine zw_aload_n (pc := 707) dL_law_707 rfl 0 rfl ?_
  refine zw_iload (pc := 708) dL_law_708 5 rfl ?_
  refine zw_iconst (pc := 710) (v := (1 : Int32)) dL_law_710 (by decide) ?_
  refine zw_iadd (pc := 711) dL_law_711 ?_
  obtain ⟨x1, e2, H⟩ := zbind H
  refine zy_iald (pc := 712) dL_law_712 e2 ?_
  refine zw_aload_n (pc := 713) dL_law_713 rfl 0 rfl ?_
  refine zw_iload (pc := 714) dL_law_714 5 rfl ?_
  refine zw_iconst (pc := 716) (v := (2 : Int32)) dL_law_716 (by decide) ?_
  refine zw_iadd (pc := 717) dL_law_717 ?_
  obtain ⟨x3, e4, H⟩ := zbind H
  refine zy_iald (pc := 718) dL_law_718 e4 ?_
  refine zw_aload_n (pc := 719) dL_law_719 rfl 3 rfl ?_
  obtain ⟨x7, h6, e5, H⟩ := zbind2 H
  refine zw_invS (pc := 720) (M' := M_X0_rowPointer) (A := [vR a1, vI x1, vI x3, vR a3]) [] dL_law_720 (Or.inl q1738) mf_X0_rowPointer (w_X0_rowPointer e5) (Nat.le_of_ble_eq_true rfl) rfl rfl (Nat.le_of_ble_eq_true rfl) (zkv ?_) zkn9
  refine zw_istore (pc := 723) (lv' := [(6, vI x7), (0, vR a0), (1, vR a1), (2, vR a2), (3, vR a3), (4, vR a4), (5, vI a5)]) dL_law_723 (by decide) rfl ?_
  refine zw_aload_n (pc := 725) dL_law_725 rfl 3 rfl ?_
  refine zw_aload_n (pc := 726) dL_law_726 rfl 1 rfl ?_
  refine zw_iload (pc := 727) dL_law_727 6 rfl ?_
  refine zw_iconst (pc := 729) (v := (1 : Int32)) dL_law_729 (by decide) ?_
  refine zw_iadd (pc := 730) dL_law_730 ?_
  obtain ⟨x8, e9, H⟩ := zbind H
  refine zy_iald (pc := 731) dL_law_731 e9 ?_
  refine zw_aload_n (pc := 732) dL_law_732 rfl 1 rfl ?_
  refine zw_iload (pc := 733) dL_law_733 6 rfl ?_
  refine zw_iconst (pc := 735) (v := (2 : Int32)) dL_law_735 (by decide) ?_
  refine zw_iadd (pc := 736) dL_law_736 ?_
  obtain ⟨x10, e11, H⟩ := zbind H
  refine zy_iald (pc := 737) dL_law_737 e11 ?_
  obtain ⟨b12, e14, H⟩ := zbind H
  obtain ⟨e13, e15⟩ := zrv_ok e14
  obtain ⟨x18, h17, e16, H⟩ := zbind2 H
  refine zw_invV (pc := 738) (M' := M_X4_rowPointer) (A := [vI x8, vI x10]) [] dL_law_738 (Or.inl q2745) mf_X4_rowPointer q2747 (zkq e15 rfl) (w_X4_rowPointer e16) (Nat.le_of_ble_eq_true rfl) rfl (by rw [← e13]; rfl) (Nat.le_of_ble_eq_true rfl) (zkv ?_) zkn9
  refine zw_istore (pc := 741) (lv' := [(7, vI x18), (6, vI x7), (0, vR a0), (1, vR a1), (2, vR a2), (3, vR a3), (4, vR a4), (5, vI a5)]) dL_law_741 (by decide) rfl ?_
  refine zw_aload_n (pc := 743) dL_law_743 rfl 4 rfl ?_
  obtain ⟨b19, e21, H⟩ := zbind H
  obtain ⟨e20, e22⟩ := zrv_ok e21
  obtain ⟨x24, e23, H⟩ := zbind H
  refine zw_invV (pc := 744) (M' := M_X4_thrown) (A := []) [] dL_law_744 (Or.inl q2302) mf_X4_thrown q2304 (zkq e22 rfl) (w_X4_thrown e23) (Nat.le_of_ble_eq_true rfl) rfl (by rw [← e20]; rfl) (Nat.le_of_ble_eq_true rfl) (zkv ?_) zkn9
  refine zw_iload (pc := 747) dL_law_747 1 rfl ?_
  rcases zif H with ⟨c25, H⟩ | ⟨c25, H⟩
  · refine zw_icmp_eq (pc := 749) (tgt := 754) dL_law_749 rfl (fun _ => ?_) (fun q => absurd c25 q)
    refine zw_iload (pc := 754) dL_law_754 1 rfl ?_
    rcases zif H with ⟨c26, H⟩ | ⟨c26, H⟩
    · refine zw_if_ne (pc := 756) (tgt := 771) dL_law_756 rfl (fun q => absurd c26 q) (fun _ => ?_)
      refine zw_aload_n (pc := 759) dL_law_759 rfl 5 rfl ?_
      refine zw_iconst (pc := 760) (v := (0 : Int32)) dL_law_760 (by decide) ?_
      obtain ⟨x27, e28, H⟩ := zbind H
      refine zy_lald (pc := 761) dL_law_761 e28 ?_
      refine zw_iload (pc := 762) dL_law_762 0 rfl ?_
      refine zw_i2l (pc := 764) dL_law_764 ?_
      refine zw_lcmp (pc := 765) dL_law_765 ?_
      rcases zif H with ⟨c29, H⟩ | ⟨c29, H⟩
      · refine zw_if_eq (pc := 766) (tgt := 771) dL_law_766 rfl (fun _ => ?_) (fun q => absurd (lgc_eq.mpr c29) q)
        refine zw_goto (pc := 771) (tgt := 3377) dL_law_771 rfl ?_
        refine zw_iinc (pc := 3377) (v := (a5 + (6 : Int32))) (lv' := [(5, vI (a5 + (6 : Int32))), (7, vI x18), (6, vI x7), (0, vR a0), (1, vR a1), (2, vR a2), (3, vR a3), (4, vR a4)]) dL_law_3377 7 rfl rfl (by decide) rfl ?_
        refine zw_goto (pc := 3380) (tgt := 28) dL_law_3380 rfl ?_
        refine zW_pick (lv' := [(0, vR a0), (1, vR a1), (2, vR a2), (3, vR a3), (4, vR a4), (5, vI (a5 + (6 : Int32)))]) [3, 4, 5, 6, 7, 0] rfl ?_
        exact hk28 _ _ _ _ _ _ _ H
      · refine zw_if_eq (pc := 766) (tgt := 771) dL_law_766 rfl (fun q => absurd q (fun q => c29 (lgc_eq.mp q))) (fun _ => ?_)
        refine zw_iconst (pc := 769) (v := (0 : Int32)) dL_law_769 (by decide) ?_
        obtain ⟨rfl, rfl⟩ := Prod.mk.inj (Option.some.inj H)
        exact zw_zret (pc := 770) dL_law_770 rfl rfl rfl rfl
    · refine zw_if_ne (pc := 756) (tgt := 771) dL_law_756 rfl (fun _ => ?_) (fun q => absurd q c26)
      refine zw_goto (pc := 771) (tgt := 3377) dL_law_771 rfl ?_
      refine zw_iinc (pc := 3377) (v := (a5 + (6 : Int32))) (lv' := [(5, vI (a5 + (6 : Int32))), (7, vI x18), (6, vI x7), (0, vR a0), (1, vR a1), (2, vR a2), (3, vR a3), (4, vR a4)]) dL_law_3377 7 rfl rfl (by decide) rfl ?_
      refine zw_goto (pc := 3380) (tgt := 28) dL_law_3380 rfl ?_
      refine zW_pick (lv' := [(0, vR a0), (1, vR a1), (2, vR a2), (3, vR a3), (4, vR a4), (5, vI (a5 + (6 : Int32)))]) [3, 4, 5, 6, 7, 0] rfl ?_
      exact hk28 _ _ _ _ _ _ _ H
  · refine zw_icmp_eq (pc := 749) (tgt := 754) dL_law_749 rfl (fun q => absurd q c25) (fun _ => ?_)
    refine zw_iconst (pc := 752) (v := (0 : Int32)) dL_law_752 (by decide) ?_
    obtain ⟨rfl, rfl⟩ := Prod.mk.inj (Option.some.inj H)
    exact zw_zret (pc := 753) dL_law_753 rfl rfl rfl rfl
def B_L_law_774 (k28 : Option Nat → Option Nat → Option Nat → Option Nat → Option Nat → Int32 → zH → Option ((Int32 ⊕ Nat) × zH)) (a0 : Option Nat) (a1 : Option Nat) (a2 : Option Nat) (a3 : Option Nat) (a4 : Option Nat) (a5 : Int32) (h : zH) : Option ((Int32 ⊕ Nat) × zH) :=
  (zaI 50 a0 (a5 + (1 : Int32)) h).bind fun x1 =>
  (zaI 50 a0 (a5 + (2 : Int32)) h).bind fun x3 =>
  zb2 (f_X0_columnIndex a1 x1 x3 a3 h) fun x7 h6 =>
  (zaI 50 a0 (a5 + (1 : Int32)) h6).bind fun x8 =>
  (zaI 50 a0 (a5 + (2 : Int32)) h6).bind fun x10 =>
  (zrv 4 a2 h6).bind fun b12 =>
  zb2 (f_X4_columnIndex (some b12) x8 x10 h6) fun x18 h17 =>
  (zrv 4 a2 h17).bind fun b19 =>
  (f_X4_thrown (some b19) h17).bind fun x24 =>
  if x24 = x7 then
  if x7 = 0 then
  (zaJ a3 (0 : Int32) h17).bind fun x27 =>
  if x27 = x18.toInt64 then
  k28 a0 a1 a2 a3 a4 (a5 + (6 : Int32)) h17
  else
  some (.inl (0 : Int32), h17)
  else
  k28 a0 a1 a2 a3 a4 (a5 + (6 : Int32)) h17
  else
  some (.inl (0 : Int32), h17)
theorem wB_L_law_774 {G : zG} {h0 h : zH} {vo : Int32 ⊕ Nat} {vh : zH} {k28 : Option Nat → Option Nat → Option Nat → Option Nat → Option Nat → Int32 → zH → Option ((Int32 ⊕ Nat) × zH)} (hk28 : ∀ (b0 : Option Nat) (b1 : Option Nat) (b2 : Option Nat) (b3 : Option Nat) (b4 : Option Nat) (b5 : Int32) (h' : zH), k28 b0 b1 b2 b3 b4 b5 h' = some (vo, vh) → zW G M_L_law 343 h0 (zoI vo) vh 28 [(0, vR b0), (1, vR b1), (2, vR b2), (3, vR b3), (4, vR b4), (5, vI b5)] [] h') {a0 : Option Nat} {a1 : Option Nat} {a2 : Option Nat} {a3 : Option Nat} {a4 : Option Nat} {a5 : Int32} (H : B_L_law_774 k28 a0 a1 a2 a3 a4 a5 h = some (vo, vh)) : zW G M_L_law 343 h0 (zoI vo) vh 774 [(0, vR a0), (1, vR a1), (2, vR a2), (3, vR a3), (4, vR a4), (5, vI a5)] [] h := by
  unfold B_L_law_774 at H
  refine zw_aload_n (pc := 774) dL_law_774 rfl 1 rfl ?_
  refine zw_aload_n (pc := 775) dL_law_775 rfl 0 rfl ?_
  refine zw_iload (pc := 776) dL_law_776 5 rfl ?_
  refine zw_iconst (pc := 778) (v := (1 : Int32)) dL_law_778 (by decide) ?_
  refine zw_iadd (pc := 779) dL_law_779 ?_
  obtain ⟨x1, e2, H⟩ := zbind H
  refine zy_iald (pc := 780) dL_law_780 e2 ?_
  refine zw_aload_n (pc := 781) dL_law_781 rfl 0 rfl ?_
  refine zw_iload (pc := 782) dL_law_782 5 rfl ?_
  refine zw_iconst (pc := 784) (v := (2 : Int32)) dL_law_784 (by decide) ?_
  refine zw_iadd (pc := 785) dL_law_785 ?_
  obtain ⟨x3, e4, H⟩ := zbind H
  refine zy_iald (pc := 786) dL_law_786 e4 ?_
  refine zw_aload_n (pc := 787) dL_law_787 rfl 3 rfl ?_
  obtain ⟨x7, h6, e5, H⟩ := zbind2 H
  refine zw_invS (pc := 788) (M' := M_X0_columnIndex) (A := [vR a1, vI x1, vI x3, vR a3]) [] dL_law_788 (Or.inl q1745) mf_X0_columnIndex (w_X0_columnIndex e5) (Nat.le_of_ble_eq_true rfl) rfl rfl (Nat.le_of_ble_eq_true rfl) (zkv ?_) zkn9
  refine zw_istore (pc := 791) (lv' := [(6, vI x7), (0, vR a0), (1, vR a1), (2, vR a2), (3, vR a3), (4, vR a4), (5, vI a5)]) dL_law_791 (by decide) rfl ?_
  refine zw_aload_n (pc := 793) dL_law_793 rfl 3 rfl ?_
  refine zw_aload_n (pc := 794) dL_law_794 rfl 1 rfl ?_
  refine zw_iload (pc := 795) dL_law_795 6 rfl ?_
  refine zw_iconst (pc := 797) (v := (1 : Int32)) dL_law_797 (by decide) ?_
  refine zw_iadd (pc := 798) dL_law_798 ?_
  obtain ⟨x8, e9, H⟩ := zbind H
  refine zy_iald (pc := 799) dL_law_799 e9 ?_
  refine zw_aload_n (pc := 800) dL_law_800 rfl 1 rfl ?_
  refine zw_iload (pc := 801) dL_law_801 6 rfl ?_
  refine zw_iconst (pc := 803) (v := (2 : Int32)) dL_law_803 (by decide) ?_
  refine zw_iadd (pc := 804) dL_law_804 ?_
  obtain ⟨x10, e11, H⟩ := zbind H
  refine zy_iald (pc := 805) dL_law_805 e11 ?_
  obtain ⟨b12, e14, H⟩ := zbind H
  obtain ⟨e13, e15⟩ := zrv_ok e14
  obtain ⟨x18, h17, e16, H⟩ := zbind2 H
  refine zw_invV (pc := 806) (M' := M_X4_columnIndex) (A := [vI x8, vI x10]) [] dL_law_806 (Or.inl q2749) mf_X4_columnIndex q2751 (zkq e15 rfl) (w_X4_columnIndex e16) (Nat.le_of_ble_eq_true rfl) rfl (by rw [← e13]; rfl) (Nat.le_of_ble_eq_true rfl) (zkv ?_) zkn9
  refine zw_istore (pc := 809) (lv' := [(7, vI x18), (6, vI x7), (0, vR a0), (1, vR a1), (2, vR a2), (3, vR a3), (4, vR a4), (5, vI a5)]) dL_law_809 (by decide) rfl ?_
  refine zw_aload_n (pc := 811) dL_law_811 rfl 4 rfl ?_
  obtain ⟨b19, e21, H⟩ := zbind H
  obtain ⟨e20, e22⟩ := zrv_ok e21
  obtain ⟨x24, e23, H⟩ := zbind H
  refine zw_invV (pc := 812) (M' := M_X4_thrown) (A := []) [] dL_law_812 (Or.inl q2302) mf_X4_thrown q2304 (zkq e22 rfl) (w_X4_thrown e23) (Nat.le_of_ble_eq_true rfl) rfl (by rw [← e20]; rfl) (Nat.le_of_ble_eq_true rfl) (zkv ?_) zkn9
  refine zw_iload (pc := 815) dL_law_815 1 rfl ?_
  rcases zif H with ⟨c25, H⟩ | ⟨c25, H⟩
  · refine zw_icmp_eq (pc := 817) (tgt := 822) dL_law_817 rfl (fun _ => ?_) (fun q => absurd c25 q)
    refine zw_iload (pc := 822) dL_law_822 1 rfl ?_
    rcases zif H with ⟨c26, H⟩ | ⟨c26, H⟩
    · refine zw_if_ne (pc := 824) (tgt := 839) dL_law_824 rfl (fun q => absurd c26 q) (fun _ => ?_)
      refine zw_aload_n (pc := 827) dL_law_827 rfl 5 rfl ?_
      refine zw_iconst (pc := 828) (v := (0 : Int32)) dL_law_828 (by decide) ?_
      obtain ⟨x27, e28, H⟩ := zbind H
      refine zy_lald (pc := 829) dL_law_829 e28 ?_
      refine zw_iload (pc := 830) dL_law_830 0 rfl ?_
      refine zw_i2l (pc := 832) dL_law_832 ?_
      refine zw_lcmp (pc := 833) dL_law_833 ?_
      rcases zif H with ⟨c29, H⟩ | ⟨c29, H⟩
      · refine zw_if_eq (pc := 834) (tgt := 839) dL_law_834 rfl (fun _ => ?_) (fun q => absurd (lgc_eq.mpr c29) q)
        refine zw_goto (pc := 839) (tgt := 3377) dL_law_839 rfl ?_
        refine zw_iinc (pc := 3377) (v := (a5 + (6 : Int32))) (lv' := [(5, vI (a5 + (6 : Int32))), (7, vI x18), (6, vI x7), (0, vR a0), (1, vR a1), (2, vR a2), (3, vR a3), (4, vR a4)]) dL_law_3377 7 rfl rfl (by decide) rfl ?_
        refine zw_goto (pc := 3380) (tgt := 28) dL_law_3380 rfl ?_
        refine zW_pick (lv' := [(0, vR a0), (1, vR a1), (2, vR a2), (3, vR a3), (4, vR a4), (5, vI (a5 + (6 : Int32)))]) [3, 4, 5, 6, 7, 0] rfl ?_
        exact hk28 _ _ _ _ _ _ _ H
      · refine zw_if_eq (pc := 834) (tgt := 839) dL_law_834 rfl (fun q => absurd q (fun q => c29 (lgc_eq.mp q))) (fun _ => ?_)
        refine zw_iconst (pc := 837) (v := (0 : Int32)) dL_law_837 (by decide) ?_
        obtain ⟨rfl, rfl⟩ := Prod.mk.inj (Option.some.inj H)
        exact zw_zret (pc := 838) dL_law_838 rfl rfl rfl rfl
    · refine zw_if_ne (pc := 824) (tgt := 839) dL_law_824 rfl (fun _ => ?_) (fun q => absurd q c26)
      refine zw_goto (pc := 839) (tgt := 3377) dL_law_839 rfl ?_
      refine zw_iinc (pc := 3377) (v := (a5 + (6 : Int32))) (lv' := [(5, vI (a5 + (6 : Int32))), (7, vI x18), (6, vI x7), (0, vR a0), (1, vR a1), (2, vR a2), (3, vR a3), (4, vR a4)]) dL_law_3377 7 rfl rfl (by decide) rfl ?_
      refine zw_goto (pc := 3380) (tgt := 28) dL_law_3380 rfl ?_
      refine zW_pick (lv' := [(0, vR a0), (1, vR a1), (2, vR a2), (3, vR a3), (4, vR a4), (5, vI (a5 + (6 : Int32)))]) [3, 4, 5, 6, 7, 0] rfl ?_
      exact hk28 _ _ _ _ _ _ _ H
  · refine zw_icmp_eq (pc := 817) (tgt := 822) dL_law_817 rfl (fun q => absurd q c25) (fun _ => ?_)
    refine zw_iconst (pc := 820) (v := (0 : Int32)) dL_law_820 (by decide) ?_
    obtain ⟨rfl, rfl⟩ := Prod.mk.inj (Option.some.inj H)
    exact zw_zret (pc := 821) dL_law_821 rfl rfl rfl rfl
def B_L_law_842 (k28 : Option Nat → Option Nat → Option Nat → Option Nat → Option Nat → Int32 → zH → Option ((Int32 ⊕ Nat) × zH)) (a0 : Option Nat) (a1 : Option Nat) (a2 : Option Nat) (a3 : Option Nat) (a4 : Option Nat) (a5 : Int32) (h : zH) : Option ((Int32 ⊕ Nat) × zH) :=
  (zaI 50 a0 (a5 + (1 : Int32)) h).bind fun x1 =>
  (zaI 50 a0 (a5 + (2 : Int32)) h).bind fun x3 =>
  zb2 (f_X0_storedValue a1 x1 x3 a3 h) fun x7 h6 =>
  (zaI 50 a0 (a5 + (1 : Int32)) h6).bind fun x8 =>
  (zaI 50 a0 (a5 + (2 : Int32)) h6).bind fun x10 =>
  (zrv 4 a2 h6).bind fun b12 =>
  zb2 (f_X4_storedValue (some b12) x8 x10 h6) fun x18 h17 =>
  (zrv 4 a2 h17).bind fun b19 =>
  (f_X4_thrown (some b19) h17).bind fun x24 =>
  if x24 = x7 then
  if x7 = 0 then
  (zaJ a3 (0 : Int32) h17).bind fun x27 =>
  if x27 = x18.toInt64 then
  k28 a0 a1 a2 a3 a4 (a5 + (6 : Int32)) h17
  else
  some (.inl (0 : Int32), h17)
  else
  k28 a0 a1 a2 a3 a4 (a5 + (6 : Int32)) h17
  else
  some (.inl (0 : Int32), h17)
theorem wB_L_law_842 {G : zG} {h0 h : zH} {vo : Int32 ⊕ Nat} {vh : zH} {k28 : Option Nat → Option Nat → Option Nat → Option Nat → Option Nat → Int32 → zH → Option ((Int32 ⊕ Nat) × zH)} (hk28 : ∀ (b0 : Option Nat) (b1 : Option Nat) (b2 : Option Nat) (b3 : Option Nat) (b4 : Option Nat) (b5 : Int32) (h' : zH), k28 b0 b1 b2 b3 b4 b5 h' = some (vo, vh) → zW G M_L_law 343 h0 (zoI vo) vh 28 [(0, vR b0), (1, vR b1), (2, vR b2), (3, vR b3), (4, vR b4), (5, vI b5)] [] h') {a0 : Option Nat} {a1 : Option Nat} {a2 : Option Nat} {a3 : Option Nat} {a4 : Option Nat} {a5 : Int32} (H : B_L_law_842 k28 a0 a1 a2 a3 a4 a5 h = some (vo, vh)) : zW G M_L_law 343 h0 (zoI vo) vh 842 [(0, vR a0), (1, vR a1), (2, vR a2), (3, vR a3), (4, vR a4), (5, vI a5)] [] h := by
  unfold B_L_law_842 at H
  refine zw_aload_n (pc := 842) dL_law_842 rfl 1 rfl ?_
  refine zw_aload_n (pc := 843) dL_law_843 rfl 0 rfl ?_
  refine zw_iload (pc := 844) dL_law_844 5 rfl ?_
  refine zw_iconst (pc := 846) (v := (1 : Int32)) dL_law_846 (by decide) ?_
  refine zw_iadd (pc := 847) dL_law_847 ?_
  obtain ⟨x1, e2, H⟩ := zbind H
  refine zy_iald (pc := 848) dL_law_848 e2 ?_
  refine zw_aload_n (pc := 849) dL_law_849 rfl 0 rfl ?_
  refine zw_iload (pc := 850) dL_law_850 5 rfl ?_
  refine zw_iconst (pc := 852) (v := (2 : Int32)) dL_law_852 (by decide) ?_
  refine zw_iadd (pc := 853) dL_law_853 ?_
  obtain ⟨x3, e4, H⟩ := zbind H
  refine zy_iald (pc := 854) dL_law_854 e4 ?_
  refine zw_aload_n (pc := 855) dL_law_855 rfl 3 rfl ?_
  obtain ⟨x7, h6, e5, H⟩ := zbind2 H
  refine zw_invS (pc := 856) (M' := M_X0_storedValue) (A := [vR a1, vI x1, vI x3, vR a3]) [] dL_law_856 (Or.inl q1756) mf_X0_storedValue (w_X0_storedValue e5) (Nat.le_of_ble_eq_true rfl) rfl rfl (Nat.le_of_ble_eq_true rfl) (zkv ?_) zkn9
  refine zw_istore (pc := 859) (lv' := [(6, vI x7), (0, vR a0), (1, vR a1), (2, vR a2), (3, vR a3), (4, vR a4), (5, vI a5)]) dL_law_859 (by decide) rfl ?_
  refine zw_aload_n (pc := 861) dL_law_861 rfl 3 rfl ?_
  refine zw_aload_n (pc := 862) dL_law_862 rfl 1 rfl ?_
  refine zw_iload (pc := 863) dL_law_863 6 rfl ?_
  refine zw_iconst (pc := 865) (v := (1 : Int32)) dL_law_865 (by decide) ?_
  refine zw_iadd (pc := 866) dL_law_866 ?_
  obtain ⟨x8, e9, H⟩ := zbind H
  refine zy_iald (pc := 867) dL_law_867 e9 ?_
  refine zw_aload_n (pc := 868) dL_law_868 rfl 1 rfl ?_
  refine zw_iload (pc := 869) dL_law_869 6 rfl ?_
  refine zw_iconst (pc := 871) (v := (2 : Int32)) dL_law_871 (by decide) ?_
  refine zw_iadd (pc := 872) dL_law_872 ?_
  obtain ⟨x10, e11, H⟩ := zbind H
  refine zy_iald (pc := 873) dL_law_873 e11 ?_
  obtain ⟨b12, e14, H⟩ := zbind H
  obtain ⟨e13, e15⟩ := zrv_ok e14
  obtain ⟨x18, h17, e16, H⟩ := zbind2 H
  refine zw_invV (pc := 874) (M' := M_X4_storedValue) (A := [vI x8, vI x10]) [] dL_law_874 (Or.inl q2761) mf_X4_storedValue q2763 (zkq e15 rfl) (w_X4_storedValue e16) (Nat.le_of_ble_eq_true rfl) rfl (by rw [← e13]; rfl) (Nat.le_of_ble_eq_true rfl) (zkv ?_) zkn9
  refine zw_istore (pc := 877) (lv' := [(7, vI x18), (6, vI x7), (0, vR a0), (1, vR a1), (2, vR a2), (3, vR a3), (4, vR a4), (5, vI a5)]) dL_law_877 (by decide) rfl ?_
  refine zw_aload_n (pc := 879) dL_law_879 rfl 4 rfl ?_
  obtain ⟨b19, e21, H⟩ := zbind H
  obtain ⟨e20, e22⟩ := zrv_ok e21
  obtain ⟨x24, e23, H⟩ := zbind H
  refine zw_invV (pc := 880) (M' := M_X4_thrown) (A := []) [] dL_law_880 (Or.inl q2302) mf_X4_thrown q2304 (zkq e22 rfl) (w_X4_thrown e23) (Nat.le_of_ble_eq_true rfl) rfl (by rw [← e20]; rfl) (Nat.le_of_ble_eq_true rfl) (zkv ?_) zkn9
  refine zw_iload (pc := 883) dL_law_883 1 rfl ?_
  rcases zif H with ⟨c25, H⟩ | ⟨c25, H⟩
  · refine zw_icmp_eq (pc := 885) (tgt := 890) dL_law_885 rfl (fun _ => ?_) (fun q => absurd c25 q)
    refine zw_iload (pc := 890) dL_law_890 1 rfl ?_
    rcases zif H with ⟨c26, H⟩ | ⟨c26, H⟩
    · refine zw_if_ne (pc := 892) (tgt := 907) dL_law_892 rfl (fun q => absurd c26 q) (fun _ => ?_)
      refine zw_aload_n (pc := 895) dL_law_895 rfl 5 rfl ?_
      refine zw_iconst (pc := 896) (v := (0 : Int32)) dL_law_896 (by decide) ?_
      obtain ⟨x27, e28, H⟩ := zbind H
      refine zy_lald (pc := 897) dL_law_897 e28 ?_
      refine zw_iload (pc := 898) dL_law_898 0 rfl ?_
      refine zw_i2l (pc := 900) dL_law_900 ?_
      refine zw_lcmp (pc := 901) dL_law_901 ?_
      rcases zif H with ⟨c29, H⟩ | ⟨c29, H⟩
      · refine zw_if_eq (pc := 902) (tgt := 907) dL_law_902 rfl (fun _ => ?_) (fun q => absurd (lgc_eq.mpr c29) q)
        refine zw_goto (pc := 907) (tgt := 3377) dL_law_907 rfl ?_
        refine zw_iinc (pc := 3377) (v := (a5 + (6 : Int32))) (lv' := [(5, vI (a5 + (6 : Int32))), (7, vI x18), (6, vI x7), (0, vR a0), (1, vR a1), (2, vR a2), (3, vR a3), (4, vR a4)]) dL_law_3377 7 rfl rfl (by decide) rfl ?_
        refine zw_goto (pc := 3380) (tgt := 28) dL_law_3380 rfl ?_
        refine zW_pick (lv' := [(0, vR a0), (1, vR a1), (2, vR a2), (3, vR a3), (4, vR a4), (5, vI (a5 + (6 : Int32)))]) [3, 4, 5, 6, 7, 0] rfl ?_
        exact hk28 _ _ _ _ _ _ _ H
      · refine zw_if_eq (pc := 902) (tgt := 907) dL_law_902 rfl (fun q => absurd q (fun q => c29 (lgc_eq.mp q))) (fun _ => ?_)
        refine zw_iconst (pc := 905) (v := (0 : Int32)) dL_law_905 (by decide) ?_
        obtain ⟨rfl, rfl⟩ := Prod.mk.inj (Option.some.inj H)
        exact zw_zret (pc := 906) dL_law_906 rfl rfl rfl rfl
    · refine zw_if_ne (pc := 892) (tgt := 907) dL_law_892 rfl (fun _ => ?_) (fun q => absurd q c26)
      refine zw_goto (pc := 907) (tgt := 3377) dL_law_907 rfl ?_
      refine zw_iinc (pc := 3377) (v := (a5 + (6 : Int32))) (lv' := [(5, vI (a5 + (6 : Int32))), (7, vI x18), (6, vI x7), (0, vR a0), (1, vR a1), (2, vR a2), (3, vR a3), (4, vR a4)]) dL_law_3377 7 rfl rfl (by decide) rfl ?_
      refine zw_goto (pc := 3380) (tgt := 28) dL_law_3380 rfl ?_
      refine zW_pick (lv' := [(0, vR a0), (1, vR a1), (2, vR a2), (3, vR a3), (4, vR a4), (5, vI (a5 + (6 : Int32)))]) [3, 4, 5, 6, 7, 0] rfl ?_
      exact hk28 _ _ _ _ _ _ _ H
  · refine zw_icmp_eq (pc := 885) (tgt := 890) dL_law_885 rfl (fun q => absurd q c25) (fun _ => ?_)
    refine zw_iconst (pc := 888) (v := (0 : Int32)) dL_law_888 (by decide) ?_
    obtain ⟨rfl, rfl⟩ := Prod.mk.inj (Option.some.inj H)
    exact zw_zret (pc := 889) dL_law_889 rfl rfl rfl rfl
def B_L_law_910 (k28 : Option Nat → Option Nat → Option Nat → Option Nat → Option Nat → Int32 → zH → Option ((Int32 ⊕ Nat) × zH)) (a0 : Option Nat) (a1 : Option Nat) (a2 : Option Nat) (a3 : Option Nat) (a4 : Option Nat) (a5 : Int32) (h : zH) : Option ((Int32 ⊕ Nat) × zH) :=
  (zaI 50 a0 (a5 + (1 : Int32)) h).bind fun x1 =>
  (zaI 50 a0 (a5 + (2 : Int32)) h).bind fun x3 =>
  zb2 (f_X0_rowOf a1 x1 x3 a3 h) fun x7 h6 =>
  (zaI 50 a0 (a5 + (1 : Int32)) h6).bind fun x8 =>
  (zaI 50 a0 (a5 + (2 : Int32)) h6).bind fun x10 =>
  (zrv 4 a2 h6).bind fun b12 =>
  zb2 (f_X4_rowOf (some b12) x8 x10 h6) fun x18 h17 =>
  (zrv 4 a2 h17).bind fun b19 =>
  (f_X4_thrown (some b19) h17).bind fun x24 =>
  if x24 = x7 then
  if x7 = 0 then
  (zaJ a3 (0 : Int32) h17).bind fun x27 =>
  if x27 = x18.toInt64 then
  k28 a0 a1 a2 a3 a4 (a5 + (6 : Int32)) h17
  else
  some (.inl (0 : Int32), h17)
  else
  k28 a0 a1 a2 a3 a4 (a5 + (6 : Int32)) h17
  else
  some (.inl (0 : Int32), h17)
theorem wB_L_law_910 {G : zG} {h0 h : zH} {vo : Int32 ⊕ Nat} {vh : zH} {k28 : Option Nat → Option Nat → Option Nat → Option Nat → Option Nat → Int32 → zH → Option ((Int32 ⊕ Nat) × zH)} (hk28 : ∀ (b0 : Option Nat) (b1 : Option Nat) (b2 : Option Nat) (b3 : Option Nat) (b4 : Option Nat) (b5 : Int32) (h' : zH), k28 b0 b1 b2 b3 b4 b5 h' = some (vo, vh) → zW G M_L_law 343 h0 (zoI vo) vh 28 [(0, vR b0), (1, vR b1), (2, vR b2), (3, vR b3), (4, vR b4), (5, vI b5)] [] h') {a0 : Option Nat} {a1 : Option Nat} {a2 : Option Nat} {a3 : Option Nat} {a4 : Option Nat} {a5 : Int32} (H : B_L_law_910 k28 a0 a1 a2 a3 a4 a5 h = some (vo, vh)) : zW G M_L_law 343 h0 (zoI vo) vh 910 [(0, vR a0), (1, vR a1), (2, vR a2), (3, vR a3), (4, vR a4), (5, vI a5)] [] h := by
  unfold B_L_law_910 at H
  refine zw_aload_n (pc := 910) dL_law_910 rfl 1 rfl ?_
  refine zw_aload_n (pc := 911) dL_law_911 rfl 0 rfl ?_
  refine zw_iload (pc := 912) dL_law_912 5 rfl ?_
  refine zw_iconst (pc := 914) (v := (1 : Int32)) dL_law_914 (by decide) ?_
  refine zw_iadd (pc := 915) dL_law_915 ?_
  obtain ⟨x1, e2, H⟩ := zbind H
  refine zy_iald (pc := 916) dL_law_916 e2 ?_
  refine zw_aload_n (pc := 917) dL_law_917 rfl 0 rfl ?_
  refine zw_iload (pc := 918) dL_law_918 5 rfl ?_
  refine zw_iconst (pc := 920) (v := (2 : Int32)) dL_law_920 (by decide) ?_
  refine zw_iadd (pc := 921) dL_law_921 ?_
  obtain ⟨x3, e4, H⟩ := zbind H
  refine zy_iald (pc := 922) dL_law_922 e4 ?_
  refine zw_aload_n (pc := 923) dL_law_923 rfl 3 rfl ?_
  obtain ⟨x7, h6, e5, H⟩ := zbind2 H
  refine zw_invS (pc := 924) (M' := M_X0_rowOf) (A := [vR a1, vI x1, vI x3, vR a3]) [] dL_law_924 (Or.inl q1763) mf_X0_rowOf (w_X0_rowOf e5) (Nat.le_of_ble_eq_true rfl) rfl rfl (Nat.le_of_ble_eq_true rfl) (zkv ?_) zkn9
  refine zw_istore (pc := 927) (lv' := [(6, vI x7), (0, vR a0), (1, vR a1), (2, vR a2), (3, vR a3), (4, vR a4), (5, vI a5)]) dL_law_927 (by decide) rfl ?_
  refine zw_aload_n (pc := 929) dL_law_929 rfl 3 rfl ?_
  refine zw_aload_n (pc := 930) dL_law_930 rfl 1 rfl ?_
  refine zw_iload (pc := 931) dL_law_931 6 rfl ?_
  refine zw_iconst (pc := 933) (v := (1 : Int32)) dL_law_933 (by decide) ?_
  refine zw_iadd (pc := 934) dL_law_934 ?_
  obtain ⟨x8, e9, H⟩ := zbind H
  refine zy_iald (pc := 935) dL_law_935 e9 ?_
  refine zw_aload_n (pc := 936) dL_law_936 rfl 1 rfl ?_
  refine zw_iload (pc := 937) dL_law_937 6 rfl ?_
  refine zw_iconst (pc := 939) (v := (2 : Int32)) dL_law_939 (by decide) ?_
  refine zw_iadd (pc := 940) dL_law_940 ?_
  obtain ⟨x10, e11, H⟩ := zbind H
  refine zy_iald (pc := 941) dL_law_941 e11 ?_
  obtain ⟨b12, e14, H⟩ := zbind H
  obtain ⟨e13, e15⟩ := zrv_ok e14
  obtain ⟨x18, h17, e16, H⟩ := zbind2 H
  refine zw_invV (pc := 942) (M' := M_X4_rowOf) (A := [vI x8, vI x10]) [] dL_law_942 (Or.inl q2765) mf_X4_rowOf q2767 (zkq e15 rfl) (w_X4_rowOf e16) (Nat.le_of_ble_eq_true rfl) rfl (by rw [← e13]; rfl) (Nat.le_of_ble_eq_true rfl) (zkv ?_) zkn9
  refine zw_istore (pc := 945) (lv' := [(7, vI x18), (6, vI x7), (0, vR a0), (1, vR a1), (2, vR a2), (3, vR a3), (4, vR a4), (5, vI a5)]) dL_law_945 (by decide) rfl ?_
  refine zw_aload_n (pc := 947) dL_law_947 rfl 4 rfl ?_
  obtain ⟨b19, e21, H⟩ := zbind H
  obtain ⟨e20, e22⟩ := zrv_ok e21
  obtain ⟨x24, e23, H⟩ := zbind H
  refine zw_invV (pc := 948) (M' := M_X4_thrown) (A := []) [] dL_law_948 (Or.inl q2302) mf_X4_thrown q2304 (zkq e22 rfl) (w_X4_thrown e23) (Nat.le_of_ble_eq_true rfl) rfl (by rw [← e20]; rfl) (Nat.le_of_ble_eq_true rfl) (zkv ?_) zkn9
  refine zw_iload (pc := 951) dL_law_951 1 rfl ?_
  rcases zif H with ⟨c25, H⟩ | ⟨c25, H⟩
  · refine zw_icmp_eq (pc := 953) (tgt := 958) dL_law_953 rfl (fun _ => ?_) (fun q => absurd c25 q)
    refine zw_iload (pc := 958) dL_law_958 1 rfl ?_
    rcases zif H with ⟨c26, H⟩ | ⟨c26, H⟩
    · refine zw_if_ne (pc := 960) (tgt := 975) dL_law_960 rfl (fun q => absurd c26 q) (fun _ => ?_)
      refine zw_aload_n (pc := 963) dL_law_963 rfl 5 rfl ?_
      refine zw_iconst (pc := 964) (v := (0 : Int32)) dL_law_964 (by decide) ?_
      obtain ⟨x27, e28, H⟩ := zbind H
      refine zy_lald (pc := 965) dL_law_965 e28 ?_
      refine zw_iload (pc := 966) dL_law_966 0 rfl ?_
      refine zw_i2l (pc := 968) dL_law_968 ?_
      refine zw_lcmp (pc := 969) dL_law_969 ?_
      rcases zif H with ⟨c29, H⟩ | ⟨c29, H⟩
      · refine zw_if_eq (pc := 970) (tgt := 975) dL_law_970 rfl (fun _ => ?_) (fun q => absurd (lgc_eq.mpr c29) q)
        refine zw_goto (pc := 975) (tgt := 3377) dL_law_975 rfl ?_
        refine zw_iinc (pc := 3377) (v := (a5 + (6 : Int32))) (lv' := [(5, vI (a5 + (6 : Int32))), (7, vI x18), (6, vI x7), (0, vR a0), (1, vR a1), (2, vR a2), (3, vR a3), (4, vR a4)]) dL_law_3377 7 rfl rfl (by decide) rfl ?_
        refine zw_goto (pc := 3380) (tgt := 28) dL_law_3380 rfl ?_
        refine zW_pick (lv' := [(0, vR a0), (1, vR a1), (2, vR a2), (3, vR a3), (4, vR a4), (5, vI (a5 + (6 : Int32)))]) [3, 4, 5, 6, 7, 0] rfl ?_
        exact hk28 _ _ _ _ _ _ _ H
      · refine zw_if_eq (pc := 970) (tgt := 975) dL_law_970 rfl (fun q => absurd q (fun q => c29 (lgc_eq.mp q))) (fun _ => ?_)
        refine zw_iconst (pc := 973) (v := (0 : Int32)) dL_law_973 (by decide) ?_
        obtain ⟨rfl, rfl⟩ := Prod.mk.inj (Option.some.inj H)
        exact zw_zret (pc := 974) dL_law_974 rfl rfl rfl rfl
    · refine zw_if_ne (pc := 960) (tgt := 975) dL_law_960 rfl (fun _ => ?_) (fun q => absurd q c26)
      refine zw_goto (pc := 975) (tgt := 3377) dL_law_975 rfl ?_
      refine zw_iinc (pc := 3377) (v := (a5 + (6 : Int32))) (lv' := [(5, vI (a5 + (6 : Int32))), (7, vI x18), (6, vI x7), (0, vR a0), (1, vR a1), (2, vR a2), (3, vR a3), (4, vR a4)]) dL_law_3377 7 rfl rfl (by decide) rfl ?_
      refine zw_goto (pc := 3380) (tgt := 28) dL_law_3380 rfl ?_
      refine zW_pick (lv' := [(0, vR a0), (1, vR a1), (2, vR a2), (3, vR a3), (4, vR a4), (5, vI (a5 + (6 : Int32)))]) [3, 4, 5, 6, 7, 0] rfl ?_
      exact hk28 _ _ _ _ _ _ _ H
  · refine zw_icmp_eq (pc := 953) (tgt := 958) dL_law_953 rfl (fun q => absurd q c25) (fun _ => ?_)
    refine zw_iconst (pc := 956) (v := (0 : Int32)) dL_law_956 (by decide) ?_
    obtain ⟨rfl, rfl⟩ := Prod.mk.inj (Option.some.inj H)
    exact zw_zret (pc := 957) dL_law_957 rfl rfl rfl rfl
def B_L_law_978 (k28 : Option Nat → Option Nat → Option Nat → Option Nat → Option Nat → Int32 → zH → Option ((Int32 ⊕ Nat) × zH)) (a0 : Option Nat) (a1 : Option Nat) (a2 : Option Nat) (a3 : Option Nat) (a4 : Option Nat) (a5 : Int32) (h : zH) : Option ((Int32 ⊕ Nat) × zH) :=
  (zaI 50 a0 (a5 + (1 : Int32)) h).bind fun x1 =>
  (zaI 50 a0 (a5 + (2 : Int32)) h).bind fun x3 =>
  (zaI 50 a0 (a5 + (3 : Int32)) h).bind fun x5 =>
  zb2 (f_X0_value a1 x1 x3 x5 a3 h) fun x9 h8 =>
  (zaI 50 a0 (a5 + (1 : Int32)) h8).bind fun x10 =>
  (zaI 50 a0 (a5 + (2 : Int32)) h8).bind fun x12 =>
  (zaI 50 a0 (a5 + (3 : Int32)) h8).bind fun x14 =>
  (zrv 4 a2 h8).bind fun b16 =>
  zb2 (f_X4_value (some b16) x10 x12 x14 h8) fun x22 h21 =>
  (zrv 4 a2 h21).bind fun b23 =>
  (f_X4_thrown (some b23) h21).bind fun x28 =>
  if x28 = x9 then
  if x9 = 0 then
  (zaJ a3 (0 : Int32) h21).bind fun x31 =>
  if x31 = x22.toInt64 then
  k28 a0 a1 a2 a3 a4 (a5 + (6 : Int32)) h21
  else
  some (.inl (0 : Int32), h21)
  else
  k28 a0 a1 a2 a3 a4 (a5 + (6 : Int32)) h21
  else
  some (.inl (0 : Int32), h21)
theorem wB_L_law_978 {G : zG} {h0 h : zH} {vo : Int32 ⊕ Nat} {vh : zH} {k28 : Option Nat → Option Nat → Option Nat → Option Nat → Option Nat → Int32 → zH → Option ((Int32 ⊕ Nat) × zH)} (hk28 : ∀ (b0 : Option Nat) (b1 : Option Nat) (b2 : Option Nat) (b3 : Option Nat) (b4 : Option Nat) (b5 : Int32) (h' : zH), k28 b0 b1 b2 b3 b4 b5 h' = some (vo, vh) → zW G M_L_law 343 h0 (zoI vo) vh 28 [(0, vR b0), (1, vR b1), (2, vR b2), (3, vR b3), (4, vR b4), (5, vI b5)] [] h') {a0 : Option Nat} {a1 : Option Nat} {a2 : Option Nat} {a3 : Option Nat} {a4 : Option Nat} {a5 : Int32} (H : B_L_law_978 k28 a0 a1 a2 a3 a4 a5 h = some (vo, vh)) : zW G M_L_law 343 h0 (zoI vo) vh 978 [(0, vR a0), (1, vR a1), (2, vR a2), (3, vR a3), (4, vR a4), (5, vI a5)] [] h := by
  unfold B_L_law_978 at H
  refine zw_aload_n (pc := 978) dL_law_978 rfl 1 rfl ?_
  refine zw_aload_n (pc := 979) dL_law_979 rfl 0 rfl ?_
  refine zw_iload (pc := 980) dL_law_980 5 rfl ?_
  refine zw_iconst (pc := 982) (v := (1 : Int32)) dL_law_982 (by decide) ?_
  refine zw_iadd (pc := 983) dL_law_983 ?_
  obtain ⟨x1, e2, H⟩ := zbind H
  refine zy_iald (pc := 984) dL_law_984 e2 ?_
  refine zw_aload_n (pc := 985) dL_law_985 rfl 0 rfl ?_
  refine zw_iload (pc := 986) dL_law_986 5 rfl ?_
  refine zw_iconst (pc := 988) (v := (2 : Int32)) dL_law_988 (by decide) ?_
  refine zw_iadd (pc := 989) dL_law_989 ?_
  obtain ⟨x3, e4, H⟩ := zbind H
  refine zy_iald (pc := 990) dL_law_990 e4 ?_
  refine zw_aload_n (pc := 991) dL_law_991 rfl 0 rfl ?_
  refine zw_iload (pc := 992) dL_law_992 5 rfl ?_
  refine zw_iconst (pc := 994) (v := (3 : Int32)) dL_law_994 (by decide) ?_
  refine zw_iadd (pc := 995) dL_law_995 ?_
  obtain ⟨x5, e6, H⟩ := zbind H
  refine zy_iald (pc := 996) dL_law_996 e6 ?_
  refine zw_aload_n (pc := 997) dL_law_997 rfl 3 rfl ?_
  obtain ⟨x9, h8, e7, H⟩ := zbind2 H
  refine zw_invS (pc := 998) (M' := M_X0_value) (A := [vR a1, vI x1, vI x3, vI x5, vR a3]) [] dL_law_998 (Or.inl q1774) mf_X0_value (w_X0_value e7) (Nat.le_of_ble_eq_true rfl) rfl rfl (Nat.le_of_ble_eq_true rfl) (zkv ?_) zkn9
  refine zw_istore (pc := 1001) (lv' := [(6, vI x9), (0, vR a0), (1, vR a1), (2, vR a2), (3, vR a3), (4, vR a4), (5, vI a5)]) dL_law_1001 (by decide) rfl ?_
  refine zw_aload_n (pc := 1003) dL_law_1003 rfl 3 rfl ?_
  refine zw_aload_n (pc := 1004) dL_law_1004 rfl 1 rfl ?_
  refine zw_iload (pc := 1005) dL_law_1005 6 rfl ?_
  refine zw_iconst (pc := 1007) (v := (1 : Int32)) dL_law_1007 (by decide) ?_
  refine zw_iadd (pc := 1008) dL_law_1008 ?_
  obtain ⟨x10, e11, H⟩ := zbind H
  refine zy_iald (pc := 1009) dL_law_1009 e11 ?_
  refine zw_aload_n (pc := 1010) dL_law_1010 rfl 1 rfl ?_
  refine zw_iload (pc := 1011) dL_law_1011 6 rfl ?_
  refine zw_iconst (pc := 1013) (v := (2 : Int32)) dL_law_1013 (by decide) ?_
  refine zw_iadd (pc := 1014) dL_law_1014 ?_
  obtain ⟨x12, e13, H⟩ := zbind H
  refine zy_iald (pc := 1015) dL_law_1015 e13 ?_
  refine zw_aload_n (pc := 1016) dL_law_1016 rfl 1 rfl ?_
  refine zw_iload (pc := 1017) dL_law_1017 6 rfl ?_
  refine zw_iconst (pc := 1019) (v := (3 : Int32)) dL_law_1019 (by decide) ?_
  refine zw_iadd (pc := 1020) dL_law_1020 ?_
  obtain ⟨x14, e15, H⟩ := zbind H
  refine zy_iald (pc := 1021) dL_law_1021 e15 ?_
  obtain ⟨b16, e18, H⟩ := zbind H
  obtain ⟨e17, e19⟩ := zrv_ok e18
  obtain ⟨x22, h21, e20, H⟩ := zbind2 H
  refine zw_invV (pc := 1022) (M' := M_X4_value) (A := [vI x10, vI x12, vI x14]) [] dL_law_1022 (Or.inl q2769) mf_X4_value q2771 (zkq e19 rfl) (w_X4_value e20) (Nat.le_of_ble_eq_true rfl) rfl (by rw [← e17]; rfl) (Nat.le_of_ble_eq_true rfl) (zkv ?_) zkn9
  refine zw_istore (pc := 1025) (lv' := [(7, vI x22), (6, vI x9), (0, vR a0), (1, vR a1), (2, vR a2), (3, vR a3), (4, vR a4), (5, vI a5)]) dL_law_1025 (by decide) rfl ?_
  refine zw_aload_n (pc := 1027) dL_law_1027 rfl 4 rfl ?_
  obtain ⟨b23, e25, H⟩ := zbind H
  obtain ⟨e24, e26⟩ := zrv_ok e25
  obtain ⟨x28, e27, H⟩ := zbind H
  refine zw_invV (pc := 1028) (M' := M_X4_thrown) (A := []) [] dL_law_1028 (Or.inl q2302) mf_X4_thrown q2304 (zkq e26 rfl) (w_X4_thrown e27) (Nat.le_of_ble_eq_true rfl) rfl (by rw [← e24]; rfl) (Nat.le_of_ble_eq_true rfl) (zkv ?_) zkn9
  refine zw_iload (pc := 1031) dL_law_1031 1 rfl ?_
  rcases zif H with ⟨c29, H⟩ | ⟨c29, H⟩
  · refine zw_icmp_eq (pc := 1033) (tgt := 1038) dL_law_1033 rfl (fun _ => ?_) (fun q => absurd c29 q)
    refine zw_iload (pc := 1038) dL_law_1038 1 rfl ?_
    rcases zif H with ⟨c30, H⟩ | ⟨c30, H⟩
    · refine zw_if_ne (pc := 1040) (tgt := 1055) dL_law_1040 rfl (fun q => absurd c30 q) (fun _ => ?_)
      refine zw_aload_n (pc := 1043) dL_law_1043 rfl 5 rfl ?_
      refine zw_iconst (pc := 1044) (v := (0 : Int32)) dL_law_1044 (by decide) ?_
      obtain ⟨x31, e32, H⟩ := zbind H
      refine zy_lald (pc := 1045) dL_law_1045 e32 ?_
      refine zw_iload (pc := 1046) dL_law_1046 0 rfl ?_
      refine zw_i2l (pc := 1048) dL_law_1048 ?_
      refine zw_lcmp (pc := 1049) dL_law_1049 ?_
      rcases zif H with ⟨c33, H⟩ | ⟨c33, H⟩
      · refine zw_if_eq (pc := 1050) (tgt := 1055) dL_law_1050 rfl (fun _ => ?_) (fun q => absurd (lgc_eq.mpr c33) q)
        refine zw_goto (pc := 1055) (tgt := 3377) dL_law_1055 rfl ?_
        refine zw_iinc (pc := 3377) (v := (a5 + (6 : Int32))) (lv' := [(5, vI (a5 + (6 : Int32))), (7, vI x22), (6, vI x9), (0, vR a0), (1, vR a1), (2, vR a2), (3, vR a3), (4, vR a4)]) dL_law_3377 7 rfl rfl (by decide) rfl ?_
        refine zw_goto (pc := 3380) (tgt := 28) dL_law_3380 rfl ?_
        refine zW_pick (lv' := [(0, vR a0), (1, vR a1), (2, vR a2), (3, vR a3), (4, vR a4), (5, vI (a5 + (6 : Int32)))]) [3, 4, 5, 6, 7, 0] rfl ?_
        exact hk28 _ _ _ _ _ _ _ H
      · refine zw_if_eq (pc := 1050) (tgt := 1055) dL_law_1050 rfl (fun q => absurd q (fun q => c33 (lgc_eq.mp q))) (fun _ => ?_)
        refine zw_iconst (pc := 1053) (v := (0 : Int32)) dL_law_1053 (by decide) ?_
        obtain ⟨rfl, rfl⟩ := Prod.mk.inj (Option.some.inj H)
        exact zw_zret (pc := 1054) dL_law_1054 rfl rfl rfl rfl
    · refine zw_if_ne (pc := 1040) (tgt := 1055) dL_law_1040 rfl (fun _ => ?_) (fun q => absurd q c30)
      refine zw_goto (pc := 1055) (tgt := 3377) dL_law_1055 rfl ?_
      refine zw_iinc (pc := 3377) (v := (a5 + (6 : Int32))) (lv' := [(5, vI (a5 + (6 : Int32))), (7, vI x22), (6, vI x9), (0, vR a0), (1, vR a1), (2, vR a2), (3, vR a3), (4, vR a4)]) dL_law_3377 7 rfl rfl (by decide) rfl ?_
      refine zw_goto (pc := 3380) (tgt := 28) dL_law_3380 rfl ?_
      refine zW_pick (lv' := [(0, vR a0), (1, vR a1), (2, vR a2), (3, vR a3), (4, vR a4), (5, vI (a5 + (6 : Int32)))]) [3, 4, 5, 6, 7, 0] rfl ?_
      exact hk28 _ _ _ _ _ _ _ H
  · refine zw_icmp_eq (pc := 1033) (tgt := 1038) dL_law_1033 rfl (fun q => absurd q c29) (fun _ => ?_)
    refine zw_iconst (pc := 1036) (v := (0 : Int32)) dL_law_1036 (by decide) ?_
    obtain ⟨rfl, rfl⟩ := Prod.mk.inj (Option.some.inj H)
    exact zw_zret (pc := 1037) dL_law_1037 rfl rfl rfl rfl
def B_L_law_1058 (k28 : Option Nat → Option Nat → Option Nat → Option Nat → Option Nat → Int32 → zH → Option ((Int32 ⊕ Nat) × zH)) (a0 : Option Nat) (a1 : Option Nat) (a2 : Option Nat) (a3 : Option Nat) (a4 : Option Nat) (a5 : Int32) (h : zH) : Option ((Int32 ⊕ Nat) × zH) :=
  (zaI 50 a0 (a5 + (1 : Int32)) h).bind fun x1 =>
  (zaI 50 a0 (a5 + (2 : Int32)) h).bind fun x3 =>
  (zaI 50 a0 (a5 + (3 : Int32)) h).bind fun x5 =>
  zb2 (f_X0_storageIndex a1 x1 x3 x5 a3 h) fun x9 h8 =>
  (zaI 50 a0 (a5 + (1 : Int32)) h8).bind fun x10 =>
  (zaI 50 a0 (a5 + (2 : Int32)) h8).bind fun x12 =>
  (zaI 50 a0 (a5 + (3 : Int32)) h8).bind fun x14 =>
  (zrv 4 a2 h8).bind fun b16 =>
  zb2 (f_X4_storageIndex (some b16) x10 x12 x14 h8) fun x22 h21 =>
  (zrv 4 a2 h21).bind fun b23 =>
  (f_X4_thrown (some b23) h21).bind fun x28 =>
  if x28 = x9 then
  if x9 = 0 then
  (zaJ a3 (0 : Int32) h21).bind fun x31 =>
  if x31 = x22.toInt64 then
  k28 a0 a1 a2 a3 a4 (a5 + (6 : Int32)) h21
  else
  some (.inl (0 : Int32), h21)
  else
  k28 a0 a1 a2 a3 a4 (a5 + (6 : Int32)) h21
  else
  some (.inl (0 : Int32), h21)
theorem wB_L_law_1058 {G : zG} {h0 h : zH} {vo : Int32 ⊕ Nat} {vh : zH} {k28 : Option Nat → Option Nat → Option Nat → Option Nat → Option Nat → Int32 → zH → Option ((Int32 ⊕ Nat) × zH)} (hk28 : ∀ (b0 : Option Nat) (b1 : Option Nat) (b2 : Option Nat) (b3 : Option Nat) (b4 : Option Nat) (b5 : Int32) (h' : zH), k28 b0 b1 b2 b3 b4 b5 h' = some (vo, vh) → zW G M_L_law 343 h0 (zoI vo) vh 28 [(0, vR b0), (1, vR b1), (2, vR b2), (3, vR b3), (4, vR b4), (5, vI b5)] [] h') {a0 : Option Nat} {a1 : Option Nat} {a2 : Option Nat} {a3 : Option Nat} {a4 : Option Nat} {a5 : Int32} (H : B_L_law_1058 k28 a0 a1 a2 a3 a4 a5 h = some (vo, vh)) : zW G M_L_law 343 h0 (zoI vo) vh 1058 [(0, vR a0), (1, vR a1), (2, vR a2), (3, vR a3), (4, vR a4), (5, vI a5)] [] h := by
  unfold B_L_law_1058 at H
  refine zw_aload_n (pc := 1058) dL_law_1058 rfl 1 rfl ?_
  refine zw_aload_n (pc := 1059) dL_law_1059 rfl 0 rfl ?_
  refine zw_iload (pc := 1060) dL_law_1060 5 rfl ?_
  refine zw_iconst (pc := 1062) (v := (1 : Int32)) dL_law_1062 (by decide) ?_
  refine zw_iadd (pc := 1063) dL_law_1063 ?_
  obtain ⟨x1, e2, H⟩ := zbind H
  refine zy_iald (pc := 1064) dL_law_1064 e2 ?_
  refine zw_aload_n (pc := 1065) dL_law_1065 rfl 0 rfl ?_
  refine zw_iload (pc := 1066) dL_law_1066 5 rfl ?_
  refine zw_iconst (pc := 1068) (v := (2 : Int32)) dL_law_1068 (by decide) ?_
  refine zw_iadd (pc := 1069) dL_law_1069 ?_
  obtain ⟨x3, e4, H⟩ := zbind H
  refine zy_iald (pc := 1070) dL_law_1070 e4 ?_
  refine zw_aload_n (pc := 1071) dL_law_1071 rfl 0 rfl ?_
  refine zw_iload (pc := 1072) dL_law_1072 5 rfl ?_
  refine zw_iconst (pc := 1074) (v := (3 : Int32)) dL_law_1074 (by decide) ?_
  refine zw_iadd (pc := 1075) dL_law_1075 ?_
  obtain ⟨x5, e6, H⟩ := zbind H
  refine zy_iald (pc := 1076) dL_law_1076 e6 ?_
  refine zw_aload_n (pc := 1077) dL_law_1077 rfl 3 rfl ?_
  obtain ⟨x9, h8, e7, H⟩ := zbind2 H
  refine zw_invS (pc := 1078) (M' := M_X0_storageIndex) (A := [vR a1, vI x1, vI x3, vI x5, vR a3]) [] dL_law_1078 (Or.inl q1781) mf_X0_storageIndex (w_X0_storageIndex e7) (Nat.le_of_ble_eq_true rfl) rfl rfl (Nat.le_of_ble_eq_true rfl) (zkv ?_) zkn9
  refine zw_istore (pc := 1081) (lv' := [(6, vI x9), (0, vR a0), (1, vR a1), (2, vR a2), (3, vR a3), (4, vR a4), (5, vI a5)]) dL_law_1081 (by decide) rfl ?_
  refine zw_aload_n (pc := 1083) dL_law_1083 rfl 3 rfl ?_
  refine zw_aload_n (pc := 1084) dL_law_1084 rfl 1 rfl ?_
  refine zw_iload (pc := 1085) dL_law_1085 6 rfl ?_
  refine zw_iconst (pc := 1087) (v := (1 : Int32)) dL_law_1087 (by decide) ?_
  refine zw_iadd (pc := 1088) dL_law_1088 ?_
  obtain ⟨x10, e11, H⟩ := zbind H
  refine zy_iald (pc := 1089) dL_law_1089 e11 ?_
  refine zw_aload_n (pc := 1090) dL_law_1090 rfl 1 rfl ?_
  refine zw_iload (pc := 1091) dL_law_1091 6 rfl ?_
  refine zw_iconst (pc := 1093) (v := (2 : Int32)) dL_law_1093 (by decide) ?_
  refine zw_iadd (pc := 1094) dL_law_1094 ?_
  obtain ⟨x12, e13, H⟩ := zbind H
  refine zy_iald (pc := 1095) dL_law_1095 e13 ?_
  refine zw_aload_n (pc := 1096) dL_law_1096 rfl 1 rfl ?_
  refine zw_iload (pc := 1097) dL_law_1097 6 rfl ?_
  refine zw_iconst (pc := 1099) (v := (3 : Int32)) dL_law_1099 (by decide) ?_
  refine zw_iadd (pc := 1100) dL_law_1100 ?_
  obtain ⟨x14, e15, H⟩ := zbind H
  refine zy_iald (pc := 1101) dL_law_1101 e15 ?_
  obtain ⟨b16, e18, H⟩ := zbind H
  obtain ⟨e17, e19⟩ := zrv_ok e18
  obtain ⟨x22, h21, e20, H⟩ := zbind2 H
  refine zw_invV (pc := 1102) (M' := M_X4_storageIndex) (A := [vI x10, vI x12, vI x14]) [] dL_law_1102 (Or.inl q2773) mf_X4_storageIndex q2775 (zkq e19 rfl) (w_X4_storageIndex e20) (Nat.le_of_ble_eq_true rfl) rfl (by rw [← e17]; rfl) (Nat.le_of_ble_eq_true rfl) (zkv ?_) zkn9
  refine zw_istore (pc := 1105) (lv' := [(7, vI x22), (6, vI x9), (0, vR a0), (1, vR a1), (2, vR a2), (3, vR a3), (4, vR a4), (5, vI a5)]) dL_law_1105 (by decide) rfl ?_
  refine zw_aload_n (pc := 1107) dL_law_1107 rfl 4 rfl ?_
  obtain ⟨b23, e25, H⟩ := zbind H
  obtain ⟨e24, e26⟩ := zrv_ok e25
  obtain ⟨x28, e27, H⟩ := zbind H
  refine zw_invV (pc := 1108) (M' := M_X4_thrown) (A := []) [] dL_law_1108 (Or.inl q2302) mf_X4_thrown q2304 (zkq e26 rfl) (w_X4_thrown e27) (Nat.le_of_ble_eq_true rfl) rfl (by rw [← e24]; rfl) (Nat.le_of_ble_eq_true rfl) (zkv ?_) zkn9
  refine zw_iload (pc := 1111) dL_law_1111 1 rfl ?_
  rcases zif H with ⟨c29, H⟩ | ⟨c29, H⟩
  · refine zw_icmp_eq (pc := 1113) (tgt := 1118) dL_law_1113 rfl (fun _ => ?_) (fun q => absurd c29 q)
    refine zw_iload (pc := 1118) dL_law_1118 1 rfl ?_
    rcases zif H with ⟨c30, H⟩ | ⟨c30, H⟩
    · refine zw_if_ne (pc := 1120) (tgt := 1135) dL_law_1120 rfl (fun q => absurd c30 q) (fun _ => ?_)
      refine zw_aload_n (pc := 1123) dL_law_1123 rfl 5 rfl ?_
      refine zw_iconst (pc := 1124) (v := (0 : Int32)) dL_law_1124 (by decide) ?_
      obtain ⟨x31, e32, H⟩ := zbind H
      refine zy_lald (pc := 1125) dL_law_1125 e32 ?_
      refine zw_iload (pc := 1126) dL_law_1126 0 rfl ?_
      refine zw_i2l (pc := 1128) dL_law_1128 ?_
      refine zw_lcmp (pc := 1129) dL_law_1129 ?_
      rcases zif H with ⟨c33, H⟩ | ⟨c33, H⟩
      · refine zw_if_eq (pc := 1130) (tgt := 1135) dL_law_1130 rfl (fun _ => ?_) (fun q => absurd (lgc_eq.mpr c33) q)
        refine zw_goto (pc := 1135) (tgt := 3377) dL_law_1135 rfl ?_
        refine zw_iinc (pc := 3377) (v := (a5 + (6 : Int32))) (lv' := [(5, vI (a5 + (6 : Int32))), (7, vI x22), (6, vI x9), (0, vR a0), (1, vR a1), (2, vR a2), (3, vR a3), (4, vR a4)]) dL_law_3377 7 rfl rfl (by decide) rfl ?_
        refine zw_goto (pc := 3380) (tgt := 28) dL_law_3380 rfl ?_
        refine zW_pick (lv' := [(0, vR a0), (1, vR a1), (2, vR a2), (3, vR a3), (4, vR a4), (5, vI (a5 + (6 : Int32)))]) [3, 4, 5, 6, 7, 0] rfl ?_
        exact hk28 _ _ _ _ _ _ _ H
      · refine zw_if_eq (pc := 1130) (tgt := 1135) dL_law_1130 rfl (fun q => absurd q (fun q => c33 (lgc_eq.mp q))) (fun _ => ?_)
        refine zw_iconst (pc := 1133) (v := (0 : Int32)) dL_law_1133 (by decide) ?_
        obtain ⟨rfl, rfl⟩ := Prod.mk.inj (Option.some.inj H)
        exact zw_zret (pc := 1134) dL_law_1134 rfl rfl rfl rfl
    · refine zw_if_ne (pc := 1120) (tgt := 1135) dL_law_1120 rfl (fun _ => ?_) (fun q => absurd q c30)
      refine zw_goto (pc := 1135) (tgt := 3377) dL_law_1135 rfl ?_
      refine zw_iinc (pc := 3377) (v := (a5 + (6 : Int32))) (lv' := [(5, vI (a5 + (6 : Int32))), (7, vI x22), (6, vI x9), (0, vR a0), (1, vR a1), (2, vR a2), (3, vR a3), (4, vR a4)]) dL_law_3377 7 rfl rfl (by decide) rfl ?_
      refine zw_goto (pc := 3380) (tgt := 28) dL_law_3380 rfl ?_
      refine zW_pick (lv' := [(0, vR a0), (1, vR a1), (2, vR a2), (3, vR a3), (4, vR a4), (5, vI (a5 + (6 : Int32)))]) [3, 4, 5, 6, 7, 0] rfl ?_
      exact hk28 _ _ _ _ _ _ _ H
  · refine zw_icmp_eq (pc := 1113) (tgt := 1118) dL_law_1113 rfl (fun q => absurd q c29) (fun _ => ?_)
    refine zw_iconst (pc := 1116) (v := (0 : Int32)) dL_law_1116 (by decide) ?_
    obtain ⟨rfl, rfl⟩ := Prod.mk.inj (Option.some.inj H)
    exact zw_zret (pc := 1117) dL_law_1117 rfl rfl rfl rfl
def B_L_law_1138 (k28 : Option Nat → Option Nat → Option Nat → Option Nat → Option Nat → Int32 → zH → Option ((Int32 ⊕ Nat) × zH)) (a0 : Option Nat) (a1 : Option Nat) (a2 : Option Nat) (a3 : Option Nat) (a4 : Option Nat) (a5 : Int32) (h : zH) : Option ((Int32 ⊕ Nat) × zH) :=
  (zaI 50 a0 (a5 + (1 : Int32)) h).bind fun x1 =>
  zb2 (f_X0_explicitZeros a1 x1 a3 h) fun x5 h4 =>
  (zaI 50 a0 (a5 + (1 : Int32)) h4).bind fun x6 =>
  (zrv 4 a2 h4).bind fun b8 =>
  zb2 (f_X4_explicitZeros (some b8) x6 h4) fun x14 h13 =>
  (zrv 4 a2 h13).bind fun b15 =>
  (f_X4_thrown (some b15) h13).bind fun x20 =>
  if x20 = x5 then
  if x5 = 0 then
  (zaJ a3 (0 : Int32) h13).bind fun x23 =>
  if x23 = x14.toInt64 then
  k28 a0 a1 a2 a3 a4 (a5 + (6 : Int32)) h13
  else
  some (.inl (0 : Int32), h13)
  else
  k28 a0 a1 a2 a3 a4 (a5 + (6 : Int32)) h13
  else
  some (.inl (0 : Int32), h13)
theorem wB_L_law_1138 {G : zG} {h0 h : zH} {vo : Int32 ⊕ Nat} {vh : zH} {k28 : Option Nat → Option Nat → Option Nat → Option Nat → Option Nat → Int32 → zH → Option ((Int32 ⊕ Nat) × zH)} (hk28 : ∀ (b0 : Option Nat) (b1 : Option Nat) (b2 : Option Nat) (b3 : Option Nat) (b4 : Option Nat) (b5 : Int32) (h' : zH), k28 b0 b1 b2 b3 b4 b5 h' = some (vo, vh) → zW G M_L_law 343 h0 (zoI vo) vh 28 [(0, vR b0), (1, vR b1), (2, vR b2), (3, vR b3), (4, vR b4), (5, vI b5)] [] h') {a0 : Option Nat} {a1 : Option Nat} {a2 : Option Nat} {a3 : Option Nat} {a4 : Option Nat} {a5 : Int32} (H : B_L_law_1138 k28 a0 a1 a2 a3 a4 a5 h = some (vo, vh)) : zW G M_L_law 343 h0 (zoI vo) vh 1138 [(0, vR a0), (1, vR a1), (2, vR a2), (3, vR a3), (4, vR a4), (5, vI a5)] [] h := by
  unfold B_L_law_1138 at H
  refine zw_aload_n (pc := 1138) dL_law_1138 rfl 1 rfl ?_
  refine zw_aload_n (pc := 1139) dL_law_1139 rfl 0 rfl ?_
  refine zw_iload (pc := 1140) dL_law_1140 5 rfl ?_
  refine zw_iconst (pc := 1142) (v := (1 : Int32)) dL_law_1142 (by decide) ?_
  refine zw_iadd (pc := 1143) dL_law_1143 ?_
  obtain ⟨x1, e2, H⟩ := zbind H
  refine zy_iald (pc := 1144) dL_law_1144 e2 ?_
  refine zw_aload_n (pc := 1145) dL_law_1145 rfl 3 rfl ?_
  obtain ⟨x5, h4, e3, H⟩ := zbind2 H
  refine zw_invS (pc := 1146) (M' := M_X0_explicitZeros) (A := [vR a1, vI x1, vR a3]) [] dL_law_1146 (Or.inl q1788) mf_X0_explicitZeros (w_X0_explicitZeros e3) (Nat.le_of_ble_eq_true rfl) rfl rfl (Nat.le_of_ble_eq_true rfl) (zkv ?_) zkn9
  refine zw_istore (pc := 1149) (lv' := [(6, vI x5), (0, vR a0), (1, vR a1), (2, vR a2), (3, vR a3), (4, vR a4), (5, vI a5)]) dL_law_1149 (by decide) rfl ?_
  refine zw_aload_n (pc := 1151) dL_law_1151 rfl 3 rfl ?_
  refine zw_aload_n (pc := 1152) dL_law_1152 rfl 1 rfl ?_
  refine zw_iload (pc := 1153) dL_law_1153 6 rfl ?_
  refine zw_iconst (pc := 1155) (v := (1 : Int32)) dL_law_1155 (by decide) ?_
  refine zw_iadd (pc := 1156) dL_law_1156 ?_
  obtain ⟨x6, e7, H⟩ := zbind H
  refine zy_iald (pc := 1157) dL_law_1157 e7 ?_
  obtain ⟨b8, e10, H⟩ := zbind H
  obtain ⟨e9, e11⟩ := zrv_ok e10
  obtain ⟨x14, h13, e12, H⟩ := zbind2 H
  refine zw_invV (pc := 1158) (M' := M_X4_explicitZeros) (A := [vI x6]) [] dL_law_1158 (Or.inl q2777) mf_X4_explicitZeros q2779 (zkq e11 rfl) (w_X4_explicitZeros e12) (Nat.le_of_ble_eq_true rfl) rfl (by rw [← e9]; rfl) (Nat.le_of_ble_eq_true rfl) (zkv ?_) zkn9
  refine zw_istore (pc := 1161) (lv' := [(7, vI x14), (6, vI x5), (0, vR a0), (1, vR a1), (2, vR a2), (3, vR a3), (4, vR a4), (5, vI a5)]) dL_law_1161 (by decide) rfl ?_
  refine zw_aload_n (pc := 1163) dL_law_1163 rfl 4 rfl ?_
  obtain ⟨b15, e17, H⟩ := zbind H
  obtain ⟨e16, e18⟩ := zrv_ok e17
  obtain ⟨x20, e19, H⟩ := zbind H
  refine zw_invV (pc := 1164) (M' := M_X4_thrown) (A := []) [] dL_law_1164 (Or.inl q2302) mf_X4_thrown q2304 (zkq e18 rfl) (w_X4_thrown e19) (Nat.le_of_ble_eq_true rfl) rfl (by rw [← e16]; rfl) (Nat.le_of_ble_eq_true rfl) (zkv ?_) zkn9
  refine zw_iload (pc := 1167) dL_law_1167 1 rfl ?_
  rcases zif H with ⟨c21, H⟩ | ⟨c21, H⟩
  · refine zw_icmp_eq (pc := 1169) (tgt := 1174) dL_law_1169 rfl (fun _ => ?_) (fun q => absurd c21 q)
    refine zw_iload (pc := 1174) dL_law_1174 1 rfl ?_
    rcases zif H with ⟨c22, H⟩ | ⟨c22, H⟩
    · refine zw_if_ne (pc := 1176) (tgt := 1191) dL_law_1176 rfl (fun q => absurd c22 q) (fun _ => ?_)
      refine zw_aload_n (pc := 1179) dL_law_1179 rfl 5 rfl ?_
      refine zw_iconst (pc := 1180) (v := (0 : Int32)) dL_law_1180 (by decide) ?_
      obtain ⟨x23, e24, H⟩ := zbind H
      refine zy_lald (pc := 1181) dL_law_1181 e24 ?_
      refine zw_iload (pc := 1182) dL_law_1182 0 rfl ?_
      refine zw_i2l (pc := 1184) dL_law_1184 ?_
      refine zw_lcmp (pc := 1185) dL_law_1185 ?_
      rcases zif H with ⟨c25, H⟩ | ⟨c25, H⟩
      · refine zw_if_eq (pc := 1186) (tgt := 1191) dL_law_1186 rfl (fun _ => ?_) (fun q => absurd (lgc_eq.mpr c25) q)
        refine zw_goto (pc := 1191) (tgt := 3377) dL_law_1191 rfl ?_
        refine zw_iinc (pc := 3377) (v := (a5 + (6 : Int32))) (lv' := [(5, vI (a5 + (6 : Int32))), (7, vI x14), (6, vI x5), (0, vR a0), (1, vR a1), (2, vR a2), (3, vR a3), (4, vR a4)]) dL_law_3377 7 rfl rfl (by decide) rfl ?_
        refine zw_goto (pc := 3380) (tgt := 28) dL_law_3380 rfl ?_
        refine zW_pick (lv' := [(0, vR a0), (1, vR a1), (2, vR a2), (3, vR a3), (4, vR a4), (5, vI (a5 + (6 : Int32)))]) [3, 4, 5, 6, 7, 0] rfl ?_
        exact hk28 _ _ _ _ _ _ _ H
      · refine zw_if_eq (pc := 1186) (tgt := 1191) dL_law_1186 rfl (fun q => absurd q (fun q => c25 (lgc_eq.mp q))) (fun _ => ?_)
        refine zw_iconst (pc := 1189) (v := (0 : Int32)) dL_law_1189 (by decide) ?_
        obtain ⟨rfl, rfl⟩ := Prod.mk.inj (Option.some.inj H)
        exact zw_zret (pc := 1190) dL_law_1190 rfl rfl rfl rfl
    · refine zw_if_ne (pc := 1176) (tgt := 1191) dL_law_1176 rfl (fun _ => ?_) (fun q => absurd q c22)
      refine zw_goto (pc := 1191) (tgt := 3377) dL_law_1191 rfl ?_
      refine zw_iinc (pc := 3377) (v := (a5 + (6 : Int32))) (lv' := [(5, vI (a5 + (6 : Int32))), (7, vI x14), (6, vI x5), (0, vR a0), (1, vR a1), (2, vR a2), (3, vR a3), (4, vR a4)]) dL_law_3377 7 rfl rfl (by decide) rfl ?_
      refine zw_goto (pc := 3380) (tgt := 28) dL_law_3380 rfl ?_
      refine zW_pick (lv' := [(0, vR a0), (1, vR a1), (2, vR a2), (3, vR a3), (4, vR a4), (5, vI (a5 + (6 : Int32)))]) [3, 4, 5, 6, 7, 0] rfl ?_
      exact hk28 _ _ _ _ _ _ _ H
  · refine zw_icmp_eq (pc := 1169) (tgt := 1174) dL_law_1169 rfl (fun q => absurd q c21) (fun _ => ?_)
    refine zw_iconst (pc := 1172) (v := (0 : Int32)) dL_law_1172 (by decide) ?_
    obtain ⟨rfl, rfl⟩ := Prod.mk.inj (Option.some.inj H)
    exact zw_zret (pc := 1173) dL_law_1173 rfl rfl rfl rfl
def B_L_law_1194 (k28 : Option Nat → Option Nat → Option Nat → Option Nat → Option Nat → Int32 → zH → Option ((Int32 ⊕ Nat) × zH)) (a0 : Option Nat) (a1 : Option Nat) (a2 : Option Nat) (a3 : Option Nat) (a4 : Option Nat) (a5 : Int32) (h : zH) : Option ((Int32 ⊕ Nat) × zH) :=
  (zaI 50 a0 (a5 + (1 : Int32)) h).bind fun x1 =>
  (zaI 50 a0 (a5 + (2 : Int32)) h).bind fun x3 =>
  zb2 (f_X0_rowLength a1 x1 x3 a3 h) fun x7 h6 =>
  (zaI 50 a0 (a5 + (1 : Int32)) h6).bind fun x8 =>
  (zaI 50 a0 (a5 + (2 : Int32)) h6).bind fun x10 =>
  (zrv 4 a2 h6).bind fun b12 =>
  zb2 (f_X4_rowLength (some b12) x8 x10 h6) fun x18 h17 =>
  (zrv 4 a2 h17).bind fun b19 =>
  (f_X4_thrown (some b19) h17).bind fun x24 =>
  if x24 = x7 then
  if x7 = 0 then
  (zaJ a3 (0 : Int32) h17).bind fun x27 =>
  if x27 = x18.toInt64 then
  k28 a0 a1 a2 a3 a4 (a5 + (6 : Int32)) h17
  else
  some (.inl (0 : Int32), h17)
  else
  k28 a0 a1 a2 a3 a4 (a5 + (6 : Int32)) h17
  else
  some (.inl (0 : Int32), h17)
theorem wB_L_law_1194 {G : zG} {h0 h : zH} {vo : Int32 ⊕ Nat} {vh : zH} {k28 : Option Nat → Option Nat → Option Nat → Option Nat → Option Nat → Int32 → zH → Option ((Int32 ⊕ Nat) × zH)} (hk28 : ∀ (b0 : Option Nat) (b1 : Option Nat) (b2 : Option Nat) (b3 : Option Nat) (b4 : Option Nat) (b5 : Int32) (h' : zH), k28 b0 b1 b2 b3 b4 b5 h' = some (vo, vh) → zW G M_L_law 343 h0 (zoI vo) vh 28 [(0, vR b0), (1, vR b1), (2, vR b2), (3, vR b3), (4, vR b4), (5, vI b5)] [] h') {a0 : Option Nat} {a1 : Option Nat} {a2 : Option Nat} {a3 : Option Nat} {a4 : Option Nat} {a5 : Int32} (H : B_L_law_1194 k28 a0 a1 a2 a3 a4 a5 h = some (vo, vh)) : zW G M_L_law 343 h0 (zoI vo) vh 1194 [(0, vR a0), (1, vR a1), (2, vR a2), (3, vR a3), (4, vR a4), (5, vI a5)] [] h := by
  unfold B_L_law_1194 at H
  refine zw_aload_n (pc := 1194) dL_law_1194 rfl 1 rfl ?_
  refine zw_aload_n (pc := 1195) dL_law_1195 rfl 0 rfl ?_
  refine zw_iload (pc := 1196) dL_law_1196 5 rfl ?_
  refine zw_iconst (pc := 1198) (v := (1 : Int32)) dL_law_1198 (by decide) ?_
  refine zw_iadd (pc := 1199) dL_law_1199 ?_
  obtain ⟨x1, e2, H⟩ := zbind H
  refine zy_iald (pc := 1200) dL_law_1200 e2 ?_
  refine zw_aload_n (pc := 1201) dL_law_1201 rfl 0 rfl ?_
  refine zw_iload (pc := 1202) dL_law_1202 5 rfl ?_
  refine zw_iconst (pc := 1204) (v := (2 : Int32)) dL_law_1204 (by decide) ?_
  refine zw_iadd (pc := 1205) dL_law_1205 ?_
  obtain ⟨x3, e4, H⟩ := zbind H
  refine zy_iald (pc := 1206) dL_law_1206 e4 ?_
  refine zw_aload_n (pc := 1207) dL_law_1207 rfl 3 rfl ?_
  obtain ⟨x7, h6, e5, H⟩ := zbind2 H
  refine zw_invS (pc := 1208) (M' := M_X0_rowLength) (A := [vR a1, vI x1, vI x3, vR a3]) [] dL_law_1208 (Or.inl q1799) mf_X0_rowLength (w_X0_rowLength e5) (Nat.le_of_ble_eq_true rfl) rfl rfl (Nat.le_of_ble_eq_true rfl) (zkv ?_) zkn9
  refine zw_istore (pc := 1211) (lv' := [(6, vI x7), (0, vR a0), (1, vR a1), (2, vR a2), (3, vR a3), (4, vR a4), (5, vI a5)]) dL_law_1211 (by decide) rfl ?_
  refine zw_aload_n (pc := 1213) dL_law_1213 rfl 3 rfl ?_
  refine zw_aload_n (pc := 1214) dL_law_1214 rfl 1 rfl ?_
  refine zw_iload (pc := 1215) dL_law_1215 6 rfl ?_
  refine zw_iconst (pc := 1217) (v := (1 : Int32)) dL_law_1217 (by decide) ?_
  refine zw_iadd (pc := 1218) dL_law_1218 ?_
  obtain ⟨x8, e9, H⟩ := zbind H
  refine zy_iald (pc := 1219) dL_law_1219 e9 ?_
  refine zw_aload_n (pc := 1220) dL_law_1220 rfl 1 rfl ?_
  refine zw_iload (pc := 1221) dL_law_1221 6 rfl ?_
  refine zw_iconst (pc := 1223) (v := (2 : Int32)) dL_law_1223 (by decide) ?_
  refine zw_iadd (pc := 1224) dL_law_1224 ?_
  obtain ⟨x10, e11, H⟩ := zbind H
  refine zy_iald (pc := 1225) dL_law_1225 e11 ?_
  obtain ⟨b12, e14, H⟩ := zbind H
  obtain ⟨e13, e15⟩ := zrv_ok e14
  obtain ⟨x18, h17, e16, H⟩ := zbind2 H
  refine zw_invV (pc := 1226) (M' := M_X4_rowLength) (A := [vI x8, vI x10]) [] dL_law_1226 (Or.inl q2785) mf_X4_rowLength q2787 (zkq e15 rfl) (w_X4_rowLength e16) (Nat.le_of_ble_eq_true rfl) rfl (by rw [← e13]; rfl) (Nat.le_of_ble_eq_true rfl) (zkv ?_) zkn9
  refine zw_istore (pc := 1229) (lv' := [(7, vI x18), (6, vI x7), (0, vR a0), (1, vR a1), (2, vR a2), (3, vR a3), (4, vR a4), (5, vI a5)]) dL_law_1229 (by decide) rfl ?_
  refine zw_aload_n (pc := 1231) dL_law_1231 rfl 4 rfl ?_
  obtain ⟨b19, e21, H⟩ := zbind H
  obtain ⟨e20, e22⟩ := zrv_ok e21
  obtain ⟨x24, e23, H⟩ := zbind H
  refine zw_invV (pc := 1232) (M' := M_X4_thrown) (A := []) [] dL_law_1232 (Or.inl q2302) mf_X4_thrown q2304 (zkq e22 rfl) (w_X4_thrown e23) (Nat.le_of_ble_eq_true rfl) rfl (by rw [← e20]; rfl) (Nat.le_of_ble_eq_true rfl) (zkv ?_) zkn9
  refine zw_iload (pc := 1235) dL_law_1235 1 rfl ?_
  rcases zif H with ⟨c25, H⟩ | ⟨c25, H⟩
  · refine zw_icmp_eq (pc := 1237) (tgt := 1242) dL_law_1237 rfl (fun _ => ?_) (fun q => absurd c25 q)
    refine zw_iload (pc := 1242) dL_law_1242 1 rfl ?_
    rcases zif H with ⟨c26, H⟩ | ⟨c26, H⟩
    · refine zw_if_ne (pc := 1244) (tgt := 1259) dL_law_1244 rfl (fun q => absurd c26 q) (fun _ => ?_)
      refine zw_aload_n (pc := 1247) dL_law_1247 rfl 5 rfl ?_
      refine zw_iconst (pc := 1248) (v := (0 : Int32)) dL_law_1248 (by decide) ?_
      obtain ⟨x27, e28, H⟩ := zbind H
      refine zy_lald (pc := 1249) dL_law_1249 e28 ?_
      refine zw_iload (pc := 1250) dL_law_1250 0 rfl ?_
      refine zw_i2l (pc := 1252) dL_law_1252 ?_
      refine zw_lcmp (pc := 1253) dL_law_1253 ?_
      rcases zif H with ⟨c29, H⟩ | ⟨c29, H⟩
      · refine zw_if_eq (pc := 1254) (tgt := 1259) dL_law_1254 rfl (fun _ => ?_) (fun q => absurd (lgc_eq.mpr c29) q)
        refine zw_goto (pc := 1259) (tgt := 3377) dL_law_1259 rfl ?_
        refine zw_iinc (pc := 3377) (v := (a5 + (6 : Int32))) (lv' := [(5, vI (a5 + (6 : Int32))), (7, vI x18), (6, vI x7), (0, vR a0), (1, vR a1), (2, vR a2), (3, vR a3), (4, vR a4)]) dL_law_3377 7 rfl rfl (by decide) rfl ?_
        refine zw_goto (pc := 3380) (tgt := 28) dL_law_3380 rfl ?_
        refine zW_pick (lv' := [(0, vR a0), (1, vR a1), (2, vR a2), (3, vR a3), (4, vR a4), (5, vI (a5 + (6 : Int32)))]) [3, 4, 5, 6, 7, 0] rfl ?_
        exact hk28 _ _ _ _ _ _ _ H
      · refine zw_if_eq (pc := 1254) (tgt := 1259) dL_law_1254 rfl (fun q => absurd q (fun q => c29 (lgc_eq.mp q))) (fun _ => ?_)
        refine zw_iconst (pc := 1257) (v := (0 : Int32)) dL_law_1257 (by decide) ?_
        obtain ⟨rfl, rfl⟩ := Prod.mk.inj (Option.some.inj H)
        exact zw_zret (pc := 1258) dL_law_1258 rfl rfl rfl rfl
    · refine zw_if_ne (pc := 1244) (tgt := 1259) dL_law_1244 rfl (fun _ => ?_) (fun q => absurd q c26)
      refine zw_goto (pc := 1259) (tgt := 3377) dL_law_1259 rfl ?_
      refine zw_iinc (pc := 3377) (v := (a5 + (6 : Int32))) (lv' := [(5, vI (a5 + (6 : Int32))), (7, vI x18), (6, vI x7), (0, vR a0), (1, vR a1), (2, vR a2), (3, vR a3), (4, vR a4)]) dL_law_3377 7 rfl rfl (by decide) rfl ?_
      refine zw_goto (pc := 3380) (tgt := 28) dL_law_3380 rfl ?_
      refine zW_pick (lv' := [(0, vR a0), (1, vR a1), (2, vR a2), (3, vR a3), (4, vR a4), (5, vI (a5 + (6 : Int32)))]) [3, 4, 5, 6, 7, 0] rfl ?_
      exact hk28 _ _ _ _ _ _ _ H
  · refine zw_icmp_eq (pc := 1237) (tgt := 1242) dL_law_1237 rfl (fun q => absurd q c25) (fun _ => ?_)
    refine zw_iconst (pc := 1240) (v := (0 : Int32)) dL_law_1240 (by decide) ?_
    obtain ⟨rfl, rfl⟩ := Prod.mk.inj (Option.some.inj H)
    exact zw_zret (pc := 1241) dL_law_1241 rfl rfl rfl rfl
def B_L_law_1262 (k28 : Option Nat → Option Nat → Option Nat → Option Nat → Option Nat → Int32 → zH → Option ((Int32 ⊕ Nat) × zH)) (a0 : Option Nat) (a1 : Option Nat) (a2 : Option Nat) (a3 : Option Nat) (a4 : Option Nat) (a5 : Int32) (h : zH) : Option ((Int32 ⊕ Nat) × zH) :=
  (zaI 50 a0 (a5 + (1 : Int32)) h).bind fun x1 =>
  (zaI 50 a0 (a5 + (2 : Int32)) h).bind fun x3 =>
  zb2 (f_X0_columnLength a1 x1 x3 a3 h) fun x7 h6 =>
  (zaI 50 a0 (a5 + (1 : Int32)) h6).bind fun x8 =>
  (zaI 50 a0 (a5 + (2 : Int32)) h6).bind fun x10 =>
  (zrv 4 a2 h6).bind fun b12 =>
  zb2 (f_X4_columnLength (some b12) x8 x10 h6) fun x18 h17 =>
  (zrv 4 a2 h17).bind fun b19 =>
  (f_X4_thrown (some b19) h17).bind fun x24 =>
  if x24 = x7 then
  if x7 = 0 then
  (zaJ a3 (0 : Int32) h17).bind fun x27 =>
  if x27 = x18.toInt64 then
  k28 a0 a1 a2 a3 a4 (a5 + (6 : Int32)) h17
  else
  some (.inl (0 : Int32), h17)
  else
  k28 a0 a1 a2 a3 a4 (a5 + (6 : Int32)) h17
  else
  some (.inl (0 : Int32), h17)
theorem wB_L_law_1262 {G : zG} {h0 h : zH} {vo : Int32 ⊕ Nat} {vh : zH} {k28 : Option Nat → Option Nat → Option Nat → Option Nat → Option Nat → Int32 → zH → Option ((Int32 ⊕ Nat) × zH)} (hk28 : ∀ (b0 : Option Nat) (b1 : Option Nat) (b2 : Option Nat) (b3 : Option Nat) (b4 : Option Nat) (b5 : Int32) (h' : zH), k28 b0 b1 b2 b3 b4 b5 h' = some (vo, vh) → zW G M_L_law 343 h0 (zoI vo) vh 28 [(0, vR b0), (1, vR b1), (2, vR b2), (3, vR b3), (4, vR b4), (5, vI b5)] [] h') {a0 : Option Nat} {a1 : Option Nat} {a2 : Option Nat} {a3 : Option Nat} {a4 : Option Nat} {a5 : Int32} (H : B_L_law_1262 k28 a0 a1 a2 a3 a4 a5 h = some (vo, vh)) : zW G M_L_law 343 h0 (zoI vo) vh 1262 [(0, vR a0), (1, vR a1), (2, vR a2), (3, vR a3), (4, vR a4), (5, vI a5)] [] h := by
  unfold B_L_law_1262 at H
  refine zw_aload_n (pc := 1262) dL_law_1262 rfl 1 rfl ?_
  refine zw_aload_n (pc := 1263) dL_law_1263 rfl 0 rfl ?_
  refine zw_iload (pc := 1264) dL_law_1264 5 rfl ?_
  refine zw_iconst (pc := 1266) (v := (1 : Int32)) dL_law_1266 (by decide) ?_
  refine zw_iadd (pc := 1267) dL_law_1267 ?_
  obtain ⟨x1, e2, H⟩ := zbind H
  refine zy_iald (pc := 1268) dL_law_1268 e2 ?_
  refine zw_aload_n (pc := 1269) dL_law_1269 rfl 0 rfl ?_
  refine zw_iload (pc := 1270) dL_law_1270 5 rfl ?_
  refine zw_iconst (pc := 1272) (v := (2 : Int32)) dL_law_1272 (by decide) ?_
  refine zw_iadd (pc := 1273) dL_law_1273 ?_
  obtain ⟨x3, e4, H⟩ := zbind H
  refine zy_iald (pc := 1274) dL_law_1274 e4 ?_
  refine zw_aload_n (pc := 1275) dL_law_1275 rfl 3 rfl ?_
  obtain ⟨x7, h6, e5, H⟩ := zbind2 H
  refine zw_invS (pc := 1276) (M' := M_X0_columnLength) (A := [vR a1, vI x1, vI x3, vR a3]) [] dL_law_1276 (Or.inl q1806) mf_X0_columnLength (w_X0_columnLength e5) (Nat.le_of_ble_eq_true rfl) rfl rfl (Nat.le_of_ble_eq_true rfl) (zkv ?_) zkn9
  refine zw_istore (pc := 1279) (lv' := [(6, vI x7), (0, vR a0), (1, vR a1), (2, vR a2), (3, vR a3), (4, vR a4), (5, vI a5)]) dL_law_1279 (by decide) rfl ?_
  refine zw_aload_n (pc := 1281) dL_law_1281 rfl 3 rfl ?_
  refine zw_aload_n (pc := 1282) dL_law_1282 rfl 1 rfl ?_
  refine zw_iload (pc := 1283) dL_law_1283 6 rfl ?_
  refine zw_iconst (pc := 1285) (v := (1 : Int32)) dL_law_1285 (by decide) ?_
  refine zw_iadd (pc := 1286) dL_law_1286 ?_
  obtain ⟨x8, e9, H⟩ := zbind H
  refine zy_iald (pc := 1287) dL_law_1287 e9 ?_
  refine zw_aload_n (pc := 1288) dL_law_1288 rfl 1 rfl ?_
  refine zw_iload (pc := 1289) dL_law_1289 6 rfl ?_
  refine zw_iconst (pc := 1291) (v := (2 : Int32)) dL_law_1291 (by decide) ?_
  refine zw_iadd (pc := 1292) dL_law_1292 ?_
  obtain ⟨x10, e11, H⟩ := zbind H
  refine zy_iald (pc := 1293) dL_law_1293 e11 ?_
  obtain ⟨b12, e14, H⟩ := zbind H
  obtain ⟨e13, e15⟩ := zrv_ok e14
  obtain ⟨x18, h17, e16, H⟩ := zbind2 H
  refine zw_invV (pc := 1294) (M' := M_X4_columnLength) (A := [vI x8, vI x10]) [] dL_law_1294 (Or.inl q2789) mf_X4_columnLength q2791 (zkq e15 rfl) (w_X4_columnLength e16) (Nat.le_of_ble_eq_true rfl) rfl (by rw [← e13]; rfl) (Nat.le_of_ble_eq_true rfl) (zkv ?_) zkn9
  refine zw_istore (pc := 1297) (lv' := [(7, vI x18), (6, vI x7), (0, vR a0), (1, vR a1), (2, vR a2), (3, vR a3), (4, vR a4), (5, vI a5)]) dL_law_1297 (by decide) rfl ?_
  refine zw_aload_n (pc := 1299) dL_law_1299 rfl 4 rfl ?_
  obtain ⟨b19, e21, H⟩ := zbind H
  obtain ⟨e20, e22⟩ := zrv_ok e21
  obtain ⟨x24, e23, H⟩ := zbind H
  refine zw_invV (pc := 1300) (M' := M_X4_thrown) (A := []) [] dL_law_1300 (Or.inl q2302) mf_X4_thrown q2304 (zkq e22 rfl) (w_X4_thrown e23) (Nat.le_of_ble_eq_true rfl) rfl (by rw [← e20]; rfl) (Nat.le_of_ble_eq_true rfl) (zkv ?_) zkn9
  refine zw_iload (pc := 1303) dL_law_1303 1 rfl ?_
  rcases zif H with ⟨c25, H⟩ | ⟨c25, H⟩
  · refine zw_icmp_eq (pc := 1305) (tgt := 1310) dL_law_1305 rfl (fun _ => ?_) (fun q => absurd c25 q)
    refine zw_iload (pc := 1310) dL_law_1310 1 rfl ?_
    rcases zif H with ⟨c26, H⟩ | ⟨c26, H⟩
    · refine zw_if_ne (pc := 1312) (tgt := 1327) dL_law_1312 rfl (fun q => absurd c26 q) (fun _ => ?_)
      refine zw_aload_n (pc := 1315) dL_law_1315 rfl 5 rfl ?_
      refine zw_iconst (pc := 1316) (v := (0 : Int32)) dL_law_1316 (by decide) ?_
      obtain ⟨x27, e28, H⟩ := zbind H
      refine zy_lald (pc := 1317) dL_law_1317 e28 ?_
      refine zw_iload (pc := 1318) dL_law_1318 0 rfl ?_
      refine zw_i2l (pc := 1320) dL_law_1320 ?_
      refine zw_lcmp (pc := 1321) dL_law_1321 ?_
      rcases zif H with ⟨c29, H⟩ | ⟨c29, H⟩
      · refine zw_if_eq (pc := 1322) (tgt := 1327) dL_law_1322 rfl (fun _ => ?_) (fun q => absurd (lgc_eq.mpr c29) q)
        refine zw_goto (pc := 1327) (tgt := 3377) dL_law_1327 rfl ?_
        refine zw_iinc (pc := 3377) (v := (a5 + (6 : Int32))) (lv' := [(5, vI (a5 + (6 : Int32))), (7, vI x18), (6, vI x7), (0, vR a0), (1, vR a1), (2, vR a2), (3, vR a3), (4, vR a4)]) dL_law_3377 7 rfl rfl (by decide) rfl ?_
        refine zw_goto (pc := 3380) (tgt := 28) dL_law_3380 rfl ?_
        refine zW_pick (lv' := [(0, vR a0), (1, vR a1), (2, vR a2), (3, vR a3), (4, vR a4), (5, vI (a5 + (6 : Int32)))]) [3, 4, 5, 6, 7, 0] rfl ?_
        exact hk28 _ _ _ _ _ _ _ H
      · refine zw_if_eq (pc := 1322) (tgt := 1327) dL_law_1322 rfl (fun q => absurd q (fun q => c29 (lgc_eq.mp q))) (fun _ => ?_)
        refine zw_iconst (pc := 1325) (v := (0 : Int32)) dL_law_1325 (by decide) ?_
        obtain ⟨rfl, rfl⟩ := Prod.mk.inj (Option.some.inj H)
        exact zw_zret (pc := 1326) dL_law_1326 rfl rfl rfl rfl
    · refine zw_if_ne (pc := 1312) (tgt := 1327) dL_law_1312 rfl (fun _ => ?_) (fun q => absurd q c26)
      refine zw_goto (pc := 1327) (tgt := 3377) dL_law_1327 rfl ?_
      refine zw_iinc (pc := 3377) (v := (a5 + (6 : Int32))) (lv' := [(5, vI (a5 + (6 : Int32))), (7, vI x18), (6, vI x7), (0, vR a0), (1, vR a1), (2, vR a2), (3, vR a3), (4, vR a4)]) dL_law_3377 7 rfl rfl (by decide) rfl ?_
      refine zw_goto (pc := 3380) (tgt := 28) dL_law_3380 rfl ?_
      refine zW_pick (lv' := [(0, vR a0), (1, vR a1), (2, vR a2), (3, vR a3), (4, vR a4), (5, vI (a5 + (6 : Int32)))]) [3, 4, 5, 6, 7, 0] rfl ?_
      exact hk28 _ _ _ _ _ _ _ H
  · refine zw_icmp_eq (pc := 1305) (tgt := 1310) dL_law_1305 rfl (fun q => absurd q c25) (fun _ => ?_)
    refine zw_iconst (pc := 1308) (v := (0 : Int32)) dL_law_1308 (by decide) ?_
    obtain ⟨rfl, rfl⟩ := Prod.mk.inj (Option.some.inj H)
    exact zw_zret (pc := 1309) dL_law_1309 rfl rfl rfl rfl
def B_L_law_1330 (k28 : Option Nat → Option Nat → Option Nat → Option Nat → Option Nat → Int32 → zH → Option ((Int32 ⊕ Nat) × zH)) (a0 : Option Nat) (a1 : Option Nat) (a2 : Option Nat) (a3 : Option Nat) (a4 : Option Nat) (a5 : Int32) (h : zH) : Option ((Int32 ⊕ Nat) × zH) :=
  (zaI 50 a0 (a5 + (1 : Int32)) h).bind fun x1 =>
  zb2 (f_X0_longestRow a1 x1 a3 h) fun x5 h4 =>
  (zaI 50 a0 (a5 + (1 : Int32)) h4).bind fun x6 =>
  (zrv 4 a2 h4).bind fun b8 =>
  zb2 (f_X4_longestRow (some b8) x6 h4) fun x14 h13 =>
  (zrv 4 a2 h13).bind fun b15 =>
  (f_X4_thrown (some b15) h13).bind fun x20 =>
  if x20 = x5 then
  if x5 = 0 then
  (zaJ a3 (0 : Int32) h13).bind fun x23 =>
  if x23 = x14.toInt64 then
  k28 a0 a1 a2 a3 a4 (a5 + (6 : Int32)) h13
  else
  some (.inl (0 : Int32), h13)
  else
  k28 a0 a1 a2 a3 a4 (a5 + (6 : Int32)) h13
  else
  some (.inl (0 : Int32), h13)
theorem wB_L_law_1330 {G : zG} {h0 h : zH} {vo : Int32 ⊕ Nat} {vh : zH} {k28 : Option Nat → Option Nat → Option Nat → Option Nat → Option Nat → Int32 → zH → Option ((Int32 ⊕ Nat) × zH)} (hk28 : ∀ (b0 : Option Nat) (b1 : Option Nat) (b2 : Option Nat) (b3 : Option Nat) (b4 : Option Nat) (b5 : Int32) (h' : zH), k28 b0 b1 b2 b3 b4 b5 h' = some (vo, vh) → zW G M_L_law 343 h0 (zoI vo) vh 28 [(0, vR b0), (1, vR b1), (2, vR b2), (3, vR b3), (4, vR b4), (5, vI b5)] [] h') {a0 : Option Nat} {a1 : Option Nat} {a2 : Option Nat} {a3 : Option Nat} {a4 : Option Nat} {a5 : Int32} (H : B_L_law_1330 k28 a0 a1 a2 a3 a4 a5 h = some (vo, vh)) : zW G M_L_law 343 h0 (zoI vo) vh 1330 [(0, vR a0), (1, vR a1), (2, vR a2), (3, vR a3), (4, vR a4), (5, vI a5)] [] h := by
  unfold B_L_law_1330 at H
  refine zw_aload_n (pc := 1330) dL_law_1330 rfl 1 rfl ?_
  refine zw_aload_n (pc := 1331) dL_law_1331 rfl 0 rfl ?_
  refine zw_iload (pc := 1332) dL_law_1332 5 rfl ?_
  refine zw_iconst (pc := 1334) (v := (1 : Int32)) dL_law_1334 (by decide) ?_
  refine zw_iadd (pc := 1335) dL_law_1335 ?_
  obtain ⟨x1, e2, H⟩ := zbind H
  refine zy_iald (pc := 1336) dL_law_1336 e2 ?_
  refine zw_aload_n (pc := 1337) dL_law_1337 rfl 3 rfl ?_
  obtain ⟨x5, h4, e3, H⟩ := zbind2 H
  refine zw_invS (pc := 1338) (M' := M_X0_longestRow) (A := [vR a1, vI x1, vR a3]) [] dL_law_1338 (Or.inl q1817) mf_X0_longestRow (w_X0_longestRow e3) (Nat.le_of_ble_eq_true rfl) rfl rfl (Nat.le_of_ble_eq_true rfl) (zkv ?_) zkn9
  refine zw_istore (pc := 1341) (lv' := [(6, vI x5), (0, vR a0), (1, vR a1), (2, vR a2), (3, vR a3), (4, vR a4), (5, vI a5)]) dL_law_1341 (by decide) rfl ?_
  refine zw_aload_n (pc := 1343) dL_law_1343 rfl 3 rfl ?_
  refine zw_aload_n (pc := 1344) dL_law_1344 rfl 1 rfl ?_
  refine zw_iload (pc := 1345) dL_law_1345 6 rfl ?_
  refine zw_iconst (pc := 1347) (v := (1 : Int32)) dL_law_1347 (by decide) ?_
  refine zw_iadd (pc := 1348) dL_law_1348 ?_
  obtain ⟨x6, e7, H⟩ := zbind H
  refine zy_iald (pc := 1349) dL_law_1349 e7 ?_
  obtain ⟨b8, e10, H⟩ := zbind H
  obtain ⟨e9, e11⟩ := zrv_ok e10
  obtain ⟨x14, h13, e12, H⟩ := zbind2 H
  refine zw_invV (pc := 1350) (M' := M_X4_longestRow) (A := [vI x6]) [] dL_law_1350 (Or.inl q2797) mf_X4_longestRow q2799 (zkq e11 rfl) (w_X4_longestRow e12) (Nat.le_of_ble_eq_true rfl) rfl (by rw [← e9]; rfl) (Nat.le_of_ble_eq_true rfl) (zkv ?_) zkn9
  refine zw_istore (pc := 1353) (lv' := [(7, vI x14), (6, vI x5), (0, vR a0), (1, vR a1), (2, vR a2), (3, vR a3), (4, vR a4), (5, vI a5)]) dL_law_1353 (by decide) rfl ?_
  refine zw_aload_n (pc := 1355) dL_law_1355 rfl 4 rfl ?_
  obtain ⟨b15, e17, H⟩ := zbind H
  obtain ⟨e16, e18⟩ := zrv_ok e17
  obtain ⟨x20, e19, H⟩ := zbind H
  refine zw_invV (pc := 1356) (M' := M_X4_thrown) (A := []) [] dL_law_1356 (Or.inl q2302) mf_X4_thrown q2304 (zkq e18 rfl) (w_X4_thrown e19) (Nat.le_of_ble_eq_true rfl) rfl (by rw [← e16]; rfl) (Nat.le_of_ble_eq_true rfl) (zkv ?_) zkn9
  refine zw_iload (pc := 1359) dL_law_1359 1 rfl ?_
  rcases zif H with ⟨c21, H⟩ | ⟨c21, H⟩
  · refine zw_icmp_eq (pc := 1361) (tgt := 1366) dL_law_1361 rfl (fun _ => ?_) (fun q => absurd c21 q)
    refine zw_iload (pc := 1366) dL_law_1366 1 rfl ?_
    rcases zif H with ⟨c22, H⟩ | ⟨c22, H⟩
    · refine zw_if_ne (pc := 1368) (tgt := 1383) dL_law_1368 rfl (fun q => absurd c22 q) (fun _ => ?_)
      refine zw_aload_n (pc := 1371) dL_law_1371 rfl 5 rfl ?_
      refine zw_iconst (pc := 1372) (v := (0 : Int32)) dL_law_1372 (by decide) ?_
      obtain ⟨x23, e24, H⟩ := zbind H
      refine zy_lald (pc := 1373) dL_law_1373 e24 ?_
      refine zw_iload (pc := 1374) dL_law_1374 0 rfl ?_
      refine zw_i2l (pc := 1376) dL_law_1376 ?_
      refine zw_lcmp (pc := 1377) dL_law_1377 ?_
      rcases zif H with ⟨c25, H⟩ | ⟨c25, H⟩
      · refine zw_if_eq (pc := 1378) (tgt := 1383) dL_law_1378 rfl (fun _ => ?_) (fun q => absurd (lgc_eq.mpr c25) q)
        refine zw_goto (pc := 1383) (tgt := 3377) dL_law_1383 rfl ?_
        refine zw_iinc (pc := 3377) (v := (a5 + (6 : Int32))) (lv' := [(5, vI (a5 + (6 : Int32))), (7, vI x14), (6, vI x5), (0, vR a0), (1, vR a1), (2, vR a2), (3, vR a3), (4, vR a4)]) dL_law_3377 7 rfl rfl (by decide) rfl ?_
        refine zw_goto (pc := 3380) (tgt := 28) dL_law_3380 rfl ?_
        refine zW_pick (lv' := [(0, vR a0), (1, vR a1), (2, vR a2), (3, vR a3), (4, vR a4), (5, vI (a5 + (6 : Int32)))]) [3, 4, 5, 6, 7, 0] rfl ?_
        exact hk28 _ _ _ _ _ _ _ H
      · refine zw_if_eq (pc := 1378) (tgt := 1383) dL_law_1378 rfl (fun q => absurd q (fun q => c25 (lgc_eq.mp q))) (fun _ => ?_)
        refine zw_iconst (pc := 1381) (v := (0 : Int32)) dL_law_1381 (by decide) ?_
        obtain ⟨rfl, rfl⟩ := Prod.mk.inj (Option.some.inj H)
        exact zw_zret (pc := 1382) dL_law_1382 rfl rfl rfl rfl
    · refine zw_if_ne (pc := 1368) (tgt := 1383) dL_law_1368 rfl (fun _ => ?_) (fun q => absurd q c22)
      refine zw_goto (pc := 1383) (tgt := 3377) dL_law_1383 rfl ?_
      refine zw_iinc (pc := 3377) (v := (a5 + (6 : Int32))) (lv' := [(5, vI (a5 + (6 : Int32))), (7, vI x14), (6, vI x5), (0, vR a0), (1, vR a1), (2, vR a2), (3, vR a3), (4, vR a4)]) dL_law_3377 7 rfl rfl (by decide) rfl ?_
      refine zw_goto (pc := 3380) (tgt := 28) dL_law_3380 rfl ?_
      refine zW_pick (lv' := [(0, vR a0), (1, vR a1), (2, vR a2), (3, vR a3), (4, vR a4), (5, vI (a5 + (6 : Int32)))]) [3, 4, 5, 6, 7, 0] rfl ?_
      exact hk28 _ _ _ _ _ _ _ H
  · refine zw_icmp_eq (pc := 1361) (tgt := 1366) dL_law_1361 rfl (fun q => absurd q c21) (fun _ => ?_)
    refine zw_iconst (pc := 1364) (v := (0 : Int32)) dL_law_1364 (by decide) ?_
    obtain ⟨rfl, rfl⟩ := Prod.mk.inj (Option.some.inj H)
    exact zw_zret (pc := 1365) dL_law_1365 rfl rfl rfl rfl
def B_L_law_1386 (k28 : Option Nat → Option Nat → Option Nat → Option Nat → Option Nat → Int32 → zH → Option ((Int32 ⊕ Nat) × zH)) (a0 : Option Nat) (a1 : Option Nat) (a2 : Option Nat) (a3 : Option Nat) (a4 : Option Nat) (a5 : Int32) (h : zH) : Option ((Int32 ⊕ Nat) × zH) :=
  (zaI 50 a0 (a5 + (1 : Int32)) h).bind fun x1 =>
  zb2 (f_X0_emptyRows a1 x1 a3 h) fun x5 h4 =>
  (zaI 50 a0 (a5 + (1 : Int32)) h4).bind fun x6 =>
  (zrv 4 a2 h4).bind fun b8 =>
  zb2 (f_X4_emptyRows (some b8) x6 h4) fun x14 h13 =>
  (zrv 4 a2 h13).bind fun b15 =>
  (f_X4_thrown (some b15) h13).bind fun x20 =>
  if x20 = x5 then
  if x5 = 0 then
  (zaJ a3 (0 : Int32) h13).bind fun x23 =>
  if x23 = x14.toInt64 then
  k28 a0 a1 a2 a3 a4 (a5 + (6 : Int32)) h13
  else
  some (.inl (0 : Int32), h13)
  else
  k28 a0 a1 a2 a3 a4 (a5 + (6 : Int32)) h13
  else
  some (.inl (0 : Int32), h13)
theorem wB_L_law_1386 {G : zG} {h0 h : zH} {vo : Int32 ⊕ Nat} {vh : zH} {k28 : Option Nat → Option Nat → Option Nat → Option Nat → Option Nat → Int32 → zH → Option ((Int32 ⊕ Nat) × zH)} (hk28 : ∀ (b0 : Option Nat) (b1 : Option Nat) (b2 : Option Nat) (b3 : Option Nat) (b4 : Option Nat) (b5 : Int32) (h' : zH), k28 b0 b1 b2 b3 b4 b5 h' = some (vo, vh) → zW G M_L_law 343 h0 (zoI vo) vh 28 [(0, vR b0), (1, vR b1), (2, vR b2), (3, vR b3), (4, vR b4), (5, vI b5)] [] h') {a0 : Option Nat} {a1 : Option Nat} {a2 : Option Nat} {a3 : Option Nat} {a4 : Option Nat} {a5 : Int32} (H : B_L_law_1386 k28 a0 a1 a2 a3 a4 a5 h = some (vo, vh)) : zW G M_L_law 343 h0 (zoI vo) vh 1386 [(0, vR a0), (1, vR a1), (2, vR a2), (3, vR a3), (4, vR a4), (5, vI a5)] [] h := by
  unfold B_L_law_1386 at H
  refine zw_aload_n (pc := 1386) dL_law_1386 rfl 1 rfl ?_
  refine zw_aload_n (pc := 1387) dL_law_1387 rfl 0 rfl ?_
  refine zw_iload (pc := 1388) dL_law_1388 5 rfl ?_
  refine zw_iconst (pc := 1390) (v := (1 : Int32)) dL_law_1390 (by decide) ?_
  refine zw_iadd (pc := 1391) dL_law_1391 ?_
  obtain ⟨x1, e2, H⟩ := zbind H
  refine zy_iald (pc := 1392) dL_law_1392 e2 ?_
  refine zw_aload_n (pc := 1393) dL_law_1393 rfl 3 rfl ?_
  obtain ⟨x5, h4, e3, H⟩ := zbind2 H
  refine zw_invS (pc := 1394) (M' := M_X0_emptyRows) (A := [vR a1, vI x1, vR a3]) [] dL_law_1394 (Or.inl q1824) mf_X0_emptyRows (w_X0_emptyRows e3) (Nat.le_of_ble_eq_true rfl) rfl rfl (Nat.le_of_ble_eq_true rfl) (zkv ?_) zkn9
  refine zw_istore (pc := 1397) (lv' := [(6, vI x5), (0, vR a0), (1, vR a1), (2, vR a2), (3, vR a3), (4, vR a4), (5, vI a5)]) dL_law_1397 (by decide) rfl ?_
  refine zw_aload_n (pc := 1399) dL_law_1399 rfl 3 rfl ?_
  refine zw_aload_n (pc := 1400) dL_law_1400 rfl 1 rfl ?_
  refine zw_iload (pc := 1401) dL_law_1401 6 rfl ?_
  refine zw_iconst (pc := 1403) (v := (1 : Int32)) dL_law_1403 (by decide) ?_
  refine zw_iadd (pc := 1404) dL_law_1404 ?_
  obtain ⟨x6, e7, H⟩ := zbind H
  refine zy_iald (pc := 1405) dL_law_1405 e7 ?_
  obtain ⟨b8, e10, H⟩ := zbind H
  obtain ⟨e9, e11⟩ := zrv_ok e10
  obtain ⟨x14, h13, e12, H⟩ := zbind2 H
  refine zw_invV (pc := 1406) (M' := M_X4_emptyRows) (A := [vI x6]) [] dL_law_1406 (Or.inl q2805) mf_X4_emptyRows q2807 (zkq e11 rfl) (w_X4_emptyRows e12) (Nat.le_of_ble_eq_true rfl) rfl (by rw [← e9]; rfl) (Nat.le_of_ble_eq_true rfl) (zkv ?_) zkn9
  refine zw_istore (pc := 1409) (lv' := [(7, vI x14), (6, vI x5), (0, vR a0), (1, vR a1), (2, vR a2), (3, vR a3), (4, vR a4), (5, vI a5)]) dL_law_1409 (by decide) rfl ?_
  refine zw_aload_n (pc := 1411) dL_law_1411 rfl 4 rfl ?_
  obtain ⟨b15, e17, H⟩ := zbind H
  obtain ⟨e16, e18⟩ := zrv_ok e17
  obtain ⟨x20, e19, H⟩ := zbind H
  refine zw_invV (pc := 1412) (M' := M_X4_thrown) (A := []) [] dL_law_1412 (Or.inl q2302) mf_X4_thrown q2304 (zkq e18 rfl) (w_X4_thrown e19) (Nat.le_of_ble_eq_true rfl) rfl (by rw [← e16]; rfl) (Nat.le_of_ble_eq_true rfl) (zkv ?_) zkn9
  refine zw_iload (pc := 1415) dL_law_1415 1 rfl ?_
  rcases zif H with ⟨c21, H⟩ | ⟨c21, H⟩
  · refine zw_icmp_eq (pc := 1417) (tgt := 1422) dL_law_1417 rfl (fun _ => ?_) (fun q => absurd c21 q)
    refine zw_iload (pc := 1422) dL_law_1422 1 rfl ?_
    rcases zif H with ⟨c22, H⟩ | ⟨c22, H⟩
    · refine zw_if_ne (pc := 1424) (tgt := 1439) dL_law_1424 rfl (fun q => absurd c22 q) (fun _ => ?_)
      refine zw_aload_n (pc := 1427) dL_law_1427 rfl 5 rfl ?_
      refine zw_iconst (pc := 1428) (v := (0 : Int32)) dL_law_1428 (by decide) ?_
      obtain ⟨x23, e24, H⟩ := zbind H
      refine zy_lald (pc := 1429) dL_law_1429 e24 ?_
      refine zw_iload (pc := 1430) dL_law_1430 0 rfl ?_
      refine zw_i2l (pc := 1432) dL_law_1432 ?_
      refine zw_lcmp (pc := 1433) dL_law_1433 ?_
      rcases zif H with ⟨c25, H⟩ | ⟨c25, H⟩
      · refine zw_if_eq (pc := 1434) (tgt := 1439) dL_law_1434 rfl (fun _ => ?_) (fun q => absurd (lgc_eq.mpr c25) q)
        refine zw_goto (pc := 1439) (tgt := 3377) dL_law_1439 rfl ?_
        refine zw_iinc (pc := 3377) (v := (a5 + (6 : Int32))) (lv' := [(5, vI (a5 + (6 : Int32))), (7, vI x14), (6, vI x5), (0, vR a0), (1, vR a1), (2, vR a2), (3, vR a3), (4, vR a4)]) dL_law_3377 7 rfl rfl (by decide) rfl ?_
        refine zw_goto (pc := 3380) (tgt := 28) dL_law_3380 rfl ?_
        refine zW_pick (lv' := [(0, vR a0), (1, vR a1), (2, vR a2), (3, vR a3), (4, vR a4), (5, vI (a5 + (6 : Int32)))]) [3, 4, 5, 6, 7, 0] rfl ?_
        exact hk28 _ _ _ _ _ _ _ H
      · refine zw_if_eq (pc := 1434) (tgt := 1439) dL_law_1434 rfl (fun q => absurd q (fun q => c25 (lgc_eq.mp q))) (fun _ => ?_)
        refine zw_iconst (pc := 1437) (v := (0 : Int32)) dL_law_1437 (by decide) ?_
        obtain ⟨rfl, rfl⟩ := Prod.mk.inj (Option.some.inj H)
        exact zw_zret (pc := 1438) dL_law_1438 rfl rfl rfl rfl
    · refine zw_if_ne (pc := 1424) (tgt := 1439) dL_law_1424 rfl (fun _ => ?_) (fun q => absurd q c22)
      refine zw_goto (pc := 1439) (tgt := 3377) dL_law_1439 rfl ?_
      refine zw_iinc (pc := 3377) (v := (a5 + (6 : Int32))) (lv' := [(5, vI (a5 + (6 : Int32))), (7, vI x14), (6, vI x5), (0, vR a0), (1, vR a1), (2, vR a2), (3, vR a3), (4, vR a4)]) dL_law_3377 7 rfl rfl (by decide) rfl ?_
      refine zw_goto (pc := 3380) (tgt := 28) dL_law_3380 rfl ?_
      refine zW_pick (lv' := [(0, vR a0), (1, vR a1), (2, vR a2), (3, vR a3), (4, vR a4), (5, vI (a5 + (6 : Int32)))]) [3, 4, 5, 6, 7, 0] rfl ?_
      exact hk28 _ _ _ _ _ _ _ H
  · refine zw_icmp_eq (pc := 1417) (tgt := 1422) dL_law_1417 rfl (fun q => absurd q c21) (fun _ => ?_)
    refine zw_iconst (pc := 1420) (v := (0 : Int32)) dL_law_1420 (by decide) ?_
    obtain ⟨rfl, rfl⟩ := Prod.mk.inj (Option.some.inj H)
    exact zw_zret (pc := 1421) dL_law_1421 rfl rfl rfl rfl
def B_L_law_1442 (k28 : Option Nat → Option Nat → Option Nat → Option Nat → Option Nat → Int32 → zH → Option ((Int32 ⊕ Nat) × zH)) (a0 : Option Nat) (a1 : Option Nat) (a2 : Option Nat) (a3 : Option Nat) (a4 : Option Nat) (a5 : Int32) (h : zH) : Option ((Int32 ⊕ Nat) × zH) :=
  (zaI 50 a0 (a5 + (1 : Int32)) h).bind fun x1 =>
  zb2 (f_X0_bandwidth a1 x1 a3 h) fun x5 h4 =>
  (zaI 50 a0 (a5 + (1 : Int32)) h4).bind fun x6 =>
  (zrv 4 a2 h4).bind fun b8 =>
  zb2 (f_X4_bandwidth (some b8) x6 h4) fun x14 h13 =>
  (zrv 4 a2 h13).bind fun b15 =>
  (f_X4_thrown (some b15) h13).bind fun x20 =>
  if x20 = x5 then
  if x5 = 0 then
  (zaJ a3 (0 : Int32) h13).bind fun x23 =>
  if x23 = x14.toInt64 then
  k28 a0 a1 a2 a3 a4 (a5 + (6 : Int32)) h13
  else
  some (.inl (0 : Int32), h13)
  else
  k28 a0 a1 a2 a3 a4 (a5 + (6 : Int32)) h13
  else
  some (.inl (0 : Int32), h13)
theorem wB_L_law_1442 {G : zG} {h0 h : zH} {vo : Int32 ⊕ Nat} {vh : zH} {k28 : Option Nat → Option Nat → Option Nat → Option Nat → Option Nat → Int32 → zH → Option ((Int32 ⊕ Nat) × zH)} (hk28 : ∀ (b0 : Option Nat) (b1 : Option Nat) (b2 : Option Nat) (b3 : Option Nat) (b4 : Option Nat) (b5 : Int32) (h' : zH), k28 b0 b1 b2 b3 b4 b5 h' = some (vo, vh) → zW G M_L_law 343 h0 (zoI vo) vh 28 [(0, vR b0), (1, vR b1), (2, vR b2), (3, vR b3), (4, vR b4), (5, vI b5)] [] h') {a0 : Option Nat} {a1 : Option Nat} {a2 : Option Nat} {a3 : Option Nat} {a4 : Option Nat} {a5 : Int32} (H : B_L_law_1442 k28 a0 a1 a2 a3 a4 a5 h = some (vo, vh)) : zW G M_L_law 343 h0 (zoI vo) vh 1442 [(0, vR a0), (1, vR a1), (2, vR a2), (3, vR a3), (4, vR a4), (5, vI a5)] [] h := by
  unfold B_L_law_1442 at H
  refine zw_aload_n (pc := 1442) dL_law_1442 rfl 1 rfl ?_
  refine zw_aload_n (pc := 1443) dL_law_1443 rfl 0 rfl ?_
  refine zw_iload (pc := 1444) dL_law_1444 5 rfl ?_
  refine zw_iconst (pc := 1446) (v := (1 : Int32)) dL_law_1446 (by decide) ?_
  refine zw_iadd (pc := 1447) dL_law_1447 ?_
  obtain ⟨x1, e2, H⟩ := zbind H
  refine zy_iald (pc := 1448) dL_law_1448 e2 ?_
  refine zw_aload_n (pc := 1449) dL_law_1449 rfl 3 rfl ?_
  obtain ⟨x5, h4, e3, H⟩ := zbind2 H
  refine zw_invS (pc := 1450) (M' := M_X0_bandwidth) (A := [vR a1, vI x1, vR a3]) [] dL_law_1450 (Or.inl q1831) mf_X0_bandwidth (w_X0_bandwidth e3) (Nat.le_of_ble_eq_true rfl) rfl rfl (Nat.le_of_ble_eq_true rfl) (zkv ?_) zkn9
  refine zw_istore (pc := 1453) (lv' := [(6, vI x5), (0, vR a0), (1, vR a1), (2, vR a2), (3, vR a3), (4, vR a4), (5, vI a5)]) dL_law_1453 (by decide) rfl ?_
  refine zw_aload_n (pc := 1455) dL_law_1455 rfl 3 rfl ?_
  refine zw_aload_n (pc := 1456) dL_law_1456 rfl 1 rfl ?_
  refine zw_iload (pc := 1457) dL_law_1457 6 rfl ?_
  refine zw_iconst (pc := 1459) (v := (1 : Int32)) dL_law_1459 (by decide) ?_
  refine zw_iadd (pc := 1460) dL_law_1460 ?_
  obtain ⟨x6, e7, H⟩ := zbind H
  refine zy_iald (pc := 1461) dL_law_1461 e7 ?_
  obtain ⟨b8, e10, H⟩ := zbind H
  obtain ⟨e9, e11⟩ := zrv_ok e10
  obtain ⟨x14, h13, e12, H⟩ := zbind2 H
  refine zw_invV (pc := 1462) (M' := M_X4_bandwidth) (A := [vI x6]) [] dL_law_1462 (Or.inl q2813) mf_X4_bandwidth q2815 (zkq e11 rfl) (w_X4_bandwidth e12) (Nat.le_of_ble_eq_true rfl) rfl (by rw [← e9]; rfl) (Nat.le_of_ble_eq_true rfl) (zkv ?_) zkn9
  refine zw_istore (pc := 1465) (lv' := [(7, vI x14), (6, vI x5), (0, vR a0), (1, vR a1), (2, vR a2), (3, vR a3), (4, vR a4), (5, vI a5)]) dL_law_1465 (by decide) rfl ?_
  refine zw_aload_n (pc := 1467) dL_law_1467 rfl 4 rfl ?_
  obtain ⟨b15, e17, H⟩ := zbind H
  obtain ⟨e16, e18⟩ := zrv_ok e17
  obtain ⟨x20, e19, H⟩ := zbind H
  refine zw_invV (pc := 1468) (M' := M_X4_thrown) (A := []) [] dL_law_1468 (Or.inl q2302) mf_X4_thrown q2304 (zkq e18 rfl) (w_X4_thrown e19) (Nat.le_of_ble_eq_true rfl) rfl (by rw [← e16]; rfl) (Nat.le_of_ble_eq_true rfl) (zkv ?_) zkn9
  refine zw_iload (pc := 1471) dL_law_1471 1 rfl ?_
  rcases zif H with ⟨c21, H⟩ | ⟨c21, H⟩
  · refine zw_icmp_eq (pc := 1473) (tgt := 1478) dL_law_1473 rfl (fun _ => ?_) (fun q => absurd c21 q)
    refine zw_iload (pc := 1478) dL_law_1478 1 rfl ?_
    rcases zif H with ⟨c22, H⟩ | ⟨c22, H⟩
    · refine zw_if_ne (pc := 1480) (tgt := 1495) dL_law_1480 rfl (fun q => absurd c22 q) (fun _ => ?_)
      refine zw_aload_n (pc := 1483) dL_law_1483 rfl 5 rfl ?_
      refine zw_iconst (pc := 1484) (v := (0 : Int32)) dL_law_1484 (by decide) ?_
      obtain ⟨x23, e24, H⟩ := zbind H
      refine zy_lald (pc := 1485) dL_law_1485 e24 ?_
      refine zw_iload (pc := 1486) dL_law_1486 0 rfl ?_
      refine zw_i2l (pc := 1488) dL_law_1488 ?_
      refine zw_lcmp (pc := 1489) dL_law_1489 ?_
      rcases zif H with ⟨c25, H⟩ | ⟨c25, H⟩
      · refine zw_if_eq (pc := 1490) (tgt := 1495) dL_law_1490 rfl (fun _ => ?_) (fun q => absurd (lgc_eq.mpr c25) q)
        refine zw_goto (pc := 1495) (tgt := 3377) dL_law_1495 rfl ?_
        refine zw_iinc (pc := 3377) (v := (a5 + (6 : Int32))) (lv' := [(5, vI (a5 + (6 : Int32))), (7, vI x14), (6, vI x5), (0, vR a0), (1, vR a1), (2, vR a2), (3, vR a3), (4, vR a4)]) dL_law_3377 7 rfl rfl (by decide) rfl ?_
        refine zw_goto (pc := 3380) (tgt := 28) dL_law_3380 rfl ?_
        refine zW_pick (lv' := [(0, vR a0), (1, vR a1), (2, vR a2), (3, vR a3), (4, vR a4), (5, vI (a5 + (6 : Int32)))]) [3, 4, 5, 6, 7, 0] rfl ?_
        exact hk28 _ _ _ _ _ _ _ H
      · refine zw_if_eq (pc := 1490) (tgt := 1495) dL_law_1490 rfl (fun q => absurd q (fun q => c25 (lgc_eq.mp q))) (fun _ => ?_)
        refine zw_iconst (pc := 1493) (v := (0 : Int32)) dL_law_1493 (by decide) ?_
        obtain ⟨rfl, rfl⟩ := Prod.mk.inj (Option.some.inj H)
        exact zw_zret (pc := 1494) dL_law_1494 rfl rfl rfl rfl
    · refine zw_if_ne (pc := 1480) (tgt := 1495) dL_law_1480 rfl (fun _ => ?_) (fun q => absurd q c22)
      refine zw_goto (pc := 1495) (tgt := 3377) dL_law_1495 rfl ?_
      refine zw_iinc (pc := 3377) (v := (a5 + (6 : Int32))) (lv' := [(5, vI (a5 + (6 : Int32))), (7, vI x14), (6, vI x5), (0, vR a0), (1, vR a1), (2, vR a2), (3, vR a3), (4, vR a4)]) dL_law_3377 7 rfl rfl (by decide) rfl ?_
      refine zw_goto (pc := 3380) (tgt := 28) dL_law_3380 rfl ?_
      refine zW_pick (lv' := [(0, vR a0), (1, vR a1), (2, vR a2), (3, vR a3), (4, vR a4), (5, vI (a5 + (6 : Int32)))]) [3, 4, 5, 6, 7, 0] rfl ?_
      exact hk28 _ _ _ _ _ _ _ H
  · refine zw_icmp_eq (pc := 1473) (tgt := 1478) dL_law_1473 rfl (fun q => absurd q c21) (fun _ => ?_)
    refine zw_iconst (pc := 1476) (v := (0 : Int32)) dL_law_1476 (by decide) ?_
    obtain ⟨rfl, rfl⟩ := Prod.mk.inj (Option.some.inj H)
    exact zw_zret (pc := 1477) dL_law_1477 rfl rfl rfl rfl
def B_L_law_1498 (k28 : Option Nat → Option Nat → Option Nat → Option Nat → Option Nat → Int32 → zH → Option ((Int32 ⊕ Nat) × zH)) (a0 : Option Nat) (a1 : Option Nat) (a2 : Option Nat) (a3 : Option Nat) (a4 : Option Nat) (a5 : Int32) (h : zH) : Option ((Int32 ⊕ Nat) × zH) :=
  (zaI 50 a0 (a5 + (1 : Int32)) h).bind fun x1 =>
  (zaI 50 a0 (a5 + (2 : Int32)) h).bind fun x3 =>
  zb2 (f_X0_rowSum a1 x1 x3 a3 h) fun x7 h6 =>
  (zaI 50 a0 (a5 + (1 : Int32)) h6).bind fun x8 =>
  (zaI 50 a0 (a5 + (2 : Int32)) h6).bind fun x10 =>
  (zrv 4 a2 h6).bind fun b12 =>
  zb2 (f_X4_rowSum (some b12) x8 x10 h6) fun x18 h17 =>
  (zrv 4 a2 h17).bind fun b19 =>
  (f_X4_thrown (some b19) h17).bind fun x24 =>
  if x24 = x7 then
  if x7 = 0 then
  (zaJ a3 (0 : Int32) h17).bind fun x27 =>
  if x27 = x18.toInt64 then
  k28 a0 a1 a2 a3 a4 (a5 + (6 : Int32)) h17
  else
  some (.inl (0 : Int32), h17)
  else
  k28 a0 a1 a2 a3 a4 (a5 + (6 : Int32)) h17
  else
  some (.inl (0 : Int32), h17)
theorem wB_L_law_1498 {G : zG} {h0 h : zH} {vo : Int32 ⊕ Nat} {vh : zH} {k28 : Option Nat → Option Nat → Option Nat → Option Nat → Option Nat → Int32 → zH → Option ((Int32 ⊕ Nat) × zH)} (hk28 : ∀ (b0 : Option Nat) (b1 : Option Nat) (b2 : Option Nat) (b3 : Option Nat) (b4 : Option Nat) (b5 : Int32) (h' : zH), k28 b0 b1 b2 b3 b4 b5 h' = some (vo, vh) → zW G M_L_law 343 h0 (zoI vo) vh 28 [(0, vR b0), (1, vR b1), (2, vR b2), (3, vR b3), (4, vR b4), (5, vI b5)] [] h') {a0 : Option Nat} {a1 : Option Nat} {a2 : Option Nat} {a3 : Option Nat} {a4 : Option Nat} {a5 : Int32} (H : B_L_law_1498 k28 a0 a1 a2 a3 a4 a5 h = some (vo, vh)) : zW G M_L_law 343 h0 (zoI vo) vh 1498 [(0, vR a0), (1, vR a1), (2, vR a2), (3, vR a3), (4, vR a4), (5, vI a5)] [] h := by
  unfold B_L_law_1498 at H
  refine zw_aload_n (pc := 1498) dL_law_1498 rfl 1 rfl ?_
  refine zw_aload_n (pc := 1499) dL_law_1499 rfl 0 rfl ?_
  refine zw_iload (pc := 1500) dL_law_1500 5 rfl ?_
  refine zw_iconst (pc := 1502) (v := (1 : Int32)) dL_law_1502 (by decide) ?_
  refine zw_iadd (pc := 1503) dL_law_1503 ?_
  obtain ⟨x1, e2, H⟩ := zbind H
  refine zy_iald (pc := 1504) dL_law_1504 e2 ?_
  refine zw_aload_n (pc := 1505) dL_law_1505 rfl 0 rfl ?_
  refine zw_iload (pc := 1506) dL_law_1506 5 rfl ?_
  refine zw_iconst (pc := 1508) (v := (2 : Int32)) dL_law_1508 (by decide) ?_
  refine zw_iadd (pc := 1509) dL_law_1509 ?_
  obtain ⟨x3, e4, H⟩ := zbind H
  refine zy_iald (pc := 1510) dL_law_1510 e4 ?_
  refine zw_aload_n (pc := 1511) dL_law_1511 rfl 3 rfl ?_
  obtain ⟨x7, h6, e5, H⟩ := zbind2 H
  refine zw_invS (pc := 1512) (M' := M_X0_rowSum) (A := [vR a1, vI x1, vI x3, vR a3]) [] dL_law_1512 (Or.inl q1847) mf_X0_rowSum (w_X0_rowSum e5) (Nat.le_of_ble_eq_true rfl) rfl rfl (Nat.le_of_ble_eq_true rfl) (zkv ?_) zkn9
  refine zw_istore (pc := 1515) (lv' := [(6, vI x7), (0, vR a0), (1, vR a1), (2, vR a2), (3, vR a3), (4, vR a4), (5, vI a5)]) dL_law_1515 (by decide) rfl ?_
  refine zw_aload_n (pc := 1517) dL_law_1517 rfl 3 rfl ?_
  refine zw_aload_n (pc := 1518) dL_law_1518 rfl 1 rfl ?_
  refine zw_iload (pc := 1519) dL_law_1519 6 rfl ?_
  refine zw_iconst (pc := 1521) (v := (1 : Int32)) dL_law_1521 (by decide) ?_
  refine zw_iadd (pc := 1522) dL_law_1522 ?_
  obtain ⟨x8, e9, H⟩ := zbind H
  refine zy_iald (pc := 1523) dL_law_1523 e9 ?_
  refine zw_aload_n (pc := 1524) dL_law_1524 rfl 1 rfl ?_
  refine zw_iload (pc := 1525) dL_law_1525 6 rfl ?_
  refine zw_iconst (pc := 1527) (v := (2 : Int32)) dL_law_1527 (by decide) ?_
  refine zw_iadd (pc := 1528) dL_law_1528 ?_
  obtain ⟨x10, e11, H⟩ := zbind H
  refine zy_iald (pc := 1529) dL_law_1529 e11 ?_
  obtain ⟨b12, e14, H⟩ := zbind H
  obtain ⟨e13, e15⟩ := zrv_ok e14
  obtain ⟨x18, h17, e16, H⟩ := zbind2 H
  refine zw_invV (pc := 1530) (M' := M_X4_rowSum) (A := [vI x8, vI x10]) [] dL_law_1530 (Or.inl q2824) mf_X4_rowSum q2826 (zkq e15 rfl) (w_X4_rowSum e16) (Nat.le_of_ble_eq_true rfl) rfl (by rw [← e13]; rfl) (Nat.le_of_ble_eq_true rfl) (zkv ?_) zkn9
  refine zw_istore (pc := 1533) (lv' := [(7, vI x18), (6, vI x7), (0, vR a0), (1, vR a1), (2, vR a2), (3, vR a3), (4, vR a4), (5, vI a5)]) dL_law_1533 (by decide) rfl ?_
  refine zw_aload_n (pc := 1535) dL_law_1535 rfl 4 rfl ?_
  obtain ⟨b19, e21, H⟩ := zbind H
  obtain ⟨e20, e22⟩ := zrv_ok e21
  obtain ⟨x24, e23, H⟩ := zbind H
  refine zw_invV (pc := 1536) (M' := M_X4_thrown) (A := []) [] dL_law_1536 (Or.inl q2302) mf_X4_thrown q2304 (zkq e22 rfl) (w_X4_thrown e23) (Nat.le_of_ble_eq_true rfl) rfl (by rw [← e20]; rfl) (Nat.le_of_ble_eq_true rfl) (zkv ?_) zkn9
  refine zw_iload (pc := 1539) dL_law_1539 1 rfl ?_
  rcases zif H with ⟨c25, H⟩ | ⟨c25, H⟩
  · refine zw_icmp_eq (pc := 1541) (tgt := 1546) dL_law_1541 rfl (fun _ => ?_) (fun q => absurd c25 q)
    refine zw_iload (pc := 1546) dL_law_1546 1 rfl ?_
    rcases zif H with ⟨c26, H⟩ | ⟨c26, H⟩
    · refine zw_if_ne (pc := 1548) (tgt := 1563) dL_law_1548 rfl (fun q => absurd c26 q) (fun _ => ?_)
      refine zw_aload_n (pc := 1551) dL_law_1551 rfl 5 rfl ?_
      refine zw_iconst (pc := 1552) (v := (0 : Int32)) dL_law_1552 (by decide) ?_
      obtain ⟨x27, e28, H⟩ := zbind H
      refine zy_lald (pc := 1553) dL_law_1553 e28 ?_
      refine zw_iload (pc := 1554) dL_law_1554 0 rfl ?_
      refine zw_i2l (pc := 1556) dL_law_1556 ?_
      refine zw_lcmp (pc := 1557) dL_law_1557 ?_
      rcases zif H with ⟨c29, H⟩ | ⟨c29, H⟩
      · refine zw_if_eq (pc := 1558) (tgt := 1563) dL_law_1558 rfl (fun _ => ?_) (fun q => absurd (lgc_eq.mpr c29) q)
        refine zw_goto (pc := 1563) (tgt := 3377) dL_law_1563 rfl ?_
        refine zw_iinc (pc := 3377) (v := (a5 + (6 : Int32))) (lv' := [(5, vI (a5 + (6 : Int32))), (7, vI x18), (6, vI x7), (0, vR a0), (1, vR a1), (2, vR a2), (3, vR a3), (4, vR a4)]) dL_law_3377 7 rfl rfl (by decide) rfl ?_
        refine zw_goto (pc := 3380) (tgt := 28) dL_law_3380 rfl ?_
        refine zW_pick (lv' := [(0, vR a0), (1, vR a1), (2, vR a2), (3, vR a3), (4, vR a4), (5, vI (a5 + (6 : Int32)))]) [3, 4, 5, 6, 7, 0] rfl ?_
        exact hk28 _ _ _ _ _ _ _ H
      · refine zw_if_eq (pc := 1558) (tgt := 1563) dL_law_1558 rfl (fun q => absurd q (fun q => c29 (lgc_eq.mp q))) (fun _ => ?_)
        refine zw_iconst (pc := 1561) (v := (0 : Int32)) dL_law_1561 (by decide) ?_
        obtain ⟨rfl, rfl⟩ := Prod.mk.inj (Option.some.inj H)
        exact zw_zret (pc := 1562) dL_law_1562 rfl rfl rfl rfl
    · refine zw_if_ne (pc := 1548) (tgt := 1563) dL_law_1548 rfl (fun _ => ?_) (fun q => absurd q c26)
      refine zw_goto (pc := 1563) (tgt := 3377) dL_law_1563 rfl ?_
      refine zw_iinc (pc := 3377) (v := (a5 + (6 : Int32))) (lv' := [(5, vI (a5 + (6 : Int32))), (7, vI x18), (6, vI x7), (0, vR a0), (1, vR a1), (2, vR a2), (3, vR a3), (4, vR a4)]) dL_law_3377 7 rfl rfl (by decide) rfl ?_
      refine zw_goto (pc := 3380) (tgt := 28) dL_law_3380 rfl ?_
      refine zW_pick (lv' := [(0, vR a0), (1, vR a1), (2, vR a2), (3, vR a3), (4, vR a4), (5, vI (a5 + (6 : Int32)))]) [3, 4, 5, 6, 7, 0] rfl ?_
      exact hk28 _ _ _ _ _ _ _ H
  · refine zw_icmp_eq (pc := 1541) (tgt := 1546) dL_law_1541 rfl (fun q => absurd q c25) (fun _ => ?_)
    refine zw_iconst (pc := 1544) (v := (0 : Int32)) dL_law_1544 (by decide) ?_
    obtain ⟨rfl, rfl⟩ := Prod.mk.inj (Option.some.inj H)
    exact zw_zret (pc := 1545) dL_law_1545 rfl rfl rfl rfl
def B_L_law_1566 (k28 : Option Nat → Option Nat → Option Nat → Option Nat → Option Nat → Int32 → zH → Option ((Int32 ⊕ Nat) × zH)) (a0 : Option Nat) (a1 : Option Nat) (a2 : Option Nat) (a3 : Option Nat) (a4 : Option Nat) (a5 : Int32) (h : zH) : Option ((Int32 ⊕ Nat) × zH) :=
  (zaI 50 a0 (a5 + (1 : Int32)) h).bind fun x1 =>
  zb2 (f_X0_largestMagnitude a1 x1 a3 h) fun x5 h4 =>
  (zaI 50 a0 (a5 + (1 : Int32)) h4).bind fun x6 =>
  (zrv 4 a2 h4).bind fun b8 =>
  zb2 (f_X4_largestMagnitude (some b8) x6 h4) fun x14 h13 =>
  (zrv 4 a2 h13).bind fun b15 =>
  (f_X4_thrown (some b15) h13).bind fun x20 =>
  if x20 = x5 then
  if x5 = 0 then
  (zaJ a3 (0 : Int32) h13).bind fun x23 =>
  if x23 = x14.toInt64 then
  k28 a0 a1 a2 a3 a4 (a5 + (6 : Int32)) h13
  else
  some (.inl (0 : Int32), h13)
  else
  k28 a0 a1 a2 a3 a4 (a5 + (6 : Int32)) h13
  else
  some (.inl (0 : Int32), h13)
theorem wB_L_law_1566 {G : zG} {h0 h : zH} {vo : Int32 ⊕ Nat} {vh : zH} {k28 : Option Nat → Option Nat → Option Nat → Option Nat → Option Nat → Int32 → zH → Option ((Int32 ⊕ Nat) × zH)} (hk28 : ∀ (b0 : Option Nat) (b1 : Option Nat) (b2 : Option Nat) (b3 : Option Nat) (b4 : Option Nat) (b5 : Int32) (h' : zH), k28 b0 b1 b2 b3 b4 b5 h' = some (vo, vh) → zW G M_L_law 343 h0 (zoI vo) vh 28 [(0, vR b0), (1, vR b1), (2, vR b2), (3, vR b3), (4, vR b4), (5, vI b5)] [] h') {a0 : Option Nat} {a1 : Option Nat} {a2 : Option Nat} {a3 : Option Nat} {a4 : Option Nat} {a5 : Int32} (H : B_L_law_1566 k28 a0 a1 a2 a3 a4 a5 h = some (vo, vh)) : zW G M_L_law 343 h0 (zoI vo) vh 1566 [(0, vR a0), (1, vR a1), (2, vR a2), (3, vR a3), (4, vR a4), (5, vI a5)] [] h := by
  unfold B_L_law_1566 at H
  refine zw_aload_n (pc := 1566) dL_law_1566 rfl 1 rfl ?_
  refine zw_aload_n (pc := 1567) dL_law_1567 rfl 0 rfl ?_
  refine zw_iload (pc := 1568) dL_law_1568 5 rfl ?_
  refine zw_iconst (pc := 1570) (v := (1 : Int32)) dL_law_1570 (by decide) ?_
  refine zw_iadd (pc := 1571) dL_law_1571 ?_
  obtain ⟨x1, e2, H⟩ := zbind H
  refine zy_iald (pc := 1572) dL_law_1572 e2 ?_
  refine zw_aload_n (pc := 1573) dL_law_1573 rfl 3 rfl ?_
  obtain ⟨x5, h4, e3, H⟩ := zbind2 H
  refine zw_invS (pc := 1574) (M' := M_X0_largestMagnitude) (A := [vR a1, vI x1, vR a3]) [] dL_law_1574 (Or.inl q1854) mf_X0_largestMagnitude (w_X0_largestMagnitude e3) (Nat.le_of_ble_eq_true rfl) rfl rfl (Nat.le_of_ble_eq_true rfl) (zkv ?_) zkn9
  refine zw_istore (pc := 1577) (lv' := [(6, vI x5), (0, vR a0), (1, vR a1), (2, vR a2), (3, vR a3), (4, vR a4), (5, vI a5)]) dL_law_1577 (by decide) rfl ?_
  refine zw_aload_n (pc := 1579) dL_law_1579 rfl 3 rfl ?_
  refine zw_aload_n (pc := 1580) dL_law_1580 rfl 1 rfl ?_
  refine zw_iload (pc := 1581) dL_law_1581 6 rfl ?_
  refine zw_iconst (pc := 1583) (v := (1 : Int32)) dL_law_1583 (by decide) ?_
  refine zw_iadd (pc := 1584) dL_law_1584 ?_
  obtain ⟨x6, e7, H⟩ := zbind H
  refine zy_iald (pc := 1585) dL_law_1585 e7 ?_
  obtain ⟨b8, e10, H⟩ := zbind H
  obtain ⟨e9, e11⟩ := zrv_ok e10
  obtain ⟨x14, h13, e12, H⟩ := zbind2 H
  refine zw_invV (pc := 1586) (M' := M_X4_largestMagnitude) (A := [vI x6]) [] dL_law_1586 (Or.inl q2832) mf_X4_largestMagnitude q2834 (zkq e11 rfl) (w_X4_largestMagnitude e12) (Nat.le_of_ble_eq_true rfl) rfl (by rw [← e9]; rfl) (Nat.le_of_ble_eq_true rfl) (zkv ?_) zkn9
  refine zw_istore (pc := 1589) (lv' := [(7, vI x14), (6, vI x5), (0, vR a0), (1, vR a1), (2, vR a2), (3, vR a3), (4, vR a4), (5, vI a5)]) dL_law_1589 (by decide) rfl ?_
  refine zw_aload_n (pc := 1591) dL_law_1591 rfl 4 rfl ?_
  obtain ⟨b15, e17, H⟩ := zbind H
  obtain ⟨e16, e18⟩ := zrv_ok e17
  obtain ⟨x20, e19, H⟩ := zbind H
  refine zw_invV (pc := 1592) (M' := M_X4_thrown) (A := []) [] dL_law_1592 (Or.inl q2302) mf_X4_thrown q2304 (zkq e18 rfl) (w_X4_thrown e19) (Nat.le_of_ble_eq_true rfl) rfl (by rw [← e16]; rfl) (Nat.le_of_ble_eq_true rfl) (zkv ?_) zkn9
  refine zw_iload (pc := 1595) dL_law_1595 1 rfl ?_
  rcases zif H with ⟨c21, H⟩ | ⟨c21, H⟩
  · refine zw_icmp_eq (pc := 1597) (tgt := 1602) dL_law_1597 rfl (fun _ => ?_) (fun q => absurd c21 q)
    refine zw_iload (pc := 1602) dL_law_1602 1 rfl ?_
    rcases zif H with ⟨c22, H⟩ | ⟨c22, H⟩
    · refine zw_if_ne (pc := 1604) (tgt := 1619) dL_law_1604 rfl (fun q => absurd c22 q) (fun _ => ?_)
      refine zw_aload_n (pc := 1607) dL_law_1607 rfl 5 rfl ?_
      refine zw_iconst (pc := 1608) (v := (0 : Int32)) dL_law_1608 (by decide) ?_
      obtain ⟨x23, e24, H⟩ := zbind H
      refine zy_lald (pc := 1609) dL_law_1609 e24 ?_
      refine zw_iload (pc := 1610) dL_law_1610 0 rfl ?_
      refine zw_i2l (pc := 1612) dL_law_1612 ?_
      refine zw_lcmp (pc := 1613) dL_law_1613 ?_
      rcases zif H with ⟨c25, H⟩ | ⟨c25, H⟩
      · refine zw_if_eq (pc := 1614) (tgt := 1619) dL_law_1614 rfl (fun _ => ?_) (fun q => absurd (lgc_eq.mpr c25) q)
        refine zw_goto (pc := 1619) (tgt := 3377) dL_law_1619 rfl ?_
        refine zw_iinc (pc := 3377) (v := (a5 + (6 : Int32))) (lv' := [(5, vI (a5 + (6 : Int32))), (7, vI x14), (6, vI x5), (0, vR a0), (1, vR a1), (2, vR a2), (3, vR a3), (4, vR a4)]) dL_law_3377 7 rfl rfl (by decide) rfl ?_
        refine zw_goto (pc := 3380) (tgt := 28) dL_law_3380 rfl ?_
        refine zW_pick (lv' := [(0, vR a0), (1, vR a1), (2, vR a2), (3, vR a3), (4, vR a4), (5, vI (a5 + (6 : Int32)))]) [3, 4, 5, 6, 7, 0] rfl ?_
        exact hk28 _ _ _ _ _ _ _ H
      · refine zw_if_eq (pc := 1614) (tgt := 1619) dL_law_1614 rfl (fun q => absurd q (fun q => c25 (lgc_eq.mp q))) (fun _ => ?_)
        refine zw_iconst (pc := 1617) (v := (0 : Int32)) dL_law_1617 (by decide) ?_
        obtain ⟨rfl, rfl⟩ := Prod.mk.inj (Option.some.inj H)
        exact zw_zret (pc := 1618) dL_law_1618 rfl rfl rfl rfl
    · refine zw_if_ne (pc := 1604) (tgt := 1619) dL_law_1604 rfl (fun _ => ?_) (fun q => absurd q c22)
      refine zw_goto (pc := 1619) (tgt := 3377) dL_law_1619 rfl ?_
      refine zw_iinc (pc := 3377) (v := (a5 + (6 : Int32))) (lv' := [(5, vI (a5 + (6 : Int32))), (7, vI x14), (6, vI x5), (0, vR a0), (1, vR a1), (2, vR a2), (3, vR a3), (4, vR a4)]) dL_law_3377 7 rfl rfl (by decide) rfl ?_
      refine zw_goto (pc := 3380) (tgt := 28) dL_law_3380 rfl ?_
      refine zW_pick (lv' := [(0, vR a0), (1, vR a1), (2, vR a2), (3, vR a3), (4, vR a4), (5, vI (a5 + (6 : Int32)))]) [3, 4, 5, 6, 7, 0] rfl ?_
      exact hk28 _ _ _ _ _ _ _ H
  · refine zw_icmp_eq (pc := 1597) (tgt := 1602) dL_law_1597 rfl (fun q => absurd q c21) (fun _ => ?_)
    refine zw_iconst (pc := 1600) (v := (0 : Int32)) dL_law_1600 (by decide) ?_
    obtain ⟨rfl, rfl⟩ := Prod.mk.inj (Option.some.inj H)
    exact zw_zret (pc := 1601) dL_law_1601 rfl rfl rfl rfl
def B_L_law_1622 (k28 : Option Nat → Option Nat → Option Nat → Option Nat → Option Nat → Int32 → zH → Option ((Int32 ⊕ Nat) × zH)) (a0 : Option Nat) (a1 : Option Nat) (a2 : Option Nat) (a3 : Option Nat) (a4 : Option Nat) (a5 : Int32) (h : zH) : Option ((Int32 ⊕ Nat) × zH) :=
  (zaI 50 a0 (a5 + (1 : Int32)) h).bind fun x1 =>
  zb2 (f_X0_trace a1 x1 a3 h) fun x5 h4 =>
  (zaI 50 a0 (a5 + (1 : Int32)) h4).bind fun x6 =>
  (zrv 4 a2 h4).bind fun b8 =>
  zb2 (f_X4_trace (some b8) x6 h4) fun x14 h13 =>
  (zrv 4 a2 h13).bind fun b15 =>
  (f_X4_thrown (some b15) h13).bind fun x20 =>
  if x20 = x5 then
  if x5 = 0 then
  (zaJ a3 (0 : Int32) h13).bind fun x23 =>
  if x23 = x14.toInt64 then
  k28 a0 a1 a2 a3 a4 (a5 + (6 : Int32)) h13
  else
  some (.inl (0 : Int32), h13)
  else
  k28 a0 a1 a2 a3 a4 (a5 + (6 : Int32)) h13
  else
  some (.inl (0 : Int32), h13)
theorem wB_L_law_1622 {G : zG} {h0 h : zH} {vo : Int32 ⊕ Nat} {vh : zH} {k28 : Option Nat → Option Nat → Option Nat → Option Nat → Option Nat → Int32 → zH → Option ((Int32 ⊕ Nat) × zH)} (hk28 : ∀ (b0 : Option Nat) (b1 : Option Nat) (b2 : Option Nat) (b3 : Option Nat) (b4 : Option Nat) (b5 : Int32) (h' : zH), k28 b0 b1 b2 b3 b4 b5 h' = some (vo, vh) → zW G M_L_law 343 h0 (zoI vo) vh 28 [(0, vR b0), (1, vR b1), (2, vR b2), (3, vR b3), (4, vR b4), (5, vI b5)] [] h') {a0 : Option Nat} {a1 : Option Nat} {a2 : Option Nat} {a3 : Option Nat} {a4 : Option Nat} {a5 : Int32} (H : B_L_law_1622 k28 a0 a1 a2 a3 a4 a5 h = some (vo, vh)) : zW G M_L_law 343 h0 (zoI vo) vh 1622 [(0, vR a0), (1, vR a1), (2, vR a2), (3, vR a3), (4, vR a4), (5, vI a5)] [] h := by
  unfold B_L_law_1622 at H
  refine zw_aload_n (pc := 1622) dL_law_1622 rfl 1 rfl ?_
  refine zw_aload_n (pc := 1623) dL_law_1623 rfl 0 rfl ?_
  refine zw_iload (pc := 1624) dL_law_1624 5 rfl ?_
  refine zw_iconst (pc := 1626) (v := (1 : Int32)) dL_law_1626 (by decide) ?_
  refine zw_iadd (pc := 1627) dL_law_1627 ?_
  obtain ⟨x1, e2, H⟩ := zbind H
  refine zy_iald (pc := 1628) dL_law_1628 e2 ?_
  refine zw_aload_n (pc := 1629) dL_law_1629 rfl 3 rfl ?_
  obtain ⟨x5, h4, e3, H⟩ := zbind2 H
  refine zw_invS (pc := 1630) (M' := M_X0_trace) (A := [vR a1, vI x1, vR a3]) [] dL_law_1630 (Or.inl q1863) mf_X0_trace (w_X0_trace e3) (Nat.le_of_ble_eq_true rfl) rfl rfl (Nat.le_of_ble_eq_true rfl) (zkv ?_) zkn9
  refine zw_istore (pc := 1633) (lv' := [(6, vI x5), (0, vR a0), (1, vR a1), (2, vR a2), (3, vR a3), (4, vR a4), (5, vI a5)]) dL_law_1633 (by decide) rfl ?_
  refine zw_aload_n (pc := 1635) dL_law_1635 rfl 3 rfl ?_
  refine zw_aload_n (pc := 1636) dL_law_1636 rfl 1 rfl ?_
  refine zw_iload (pc := 1637) dL_law_1637 6 rfl ?_
  refine zw_iconst (pc := 1639) (v := (1 : Int32)) dL_law_1639 (by decide) ?_
  refine zw_iadd (pc := 1640) dL_law_1640 ?_
  obtain ⟨x6, e7, H⟩ := zbind H
  refine zy_iald (pc := 1641) dL_law_1641 e7 ?_
  obtain ⟨b8, e10, H⟩ := zbind H
  obtain ⟨e9, e11⟩ := zrv_ok e10
  obtain ⟨x14, h13, e12, H⟩ := zbind2 H
  refine zw_invV (pc := 1642) (M' := M_X4_trace) (A := [vI x6]) [] dL_law_1642 (Or.inl q2840) mf_X4_trace q2842 (zkq e11 rfl) (w_X4_trace e12) (Nat.le_of_ble_eq_true rfl) rfl (by rw [← e9]; rfl) (Nat.le_of_ble_eq_true rfl) (zkv ?_) zkn9
  refine zw_istore (pc := 1645) (lv' := [(7, vI x14), (6, vI x5), (0, vR a0), (1, vR a1), (2, vR a2), (3, vR a3), (4, vR a4), (5, vI a5)]) dL_law_1645 (by decide) rfl ?_
  refine zw_aload_n (pc := 1647) dL_law_1647 rfl 4 rfl ?_
  obtain ⟨b15, e17, H⟩ := zbind H
  obtain ⟨e16, e18⟩ := zrv_ok e17
  obtain ⟨x20, e19, H⟩ := zbind H
  refine zw_invV (pc := 1648) (M' := M_X4_thrown) (A := []) [] dL_law_1648 (Or.inl q2302) mf_X4_thrown q2304 (zkq e18 rfl) (w_X4_thrown e19) (Nat.le_of_ble_eq_true rfl) rfl (by rw [← e16]; rfl) (Nat.le_of_ble_eq_true rfl) (zkv ?_) zkn9
  refine zw_iload (pc := 1651) dL_law_1651 1 rfl ?_
  rcases zif H with ⟨c21, H⟩ | ⟨c21, H⟩
  · refine zw_icmp_eq (pc := 1653) (tgt := 1658) dL_law_1653 rfl (fun _ => ?_) (fun q => absurd c21 q)
    refine zw_iload (pc := 1658) dL_law_1658 1 rfl ?_
    rcases zif H with ⟨c22, H⟩ | ⟨c22, H⟩
    · refine zw_if_ne (pc := 1660) (tgt := 1675) dL_law_1660 rfl (fun q => absurd c22 q) (fun _ => ?_)
      refine zw_aload_n (pc := 1663) dL_law_1663 rfl 5 rfl ?_
      refine zw_iconst (pc := 1664) (v := (0 : Int32)) dL_law_1664 (by decide) ?_
      obtain ⟨x23, e24, H⟩ := zbind H
      refine zy_lald (pc := 1665) dL_law_1665 e24 ?_
      refine zw_iload (pc := 1666) dL_law_1666 0 rfl ?_
      refine zw_i2l (pc := 1668) dL_law_1668 ?_
      refine zw_lcmp (pc := 1669) dL_law_1669 ?_
      rcases zif H with ⟨c25, H⟩ | ⟨c25, H⟩
      · refine zw_if_eq (pc := 1670) (tgt := 1675) dL_law_1670 rfl (fun _ => ?_) (fun q => absurd (lgc_eq.mpr c25) q)
        refine zw_goto (pc := 1675) (tgt := 3377) dL_law_1675 rfl ?_
        refine zw_iinc (pc := 3377) (v := (a5 + (6 : Int32))) (lv' := [(5, vI (a5 + (6 : Int32))), (7, vI x14), (6, vI x5), (0, vR a0), (1, vR a1), (2, vR a2), (3, vR a3), (4, vR a4)]) dL_law_3377 7 rfl rfl (by decide) rfl ?_
        refine zw_goto (pc := 3380) (tgt := 28) dL_law_3380 rfl ?_
        refine zW_pick (lv' := [(0, vR a0), (1, vR a1), (2, vR a2), (3, vR a3), (4, vR a4), (5, vI (a5 + (6 : Int32)))]) [3, 4, 5, 6, 7, 0] rfl ?_
        exact hk28 _ _ _ _ _ _ _ H
      · refine zw_if_eq (pc := 1670) (tgt := 1675) dL_law_1670 rfl (fun q => absurd q (fun q => c25 (lgc_eq.mp q))) (fun _ => ?_)
        refine zw_iconst (pc := 1673) (v := (0 : Int32)) dL_law_1673 (by decide) ?_
        obtain ⟨rfl, rfl⟩ := Prod.mk.inj (Option.some.inj H)
        exact zw_zret (pc := 1674) dL_law_1674 rfl rfl rfl rfl
    · refine zw_if_ne (pc := 1660) (tgt := 1675) dL_law_1660 rfl (fun _ => ?_) (fun q => absurd q c22)
      refine zw_goto (pc := 1675) (tgt := 3377) dL_law_1675 rfl ?_
      refine zw_iinc (pc := 3377) (v := (a5 + (6 : Int32))) (lv' := [(5, vI (a5 + (6 : Int32))), (7, vI x14), (6, vI x5), (0, vR a0), (1, vR a1), (2, vR a2), (3, vR a3), (4, vR a4)]) dL_law_3377 7 rfl rfl (by decide) rfl ?_
      refine zw_goto (pc := 3380) (tgt := 28) dL_law_3380 rfl ?_
      refine zW_pick (lv' := [(0, vR a0), (1, vR a1), (2, vR a2), (3, vR a3), (4, vR a4), (5, vI (a5 + (6 : Int32)))]) [3, 4, 5, 6, 7, 0] rfl ?_
      exact hk28 _ _ _ _ _ _ _ H
  · refine zw_icmp_eq (pc := 1653) (tgt := 1658) dL_law_1653 rfl (fun q => absurd q c21) (fun _ => ?_)
    refine zw_iconst (pc := 1656) (v := (0 : Int32)) dL_law_1656 (by decide) ?_
    obtain ⟨rfl, rfl⟩ := Prod.mk.inj (Option.some.inj H)
    exact zw_zret (pc := 1657) dL_law_1657 rfl rfl rfl rfl
def B_L_law_1678 (k28 : Option Nat → Option Nat → Option Nat → Option Nat → Option Nat → Int32 → zH → Option ((Int32 ⊕ Nat) × zH)) (a0 : Option Nat) (a1 : Option Nat) (a2 : Option Nat) (a3 : Option Nat) (a4 : Option Nat) (a5 : Int32) (h : zH) : Option ((Int32 ⊕ Nat) × zH) :=
  (zaI 50 a0 (a5 + (1 : Int32)) h).bind fun x1 =>
  zb2 (f_X0_isSymmetric a1 x1 a3 h) fun x5 h4 =>
  (zaI 50 a0 (a5 + (1 : Int32)) h4).bind fun x6 =>
  (zrv 4 a2 h4).bind fun b8 =>
  zb2 (f_X4_isSymmetric (some b8) x6 h4) fun x14 h13 =>
  (zrv 4 a2 h13).bind fun b15 =>
  (f_X4_thrown (some b15) h13).bind fun x20 =>
  if x20 = x5 then
  if x5 = 0 then
  (zaJ a3 (0 : Int32) h13).bind fun x23 =>
  if x14 = 0 then
  if x23 = (0 : Int64) then
  k28 a0 a1 a2 a3 a4 (a5 + (6 : Int32)) h13
  else
  some (.inl (0 : Int32), h13)
  else
  if x23 = (1 : Int64) then
  k28 a0 a1 a2 a3 a4 (a5 + (6 : Int32)) h13
  else
  some (.inl (0 : Int32), h13)
  else
  k28 a0 a1 a2 a3 a4 (a5 + (6 : Int32)) h13
  else
  some (.inl (0 : Int32), h13)
theorem wB_L_law_1678 {G : zG} {h0 h : zH} {vo : Int32 ⊕ Nat} {vh : zH} {k28 : Option Nat → Option Nat → Option Nat → Option Nat → Option Nat → Int32 → zH → Option ((Int32 ⊕ Nat) × zH)} (hk28 : ∀ (b0 : Option Nat) (b1 : Option Nat) (b2 : Option Nat) (b3 : Option Nat) (b4 : Option Nat) (b5 : Int32) (h' : zH), k28 b0 b1 b2 b3 b4 b5 h' = some (vo, vh) → zW G M_L_law 343 h0 (zoI vo) vh 28 [(0, vR b0), (1, vR b1), (2, vR b2), (3, vR b3), (4, vR b4), (5, vI b5)] [] h') {a0 : Option Nat} {a1 : Option Nat} {a2 : Option Nat} {a3 : Option Nat} {a4 : Option Nat} {a5 : Int32} (H : B_L_law_1678 k28 a0 a1 a2 a3 a4 a5 h = some (vo, vh)) : zW G M_L_law 343 h0 (zoI vo) vh 1678 [(0, vR a0), (1, vR a1), (2, vR a2), (3, vR a3), (4, vR a4), (5, vI a5)] [] h := by
  unfold B_L_law_1678 at H
  refine zw_aload_n (pc := 1678) dL_law_1678 rfl 1 rfl ?_
  refine zw_aload_n (pc := 1679) dL_law_1679 rfl 0 rfl ?_
  refine zw_iload (pc := 1680) dL_law_1680 5 rfl ?_
  refine zw_iconst (pc := 1682) (v := (1 : Int32)) dL_law_1682 (by decide) ?_
  refine zw_iadd (pc := 1683) dL_law_1683 ?_
  obtain ⟨x1, e2, H⟩ := zbind H
  refine zy_iald (pc := 1684) dL_law_1684 e2 ?_
  refine zw_aload_n (pc := 1685) dL_law_1685 rfl 3 rfl ?_
  obtain ⟨x5, h4, e3, H⟩ := zbind2 H
  refine zw_invS (pc := 1686) (M' := M_X0_isSymmetric) (A := [vR a1, vI x1, vR a3]) [] dL_law_1686 (Or.inl q1870) mf_X0_isSymmetric (w_X0_isSymmetric e3) (Nat.le_of_ble_eq_true rfl) rfl rfl (Nat.le_of_ble_eq_true rfl) (zkv ?_) zkn9
  refine zw_istore (pc := 1689) (lv' := [(6, vI x5), (0, vR a0), (1, vR a1), (2, vR a2), (3, vR a3), (4, vR a4), (5, vI a5)]) dL_law_1689 (by decide) rfl ?_
  refine zw_aload_n (pc := 1691) dL_law_1691 rfl 3 rfl ?_
  refine zw_aload_n (pc := 1692) dL_law_1692 rfl 1 rfl ?_
  refine zw_iload (pc := 1693) dL_law_1693 6 rfl ?_
  refine zw_iconst (pc := 1695) (v := (1 : Int32)) dL_law_1695 (by decide) ?_
  refine zw_iadd (pc := 1696) dL_law_1696 ?_
  obtain ⟨x6, e7, H⟩ := zbind H
  refine zy_iald (pc := 1697) dL_law_1697 e7 ?_
  obtain ⟨b8, e10, H⟩ := zbind H
  obtain ⟨e9, e11⟩ := zrv_ok e10
  obtain ⟨x14, h13, e12, H⟩ := zbind2 H
  refine zw_invV (pc := 1698) (M' := M_X4_isSymmetric) (A := [vI x6]) [] dL_law_1698 (Or.inl q2848) mf_X4_isSymmetric q2850 (zkq e11 rfl) (w_X4_isSymmetric e12) (Nat.le_of_ble_eq_true rfl) rfl (by rw [← e9]; rfl) (Nat.le_of_ble_eq_true rfl) (zkv ?_) zkn9
  refine zw_istore (pc := 1701) (lv' := [(7, vI x14), (6, vI x5), (0, vR a0), (1, vR a1), (2, vR a2), (3, vR a3), (4, vR a4), (5, vI a5)]) dL_law_1701 (by decide) rfl ?_
  refine zw_aload_n (pc := 1703) dL_law_1703 rfl 4 rfl ?_
  obtain ⟨b15, e17, H⟩ := zbind H
  obtain ⟨e16, e18⟩ := zrv_ok e17
  obtain ⟨x20, e19, H⟩ := zbind H
  refine zw_invV (pc := 1704) (M' := M_X4_thrown) (A := []) [] dL_law_1704 (Or.inl q2302) mf_X4_thrown q2304 (zkq e18 rfl) (w_X4_thrown e19) (Nat.le_of_ble_eq_true rfl) rfl (by rw [← e16]; rfl) (Nat.le_of_ble_eq_true rfl) (zkv ?_) zkn9
  refine zw_iload (pc := 1707) dL_law_1707 1 rfl ?_
  rcases zif H with ⟨c21, H⟩ | ⟨c21, H⟩
  · refine zw_icmp_eq (pc := 1709) (tgt := 1714) dL_law_1709 rfl (fun _ => ?_) (fun q => absurd c21 q)
    refine zw_iload (pc := 1714) dL_law_1714 1 rfl ?_
    rcases zif H with ⟨c22, H⟩ | ⟨c22, H⟩
    · refine zw_if_ne (pc := 1716) (tgt := 1738) dL_law_1716 rfl (fun q => absurd c22 q) (fun _ => ?_)
      refine zw_aload_n (pc := 1719) dL_law_1719 rfl 5 rfl ?_
      refine zw_iconst (pc := 1720) (v := (0 : Int32)) dL_law_1720 (by decide) ?_
      obtain ⟨x23, e24, H⟩ := zbind H
      refine zy_lald (pc := 1721) dL_law_1721 e24 ?_
      refine zw_iload (pc := 1722) dL_law_1722 0 rfl ?_
      rcases zif H with ⟨c25, H⟩ | ⟨c25, H⟩
      · refine zw_if_eq (pc := 1724) (tgt := 1731) dL_law_1724 rfl (fun _ => ?_) (fun q => absurd c25 q)
        refine zw_lconst (pc := 1731) (v := (0 : Int64)) dL_law_1731 (by decide) ?_
        refine zw_lcmp (pc := 1732) dL_law_1732 ?_
        rcases zif H with ⟨c26, H⟩ | ⟨c26, H⟩
        · refine zw_if_eq (pc := 1733) (tgt := 1738) dL_law_1733 rfl (fun _ => ?_) (fun q => absurd (lgc_eq.mpr c26) q)
          refine zw_goto (pc := 1738) (tgt := 3377) dL_law_1738 rfl ?_
          refine zw_iinc (pc := 3377) (v := (a5 + (6 : Int32))) (lv' := [(5, vI (a5 + (6 : Int32))), (7, vI x14), (6, vI x5), (0, vR a0), (1, vR a1), (2, vR a2), (3, vR a3), (4, vR a4)]) dL_law_3377 7 rfl rfl (by decide) rfl ?_
          refine zw_goto (pc := 3380) (tgt := 28) dL_law_3380 rfl ?_
          refine zW_pick (lv' := [(0, vR a0), (1, vR a1), (2, vR a2), (3, vR a3), (4, vR a4), (5, vI (a5 + (6 : Int32)))]) [3, 4, 5, 6, 7, 0] rfl ?_
          exact hk28 _ _ _ _ _ _ _ H
        · refine zw_if_eq (pc := 1733) (tgt := 1738) dL_law_1733 rfl (fun q => absurd q (fun q => c26 (lgc_eq.mp q))) (fun _ => ?_)
          refine zw_iconst (pc := 1736) (v := (0 : Int32)) dL_law_1736 (by decide) ?_
          obtain ⟨rfl, rfl⟩ := Prod.mk.inj (Option.some.inj H)
          exact zw_zret (pc := 1737) dL_law_1737 rfl rfl rfl rfl
      · refine zw_if_eq (pc := 1724) (tgt := 1731) dL_law_1724 rfl (fun q => absurd q c25) (fun _ => ?_)
        refine zw_lconst (pc := 1727) (v := (1 : Int64)) dL_law_1727 (by decide) ?_
        refine zw_goto (pc := 1728) (tgt := 1732) dL_law_1728 rfl ?_
        refine zw_lcmp (pc := 1732) dL_law_1732 ?_
        rcases zif H with ⟨c27, H⟩ | ⟨c27, H⟩
        · refine zw_if_eq (pc := 1733) (tgt := 1738) dL_law_1733 rfl (fun _ => ?_) (fun q => absurd (lgc_eq.mpr c27) q)
          refine zw_goto (pc := 1738) (tgt := 3377) dL_law_1738 rfl ?_
          refine zw_iinc (pc := 3377) (v := (a5 + (6 : Int32))) (lv' := [(5, vI (a5 + (6 : Int32))), (7, vI x14), (6, vI x5), (0, vR a0), (1, vR a1), (2, vR a2), (3, vR a3), (4, vR a4)]) dL_law_3377 7 rfl rfl (by decide) rfl ?_
          refine zw_goto (pc := 3380) (tgt := 28) dL_law_3380 rfl ?_
          refine zW_pick (lv' := [(0, vR a0), (1, vR a1), (2, vR a2), (3, vR a3), (4, vR a4), (5, vI (a5 + (6 : Int32)))]) [3, 4, 5, 6, 7, 0] rfl ?_
          exact hk28 _ _ _ _ _ _ _ H
        · refine zw_if_eq (pc := 1733) (tgt := 1738) dL_law_1733 rfl (fun q => absurd q (fun q => c27 (lgc_eq.mp q))) (fun _ => ?_)
          refine zw_iconst (pc := 1736) (v := (0 : Int32)) dL_law_1736 (by decide) ?_
          obtain ⟨rfl, rfl⟩ := Prod.mk.inj (Option.some.inj H)
          exact zw_zret (pc := 1737) dL_law_1737 rfl rfl rfl rfl
    · refine zw_if_ne (pc := 1716) (tgt := 1738) dL_law_1716 rfl (fun _ => ?_) (fun q => absurd q c22)
      refine zw_goto (pc := 1738) (tgt := 3377) dL_law_1738 rfl ?_
      refine zw_iinc (pc := 3377) (v := (a5 + (6 : Int32))) (lv' := [(5, vI (a5 + (6 : Int32))), (7, vI x14), (6, vI x5), (0, vR a0), (1, vR a1), (2, vR a2), (3, vR a3), (4, vR a4)]) dL_law_3377 7 rfl rfl (by decide) rfl ?_
      refine zw_goto (pc := 3380) (tgt := 28) dL_law_3380 rfl ?_
      refine zW_pick (lv' := [(0, vR a0), (1, vR a1), (2, vR a2), (3, vR a3), (4, vR a4), (5, vI (a5 + (6 : Int32)))]) [3, 4, 5, 6, 7, 0] rfl ?_
      exact hk28 _ _ _ _ _ _ _ H
  · refine zw_icmp_eq (pc := 1709) (tgt := 1714) dL_law_1709 rfl (fun q => absurd q c21) (fun _ => ?_)
    refine zw_iconst (pc := 1712) (v := (0 : Int32)) dL_law_1712 (by decide) ?_
    obtain ⟨rfl, rfl⟩ := Prod.mk.inj (Option.some.inj H)
    exact zw_zret (pc := 1713) dL_law_1713 rfl rfl rfl rfl
def B_L_law_1741 (k28 : Option Nat → Option Nat → Option Nat → Option Nat → Option Nat → Int32 → zH → Option ((Int32 ⊕ Nat) × zH)) (a0 : Option Nat) (a1 : Option Nat) (a2 : Option Nat) (a3 : Option Nat) (a4 : Option Nat) (a5 : Int32) (h : zH) : Option ((Int32 ⊕ Nat) × zH) :=
  (zaI 50 a0 (a5 + (1 : Int32)) h).bind fun x1 =>
  (zaI 50 a0 (a5 + (2 : Int32)) h).bind fun x3 =>
  zb2 (f_X0_haveSameValues a1 x1 x3 a3 h) fun x7 h6 =>
  (zaI 50 a0 (a5 + (1 : Int32)) h6).bind fun x8 =>
  (zaI 50 a0 (a5 + (2 : Int32)) h6).bind fun x10 =>
  (zrv 4 a2 h6).bind fun b12 =>
  zb2 (f_X4_haveSameValues (some b12) x8 x10 h6) fun x18 h17 =>
  (zrv 4 a2 h17).bind fun b19 =>
  (f_X4_thrown (some b19) h17).bind fun x24 =>
  if x24 = x7 then
  if x7 = 0 then
  (zaJ a3 (0 : Int32) h17).bind fun x27 =>
  if x18 = 0 then
  if x27 = (0 : Int64) then
  k28 a0 a1 a2 a3 a4 (a5 + (6 : Int32)) h17
  else
  some (.inl (0 : Int32), h17)
  else
  if x27 = (1 : Int64) then
  k28 a0 a1 a2 a3 a4 (a5 + (6 : Int32)) h17
  else
  some (.inl (0 : Int32), h17)
  else
  k28 a0 a1 a2 a3 a4 (a5 + (6 : Int32)) h17
  else
  some (.inl (0 : Int32), h17)
theorem wB_L_law_1741 {G : zG} {h0 h : zH} {vo : Int32 ⊕ Nat} {vh : zH} {k28 : Option Nat → Option Nat → Option Nat → Option Nat → Option Nat → Int32 → zH → Option ((Int32 ⊕ Nat) × zH)} (hk28 : ∀ (b0 : Option Nat) (b1 : Option Nat) (b2 : Option Nat) (b3 : Option Nat) (b4 : Option Nat) (b5 : Int32) (h' : zH), k28 b0 b1 b2 b3 b4 b5 h' = some (vo, vh) → zW G M_L_law 343 h0 (zoI vo) vh 28 [(0, vR b0), (1, vR b1), (2, vR b2), (3, vR b3), (4, vR b4), (5, vI b5)] [] h') {a0 : Option Nat} {a1 : Option Nat} {a2 : Option Nat} {a3 : Option Nat} {a4 : Option Nat} {a5 : Int32} (H : B_L_law_1741 k28 a0 a1 a2 a3 a4 a5 h = some (vo, vh)) : zW G M_L_law 343 h0 (zoI vo) vh 1741 [(0, vR a0), (1, vR a1), (2, vR a2), (3, vR a3), (4, vR a4), (5, vI a5)] [] h := by
  unfold B_L_law_1741 at H
  refine zw_aload_n (pc := 1741) dL_law_1741 rfl 1 rfl ?_
  refine zw_aload_n (pc := 1742) dL_law_1742 rfl 0 rfl ?_
  refine zw_iload (pc := 1743) dL_law_1743 5 rfl ?_
  refine zw_iconst (pc := 1745) (v := (1 : Int32)) dL_law_1745 (by decide) ?_
  refine zw_iadd (pc := 1746) dL_law_1746 ?_
  obtain ⟨x1, e2, H⟩ := zbind H
  refine zy_iald (pc := 1747) dL_law_1747 e2 ?_
  refine zw_aload_n (pc := 1748) dL_law_1748 rfl 0 rfl ?_
  refine zw_iload (pc := 1749) dL_law_1749 5 rfl ?_
  refine zw_iconst (pc := 1751) (v := (2 : Int32)) dL_law_1751 (by decide) ?_
  refine zw_iadd (pc := 1752) dL_law_1752 ?_
  obtain ⟨x3, e4, H⟩ := zbind H
  refine zy_iald (pc := 1753) dL_law_1753 e4 ?_
  refine zw_aload_n (pc := 1754) dL_law_1754 rfl 3 rfl ?_
  obtain ⟨x7, h6, e5, H⟩ := zbind2 H
  refine zw_invS (pc := 1755) (M' := M_X0_haveSameValues) (A := [vR a1, vI x1, vI x3, vR a3]) [] dL_law_1755 (Or.inl q1877) mf_X0_haveSameValues (w_X0_haveSameValues e5) (Nat.le_of_ble_eq_true rfl) rfl rfl (Nat.le_of_ble_eq_true rfl) (zkv ?_) zkn9
  refine zw_istore (pc := 1758) (lv' := [(6, vI x7), (0, vR a0), (1, vR a1), (2, vR a2), (3, vR a3), (4, vR a4), (5, vI a5)]) dL_law_1758 (by decide) rfl ?_
  refine zw_aload_n (pc := 1760) dL_law_1760 rfl 3 rfl ?_
  refine zw_aload_n (pc := 1761) dL_law_1761 rfl 1 rfl ?_
  refine zw_iload (pc := 1762) dL_law_1762 6 rfl ?_
  refine zw_iconst (pc := 1764) (v := (1 : Int32)) dL_law_1764 (by decide) ?_
  refine zw_iadd (pc := 1765) dL_law_1765 ?_
  obtain ⟨x8, e9, H⟩ := zbind H
  refine zy_iald (pc := 1766) dL_law_1766 e9 ?_
  refine zw_aload_n (pc := 1767) dL_law_1767 rfl 1 rfl ?_
  refine zw_iload (pc := 1768) dL_law_1768 6 rfl ?_
  refine zw_iconst (pc := 1770) (v := (2 : Int32)) dL_law_1770 (by decide) ?_
  refine zw_iadd (pc := 1771) dL_law_1771 ?_
  obtain ⟨x10, e11, H⟩ := zbind H
  refine zy_iald (pc := 1772) dL_law_1772 e11 ?_
  obtain ⟨b12, e14, H⟩ := zbind H
  obtain ⟨e13, e15⟩ := zrv_ok e14
  obtain ⟨x18, h17, e16, H⟩ := zbind2 H
  refine zw_invV (pc := 1773) (M' := M_X4_haveSameValues) (A := [vI x8, vI x10]) [] dL_law_1773 (Or.inl q2856) mf_X4_haveSameValues q2858 (zkq e15 rfl) (w_X4_haveSameValues e16) (Nat.le_of_ble_eq_true rfl) rfl (by rw [← e13]; rfl) (Nat.le_of_ble_eq_true rfl) (zkv ?_) zkn9
  refine zw_istore (pc := 1776) (lv' := [(7, vI x18), (6, vI x7), (0, vR a0), (1, vR a1), (2, vR a2), (3, vR a3), (4, vR a4), (5, vI a5)]) dL_law_1776 (by decide) rfl ?_
  refine zw_aload_n (pc := 1778) dL_law_1778 rfl 4 rfl ?_
  obtain ⟨b19, e21, H⟩ := zbind H
  obtain ⟨e20, e22⟩ := zrv_ok e21
  obtain ⟨x24, e23, H⟩ := zbind H
  refine zw_invV (pc := 1779) (M' := M_X4_thrown) (A := []) [] dL_law_1779 (Or.inl q2302) mf_X4_thrown q2304 (zkq e22 rfl) (w_X4_thrown e23) (Nat.le_of_ble_eq_true rfl) rfl (by rw [← e20]; rfl) (Nat.le_of_ble_eq_true rfl) (zkv ?_) zkn9
  refine zw_iload (pc := 1782) dL_law_1782 1 rfl ?_
  rcases zif H with ⟨c25, H⟩ | ⟨c25, H⟩
  · refine zw_icmp_eq (pc := 1784) (tgt := 1789) dL_law_1784 rfl (fun _ => ?_) (fun q => absurd c25 q)
    refine zw_iload (pc := 1789) dL_law_1789 1 rfl ?_
    rcases zif H with ⟨c26, H⟩ | ⟨c26, H⟩
    · refine zw_if_ne (pc := 1791) (tgt := 1813) dL_law_1791 rfl (fun q => absurd c26 q) (fun _ => ?_)
      refine zw_aload_n (pc := 1794) dL_law_1794 rfl 5 rfl ?_
      refine zw_iconst (pc := 1795) (v := (0 : Int32)) dL_law_1795 (by decide) ?_
      obtain ⟨x27, e28, H⟩ := zbind H
      refine zy_lald (pc := 1796) dL_law_1796 e28 ?_
      refine zw_iload (pc := 1797) dL_law_1797 0 rfl ?_
      rcases zif H with ⟨c29, H⟩ | ⟨c29, H⟩
      · refine zw_if_eq (pc := 1799) (tgt := 1806) dL_law_1799 rfl (fun _ => ?_) (fun q => absurd c29 q)
        refine zw_lconst (pc := 1806) (v := (0 : Int64)) dL_law_1806 (by decide) ?_
        refine zw_lcmp (pc := 1807) dL_law_1807 ?_
        rcases zif H with ⟨c30, H⟩ | ⟨c30, H⟩
        · refine zw_if_eq (pc := 1808) (tgt := 1813) dL_law_1808 rfl (fun _ => ?_) (fun q => absurd (lgc_eq.mpr c30) q)
          refine zw_goto (pc := 1813) (tgt := 3377) dL_law_1813 rfl ?_
          refine zw_iinc (pc := 3377) (v := (a5 + (6 : Int32))) (lv' := [(5, vI (a5 + (6 : Int32))), (7, vI x18), (6, vI x7), (0, vR a0), (1, vR a1), (2, vR a2), (3, vR a3), (4, vR a4)]) dL_law_3377 7 rfl rfl (by decide) rfl ?_
          refine zw_goto (pc := 3380) (tgt := 28) dL_law_3380 rfl ?_
          refine zW_pick (lv' := [(0, vR a0), (1, vR a1), (2, vR a2), (3, vR a3), (4, vR a4), (5, vI (a5 + (6 : Int32)))]) [3, 4, 5, 6, 7, 0] rfl ?_
          exact hk28 _ _ _ _ _ _ _ H
        · refine zw_if_eq (pc := 1808) (tgt := 1813) dL_law_1808 rfl (fun q => absurd q (fun q => c30 (lgc_eq.mp q))) (fun _ => ?_)
          refine zw_iconst (pc := 1811) (v := (0 : Int32)) dL_law_1811 (by decide) ?_
          obtain ⟨rfl, rfl⟩ := Prod.mk.inj (Option.some.inj H)
          exact zw_zret (pc := 1812) dL_law_1812 rfl rfl rfl rfl
      · refine zw_if_eq (pc := 1799) (tgt := 1806) dL_law_1799 rfl (fun q => absurd q c29) (fun _ => ?_)
        refine zw_lconst (pc := 1802) (v := (1 : Int64)) dL_law_1802 (by decide) ?_
        refine zw_goto (pc := 1803) (tgt := 1807) dL_law_1803 rfl ?_
        refine zw_lcmp (pc := 1807) dL_law_1807 ?_
        rcases zif H with ⟨c31, H⟩ | ⟨c31, H⟩
        · refine zw_if_eq (pc := 1808) (tgt := 1813) dL_law_1808 rfl (fun _ => ?_) (fun q => absurd (lgc_eq.mpr c31) q)
          refine zw_goto (pc := 1813) (tgt := 3377) dL_law_1813 rfl ?_
          refine zw_iinc (pc := 3377) (v := (a5 + (6 : Int32))) (lv' := [(5, vI (a5 + (6 : Int32))), (7, vI x18), (6, vI x7), (0, vR a0), (1, vR a1), (2, vR a2), (3, vR a3), (4, vR a4)]) dL_law_3377 7 rfl rfl (by decide) rfl ?_
          refine zw_goto (pc := 3380) (tgt := 28) dL_law_3380 rfl ?_
          refine zW_pick (lv' := [(0, vR a0), (1, vR a1), (2, vR a2), (3, vR a3), (4, vR a4), (5, vI (a5 + (6 : Int32)))]) [3, 4, 5, 6, 7, 0] rfl ?_
          exact hk28 _ _ _ _ _ _ _ H
        · refine zw_if_eq (pc := 1808) (tgt := 1813) dL_law_1808 rfl (fun q => absurd q (fun q => c31 (lgc_eq.mp q))) (fun _ => ?_)
          refine zw_iconst (pc := 1811) (v := (0 : Int32)) dL_law_1811 (by decide) ?_
          obtain ⟨rfl, rfl⟩ := Prod.mk.inj (Option.some.inj H)
          exact zw_zret (pc := 1812) dL_law_1812 rfl rfl rfl rfl
    · refine zw_if_ne (pc := 1791) (tgt := 1813) dL_law_1791 rfl (fun _ => ?_) (fun q => absurd q c26)
      refine zw_goto (pc := 1813) (tgt := 3377) dL_law_1813 rfl ?_
      refine zw_iinc (pc := 3377) (v := (a5 + (6 : Int32))) (lv' := [(5, vI (a5 + (6 : Int32))), (7, vI x18), (6, vI x7), (0, vR a0), (1, vR a1), (2, vR a2), (3, vR a3), (4, vR a4)]) dL_law_3377 7 rfl rfl (by decide) rfl ?_
      refine zw_goto (pc := 3380) (tgt := 28) dL_law_3380 rfl ?_
      refine zW_pick (lv' := [(0, vR a0), (1, vR a1), (2, vR a2), (3, vR a3), (4, vR a4), (5, vI (a5 + (6 : Int32)))]) [3, 4, 5, 6, 7, 0] rfl ?_
      exact hk28 _ _ _ _ _ _ _ H
  · refine zw_icmp_eq (pc := 1784) (tgt := 1789) dL_law_1784 rfl (fun q => absurd q c25) (fun _ => ?_)
    refine zw_iconst (pc := 1787) (v := (0 : Int32)) dL_law_1787 (by decide) ?_
    obtain ⟨rfl, rfl⟩ := Prod.mk.inj (Option.some.inj H)
    exact zw_zret (pc := 1788) dL_law_1788 rfl rfl rfl rfl
def B_L_law_1816 (k28 : Option Nat → Option Nat → Option Nat → Option Nat → Option Nat → Int32 → zH → Option ((Int32 ⊕ Nat) × zH)) (a0 : Option Nat) (a1 : Option Nat) (a2 : Option Nat) (a3 : Option Nat) (a4 : Option Nat) (a5 : Int32) (h : zH) : Option ((Int32 ⊕ Nat) × zH) :=
  (zaI 50 a0 (a5 + (1 : Int32)) h).bind fun x1 =>
  (zaI 50 a0 (a5 + (2 : Int32)) h).bind fun x3 =>
  zb2 (f_X0_haveSameStructure a1 x1 x3 a3 h) fun x7 h6 =>
  (zaI 50 a0 (a5 + (1 : Int32)) h6).bind fun x8 =>
  (zaI 50 a0 (a5 + (2 : Int32)) h6).bind fun x10 =>
  (zrv 4 a2 h6).bind fun b12 =>
  zb2 (f_X4_haveSameStructure (some b12) x8 x10 h6) fun x18 h17 =>
  (zrv 4 a2 h17).bind fun b19 =>
  (f_X4_thrown (some b19) h17).bind fun x24 =>
  if x24 = x7 then
  if x7 = 0 then
  (zaJ a3 (0 : Int32) h17).bind fun x27 =>
  if x18 = 0 then
  if x27 = (0 : Int64) then
  k28 a0 a1 a2 a3 a4 (a5 + (6 : Int32)) h17
  else
  some (.inl (0 : Int32), h17)
  else
  if x27 = (1 : Int64) then
  k28 a0 a1 a2 a3 a4 (a5 + (6 : Int32)) h17
  else
  some (.inl (0 : Int32), h17)
  else
  k28 a0 a1 a2 a3 a4 (a5 + (6 : Int32)) h17
  else
  some (.inl (0 : Int32), h17)
theorem wB_L_law_1816 {G : zG} {h0 h : zH} {vo : Int32 ⊕ Nat} {vh : zH} {k28 : Option Nat → Option Nat → Option Nat → Option Nat → Option Nat → Int32 → zH → Option ((Int32 ⊕ Nat) × zH)} (hk28 : ∀ (b0 : Option Nat) (b1 : Option Nat) (b2 : Option Nat) (b3 : Option Nat) (b4 : Option Nat) (b5 : Int32) (h' : zH), k28 b0 b1 b2 b3 b4 b5 h' = some (vo, vh) → zW G M_L_law 343 h0 (zoI vo) vh 28 [(0, vR b0), (1, vR b1), (2, vR b2), (3, vR b3), (4, vR b4), (5, vI b5)] [] h') {a0 : Option Nat} {a1 : Option Nat} {a2 : Option Nat} {a3 : Option Nat} {a4 : Option Nat} {a5 : Int32} (H : B_L_law_1816 k28 a0 a1 a2 a3 a4 a5 h = some (vo, vh)) : zW G M_L_law 343 h0 (zoI vo) vh 1816 [(0, vR a0), (1, vR a1), (2, vR a2), (3, vR a3), (4, vR a4), (5, vI a5)] [] h := by
  unfold B_L_law_1816 at H
  refine zw_aload_n (pc := 1816) dL_law_1816 rfl 1 rfl ?_
  refine zw_aload_n (pc := 1817) dL_law_1817 rfl 0 rfl ?_
  refine zw_iload (pc := 1818) dL_law_1818 5 rfl ?_
  refine zw_iconst (pc := 1820) (v := (1 : Int32)) dL_law_1820 (by decide) ?_
  refine zw_iadd (pc := 1821) dL_law_1821 ?_
  obtain ⟨x1, e2, H⟩ := zbind H
  refine zy_iald (pc := 1822) dL_law_1822 e2 ?_
  refine zw_aload_n (pc := 1823) dL_law_1823 rfl 0 rfl ?_
  refine zw_iload (pc := 1824) dL_law_1824 5 rfl ?_
  refine zw_iconst (pc := 1826) (v := (2 : Int32)) dL_law_1826 (by decide) ?_
  refine zw_iadd (pc := 1827) dL_law_1827 ?_
  obtain ⟨x3, e4, H⟩ := zbind H
  refine zy_iald (pc := 1828) dL_law_1828 e4 ?_
  refine zw_aload_n (pc := 1829) dL_law_1829 rfl 3 rfl ?_
  obtain ⟨x7, h6, e5, H⟩ := zbind2 H
  refine zw_invS (pc := 1830) (M' := M_X0_haveSameStructure) (A := [vR a1, vI x1, vI x3, vR a3]) [] dL_law_1830 (Or.inl q1884) mf_X0_haveSameStructure (w_X0_haveSameStructure e5) (Nat.le_of_ble_eq_true rfl) rfl rfl (Nat.le_of_ble_eq_true rfl) (zkv ?_) zkn9
  refine zw_istore (pc := 1833) (lv' := [(6, vI x7), (0, vR a0), (1, vR a1), (2, vR a2), (3, vR a3), (4, vR a4), (5, vI a5)]) dL_law_1833 (by decide) rfl ?_
  refine zw_aload_n (pc := 1835) dL_law_1835 rfl 3 rfl ?_
  refine zw_aload_n (pc := 1836) dL_law_1836 rfl 1 rfl ?_
  refine zw_iload (pc := 1837) dL_law_1837 6 rfl ?_
  refine zw_iconst (pc := 1839) (v := (1 : Int32)) dL_law_1839 (by decide) ?_
  refine zw_iadd (pc := 1840) dL_law_1840 ?_
  obtain ⟨x8, e9, H⟩ := zbind H
  refine zy_iald (pc := 1841) dL_law_1841 e9 ?_
  refine zw_aload_n (pc := 1842) dL_law_1842 rfl 1 rfl ?_
  refine zw_iload (pc := 1843) dL_law_1843 6 rfl ?_
  refine zw_iconst (pc := 1845) (v := (2 : Int32)) dL_law_1845 (by decide) ?_
  refine zw_iadd (pc := 1846) dL_law_1846 ?_
  obtain ⟨x10, e11, H⟩ := zbind H
  refine zy_iald (pc := 1847) dL_law_1847 e11 ?_
  obtain ⟨b12, e14, H⟩ := zbind H
  obtain ⟨e13, e15⟩ := zrv_ok e14
  obtain ⟨x18, h17, e16, H⟩ := zbind2 H
  refine zw_invV (pc := 1848) (M' := M_X4_haveSameStructure) (A := [vI x8, vI x10]) [] dL_law_1848 (Or.inl q2864) mf_X4_haveSameStructure q2866 (zkq e15 rfl) (w_X4_haveSameStructure e16) (Nat.le_of_ble_eq_true rfl) rfl (by rw [← e13]; rfl) (Nat.le_of_ble_eq_true rfl) (zkv ?_) zkn9
  refine zw_istore (pc := 1851) (lv' := [(7, vI x18), (6, vI x7), (0, vR a0), (1, vR a1), (2, vR a2), (3, vR a3), (4, vR a4), (5, vI a5)]) dL_law_1851 (by decide) rfl ?_
  refine zw_aload_n (pc := 1853) dL_law_1853 rfl 4 rfl ?_
  obtain ⟨b19, e21, H⟩ := zbind H
  obtain ⟨e20, e22⟩ := zrv_ok e21
  obtain ⟨x24, e23, H⟩ := zbind H
  refine zw_invV (pc := 1854) (M' := M_X4_thrown) (A := []) [] dL_law_1854 (Or.inl q2302) mf_X4_thrown q2304 (zkq e22 rfl) (w_X4_thrown e23) (Nat.le_of_ble_eq_true rfl) rfl (by rw [← e20]; rfl) (Nat.le_of_ble_eq_true rfl) (zkv ?_) zkn9
  refine zw_iload (pc := 1857) dL_law_1857 1 rfl ?_
  rcases zif H with ⟨c25, H⟩ | ⟨c25, H⟩
  · refine zw_icmp_eq (pc := 1859) (tgt := 1864) dL_law_1859 rfl (fun _ => ?_) (fun q => absurd c25 q)
    refine zw_iload (pc := 1864) dL_law_1864 1 rfl ?_
    rcases zif H with ⟨c26, H⟩ | ⟨c26, H⟩
    · refine zw_if_ne (pc := 1866) (tgt := 1888) dL_law_1866 rfl (fun q => absurd c26 q) (fun _ => ?_)
      refine zw_aload_n (pc := 1869) dL_law_1869 rfl 5 rfl ?_
      refine zw_iconst (pc := 1870) (v := (0 : Int32)) dL_law_1870 (by decide) ?_
      obtain ⟨x27, e28, H⟩ := zbind H
      refine zy_lald (pc := 1871) dL_law_1871 e28 ?_
      refine zw_iload (pc := 1872) dL_law_1872 0 rfl ?_
      rcases zif H with ⟨c29, H⟩ | ⟨c29, H⟩
      · refine zw_if_eq (pc := 1874) (tgt := 1881) dL_law_1874 rfl (fun _ => ?_) (fun q => absurd c29 q)
        refine zw_lconst (pc := 1881) (v := (0 : Int64)) dL_law_1881 (by decide) ?_
        refine zw_lcmp (pc := 1882) dL_law_1882 ?_
        rcases zif H with ⟨c30, H⟩ | ⟨c30, H⟩
        · refine zw_if_eq (pc := 1883) (tgt := 1888) dL_law_1883 rfl (fun _ => ?_) (fun q => absurd (lgc_eq.mpr c30) q)
          refine zw_goto (pc := 1888) (tgt := 3377) dL_law_1888 rfl ?_
          refine zw_iinc (pc := 3377) (v := (a5 + (6 : Int32))) (lv' := [(5, vI (a5 + (6 : Int32))), (7, vI x18), (6, vI x7), (0, vR a0), (1, vR a1), (2, vR a2), (3, vR a3), (4, vR a4)]) dL_law_3377 7 rfl rfl (by decide) rfl ?_
          refine zw_goto (pc := 3380) (tgt := 28) dL_law_3380 rfl ?_
          refine zW_pick (lv' := [(0, vR a0), (1, vR a1), (2, vR a2), (3, vR a3), (4, vR a4), (5, vI (a5 + (6 : Int32)))]) [3, 4, 5, 6, 7, 0] rfl ?_
          exact hk28 _ _ _ _ _ _ _ H
        · refine zw_if_eq (pc := 1883) (tgt := 1888) dL_law_1883 rfl (fun q => absurd q (fun q => c30 (lgc_eq.mp q))) (fun _ => ?_)
          refine zw_iconst (pc := 1886) (v := (0 : Int32)) dL_law_1886 (by decide) ?_
          obtain ⟨rfl, rfl⟩ := Prod.mk.inj (Option.some.inj H)
          exact zw_zret (pc := 1887) dL_law_1887 rfl rfl rfl rfl
      · refine zw_if_eq (pc := 1874) (tgt := 1881) dL_law_1874 rfl (fun q => absurd q c29) (fun _ => ?_)
        refine zw_lconst (pc := 1877) (v := (1 : Int64)) dL_law_1877 (by decide) ?_
        refine zw_goto (pc := 1878) (tgt := 1882) dL_law_1878 rfl ?_
        refine zw_lcmp (pc := 1882) dL_law_1882 ?_
        rcases zif H with ⟨c31, H⟩ | ⟨c31, H⟩
        · refine zw_if_eq (pc := 1883) (tgt := 1888) dL_law_1883 rfl (fun _ => ?_) (fun q => absurd (lgc_eq.mpr c31) q)
          refine zw_goto (pc := 1888) (tgt := 3377) dL_law_1888 rfl ?_
          refine zw_iinc (pc := 3377) (v := (a5 + (6 : Int32))) (lv' := [(5, vI (a5 + (6 : Int32))), (7, vI x18), (6, vI x7), (0, vR a0), (1, vR a1), (2, vR a2), (3, vR a3), (4, vR a4)]) dL_law_3377 7 rfl rfl (by decide) rfl ?_
          refine zw_goto (pc := 3380) (tgt := 28) dL_law_3380 rfl ?_
          refine zW_pick (lv' := [(0, vR a0), (1, vR a1), (2, vR a2), (3, vR a3), (4, vR a4), (5, vI (a5 + (6 : Int32)))]) [3, 4, 5, 6, 7, 0] rfl ?_
          exact hk28 _ _ _ _ _ _ _ H
        · refine zw_if_eq (pc := 1883) (tgt := 1888) dL_law_1883 rfl (fun q => absurd q (fun q => c31 (lgc_eq.mp q))) (fun _ => ?_)
          refine zw_iconst (pc := 1886) (v := (0 : Int32)) dL_law_1886 (by decide) ?_
          obtain ⟨rfl, rfl⟩ := Prod.mk.inj (Option.some.inj H)
          exact zw_zret (pc := 1887) dL_law_1887 rfl rfl rfl rfl
    · refine zw_if_ne (pc := 1866) (tgt := 1888) dL_law_1866 rfl (fun _ => ?_) (fun q => absurd q c26)
      refine zw_goto (pc := 1888) (tgt := 3377) dL_law_1888 rfl ?_
      refine zw_iinc (pc := 3377) (v := (a5 + (6 : Int32))) (lv' := [(5, vI (a5 + (6 : Int32))), (7, vI x18), (6, vI x7), (0, vR a0), (1, vR a1), (2, vR a2), (3, vR a3), (4, vR a4)]) dL_law_3377 7 rfl rfl (by decide) rfl ?_
      refine zw_goto (pc := 3380) (tgt := 28) dL_law_3380 rfl ?_
      refine zW_pick (lv' := [(0, vR a0), (1, vR a1), (2, vR a2), (3, vR a3), (4, vR a4), (5, vI (a5 + (6 : Int32)))]) [3, 4, 5, 6, 7, 0] rfl ?_
      exact hk28 _ _ _ _ _ _ _ H
  · refine zw_icmp_eq (pc := 1859) (tgt := 1864) dL_law_1859 rfl (fun q => absurd q c25) (fun _ => ?_)
    refine zw_iconst (pc := 1862) (v := (0 : Int32)) dL_law_1862 (by decide) ?_
    obtain ⟨rfl, rfl⟩ := Prod.mk.inj (Option.some.inj H)
    exact zw_zret (pc := 1863) dL_law_1863 rfl rfl rfl rfl
def B_L_law_1891 (k28 : Option Nat → Option Nat → Option Nat → Option Nat → Option Nat → Int32 → zH → Option ((Int32 ⊕ Nat) × zH)) (a0 : Option Nat) (a1 : Option Nat) (a2 : Option Nat) (a3 : Option Nat) (a4 : Option Nat) (a5 : Int32) (h : zH) : Option ((Int32 ⊕ Nat) × zH) :=
  (zaI 50 a0 (a5 + (1 : Int32)) h).bind fun x1 =>
  (zaI 50 a0 (a5 + (2 : Int32)) h).bind fun x3 =>
  zb2 (f_X0_sumObstacle a1 x1 x3 a3 h) fun x7 h6 =>
  (zaI 50 a0 (a5 + (1 : Int32)) h6).bind fun x8 =>
  (zaI 50 a0 (a5 + (2 : Int32)) h6).bind fun x10 =>
  (zrv 4 a2 h6).bind fun b12 =>
  zb2 (f_X4_sumObstacle (some b12) x8 x10 h6) fun x18 h17 =>
  (zrv 4 a2 h17).bind fun b19 =>
  (f_X4_thrown (some b19) h17).bind fun x24 =>
  if x24 = x7 then
  if x7 = 0 then
  (zaJ a3 (0 : Int32) h17).bind fun x27 =>
  if x27 = x18.toInt64 then
  k28 a0 a1 a2 a3 a4 (a5 + (6 : Int32)) h17
  else
  some (.inl (0 : Int32), h17)
  else
  k28 a0 a1 a2 a3 a4 (a5 + (6 : Int32)) h17
  else
  some (.inl (0 : Int32), h17)
theorem wB_L_law_1891 {G : zG} {h0 h : zH} {vo : Int32 ⊕ Nat} {vh : zH} {k28 : Option Nat → Option Nat → Option Nat → Option Nat → Option Nat → Int32 → zH → Option ((Int32 ⊕ Nat) × zH)} (hk28 : ∀ (b0 : Option Nat) (b1 : Option Nat) (b2 : Option Nat) (b3 : Option Nat) (b4 : Option Nat) (b5 : Int32) (h' : zH), k28 b0 b1 b2 b3 b4 b5 h' = some (vo, vh) → zW G M_L_law 343 h0 (zoI vo) vh 28 [(0, vR b0), (1, vR b1), (2, vR b2), (3, vR b3), (4, vR b4), (5, vI b5)] [] h') {a0 : Option Nat} {a1 : Option Nat} {a2 : Option Nat} {a3 : Option Nat} {a4 : Option Nat} {a5 : Int32} (H : B_L_law_1891 k28 a0 a1 a2 a3 a4 a5 h = some (vo, vh)) : zW G M_L_law 343 h0 (zoI vo) vh 1891 [(0, vR a0), (1, vR a1), (2, vR a2), (3, vR a3), (4, vR a4), (5, vI a5)] [] h := by
  unfold B_L_law_1891 at H
  refine zw_aload_n (pc := 1891) dL_law_1891 rfl 1 rfl ?_
  refine zw_aload_n (pc := 1892) dL_law_1892 rfl 0 rfl ?_
  refine zw_iload (pc := 1893) dL_law_1893 5 rfl ?_
  refine zw_iconst (pc := 1895) (v := (1 : Int32)) dL_law_1895 (by decide) ?_
  refine zw_iadd (pc := 1896) dL_law_1896 ?_
  obtain ⟨x1, e2, H⟩ := zbind H
  refine zy_iald (pc := 1897) dL_law_1897 e2 ?_
  refine zw_aload_n (pc := 1898) dL_law_1898 rfl 0 rfl ?_
  refine zw_iload (pc := 1899) dL_law_1899 5 rfl ?_
  refine zw_iconst (pc := 1901) (v := (2 : Int32)) dL_law_1901 (by decide) ?_
  refine zw_iadd (pc := 1902) dL_law_1902 ?_
  obtain ⟨x3, e4, H⟩ := zbind H
  refine zy_iald (pc := 1903) dL_law_1903 e4 ?_
  refine zw_aload_n (pc := 1904) dL_law_1904 rfl 3 rfl ?_
  obtain ⟨x7, h6, e5, H⟩ := zbind2 H
  refine zw_invS (pc := 1905) (M' := M_X0_sumObstacle) (A := [vR a1, vI x1, vI x3, vR a3]) [] dL_law_1905 (Or.inl q1891) mf_X0_sumObstacle (w_X0_sumObstacle e5) (Nat.le_of_ble_eq_true rfl) rfl rfl (Nat.le_of_ble_eq_true rfl) (zkv ?_) zkn9
  refine zw_istore (pc := 1908) (lv' := [(6, vI x7), (0, vR a0), (1, vR a1), (2, vR a2), (3, vR a3), (4, vR a4), (5, vI a5)]) dL_law_1908 (by decide) rfl ?_
  refine zw_aload_n (pc := 1910) dL_law_1910 rfl 3 rfl ?_
  refine zw_aload_n (pc := 1911) dL_law_1911 rfl 1 rfl ?_
  refine zw_iload (pc := 1912) dL_law_1912 6 rfl ?_
  refine zw_iconst (pc := 1914) (v := (1 : Int32)) dL_law_1914 (by decide) ?_
  refine zw_iadd (pc := 1915) dL_law_1915 ?_
  obtain ⟨x8, e9, H⟩ := zbind H
  refine zy_iald (pc := 1916) dL_law_1916 e9 ?_
  refine zw_aload_n (pc := 1917) dL_law_1917 rfl 1 rfl ?_
  refine zw_iload (pc := 1918) dL_law_1918 6 rfl ?_
  refine zw_iconst (pc := 1920) (v := (2 : Int32)) dL_law_1920 (by decide) ?_
  refine zw_iadd (pc := 1921) dL_law_1921 ?_
  obtain ⟨x10, e11, H⟩ := zbind H
  refine zy_iald (pc := 1922) dL_law_1922 e11 ?_
  obtain ⟨b12, e14, H⟩ := zbind H
  obtain ⟨e13, e15⟩ := zrv_ok e14
  obtain ⟨x18, h17, e16, H⟩ := zbind2 H
  refine zw_invV (pc := 1923) (M' := M_X4_sumObstacle) (A := [vI x8, vI x10]) [] dL_law_1923 (Or.inl q2868) mf_X4_sumObstacle q2870 (zkq e15 rfl) (w_X4_sumObstacle e16) (Nat.le_of_ble_eq_true rfl) rfl (by rw [← e13]; rfl) (Nat.le_of_ble_eq_true rfl) (zkv ?_) zkn9
  refine zw_istore (pc := 1926) (lv' := [(7, vI x18), (6, vI x7), (0, vR a0), (1, vR a1), (2, vR a2), (3, vR a3), (4, vR a4), (5, vI a5)]) dL_law_1926 (by decide) rfl ?_
  refine zw_aload_n (pc := 1928) dL_law_1928 rfl 4 rfl ?_
  obtain ⟨b19, e21, H⟩ := zbind H
  obtain ⟨e20, e22⟩ := zrv_ok e21
  obtain ⟨x24, e23, H⟩ := zbind H
  refine zw_invV (pc := 1929) (M' := M_X4_thrown) (A := []) [] dL_law_1929 (Or.inl q2302) mf_X4_thrown q2304 (zkq e22 rfl) (w_X4_thrown e23) (Nat.le_of_ble_eq_true rfl) rfl (by rw [← e20]; rfl) (Nat.le_of_ble_eq_true rfl) (zkv ?_) zkn9
  refine zw_iload (pc := 1932) dL_law_1932 1 rfl ?_
  rcases zif H with ⟨c25, H⟩ | ⟨c25, H⟩
  · refine zw_icmp_eq (pc := 1934) (tgt := 1939) dL_law_1934 rfl (fun _ => ?_) (fun q => absurd c25 q)
    refine zw_iload (pc := 1939) dL_law_1939 1 rfl ?_
    rcases zif H with ⟨c26, H⟩ | ⟨c26, H⟩
    · refine zw_if_ne (pc := 1941) (tgt := 1956) dL_law_1941 rfl (fun q => absurd c26 q) (fun _ => ?_)
      refine zw_aload_n (pc := 1944) dL_law_1944 rfl 5 rfl ?_
      refine zw_iconst (pc := 1945) (v := (0 : Int32)) dL_law_1945 (by decide) ?_
      obtain ⟨x27, e28, H⟩ := zbind H
      refine zy_lald (pc := 1946) dL_law_1946 e28 ?_
      refine zw_iload (pc := 1947) dL_law_1947 0 rfl ?_
      refine zw_i2l (pc := 1949) dL_law_1949 ?_
      refine zw_lcmp (pc := 1950) dL_law_1950 ?_
      rcases zif H with ⟨c29, H⟩ | ⟨c29, H⟩
      · refine zw_if_eq (pc := 1951) (tgt := 1956) dL_law_1951 rfl (fun _ => ?_) (fun q => absurd (lgc_eq.mpr c29) q)
        refine zw_goto (pc := 1956) (tgt := 3377) dL_law_1956 rfl ?_
        refine zw_iinc (pc := 3377) (v := (a5 + (6 : Int32))) (lv' := [(5, vI (a5 + (6 : Int32))), (7, vI x18), (6, vI x7), (0, vR a0), (1, vR a1), (2, vR a2), (3, vR a3), (4, vR a4)]) dL_law_3377 7 rfl rfl (by decide) rfl ?_
        refine zw_goto (pc := 3380) (tgt := 28) dL_law_3380 rfl ?_
        refine zW_pick (lv' := [(0, vR a0), (1, vR a1), (2, vR a2), (3, vR a3), (4, vR a4), (5, vI (a5 + (6 : Int32)))]) [3, 4, 5, 6, 7, 0] rfl ?_
        exact hk28 _ _ _ _ _ _ _ H
      · refine zw_if_eq (pc := 1951) (tgt := 1956) dL_law_1951 rfl (fun q => absurd q (fun q => c29 (lgc_eq.mp q))) (fun _ => ?_)
        refine zw_iconst (pc := 1954) (v := (0 : Int32)) dL_law_1954 (by decide) ?_
        obtain ⟨rfl, rfl⟩ := Prod.mk.inj (Option.some.inj H)
        exact zw_zret (pc := 1955) dL_law_1955 rfl rfl rfl rfl
    · refine zw_if_ne (pc := 1941) (tgt := 1956) dL_law_1941 rfl (fun _ => ?_) (fun q => absurd q c26)
      refine zw_goto (pc := 1956) (tgt := 3377) dL_law_1956 rfl ?_
      refine zw_iinc (pc := 3377) (v := (a5 + (6 : Int32))) (lv' := [(5, vI (a5 + (6 : Int32))), (7, vI x18), (6, vI x7), (0, vR a0), (1, vR a1), (2, vR a2), (3, vR a3), (4, vR a4)]) dL_law_3377 7 rfl rfl (by decide) rfl ?_
      refine zw_goto (pc := 3380) (tgt := 28) dL_law_3380 rfl ?_
      refine zW_pick (lv' := [(0, vR a0), (1, vR a1), (2, vR a2), (3, vR a3), (4, vR a4), (5, vI (a5 + (6 : Int32)))]) [3, 4, 5, 6, 7, 0] rfl ?_
      exact hk28 _ _ _ _ _ _ _ H
  · refine zw_icmp_eq (pc := 1934) (tgt := 1939) dL_law_1934 rfl (fun q => absurd q c25) (fun _ => ?_)
    refine zw_iconst (pc := 1937) (v := (0 : Int32)) dL_law_1937 (by decide) ?_
    obtain ⟨rfl, rfl⟩ := Prod.mk.inj (Option.some.inj H)
    exact zw_zret (pc := 1938) dL_law_1938 rfl rfl rfl rfl
def B_L_law_1959 (k28 : Option Nat → Option Nat → Option Nat → Option Nat → Option Nat → Int32 → zH → Option ((Int32 ⊕ Nat) × zH)) (a0 : Option Nat) (a1 : Option Nat) (a2 : Option Nat) (a3 : Option Nat) (a4 : Option Nat) (a5 : Int32) (h : zH) : Option ((Int32 ⊕ Nat) × zH) :=
  (zaI 50 a0 (a5 + (1 : Int32)) h).bind fun x1 =>
  (zaI 50 a0 (a5 + (2 : Int32)) h).bind fun x3 =>
  zb2 (f_X0_productObstacle a1 x1 x3 a3 h) fun x7 h6 =>
  (zaI 50 a0 (a5 + (1 : Int32)) h6).bind fun x8 =>
  (zaI 50 a0 (a5 + (2 : Int32)) h6).bind fun x10 =>
  (zrv 4 a2 h6).bind fun b12 =>
  zb2 (f_X4_productObstacle (some b12) x8 x10 h6) fun x18 h17 =>
  (zrv 4 a2 h17).bind fun b19 =>
  (f_X4_thrown (some b19) h17).bind fun x24 =>
  if x24 = x7 then
  if x7 = 0 then
  (zaJ a3 (0 : Int32) h17).bind fun x27 =>
  if x27 = x18.toInt64 then
  k28 a0 a1 a2 a3 a4 (a5 + (6 : Int32)) h17
  else
  some (.inl (0 : Int32), h17)
  else
  k28 a0 a1 a2 a3 a4 (a5 + (6 : Int32)) h17
  else
  some (.inl (0 : Int32), h17)
theorem wB_L_law_1959 {G : zG} {h0 h : zH} {vo : Int32 ⊕ Nat} {vh : zH} {k28 : Option Nat → Option Nat → Option Nat → Option Nat → Option Nat → Int32 → zH → Option ((Int32 ⊕ Nat) × zH)} (hk28 : ∀ (b0 : Option Nat) (b1 : Option Nat) (b2 : Option Nat) (b3 : Option Nat) (b4 : Option Nat) (b5 : Int32) (h' : zH), k28 b0 b1 b2 b3 b4 b5 h' = some (vo, vh) → zW G M_L_law 343 h0 (zoI vo) vh 28 [(0, vR b0), (1, vR b1), (2, vR b2), (3, vR b3), (4, vR b4), (5, vI b5)] [] h') {a0 : Option Nat} {a1 : Option Nat} {a2 : Option Nat} {a3 : Option Nat} {a4 : Option Nat} {a5 : Int32} (H : B_L_law_1959 k28 a0 a1 a2 a3 a4 a5 h = some (vo, vh)) : zW G M_L_law 343 h0 (zoI vo) vh 1959 [(0, vR a0), (1, vR a1), (2, vR a2), (3, vR a3), (4, vR a4), (5, vI a5)] [] h := by
  unfold B_L_law_1959 at H
  refine zw_aload_n (pc := 1959) dL_law_1959 rfl 1 rfl ?_
  refine zw_aload_n (pc := 1960) dL_law_1960 rfl 0 rfl ?_
  refine zw_iload (pc := 1961) dL_law_1961 5 rfl ?_
  refine zw_iconst (pc := 1963) (v := (1 : Int32)) dL_law_1963 (by decide) ?_
  refine zw_iadd (pc := 1964) dL_law_1964 ?_
  obtain ⟨x1, e2, H⟩ := zbind H
  refine zy_iald (pc := 1965) dL_law_1965 e2 ?_
  refine zw_aload_n (pc := 1966) dL_law_1966 rfl 0 rfl ?_
  refine zw_iload (pc := 1967) dL_law_1967 5 rfl ?_
  refine zw_iconst (pc := 1969) (v := (2 : Int32)) dL_law_1969 (by decide) ?_
  refine zw_iadd (pc := 1970) dL_law_1970 ?_
  obtain ⟨x3, e4, H⟩ := zbind H
  refine zy_iald (pc := 1971) dL_law_1971 e4 ?_
  refine zw_aload_n (pc := 1972) dL_law_1972 rfl 3 rfl ?_
  obtain ⟨x7, h6, e5, H⟩ := zbind2 H
  refine zw_invS (pc := 1973) (M' := M_X0_productObstacle) (A := [vR a1, vI x1, vI x3, vR a3]) [] dL_law_1973 (Or.inl q1901) mf_X0_productObstacle (w_X0_productObstacle e5) (Nat.le_of_ble_eq_true rfl) rfl rfl (Nat.le_of_ble_eq_true rfl) (zkv ?_) zkn9
  refine zw_istore (pc := 1976) (lv' := [(6, vI x7), (0, vR a0), (1, vR a1), (2, vR a2), (3, vR a3), (4, vR a4), (5, vI a5)]) dL_law_1976 (by decide) rfl ?_
  refine zw_aload_n (pc := 1978) dL_law_1978 rfl 3 rfl ?_
  refine zw_aload_n (pc := 1979) dL_law_1979 rfl 1 rfl ?_
  refine zw_iload (pc := 1980) dL_law_1980 6 rfl ?_
  refine zw_iconst (pc := 1982) (v := (1 : Int32)) dL_law_1982 (by decide) ?_
  refine zw_iadd (pc := 1983) dL_law_1983 ?_
  obtain ⟨x8, e9, H⟩ := zbind H
  refine zy_iald (pc := 1984) dL_law_1984 e9 ?_
  refine zw_aload_n (pc := 1985) dL_law_1985 rfl 1 rfl ?_
  refine zw_iload (pc := 1986) dL_law_1986 6 rfl ?_
  refine zw_iconst (pc := 1988) (v := (2 : Int32)) dL_law_1988 (by decide) ?_
  refine zw_iadd (pc := 1989) dL_law_1989 ?_
  obtain ⟨x10, e11, H⟩ := zbind H
  refine zy_iald (pc := 1990) dL_law_1990 e11 ?_
  obtain ⟨b12, e14, H⟩ := zbind H
  obtain ⟨e13, e15⟩ := zrv_ok e14
  obtain ⟨x18, h17, e16, H⟩ := zbind2 H
  refine zw_invV (pc := 1991) (M' := M_X4_productObstacle) (A := [vI x8, vI x10]) [] dL_law_1991 (Or.inl q2876) mf_X4_productObstacle q2878 (zkq e15 rfl) (w_X4_productObstacle e16) (Nat.le_of_ble_eq_true rfl) rfl (by rw [← e13]; rfl) (Nat.le_of_ble_eq_true rfl) (zkv ?_) zkn9
  refine zw_istore (pc := 1994) (lv' := [(7, vI x18), (6, vI x7), (0, vR a0), (1, vR a1), (2, vR a2), (3, vR a3), (4, vR a4), (5, vI a5)]) dL_law_1994 (by decide) rfl ?_
  refine zw_aload_n (pc := 1996) dL_law_1996 rfl 4 rfl ?_
  obtain ⟨b19, e21, H⟩ := zbind H
  obtain ⟨e20, e22⟩ := zrv_ok e21
  obtain ⟨x24, e23, H⟩ := zbind H
  refine zw_invV (pc := 1997) (M' := M_X4_thrown) (A := []) [] dL_law_1997 (Or.inl q2302) mf_X4_thrown q2304 (zkq e22 rfl) (w_X4_thrown e23) (Nat.le_of_ble_eq_true rfl) rfl (by rw [← e20]; rfl) (Nat.le_of_ble_eq_true rfl) (zkv ?_) zkn9
  refine zw_iload (pc := 2000) dL_law_2000 1 rfl ?_
  rcases zif H with ⟨c25, H⟩ | ⟨c25, H⟩
  · refine zw_icmp_eq (pc := 2002) (tgt := 2007) dL_law_2002 rfl (fun _ => ?_) (fun q => absurd c25 q)
    refine zw_iload (pc := 2007) dL_law_2007 1 rfl ?_
    rcases zif H with ⟨c26, H⟩ | ⟨c26, H⟩
    · refine zw_if_ne (pc := 2009) (tgt := 2024) dL_law_2009 rfl (fun q => absurd c26 q) (fun _ => ?_)
      refine zw_aload_n (pc := 2012) dL_law_2012 rfl 5 rfl ?_
      refine zw_iconst (pc := 2013) (v := (0 : Int32)) dL_law_2013 (by decide) ?_
      obtain ⟨x27, e28, H⟩ := zbind H
      refine zy_lald (pc := 2014) dL_law_2014 e28 ?_
      refine zw_iload (pc := 2015) dL_law_2015 0 rfl ?_
      refine zw_i2l (pc := 2017) dL_law_2017 ?_
      refine zw_lcmp (pc := 2018) dL_law_2018 ?_
      rcases zif H with ⟨c29, H⟩ | ⟨c29, H⟩
      · refine zw_if_eq (pc := 2019) (tgt := 2024) dL_law_2019 rfl (fun _ => ?_) (fun q => absurd (lgc_eq.mpr c29) q)
        refine zw_goto (pc := 2024) (tgt := 3377) dL_law_2024 rfl ?_
        refine zw_iinc (pc := 3377) (v := (a5 + (6 : Int32))) (lv' := [(5, vI (a5 + (6 : Int32))), (7, vI x18), (6, vI x7), (0, vR a0), (1, vR a1), (2, vR a2), (3, vR a3), (4, vR a4)]) dL_law_3377 7 rfl rfl (by decide) rfl ?_
        refine zw_goto (pc := 3380) (tgt := 28) dL_law_3380 rfl ?_
        refine zW_pick (lv' := [(0, vR a0), (1, vR a1), (2, vR a2), (3, vR a3), (4, vR a4), (5, vI (a5 + (6 : Int32)))]) [3, 4, 5, 6, 7, 0] rfl ?_
        exact hk28 _ _ _ _ _ _ _ H
      · refine zw_if_eq (pc := 2019) (tgt := 2024) dL_law_2019 rfl (fun q => absurd q (fun q => c29 (lgc_eq.mp q))) (fun _ => ?_)
        refine zw_iconst (pc := 2022) (v := (0 : Int32)) dL_law_2022 (by decide) ?_
        obtain ⟨rfl, rfl⟩ := Prod.mk.inj (Option.some.inj H)
        exact zw_zret (pc := 2023) dL_law_2023 rfl rfl rfl rfl
    · refine zw_if_ne (pc := 2009) (tgt := 2024) dL_law_2009 rfl (fun _ => ?_) (fun q => absurd q c26)
      refine zw_goto (pc := 2024) (tgt := 3377) dL_law_2024 rfl ?_
      refine zw_iinc (pc := 3377) (v := (a5 + (6 : Int32))) (lv' := [(5, vI (a5 + (6 : Int32))), (7, vI x18), (6, vI x7), (0, vR a0), (1, vR a1), (2, vR a2), (3, vR a3), (4, vR a4)]) dL_law_3377 7 rfl rfl (by decide) rfl ?_
      refine zw_goto (pc := 3380) (tgt := 28) dL_law_3380 rfl ?_
      refine zW_pick (lv' := [(0, vR a0), (1, vR a1), (2, vR a2), (3, vR a3), (4, vR a4), (5, vI (a5 + (6 : Int32)))]) [3, 4, 5, 6, 7, 0] rfl ?_
      exact hk28 _ _ _ _ _ _ _ H
  · refine zw_icmp_eq (pc := 2002) (tgt := 2007) dL_law_2002 rfl (fun q => absurd q c25) (fun _ => ?_)
    refine zw_iconst (pc := 2005) (v := (0 : Int32)) dL_law_2005 (by decide) ?_
    obtain ⟨rfl, rfl⟩ := Prod.mk.inj (Option.some.inj H)
    exact zw_zret (pc := 2006) dL_law_2006 rfl rfl rfl rfl
def B_L_law_2027 (k28 : Option Nat → Option Nat → Option Nat → Option Nat → Option Nat → Int32 → zH → Option ((Int32 ⊕ Nat) × zH)) (a0 : Option Nat) (a1 : Option Nat) (a2 : Option Nat) (a3 : Option Nat) (a4 : Option Nat) (a5 : Int32) (h : zH) : Option ((Int32 ⊕ Nat) × zH) :=
  (zaI 50 a0 (a5 + (1 : Int32)) h).bind fun x1 =>
  (zaI 50 a0 (a5 + (2 : Int32)) h).bind fun x3 =>
  zb2 (f_X0_productStoredCount a1 x1 x3 a3 h) fun x7 h6 =>
  (zaI 50 a0 (a5 + (1 : Int32)) h6).bind fun x8 =>
  (zaI 50 a0 (a5 + (2 : Int32)) h6).bind fun x10 =>
  (zrv 4 a2 h6).bind fun b12 =>
  zb2 (f_X4_productStoredCount (some b12) x8 x10 h6) fun x18 h17 =>
  (zrv 4 a2 h17).bind fun b19 =>
  (f_X4_thrown (some b19) h17).bind fun x24 =>
  if x24 = x7 then
  if x7 = 0 then
  (zaJ a3 (0 : Int32) h17).bind fun x27 =>
  if x27 = x18.toInt64 then
  k28 a0 a1 a2 a3 a4 (a5 + (6 : Int32)) h17
  else
  some (.inl (0 : Int32), h17)
  else
  k28 a0 a1 a2 a3 a4 (a5 + (6 : Int32)) h17
  else
  some (.inl (0 : Int32), h17)
theorem wB_L_law_2027 {G : zG} {h0 h : zH} {vo : Int32 ⊕ Nat} {vh : zH} {k28 : Option Nat → Option Nat → Option Nat → Option Nat → Option Nat → Int32 → zH → Option ((Int32 ⊕ Nat) × zH)} (hk28 : ∀ (b0 : Option Nat) (b1 : Option Nat) (b2 : Option Nat) (b3 : Option Nat) (b4 : Option Nat) (b5 : Int32) (h' : zH), k28 b0 b1 b2 b3 b4 b5 h' = some (vo, vh) → zW G M_L_law 343 h0 (zoI vo) vh 28 [(0, vR b0), (1, vR b1), (2, vR b2), (3, vR b3), (4, vR b4), (5, vI b5)] [] h') {a0 : Option Nat} {a1 : Option Nat} {a2 : Option Nat} {a3 : Option Nat} {a4 : Option Nat} {a5 : Int32} (H : B_L_law_2027 k28 a0 a1 a2 a3 a4 a5 h = some (vo, vh)) : zW G M_L_law 343 h0 (zoI vo) vh 2027 [(0, vR a0), (1, vR a1), (2, vR a2), (3, vR a3), (4, vR a4), (5, vI a5)] [] h := by
  unfold B_L_law_2027 at H
  refine zw_aload_n (pc := 2027) dL_law_2027 rfl 1 rfl ?_
  refine zw_aload_n (pc := 2028) dL_law_2028 rfl 0 rfl ?_
  refine zw_iload (pc := 2029) dL_law_2029 5 rfl ?_
  refine zw_iconst (pc := 2031) (v := (1 : Int32)) dL_law_2031 (by decide) ?_
  refine zw_iadd (pc := 2032) dL_law_2032 ?_
  obtain ⟨x1, e2, H⟩ := zbind H
  refine zy_iald (pc := 2033) dL_law_2033 e2 ?_
  refine zw_aload_n (pc := 2034) dL_law_2034 rfl 0 rfl ?_
  refine zw_iload (pc := 2035) dL_law_2035 5 rfl ?_
  refine zw_iconst (pc := 2037) (v := (2 : Int32)) dL_law_2037 (by decide) ?_
  refine zw_iadd (pc := 2038) dL_law_2038 ?_
  obtain ⟨x3, e4, H⟩ := zbind H
  refine zy_iald (pc := 2039) dL_law_2039 e4 ?_
  refine zw_aload_n (pc := 2040) dL_law_2040 rfl 3 rfl ?_
  obtain ⟨x7, h6, e5, H⟩ := zbind2 H
  refine zw_invS (pc := 2041) (M' := M_X0_productStoredCount) (A := [vR a1, vI x1, vI x3, vR a3]) [] dL_law_2041 (Or.inl q1908) mf_X0_productStoredCount (w_X0_productStoredCount e5) (Nat.le_of_ble_eq_true rfl) rfl rfl (Nat.le_of_ble_eq_true rfl) (zkv ?_) zkn9
  refine zw_istore (pc := 2044) (lv' := [(6, vI x7), (0, vR a0), (1, vR a1), (2, vR a2), (3, vR a3), (4, vR a4), (5, vI a5)]) dL_law_2044 (by decide) rfl ?_
  refine zw_aload_n (pc := 2046) dL_law_2046 rfl 3 rfl ?_
  refine zw_aload_n (pc := 2047) dL_law_2047 rfl 1 rfl ?_
  refine zw_iload (pc := 2048) dL_law_2048 6 rfl ?_
  refine zw_iconst (pc := 2050) (v := (1 : Int32)) dL_law_2050 (by decide) ?_
  refine zw_iadd (pc := 2051) dL_law_2051 ?_
  obtain ⟨x8, e9, H⟩ := zbind H
  refine zy_iald (pc := 2052) dL_law_2052 e9 ?_
  refine zw_aload_n (pc := 2053) dL_law_2053 rfl 1 rfl ?_
  refine zw_iload (pc := 2054) dL_law_2054 6 rfl ?_
  refine zw_iconst (pc := 2056) (v := (2 : Int32)) dL_law_2056 (by decide) ?_
  refine zw_iadd (pc := 2057) dL_law_2057 ?_
  obtain ⟨x10, e11, H⟩ := zbind H
  refine zy_iald (pc := 2058) dL_law_2058 e11 ?_
  obtain ⟨b12, e14, H⟩ := zbind H
  obtain ⟨e13, e15⟩ := zrv_ok e14
  obtain ⟨x18, h17, e16, H⟩ := zbind2 H
  refine zw_invV (pc := 2059) (M' := M_X4_productStoredCount) (A := [vI x8, vI x10]) [] dL_law_2059 (Or.inl q2884) mf_X4_productStoredCount q2886 (zkq e15 rfl) (w_X4_productStoredCount e16) (Nat.le_of_ble_eq_true rfl) rfl (by rw [← e13]; rfl) (Nat.le_of_ble_eq_true rfl) (zkv ?_) zkn9
  refine zw_istore (pc := 2062) (lv' := [(7, vI x18), (6, vI x7), (0, vR a0), (1, vR a1), (2, vR a2), (3, vR a3), (4, vR a4), (5, vI a5)]) dL_law_2062 (by decide) rfl ?_
  refine zw_aload_n (pc := 2064) dL_law_2064 rfl 4 rfl ?_
  obtain ⟨b19, e21, H⟩ := zbind H
  obtain ⟨e20, e22⟩ := zrv_ok e21
  obtain ⟨x24, e23, H⟩ := zbind H
  refine zw_invV (pc := 2065) (M' := M_X4_thrown) (A := []) [] dL_law_2065 (Or.inl q2302) mf_X4_thrown q2304 (zkq e22 rfl) (w_X4_thrown e23) (Nat.le_of_ble_eq_true rfl) rfl (by rw [← e20]; rfl) (Nat.le_of_ble_eq_true rfl) (zkv ?_) zkn9
  refine zw_iload (pc := 2068) dL_law_2068 1 rfl ?_
  rcases zif H with ⟨c25, H⟩ | ⟨c25, H⟩
  · refine zw_icmp_eq (pc := 2070) (tgt := 2075) dL_law_2070 rfl (fun _ => ?_) (fun q => absurd c25 q)
    refine zw_iload (pc := 2075) dL_law_2075 1 rfl ?_
    rcases zif H with ⟨c26, H⟩ | ⟨c26, H⟩
    · refine zw_if_ne (pc := 2077) (tgt := 2092) dL_law_2077 rfl (fun q => absurd c26 q) (fun _ => ?_)
      refine zw_aload_n (pc := 2080) dL_law_2080 rfl 5 rfl ?_
      refine zw_iconst (pc := 2081) (v := (0 : Int32)) dL_law_2081 (by decide) ?_
      obtain ⟨x27, e28, H⟩ := zbind H
      refine zy_lald (pc := 2082) dL_law_2082 e28 ?_
      refine zw_iload (pc := 2083) dL_law_2083 0 rfl ?_
      refine zw_i2l (pc := 2085) dL_law_2085 ?_
      refine zw_lcmp (pc := 2086) dL_law_2086 ?_
      rcases zif H with ⟨c29, H⟩ | ⟨c29, H⟩
      · refine zw_if_eq (pc := 2087) (tgt := 2092) dL_law_2087 rfl (fun _ => ?_) (fun q => absurd (lgc_eq.mpr c29) q)
        refine zw_goto (pc := 2092) (tgt := 3377) dL_law_2092 rfl ?_
        refine zw_iinc (pc := 3377) (v := (a5 + (6 : Int32))) (lv' := [(5, vI (a5 + (6 : Int32))), (7, vI x18), (6, vI x7), (0, vR a0), (1, vR a1), (2, vR a2), (3, vR a3), (4, vR a4)]) dL_law_3377 7 rfl rfl (by decide) rfl ?_
        refine zw_goto (pc := 3380) (tgt := 28) dL_law_3380 rfl ?_
        refine zW_pick (lv' := [(0, vR a0), (1, vR a1), (2, vR a2), (3, vR a3), (4, vR a4), (5, vI (a5 + (6 : Int32)))]) [3, 4, 5, 6, 7, 0] rfl ?_
        exact hk28 _ _ _ _ _ _ _ H
      · refine zw_if_eq (pc := 2087) (tgt := 2092) dL_law_2087 rfl (fun q => absurd q (fun q => c29 (lgc_eq.mp q))) (fun _ => ?_)
        refine zw_iconst (pc := 2090) (v := (0 : Int32)) dL_law_2090 (by decide) ?_
        obtain ⟨rfl, rfl⟩ := Prod.mk.inj (Option.some.inj H)
        exact zw_zret (pc := 2091) dL_law_2091 rfl rfl rfl rfl
    · refine zw_if_ne (pc := 2077) (tgt := 2092) dL_law_2077 rfl (fun _ => ?_) (fun q => absurd q c26)
      refine zw_goto (pc := 2092) (tgt := 3377) dL_law_2092 rfl ?_
      refine zw_iinc (pc := 3377) (v := (a5 + (6 : Int32))) (lv' := [(5, vI (a5 + (6 : Int32))), (7, vI x18), (6, vI x7), (0, vR a0), (1, vR a1), (2, vR a2), (3, vR a3), (4, vR a4)]) dL_law_3377 7 rfl rfl (by decide) rfl ?_
      refine zw_goto (pc := 3380) (tgt := 28) dL_law_3380 rfl ?_
      refine zW_pick (lv' := [(0, vR a0), (1, vR a1), (2, vR a2), (3, vR a3), (4, vR a4), (5, vI (a5 + (6 : Int32)))]) [3, 4, 5, 6, 7, 0] rfl ?_
      exact hk28 _ _ _ _ _ _ _ H
  · refine zw_icmp_eq (pc := 2070) (tgt := 2075) dL_law_2070 rfl (fun q => absurd q c25) (fun _ => ?_)
    refine zw_iconst (pc := 2073) (v := (0 : Int32)) dL_law_2073 (by decide) ?_
    obtain ⟨rfl, rfl⟩ := Prod.mk.inj (Option.some.inj H)
    exact zw_zret (pc := 2074) dL_law_2074 rfl rfl rfl rfl
def B_L_law_2095 (k28 : Option Nat → Option Nat → Option Nat → Option Nat → Option Nat → Int32 → zH → Option ((Int32 ⊕ Nat) × zH)) (a0 : Option Nat) (a1 : Option Nat) (a2 : Option Nat) (a3 : Option Nat) (a4 : Option Nat) (a5 : Int32) (h : zH) : Option ((Int32 ⊕ Nat) × zH) :=
  (zaI 50 a0 (a5 + (1 : Int32)) h).bind fun x1 =>
  (zaI 50 a0 (a5 + (2 : Int32)) h).bind fun x3 =>
  zb2 (f_X0_productWork a1 x1 x3 a3 h) fun x7 h6 =>
  (zaI 50 a0 (a5 + (1 : Int32)) h6).bind fun x8 =>
  (zaI 50 a0 (a5 + (2 : Int32)) h6).bind fun x10 =>
  (zrv 4 a2 h6).bind fun b12 =>
  zb2 (f_X4_productWork (some b12) x8 x10 h6) fun x18 h17 =>
  (zrv 4 a2 h17).bind fun b19 =>
  (f_X4_thrown (some b19) h17).bind fun x24 =>
  if x24 = x7 then
  if x7 = 0 then
  (zaJ a3 (0 : Int32) h17).bind fun x27 =>
  if x27 = x18.toInt64 then
  k28 a0 a1 a2 a3 a4 (a5 + (6 : Int32)) h17
  else
  some (.inl (0 : Int32), h17)
  else
  k28 a0 a1 a2 a3 a4 (a5 + (6 : Int32)) h17
  else
  some (.inl (0 : Int32), h17)
theorem wB_L_law_2095 {G : zG} {h0 h : zH} {vo : Int32 ⊕ Nat} {vh : zH} {k28 : Option Nat → Option Nat → Option Nat → Option Nat → Option Nat → Int32 → zH → Option ((Int32 ⊕ Nat) × zH)} (hk28 : ∀ (b0 : Option Nat) (b1 : Option Nat) (b2 : Option Nat) (b3 : Option Nat) (b4 : Option Nat) (b5 : Int32) (h' : zH), k28 b0 b1 b2 b3 b4 b5 h' = some (vo, vh) → zW G M_L_law 343 h0 (zoI vo) vh 28 [(0, vR b0), (1, vR b1), (2, vR b2), (3, vR b3), (4, vR b4), (5, vI b5)] [] h') {a0 : Option Nat} {a1 : Option Nat} {a2 : Option Nat} {a3 : Option Nat} {a4 : Option Nat} {a5 : Int32} (H : B_L_law_2095 k28 a0 a1 a2 a3 a4 a5 h = some (vo, vh)) : zW G M_L_law 343 h0 (zoI vo) vh 2095 [(0, vR a0), (1, vR a1), (2, vR a2), (3, vR a3), (4, vR a4), (5, vI a5)] [] h := by
  unfold B_L_law_2095 at H
  refine zw_aload_n (pc := 2095) dL_law_2095 rfl 1 rfl ?_
  refine zw_aload_n (pc := 2096) dL_law_2096 rfl 0 rfl ?_
  refine zw_iload (pc := 2097) dL_law_2097 5 rfl ?_
  refine zw_iconst (pc := 2099) (v := (1 : Int32)) dL_law_2099 (by decide) ?_
  refine zw_iadd (pc := 2100) dL_law_2100 ?_
  obtain ⟨x1, e2, H⟩ := zbind H
  refine zy_iald (pc := 2101) dL_law_2101 e2 ?_
  refine zw_aload_n (pc := 2102) dL_law_2102 rfl 0 rfl ?_
  refine zw_iload (pc := 2103) dL_law_2103 5 rfl ?_
  refine zw_iconst (pc := 2105) (v := (2 : Int32)) dL_law_2105 (by decide) ?_
  refine zw_iadd (pc := 2106) dL_law_2106 ?_
  obtain ⟨x3, e4, H⟩ := zbind H
  refine zy_iald (pc := 2107) dL_law_2107 e4 ?_
  refine zw_aload_n (pc := 2108) dL_law_2108 rfl 3 rfl ?_
  obtain ⟨x7, h6, e5, H⟩ := zbind2 H
  refine zw_invS (pc := 2109) (M' := M_X0_productWork) (A := [vR a1, vI x1, vI x3, vR a3]) [] dL_law_2109 (Or.inl q1916) mf_X0_productWork (w_X0_productWork e5) (Nat.le_of_ble_eq_true rfl) rfl rfl (Nat.le_of_ble_eq_true rfl) (zkv ?_) zkn9
  refine zw_istore (pc := 2112) (lv' := [(6, vI x7), (0, vR a0), (1, vR a1), (2, vR a2), (3, vR a3), (4, vR a4), (5, vI a5)]) dL_law_2112 (by decide) rfl ?_
  refine zw_aload_n (pc := 2114) dL_law_2114 rfl 3 rfl ?_
  refine zw_aload_n (pc := 2115) dL_law_2115 rfl 1 rfl ?_
  refine zw_iload (pc := 2116) dL_law_2116 6 rfl ?_
  refine zw_iconst (pc := 2118) (v := (1 : Int32)) dL_law_2118 (by decide) ?_
  refine zw_iadd (pc := 2119) dL_law_2119 ?_
  obtain ⟨x8, e9, H⟩ := zbind H
  refine zy_iald (pc := 2120) dL_law_2120 e9 ?_
  refine zw_aload_n (pc := 2121) dL_law_2121 rfl 1 rfl ?_
  refine zw_iload (pc := 2122) dL_law_2122 6 rfl ?_
  refine zw_iconst (pc := 2124) (v := (2 : Int32)) dL_law_2124 (by decide) ?_
  refine zw_iadd (pc := 2125) dL_law_2125 ?_
  obtain ⟨x10, e11, H⟩ := zbind H
  refine zy_iald (pc := 2126) dL_law_2126 e11 ?_
  obtain ⟨b12, e14, H⟩ := zbind H
  obtain ⟨e13, e15⟩ := zrv_ok e14
  obtain ⟨x18, h17, e16, H⟩ := zbind2 H
  refine zw_invV (pc := 2127) (M' := M_X4_productWork) (A := [vI x8, vI x10]) [] dL_law_2127 (Or.inl q2892) mf_X4_productWork q2894 (zkq e15 rfl) (w_X4_productWork e16) (Nat.le_of_ble_eq_true rfl) rfl (by rw [← e13]; rfl) (Nat.le_of_ble_eq_true rfl) (zkv ?_) zkn9
  refine zw_istore (pc := 2130) (lv' := [(7, vI x18), (6, vI x7), (0, vR a0), (1, vR a1), (2, vR a2), (3, vR a3), (4, vR a4), (5, vI a5)]) dL_law_2130 (by decide) rfl ?_
  refine zw_aload_n (pc := 2132) dL_law_2132 rfl 4 rfl ?_
  obtain ⟨b19, e21, H⟩ := zbind H
  obtain ⟨e20, e22⟩ := zrv_ok e21
  obtain ⟨x24, e23, H⟩ := zbind H
  refine zw_invV (pc := 2133) (M' := M_X4_thrown) (A := []) [] dL_law_2133 (Or.inl q2302) mf_X4_thrown q2304 (zkq e22 rfl) (w_X4_thrown e23) (Nat.le_of_ble_eq_true rfl) rfl (by rw [← e20]; rfl) (Nat.le_of_ble_eq_true rfl) (zkv ?_) zkn9
  refine zw_iload (pc := 2136) dL_law_2136 1 rfl ?_
  rcases zif H with ⟨c25, H⟩ | ⟨c25, H⟩
  · refine zw_icmp_eq (pc := 2138) (tgt := 2143) dL_law_2138 rfl (fun _ => ?_) (fun q => absurd c25 q)
    refine zw_iload (pc := 2143) dL_law_2143 1 rfl ?_
    rcases zif H with ⟨c26, H⟩ | ⟨c26, H⟩
    · refine zw_if_ne (pc := 2145) (tgt := 2160) dL_law_2145 rfl (fun q => absurd c26 q) (fun _ => ?_)
      refine zw_aload_n (pc := 2148) dL_law_2148 rfl 5 rfl ?_
      refine zw_iconst (pc := 2149) (v := (0 : Int32)) dL_law_2149 (by decide) ?_
      obtain ⟨x27, e28, H⟩ := zbind H
      refine zy_lald (pc := 2150) dL_law_2150 e28 ?_
      refine zw_iload (pc := 2151) dL_law_2151 0 rfl ?_
      refine zw_i2l (pc := 2153) dL_law_2153 ?_
      refine zw_lcmp (pc := 2154) dL_law_2154 ?_
      rcases zif H with ⟨c29, H⟩ | ⟨c29, H⟩
      · refine zw_if_eq (pc := 2155) (tgt := 2160) dL_law_2155 rfl (fun _ => ?_) (fun q => absurd (lgc_eq.mpr c29) q)
        refine zw_goto (pc := 2160) (tgt := 3377) dL_law_2160 rfl ?_
        refine zw_iinc (pc := 3377) (v := (a5 + (6 : Int32))) (lv' := [(5, vI (a5 + (6 : Int32))), (7, vI x18), (6, vI x7), (0, vR a0), (1, vR a1), (2, vR a2), (3, vR a3), (4, vR a4)]) dL_law_3377 7 rfl rfl (by decide) rfl ?_
        refine zw_goto (pc := 3380) (tgt := 28) dL_law_3380 rfl ?_
        refine zW_pick (lv' := [(0, vR a0), (1, vR a1), (2, vR a2), (3, vR a3), (4, vR a4), (5, vI (a5 + (6 : Int32)))]) [3, 4, 5, 6, 7, 0] rfl ?_
        exact hk28 _ _ _ _ _ _ _ H
      · refine zw_if_eq (pc := 2155) (tgt := 2160) dL_law_2155 rfl (fun q => absurd q (fun q => c29 (lgc_eq.mp q))) (fun _ => ?_)
        refine zw_iconst (pc := 2158) (v := (0 : Int32)) dL_law_2158 (by decide) ?_
        obtain ⟨rfl, rfl⟩ := Prod.mk.inj (Option.some.inj H)
        exact zw_zret (pc := 2159) dL_law_2159 rfl rfl rfl rfl
    · refine zw_if_ne (pc := 2145) (tgt := 2160) dL_law_2145 rfl (fun _ => ?_) (fun q => absurd q c26)
      refine zw_goto (pc := 2160) (tgt := 3377) dL_law_2160 rfl ?_
      refine zw_iinc (pc := 3377) (v := (a5 + (6 : Int32))) (lv' := [(5, vI (a5 + (6 : Int32))), (7, vI x18), (6, vI x7), (0, vR a0), (1, vR a1), (2, vR a2), (3, vR a3), (4, vR a4)]) dL_law_3377 7 rfl rfl (by decide) rfl ?_
      refine zw_goto (pc := 3380) (tgt := 28) dL_law_3380 rfl ?_
      refine zW_pick (lv' := [(0, vR a0), (1, vR a1), (2, vR a2), (3, vR a3), (4, vR a4), (5, vI (a5 + (6 : Int32)))]) [3, 4, 5, 6, 7, 0] rfl ?_
      exact hk28 _ _ _ _ _ _ _ H
  · refine zw_icmp_eq (pc := 2138) (tgt := 2143) dL_law_2138 rfl (fun q => absurd q c25) (fun _ => ?_)
    refine zw_iconst (pc := 2141) (v := (0 : Int32)) dL_law_2141 (by decide) ?_
    obtain ⟨rfl, rfl⟩ := Prod.mk.inj (Option.some.inj H)
    exact zw_zret (pc := 2142) dL_law_2142 rfl rfl rfl rfl
def B_L_law_2163 (k28 : Option Nat → Option Nat → Option Nat → Option Nat → Option Nat → Int32 → zH → Option ((Int32 ⊕ Nat) × zH)) (a0 : Option Nat) (a1 : Option Nat) (a2 : Option Nat) (a3 : Option Nat) (a4 : Option Nat) (a5 : Int32) (h : zH) : Option ((Int32 ⊕ Nat) × zH) :=
  (zaI 50 a0 (a5 + (1 : Int32)) h).bind fun x1 =>
  (zaI 50 a0 (a5 + (2 : Int32)) h).bind fun x3 =>
  zb2 (f_X0_sumStoredCount a1 x1 x3 a3 h) fun x7 h6 =>
  (zaI 50 a0 (a5 + (1 : Int32)) h6).bind fun x8 =>
  (zaI 50 a0 (a5 + (2 : Int32)) h6).bind fun x10 =>
  (zrv 4 a2 h6).bind fun b12 =>
  zb2 (f_X4_sumStoredCount (some b12) x8 x10 h6) fun x18 h17 =>
  (zrv 4 a2 h17).bind fun b19 =>
  (f_X4_thrown (some b19) h17).bind fun x24 =>
  if x24 = x7 then
  if x7 = 0 then
  (zaJ a3 (0 : Int32) h17).bind fun x27 =>
  if x27 = x18.toInt64 then
  k28 a0 a1 a2 a3 a4 (a5 + (6 : Int32)) h17
  else
  some (.inl (0 : Int32), h17)
  else
  k28 a0 a1 a2 a3 a4 (a5 + (6 : Int32)) h17
  else
  some (.inl (0 : Int32), h17)
theorem wB_L_law_2163 {G : zG} {h0 h : zH} {vo : Int32 ⊕ Nat} {vh : zH} {k28 : Option Nat → Option Nat → Option Nat → Option Nat → Option Nat → Int32 → zH → Option ((Int32 ⊕ Nat) × zH)} (hk28 : ∀ (b0 : Option Nat) (b1 : Option Nat) (b2 : Option Nat) (b3 : Option Nat) (b4 : Option Nat) (b5 : Int32) (h' : zH), k28 b0 b1 b2 b3 b4 b5 h' = some (vo, vh) → zW G M_L_law 343 h0 (zoI vo) vh 28 [(0, vR b0), (1, vR b1), (2, vR b2), (3, vR b3), (4, vR b4), (5, vI b5)] [] h') {a0 : Option Nat} {a1 : Option Nat} {a2 : Option Nat} {a3 : Option Nat} {a4 : Option Nat} {a5 : Int32} (H : B_L_law_2163 k28 a0 a1 a2 a3 a4 a5 h = some (vo, vh)) : zW G M_L_law 343 h0 (zoI vo) vh 2163 [(0, vR a0), (1, vR a1), (2, vR a2), (3, vR a3), (4, vR a4), (5, vI a5)] [] h := by
  unfold B_L_law_2163 at H
  refine zw_aload_n (pc := 2163) dL_law_2163 rfl 1 rfl ?_
  refine zw_aload_n (pc := 2164) dL_law_2164 rfl 0 rfl ?_
  refine zw_iload (pc := 2165) dL_law_2165 5 rfl ?_
  refine zw_iconst (pc := 2167) (v := (1 : Int32)) dL_law_2167 (by decide) ?_
  refine zw_iadd (pc := 2168) dL_law_2168 ?_
  obtain ⟨x1, e2, H⟩ := zbind H
  refine zy_iald (pc := 2169) dL_law_2169 e2 ?_
  refine zw_aload_n (pc := 2170) dL_law_2170 rfl 0 rfl ?_
  refine zw_iload (pc := 2171) dL_law_2171 5 rfl ?_
  refine zw_iconst (pc := 2173) (v := (2 : Int32)) dL_law_2173 (by decide) ?_
  refine zw_iadd (pc := 2174) dL_law_2174 ?_
  obtain ⟨x3, e4, H⟩ := zbind H
  refine zy_iald (pc := 2175) dL_law_2175 e4 ?_
  refine zw_aload_n (pc := 2176) dL_law_2176 rfl 3 rfl ?_
  obtain ⟨x7, h6, e5, H⟩ := zbind2 H
  refine zw_invS (pc := 2177) (M' := M_X0_sumStoredCount) (A := [vR a1, vI x1, vI x3, vR a3]) [] dL_law_2177 (Or.inl q1924) mf_X0_sumStoredCount (w_X0_sumStoredCount e5) (Nat.le_of_ble_eq_true rfl) rfl rfl (Nat.le_of_ble_eq_true rfl) (zkv ?_) zkn9
  refine zw_istore (pc := 2180) (lv' := [(6, vI x7), (0, vR a0), (1, vR a1), (2, vR a2), (3, vR a3), (4, vR a4), (5, vI a5)]) dL_law_2180 (by decide) rfl ?_
  refine zw_aload_n (pc := 2182) dL_law_2182 rfl 3 rfl ?_
  refine zw_aload_n (pc := 2183) dL_law_2183 rfl 1 rfl ?_
  refine zw_iload (pc := 2184) dL_law_2184 6 rfl ?_
  refine zw_iconst (pc := 2186) (v := (1 : Int32)) dL_law_2186 (by decide) ?_
  refine zw_iadd (pc := 2187) dL_law_2187 ?_
  obtain ⟨x8, e9, H⟩ := zbind H
  refine zy_iald (pc := 2188) dL_law_2188 e9 ?_
  refine zw_aload_n (pc := 2189) dL_law_2189 rfl 1 rfl ?_
  refine zw_iload (pc := 2190) dL_law_2190 6 rfl ?_
  refine zw_iconst (pc := 2192) (v := (2 : Int32)) dL_law_2192 (by decide) ?_
  refine zw_iadd (pc := 2193) dL_law_2193 ?_
  obtain ⟨x10, e11, H⟩ := zbind H
  refine zy_iald (pc := 2194) dL_law_2194 e11 ?_
  obtain ⟨b12, e14, H⟩ := zbind H
  obtain ⟨e13, e15⟩ := zrv_ok e14
  obtain ⟨x18, h17, e16, H⟩ := zbind2 H
  refine zw_invV (pc := 2195) (M' := M_X4_sumStoredCount) (A := [vI x8, vI x10]) [] dL_law_2195 (Or.inl q2896) mf_X4_sumStoredCount q2898 (zkq e15 rfl) (w_X4_sumStoredCount e16) (Nat.le_of_ble_eq_true rfl) rfl (by rw [← e13]; rfl) (Nat.le_of_ble_eq_true rfl) (zkv ?_) zkn9
  refine zw_istore (pc := 2198) (lv' := [(7, vI x18), (6, vI x7), (0, vR a0), (1, vR a1), (2, vR a2), (3, vR a3), (4, vR a4), (5, vI a5)]) dL_law_2198 (by decide) rfl ?_
  refine zw_aload_n (pc := 2200) dL_law_2200 rfl 4 rfl ?_
  obtain ⟨b19, e21, H⟩ := zbind H
  obtain ⟨e20, e22⟩ := zrv_ok e21
  obtain ⟨x24, e23, H⟩ := zbind H
  refine zw_invV (pc := 2201) (M' := M_X4_thrown) (A := []) [] dL_law_2201 (Or.inl q2302) mf_X4_thrown q2304 (zkq e22 rfl) (w_X4_thrown e23) (Nat.le_of_ble_eq_true rfl) rfl (by rw [← e20]; rfl) (Nat.le_of_ble_eq_true rfl) (zkv ?_) zkn9
  refine zw_iload (pc := 2204) dL_law_2204 1 rfl ?_
  rcases zif H with ⟨c25, H⟩ | ⟨c25, H⟩
  · refine zw_icmp_eq (pc := 2206) (tgt := 2211) dL_law_2206 rfl (fun _ => ?_) (fun q => absurd c25 q)
    refine zw_iload (pc := 2211) dL_law_2211 1 rfl ?_
    rcases zif H with ⟨c26, H⟩ | ⟨c26, H⟩
    · refine zw_if_ne (pc := 2213) (tgt := 2228) dL_law_2213 rfl (fun q => absurd c26 q) (fun _ => ?_)
      refine zw_aload_n (pc := 2216) dL_law_2216 rfl 5 rfl ?_
      refine zw_iconst (pc := 2217) (v := (0 : Int32)) dL_law_2217 (by decide) ?_
      obtain ⟨x27, e28, H⟩ := zbind H
      refine zy_lald (pc := 2218) dL_law_2218 e28 ?_
      refine zw_iload (pc := 2219) dL_law_2219 0 rfl ?_
      refine zw_i2l (pc := 2221) dL_law_2221 ?_
      refine zw_lcmp (pc := 2222) dL_law_2222 ?_
      rcases zif H with ⟨c29, H⟩ | ⟨c29, H⟩
      · refine zw_if_eq (pc := 2223) (tgt := 2228) dL_law_2223 rfl (fun _ => ?_) (fun q => absurd (lgc_eq.mpr c29) q)
        refine zw_goto (pc := 2228) (tgt := 3377) dL_law_2228 rfl ?_
        refine zw_iinc (pc := 3377) (v := (a5 + (6 : Int32))) (lv' := [(5, vI (a5 + (6 : Int32))), (7, vI x18), (6, vI x7), (0, vR a0), (1, vR a1), (2, vR a2), (3, vR a3), (4, vR a4)]) dL_law_3377 7 rfl rfl (by decide) rfl ?_
        refine zw_goto (pc := 3380) (tgt := 28) dL_law_3380 rfl ?_
        refine zW_pick (lv' := [(0, vR a0), (1, vR a1), (2, vR a2), (3, vR a3), (4, vR a4), (5, vI (a5 + (6 : Int32)))]) [3, 4, 5, 6, 7, 0] rfl ?_
        exact hk28 _ _ _ _ _ _ _ H
      · refine zw_if_eq (pc := 2223) (tgt := 2228) dL_law_2223 rfl (fun q => absurd q (fun q => c29 (lgc_eq.mp q))) (fun _ => ?_)
        refine zw_iconst (pc := 2226) (v := (0 : Int32)) dL_law_2226 (by decide) ?_
        obtain ⟨rfl, rfl⟩ := Prod.mk.inj (Option.some.inj H)
        exact zw_zret (pc := 2227) dL_law_2227 rfl rfl rfl rfl
    · refine zw_if_ne (pc := 2213) (tgt := 2228) dL_law_2213 rfl (fun _ => ?_) (fun q => absurd q c26)
      refine zw_goto (pc := 2228) (tgt := 3377) dL_law_2228 rfl ?_
      refine zw_iinc (pc := 3377) (v := (a5 + (6 : Int32))) (lv' := [(5, vI (a5 + (6 : Int32))), (7, vI x18), (6, vI x7), (0, vR a0), (1, vR a1), (2, vR a2), (3, vR a3), (4, vR a4)]) dL_law_3377 7 rfl rfl (by decide) rfl ?_
      refine zw_goto (pc := 3380) (tgt := 28) dL_law_3380 rfl ?_
      refine zW_pick (lv' := [(0, vR a0), (1, vR a1), (2, vR a2), (3, vR a3), (4, vR a4), (5, vI (a5 + (6 : Int32)))]) [3, 4, 5, 6, 7, 0] rfl ?_
      exact hk28 _ _ _ _ _ _ _ H
  · refine zw_icmp_eq (pc := 2206) (tgt := 2211) dL_law_2206 rfl (fun q => absurd q c25) (fun _ => ?_)
    refine zw_iconst (pc := 2209) (v := (0 : Int32)) dL_law_2209 (by decide) ?_
    obtain ⟨rfl, rfl⟩ := Prod.mk.inj (Option.some.inj H)
    exact zw_zret (pc := 2210) dL_law_2210 rfl rfl rfl rfl
def B_L_law_2231 (k28 : Option Nat → Option Nat → Option Nat → Option Nat → Option Nat → Int32 → zH → Option ((Int32 ⊕ Nat) × zH)) (a0 : Option Nat) (a1 : Option Nat) (a2 : Option Nat) (a3 : Option Nat) (a4 : Option Nat) (a5 : Int32) (h : zH) : Option ((Int32 ⊕ Nat) × zH) :=
  (zaI 50 a0 (a5 + (1 : Int32)) h).bind fun x1 =>
  (zaI 50 a0 (a5 + (2 : Int32)) h).bind fun x3 =>
  zb2 (f_X0_costliestEntry a1 x1 x3 a3 h) fun x7 h6 =>
  (zaI 50 a0 (a5 + (1 : Int32)) h6).bind fun x8 =>
  (zaI 50 a0 (a5 + (2 : Int32)) h6).bind fun x10 =>
  (zrv 4 a2 h6).bind fun b12 =>
  zb2 (f_X4_costliestEntry (some b12) x8 x10 h6) fun x18 h17 =>
  (zrv 4 a2 h17).bind fun b19 =>
  (f_X4_thrown (some b19) h17).bind fun x24 =>
  if x24 = x7 then
  if x7 = 0 then
  (zaJ a3 (0 : Int32) h17).bind fun x27 =>
  if x27 = x18.toInt64 then
  k28 a0 a1 a2 a3 a4 (a5 + (6 : Int32)) h17
  else
  some (.inl (0 : Int32), h17)
  else
  k28 a0 a1 a2 a3 a4 (a5 + (6 : Int32)) h17
  else
  some (.inl (0 : Int32), h17)
theorem wB_L_law_2231 {G : zG} {h0 h : zH} {vo : Int32 ⊕ Nat} {vh : zH} {k28 : Option Nat → Option Nat → Option Nat → Option Nat → Option Nat → Int32 → zH → Option ((Int32 ⊕ Nat) × zH)} (hk28 : ∀ (b0 : Option Nat) (b1 : Option Nat) (b2 : Option Nat) (b3 : Option Nat) (b4 : Option Nat) (b5 : Int32) (h' : zH), k28 b0 b1 b2 b3 b4 b5 h' = some (vo, vh) → zW G M_L_law 343 h0 (zoI vo) vh 28 [(0, vR b0), (1, vR b1), (2, vR b2), (3, vR b3), (4, vR b4), (5, vI b5)] [] h') {a0 : Option Nat} {a1 : Option Nat} {a2 : Option Nat} {a3 : Option Nat} {a4 : Option Nat} {a5 : Int32} (H : B_L_law_2231 k28 a0 a1 a2 a3 a4 a5 h = some (vo, vh)) : zW G M_L_law 343 h0 (zoI vo) vh 2231 [(0, vR a0), (1, vR a1), (2, vR a2), (3, vR a3), (4, vR a4), (5, vI a5)] [] h := by
  unfold B_L_law_2231 at H
  refine zw_aload_n (pc := 2231) dL_law_2231 rfl 1 rfl ?_
  refine zw_aload_n (pc := 2232) dL_law_2232 rfl 0 rfl ?_
  refine zw_iload (pc := 2233) dL_law_2233 5 rfl ?_
  refine zw_iconst (pc := 2235) (v := (1 : Int32)) dL_law_2235 (by decide) ?_
  refine zw_iadd (pc := 2236) dL_law_2236 ?_
  obtain ⟨x1, e2, H⟩ := zbind H
  refine zy_iald (pc := 2237) dL_law_2237 e2 ?_
  refine zw_aload_n (pc := 2238) dL_law_2238 rfl 0 rfl ?_
  refine zw_iload (pc := 2239) dL_law_2239 5 rfl ?_
  refine zw_iconst (pc := 2241) (v := (2 : Int32)) dL_law_2241 (by decide) ?_
  refine zw_iadd (pc := 2242) dL_law_2242 ?_
  obtain ⟨x3, e4, H⟩ := zbind H
  refine zy_iald (pc := 2243) dL_law_2243 e4 ?_
  refine zw_aload_n (pc := 2244) dL_law_2244 rfl 3 rfl ?_
  obtain ⟨x7, h6, e5, H⟩ := zbind2 H
  refine zw_invS (pc := 2245) (M' := M_X0_costliestEntry) (A := [vR a1, vI x1, vI x3, vR a3]) [] dL_law_2245 (Or.inl q1932) mf_X0_costliestEntry (w_X0_costliestEntry e5) (Nat.le_of_ble_eq_true rfl) rfl rfl (Nat.le_of_ble_eq_true rfl) (zkv ?_) zkn9
  refine zw_istore (pc := 2248) (lv' := [(6, vI x7), (0, vR a0), (1, vR a1), (2, vR a2), (3, vR a3), (4, vR a4), (5, vI a5)]) dL_law_2248 (by decide) rfl ?_
  refine zw_aload_n (pc := 2250) dL_law_2250 rfl 3 rfl ?_
  refine zw_aload_n (pc := 2251) dL_law_2251 rfl 1 rfl ?_
  refine zw_iload (pc := 2252) dL_law_2252 6 rfl ?_
  refine zw_iconst (pc := 2254) (v := (1 : Int32)) dL_law_2254 (by decide) ?_
  refine zw_iadd (pc := 2255) dL_law_2255 ?_
  obtain ⟨x8, e9, H⟩ := zbind H
  refine zy_iald (pc := 2256) dL_law_2256 e9 ?_
  refine zw_aload_n (pc := 2257) dL_law_2257 rfl 1 rfl ?_
  refine zw_iload (pc := 2258) dL_law_2258 6 rfl ?_
  refine zw_iconst (pc := 2260) (v := (2 : Int32)) dL_law_2260 (by decide) ?_
  refine zw_iadd (pc := 2261) dL_law_2261 ?_
  obtain ⟨x10, e11, H⟩ := zbind H
  refine zy_iald (pc := 2262) dL_law_2262 e11 ?_
  obtain ⟨b12, e14, H⟩ := zbind H
  obtain ⟨e13, e15⟩ := zrv_ok e14
  obtain ⟨x18, h17, e16, H⟩ := zbind2 H
  refine zw_invV (pc := 2263) (M' := M_X4_costliestEntry) (A := [vI x8, vI x10]) [] dL_law_2263 (Or.inl q2900) mf_X4_costliestEntry q2902 (zkq e15 rfl) (w_X4_costliestEntry e16) (Nat.le_of_ble_eq_true rfl) rfl (by rw [← e13]; rfl) (Nat.le_of_ble_eq_true rfl) (zkv ?_) zkn9
  refine zw_istore (pc := 2266) (lv' := [(7, vI x18), (6, vI x7), (0, vR a0), (1, vR a1), (2, vR a2), (3, vR a3), (4, vR a4), (5, vI a5)]) dL_law_2266 (by decide) rfl ?_
  refine zw_aload_n (pc := 2268) dL_law_2268 rfl 4 rfl ?_
  obtain ⟨b19, e21, H⟩ := zbind H
  obtain ⟨e20, e22⟩ := zrv_ok e21
  obtain ⟨x24, e23, H⟩ := zbind H
  refine zw_invV (pc := 2269) (M' := M_X4_thrown) (A := []) [] dL_law_2269 (Or.inl q2302) mf_X4_thrown q2304 (zkq e22 rfl) (w_X4_thrown e23) (Nat.le_of_ble_eq_true rfl) rfl (by rw [← e20]; rfl) (Nat.le_of_ble_eq_true rfl) (zkv ?_) zkn9
  refine zw_iload (pc := 2272) dL_law_2272 1 rfl ?_
  rcases zif H with ⟨c25, H⟩ | ⟨c25, H⟩
  · refine zw_icmp_eq (pc := 2274) (tgt := 2279) dL_law_2274 rfl (fun _ => ?_) (fun q => absurd c25 q)
    refine zw_iload (pc := 2279) dL_law_2279 1 rfl ?_
    rcases zif H with ⟨c26, H⟩ | ⟨c26, H⟩
    · refine zw_if_ne (pc := 2281) (tgt := 2296) dL_law_2281 rfl (fun q => absurd c26 q) (fun _ => ?_)
      refine zw_aload_n (pc := 2284) dL_law_2284 rfl 5 rfl ?_
      refine zw_iconst (pc := 2285) (v := (0 : Int32)) dL_law_2285 (by decide) ?_
      obtain ⟨x27, e28, H⟩ := zbind H
      refine zy_lald (pc := 2286) dL_law_2286 e28 ?_
      refine zw_iload (pc := 2287) dL_law_2287 0 rfl ?_
      refine zw_i2l (pc := 2289) dL_law_2289 ?_
      refine zw_lcmp (pc := 2290) dL_law_2290 ?_
      rcases zif H with ⟨c29, H⟩ | ⟨c29, H⟩
      · refine zw_if_eq (pc := 2291) (tgt := 2296) dL_law_2291 rfl (fun _ => ?_) (fun q => absurd (lgc_eq.mpr c29) q)
        refine zw_goto (pc := 2296) (tgt := 3377) dL_law_2296 rfl ?_
        refine zw_iinc (pc := 3377) (v := (a5 + (6 : Int32))) (lv' := [(5, vI (a5 + (6 : Int32))), (7, vI x18), (6, vI x7), (0, vR a0), (1, vR a1), (2, vR a2), (3, vR a3), (4, vR a4)]) dL_law_3377 7 rfl rfl (by decide) rfl ?_
        refine zw_goto (pc := 3380) (tgt := 28) dL_law_3380 rfl ?_
        refine zW_pick (lv' := [(0, vR a0), (1, vR a1), (2, vR a2), (3, vR a3), (4, vR a4), (5, vI (a5 + (6 : Int32)))]) [3, 4, 5, 6, 7, 0] rfl ?_
        exact hk28 _ _ _ _ _ _ _ H
      · refine zw_if_eq (pc := 2291) (tgt := 2296) dL_law_2291 rfl (fun q => absurd q (fun q => c29 (lgc_eq.mp q))) (fun _ => ?_)
        refine zw_iconst (pc := 2294) (v := (0 : Int32)) dL_law_2294 (by decide) ?_
        obtain ⟨rfl, rfl⟩ := Prod.mk.inj (Option.some.inj H)
        exact zw_zret (pc := 2295) dL_law_2295 rfl rfl rfl rfl
    · refine zw_if_ne (pc := 2281) (tgt := 2296) dL_law_2281 rfl (fun _ => ?_) (fun q => absurd q c26)
      refine zw_goto (pc := 2296) (tgt := 3377) dL_law_2296 rfl ?_
      refine zw_iinc (pc := 3377) (v := (a5 + (6 : Int32))) (lv' := [(5, vI (a5 + (6 : Int32))), (7, vI x18), (6, vI x7), (0, vR a0), (1, vR a1), (2, vR a2), (3, vR a3), (4, vR a4)]) dL_law_3377 7 rfl rfl (by decide) rfl ?_
      refine zw_goto (pc := 3380) (tgt := 28) dL_law_3380 rfl ?_
      refine zW_pick (lv' := [(0, vR a0), (1, vR a1), (2, vR a2), (3, vR a3), (4, vR a4), (5, vI (a5 + (6 : Int32)))]) [3, 4, 5, 6, 7, 0] rfl ?_
      exact hk28 _ _ _ _ _ _ _ H
  · refine zw_icmp_eq (pc := 2274) (tgt := 2279) dL_law_2274 rfl (fun q => absurd q c25) (fun _ => ?_)
    refine zw_iconst (pc := 2277) (v := (0 : Int32)) dL_law_2277 (by decide) ?_
    obtain ⟨rfl, rfl⟩ := Prod.mk.inj (Option.some.inj H)
    exact zw_zret (pc := 2278) dL_law_2278 rfl rfl rfl rfl
def B_L_law_2299 (k28 : Option Nat → Option Nat → Option Nat → Option Nat → Option Nat → Int32 → zH → Option ((Int32 ⊕ Nat) × zH)) (a0 : Option Nat) (a1 : Option Nat) (a2 : Option Nat) (a3 : Option Nat) (a4 : Option Nat) (a5 : Int32) (h : zH) : Option ((Int32 ⊕ Nat) × zH) :=
  (zrv 1 a1 h).bind fun b1 =>
  (f_X1_totalWork (some b1) h).bind fun x6 =>
  (zrv 4 a2 h).bind fun b7 =>
  zb2 (f_X4_totalWork (some b7) h) fun x13 h12 =>
  if x6 = x13 then
  k28 a0 a1 a2 a3 a4 (a5 + (6 : Int32)) h12
  else
  some (.inl (0 : Int32), h12)
theorem wB_L_law_2299 {G : zG} {h0 h : zH} {vo : Int32 ⊕ Nat} {vh : zH} {k28 : Option Nat → Option Nat → Option Nat → Option Nat → Option Nat → Int32 → zH → Option ((Int32 ⊕ Nat) × zH)} (hk28 : ∀ (b0 : Option Nat) (b1 : Option Nat) (b2 : Option Nat) (b3 : Option Nat) (b4 : Option Nat) (b5 : Int32) (h' : zH), k28 b0 b1 b2 b3 b4 b5 h' = some (vo, vh) → zW G M_L_law 343 h0 (zoI vo) vh 28 [(0, vR b0), (1, vR b1), (2, vR b2), (3, vR b3), (4, vR b4), (5, vI b5)] [] h') {a0 : Option Nat} {a1 : Option Nat} {a2 : Option Nat} {a3 : Option Nat} {a4 : Option Nat} {a5 : Int32} (H : B_L_law_2299 k28 a0 a1 a2 a3 a4 a5 h = some (vo, vh)) : zW G M_L_law 343 h0 (zoI vo) vh 2299 [(0, vR a0), (1, vR a1), (2, vR a2), (3, vR a3), (4, vR a4), (5, vI a5)] [] h := by
  unfold B_L_law_2299 at H
  refine zw_aload_n (pc := 2299) dL_law_2299 rfl 1 rfl ?_
  obtain ⟨b1, e3, H⟩ := zbind H
  obtain ⟨e2, e4⟩ := zrv_ok e3
  obtain ⟨x6, e5, H⟩ := zbind H
  refine zw_invV (pc := 2300) (M' := M_X1_totalWork) (A := []) [] dL_law_2300 (Or.inl q373) mf_X1_totalWork q375 (zkq e4 rfl) (w_X1_totalWork e5) (Nat.le_of_ble_eq_true rfl) rfl (by rw [← e2]; rfl) (Nat.le_of_ble_eq_true rfl) (zkv ?_) zkn9
  refine zw_aload_n (pc := 2303) dL_law_2303 rfl 2 rfl ?_
  obtain ⟨b7, e9, H⟩ := zbind H
  obtain ⟨e8, e10⟩ := zrv_ok e9
  obtain ⟨x13, h12, e11, H⟩ := zbind2 H
  refine zw_invV (pc := 2304) (M' := M_X4_totalWork) (A := []) [vI x6] dL_law_2304 (Or.inl q2908) mf_X4_totalWork q2910 (zkq e10 rfl) (w_X4_totalWork e11) (Nat.le_of_ble_eq_true rfl) rfl (by rw [← e8]; rfl) (Nat.le_of_ble_eq_true rfl) (zkv ?_) zkn9
  rcases zif H with ⟨c14, H⟩ | ⟨c14, H⟩
  · refine zw_icmp_eq (pc := 2307) (tgt := 3377) dL_law_2307 rfl (fun _ => ?_) (fun q => absurd c14 q)
    refine zw_iinc (pc := 3377) (v := (a5 + (6 : Int32))) (lv' := [(5, vI (a5 + (6 : Int32))), (0, vR a0), (1, vR a1), (2, vR a2), (3, vR a3), (4, vR a4)]) dL_law_3377 5 rfl rfl (by decide) rfl ?_
    refine zw_goto (pc := 3380) (tgt := 28) dL_law_3380 rfl ?_
    refine zW_pick (lv' := [(0, vR a0), (1, vR a1), (2, vR a2), (3, vR a3), (4, vR a4), (5, vI (a5 + (6 : Int32)))]) [1, 2, 3, 4, 5, 0] rfl ?_
    exact hk28 _ _ _ _ _ _ _ H
  · refine zw_icmp_eq (pc := 2307) (tgt := 3377) dL_law_2307 rfl (fun q => absurd q c14) (fun _ => ?_)
    refine zw_iconst (pc := 2310) (v := (0 : Int32)) dL_law_2310 (by decide) ?_
    obtain ⟨rfl, rfl⟩ := Prod.mk.inj (Option.some.inj H)
    exact zw_zret (pc := 2311) dL_law_2311 rfl rfl rfl rfl
def B_L_law_2312 (k28 : Option Nat → Option Nat → Option Nat → Option Nat → Option Nat → Int32 → zH → Option ((Int32 ⊕ Nat) × zH)) (a0 : Option Nat) (a1 : Option Nat) (a2 : Option Nat) (a3 : Option Nat) (a4 : Option Nat) (a5 : Int32) (h : zH) : Option ((Int32 ⊕ Nat) × zH) :=
  (zrv 1 a1 h).bind fun b1 =>
  zb2 (f_X1_violations (some b1) h) fun x7 h6 =>
  (zrv 4 a2 h6).bind fun b8 =>
  zb2 (f_X4_violations (some b8) h6) fun x14 h13 =>
  if x7 = x14 then
  k28 a0 a1 a2 a3 a4 (a5 + (6 : Int32)) h13
  else
  some (.inl (0 : Int32), h13)
theorem wB_L_law_2312 {G : zG} {h0 h : zH} {vo : Int32 ⊕ Nat} {vh : zH} {k28 : Option Nat → Option Nat → Option Nat → Option Nat → Option Nat → Int32 → zH → Option ((Int32 ⊕ Nat) × zH)} (hk28 : ∀ (b0 : Option Nat) (b1 : Option Nat) (b2 : Option Nat) (b3 : Option Nat) (b4 : Option Nat) (b5 : Int32) (h' : zH), k28 b0 b1 b2 b3 b4 b5 h' = some (vo, vh) → zW G M_L_law 343 h0 (zoI vo) vh 28 [(0, vR b0), (1, vR b1), (2, vR b2), (3, vR b3), (4, vR b4), (5, vI b5)] [] h') {a0 : Option Nat} {a1 : Option Nat} {a2 : Option Nat} {a3 : Option Nat} {a4 : Option Nat} {a5 : Int32} (H : B_L_law_2312 k28 a0 a1 a2 a3 a4 a5 h = some (vo, vh)) : zW G M_L_law 343 h0 (zoI vo) vh 2312 [(0, vR a0), (1, vR a1), (2, vR a2), (3, vR a3), (4, vR a4), (5, vI a5)] [] h := by
  unfold B_L_law_2312 at H
  refine zw_aload_n (pc := 2312) dL_law_2312 rfl 1 rfl ?_
  obtain ⟨b1, e3, H⟩ := zbind H
  obtain ⟨e2, e4⟩ := zrv_ok e3
  obtain ⟨x7, h6, e5, H⟩ := zbind2 H
  refine zw_invV (pc := 2313) (M' := M_X1_violations) (A := []) [] dL_law_2313 (Or.inl q377) mf_X1_violations q379 (zkq e4 rfl) (w_X1_violations e5) (Nat.le_of_ble_eq_true rfl) rfl (by rw [← e2]; rfl) (Nat.le_of_ble_eq_true rfl) (zkv ?_) zkn9
  refine zw_aload_n (pc := 2316) dL_law_2316 rfl 2 rfl ?_
  obtain ⟨b8, e10, H⟩ := zbind H
  obtain ⟨e9, e11⟩ := zrv_ok e10
  obtain ⟨x14, h13, e12, H⟩ := zbind2 H
  refine zw_invV (pc := 2317) (M' := M_X4_violations) (A := []) [vI x7] dL_law_2317 (Or.inl q2916) mf_X4_violations q2918 (zkq e11 rfl) (w_X4_violations e12) (Nat.le_of_ble_eq_true rfl) rfl (by rw [← e9]; rfl) (Nat.le_of_ble_eq_true rfl) (zkv ?_) zkn9
  rcases zif H with ⟨c15, H⟩ | ⟨c15, H⟩
  · refine zw_icmp_eq (pc := 2320) (tgt := 3377) dL_law_2320 rfl (fun _ => ?_) (fun q => absurd c15 q)
    refine zw_iinc (pc := 3377) (v := (a5 + (6 : Int32))) (lv' := [(5, vI (a5 + (6 : Int32))), (0, vR a0), (1, vR a1), (2, vR a2), (3, vR a3), (4, vR a4)]) dL_law_3377 5 rfl rfl (by decide) rfl ?_
    refine zw_goto (pc := 3380) (tgt := 28) dL_law_3380 rfl ?_
    refine zW_pick (lv' := [(0, vR a0), (1, vR a1), (2, vR a2), (3, vR a3), (4, vR a4), (5, vI (a5 + (6 : Int32)))]) [1, 2, 3, 4, 5, 0] rfl ?_
    exact hk28 _ _ _ _ _ _ _ H
  · refine zw_icmp_eq (pc := 2320) (tgt := 3377) dL_law_2320 rfl (fun q => absurd q c15) (fun _ => ?_)
    refine zw_iconst (pc := 2323) (v := (0 : Int32)) dL_law_2323 (by decide) ?_
    obtain ⟨rfl, rfl⟩ := Prod.mk.inj (Option.some.inj H)
    exact zw_zret (pc := 2324) dL_law_2324 rfl rfl rfl rfl
def B_L_law_2325 (k28 : Option Nat → Option Nat → Option Nat → Option Nat → Option Nat → Int32 → zH → Option ((Int32 ⊕ Nat) × zH)) (a0 : Option Nat) (a1 : Option Nat) (a2 : Option Nat) (a3 : Option Nat) (a4 : Option Nat) (a5 : Int32) (h : zH) : Option ((Int32 ⊕ Nat) × zH) :=
  (zaI 50 a0 (a5 + (1 : Int32)) h).bind fun x1 =>
  zb2 (f_X0_density a1 x1 a4 h) fun x5 h4 =>
  (zaI 50 a0 (a5 + (1 : Int32)) h4).bind fun x6 =>
  (zrv 4 a2 h4).bind fun b8 =>
  zb2 (f_X4_density (some b8) x6 h4) fun x14 h13 =>
  (zrv 4 a2 h13).bind fun b15 =>
  (f_X4_thrown (some b15) h13).bind fun x20 =>
  if x20 = x5 then
  if x5 = 0 then
  (zaD a4 (0 : Int32) h13).bind fun x23 =>
  if (FP.f2d x14) &&& 0x7fffffffffffffff ≤ 0x7ff0000000000000 then
  if (Op.cmpValue (FP.dcmp x23 (FP.f2d x14)) .l) = 0 then
  k28 a0 a1 a2 a3 a4 (a5 + (6 : Int32)) h13
  else
  (zaD a4 (0 : Int32) h13).bind fun x27 =>
  (zaD a4 (0 : Int32) h13).bind fun x29 =>
  if (Op.cmpValue (FP.dcmp x27 x29) .l) = 0 then
  some (.inl (0 : Int32), h13)
  else
  if (Op.cmpValue (FP.fcmp x14 x14) .l) = 0 then
  some (.inl (0 : Int32), h13)
  else
  k28 a0 a1 a2 a3 a4 (a5 + (6 : Int32)) h13
  else none
  else
  k28 a0 a1 a2 a3 a4 (a5 + (6 : Int32)) h13
  else
  some (.inl (0 : Int32), h13)
theorem wB_L_law_2325 {G : zG} {h0 h : zH} {vo : Int32 ⊕ Nat} {vh : zH} {k28 : Option Nat → Option Nat → Option Nat → Option Nat → Option Nat → Int32 → zH → Option ((Int32 ⊕ Nat) × zH)} (hk28 : ∀ (b0 : Option Nat) (b1 : Option Nat) (b2 : Option Nat) (b3 : Option Nat) (b4 : Option Nat) (b5 : Int32) (h' : zH), k28 b0 b1 b2 b3 b4 b5 h' = some (vo, vh) → zW G M_L_law 343 h0 (zoI vo) vh 28 [(0, vR b0), (1, vR b1), (2, vR b2), (3, vR b3), (4, vR b4), (5, vI b5)] [] h') {a0 : Option Nat} {a1 : Option Nat} {a2 : Option Nat} {a3 : Option Nat} {a4 : Option Nat} {a5 : Int32} (H : B_L_law_2325 k28 a0 a1 a2 a3 a4 a5 h = some (vo, vh)) : zW G M_L_law 343 h0 (zoI vo) vh 2325 [(0, vR a0), (1, vR a1), (2, vR a2), (3, vR a3), (4, vR a4), (5, vI a5)] [] h := by
  unfold B_L_law_2325 at H
  refine zw_aload_n (pc := 2325) dL_law_2325 rfl 1 rfl ?_
  refine zw_aload_n (pc := 2326) dL_law_2326 rfl 0 rfl ?_
  refine zw_iload (pc := 2327) dL_law_2327 5 rfl ?_
  refine zw_iconst (pc := 2329) (v := (1 : Int32)) dL_law_2329 (by decide) ?_
  refine zw_iadd (pc := 2330) dL_law_2330 ?_
  obtain ⟨x1, e2, H⟩ := zbind H
  refine zy_iald (pc := 2331) dL_law_2331 e2 ?_
  refine zw_aload (pc := 2332) dL_law_2332 4 rfl ?_
  obtain ⟨x5, h4, e3, H⟩ := zbind2 H
  refine zw_invS (pc := 2334) (M' := M_X0_density) (A := [vR a1, vI x1, vR a4]) [] dL_law_2334 (Or.inl q1939) mf_X0_density (w_X0_density e3) (Nat.le_of_ble_eq_true rfl) rfl rfl (Nat.le_of_ble_eq_true rfl) (zkv ?_) zkn9
  refine zw_istore (pc := 2337) (lv' := [(6, vI x5), (0, vR a0), (1, vR a1), (2, vR a2), (3, vR a3), (4, vR a4), (5, vI a5)]) dL_law_2337 (by decide) rfl ?_
  refine zw_aload_n (pc := 2339) dL_law_2339 rfl 3 rfl ?_
  refine zw_aload_n (pc := 2340) dL_law_2340 rfl 1 rfl ?_
  refine zw_iload (pc := 2341) dL_law_2341 6 rfl ?_
  refine zw_iconst (pc := 2343) (v := (1 : Int32)) dL_law_2343 (by decide) ?_
  refine zw_iadd (pc := 2344) dL_law_2344 ?_
  obtain ⟨x6, e7, H⟩ := zbind H
  refine zy_iald (pc := 2345) dL_law_2345 e7 ?_
  obtain ⟨b8, e10, H⟩ := zbind H
  obtain ⟨e9, e11⟩ := zrv_ok e10
  obtain ⟨x14, h13, e12, H⟩ := zbind2 H
  refine zw_invV (pc := 2346) (M' := M_X4_density) (A := [vI x6]) [] dL_law_2346 (Or.inl q2940) mf_X4_density q2942 (zkq e11 rfl) (w_X4_density e12) (Nat.le_of_ble_eq_true rfl) rfl (by rw [← e9]; rfl) (Nat.le_of_ble_eq_true rfl) (zkv ?_) zkn9
  refine zw_fstore (pc := 2349) (lv' := [(7, vF x14), (6, vI x5), (0, vR a0), (1, vR a1), (2, vR a2), (3, vR a3), (4, vR a4), (5, vI a5)]) dL_law_2349 (by decide) rfl ?_
  refine zw_aload_n (pc := 2351) dL_law_2351 rfl 4 rfl ?_
  obtain ⟨b15, e17, H⟩ := zbind H
  obtain ⟨e16, e18⟩ := zrv_ok e17
  obtain ⟨x20, e19, H⟩ := zbind H
  refine zw_invV (pc := 2352) (M' := M_X4_thrown) (A := []) [] dL_law_2352 (Or.inl q2302) mf_X4_thrown q2304 (zkq e18 rfl) (w_X4_thrown e19) (Nat.le_of_ble_eq_true rfl) rfl (by rw [← e16]; rfl) (Nat.le_of_ble_eq_true rfl) (zkv ?_) zkn9
  refine zw_iload (pc := 2355) dL_law_2355 1 rfl ?_
  rcases zif H with ⟨c21, H⟩ | ⟨c21, H⟩
  · refine zw_icmp_eq (pc := 2357) (tgt := 2362) dL_law_2357 rfl (fun _ => ?_) (fun q => absurd c21 q)
    refine zw_iload (pc := 2362) dL_law_2362 1 rfl ?_
    rcases zif H with ⟨c22, H⟩ | ⟨c22, H⟩
    · refine zw_if_ne (pc := 2364) (tgt := 2400) dL_law_2364 rfl (fun q => absurd c22 q) (fun _ => ?_)
      refine zw_aload (pc := 2367) dL_law_2367 6 rfl ?_
      refine zw_iconst (pc := 2369) (v := (0 : Int32)) dL_law_2369 (by decide) ?_
      obtain ⟨x23, e24, H⟩ := zbind H
      refine zy_dald (pc := 2370) dL_law_2370 e24 ?_
      refine zw_fload (pc := 2371) dL_law_2371 0 rfl ?_
      obtain ⟨c25, H⟩ := zgd H
      refine zw_f2d (pc := 2373) dL_law_2373 c25 ?_
      refine zw_dcmp (pc := 2374) dL_law_2374 ?_
      rcases zif H with ⟨c26, H⟩ | ⟨c26, H⟩
      · refine zw_if_eq (pc := 2375) (tgt := 2400) dL_law_2375 rfl (fun _ => ?_) (fun q => absurd c26 q)
        refine zw_goto (pc := 2400) (tgt := 3377) dL_law_2400 rfl ?_
        refine zw_iinc (pc := 3377) (v := (a5 + (6 : Int32))) (lv' := [(5, vI (a5 + (6 : Int32))), (7, vF x14), (6, vI x5), (0, vR a0), (1, vR a1), (2, vR a2), (3, vR a3), (4, vR a4)]) dL_law_3377 7 rfl rfl (by decide) rfl ?_
        refine zw_goto (pc := 3380) (tgt := 28) dL_law_3380 rfl ?_
        refine zW_pick (lv' := [(0, vR a0), (1, vR a1), (2, vR a2), (3, vR a3), (4, vR a4), (5, vI (a5 + (6 : Int32)))]) [3, 4, 5, 6, 7, 0] rfl ?_
        exact hk28 _ _ _ _ _ _ _ H
      · refine zw_if_eq (pc := 2375) (tgt := 2400) dL_law_2375 rfl (fun q => absurd q c26) (fun _ => ?_)
        refine zw_aload (pc := 2378) dL_law_2378 6 rfl ?_
        refine zw_iconst (pc := 2380) (v := (0 : Int32)) dL_law_2380 (by decide) ?_
        obtain ⟨x27, e28, H⟩ := zbind H
        refine zy_dald (pc := 2381) dL_law_2381 e28 ?_
        refine zw_aload (pc := 2382) dL_law_2382 6 rfl ?_
        refine zw_iconst (pc := 2384) (v := (0 : Int32)) dL_law_2384 (by decide) ?_
        obtain ⟨x29, e30, H⟩ := zbind H
        refine zy_dald (pc := 2385) dL_law_2385 e30 ?_
        refine zw_dcmp (pc := 2386) dL_law_2386 ?_
        rcases zif H with ⟨c31, H⟩ | ⟨c31, H⟩
        · refine zw_if_eq (pc := 2387) (tgt := 2398) dL_law_2387 rfl (fun _ => ?_) (fun q => absurd c31 q)
          refine zw_iconst (pc := 2398) (v := (0 : Int32)) dL_law_2398 (by decide) ?_
          obtain ⟨rfl, rfl⟩ := Prod.mk.inj (Option.some.inj H)
          exact zw_zret (pc := 2399) dL_law_2399 rfl rfl rfl rfl
        · refine zw_if_eq (pc := 2387) (tgt := 2398) dL_law_2387 rfl (fun q => absurd q c31) (fun _ => ?_)
          refine zw_fload (pc := 2390) dL_law_2390 0 rfl ?_
          refine zw_fload (pc := 2392) dL_law_2392 0 rfl ?_
          refine zw_fcmp (pc := 2394) dL_law_2394 ?_
          rcases zif H with ⟨c32, H⟩ | ⟨c32, H⟩
          · refine zw_if_ne (pc := 2395) (tgt := 2400) dL_law_2395 rfl (fun q => absurd c32 q) (fun _ => ?_)
            refine zw_iconst (pc := 2398) (v := (0 : Int32)) dL_law_2398 (by decide) ?_
            obtain ⟨rfl, rfl⟩ := Prod.mk.inj (Option.some.inj H)
            exact zw_zret (pc := 2399) dL_law_2399 rfl rfl rfl rfl
          · refine zw_if_ne (pc := 2395) (tgt := 2400) dL_law_2395 rfl (fun _ => ?_) (fun q => absurd q c32)
            refine zw_goto (pc := 2400) (tgt := 3377) dL_law_2400 rfl ?_
            refine zw_iinc (pc := 3377) (v := (a5 + (6 : Int32))) (lv' := [(5, vI (a5 + (6 : Int32))), (7, vF x14), (6, vI x5), (0, vR a0), (1, vR a1), (2, vR a2), (3, vR a3), (4, vR a4)]) dL_law_3377 7 rfl rfl (by decide) rfl ?_
            refine zw_goto (pc := 3380) (tgt := 28) dL_law_3380 rfl ?_
            refine zW_pick (lv' := [(0, vR a0), (1, vR a1), (2, vR a2), (3, vR a3), (4, vR a4), (5, vI (a5 + (6 : Int32)))]) [3, 4, 5, 6, 7, 0] rfl ?_
            exact hk28 _ _ _ _ _ _ _ H
    · refine zw_if_ne (pc := 2364) (tgt := 2400) dL_law_2364 rfl (fun _ => ?_) (fun q => absurd q c22)
      refine zw_goto (pc := 2400) (tgt := 3377) dL_law_2400 rfl ?_
      refine zw_iinc (pc := 3377) (v := (a5 + (6 : Int32))) (lv' := [(5, vI (a5 + (6 : Int32))), (7, vF x14), (6, vI x5), (0, vR a0), (1, vR a1), (2, vR a2), (3, vR a3), (4, vR a4)]) dL_law_3377 7 rfl rfl (by decide) rfl ?_
      refine zw_goto (pc := 3380) (tgt := 28) dL_law_3380 rfl ?_
      refine zW_pick (lv' := [(0, vR a0), (1, vR a1), (2, vR a2), (3, vR a3), (4, vR a4), (5, vI (a5 + (6 : Int32)))]) [3, 4, 5, 6, 7, 0] rfl ?_
      exact hk28 _ _ _ _ _ _ _ H
  · refine zw_icmp_eq (pc := 2357) (tgt := 2362) dL_law_2357 rfl (fun q => absurd q c21) (fun _ => ?_)
    refine zw_iconst (pc := 2360) (v := (0 : Int32)) dL_law_2360 (by decide) ?_
    obtain ⟨rfl, rfl⟩ := Prod.mk.inj (Option.some.inj H)
    exact zw_zret (pc := 2361) dL_law_2361 rfl rfl rfl rfl
def B_L_law_2403 (k28 : Option Nat → Option Nat → Option Nat → Option Nat → Option Nat → Int32 → zH → Option ((Int32 ⊕ Nat) × zH)) (a0 : Option Nat) (a1 : Option Nat) (a2 : Option Nat) (a3 : Option Nat) (a4 : Option Nat) (a5 : Int32) (h : zH) : Option ((Int32 ⊕ Nat) × zH) :=
  (zaI 50 a0 (a5 + (1 : Int32)) h).bind fun x1 =>
  zb2 (f_X0_meanStoredValue a1 x1 a4 h) fun x5 h4 =>
  (zaI 50 a0 (a5 + (1 : Int32)) h4).bind fun x6 =>
  (zrv 4 a2 h4).bind fun b8 =>
  zb2 (f_X4_meanStoredValue (some b8) x6 h4) fun x14 h13 =>
  (zrv 4 a2 h13).bind fun b15 =>
  (f_X4_thrown (some b15) h13).bind fun x20 =>
  if x20 = x5 then
  if x5 = 0 then
  (zaD a4 (0 : Int32) h13).bind fun x23 =>
  if (Op.cmpValue (FP.dcmp x23 x14) .l) = 0 then
  k28 a0 a1 a2 a3 a4 (a5 + (6 : Int32)) h13
  else
  (zaD a4 (0 : Int32) h13).bind fun x26 =>
  (zaD a4 (0 : Int32) h13).bind fun x28 =>
  if (Op.cmpValue (FP.dcmp x26 x28) .l) = 0 then
  some (.inl (0 : Int32), h13)
  else
  if (Op.cmpValue (FP.dcmp x14 x14) .l) = 0 then
  some (.inl (0 : Int32), h13)
  else
  k28 a0 a1 a2 a3 a4 (a5 + (6 : Int32)) h13
  else
  k28 a0 a1 a2 a3 a4 (a5 + (6 : Int32)) h13
  else
  some (.inl (0 : Int32), h13)
theorem wB_L_law_2403 {G : zG} {h0 h : zH} {vo : Int32 ⊕ Nat} {vh : zH} {k28 : Option Nat → Option Nat → Option Nat → Option Nat → Option Nat → Int32 → zH → Option ((Int32 ⊕ Nat) × zH)} (hk28 : ∀ (b0 : Option Nat) (b1 : Option Nat) (b2 : Option Nat) (b3 : Option Nat) (b4 : Option Nat) (b5 : Int32) (h' : zH), k28 b0 b1 b2 b3 b4 b5 h' = some (vo, vh) → zW G M_L_law 343 h0 (zoI vo) vh 28 [(0, vR b0), (1, vR b1), (2, vR b2), (3, vR b3), (4, vR b4), (5, vI b5)] [] h') {a0 : Option Nat} {a1 : Option Nat} {a2 : Option Nat} {a3 : Option Nat} {a4 : Option Nat} {a5 : Int32} (H : B_L_law_2403 k28 a0 a1 a2 a3 a4 a5 h = some (vo, vh)) : zW G M_L_law 343 h0 (zoI vo) vh 2403 [(0, vR a0), (1, vR a1), (2, vR a2), (3, vR a3), (4, vR a4), (5, vI a5)] [] h := by
  unfold B_L_law_2403 at H
  refine zw_aload_n (pc := 2403) dL_law_2403 rfl 1 rfl ?_
  refine zw_aload_n (pc := 2404) dL_law_2404 rfl 0 rfl ?_
  refine zw_iload (pc := 2405) dL_law_2405 5 rfl ?_
  refine zw_iconst (pc := 2407) (v := (1 : Int32)) dL_law_2407 (by decide) ?_
  refine zw_iadd (pc := 2408) dL_law_2408 ?_
  obtain ⟨x1, e2, H⟩ := zbind H
  refine zy_iald (pc := 2409) dL_law_2409 e2 ?_
  refine zw_aload (pc := 2410) dL_law_2410 4 rfl ?_
  obtain ⟨x5, h4, e3, H⟩ := zbind2 H
  refine zw_invS (pc := 2412) (M' := M_X0_meanStoredValue) (A := [vR a1, vI x1, vR a4]) [] dL_law_2412 (Or.inl q1946) mf_X0_meanStoredValue (w_X0_meanStoredValue e3) (Nat.le_of_ble_eq_true rfl) rfl rfl (Nat.le_of_ble_eq_true rfl) (zkv ?_) zkn9
  refine zw_istore (pc := 2415) (lv' := [(6, vI x5), (0, vR a0), (1, vR a1), (2, vR a2), (3, vR a3), (4, vR a4), (5, vI a5)]) dL_law_2415 (by decide) rfl ?_
  refine zw_aload_n (pc := 2417) dL_law_2417 rfl 3 rfl ?_
  refine zw_aload_n (pc := 2418) dL_law_2418 rfl 1 rfl ?_
  refine zw_iload (pc := 2419) dL_law_2419 6 rfl ?_
  refine zw_iconst (pc := 2421) (v := (1 : Int32)) dL_law_2421 (by decide) ?_
  refine zw_iadd (pc := 2422) dL_law_2422 ?_
  obtain ⟨x6, e7, H⟩ := zbind H
  refine zy_iald (pc := 2423) dL_law_2423 e7 ?_
  obtain ⟨b8, e10, H⟩ := zbind H
  obtain ⟨e9, e11⟩ := zrv_ok e10
  obtain ⟨x14, h13, e12, H⟩ := zbind2 H
  refine zw_invV (pc := 2424) (M' := M_X4_meanStoredValue) (A := [vI x6]) [] dL_law_2424 (Or.inl q2944) mf_X4_meanStoredValue q2946 (zkq e11 rfl) (w_X4_meanStoredValue e12) (Nat.le_of_ble_eq_true rfl) rfl (by rw [← e9]; rfl) (Nat.le_of_ble_eq_true rfl) (zkv ?_) zkn9
  refine zw_dstore (pc := 2427) (lv' := [(7, vD x14), (6, vI x5), (0, vR a0), (1, vR a1), (2, vR a2), (3, vR a3), (4, vR a4), (5, vI a5)]) dL_law_2427 (by decide) rfl ?_
  refine zw_aload_n (pc := 2429) dL_law_2429 rfl 4 rfl ?_
  obtain ⟨b15, e17, H⟩ := zbind H
  obtain ⟨e16, e18⟩ := zrv_ok e17
  obtain ⟨x20, e19, H⟩ := zbind H
  refine zw_invV (pc := 2430) (M' := M_X4_thrown) (A := []) [] dL_law_2430 (Or.inl q2302) mf_X4_thrown q2304 (zkq e18 rfl) (w_X4_thrown e19) (Nat.le_of_ble_eq_true rfl) rfl (by rw [← e16]; rfl) (Nat.le_of_ble_eq_true rfl) (zkv ?_) zkn9
  refine zw_iload (pc := 2433) dL_law_2433 1 rfl ?_
  rcases zif H with ⟨c21, H⟩ | ⟨c21, H⟩
  · refine zw_icmp_eq (pc := 2435) (tgt := 2440) dL_law_2435 rfl (fun _ => ?_) (fun q => absurd c21 q)
    refine zw_iload (pc := 2440) dL_law_2440 1 rfl ?_
    rcases zif H with ⟨c22, H⟩ | ⟨c22, H⟩
    · refine zw_if_ne (pc := 2442) (tgt := 2477) dL_law_2442 rfl (fun q => absurd c22 q) (fun _ => ?_)
      refine zw_aload (pc := 2445) dL_law_2445 6 rfl ?_
      refine zw_iconst (pc := 2447) (v := (0 : Int32)) dL_law_2447 (by decide) ?_
      obtain ⟨x23, e24, H⟩ := zbind H
      refine zy_dald (pc := 2448) dL_law_2448 e24 ?_
      refine zw_dload (pc := 2449) dL_law_2449 0 rfl ?_
      refine zw_dcmp (pc := 2451) dL_law_2451 ?_
      rcases zif H with ⟨c25, H⟩ | ⟨c25, H⟩
      · refine zw_if_eq (pc := 2452) (tgt := 2477) dL_law_2452 rfl (fun _ => ?_) (fun q => absurd c25 q)
        refine zw_goto (pc := 2477) (tgt := 3377) dL_law_2477 rfl ?_
        refine zw_iinc (pc := 3377) (v := (a5 + (6 : Int32))) (lv' := [(5, vI (a5 + (6 : Int32))), (7, vD x14), (6, vI x5), (0, vR a0), (1, vR a1), (2, vR a2), (3, vR a3), (4, vR a4)]) dL_law_3377 7 rfl rfl (by decide) rfl ?_
        refine zw_goto (pc := 3380) (tgt := 28) dL_law_3380 rfl ?_
        refine zW_pick (lv' := [(0, vR a0), (1, vR a1), (2, vR a2), (3, vR a3), (4, vR a4), (5, vI (a5 + (6 : Int32)))]) [3, 4, 5, 6, 7, 0] rfl ?_
        exact hk28 _ _ _ _ _ _ _ H
      · refine zw_if_eq (pc := 2452) (tgt := 2477) dL_law_2452 rfl (fun q => absurd q c25) (fun _ => ?_)
        refine zw_aload (pc := 2455) dL_law_2455 6 rfl ?_
        refine zw_iconst (pc := 2457) (v := (0 : Int32)) dL_law_2457 (by decide) ?_
        obtain ⟨x26, e27, H⟩ := zbind H
        refine zy_dald (pc := 2458) dL_law_2458 e27 ?_
        refine zw_aload (pc := 2459) dL_law_2459 6 rfl ?_
        refine zw_iconst (pc := 2461) (v := (0 : Int32)) dL_law_2461 (by decide) ?_
        obtain ⟨x28, e29, H⟩ := zbind H
        refine zy_dald (pc := 2462) dL_law_2462 e29 ?_
        refine zw_dcmp (pc := 2463) dL_law_2463 ?_
        rcases zif H with ⟨c30, H⟩ | ⟨c30, H⟩
        · refine zw_if_eq (pc := 2464) (tgt := 2475) dL_law_2464 rfl (fun _ => ?_) (fun q => absurd c30 q)
          refine zw_iconst (pc := 2475) (v := (0 : Int32)) dL_law_2475 (by decide) ?_
          obtain ⟨rfl, rfl⟩ := Prod.mk.inj (Option.some.inj H)
          exact zw_zret (pc := 2476) dL_law_2476 rfl rfl rfl rfl
        · refine zw_if_eq (pc := 2464) (tgt := 2475) dL_law_2464 rfl (fun q => absurd q c30) (fun _ => ?_)
          refine zw_dload (pc := 2467) dL_law_2467 0 rfl ?_
          refine zw_dload (pc := 2469) dL_law_2469 0 rfl ?_
          refine zw_dcmp (pc := 2471) dL_law_2471 ?_
          rcases zif H with ⟨c31, H⟩ | ⟨c31, H⟩
          · refine zw_if_ne (pc := 2472) (tgt := 2477) dL_law_2472 rfl (fun q => absurd c31 q) (fun _ => ?_)
            refine zw_iconst (pc := 2475) (v := (0 : Int32)) dL_law_2475 (by decide) ?_
            obtain ⟨rfl, rfl⟩ := Prod.mk.inj (Option.some.inj H)
            exact zw_zret (pc := 2476) dL_law_2476 rfl rfl rfl rfl
          · refine zw_if_ne (pc := 2472) (tgt := 2477) dL_law_2472 rfl (fun _ => ?_) (fun q => absurd q c31)
            refine zw_goto (pc := 2477) (tgt := 3377) dL_law_2477 rfl ?_
            refine zw_iinc (pc := 3377) (v := (a5 + (6 : Int32))) (lv' := [(5, vI (a5 + (6 : Int32))), (7, vD x14), (6, vI x5), (0, vR a0), (1, vR a1), (2, vR a2), (3, vR a3), (4, vR a4)]) dL_law_3377 7 rfl rfl (by decide) rfl ?_
            refine zw_goto (pc := 3380) (tgt := 28) dL_law_3380 rfl ?_
            refine zW_pick (lv' := [(0, vR a0), (1, vR a1), (2, vR a2), (3, vR a3), (4, vR a4), (5, vI (a5 + (6 : Int32)))]) [3, 4, 5, 6, 7, 0] rfl ?_
            exact hk28 _ _ _ _ _ _ _ H
    · refine zw_if_ne (pc := 2442) (tgt := 2477) dL_law_2442 rfl (fun _ => ?_) (fun q => absurd q c22)
      refine zw_goto (pc := 2477) (tgt := 3377) dL_law_2477 rfl ?_
      refine zw_iinc (pc := 3377) (v := (a5 + (6 : Int32))) (lv' := [(5, vI (a5 + (6 : Int32))), (7, vD x14), (6, vI x5), (0, vR a0), (1, vR a1), (2, vR a2), (3, vR a3), (4, vR a4)]) dL_law_3377 7 rfl rfl (by decide) rfl ?_
      refine zw_goto (pc := 3380) (tgt := 28) dL_law_3380 rfl ?_
      refine zW_pick (lv' := [(0, vR a0), (1, vR a1), (2, vR a2), (3, vR a3), (4, vR a4), (5, vI (a5 + (6 : Int32)))]) [3, 4, 5, 6, 7, 0] rfl ?_
      exact hk28 _ _ _ _ _ _ _ H
  · refine zw_icmp_eq (pc := 2435) (tgt := 2440) dL_law_2435 rfl (fun q => absurd q c21) (fun _ => ?_)
    refine zw_iconst (pc := 2438) (v := (0 : Int32)) dL_law_2438 (by decide) ?_
    obtain ⟨rfl, rfl⟩ := Prod.mk.inj (Option.some.inj H)
    exact zw_zret (pc := 2439) dL_law_2439 rfl rfl rfl rfl
def B_L_law_2480 (k28 : Option Nat → Option Nat → Option Nat → Option Nat → Option Nat → Int32 → zH → Option ((Int32 ⊕ Nat) × zH)) (a0 : Option Nat) (a1 : Option Nat) (a2 : Option Nat) (a3 : Option Nat) (a4 : Option Nat) (a5 : Int32) (h : zH) : Option ((Int32 ⊕ Nat) × zH) :=
  (zaI 50 a0 (a5 + (1 : Int32)) h).bind fun x1 =>
  (zaI 50 a0 (a5 + (2 : Int32)) h).bind fun x3 =>
  (zaI 50 a0 (a5 + (3 : Int32)) h).bind fun x5 =>
  zb2 (f_X0_create a1 x1 x3 x5 a3 h) fun x9 h8 =>
  (zaI 50 a0 (a5 + (1 : Int32)) h8).bind fun x10 =>
  (zaI 50 a0 (a5 + (2 : Int32)) h8).bind fun x12 =>
  (zaI 50 a0 (a5 + (3 : Int32)) h8).bind fun x14 =>
  (zrv 4 a2 h8).bind fun b16 =>
  zb2 (f_X4_create (some b16) x10 x12 x14 h8) fun x22 h21 =>
  (zrv 4 a2 h21).bind fun b23 =>
  (f_X4_thrown (some b23) h21).bind fun x28 =>
  if x28 = x9 then
  if x9 = 0 then
  (zaJ a3 (0 : Int32) h21).bind fun x31 =>
  if x31 = x22.toInt64 then
  k28 a0 a1 a2 a3 a4 (a5 + (6 : Int32)) h21
  else
  some (.inl (0 : Int32), h21)
  else
  k28 a0 a1 a2 a3 a4 (a5 + (6 : Int32)) h21
  else
  some (.inl (0 : Int32), h21)
theorem wB_L_law_2480 {G : zG} {h0 h : zH} {vo : Int32 ⊕ Nat} {vh : zH} {k28 : Option Nat → Option Nat → Option Nat → Option Nat → Option Nat → Int32 → zH → Option ((Int32 ⊕ Nat) × zH)} (hk28 : ∀ (b0 : Option Nat) (b1 : Option Nat) (b2 : Option Nat) (b3 : Option Nat) (b4 : Option Nat) (b5 : Int32) (h' : zH), k28 b0 b1 b2 b3 b4 b5 h' = some (vo, vh) → zW G M_L_law 343 h0 (zoI vo) vh 28 [(0, vR b0), (1, vR b1), (2, vR b2), (3, vR b3), (4, vR b4), (5, vI b5)] [] h') {a0 : Option Nat} {a1 : Option Nat} {a2 : Option Nat} {a3 : Option Nat} {a4 : Option Nat} {a5 : Int32} (H : B_L_law_2480 k28 a0 a1 a2 a3 a4 a5 h = some (vo, vh)) : zW G M_L_law 343 h0 (zoI vo) vh 2480 [(0, vR a0), (1, vR a1), (2, vR a2), (3, vR a3), (4, vR a4), (5, vI a5)] [] h := by
  unfold B_L_law_2480 at H
  refine zw_aload_n (pc := 2480) dL_law_2480 rfl 1 rfl ?_
  refine zw_aload_n (pc := 2481) dL_law_2481 rfl 0 rfl ?_
  refine zw_iload (pc := 2482) dL_law_2482 5 rfl ?_
  refine zw_iconst (pc := 2484) (v := (1 : Int32)) dL_law_2484 (by decide) ?_
  refine zw_iadd (pc := 2485) dL_law_2485 ?_
  obtain ⟨x1, e2, H⟩ := zbind H
  refine zy_iald (pc := 2486) dL_law_2486 e2 ?_
  refine zw_aload_n (pc := 2487) dL_law_2487 rfl 0 rfl ?_
  refine zw_iload (pc := 2488) dL_law_2488 5 rfl ?_
  refine zw_iconst (pc := 2490) (v := (2 : Int32)) dL_law_2490 (by decide) ?_
  refine zw_iadd (pc := 2491) dL_law_2491 ?_
  obtain ⟨x3, e4, H⟩ := zbind H
  refine zy_iald (pc := 2492) dL_law_2492 e4 ?_
  refine zw_aload_n (pc := 2493) dL_law_2493 rfl 0 rfl ?_
  refine zw_iload (pc := 2494) dL_law_2494 5 rfl ?_
  refine zw_iconst (pc := 2496) (v := (3 : Int32)) dL_law_2496 (by decide) ?_
  refine zw_iadd (pc := 2497) dL_law_2497 ?_
  obtain ⟨x5, e6, H⟩ := zbind H
  refine zy_iald (pc := 2498) dL_law_2498 e6 ?_
  refine zw_aload_n (pc := 2499) dL_law_2499 rfl 3 rfl ?_
  obtain ⟨x9, h8, e7, H⟩ := zbind2 H
  refine zw_invS (pc := 2500) (M' := M_X0_create) (A := [vR a1, vI x1, vI x3, vI x5, vR a3]) [] dL_law_2500 (Or.inl q1953) mf_X0_create (w_X0_create e7) (Nat.le_of_ble_eq_true rfl) rfl rfl (Nat.le_of_ble_eq_true rfl) (zkv ?_) zkn9
  refine zw_istore (pc := 2503) (lv' := [(6, vI x9), (0, vR a0), (1, vR a1), (2, vR a2), (3, vR a3), (4, vR a4), (5, vI a5)]) dL_law_2503 (by decide) rfl ?_
  refine zw_aload_n (pc := 2505) dL_law_2505 rfl 3 rfl ?_
  refine zw_aload_n (pc := 2506) dL_law_2506 rfl 1 rfl ?_
  refine zw_iload (pc := 2507) dL_law_2507 6 rfl ?_
  refine zw_iconst (pc := 2509) (v := (1 : Int32)) dL_law_2509 (by decide) ?_
  refine zw_iadd (pc := 2510) dL_law_2510 ?_
  obtain ⟨x10, e11, H⟩ := zbind H
  refine zy_iald (pc := 2511) dL_law_2511 e11 ?_
  refine zw_aload_n (pc := 2512) dL_law_2512 rfl 1 rfl ?_
  refine zw_iload (pc := 2513) dL_law_2513 6 rfl ?_
  refine zw_iconst (pc := 2515) (v := (2 : Int32)) dL_law_2515 (by decide) ?_
  refine zw_iadd (pc := 2516) dL_law_2516 ?_
  obtain ⟨x12, e13, H⟩ := zbind H
  refine zy_iald (pc := 2517) dL_law_2517 e13 ?_
  refine zw_aload_n (pc := 2518) dL_law_2518 rfl 1 rfl ?_
  refine zw_iload (pc := 2519) dL_law_2519 6 rfl ?_
  refine zw_iconst (pc := 2521) (v := (3 : Int32)) dL_law_2521 (by decide) ?_
  refine zw_iadd (pc := 2522) dL_law_2522 ?_
  obtain ⟨x14, e15, H⟩ := zbind H
  refine zy_iald (pc := 2523) dL_law_2523 e15 ?_
  obtain ⟨b16, e18, H⟩ := zbind H
  obtain ⟨e17, e19⟩ := zrv_ok e18
  obtain ⟨x22, h21, e20, H⟩ := zbind2 H
  refine zw_invV (pc := 2524) (M' := M_X4_create) (A := [vI x10, vI x12, vI x14]) [] dL_law_2524 (Or.inl q2381) mf_X4_create q2383 (zkq e19 rfl) (w_X4_create e20) (Nat.le_of_ble_eq_true rfl) rfl (by rw [← e17]; rfl) (Nat.le_of_ble_eq_true rfl) (zkv ?_) zkn9
  refine zw_istore (pc := 2527) (lv' := [(7, vI x22), (6, vI x9), (0, vR a0), (1, vR a1), (2, vR a2), (3, vR a3), (4, vR a4), (5, vI a5)]) dL_law_2527 (by decide) rfl ?_
  refine zw_aload_n (pc := 2529) dL_law_2529 rfl 4 rfl ?_
  obtain ⟨b23, e25, H⟩ := zbind H
  obtain ⟨e24, e26⟩ := zrv_ok e25
  obtain ⟨x28, e27, H⟩ := zbind H
  refine zw_invV (pc := 2530) (M' := M_X4_thrown) (A := []) [] dL_law_2530 (Or.inl q2302) mf_X4_thrown q2304 (zkq e26 rfl) (w_X4_thrown e27) (Nat.le_of_ble_eq_true rfl) rfl (by rw [← e24]; rfl) (Nat.le_of_ble_eq_true rfl) (zkv ?_) zkn9
  refine zw_iload (pc := 2533) dL_law_2533 1 rfl ?_
  rcases zif H with ⟨c29, H⟩ | ⟨c29, H⟩
  · refine zw_icmp_eq (pc := 2535) (tgt := 2540) dL_law_2535 rfl (fun _ => ?_) (fun q => absurd c29 q)
    refine zw_iload (pc := 2540) dL_law_2540 1 rfl ?_
    rcases zif H with ⟨c30, H⟩ | ⟨c30, H⟩
    · refine zw_if_ne (pc := 2542) (tgt := 2557) dL_law_2542 rfl (fun q => absurd c30 q) (fun _ => ?_)
      refine zw_aload_n (pc := 2545) dL_law_2545 rfl 5 rfl ?_
      refine zw_iconst (pc := 2546) (v := (0 : Int32)) dL_law_2546 (by decide) ?_
      obtain ⟨x31, e32, H⟩ := zbind H
      refine zy_lald (pc := 2547) dL_law_2547 e32 ?_
      refine zw_iload (pc := 2548) dL_law_2548 0 rfl ?_
      refine zw_i2l (pc := 2550) dL_law_2550 ?_
      refine zw_lcmp (pc := 2551) dL_law_2551 ?_
      rcases zif H with ⟨c33, H⟩ | ⟨c33, H⟩
      · refine zw_if_eq (pc := 2552) (tgt := 2557) dL_law_2552 rfl (fun _ => ?_) (fun q => absurd (lgc_eq.mpr c33) q)
        refine zw_goto (pc := 2557) (tgt := 3377) dL_law_2557 rfl ?_
        refine zw_iinc (pc := 3377) (v := (a5 + (6 : Int32))) (lv' := [(5, vI (a5 + (6 : Int32))), (7, vI x22), (6, vI x9), (0, vR a0), (1, vR a1), (2, vR a2), (3, vR a3), (4, vR a4)]) dL_law_3377 7 rfl rfl (by decide) rfl ?_
        refine zw_goto (pc := 3380) (tgt := 28) dL_law_3380 rfl ?_
        refine zW_pick (lv' := [(0, vR a0), (1, vR a1), (2, vR a2), (3, vR a3), (4, vR a4), (5, vI (a5 + (6 : Int32)))]) [3, 4, 5, 6, 7, 0] rfl ?_
        exact hk28 _ _ _ _ _ _ _ H
      · refine zw_if_eq (pc := 2552) (tgt := 2557) dL_law_2552 rfl (fun q => absurd q (fun q => c33 (lgc_eq.mp q))) (fun _ => ?_)
        refine zw_iconst (pc := 2555) (v := (0 : Int32)) dL_law_2555 (by decide) ?_
        obtain ⟨rfl, rfl⟩ := Prod.mk.inj (Option.some.inj H)
        exact zw_zret (pc := 2556) dL_law_2556 rfl rfl rfl rfl
    · refine zw_if_ne (pc := 2542) (tgt := 2557) dL_law_2542 rfl (fun _ => ?_) (fun q => absurd q c30)
      refine zw_goto (pc := 2557) (tgt := 3377) dL_law_2557 rfl ?_
      refine zw_iinc (pc := 3377) (v := (a5 + (6 : Int32))) (lv' := [(5, vI (a5 + (6 : Int32))), (7, vI x22), (6, vI x9), (0, vR a0), (1, vR a1), (2, vR a2), (3, vR a3), (4, vR a4)]) dL_law_3377 7 rfl rfl (by decide) rfl ?_
      refine zw_goto (pc := 3380) (tgt := 28) dL_law_3380 rfl ?_
      refine zW_pick (lv' := [(0, vR a0), (1, vR a1), (2, vR a2), (3, vR a3), (4, vR a4), (5, vI (a5 + (6 : Int32)))]) [3, 4, 5, 6, 7, 0] rfl ?_
      exact hk28 _ _ _ _ _ _ _ H
  · refine zw_icmp_eq (pc := 2535) (tgt := 2540) dL_law_2535 rfl (fun q => absurd q c29) (fun _ => ?_)
    refine zw_iconst (pc := 2538) (v := (0 : Int32)) dL_law_2538 (by decide) ?_
    obtain ⟨rfl, rfl⟩ := Prod.mk.inj (Option.some.inj H)
    exact zw_zret (pc := 2539) dL_law_2539 rfl rfl rfl rfl
def B_L_law_2560 (k28 : Option Nat → Option Nat → Option Nat → Option Nat → Option Nat → Int32 → zH → Option ((Int32 ⊕ Nat) × zH)) (a0 : Option Nat) (a1 : Option Nat) (a2 : Option Nat) (a3 : Option Nat) (a4 : Option Nat) (a5 : Int32) (h : zH) : Option ((Int32 ⊕ Nat) × zH) :=
  (zaI 50 a0 (a5 + (1 : Int32)) h).bind fun x1 =>
  (zaI 50 a0 (a5 + (2 : Int32)) h).bind fun x3 =>
  (zaI 50 a0 (a5 + (3 : Int32)) h).bind fun x5 =>
  (zaI 50 a0 (a5 + (4 : Int32)) h).bind fun x7 =>
  zb3 (f_X0_set a1 x1 x3 x5 x7 a3 h) (fun x10 h11 =>
  (zaI 50 a0 (a5 + (1 : Int32)) h11).bind fun x14 =>
  (zaI 50 a0 (a5 + (2 : Int32)) h11).bind fun x16 =>
  (zaI 50 a0 (a5 + (3 : Int32)) h11).bind fun x18 =>
  (zaI 50 a0 (a5 + (4 : Int32)) h11).bind fun x20 =>
  (zrv 4 a2 h11).bind fun b22 =>
  zb2 (f_X4_set (some b22) x14 x16 x18 x20 h11) fun x28 h27 =>
  (zrv 4 a2 h27).bind fun b29 =>
  (f_X4_thrown (some b29) h27).bind fun x34 =>
  if x34 = x10 then
  if x10 = 0 then
  (zaJ a3 (0 : Int32) h27).bind fun x37 =>
  if x37 = x28.toInt64 then
  k28 a0 a1 a2 a3 a4 (a5 + (6 : Int32)) h27
  else
  some (.inl (0 : Int32), h27)
  else
  k28 a0 a1 a2 a3 a4 (a5 + (6 : Int32)) h27
  else
  some (.inl (0 : Int32), h27))
  (fun q12 h13 =>
  if zk h13 q12 = 22 then
  some (.inr q12, h13)
  else none)
theorem wB_L_law_2560 {G : zG} {h0 h : zH} {vo : Int32 ⊕ Nat} {vh : zH} {k28 : Option Nat → Option Nat → Option Nat → Option Nat → Option Nat → Int32 → zH → Option ((Int32 ⊕ Nat) × zH)} (hk28 : ∀ (b0 : Option Nat) (b1 : Option Nat) (b2 : Option Nat) (b3 : Option Nat) (b4 : Option Nat) (b5 : Int32) (h' : zH), k28 b0 b1 b2 b3 b4 b5 h' = some (vo, vh) → zW G M_L_law 343 h0 (zoI vo) vh 28 [(0, vR b0), (1, vR b1), (2, vR b2), (3, vR b3), (4, vR b4), (5, vI b5)] [] h') {a0 : Option Nat} {a1 : Option Nat} {a2 : Option Nat} {a3 : Option Nat} {a4 : Option Nat} {a5 : Int32} (H : B_L_law_2560 k28 a0 a1 a2 a3 a4 a5 h = some (vo, vh)) : zW G M_L_law 343 h0 (zoI vo) vh 2560 [(0, vR a0), (1, vR a1), (2, vR a2), (3, vR a3), (4, vR a4), (5, vI a5)] [] h := by
  unfold B_L_law_2560 at H
  refine zw_aload_n (pc := 2560) dL_law_2560 rfl 1 rfl ?_
  refine zw_aload_n (pc := 2561) dL_law_2561 rfl 0 rfl ?_
  refine zw_iload (pc := 2562) dL_law_2562 5 rfl ?_
  refine zw_iconst (pc := 2564) (v := (1 : Int32)) dL_law_2564 (by decide) ?_
  refine zw_iadd (pc := 2565) dL_law_2565 ?_
  obtain ⟨x1, e2, H⟩ := zbind H
  refine zy_iald (pc := 2566) dL_law_2566 e2 ?_
  refine zw_aload_n (pc := 2567) dL_law_2567 rfl 0 rfl ?_
  refine zw_iload (pc := 2568) dL_law_2568 5 rfl ?_
  refine zw_iconst (pc := 2570) (v := (2 : Int32)) dL_law_2570 (by decide) ?_
  refine zw_iadd (pc := 2571) dL_law_2571 ?_
  obtain ⟨x3, e4, H⟩ := zbind H
  refine zy_iald (pc := 2572) dL_law_2572 e4 ?_
  refine zw_aload_n (pc := 2573) dL_law_2573 rfl 0 rfl ?_
  refine zw_iload (pc := 2574) dL_law_2574 5 rfl ?_
  refine zw_iconst (pc := 2576) (v := (3 : Int32)) dL_law_2576 (by decide) ?_
  refine zw_iadd (pc := 2577) dL_law_2577 ?_
  obtain ⟨x5, e6, H⟩ := zbind H
  refine zy_iald (pc := 2578) dL_law_2578 e6 ?_
  refine zw_aload_n (pc := 2579) dL_law_2579 rfl 0 rfl ?_
  refine zw_iload (pc := 2580) dL_law_2580 5 rfl ?_
  refine zw_iconst (pc := 2582) (v := (4 : Int32)) dL_law_2582 (by decide) ?_
  refine zw_iadd (pc := 2583) dL_law_2583 ?_
  obtain ⟨x7, e8, H⟩ := zbind H
  refine zy_iald (pc := 2584) dL_law_2584 e8 ?_
  refine zw_aload_n (pc := 2585) dL_law_2585 rfl 3 rfl ?_
  rcases zbind3 H with ⟨x10, h11, e9, H⟩ | ⟨q12, h13, e9, H⟩
  · refine zw_invS (pc := 2586) (M' := M_X0_set) (A := [vR a1, vI x1, vI x3, vI x5, vI x7, vR a3]) [] dL_law_2586 (Or.inl q1960) mf_X0_set (w_X0_set e9) (Nat.le_of_ble_eq_true rfl) rfl rfl (Nat.le_of_ble_eq_true rfl) (zkv ?_) zkn9
    refine zw_istore (pc := 2589) (lv' := [(6, vI x10), (0, vR a0), (1, vR a1), (2, vR a2), (3, vR a3), (4, vR a4), (5, vI a5)]) dL_law_2589 (by decide) rfl ?_
    refine zw_aload_n (pc := 2591) dL_law_2591 rfl 3 rfl ?_
    refine zw_aload_n (pc := 2592) dL_law_2592 rfl 1 rfl ?_
    refine zw_iload (pc := 2593) dL_law_2593 6 rfl ?_
    refine zw_iconst (pc := 2595) (v := (1 : Int32)) dL_law_2595 (by decide) ?_
    refine zw_iadd (pc := 2596) dL_law_2596 ?_
    obtain ⟨x14, e15, H⟩ := zbind H
    refine zy_iald (pc := 2597) dL_law_2597 e15 ?_
    refine zw_aload_n (pc := 2598) dL_law_2598 rfl 1 rfl ?_
    refine zw_iload (pc := 2599) dL_law_2599 6 rfl ?_
    refine zw_iconst (pc := 2601) (v := (2 : Int32)) dL_law_2601 (by decide) ?_
    refine zw_iadd (pc := 2602) dL_law_2602 ?_
    obtain ⟨x16, e17, H⟩ := zbind H
    refine zy_iald (pc := 2603) dL_law_2603 e17 ?_
    refine zw_aload_n (pc := 2604) dL_law_2604 rfl 1 rfl ?_
    refine zw_iload (pc := 2605) dL_law_2605 6 rfl ?_
    refine zw_iconst (pc := 2607) (v := (3 : Int32)) dL_law_2607 (by decide) ?_
    refine zw_iadd (pc := 2608) dL_law_2608 ?_
    obtain ⟨x18, e19, H⟩ := zbind H
    refine zy_iald (pc := 2609) dL_law_2609 e19 ?_
    refine zw_aload_n (pc := 2610) dL_law_2610 rfl 1 rfl ?_
    refine zw_iload (pc := 2611) dL_law_2611 6 rfl ?_
    refine zw_iconst (pc := 2613) (v := (4 : Int32)) dL_law_2613 (by decide) ?_
    refine zw_iadd (pc := 2614) dL_law_2614 ?_
    obtain ⟨x20, e21, H⟩ := zbind H
    refine zy_iald (pc := 2615) dL_law_2615 e21 ?_
    obtain ⟨b22, e24, H⟩ := zbind H
    obtain ⟨e23, e25⟩ := zrv_ok e24
    obtain ⟨x28, h27, e26, H⟩ := zbind2 H
    refine zw_invV (pc := 2616) (M' := M_X4_set) (A := [vI x14, vI x16, vI x18, vI x20]) [] dL_law_2616 (Or.inl q2413) mf_X4_set q2415 (zkq e25 rfl) (w_X4_set e26) (Nat.le_of_ble_eq_true rfl) rfl (by rw [← e23]; rfl) (Nat.le_of_ble_eq_true rfl) (zkv ?_) zkn9
    refine zw_istore (pc := 2619) (lv' := [(7, vI x28), (6, vI x10), (0, vR a0), (1, vR a1), (2, vR a2), (3, vR a3), (4, vR a4), (5, vI a5)]) dL_law_2619 (by decide) rfl ?_
    refine zw_aload_n (pc := 2621) dL_law_2621 rfl 4 rfl ?_
    obtain ⟨b29, e31, H⟩ := zbind H
    obtain ⟨e30, e32⟩ := zrv_ok e31
    obtain ⟨x34, e33, H⟩ := zbind H
    refine zw_invV (pc := 2622) (M' := M_X4_thrown) (A := []) [] dL_law_2622 (Or.inl q2302) mf_X4_thrown q2304 (zkq e32 rfl) (w_X4_thrown e33) (Nat.le_of_ble_eq_true rfl) rfl (by rw [← e30]; rfl) (Nat.le_of_ble_eq_true rfl) (zkv ?_) zkn9
    refine zw_iload (pc := 2625) dL_law_2625 1 rfl ?_
    rcases zif H with ⟨c35, H⟩ | ⟨c35, H⟩
    · refine zw_icmp_eq (pc := 2627) (tgt := 2632) dL_law_2627 rfl (fun _ => ?_) (fun q => absurd c35 q)
      refine zw_iload (pc := 2632) dL_law_2632 1 rfl ?_
      rcases zif H with ⟨c36, H⟩ | ⟨c36, H⟩
      · refine zw_if_ne (pc := 2634) (tgt := 2649) dL_law_2634 rfl (fun q => absurd c36 q) (fun _ => ?_)
        refine zw_aload_n (pc := 2637) dL_law_2637 rfl 5 rfl ?_
        refine zw_iconst (pc := 2638) (v := (0 : Int32)) dL_law_2638 (by decide) ?_
        obtain ⟨x37, e38, H⟩ := zbind H
        refine zy_lald (pc := 2639) dL_law_2639 e38 ?_
        refine zw_iload (pc := 2640) dL_law_2640 0 rfl ?_
        refine zw_i2l (pc := 2642) dL_law_2642 ?_
        refine zw_lcmp (pc := 2643) dL_law_2643 ?_
        rcases zif H with ⟨c39, H⟩ | ⟨c39, H⟩
        · refine zw_if_eq (pc := 2644) (tgt := 2649) dL_law_2644 rfl (fun _ => ?_) (fun q => absurd (lgc_eq.mpr c39) q)
          refine zw_goto (pc := 2649) (tgt := 3377) dL_law_2649 rfl ?_
          refine zw_iinc (pc := 3377) (v := (a5 + (6 : Int32))) (lv' := [(5, vI (a5 + (6 : Int32))), (7, vI x28), (6, vI x10), (0, vR a0), (1, vR a1), (2, vR a2), (3, vR a3), (4, vR a4)]) dL_law_3377 7 rfl rfl (by decide) rfl ?_
          refine zw_goto (pc := 3380) (tgt := 28) dL_law_3380 rfl ?_
          refine zW_pick (lv' := [(0, vR a0), (1, vR a1), (2, vR a2), (3, vR a3), (4, vR a4), (5, vI (a5 + (6 : Int32)))]) [3, 4, 5, 6, 7, 0] rfl ?_
          exact hk28 _ _ _ _ _ _ _ H
        · refine zw_if_eq (pc := 2644) (tgt := 2649) dL_law_2644 rfl (fun q => absurd q (fun q => c39 (lgc_eq.mp q))) (fun _ => ?_)
          refine zw_iconst (pc := 2647) (v := (0 : Int32)) dL_law_2647 (by decide) ?_
          obtain ⟨rfl, rfl⟩ := Prod.mk.inj (Option.some.inj H)
          exact zw_zret (pc := 2648) dL_law_2648 rfl rfl rfl rfl
      · refine zw_if_ne (pc := 2634) (tgt := 2649) dL_law_2634 rfl (fun _ => ?_) (fun q => absurd q c36)
        refine zw_goto (pc := 2649) (tgt := 3377) dL_law_2649 rfl ?_
        refine zw_iinc (pc := 3377) (v := (a5 + (6 : Int32))) (lv' := [(5, vI (a5 + (6 : Int32))), (7, vI x28), (6, vI x10), (0, vR a0), (1, vR a1), (2, vR a2), (3, vR a3), (4, vR a4)]) dL_law_3377 7 rfl rfl (by decide) rfl ?_
        refine zw_goto (pc := 3380) (tgt := 28) dL_law_3380 rfl ?_
        refine zW_pick (lv' := [(0, vR a0), (1, vR a1), (2, vR a2), (3, vR a3), (4, vR a4), (5, vI (a5 + (6 : Int32)))]) [3, 4, 5, 6, 7, 0] rfl ?_
        exact hk28 _ _ _ _ _ _ _ H
    · refine zw_icmp_eq (pc := 2627) (tgt := 2632) dL_law_2627 rfl (fun q => absurd q c35) (fun _ => ?_)
      refine zw_iconst (pc := 2630) (v := (0 : Int32)) dL_law_2630 (by decide) ?_
      obtain ⟨rfl, rfl⟩ := Prod.mk.inj (Option.some.inj H)
      exact zw_zret (pc := 2631) dL_law_2631 rfl rfl rfl rfl
  · refine zw_invS (pc := 2586) (M' := M_X0_set) (A := [vR a1, vI x1, vI x3, vI x5, vI x7, vR a3]) [] dL_law_2586 (Or.inl q1960) mf_X0_set (w_X0_set e9) (Nat.le_of_ble_eq_true rfl) rfl rfl (Nat.le_of_ble_eq_true rfl) zkv0 (zkx ?_)
    rcases zif H with ⟨c40, H⟩ | ⟨c40, H⟩
    · have c40 := c40
      obtain ⟨rfl, rfl⟩ := Prod.mk.inj (Option.some.inj H)
      exact zx_out (zkq c40 rfl) (fun _ hz => nomatch hz) rfl rfl
    cases H
def B_L_law_2652 (k28 : Option Nat → Option Nat → Option Nat → Option Nat → Option Nat → Int32 → zH → Option ((Int32 ⊕ Nat) × zH)) (a0 : Option Nat) (a1 : Option Nat) (a2 : Option Nat) (a3 : Option Nat) (a4 : Option Nat) (a5 : Int32) (h : zH) : Option ((Int32 ⊕ Nat) × zH) :=
  (zaI 50 a0 (a5 + (1 : Int32)) h).bind fun x1 =>
  (zaI 50 a0 (a5 + (2 : Int32)) h).bind fun x3 =>
  (zaI 50 a0 (a5 + (3 : Int32)) h).bind fun x5 =>
  zb2 (f_X0_erase a1 x1 x3 x5 a3 h) fun x9 h8 =>
  (zaI 50 a0 (a5 + (1 : Int32)) h8).bind fun x10 =>
  (zaI 50 a0 (a5 + (2 : Int32)) h8).bind fun x12 =>
  (zaI 50 a0 (a5 + (3 : Int32)) h8).bind fun x14 =>
  (zrv 4 a2 h8).bind fun b16 =>
  zb2 (f_X4_erase (some b16) x10 x12 x14 h8) fun x22 h21 =>
  (zrv 4 a2 h21).bind fun b23 =>
  (f_X4_thrown (some b23) h21).bind fun x28 =>
  if x28 = x9 then
  if x9 = 0 then
  (zaJ a3 (0 : Int32) h21).bind fun x31 =>
  if x31 = x22.toInt64 then
  k28 a0 a1 a2 a3 a4 (a5 + (6 : Int32)) h21
  else
  some (.inl (0 : Int32), h21)
  else
  k28 a0 a1 a2 a3 a4 (a5 + (6 : Int32)) h21
  else
  some (.inl (0 : Int32), h21)
theorem wB_L_law_2652 {G : zG} {h0 h : zH} {vo : Int32 ⊕ Nat} {vh : zH} {k28 : Option Nat → Option Nat → Option Nat → Option Nat → Option Nat → Int32 → zH → Option ((Int32 ⊕ Nat) × zH)} (hk28 : ∀ (b0 : Option Nat) (b1 : Option Nat) (b2 : Option Nat) (b3 : Option Nat) (b4 : Option Nat) (b5 : Int32) (h' : zH), k28 b0 b1 b2 b3 b4 b5 h' = some (vo, vh) → zW G M_L_law 343 h0 (zoI vo) vh 28 [(0, vR b0), (1, vR b1), (2, vR b2), (3, vR b3), (4, vR b4), (5, vI b5)] [] h') {a0 : Option Nat} {a1 : Option Nat} {a2 : Option Nat} {a3 : Option Nat} {a4 : Option Nat} {a5 : Int32} (H : B_L_law_2652 k28 a0 a1 a2 a3 a4 a5 h = some (vo, vh)) : zW G M_L_law 343 h0 (zoI vo) vh 2652 [(0, vR a0), (1, vR a1), (2, vR a2), (3, vR a3), (4, vR a4), (5, vI a5)] [] h := by
  unfold B_L_law_2652 at H
  refine zw_aload_n (pc := 2652) dL_law_2652 rfl 1 rfl ?_
  refine zw_aload_n (pc := 2653) dL_law_2653 rfl 0 rfl ?_
  refine zw_iload (pc := 2654) dL_law_2654 5 rfl ?_
  refine zw_iconst (pc := 2656) (v := (1 : Int32)) dL_law_2656 (by decide) ?_
  refine zw_iadd (pc := 2657) dL_law_2657 ?_
  obtain ⟨x1, e2, H⟩ := zbind H
  refine zy_iald (pc := 2658) dL_law_2658 e2 ?_
  refine zw_aload_n (pc := 2659) dL_law_2659 rfl 0 rfl ?_
  refine zw_iload (pc := 2660) dL_law_2660 5 rfl ?_
  refine zw_iconst (pc := 2662) (v := (2 : Int32)) dL_law_2662 (by decide) ?_
  refine zw_iadd (pc := 2663) dL_law_2663 ?_
  obtain ⟨x3, e4, H⟩ := zbind H
  refine zy_iald (pc := 2664) dL_law_2664 e4 ?_
  refine zw_aload_n (pc := 2665) dL_law_2665 rfl 0 rfl ?_
  refine zw_iload (pc := 2666) dL_law_2666 5 rfl ?_
  refine zw_iconst (pc := 2668) (v := (3 : Int32)) dL_law_2668 (by decide) ?_
  refine zw_iadd (pc := 2669) dL_law_2669 ?_
  obtain ⟨x5, e6, H⟩ := zbind H
  refine zy_iald (pc := 2670) dL_law_2670 e6 ?_
  refine zw_aload_n (pc := 2671) dL_law_2671 rfl 3 rfl ?_
  obtain ⟨x9, h8, e7, H⟩ := zbind2 H
  refine zw_invS (pc := 2672) (M' := M_X0_erase) (A := [vR a1, vI x1, vI x3, vI x5, vR a3]) [] dL_law_2672 (Or.inl q1967) mf_X0_erase (w_X0_erase e7) (Nat.le_of_ble_eq_true rfl) rfl rfl (Nat.le_of_ble_eq_true rfl) (zkv ?_) zkn9
  refine zw_istore (pc := 2675) (lv' := [(6, vI x9), (0, vR a0), (1, vR a1), (2, vR a2), (3, vR a3), (4, vR a4), (5, vI a5)]) dL_law_2675 (by decide) rfl ?_
  refine zw_aload_n (pc := 2677) dL_law_2677 rfl 3 rfl ?_
  refine zw_aload_n (pc := 2678) dL_law_2678 rfl 1 rfl ?_
  refine zw_iload (pc := 2679) dL_law_2679 6 rfl ?_
  refine zw_iconst (pc := 2681) (v := (1 : Int32)) dL_law_2681 (by decide) ?_
  refine zw_iadd (pc := 2682) dL_law_2682 ?_
  obtain ⟨x10, e11, H⟩ := zbind H
  refine zy_iald (pc := 2683) dL_law_2683 e11 ?_
  refine zw_aload_n (pc := 2684) dL_law_2684 rfl 1 rfl ?_
  refine zw_iload (pc := 2685) dL_law_2685 6 rfl ?_
  refine zw_iconst (pc := 2687) (v := (2 : Int32)) dL_law_2687 (by decide) ?_
  refine zw_iadd (pc := 2688) dL_law_2688 ?_
  obtain ⟨x12, e13, H⟩ := zbind H
  refine zy_iald (pc := 2689) dL_law_2689 e13 ?_
  refine zw_aload_n (pc := 2690) dL_law_2690 rfl 1 rfl ?_
  refine zw_iload (pc := 2691) dL_law_2691 6 rfl ?_
  refine zw_iconst (pc := 2693) (v := (3 : Int32)) dL_law_2693 (by decide) ?_
  refine zw_iadd (pc := 2694) dL_law_2694 ?_
  obtain ⟨x14, e15, H⟩ := zbind H
  refine zy_iald (pc := 2695) dL_law_2695 e15 ?_
  obtain ⟨b16, e18, H⟩ := zbind H
  obtain ⟨e17, e19⟩ := zrv_ok e18
  obtain ⟨x22, h21, e20, H⟩ := zbind2 H
  refine zw_invV (pc := 2696) (M' := M_X4_erase) (A := [vI x10, vI x12, vI x14]) [] dL_law_2696 (Or.inl q2438) mf_X4_erase q2440 (zkq e19 rfl) (w_X4_erase e20) (Nat.le_of_ble_eq_true rfl) rfl (by rw [← e17]; rfl) (Nat.le_of_ble_eq_true rfl) (zkv ?_) zkn9
  refine zw_istore (pc := 2699) (lv' := [(7, vI x22), (6, vI x9), (0, vR a0), (1, vR a1), (2, vR a2), (3, vR a3), (4, vR a4), (5, vI a5)]) dL_law_2699 (by decide) rfl ?_
  refine zw_aload_n (pc := 2701) dL_law_2701 rfl 4 rfl ?_
  obtain ⟨b23, e25, H⟩ := zbind H
  obtain ⟨e24, e26⟩ := zrv_ok e25
  obtain ⟨x28, e27, H⟩ := zbind H
  refine zw_invV (pc := 2702) (M' := M_X4_thrown) (A := []) [] dL_law_2702 (Or.inl q2302) mf_X4_thrown q2304 (zkq e26 rfl) (w_X4_thrown e27) (Nat.le_of_ble_eq_true rfl) rfl (by rw [← e24]; rfl) (Nat.le_of_ble_eq_true rfl) (zkv ?_) zkn9
  refine zw_iload (pc := 2705) dL_law_2705 1 rfl ?_
  rcases zif H with ⟨c29, H⟩ | ⟨c29, H⟩
  · refine zw_icmp_eq (pc := 2707) (tgt := 2712) dL_law_2707 rfl (fun _ => ?_) (fun q => absurd c29 q)
    refine zw_iload (pc := 2712) dL_law_2712 1 rfl ?_
    rcases zif H with ⟨c30, H⟩ | ⟨c30, H⟩
    · refine zw_if_ne (pc := 2714) (tgt := 2729) dL_law_2714 rfl (fun q => absurd c30 q) (fun _ => ?_)
      refine zw_aload_n (pc := 2717) dL_law_2717 rfl 5 rfl ?_
      refine zw_iconst (pc := 2718) (v := (0 : Int32)) dL_law_2718 (by decide) ?_
      obtain ⟨x31, e32, H⟩ := zbind H
      refine zy_lald (pc := 2719) dL_law_2719 e32 ?_
      refine zw_iload (pc := 2720) dL_law_2720 0 rfl ?_
      refine zw_i2l (pc := 2722) dL_law_2722 ?_
      refine zw_lcmp (pc := 2723) dL_law_2723 ?_
      rcases zif H with ⟨c33, H⟩ | ⟨c33, H⟩
      · refine zw_if_eq (pc := 2724) (tgt := 2729) dL_law_2724 rfl (fun _ => ?_) (fun q => absurd (lgc_eq.mpr c33) q)
        refine zw_goto (pc := 2729) (tgt := 3377) dL_law_2729 rfl ?_
        refine zw_iinc (pc := 3377) (v := (a5 + (6 : Int32))) (lv' := [(5, vI (a5 + (6 : Int32))), (7, vI x22), (6, vI x9), (0, vR a0), (1, vR a1), (2, vR a2), (3, vR a3), (4, vR a4)]) dL_law_3377 7 rfl rfl (by decide) rfl ?_
        refine zw_goto (pc := 3380) (tgt := 28) dL_law_3380 rfl ?_
        refine zW_pick (lv' := [(0, vR a0), (1, vR a1), (2, vR a2), (3, vR a3), (4, vR a4), (5, vI (a5 + (6 : Int32)))]) [3, 4, 5, 6, 7, 0] rfl ?_
        exact hk28 _ _ _ _ _ _ _ H
      · refine zw_if_eq (pc := 2724) (tgt := 2729) dL_law_2724 rfl (fun q => absurd q (fun q => c33 (lgc_eq.mp q))) (fun _ => ?_)
        refine zw_iconst (pc := 2727) (v := (0 : Int32)) dL_law_2727 (by decide) ?_
        obtain ⟨rfl, rfl⟩ := Prod.mk.inj (Option.some.inj H)
        exact zw_zret (pc := 2728) dL_law_2728 rfl rfl rfl rfl
    · refine zw_if_ne (pc := 2714) (tgt := 2729) dL_law_2714 rfl (fun _ => ?_) (fun q => absurd q c30)
      refine zw_goto (pc := 2729) (tgt := 3377) dL_law_2729 rfl ?_
      refine zw_iinc (pc := 3377) (v := (a5 + (6 : Int32))) (lv' := [(5, vI (a5 + (6 : Int32))), (7, vI x22), (6, vI x9), (0, vR a0), (1, vR a1), (2, vR a2), (3, vR a3), (4, vR a4)]) dL_law_3377 7 rfl rfl (by decide) rfl ?_
      refine zw_goto (pc := 3380) (tgt := 28) dL_law_3380 rfl ?_
      refine zW_pick (lv' := [(0, vR a0), (1, vR a1), (2, vR a2), (3, vR a3), (4, vR a4), (5, vI (a5 + (6 : Int32)))]) [3, 4, 5, 6, 7, 0] rfl ?_
      exact hk28 _ _ _ _ _ _ _ H
  · refine zw_icmp_eq (pc := 2707) (tgt := 2712) dL_law_2707 rfl (fun q => absurd q c29) (fun _ => ?_)
    refine zw_iconst (pc := 2710) (v := (0 : Int32)) dL_law_2710 (by decide) ?_
    obtain ⟨rfl, rfl⟩ := Prod.mk.inj (Option.some.inj H)
    exact zw_zret (pc := 2711) dL_law_2711 rfl rfl rfl rfl
def B_L_law_2732 (k28 : Option Nat → Option Nat → Option Nat → Option Nat → Option Nat → Int32 → zH → Option ((Int32 ⊕ Nat) × zH)) (a0 : Option Nat) (a1 : Option Nat) (a2 : Option Nat) (a3 : Option Nat) (a4 : Option Nat) (a5 : Int32) (h : zH) : Option ((Int32 ⊕ Nat) × zH) :=
  (zaI 50 a0 (a5 + (1 : Int32)) h).bind fun x1 =>
  zb3 (f_X0_dropZeros a1 x1 a3 h) (fun x4 h5 =>
  (zaI 50 a0 (a5 + (1 : Int32)) h5).bind fun x8 =>
  (zrv 4 a2 h5).bind fun b10 =>
  zb2 (f_X4_dropZeros (some b10) x8 h5) fun x16 h15 =>
  (zrv 4 a2 h15).bind fun b17 =>
  (f_X4_thrown (some b17) h15).bind fun x22 =>
  if x22 = x4 then
  if x4 = 0 then
  (zaJ a3 (0 : Int32) h15).bind fun x25 =>
  if x25 = x16.toInt64 then
  k28 a0 a1 a2 a3 a4 (a5 + (6 : Int32)) h15
  else
  some (.inl (0 : Int32), h15)
  else
  k28 a0 a1 a2 a3 a4 (a5 + (6 : Int32)) h15
  else
  some (.inl (0 : Int32), h15))
  (fun q6 h7 =>
  if zk h7 q6 = 22 then
  some (.inr q6, h7)
  else none)
theorem wB_L_law_2732 {G : zG} {h0 h : zH} {vo : Int32 ⊕ Nat} {vh : zH} {k28 : Option Nat → Option Nat → Option Nat → Option Nat → Option Nat → Int32 → zH → Option ((Int32 ⊕ Nat) × zH)} (hk28 : ∀ (b0 : Option Nat) (b1 : Option Nat) (b2 : Option Nat) (b3 : Option Nat) (b4 : Option Nat) (b5 : Int32) (h' : zH), k28 b0 b1 b2 b3 b4 b5 h' = some (vo, vh) → zW G M_L_law 343 h0 (zoI vo) vh 28 [(0, vR b0), (1, vR b1), (2, vR b2), (3, vR b3), (4, vR b4), (5, vI b5)] [] h') {a0 : Option Nat} {a1 : Option Nat} {a2 : Option Nat} {a3 : Option Nat} {a4 : Option Nat} {a5 : Int32} (H : B_L_law_2732 k28 a0 a1 a2 a3 a4 a5 h = some (vo, vh)) : zW G M_L_law 343 h0 (zoI vo) vh 2732 [(0, vR a0), (1, vR a1), (2, vR a2), (3, vR a3), (4, vR a4), (5, vI a5)] [] h := by
  unfold B_L_law_2732 at H
  refine zw_aload_n (pc := 2732) dL_law_2732 rfl 1 rfl ?_
  refine zw_aload_n (pc := 2733) dL_law_2733 rfl 0 rfl ?_
  refine zw_iload (pc := 2734) dL_law_2734 5 rfl ?_
  refine zw_iconst (pc := 2736) (v := (1 : Int32)) dL_law_2736 (by decide) ?_
  refine zw_iadd (pc := 2737) dL_law_2737 ?_
  obtain ⟨x1, e2, H⟩ := zbind H
  refine zy_iald (pc := 2738) dL_law_2738 e2 ?_
  refine zw_aload_n (pc := 2739) dL_law_2739 rfl 3 rfl ?_
  rcases zbind3 H with ⟨x4, h5, e3, H⟩ | ⟨q6, h7, e3, H⟩
  · refine zw_invS (pc := 2740) (M' := M_X0_dropZeros) (A := [vR a1, vI x1, vR a3]) [] dL_law_2740 (Or.inl q1974) mf_X0_dropZeros (w_X0_dropZeros e3) (Nat.le_of_ble_eq_true rfl) rfl rfl (Nat.le_of_ble_eq_true rfl) (zkv ?_) zkn9
    refine zw_istore (pc := 2743) (lv' := [(6, vI x4), (0, vR a0), (1, vR a1), (2, vR a2), (3, vR a3), (4, vR a4), (5, vI a5)]) dL_law_2743 (by decide) rfl ?_
    refine zw_aload_n (pc := 2745) dL_law_2745 rfl 3 rfl ?_
    refine zw_aload_n (pc := 2746) dL_law_2746 rfl 1 rfl ?_
    refine zw_iload (pc := 2747) dL_law_2747 6 rfl ?_
    refine zw_iconst (pc := 2749) (v := (1 : Int32)) dL_law_2749 (by decide) ?_
    refine zw_iadd (pc := 2750) dL_law_2750 ?_
    obtain ⟨x8, e9, H⟩ := zbind H
    refine zy_iald (pc := 2751) dL_law_2751 e9 ?_
    obtain ⟨b10, e12, H⟩ := zbind H
    obtain ⟨e11, e13⟩ := zrv_ok e12
    obtain ⟨x16, h15, e14, H⟩ := zbind2 H
    refine zw_invV (pc := 2752) (M' := M_X4_dropZeros) (A := [vI x8]) [] dL_law_2752 (Or.inl q2460) mf_X4_dropZeros q2462 (zkq e13 rfl) (w_X4_dropZeros e14) (Nat.le_of_ble_eq_true rfl) rfl (by rw [← e11]; rfl) (Nat.le_of_ble_eq_true rfl) (zkv ?_) zkn9
    refine zw_istore (pc := 2755) (lv' := [(7, vI x16), (6, vI x4), (0, vR a0), (1, vR a1), (2, vR a2), (3, vR a3), (4, vR a4), (5, vI a5)]) dL_law_2755 (by decide) rfl ?_
    refine zw_aload_n (pc := 2757) dL_law_2757 rfl 4 rfl ?_
    obtain ⟨b17, e19, H⟩ := zbind H
    obtain ⟨e18, e20⟩ := zrv_ok e19
    obtain ⟨x22, e21, H⟩ := zbind H
    refine zw_invV (pc := 2758) (M' := M_X4_thrown) (A := []) [] dL_law_2758 (Or.inl q2302) mf_X4_thrown q2304 (zkq e20 rfl) (w_X4_thrown e21) (Nat.le_of_ble_eq_true rfl) rfl (by rw [← e18]; rfl) (Nat.le_of_ble_eq_true rfl) (zkv ?_) zkn9
    refine zw_iload (pc := 2761) dL_law_2761 1 rfl ?_
    rcases zif H with ⟨c23, H⟩ | ⟨c23, H⟩
    · refine zw_icmp_eq (pc := 2763) (tgt := 2768) dL_law_2763 rfl (fun _ => ?_) (fun q => absurd c23 q)
      refine zw_iload (pc := 2768) dL_law_2768 1 rfl ?_
      rcases zif H with ⟨c24, H⟩ | ⟨c24, H⟩
      · refine zw_if_ne (pc := 2770) (tgt := 2785) dL_law_2770 rfl (fun q => absurd c24 q) (fun _ => ?_)
        refine zw_aload_n (pc := 2773) dL_law_2773 rfl 5 rfl ?_
        refine zw_iconst (pc := 2774) (v := (0 : Int32)) dL_law_2774 (by decide) ?_
        obtain ⟨x25, e26, H⟩ := zbind H
        refine zy_lald (pc := 2775) dL_law_2775 e26 ?_
        refine zw_iload (pc := 2776) dL_law_2776 0 rfl ?_
        refine zw_i2l (pc := 2778) dL_law_2778 ?_
        refine zw_lcmp (pc := 2779) dL_law_2779 ?_
        rcases zif H with ⟨c27, H⟩ | ⟨c27, H⟩
        · refine zw_if_eq (pc := 2780) (tgt := 2785) dL_law_2780 rfl (fun _ => ?_) (fun q => absurd (lgc_eq.mpr c27) q)
          refine zw_goto (pc := 2785) (tgt := 3377) dL_law_2785 rfl ?_
          refine zw_iinc (pc := 3377) (v := (a5 + (6 : Int32))) (lv' := [(5, vI (a5 + (6 : Int32))), (7, vI x16), (6, vI x4), (0, vR a0), (1, vR a1), (2, vR a2), (3, vR a3), (4, vR a4)]) dL_law_3377 7 rfl rfl (by decide) rfl ?_
          refine zw_goto (pc := 3380) (tgt := 28) dL_law_3380 rfl ?_
          refine zW_pick (lv' := [(0, vR a0), (1, vR a1), (2, vR a2), (3, vR a3), (4, vR a4), (5, vI (a5 + (6 : Int32)))]) [3, 4, 5, 6, 7, 0] rfl ?_
          exact hk28 _ _ _ _ _ _ _ H
        · refine zw_if_eq (pc := 2780) (tgt := 2785) dL_law_2780 rfl (fun q => absurd q (fun q => c27 (lgc_eq.mp q))) (fun _ => ?_)
          refine zw_iconst (pc := 2783) (v := (0 : Int32)) dL_law_2783 (by decide) ?_
          obtain ⟨rfl, rfl⟩ := Prod.mk.inj (Option.some.inj H)
          exact zw_zret (pc := 2784) dL_law_2784 rfl rfl rfl rfl
      · refine zw_if_ne (pc := 2770) (tgt := 2785) dL_law_2770 rfl (fun _ => ?_) (fun q => absurd q c24)
        refine zw_goto (pc := 2785) (tgt := 3377) dL_law_2785 rfl ?_
        refine zw_iinc (pc := 3377) (v := (a5 + (6 : Int32))) (lv' := [(5, vI (a5 + (6 : Int32))), (7, vI x16), (6, vI x4), (0, vR a0), (1, vR a1), (2, vR a2), (3, vR a3), (4, vR a4)]) dL_law_3377 7 rfl rfl (by decide) rfl ?_
        refine zw_goto (pc := 3380) (tgt := 28) dL_law_3380 rfl ?_
        refine zW_pick (lv' := [(0, vR a0), (1, vR a1), (2, vR a2), (3, vR a3), (4, vR a4), (5, vI (a5 + (6 : Int32)))]) [3, 4, 5, 6, 7, 0] rfl ?_
        exact hk28 _ _ _ _ _ _ _ H
    · refine zw_icmp_eq (pc := 2763) (tgt := 2768) dL_law_2763 rfl (fun q => absurd q c23) (fun _ => ?_)
      refine zw_iconst (pc := 2766) (v := (0 : Int32)) dL_law_2766 (by decide) ?_
      obtain ⟨rfl, rfl⟩ := Prod.mk.inj (Option.some.inj H)
      exact zw_zret (pc := 2767) dL_law_2767 rfl rfl rfl rfl
  · refine zw_invS (pc := 2740) (M' := M_X0_dropZeros) (A := [vR a1, vI x1, vR a3]) [] dL_law_2740 (Or.inl q1974) mf_X0_dropZeros (w_X0_dropZeros e3) (Nat.le_of_ble_eq_true rfl) rfl rfl (Nat.le_of_ble_eq_true rfl) zkv0 (zkx ?_)
    rcases zif H with ⟨c28, H⟩ | ⟨c28, H⟩
    · have c28 := c28
      obtain ⟨rfl, rfl⟩ := Prod.mk.inj (Option.some.inj H)
      exact zx_out (zkq c28 rfl) (fun _ hz => nomatch hz) rfl rfl
    cases H
def B_L_law_2788 (k28 : Option Nat → Option Nat → Option Nat → Option Nat → Option Nat → Int32 → zH → Option ((Int32 ⊕ Nat) × zH)) (a0 : Option Nat) (a1 : Option Nat) (a2 : Option Nat) (a3 : Option Nat) (a4 : Option Nat) (a5 : Int32) (h : zH) : Option ((Int32 ⊕ Nat) × zH) :=
  (zaI 50 a0 (a5 + (1 : Int32)) h).bind fun x1 =>
  (zaI 50 a0 (a5 + (2 : Int32)) h).bind fun x3 =>
  (zaI 50 a0 (a5 + (3 : Int32)) h).bind fun x5 =>
  zb3 (f_X0_swapRows a1 x1 x3 x5 a3 h) (fun x8 h9 =>
  (zaI 50 a0 (a5 + (1 : Int32)) h9).bind fun x12 =>
  (zaI 50 a0 (a5 + (2 : Int32)) h9).bind fun x14 =>
  (zaI 50 a0 (a5 + (3 : Int32)) h9).bind fun x16 =>
  (zrv 4 a2 h9).bind fun b18 =>
  zb2 (f_X4_swapRows (some b18) x12 x14 x16 h9) fun x24 h23 =>
  (zrv 4 a2 h23).bind fun b25 =>
  (f_X4_thrown (some b25) h23).bind fun x30 =>
  if x30 = x8 then
  if x8 = 0 then
  (zaJ a3 (0 : Int32) h23).bind fun x33 =>
  if x33 = x24.toInt64 then
  k28 a0 a1 a2 a3 a4 (a5 + (6 : Int32)) h23
  else
  some (.inl (0 : Int32), h23)
  else
  k28 a0 a1 a2 a3 a4 (a5 + (6 : Int32)) h23
  else
  some (.inl (0 : Int32), h23))
  (fun q10 h11 =>
  if zk h11 q10 = 22 then
  some (.inr q10, h11)
  else none)
theorem wB_L_law_2788 {G : zG} {h0 h : zH} {vo : Int32 ⊕ Nat} {vh : zH} {k28 : Option Nat → Option Nat → Option Nat → Option Nat → Option Nat → Int32 → zH → Option ((Int32 ⊕ Nat) × zH)} (hk28 : ∀ (b0 : Option Nat) (b1 : Option Nat) (b2 : Option Nat) (b3 : Option Nat) (b4 : Option Nat) (b5 : Int32) (h' : zH), k28 b0 b1 b2 b3 b4 b5 h' = some (vo, vh) → zW G M_L_law 343 h0 (zoI vo) vh 28 [(0, vR b0), (1, vR b1), (2, vR b2), (3, vR b3), (4, vR b4), (5, vI b5)] [] h') {a0 : Option Nat} {a1 : Option Nat} {a2 : Option Nat} {a3 : Option Nat} {a4 : Option Nat} {a5 : Int32} (H : B_L_law_2788 k28 a0 a1 a2 a3 a4 a5 h = some (vo, vh)) : zW G M_L_law 343 h0 (zoI vo) vh 2788 [(0, vR a0), (1, vR a1), (2, vR a2), (3, vR a3), (4, vR a4), (5, vI a5)] [] h := by
  unfold B_L_law_2788 at H
  refine zw_aload_n (pc := 2788) dL_law_2788 rfl 1 rfl ?_
  refine zw_aload_n (pc := 2789) dL_law_2789 rfl 0 rfl ?_
  refine zw_iload (pc := 2790) dL_law_2790 5 rfl ?_
  refine zw_iconst (pc := 2792) (v := (1 : Int32)) dL_law_2792 (by decide) ?_
  refine zw_iadd (pc := 2793) dL_law_2793 ?_
  obtain ⟨x1, e2, H⟩ := zbind H
  refine zy_iald (pc := 2794) dL_law_2794 e2 ?_
  refine zw_aload_n (pc := 2795) dL_law_2795 rfl 0 rfl ?_
  refine zw_iload (pc := 2796) dL_law_2796 5 rfl ?_
  refine zw_iconst (pc := 2798) (v := (2 : Int32)) dL_law_2798 (by decide) ?_
  refine zw_iadd (pc := 2799) dL_law_2799 ?_
  obtain ⟨x3, e4, H⟩ := zbind H
  refine zy_iald (pc := 2800) dL_law_2800 e4 ?_
  refine zw_aload_n (pc := 2801) dL_law_2801 rfl 0 rfl ?_
  refine zw_iload (pc := 2802) dL_law_2802 5 rfl ?_
  refine zw_iconst (pc := 2804) (v := (3 : Int32)) dL_law_2804 (by decide) ?_
  refine zw_iadd (pc := 2805) dL_law_2805 ?_
  obtain ⟨x5, e6, H⟩ := zbind H
  refine zy_iald (pc := 2806) dL_law_2806 e6 ?_
  refine zw_aload_n (pc := 2807) dL_law_2807 rfl 3 rfl ?_
  rcases zbind3 H with ⟨x8, h9, e7, H⟩ | ⟨q10, h11, e7, H⟩
  · refine zw_invS (pc := 2808) (M' := M_X0_swapRows) (A := [vR a1, vI x1, vI x3, vI x5, vR a3]) [] dL_law_2808 (Or.inl q1981) mf_X0_swapRows (w_X0_swapRows e7) (Nat.le_of_ble_eq_true rfl) rfl rfl (Nat.le_of_ble_eq_true rfl) (zkv ?_) zkn9
    refine zw_istore (pc := 2811) (lv' := [(6, vI x8), (0, vR a0), (1, vR a1), (2, vR a2), (3, vR a3), (4, vR a4), (5, vI a5)]) dL_law_2811 (by decide) rfl ?_
    refine zw_aload_n (pc := 2813) dL_law_2813 rfl 3 rfl ?_
    refine zw_aload_n (pc := 2814) dL_law_2814 rfl 1 rfl ?_
    refine zw_iload (pc := 2815) dL_law_2815 6 rfl ?_
    refine zw_iconst (pc := 2817) (v := (1 : Int32)) dL_law_2817 (by decide) ?_
    refine zw_iadd (pc := 2818) dL_law_2818 ?_
    obtain ⟨x12, e13, H⟩ := zbind H
    refine zy_iald (pc := 2819) dL_law_2819 e13 ?_
    refine zw_aload_n (pc := 2820) dL_law_2820 rfl 1 rfl ?_
    refine zw_iload (pc := 2821) dL_law_2821 6 rfl ?_
    refine zw_iconst (pc := 2823) (v := (2 : Int32)) dL_law_2823 (by decide) ?_
    refine zw_iadd (pc := 2824) dL_law_2824 ?_
    obtain ⟨x14, e15, H⟩ := zbind H
    refine zy_iald (pc := 2825) dL_law_2825 e15 ?_
    refine zw_aload_n (pc := 2826) dL_law_2826 rfl 1 rfl ?_
    refine zw_iload (pc := 2827) dL_law_2827 6 rfl ?_
    refine zw_iconst (pc := 2829) (v := (3 : Int32)) dL_law_2829 (by decide) ?_
    refine zw_iadd (pc := 2830) dL_law_2830 ?_
    obtain ⟨x16, e17, H⟩ := zbind H
    refine zy_iald (pc := 2831) dL_law_2831 e17 ?_
    obtain ⟨b18, e20, H⟩ := zbind H
    obtain ⟨e19, e21⟩ := zrv_ok e20
    obtain ⟨x24, h23, e22, H⟩ := zbind2 H
    refine zw_invV (pc := 2832) (M' := M_X4_swapRows) (A := [vI x12, vI x14, vI x16]) [] dL_law_2832 (Or.inl q2468) mf_X4_swapRows q2470 (zkq e21 rfl) (w_X4_swapRows e22) (Nat.le_of_ble_eq_true rfl) rfl (by rw [← e19]; rfl) (Nat.le_of_ble_eq_true rfl) (zkv ?_) zkn9
    refine zw_istore (pc := 2835) (lv' := [(7, vI x24), (6, vI x8), (0, vR a0), (1, vR a1), (2, vR a2), (3, vR a3), (4, vR a4), (5, vI a5)]) dL_law_2835 (by decide) rfl ?_
    refine zw_aload_n (pc := 2837) dL_law_2837 rfl 4 rfl ?_
    obtain ⟨b25, e27, H⟩ := zbind H
    obtain ⟨e26, e28⟩ := zrv_ok e27
    obtain ⟨x30, e29, H⟩ := zbind H
    refine zw_invV (pc := 2838) (M' := M_X4_thrown) (A := []) [] dL_law_2838 (Or.inl q2302) mf_X4_thrown q2304 (zkq e28 rfl) (w_X4_thrown e29) (Nat.le_of_ble_eq_true rfl) rfl (by rw [← e26]; rfl) (Nat.le_of_ble_eq_true rfl) (zkv ?_) zkn9
    refine zw_iload (pc := 2841) dL_law_2841 1 rfl ?_
    rcases zif H with ⟨c31, H⟩ | ⟨c31, H⟩
    · refine zw_icmp_eq (pc := 2843) (tgt := 2848) dL_law_2843 rfl (fun _ => ?_) (fun q => absurd c31 q)
      refine zw_iload (pc := 2848) dL_law_2848 1 rfl ?_
      rcases zif H with ⟨c32, H⟩ | ⟨c32, H⟩
      · refine zw_if_ne (pc := 2850) (tgt := 2865) dL_law_2850 rfl (fun q => absurd c32 q) (fun _ => ?_)
        refine zw_aload_n (pc := 2853) dL_law_2853 rfl 5 rfl ?_
        refine zw_iconst (pc := 2854) (v := (0 : Int32)) dL_law_2854 (by decide) ?_
        obtain ⟨x33, e34, H⟩ := zbind H
        refine zy_lald (pc := 2855) dL_law_2855 e34 ?_
        refine zw_iload (pc := 2856) dL_law_2856 0 rfl ?_
        refine zw_i2l (pc := 2858) dL_law_2858 ?_
        refine zw_lcmp (pc := 2859) dL_law_2859 ?_
        rcases zif H with ⟨c35, H⟩ | ⟨c35, H⟩
        · refine zw_if_eq (pc := 2860) (tgt := 2865) dL_law_2860 rfl (fun _ => ?_) (fun q => absurd (lgc_eq.mpr c35) q)
          refine zw_goto (pc := 2865) (tgt := 3377) dL_law_2865 rfl ?_
          refine zw_iinc (pc := 3377) (v := (a5 + (6 : Int32))) (lv' := [(5, vI (a5 + (6 : Int32))), (7, vI x24), (6, vI x8), (0, vR a0), (1, vR a1), (2, vR a2), (3, vR a3), (4, vR a4)]) dL_law_3377 7 rfl rfl (by decide) rfl ?_
          refine zw_goto (pc := 3380) (tgt := 28) dL_law_3380 rfl ?_
          refine zW_pick (lv' := [(0, vR a0), (1, vR a1), (2, vR a2), (3, vR a3), (4, vR a4), (5, vI (a5 + (6 : Int32)))]) [3, 4, 5, 6, 7, 0] rfl ?_
          exact hk28 _ _ _ _ _ _ _ H
        · refine zw_if_eq (pc := 2860) (tgt := 2865) dL_law_2860 rfl (fun q => absurd q (fun q => c35 (lgc_eq.mp q))) (fun _ => ?_)
          refine zw_iconst (pc := 2863) (v := (0 : Int32)) dL_law_2863 (by decide) ?_
          obtain ⟨rfl, rfl⟩ := Prod.mk.inj (Option.some.inj H)
          exact zw_zret (pc := 2864) dL_law_2864 rfl rfl rfl rfl
      · refine zw_if_ne (pc := 2850) (tgt := 2865) dL_law_2850 rfl (fun _ => ?_) (fun q => absurd q c32)
        refine zw_goto (pc := 2865) (tgt := 3377) dL_law_2865 rfl ?_
        refine zw_iinc (pc := 3377) (v := (a5 + (6 : Int32))) (lv' := [(5, vI (a5 + (6 : Int32))), (7, vI x24), (6, vI x8), (0, vR a0), (1, vR a1), (2, vR a2), (3, vR a3), (4, vR a4)]) dL_law_3377 7 rfl rfl (by decide) rfl ?_
        refine zw_goto (pc := 3380) (tgt := 28) dL_law_3380 rfl ?_
        refine zW_pick (lv' := [(0, vR a0), (1, vR a1), (2, vR a2), (3, vR a3), (4, vR a4), (5, vI (a5 + (6 : Int32)))]) [3, 4, 5, 6, 7, 0] rfl ?_
        exact hk28 _ _ _ _ _ _ _ H
    · refine zw_icmp_eq (pc := 2843) (tgt := 2848) dL_law_2843 rfl (fun q => absurd q c31) (fun _ => ?_)
      refine zw_iconst (pc := 2846) (v := (0 : Int32)) dL_law_2846 (by decide) ?_
      obtain ⟨rfl, rfl⟩ := Prod.mk.inj (Option.some.inj H)
      exact zw_zret (pc := 2847) dL_law_2847 rfl rfl rfl rfl
  · refine zw_invS (pc := 2808) (M' := M_X0_swapRows) (A := [vR a1, vI x1, vI x3, vI x5, vR a3]) [] dL_law_2808 (Or.inl q1981) mf_X0_swapRows (w_X0_swapRows e7) (Nat.le_of_ble_eq_true rfl) rfl rfl (Nat.le_of_ble_eq_true rfl) zkv0 (zkx ?_)
    rcases zif H with ⟨c36, H⟩ | ⟨c36, H⟩
    · have c36 := c36
      obtain ⟨rfl, rfl⟩ := Prod.mk.inj (Option.some.inj H)
      exact zx_out (zkq c36 rfl) (fun _ hz => nomatch hz) rfl rfl
    cases H
def B_L_law_2868 (k28 : Option Nat → Option Nat → Option Nat → Option Nat → Option Nat → Int32 → zH → Option ((Int32 ⊕ Nat) × zH)) (a0 : Option Nat) (a1 : Option Nat) (a2 : Option Nat) (a3 : Option Nat) (a4 : Option Nat) (a5 : Int32) (h : zH) : Option ((Int32 ⊕ Nat) × zH) :=
  (zaI 50 a0 (a5 + (1 : Int32)) h).bind fun x1 =>
  (zaI 50 a0 (a5 + (2 : Int32)) h).bind fun x3 =>
  zb2 (f_X0_scale a1 x1 x3 a3 h) fun x7 h6 =>
  (zaI 50 a0 (a5 + (1 : Int32)) h6).bind fun x8 =>
  (zaI 50 a0 (a5 + (2 : Int32)) h6).bind fun x10 =>
  (zrv 4 a2 h6).bind fun b12 =>
  zb2 (f_X4_scale (some b12) x8 x10 h6) fun x18 h17 =>
  (zrv 4 a2 h17).bind fun b19 =>
  (f_X4_thrown (some b19) h17).bind fun x24 =>
  if x24 = x7 then
  if x7 = 0 then
  (zaJ a3 (0 : Int32) h17).bind fun x27 =>
  if x27 = x18.toInt64 then
  k28 a0 a1 a2 a3 a4 (a5 + (6 : Int32)) h17
  else
  some (.inl (0 : Int32), h17)
  else
  k28 a0 a1 a2 a3 a4 (a5 + (6 : Int32)) h17
  else
  some (.inl (0 : Int32), h17)
theorem wB_L_law_2868 {G : zG} {h0 h : zH} {vo : Int32 ⊕ Nat} {vh : zH} {k28 : Option Nat → Option Nat → Option Nat → Option Nat → Option Nat → Int32 → zH → Option ((Int32 ⊕ Nat) × zH)} (hk28 : ∀ (b0 : Option Nat) (b1 : Option Nat) (b2 : Option Nat) (b3 : Option Nat) (b4 : Option Nat) (b5 : Int32) (h' : zH), k28 b0 b1 b2 b3 b4 b5 h' = some (vo, vh) → zW G M_L_law 343 h0 (zoI vo) vh 28 [(0, vR b0), (1, vR b1), (2, vR b2), (3, vR b3), (4, vR b4), (5, vI b5)] [] h') {a0 : Option Nat} {a1 : Option Nat} {a2 : Option Nat} {a3 : Option Nat} {a4 : Option Nat} {a5 : Int32} (H : B_L_law_2868 k28 a0 a1 a2 a3 a4 a5 h = some (vo, vh)) : zW G M_L_law 343 h0 (zoI vo) vh 2868 [(0, vR a0), (1, vR a1), (2, vR a2), (3, vR a3), (4, vR a4), (5, vI a5)] [] h := by
  unfold B_L_law_2868 at H
  refine zw_aload_n (pc := 2868) dL_law_2868 rfl 1 rfl ?_
  refine zw_aload_n (pc := 2869) dL_law_2869 rfl 0 rfl ?_
  refine zw_iload (pc := 2870) dL_law_2870 5 rfl ?_
  refine zw_iconst (pc := 2872) (v := (1 : Int32)) dL_law_2872 (by decide) ?_
  refine zw_iadd (pc := 2873) dL_law_2873 ?_
  obtain ⟨x1, e2, H⟩ := zbind H
  refine zy_iald (pc := 2874) dL_law_2874 e2 ?_
  refine zw_aload_n (pc := 2875) dL_law_2875 rfl 0 rfl ?_
  refine zw_iload (pc := 2876) dL_law_2876 5 rfl ?_
  refine zw_iconst (pc := 2878) (v := (2 : Int32)) dL_law_2878 (by decide) ?_
  refine zw_iadd (pc := 2879) dL_law_2879 ?_
  obtain ⟨x3, e4, H⟩ := zbind H
  refine zy_iald (pc := 2880) dL_law_2880 e4 ?_
  refine zw_aload_n (pc := 2881) dL_law_2881 rfl 3 rfl ?_
  obtain ⟨x7, h6, e5, H⟩ := zbind2 H
  refine zw_invS (pc := 2882) (M' := M_X0_scale) (A := [vR a1, vI x1, vI x3, vR a3]) [] dL_law_2882 (Or.inl q1988) mf_X0_scale (w_X0_scale e5) (Nat.le_of_ble_eq_true rfl) rfl rfl (Nat.le_of_ble_eq_true rfl) (zkv ?_) zkn9
  refine zw_istore (pc := 2885) (lv' := [(6, vI x7), (0, vR a0), (1, vR a1), (2, vR a2), (3, vR a3), (4, vR a4), (5, vI a5)]) dL_law_2885 (by decide) rfl ?_
  refine zw_aload_n (pc := 2887) dL_law_2887 rfl 3 rfl ?_
  refine zw_aload_n (pc := 2888) dL_law_2888 rfl 1 rfl ?_
  refine zw_iload (pc := 2889) dL_law_2889 6 rfl ?_
  refine zw_iconst (pc := 2891) (v := (1 : Int32)) dL_law_2891 (by decide) ?_
  refine zw_iadd (pc := 2892) dL_law_2892 ?_
  obtain ⟨x8, e9, H⟩ := zbind H
  refine zy_iald (pc := 2893) dL_law_2893 e9 ?_
  refine zw_aload_n (pc := 2894) dL_law_2894 rfl 1 rfl ?_
  refine zw_iload (pc := 2895) dL_law_2895 6 rfl ?_
  refine zw_iconst (pc := 2897) (v := (2 : Int32)) dL_law_2897 (by decide) ?_
  refine zw_iadd (pc := 2898) dL_law_2898 ?_
  obtain ⟨x10, e11, H⟩ := zbind H
  refine zy_iald (pc := 2899) dL_law_2899 e11 ?_
  obtain ⟨b12, e14, H⟩ := zbind H
  obtain ⟨e13, e15⟩ := zrv_ok e14
  obtain ⟨x18, h17, e16, H⟩ := zbind2 H
  refine zw_invV (pc := 2900) (M' := M_X4_scale) (A := [vI x8, vI x10]) [] dL_law_2900 (Or.inl q2480) mf_X4_scale q2482 (zkq e15 rfl) (w_X4_scale e16) (Nat.le_of_ble_eq_true rfl) rfl (by rw [← e13]; rfl) (Nat.le_of_ble_eq_true rfl) (zkv ?_) zkn9
  refine zw_istore (pc := 2903) (lv' := [(7, vI x18), (6, vI x7), (0, vR a0), (1, vR a1), (2, vR a2), (3, vR a3), (4, vR a4), (5, vI a5)]) dL_law_2903 (by decide) rfl ?_
  refine zw_aload_n (pc := 2905) dL_law_2905 rfl 4 rfl ?_
  obtain ⟨b19, e21, H⟩ := zbind H
  obtain ⟨e20, e22⟩ := zrv_ok e21
  obtain ⟨x24, e23, H⟩ := zbind H
  refine zw_invV (pc := 2906) (M' := M_X4_thrown) (A := []) [] dL_law_2906 (Or.inl q2302) mf_X4_thrown q2304 (zkq e22 rfl) (w_X4_thrown e23) (Nat.le_of_ble_eq_true rfl) rfl (by rw [← e20]; rfl) (Nat.le_of_ble_eq_true rfl) (zkv ?_) zkn9
  refine zw_iload (pc := 2909) dL_law_2909 1 rfl ?_
  rcases zif H with ⟨c25, H⟩ | ⟨c25, H⟩
  · refine zw_icmp_eq (pc := 2911) (tgt := 2916) dL_law_2911 rfl (fun _ => ?_) (fun q => absurd c25 q)
    refine zw_iload (pc := 2916) dL_law_2916 1 rfl ?_
    rcases zif H with ⟨c26, H⟩ | ⟨c26, H⟩
    · refine zw_if_ne (pc := 2918) (tgt := 2933) dL_law_2918 rfl (fun q => absurd c26 q) (fun _ => ?_)
      refine zw_aload_n (pc := 2921) dL_law_2921 rfl 5 rfl ?_
      refine zw_iconst (pc := 2922) (v := (0 : Int32)) dL_law_2922 (by decide) ?_
      obtain ⟨x27, e28, H⟩ := zbind H
      refine zy_lald (pc := 2923) dL_law_2923 e28 ?_
      refine zw_iload (pc := 2924) dL_law_2924 0 rfl ?_
      refine zw_i2l (pc := 2926) dL_law_2926 ?_
      refine zw_lcmp (pc := 2927) dL_law_2927 ?_
      rcases zif H with ⟨c29, H⟩ | ⟨c29, H⟩
      · refine zw_if_eq (pc := 2928) (tgt := 2933) dL_law_2928 rfl (fun _ => ?_) (fun q => absurd (lgc_eq.mpr c29) q)
        refine zw_goto (pc := 2933) (tgt := 3377) dL_law_2933 rfl ?_
        refine zw_iinc (pc := 3377) (v := (a5 + (6 : Int32))) (lv' := [(5, vI (a5 + (6 : Int32))), (7, vI x18), (6, vI x7), (0, vR a0), (1, vR a1), (2, vR a2), (3, vR a3), (4, vR a4)]) dL_law_3377 7 rfl rfl (by decide) rfl ?_
        refine zw_goto (pc := 3380) (tgt := 28) dL_law_3380 rfl ?_
        refine zW_pick (lv' := [(0, vR a0), (1, vR a1), (2, vR a2), (3, vR a3), (4, vR a4), (5, vI (a5 + (6 : Int32)))]) [3, 4, 5, 6, 7, 0] rfl ?_
        exact hk28 _ _ _ _ _ _ _ H
      · refine zw_if_eq (pc := 2928) (tgt := 2933) dL_law_2928 rfl (fun q => absurd q (fun q => c29 (lgc_eq.mp q))) (fun _ => ?_)
        refine zw_iconst (pc := 2931) (v := (0 : Int32)) dL_law_2931 (by decide) ?_
        obtain ⟨rfl, rfl⟩ := Prod.mk.inj (Option.some.inj H)
        exact zw_zret (pc := 2932) dL_law_2932 rfl rfl rfl rfl
    · refine zw_if_ne (pc := 2918) (tgt := 2933) dL_law_2918 rfl (fun _ => ?_) (fun q => absurd q c26)
      refine zw_goto (pc := 2933) (tgt := 3377) dL_law_2933 rfl ?_
      refine zw_iinc (pc := 3377) (v := (a5 + (6 : Int32))) (lv' := [(5, vI (a5 + (6 : Int32))), (7, vI x18), (6, vI x7), (0, vR a0), (1, vR a1), (2, vR a2), (3, vR a3), (4, vR a4)]) dL_law_3377 7 rfl rfl (by decide) rfl ?_
      refine zw_goto (pc := 3380) (tgt := 28) dL_law_3380 rfl ?_
      refine zW_pick (lv' := [(0, vR a0), (1, vR a1), (2, vR a2), (3, vR a3), (4, vR a4), (5, vI (a5 + (6 : Int32)))]) [3, 4, 5, 6, 7, 0] rfl ?_
      exact hk28 _ _ _ _ _ _ _ H
  · refine zw_icmp_eq (pc := 2911) (tgt := 2916) dL_law_2911 rfl (fun q => absurd q c25) (fun _ => ?_)
    refine zw_iconst (pc := 2914) (v := (0 : Int32)) dL_law_2914 (by decide) ?_
    obtain ⟨rfl, rfl⟩ := Prod.mk.inj (Option.some.inj H)
    exact zw_zret (pc := 2915) dL_law_2915 rfl rfl rfl rfl
def B_L_law_2936 (k28 : Option Nat → Option Nat → Option Nat → Option Nat → Option Nat → Int32 → zH → Option ((Int32 ⊕ Nat) × zH)) (a0 : Option Nat) (a1 : Option Nat) (a2 : Option Nat) (a3 : Option Nat) (a4 : Option Nat) (a5 : Int32) (h : zH) : Option ((Int32 ⊕ Nat) × zH) :=
  (zaI 50 a0 (a5 + (1 : Int32)) h).bind fun x1 =>
  (zaI 50 a0 (a5 + (2 : Int32)) h).bind fun x3 =>
  zb3 (f_X0_transposeInto a1 x1 x3 a3 h) (fun x6 h7 =>
  (zaI 50 a0 (a5 + (1 : Int32)) h7).bind fun x10 =>
  (zaI 50 a0 (a5 + (2 : Int32)) h7).bind fun x12 =>
  (zrv 4 a2 h7).bind fun b14 =>
  zb2 (f_X4_transposeInto (some b14) x10 x12 h7) fun x20 h19 =>
  (zrv 4 a2 h19).bind fun b21 =>
  (f_X4_thrown (some b21) h19).bind fun x26 =>
  if x26 = x6 then
  if x6 = 0 then
  (zaJ a3 (0 : Int32) h19).bind fun x29 =>
  if x29 = x20.toInt64 then
  k28 a0 a1 a2 a3 a4 (a5 + (6 : Int32)) h19
  else
  some (.inl (0 : Int32), h19)
  else
  k28 a0 a1 a2 a3 a4 (a5 + (6 : Int32)) h19
  else
  some (.inl (0 : Int32), h19))
  (fun q8 h9 =>
  if zk h9 q8 = 22 then
  some (.inr q8, h9)
  else none)
theorem wB_L_law_2936 {G : zG} {h0 h : zH} {vo : Int32 ⊕ Nat} {vh : zH} {k28 : Option Nat → Option Nat → Option Nat → Option Nat → Option Nat → Int32 → zH → Option ((Int32 ⊕ Nat) × zH)} (hk28 : ∀ (b0 : Option Nat) (b1 : Option Nat) (b2 : Option Nat) (b3 : Option Nat) (b4 : Option Nat) (b5 : Int32) (h' : zH), k28 b0 b1 b2 b3 b4 b5 h' = some (vo, vh) → zW G M_L_law 343 h0 (zoI vo) vh 28 [(0, vR b0), (1, vR b1), (2, vR b2), (3, vR b3), (4, vR b4), (5, vI b5)] [] h') {a0 : Option Nat} {a1 : Option Nat} {a2 : Option Nat} {a3 : Option Nat} {a4 : Option Nat} {a5 : Int32} (H : B_L_law_2936 k28 a0 a1 a2 a3 a4 a5 h = some (vo, vh)) : zW G M_L_law 343 h0 (zoI vo) vh 2936 [(0, vR a0), (1, vR a1), (2, vR a2), (3, vR a3), (4, vR a4), (5, vI a5)] [] h := by
  unfold B_L_law_2936 at H
  refine zw_aload_n (pc := 2936) dL_law_2936 rfl 1 rfl ?_
  refine zw_aload_n (pc := 2937) dL_law_2937 rfl 0 rfl ?_
  refine zw_iload (pc := 2938) dL_law_2938 5 rfl ?_
  refine zw_iconst (pc := 2940) (v := (1 : Int32)) dL_law_2940 (by decide) ?_
  refine zw_iadd (pc := 2941) dL_law_2941 ?_
  obtain ⟨x1, e2, H⟩ := zbind H
  refine zy_iald (pc := 2942) dL_law_2942 e2 ?_
  refine zw_aload_n (pc := 2943) dL_law_2943 rfl 0 rfl ?_
  refine zw_iload (pc := 2944) dL_law_2944 5 rfl ?_
  refine zw_iconst (pc := 2946) (v := (2 : Int32)) dL_law_2946 (by decide) ?_
  refine zw_iadd (pc := 2947) dL_law_2947 ?_
  obtain ⟨x3, e4, H⟩ := zbind H
  refine zy_iald (pc := 2948) dL_law_2948 e4 ?_
  refine zw_aload_n (pc := 2949) dL_law_2949 rfl 3 rfl ?_
  rcases zbind3 H with ⟨x6, h7, e5, H⟩ | ⟨q8, h9, e5, H⟩
  · refine zw_invS (pc := 2950) (M' := M_X0_transposeInto) (A := [vR a1, vI x1, vI x3, vR a3]) [] dL_law_2950 (Or.inl q2004) mf_X0_transposeInto (w_X0_transposeInto e5) (Nat.le_of_ble_eq_true rfl) rfl rfl (Nat.le_of_ble_eq_true rfl) (zkv ?_) zkn9
    refine zw_istore (pc := 2953) (lv' := [(6, vI x6), (0, vR a0), (1, vR a1), (2, vR a2), (3, vR a3), (4, vR a4), (5, vI a5)]) dL_law_2953 (by decide) rfl ?_
    refine zw_aload_n (pc := 2955) dL_law_2955 rfl 3 rfl ?_
    refine zw_aload_n (pc := 2956) dL_law_2956 rfl 1 rfl ?_
    refine zw_iload (pc := 2957) dL_law_2957 6 rfl ?_
    refine zw_iconst (pc := 2959) (v := (1 : Int32)) dL_law_2959 (by decide) ?_
    refine zw_iadd (pc := 2960) dL_law_2960 ?_
    obtain ⟨x10, e11, H⟩ := zbind H
    refine zy_iald (pc := 2961) dL_law_2961 e11 ?_
    refine zw_aload_n (pc := 2962) dL_law_2962 rfl 1 rfl ?_
    refine zw_iload (pc := 2963) dL_law_2963 6 rfl ?_
    refine zw_iconst (pc := 2965) (v := (2 : Int32)) dL_law_2965 (by decide) ?_
    refine zw_iadd (pc := 2966) dL_law_2966 ?_
    obtain ⟨x12, e13, H⟩ := zbind H
    refine zy_iald (pc := 2967) dL_law_2967 e13 ?_
    obtain ⟨b14, e16, H⟩ := zbind H
    obtain ⟨e15, e17⟩ := zrv_ok e16
    obtain ⟨x20, h19, e18, H⟩ := zbind2 H
    refine zw_invV (pc := 2968) (M' := M_X4_transposeInto) (A := [vI x10, vI x12]) [] dL_law_2968 (Or.inl q2518) mf_X4_transposeInto q2520 (zkq e17 rfl) (w_X4_transposeInto e18) (Nat.le_of_ble_eq_true rfl) rfl (by rw [← e15]; rfl) (Nat.le_of_ble_eq_true rfl) (zkv ?_) zkn9
    refine zw_istore (pc := 2971) (lv' := [(7, vI x20), (6, vI x6), (0, vR a0), (1, vR a1), (2, vR a2), (3, vR a3), (4, vR a4), (5, vI a5)]) dL_law_2971 (by decide) rfl ?_
    refine zw_aload_n (pc := 2973) dL_law_2973 rfl 4 rfl ?_
    obtain ⟨b21, e23, H⟩ := zbind H
    obtain ⟨e22, e24⟩ := zrv_ok e23
    obtain ⟨x26, e25, H⟩ := zbind H
    refine zw_invV (pc := 2974) (M' := M_X4_thrown) (A := []) [] dL_law_2974 (Or.inl q2302) mf_X4_thrown q2304 (zkq e24 rfl) (w_X4_thrown e25) (Nat.le_of_ble_eq_true rfl) rfl (by rw [← e22]; rfl) (Nat.le_of_ble_eq_true rfl) (zkv ?_) zkn9
    refine zw_iload (pc := 2977) dL_law_2977 1 rfl ?_
    rcases zif H with ⟨c27, H⟩ | ⟨c27, H⟩
    · refine zw_icmp_eq (pc := 2979) (tgt := 2984) dL_law_2979 rfl (fun _ => ?_) (fun q => absurd c27 q)
      refine zw_iload (pc := 2984) dL_law_2984 1 rfl ?_
      rcases zif H with ⟨c28, H⟩ | ⟨c28, H⟩
      · refine zw_if_ne (pc := 2986) (tgt := 3001) dL_law_2986 rfl (fun q => absurd c28 q) (fun _ => ?_)
        refine zw_aload_n (pc := 2989) dL_law_2989 rfl 5 rfl ?_
        refine zw_iconst (pc := 2990) (v := (0 : Int32)) dL_law_2990 (by decide) ?_
        obtain ⟨x29, e30, H⟩ := zbind H
        refine zy_lald (pc := 2991) dL_law_2991 e30 ?_
        refine zw_iload (pc := 2992) dL_law_2992 0 rfl ?_
        refine zw_i2l (pc := 2994) dL_law_2994 ?_
        refine zw_lcmp (pc := 2995) dL_law_2995 ?_
        rcases zif H with ⟨c31, H⟩ | ⟨c31, H⟩
        · refine zw_if_eq (pc := 2996) (tgt := 3001) dL_law_2996 rfl (fun _ => ?_) (fun q => absurd (lgc_eq.mpr c31) q)
          refine zw_goto (pc := 3001) (tgt := 3377) dL_law_3001 rfl ?_
          refine zw_iinc (pc := 3377) (v := (a5 + (6 : Int32))) (lv' := [(5, vI (a5 + (6 : Int32))), (7, vI x20), (6, vI x6), (0, vR a0), (1, vR a1), (2, vR a2), (3, vR a3), (4, vR a4)]) dL_law_3377 7 rfl rfl (by decide) rfl ?_
          refine zw_goto (pc := 3380) (tgt := 28) dL_law_3380 rfl ?_
          refine zW_pick (lv' := [(0, vR a0), (1, vR a1), (2, vR a2), (3, vR a3), (4, vR a4), (5, vI (a5 + (6 : Int32)))]) [3, 4, 5, 6, 7, 0] rfl ?_
          exact hk28 _ _ _ _ _ _ _ H
        · refine zw_if_eq (pc := 2996) (tgt := 3001) dL_law_2996 rfl (fun q => absurd q (fun q => c31 (lgc_eq.mp q))) (fun _ => ?_)
          refine zw_iconst (pc := 2999) (v := (0 : Int32)) dL_law_2999 (by decide) ?_
          obtain ⟨rfl, rfl⟩ := Prod.mk.inj (Option.some.inj H)
          exact zw_zret (pc := 3000) dL_law_3000 rfl rfl rfl rfl
      · refine zw_if_ne (pc := 2986) (tgt := 3001) dL_law_2986 rfl (fun _ => ?_) (fun q => absurd q c28)
        refine zw_goto (pc := 3001) (tgt := 3377) dL_law_3001 rfl ?_
        refine zw_iinc (pc := 3377) (v := (a5 + (6 : Int32))) (lv' := [(5, vI (a5 + (6 : Int32))), (7, vI x20), (6, vI x6), (0, vR a0), (1, vR a1), (2, vR a2), (3, vR a3), (4, vR a4)]) dL_law_3377 7 rfl rfl (by decide) rfl ?_
        refine zw_goto (pc := 3380) (tgt := 28) dL_law_3380 rfl ?_
        refine zW_pick (lv' := [(0, vR a0), (1, vR a1), (2, vR a2), (3, vR a3), (4, vR a4), (5, vI (a5 + (6 : Int32)))]) [3, 4, 5, 6, 7, 0] rfl ?_
        exact hk28 _ _ _ _ _ _ _ H
    · refine zw_icmp_eq (pc := 2979) (tgt := 2984) dL_law_2979 rfl (fun q => absurd q c27) (fun _ => ?_)
      refine zw_iconst (pc := 2982) (v := (0 : Int32)) dL_law_2982 (by decide) ?_
      obtain ⟨rfl, rfl⟩ := Prod.mk.inj (Option.some.inj H)
      exact zw_zret (pc := 2983) dL_law_2983 rfl rfl rfl rfl
  · refine zw_invS (pc := 2950) (M' := M_X0_transposeInto) (A := [vR a1, vI x1, vI x3, vR a3]) [] dL_law_2950 (Or.inl q2004) mf_X0_transposeInto (w_X0_transposeInto e5) (Nat.le_of_ble_eq_true rfl) rfl rfl (Nat.le_of_ble_eq_true rfl) zkv0 (zkx ?_)
    rcases zif H with ⟨c32, H⟩ | ⟨c32, H⟩
    · have c32 := c32
      obtain ⟨rfl, rfl⟩ := Prod.mk.inj (Option.some.inj H)
      exact zx_out (zkq c32 rfl) (fun _ hz => nomatch hz) rfl rfl
    cases H
def B_L_law_3004 (k28 : Option Nat → Option Nat → Option Nat → Option Nat → Option Nat → Int32 → zH → Option ((Int32 ⊕ Nat) × zH)) (a0 : Option Nat) (a1 : Option Nat) (a2 : Option Nat) (a3 : Option Nat) (a4 : Option Nat) (a5 : Int32) (h : zH) : Option ((Int32 ⊕ Nat) × zH) :=
  (zaI 50 a0 (a5 + (1 : Int32)) h).bind fun x1 =>
  (zaI 50 a0 (a5 + (2 : Int32)) h).bind fun x3 =>
  (zaI 50 a0 (a5 + (3 : Int32)) h).bind fun x5 =>
  zb2 (f_X0_addInto a1 x1 x3 x5 a3 h) fun x9 h8 =>
  (zaI 50 a0 (a5 + (1 : Int32)) h8).bind fun x10 =>
  (zaI 50 a0 (a5 + (2 : Int32)) h8).bind fun x12 =>
  (zaI 50 a0 (a5 + (3 : Int32)) h8).bind fun x14 =>
  (zrv 4 a2 h8).bind fun b16 =>
  zb2 (f_X4_addInto (some b16) x10 x12 x14 h8) fun x22 h21 =>
  (zrv 4 a2 h21).bind fun b23 =>
  (f_X4_thrown (some b23) h21).bind fun x28 =>
  if x28 = x9 then
  if x9 = 0 then
  (zaJ a3 (0 : Int32) h21).bind fun x31 =>
  if x31 = x22.toInt64 then
  k28 a0 a1 a2 a3 a4 (a5 + (6 : Int32)) h21
  else
  some (.inl (0 : Int32), h21)
  else
  k28 a0 a1 a2 a3 a4 (a5 + (6 : Int32)) h21
  else
  some (.inl (0 : Int32), h21)
theorem wB_L_law_3004 {G : zG} {h0 h : zH} {vo : Int32 ⊕ Nat} {vh : zH} {k28 : Option Nat → Option Nat → Option Nat → Option Nat → Option Nat → Int32 → zH → Option ((Int32 ⊕ Nat) × zH)} (hk28 : ∀ (b0 : Option Nat) (b1 : Option Nat) (b2 : Option Nat) (b3 : Option Nat) (b4 : Option Nat) (b5 : Int32) (h' : zH), k28 b0 b1 b2 b3 b4 b5 h' = some (vo, vh) → zW G M_L_law 343 h0 (zoI vo) vh 28 [(0, vR b0), (1, vR b1), (2, vR b2), (3, vR b3), (4, vR b4), (5, vI b5)] [] h') {a0 : Option Nat} {a1 : Option Nat} {a2 : Option Nat} {a3 : Option Nat} {a4 : Option Nat} {a5 : Int32} (H : B_L_law_3004 k28 a0 a1 a2 a3 a4 a5 h = some (vo, vh)) : zW G M_L_law 343 h0 (zoI vo) vh 3004 [(0, vR a0), (1, vR a1), (2, vR a2), (3, vR a3), (4, vR a4), (5, vI a5)] [] h := by
  unfold B_L_law_3004 at H
  refine zw_aload_n (pc := 3004) dL_law_3004 rfl 1 rfl ?_
  refine zw_aload_n (pc := 3005) dL_law_3005 rfl 0 rfl ?_
  refine zw_iload (pc := 3006) dL_law_3006 5 rfl ?_
  refine zw_iconst (pc := 3008) (v := (1 : Int32)) dL_law_3008 (by decide) ?_
  refine zw_iadd (pc := 3009) dL_law_3009 ?_
  obtain ⟨x1, e2, H⟩ := zbind H
  refine zy_iald (pc := 3010) dL_law_3010 e2 ?_
  refine zw_aload_n (pc := 3011) dL_law_3011 rfl 0 rfl ?_
  refine zw_iload (pc := 3012) dL_law_3012 5 rfl ?_
  refine zw_iconst (pc := 3014) (v := (2 : Int32)) dL_law_3014 (by decide) ?_
  refine zw_iadd (pc := 3015) dL_law_3015 ?_
  obtain ⟨x3, e4, H⟩ := zbind H
  refine zy_iald (pc := 3016) dL_law_3016 e4 ?_
  refine zw_aload_n (pc := 3017) dL_law_3017 rfl 0 rfl ?_
  refine zw_iload (pc := 3018) dL_law_3018 5 rfl ?_
  refine zw_iconst (pc := 3020) (v := (3 : Int32)) dL_law_3020 (by decide) ?_
  refine zw_iadd (pc := 3021) dL_law_3021 ?_
  obtain ⟨x5, e6, H⟩ := zbind H
  refine zy_iald (pc := 3022) dL_law_3022 e6 ?_
  refine zw_aload_n (pc := 3023) dL_law_3023 rfl 3 rfl ?_
  obtain ⟨x9, h8, e7, H⟩ := zbind2 H
  refine zw_invS (pc := 3024) (M' := M_X0_addInto) (A := [vR a1, vI x1, vI x3, vI x5, vR a3]) [] dL_law_3024 (Or.inl q2017) mf_X0_addInto (w_X0_addInto e7) (Nat.le_of_ble_eq_true rfl) rfl rfl (Nat.le_of_ble_eq_true rfl) (zkv ?_) zkn9
  refine zw_istore (pc := 3027) (lv' := [(6, vI x9), (0, vR a0), (1, vR a1), (2, vR a2), (3, vR a3), (4, vR a4), (5, vI a5)]) dL_law_3027 (by decide) rfl ?_
  refine zw_aload_n (pc := 3029) dL_law_3029 rfl 3 rfl ?_
  refine zw_aload_n (pc := 3030) dL_law_3030 rfl 1 rfl ?_
  refine zw_iload (pc := 3031) dL_law_3031 6 rfl ?_
  refine zw_iconst (pc := 3033) (v := (1 : Int32)) dL_law_3033 (by decide) ?_
  refine zw_iadd (pc := 3034) dL_law_3034 ?_
  obtain ⟨x10, e11, H⟩ := zbind H
  refine zy_iald (pc := 3035) dL_law_3035 e11 ?_
  refine zw_aload_n (pc := 3036) dL_law_3036 rfl 1 rfl ?_
  refine zw_iload (pc := 3037) dL_law_3037 6 rfl ?_
  refine zw_iconst (pc := 3039) (v := (2 : Int32)) dL_law_3039 (by decide) ?_
  refine zw_iadd (pc := 3040) dL_law_3040 ?_
  obtain ⟨x12, e13, H⟩ := zbind H
  refine zy_iald (pc := 3041) dL_law_3041 e13 ?_
  refine zw_aload_n (pc := 3042) dL_law_3042 rfl 1 rfl ?_
  refine zw_iload (pc := 3043) dL_law_3043 6 rfl ?_
  refine zw_iconst (pc := 3045) (v := (3 : Int32)) dL_law_3045 (by decide) ?_
  refine zw_iadd (pc := 3046) dL_law_3046 ?_
  obtain ⟨x14, e15, H⟩ := zbind H
  refine zy_iald (pc := 3047) dL_law_3047 e15 ?_
  obtain ⟨b16, e18, H⟩ := zbind H
  obtain ⟨e17, e19⟩ := zrv_ok e18
  obtain ⟨x22, h21, e20, H⟩ := zbind2 H
  refine zw_invV (pc := 3048) (M' := M_X4_addInto) (A := [vI x10, vI x12, vI x14]) [] dL_law_3048 (Or.inl q2530) mf_X4_addInto q2532 (zkq e19 rfl) (w_X4_addInto e20) (Nat.le_of_ble_eq_true rfl) rfl (by rw [← e17]; rfl) (Nat.le_of_ble_eq_true rfl) (zkv ?_) zkn9
  refine zw_istore (pc := 3051) (lv' := [(7, vI x22), (6, vI x9), (0, vR a0), (1, vR a1), (2, vR a2), (3, vR a3), (4, vR a4), (5, vI a5)]) dL_law_3051 (by decide) rfl ?_
  refine zw_aload_n (pc := 3053) dL_law_3053 rfl 4 rfl ?_
  obtain ⟨b23, e25, H⟩ := zbind H
  obtain ⟨e24, e26⟩ := zrv_ok e25
  obtain ⟨x28, e27, H⟩ := zbind H
  refine zw_invV (pc := 3054) (M' := M_X4_thrown) (A := []) [] dL_law_3054 (Or.inl q2302) mf_X4_thrown q2304 (zkq e26 rfl) (w_X4_thrown e27) (Nat.le_of_ble_eq_true rfl) rfl (by rw [← e24]; rfl) (Nat.le_of_ble_eq_true rfl) (zkv ?_) zkn9
  refine zw_iload (pc := 3057) dL_law_3057 1 rfl ?_
  rcases zif H with ⟨c29, H⟩ | ⟨c29, H⟩
  · refine zw_icmp_eq (pc := 3059) (tgt := 3064) dL_law_3059 rfl (fun _ => ?_) (fun q => absurd c29 q)
    refine zw_iload (pc := 3064) dL_law_3064 1 rfl ?_
    rcases zif H with ⟨c30, H⟩ | ⟨c30, H⟩
    · refine zw_if_ne (pc := 3066) (tgt := 3081) dL_law_3066 rfl (fun q => absurd c30 q) (fun _ => ?_)
      refine zw_aload_n (pc := 3069) dL_law_3069 rfl 5 rfl ?_
      refine zw_iconst (pc := 3070) (v := (0 : Int32)) dL_law_3070 (by decide) ?_
      obtain ⟨x31, e32, H⟩ := zbind H
      refine zy_lald (pc := 3071) dL_law_3071 e32 ?_
      refine zw_iload (pc := 3072) dL_law_3072 0 rfl ?_
      refine zw_i2l (pc := 3074) dL_law_3074 ?_
      refine zw_lcmp (pc := 3075) dL_law_3075 ?_
      rcases zif H with ⟨c33, H⟩ | ⟨c33, H⟩
      · refine zw_if_eq (pc := 3076) (tgt := 3081) dL_law_3076 rfl (fun _ => ?_) (fun q => absurd (lgc_eq.mpr c33) q)
        refine zw_goto (pc := 3081) (tgt := 3377) dL_law_3081 rfl ?_
        refine zw_iinc (pc := 3377) (v := (a5 + (6 : Int32))) (lv' := [(5, vI (a5 + (6 : Int32))), (7, vI x22), (6, vI x9), (0, vR a0), (1, vR a1), (2, vR a2), (3, vR a3), (4, vR a4)]) dL_law_3377 7 rfl rfl (by decide) rfl ?_
        refine zw_goto (pc := 3380) (tgt := 28) dL_law_3380 rfl ?_
        refine zW_pick (lv' := [(0, vR a0), (1, vR a1), (2, vR a2), (3, vR a3), (4, vR a4), (5, vI (a5 + (6 : Int32)))]) [3, 4, 5, 6, 7, 0] rfl ?_
        exact hk28 _ _ _ _ _ _ _ H
      · refine zw_if_eq (pc := 3076) (tgt := 3081) dL_law_3076 rfl (fun q => absurd q (fun q => c33 (lgc_eq.mp q))) (fun _ => ?_)
        refine zw_iconst (pc := 3079) (v := (0 : Int32)) dL_law_3079 (by decide) ?_
        obtain ⟨rfl, rfl⟩ := Prod.mk.inj (Option.some.inj H)
        exact zw_zret (pc := 3080) dL_law_3080 rfl rfl rfl rfl
    · refine zw_if_ne (pc := 3066) (tgt := 3081) dL_law_3066 rfl (fun _ => ?_) (fun q => absurd q c30)
      refine zw_goto (pc := 3081) (tgt := 3377) dL_law_3081 rfl ?_
      refine zw_iinc (pc := 3377) (v := (a5 + (6 : Int32))) (lv' := [(5, vI (a5 + (6 : Int32))), (7, vI x22), (6, vI x9), (0, vR a0), (1, vR a1), (2, vR a2), (3, vR a3), (4, vR a4)]) dL_law_3377 7 rfl rfl (by decide) rfl ?_
      refine zw_goto (pc := 3380) (tgt := 28) dL_law_3380 rfl ?_
      refine zW_pick (lv' := [(0, vR a0), (1, vR a1), (2, vR a2), (3, vR a3), (4, vR a4), (5, vI (a5 + (6 : Int32)))]) [3, 4, 5, 6, 7, 0] rfl ?_
      exact hk28 _ _ _ _ _ _ _ H
  · refine zw_icmp_eq (pc := 3059) (tgt := 3064) dL_law_3059 rfl (fun q => absurd q c29) (fun _ => ?_)
    refine zw_iconst (pc := 3062) (v := (0 : Int32)) dL_law_3062 (by decide) ?_
    obtain ⟨rfl, rfl⟩ := Prod.mk.inj (Option.some.inj H)
    exact zw_zret (pc := 3063) dL_law_3063 rfl rfl rfl rfl
def B_L_law_3084 (k28 : Option Nat → Option Nat → Option Nat → Option Nat → Option Nat → Int32 → zH → Option ((Int32 ⊕ Nat) × zH)) (a0 : Option Nat) (a1 : Option Nat) (a2 : Option Nat) (a3 : Option Nat) (a4 : Option Nat) (a5 : Int32) (h : zH) : Option ((Int32 ⊕ Nat) × zH) :=
  (zaI 50 a0 (a5 + (1 : Int32)) h).bind fun x1 =>
  (zaI 50 a0 (a5 + (2 : Int32)) h).bind fun x3 =>
  (zaI 50 a0 (a5 + (3 : Int32)) h).bind fun x5 =>
  zb2 (f_X0_multiplyInto a1 x1 x3 x5 a3 h) fun x9 h8 =>
  (zaI 50 a0 (a5 + (1 : Int32)) h8).bind fun x10 =>
  (zaI 50 a0 (a5 + (2 : Int32)) h8).bind fun x12 =>
  (zaI 50 a0 (a5 + (3 : Int32)) h8).bind fun x14 =>
  (zrv 4 a2 h8).bind fun b16 =>
  zb2 (f_X4_multiplyInto (some b16) x10 x12 x14 h8) fun x22 h21 =>
  (zrv 4 a2 h21).bind fun b23 =>
  (f_X4_thrown (some b23) h21).bind fun x28 =>
  if x28 = x9 then
  if x9 = 0 then
  (zaJ a3 (0 : Int32) h21).bind fun x31 =>
  if x31 = x22.toInt64 then
  k28 a0 a1 a2 a3 a4 (a5 + (6 : Int32)) h21
  else
  some (.inl (0 : Int32), h21)
  else
  k28 a0 a1 a2 a3 a4 (a5 + (6 : Int32)) h21
  else
  some (.inl (0 : Int32), h21)
theorem wB_L_law_3084 {G : zG} {h0 h : zH} {vo : Int32 ⊕ Nat} {vh : zH} {k28 : Option Nat → Option Nat → Option Nat → Option Nat → Option Nat → Int32 → zH → Option ((Int32 ⊕ Nat) × zH)} (hk28 : ∀ (b0 : Option Nat) (b1 : Option Nat) (b2 : Option Nat) (b3 : Option Nat) (b4 : Option Nat) (b5 : Int32) (h' : zH), k28 b0 b1 b2 b3 b4 b5 h' = some (vo, vh) → zW G M_L_law 343 h0 (zoI vo) vh 28 [(0, vR b0), (1, vR b1), (2, vR b2), (3, vR b3), (4, vR b4), (5, vI b5)] [] h') {a0 : Option Nat} {a1 : Option Nat} {a2 : Option Nat} {a3 : Option Nat} {a4 : Option Nat} {a5 : Int32} (H : B_L_law_3084 k28 a0 a1 a2 a3 a4 a5 h = some (vo, vh)) : zW G M_L_law 343 h0 (zoI vo) vh 3084 [(0, vR a0), (1, vR a1), (2, vR a2), (3, vR a3), (4, vR a4), (5, vI a5)] [] h := by
  unfold B_L_law_3084 at H
  refine zw_aload_n (pc := 3084) dL_law_3084 rfl 1 rfl ?_
  refine zw_aload_n (pc := 3085) dL_law_3085 rfl 0 rfl ?_
  refine zw_iload (pc := 3086) dL_law_3086 5 rfl ?_
  refine zw_iconst (pc := 3088) (v := (1 : Int32)) dL_law_3088 (by decide) ?_
  refine zw_iadd (pc := 3089) dL_law_3089 ?_
  obtain ⟨x1, e2, H⟩ := zbind H
  refine zy_iald (pc := 3090) dL_law_3090 e2 ?_
  refine zw_aload_n (pc := 3091) dL_law_3091 rfl 0 rfl ?_
  refine zw_iload (pc := 3092) dL_law_3092 5 rfl ?_
  refine zw_iconst (pc := 3094) (v := (2 : Int32)) dL_law_3094 (by decide) ?_
  refine zw_iadd (pc := 3095) dL_law_3095 ?_
  obtain ⟨x3, e4, H⟩ := zbind H
  refine zy_iald (pc := 3096) dL_law_3096 e4 ?_
  refine zw_aload_n (pc := 3097) dL_law_3097 rfl 0 rfl ?_
  refine zw_iload (pc := 3098) dL_law_3098 5 rfl ?_
  refine zw_iconst (pc := 3100) (v := (3 : Int32)) dL_law_3100 (by decide) ?_
  refine zw_iadd (pc := 3101) dL_law_3101 ?_
  obtain ⟨x5, e6, H⟩ := zbind H
  refine zy_iald (pc := 3102) dL_law_3102 e6 ?_
  refine zw_aload_n (pc := 3103) dL_law_3103 rfl 3 rfl ?_
  obtain ⟨x9, h8, e7, H⟩ := zbind2 H
  refine zw_invS (pc := 3104) (M' := M_X0_multiplyInto) (A := [vR a1, vI x1, vI x3, vI x5, vR a3]) [] dL_law_3104 (Or.inl q2030) mf_X0_multiplyInto (w_X0_multiplyInto e7) (Nat.le_of_ble_eq_true rfl) rfl rfl (Nat.le_of_ble_eq_true rfl) (zkv ?_) zkn9
  refine zw_istore (pc := 3107) (lv' := [(6, vI x9), (0, vR a0), (1, vR a1), (2, vR a2), (3, vR a3), (4, vR a4), (5, vI a5)]) dL_law_3107 (by decide) rfl ?_
  refine zw_aload_n (pc := 3109) dL_law_3109 rfl 3 rfl ?_
  refine zw_aload_n (pc := 3110) dL_law_3110 rfl 1 rfl ?_
  refine zw_iload (pc := 3111) dL_law_3111 6 rfl ?_
  refine zw_iconst (pc := 3113) (v := (1 : Int32)) dL_law_3113 (by decide) ?_
  refine zw_iadd (pc := 3114) dL_law_3114 ?_
  obtain ⟨x10, e11, H⟩ := zbind H
  refine zy_iald (pc := 3115) dL_law_3115 e11 ?_
  refine zw_aload_n (pc := 3116) dL_law_3116 rfl 1 rfl ?_
  refine zw_iload (pc := 3117) dL_law_3117 6 rfl ?_
  refine zw_iconst (pc := 3119) (v := (2 : Int32)) dL_law_3119 (by decide) ?_
  refine zw_iadd (pc := 3120) dL_law_3120 ?_
  obtain ⟨x12, e13, H⟩ := zbind H
  refine zy_iald (pc := 3121) dL_law_3121 e13 ?_
  refine zw_aload_n (pc := 3122) dL_law_3122 rfl 1 rfl ?_
  refine zw_iload (pc := 3123) dL_law_3123 6 rfl ?_
  refine zw_iconst (pc := 3125) (v := (3 : Int32)) dL_law_3125 (by decide) ?_
  refine zw_iadd (pc := 3126) dL_law_3126 ?_
  obtain ⟨x14, e15, H⟩ := zbind H
  refine zy_iald (pc := 3127) dL_law_3127 e15 ?_
  obtain ⟨b16, e18, H⟩ := zbind H
  obtain ⟨e17, e19⟩ := zrv_ok e18
  obtain ⟨x22, h21, e20, H⟩ := zbind2 H
  refine zw_invV (pc := 3128) (M' := M_X4_multiplyInto) (A := [vI x10, vI x12, vI x14]) [] dL_law_3128 (Or.inl q2546) mf_X4_multiplyInto q2548 (zkq e19 rfl) (w_X4_multiplyInto e20) (Nat.le_of_ble_eq_true rfl) rfl (by rw [← e17]; rfl) (Nat.le_of_ble_eq_true rfl) (zkv ?_) zkn9
  refine zw_istore (pc := 3131) (lv' := [(7, vI x22), (6, vI x9), (0, vR a0), (1, vR a1), (2, vR a2), (3, vR a3), (4, vR a4), (5, vI a5)]) dL_law_3131 (by decide) rfl ?_
  refine zw_aload_n (pc := 3133) dL_law_3133 rfl 4 rfl ?_
  obtain ⟨b23, e25, H⟩ := zbind H
  obtain ⟨e24, e26⟩ := zrv_ok e25
  obtain ⟨x28, e27, H⟩ := zbind H
  refine zw_invV (pc := 3134) (M' := M_X4_thrown) (A := []) [] dL_law_3134 (Or.inl q2302) mf_X4_thrown q2304 (zkq e26 rfl) (w_X4_thrown e27) (Nat.le_of_ble_eq_true rfl) rfl (by rw [← e24]; rfl) (Nat.le_of_ble_eq_true rfl) (zkv ?_) zkn9
  refine zw_iload (pc := 3137) dL_law_3137 1 rfl ?_
  rcases zif H with ⟨c29, H⟩ | ⟨c29, H⟩
  · refine zw_icmp_eq (pc := 3139) (tgt := 3144) dL_law_3139 rfl (fun _ => ?_) (fun q => absurd c29 q)
    refine zw_iload (pc := 3144) dL_law_3144 1 rfl ?_
    rcases zif H with ⟨c30, H⟩ | ⟨c30, H⟩
    · refine zw_if_ne (pc := 3146) (tgt := 3161) dL_law_3146 rfl (fun q => absurd c30 q) (fun _ => ?_)
      refine zw_aload_n (pc := 3149) dL_law_3149 rfl 5 rfl ?_
      refine zw_iconst (pc := 3150) (v := (0 : Int32)) dL_law_3150 (by decide) ?_
      obtain ⟨x31, e32, H⟩ := zbind H
      refine zy_lald (pc := 3151) dL_law_3151 e32 ?_
      refine zw_iload (pc := 3152) dL_law_3152 0 rfl ?_
      refine zw_i2l (pc := 3154) dL_law_3154 ?_
      refine zw_lcmp (pc := 3155) dL_law_3155 ?_
      rcases zif H with ⟨c33, H⟩ | ⟨c33, H⟩
      · refine zw_if_eq (pc := 3156) (tgt := 3161) dL_law_3156 rfl (fun _ => ?_) (fun q => absurd (lgc_eq.mpr c33) q)
        refine zw_goto (pc := 3161) (tgt := 3377) dL_law_3161 rfl ?_
        refine zw_iinc (pc := 3377) (v := (a5 + (6 : Int32))) (lv' := [(5, vI (a5 + (6 : Int32))), (7, vI x22), (6, vI x9), (0, vR a0), (1, vR a1), (2, vR a2), (3, vR a3), (4, vR a4)]) dL_law_3377 7 rfl rfl (by decide) rfl ?_
        refine zw_goto (pc := 3380) (tgt := 28) dL_law_3380 rfl ?_
        refine zW_pick (lv' := [(0, vR a0), (1, vR a1), (2, vR a2), (3, vR a3), (4, vR a4), (5, vI (a5 + (6 : Int32)))]) [3, 4, 5, 6, 7, 0] rfl ?_
        exact hk28 _ _ _ _ _ _ _ H
      · refine zw_if_eq (pc := 3156) (tgt := 3161) dL_law_3156 rfl (fun q => absurd q (fun q => c33 (lgc_eq.mp q))) (fun _ => ?_)
        refine zw_iconst (pc := 3159) (v := (0 : Int32)) dL_law_3159 (by decide) ?_
        obtain ⟨rfl, rfl⟩ := Prod.mk.inj (Option.some.inj H)
        exact zw_zret (pc := 3160) dL_law_3160 rfl rfl rfl rfl
    · refine zw_if_ne (pc := 3146) (tgt := 3161) dL_law_3146 rfl (fun _ => ?_) (fun q => absurd q c30)
      refine zw_goto (pc := 3161) (tgt := 3377) dL_law_3161 rfl ?_
      refine zw_iinc (pc := 3377) (v := (a5 + (6 : Int32))) (lv' := [(5, vI (a5 + (6 : Int32))), (7, vI x22), (6, vI x9), (0, vR a0), (1, vR a1), (2, vR a2), (3, vR a3), (4, vR a4)]) dL_law_3377 7 rfl rfl (by decide) rfl ?_
      refine zw_goto (pc := 3380) (tgt := 28) dL_law_3380 rfl ?_
      refine zW_pick (lv' := [(0, vR a0), (1, vR a1), (2, vR a2), (3, vR a3), (4, vR a4), (5, vI (a5 + (6 : Int32)))]) [3, 4, 5, 6, 7, 0] rfl ?_
      exact hk28 _ _ _ _ _ _ _ H
  · refine zw_icmp_eq (pc := 3139) (tgt := 3144) dL_law_3139 rfl (fun q => absurd q c29) (fun _ => ?_)
    refine zw_iconst (pc := 3142) (v := (0 : Int32)) dL_law_3142 (by decide) ?_
    obtain ⟨rfl, rfl⟩ := Prod.mk.inj (Option.some.inj H)
    exact zw_zret (pc := 3143) dL_law_3143 rfl rfl rfl rfl
def B_L_law_3164 (k28 : Option Nat → Option Nat → Option Nat → Option Nat → Option Nat → Int32 → zH → Option ((Int32 ⊕ Nat) × zH)) (a0 : Option Nat) (a1 : Option Nat) (a2 : Option Nat) (a3 : Option Nat) (a4 : Option Nat) (a5 : Int32) (h : zH) : Option ((Int32 ⊕ Nat) × zH) :=
  zb2 (f_X0_undo a1 a3 h) fun x3 h2 =>
  (zrv 4 a2 h2).bind fun b4 =>
  zb2 (f_X4_undo (some b4) h2) fun x10 h9 =>
  (zrv 4 a2 h9).bind fun b11 =>
  (f_X4_thrown (some b11) h9).bind fun x16 =>
  if x16 = x3 then
  if x3 = 0 then
  (zaJ a3 (0 : Int32) h9).bind fun x19 =>
  if x19 = x10.toInt64 then
  k28 a0 a1 a2 a3 a4 (a5 + (6 : Int32)) h9
  else
  some (.inl (0 : Int32), h9)
  else
  k28 a0 a1 a2 a3 a4 (a5 + (6 : Int32)) h9
  else
  some (.inl (0 : Int32), h9)
theorem wB_L_law_3164 {G : zG} {h0 h : zH} {vo : Int32 ⊕ Nat} {vh : zH} {k28 : Option Nat → Option Nat → Option Nat → Option Nat → Option Nat → Int32 → zH → Option ((Int32 ⊕ Nat) × zH)} (hk28 : ∀ (b0 : Option Nat) (b1 : Option Nat) (b2 : Option Nat) (b3 : Option Nat) (b4 : Option Nat) (b5 : Int32) (h' : zH), k28 b0 b1 b2 b3 b4 b5 h' = some (vo, vh) → zW G M_L_law 343 h0 (zoI vo) vh 28 [(0, vR b0), (1, vR b1), (2, vR b2), (3, vR b3), (4, vR b4), (5, vI b5)] [] h') {a0 : Option Nat} {a1 : Option Nat} {a2 : Option Nat} {a3 : Option Nat} {a4 : Option Nat} {a5 : Int32} (H : B_L_law_3164 k28 a0 a1 a2 a3 a4 a5 h = some (vo, vh)) : zW G M_L_law 343 h0 (zoI vo) vh 3164 [(0, vR a0), (1, vR a1), (2, vR a2), (3, vR a3), (4, vR a4), (5, vI a5)] [] h := by
  unfold B_L_law_3164 at H
  refine zw_aload_n (pc := 3164) dL_law_3164 rfl 1 rfl ?_
  refine zw_aload_n (pc := 3165) dL_law_3165 rfl 3 rfl ?_
  obtain ⟨x3, h2, e1, H⟩ := zbind2 H
  refine zw_invS (pc := 3166) (M' := M_X0_undo) (A := [vR a1, vR a3]) [] dL_law_3166 (Or.inl q2043) mf_X0_undo (w_X0_undo e1) (Nat.le_of_ble_eq_true rfl) rfl rfl (Nat.le_of_ble_eq_true rfl) (zkv ?_) zkn9
  refine zw_istore (pc := 3169) (lv' := [(6, vI x3), (0, vR a0), (1, vR a1), (2, vR a2), (3, vR a3), (4, vR a4), (5, vI a5)]) dL_law_3169 (by decide) rfl ?_
  refine zw_aload_n (pc := 3171) dL_law_3171 rfl 3 rfl ?_
  obtain ⟨b4, e6, H⟩ := zbind H
  obtain ⟨e5, e7⟩ := zrv_ok e6
  obtain ⟨x10, h9, e8, H⟩ := zbind2 H
  refine zw_invV (pc := 3172) (M' := M_X4_undo) (A := []) [] dL_law_3172 (Or.inl q2336) mf_X4_undo q2338 (zkq e7 rfl) (w_X4_undo e8) (Nat.le_of_ble_eq_true rfl) rfl (by rw [← e5]; rfl) (Nat.le_of_ble_eq_true rfl) (zkv ?_) zkn9
  refine zw_istore (pc := 3175) (lv' := [(7, vI x10), (6, vI x3), (0, vR a0), (1, vR a1), (2, vR a2), (3, vR a3), (4, vR a4), (5, vI a5)]) dL_law_3175 (by decide) rfl ?_
  refine zw_aload_n (pc := 3177) dL_law_3177 rfl 4 rfl ?_
  obtain ⟨b11, e13, H⟩ := zbind H
  obtain ⟨e12, e14⟩ := zrv_ok e13
  obtain ⟨x16, e15, H⟩ := zbind H
  refine zw_invV (pc := 3178) (M' := M_X4_thrown) (A := []) [] dL_law_3178 (Or.inl q2302) mf_X4_thrown q2304 (zkq e14 rfl) (w_X4_thrown e15) (Nat.le_of_ble_eq_true rfl) rfl (by rw [← e12]; rfl) (Nat.le_of_ble_eq_true rfl) (zkv ?_) zkn9
  refine zw_iload (pc := 3181) dL_law_3181 1 rfl ?_
  rcases zif H with ⟨c17, H⟩ | ⟨c17, H⟩
  · refine zw_icmp_eq (pc := 3183) (tgt := 3188) dL_law_3183 rfl (fun _ => ?_) (fun q => absurd c17 q)
    refine zw_iload (pc := 3188) dL_law_3188 1 rfl ?_
    rcases zif H with ⟨c18, H⟩ | ⟨c18, H⟩
    · refine zw_if_ne (pc := 3190) (tgt := 3205) dL_law_3190 rfl (fun q => absurd c18 q) (fun _ => ?_)
      refine zw_aload_n (pc := 3193) dL_law_3193 rfl 5 rfl ?_
      refine zw_iconst (pc := 3194) (v := (0 : Int32)) dL_law_3194 (by decide) ?_
      obtain ⟨x19, e20, H⟩ := zbind H
      refine zy_lald (pc := 3195) dL_law_3195 e20 ?_
      refine zw_iload (pc := 3196) dL_law_3196 0 rfl ?_
      refine zw_i2l (pc := 3198) dL_law_3198 ?_
      refine zw_lcmp (pc := 3199) dL_law_3199 ?_
      rcases zif H with ⟨c21, H⟩ | ⟨c21, H⟩
      · refine zw_if_eq (pc := 3200) (tgt := 3205) dL_law_3200 rfl (fun _ => ?_) (fun q => absurd (lgc_eq.mpr c21) q)
        refine zw_goto (pc := 3205) (tgt := 3377) dL_law_3205 rfl ?_
        refine zw_iinc (pc := 3377) (v := (a5 + (6 : Int32))) (lv' := [(5, vI (a5 + (6 : Int32))), (7, vI x10), (6, vI x3), (0, vR a0), (1, vR a1), (2, vR a2), (3, vR a3), (4, vR a4)]) dL_law_3377 7 rfl rfl (by decide) rfl ?_
        refine zw_goto (pc := 3380) (tgt := 28) dL_law_3380 rfl ?_
        refine zW_pick (lv' := [(0, vR a0), (1, vR a1), (2, vR a2), (3, vR a3), (4, vR a4), (5, vI (a5 + (6 : Int32)))]) [3, 4, 5, 6, 7, 0] rfl ?_
        exact hk28 _ _ _ _ _ _ _ H
      · refine zw_if_eq (pc := 3200) (tgt := 3205) dL_law_3200 rfl (fun q => absurd q (fun q => c21 (lgc_eq.mp q))) (fun _ => ?_)
        refine zw_iconst (pc := 3203) (v := (0 : Int32)) dL_law_3203 (by decide) ?_
        obtain ⟨rfl, rfl⟩ := Prod.mk.inj (Option.some.inj H)
        exact zw_zret (pc := 3204) dL_law_3204 rfl rfl rfl rfl
    · refine zw_if_ne (pc := 3190) (tgt := 3205) dL_law_3190 rfl (fun _ => ?_) (fun q => absurd q c18)
      refine zw_goto (pc := 3205) (tgt := 3377) dL_law_3205 rfl ?_
      refine zw_iinc (pc := 3377) (v := (a5 + (6 : Int32))) (lv' := [(5, vI (a5 + (6 : Int32))), (7, vI x10), (6, vI x3), (0, vR a0), (1, vR a1), (2, vR a2), (3, vR a3), (4, vR a4)]) dL_law_3377 7 rfl rfl (by decide) rfl ?_
      refine zw_goto (pc := 3380) (tgt := 28) dL_law_3380 rfl ?_
      refine zW_pick (lv' := [(0, vR a0), (1, vR a1), (2, vR a2), (3, vR a3), (4, vR a4), (5, vI (a5 + (6 : Int32)))]) [3, 4, 5, 6, 7, 0] rfl ?_
      exact hk28 _ _ _ _ _ _ _ H
  · refine zw_icmp_eq (pc := 3183) (tgt := 3188) dL_law_3183 rfl (fun q => absurd q c17) (fun _ => ?_)
    refine zw_iconst (pc := 3186) (v := (0 : Int32)) dL_law_3186 (by decide) ?_
    obtain ⟨rfl, rfl⟩ := Prod.mk.inj (Option.some.inj H)
    exact zw_zret (pc := 3187) dL_law_3187 rfl rfl rfl rfl
def B_L_law_3208 (k28 : Option Nat → Option Nat → Option Nat → Option Nat → Option Nat → Int32 → zH → Option ((Int32 ⊕ Nat) × zH)) (a0 : Option Nat) (a1 : Option Nat) (a2 : Option Nat) (a3 : Option Nat) (a4 : Option Nat) (a5 : Int32) (h : zH) : Option ((Int32 ⊕ Nat) × zH) :=
  (zaI 50 a0 (a5 + (1 : Int32)) h).bind fun x1 =>
  zb2 (f_X0_printMatrix a1 x1 a3 h) fun x5 h4 =>
  (zaI 50 a0 (a5 + (1 : Int32)) h4).bind fun x6 =>
  (zrv 4 a2 h4).bind fun b8 =>
  zb2 (f_X4_printMatrix (some b8) x6 h4) fun x14 h13 =>
  (zrv 4 a2 h13).bind fun b15 =>
  (f_X4_thrown (some b15) h13).bind fun x20 =>
  if x20 = x5 then
  if x5 = 0 then
  (zaJ a3 (0 : Int32) h13).bind fun x23 =>
  if x23 = x14.toInt64 then
  k28 a0 a1 a2 a3 a4 (a5 + (6 : Int32)) h13
  else
  some (.inl (0 : Int32), h13)
  else
  k28 a0 a1 a2 a3 a4 (a5 + (6 : Int32)) h13
  else
  some (.inl (0 : Int32), h13)
theorem wB_L_law_3208 {G : zG} {h0 h : zH} {vo : Int32 ⊕ Nat} {vh : zH} {k28 : Option Nat → Option Nat → Option Nat → Option Nat → Option Nat → Int32 → zH → Option ((Int32 ⊕ Nat) × zH)} (hk28 : ∀ (b0 : Option Nat) (b1 : Option Nat) (b2 : Option Nat) (b3 : Option Nat) (b4 : Option Nat) (b5 : Int32) (h' : zH), k28 b0 b1 b2 b3 b4 b5 h' = some (vo, vh) → zW G M_L_law 343 h0 (zoI vo) vh 28 [(0, vR b0), (1, vR b1), (2, vR b2), (3, vR b3), (4, vR b4), (5, vI b5)] [] h') {a0 : Option Nat} {a1 : Option Nat} {a2 : Option Nat} {a3 : Option Nat} {a4 : Option Nat} {a5 : Int32} (H : B_L_law_3208 k28 a0 a1 a2 a3 a4 a5 h = some (vo, vh)) : zW G M_L_law 343 h0 (zoI vo) vh 3208 [(0, vR a0), (1, vR a1), (2, vR a2), (3, vR a3), (4, vR a4), (5, vI a5)] [] h := by
  unfold B_L_law_3208 at H
  refine zw_aload_n (pc := 3208) dL_law_3208 rfl 1 rfl ?_
  refine zw_aload_n (pc := 3209) dL_law_3209 rfl 0 rfl ?_
  refine zw_iload (pc := 3210) dL_law_3210 5 rfl ?_
  refine zw_iconst (pc := 3212) (v := (1 : Int32)) dL_law_3212 (by decide) ?_
  refine zw_iadd (pc := 3213) dL_law_3213 ?_
  obtain ⟨x1, e2, H⟩ := zbind H
  refine zy_iald (pc := 3214) dL_law_3214 e2 ?_
  refine zw_aload_n (pc := 3215) dL_law_3215 rfl 3 rfl ?_
  obtain ⟨x5, h4, e3, H⟩ := zbind2 H
  refine zw_invS (pc := 3216) (M' := M_X0_printMatrix) (A := [vR a1, vI x1, vR a3]) [] dL_law_3216 (Or.inl q2065) mf_X0_printMatrix (w_X0_printMatrix e3) (Nat.le_of_ble_eq_true rfl) rfl rfl (Nat.le_of_ble_eq_true rfl) (zkv ?_) zkn9
  refine zw_istore (pc := 3219) (lv' := [(6, vI x5), (0, vR a0), (1, vR a1), (2, vR a2), (3, vR a3), (4, vR a4), (5, vI a5)]) dL_law_3219 (by decide) rfl ?_
  refine zw_aload_n (pc := 3221) dL_law_3221 rfl 3 rfl ?_
  refine zw_aload_n (pc := 3222) dL_law_3222 rfl 1 rfl ?_
  refine zw_iload (pc := 3223) dL_law_3223 6 rfl ?_
  refine zw_iconst (pc := 3225) (v := (1 : Int32)) dL_law_3225 (by decide) ?_
  refine zw_iadd (pc := 3226) dL_law_3226 ?_
  obtain ⟨x6, e7, H⟩ := zbind H
  refine zy_iald (pc := 3227) dL_law_3227 e7 ?_
  obtain ⟨b8, e10, H⟩ := zbind H
  obtain ⟨e9, e11⟩ := zrv_ok e10
  obtain ⟨x14, h13, e12, H⟩ := zbind2 H
  refine zw_invV (pc := 3228) (M' := M_X4_printMatrix) (A := [vI x6]) [] dL_law_3228 (Or.inl q2995) mf_X4_printMatrix q2997 (zkq e11 rfl) (w_X4_printMatrix e12) (Nat.le_of_ble_eq_true rfl) rfl (by rw [← e9]; rfl) (Nat.le_of_ble_eq_true rfl) (zkv ?_) zkn9
  refine zw_istore (pc := 3231) (lv' := [(7, vI x14), (6, vI x5), (0, vR a0), (1, vR a1), (2, vR a2), (3, vR a3), (4, vR a4), (5, vI a5)]) dL_law_3231 (by decide) rfl ?_
  refine zw_aload_n (pc := 3233) dL_law_3233 rfl 4 rfl ?_
  obtain ⟨b15, e17, H⟩ := zbind H
  obtain ⟨e16, e18⟩ := zrv_ok e17
  obtain ⟨x20, e19, H⟩ := zbind H
  refine zw_invV (pc := 3234) (M' := M_X4_thrown) (A := []) [] dL_law_3234 (Or.inl q2302) mf_X4_thrown q2304 (zkq e18 rfl) (w_X4_thrown e19) (Nat.le_of_ble_eq_true rfl) rfl (by rw [← e16]; rfl) (Nat.le_of_ble_eq_true rfl) (zkv ?_) zkn9
  refine zw_iload (pc := 3237) dL_law_3237 1 rfl ?_
  rcases zif H with ⟨c21, H⟩ | ⟨c21, H⟩
  · refine zw_icmp_eq (pc := 3239) (tgt := 3244) dL_law_3239 rfl (fun _ => ?_) (fun q => absurd c21 q)
    refine zw_iload (pc := 3244) dL_law_3244 1 rfl ?_
    rcases zif H with ⟨c22, H⟩ | ⟨c22, H⟩
    · refine zw_if_ne (pc := 3246) (tgt := 3261) dL_law_3246 rfl (fun q => absurd c22 q) (fun _ => ?_)
      refine zw_aload_n (pc := 3249) dL_law_3249 rfl 5 rfl ?_
      refine zw_iconst (pc := 3250) (v := (0 : Int32)) dL_law_3250 (by decide) ?_
      obtain ⟨x23, e24, H⟩ := zbind H
      refine zy_lald (pc := 3251) dL_law_3251 e24 ?_
      refine zw_iload (pc := 3252) dL_law_3252 0 rfl ?_
      refine zw_i2l (pc := 3254) dL_law_3254 ?_
      refine zw_lcmp (pc := 3255) dL_law_3255 ?_
      rcases zif H with ⟨c25, H⟩ | ⟨c25, H⟩
      · refine zw_if_eq (pc := 3256) (tgt := 3261) dL_law_3256 rfl (fun _ => ?_) (fun q => absurd (lgc_eq.mpr c25) q)
        refine zw_goto (pc := 3261) (tgt := 3377) dL_law_3261 rfl ?_
        refine zw_iinc (pc := 3377) (v := (a5 + (6 : Int32))) (lv' := [(5, vI (a5 + (6 : Int32))), (7, vI x14), (6, vI x5), (0, vR a0), (1, vR a1), (2, vR a2), (3, vR a3), (4, vR a4)]) dL_law_3377 7 rfl rfl (by decide) rfl ?_
        refine zw_goto (pc := 3380) (tgt := 28) dL_law_3380 rfl ?_
        refine zW_pick (lv' := [(0, vR a0), (1, vR a1), (2, vR a2), (3, vR a3), (4, vR a4), (5, vI (a5 + (6 : Int32)))]) [3, 4, 5, 6, 7, 0] rfl ?_
        exact hk28 _ _ _ _ _ _ _ H
      · refine zw_if_eq (pc := 3256) (tgt := 3261) dL_law_3256 rfl (fun q => absurd q (fun q => c25 (lgc_eq.mp q))) (fun _ => ?_)
        refine zw_iconst (pc := 3259) (v := (0 : Int32)) dL_law_3259 (by decide) ?_
        obtain ⟨rfl, rfl⟩ := Prod.mk.inj (Option.some.inj H)
        exact zw_zret (pc := 3260) dL_law_3260 rfl rfl rfl rfl
    · refine zw_if_ne (pc := 3246) (tgt := 3261) dL_law_3246 rfl (fun _ => ?_) (fun q => absurd q c22)
      refine zw_goto (pc := 3261) (tgt := 3377) dL_law_3261 rfl ?_
      refine zw_iinc (pc := 3377) (v := (a5 + (6 : Int32))) (lv' := [(5, vI (a5 + (6 : Int32))), (7, vI x14), (6, vI x5), (0, vR a0), (1, vR a1), (2, vR a2), (3, vR a3), (4, vR a4)]) dL_law_3377 7 rfl rfl (by decide) rfl ?_
      refine zw_goto (pc := 3380) (tgt := 28) dL_law_3380 rfl ?_
      refine zW_pick (lv' := [(0, vR a0), (1, vR a1), (2, vR a2), (3, vR a3), (4, vR a4), (5, vI (a5 + (6 : Int32)))]) [3, 4, 5, 6, 7, 0] rfl ?_
      exact hk28 _ _ _ _ _ _ _ H
  · refine zw_icmp_eq (pc := 3239) (tgt := 3244) dL_law_3239 rfl (fun q => absurd q c21) (fun _ => ?_)
    refine zw_iconst (pc := 3242) (v := (0 : Int32)) dL_law_3242 (by decide) ?_
    obtain ⟨rfl, rfl⟩ := Prod.mk.inj (Option.some.inj H)
    exact zw_zret (pc := 3243) dL_law_3243 rfl rfl rfl rfl
def B_L_law_3264 (k28 : Option Nat → Option Nat → Option Nat → Option Nat → Option Nat → Int32 → zH → Option ((Int32 ⊕ Nat) × zH)) (a0 : Option Nat) (a1 : Option Nat) (a2 : Option Nat) (a3 : Option Nat) (a4 : Option Nat) (a5 : Int32) (h : zH) : Option ((Int32 ⊕ Nat) × zH) :=
  (zaI 50 a0 (a5 + (1 : Int32)) h).bind fun x1 =>
  zb2 (f_X0_outputByte a1 x1 a3 h) fun x5 h4 =>
  (zaI 50 a0 (a5 + (1 : Int32)) h4).bind fun x6 =>
  (zrv 4 a2 h4).bind fun b8 =>
  zb2 (f_X4_outputByte (some b8) x6 h4) fun x14 h13 =>
  (zrv 4 a2 h13).bind fun b15 =>
  (f_X4_thrown (some b15) h13).bind fun x20 =>
  if x20 = x5 then
  if x5 = 0 then
  (zaJ a3 (0 : Int32) h13).bind fun x23 =>
  if x23 = x14.toInt64 then
  k28 a0 a1 a2 a3 a4 (a5 + (6 : Int32)) h13
  else
  some (.inl (0 : Int32), h13)
  else
  k28 a0 a1 a2 a3 a4 (a5 + (6 : Int32)) h13
  else
  some (.inl (0 : Int32), h13)
theorem wB_L_law_3264 {G : zG} {h0 h : zH} {vo : Int32 ⊕ Nat} {vh : zH} {k28 : Option Nat → Option Nat → Option Nat → Option Nat → Option Nat → Int32 → zH → Option ((Int32 ⊕ Nat) × zH)} (hk28 : ∀ (b0 : Option Nat) (b1 : Option Nat) (b2 : Option Nat) (b3 : Option Nat) (b4 : Option Nat) (b5 : Int32) (h' : zH), k28 b0 b1 b2 b3 b4 b5 h' = some (vo, vh) → zW G M_L_law 343 h0 (zoI vo) vh 28 [(0, vR b0), (1, vR b1), (2, vR b2), (3, vR b3), (4, vR b4), (5, vI b5)] [] h') {a0 : Option Nat} {a1 : Option Nat} {a2 : Option Nat} {a3 : Option Nat} {a4 : Option Nat} {a5 : Int32} (H : B_L_law_3264 k28 a0 a1 a2 a3 a4 a5 h = some (vo, vh)) : zW G M_L_law 343 h0 (zoI vo) vh 3264 [(0, vR a0), (1, vR a1), (2, vR a2), (3, vR a3), (4, vR a4), (5, vI a5)] [] h := by
  unfold B_L_law_3264 at H
  refine zw_aload_n (pc := 3264) dL_law_3264 rfl 1 rfl ?_
  refine zw_aload_n (pc := 3265) dL_law_3265 rfl 0 rfl ?_
  refine zw_iload (pc := 3266) dL_law_3266 5 rfl ?_
  refine zw_iconst (pc := 3268) (v := (1 : Int32)) dL_law_3268 (by decide) ?_
  refine zw_iadd (pc := 3269) dL_law_3269 ?_
  obtain ⟨x1, e2, H⟩ := zbind H
  refine zy_iald (pc := 3270) dL_law_3270 e2 ?_
  refine zw_aload_n (pc := 3271) dL_law_3271 rfl 3 rfl ?_
  obtain ⟨x5, h4, e3, H⟩ := zbind2 H
  refine zw_invS (pc := 3272) (M' := M_X0_outputByte) (A := [vR a1, vI x1, vR a3]) [] dL_law_3272 (Or.inl q2127) mf_X0_outputByte (w_X0_outputByte e3) (Nat.le_of_ble_eq_true rfl) rfl rfl (Nat.le_of_ble_eq_true rfl) (zkv ?_) zkn9
  refine zw_istore (pc := 3275) (lv' := [(6, vI x5), (0, vR a0), (1, vR a1), (2, vR a2), (3, vR a3), (4, vR a4), (5, vI a5)]) dL_law_3275 (by decide) rfl ?_
  refine zw_aload_n (pc := 3277) dL_law_3277 rfl 3 rfl ?_
  refine zw_aload_n (pc := 3278) dL_law_3278 rfl 1 rfl ?_
  refine zw_iload (pc := 3279) dL_law_3279 6 rfl ?_
  refine zw_iconst (pc := 3281) (v := (1 : Int32)) dL_law_3281 (by decide) ?_
  refine zw_iadd (pc := 3282) dL_law_3282 ?_
  obtain ⟨x6, e7, H⟩ := zbind H
  refine zy_iald (pc := 3283) dL_law_3283 e7 ?_
  obtain ⟨b8, e10, H⟩ := zbind H
  obtain ⟨e9, e11⟩ := zrv_ok e10
  obtain ⟨x14, h13, e12, H⟩ := zbind2 H
  refine zw_invV (pc := 3284) (M' := M_X4_outputByte) (A := [vI x6]) [] dL_law_3284 (Or.inl q3012) mf_X4_outputByte q3014 (zkq e11 rfl) (w_X4_outputByte e12) (Nat.le_of_ble_eq_true rfl) rfl (by rw [← e9]; rfl) (Nat.le_of_ble_eq_true rfl) (zkv ?_) zkn9
  refine zw_istore (pc := 3287) (lv' := [(7, vI x14), (6, vI x5), (0, vR a0), (1, vR a1), (2, vR a2), (3, vR a3), (4, vR a4), (5, vI a5)]) dL_law_3287 (by decide) rfl ?_
  refine zw_aload_n (pc := 3289) dL_law_3289 rfl 4 rfl ?_
  obtain ⟨b15, e17, H⟩ := zbind H
  obtain ⟨e16, e18⟩ := zrv_ok e17
  obtain ⟨x20, e19, H⟩ := zbind H
  refine zw_invV (pc := 3290) (M' := M_X4_thrown) (A := []) [] dL_law_3290 (Or.inl q2302) mf_X4_thrown q2304 (zkq e18 rfl) (w_X4_thrown e19) (Nat.le_of_ble_eq_true rfl) rfl (by rw [← e16]; rfl) (Nat.le_of_ble_eq_true rfl) (zkv ?_) zkn9
  refine zw_iload (pc := 3293) dL_law_3293 1 rfl ?_
  rcases zif H with ⟨c21, H⟩ | ⟨c21, H⟩
  · refine zw_icmp_eq (pc := 3295) (tgt := 3300) dL_law_3295 rfl (fun _ => ?_) (fun q => absurd c21 q)
    refine zw_iload (pc := 3300) dL_law_3300 1 rfl ?_
    rcases zif H with ⟨c22, H⟩ | ⟨c22, H⟩
    · refine zw_if_ne (pc := 3302) (tgt := 3317) dL_law_3302 rfl (fun q => absurd c22 q) (fun _ => ?_)
      refine zw_aload_n (pc := 3305) dL_law_3305 rfl 5 rfl ?_
      refine zw_iconst (pc := 3306) (v := (0 : Int32)) dL_law_3306 (by decide) ?_
      obtain ⟨x23, e24, H⟩ := zbind H
      refine zy_lald (pc := 3307) dL_law_3307 e24 ?_
      refine zw_iload (pc := 3308) dL_law_3308 0 rfl ?_
      refine zw_i2l (pc := 3310) dL_law_3310 ?_
      refine zw_lcmp (pc := 3311) dL_law_3311 ?_
      rcases zif H with ⟨c25, H⟩ | ⟨c25, H⟩
      · refine zw_if_eq (pc := 3312) (tgt := 3317) dL_law_3312 rfl (fun _ => ?_) (fun q => absurd (lgc_eq.mpr c25) q)
        refine zw_goto (pc := 3317) (tgt := 3377) dL_law_3317 rfl ?_
        refine zw_iinc (pc := 3377) (v := (a5 + (6 : Int32))) (lv' := [(5, vI (a5 + (6 : Int32))), (7, vI x14), (6, vI x5), (0, vR a0), (1, vR a1), (2, vR a2), (3, vR a3), (4, vR a4)]) dL_law_3377 7 rfl rfl (by decide) rfl ?_
        refine zw_goto (pc := 3380) (tgt := 28) dL_law_3380 rfl ?_
        refine zW_pick (lv' := [(0, vR a0), (1, vR a1), (2, vR a2), (3, vR a3), (4, vR a4), (5, vI (a5 + (6 : Int32)))]) [3, 4, 5, 6, 7, 0] rfl ?_
        exact hk28 _ _ _ _ _ _ _ H
      · refine zw_if_eq (pc := 3312) (tgt := 3317) dL_law_3312 rfl (fun q => absurd q (fun q => c25 (lgc_eq.mp q))) (fun _ => ?_)
        refine zw_iconst (pc := 3315) (v := (0 : Int32)) dL_law_3315 (by decide) ?_
        obtain ⟨rfl, rfl⟩ := Prod.mk.inj (Option.some.inj H)
        exact zw_zret (pc := 3316) dL_law_3316 rfl rfl rfl rfl
    · refine zw_if_ne (pc := 3302) (tgt := 3317) dL_law_3302 rfl (fun _ => ?_) (fun q => absurd q c22)
      refine zw_goto (pc := 3317) (tgt := 3377) dL_law_3317 rfl ?_
      refine zw_iinc (pc := 3377) (v := (a5 + (6 : Int32))) (lv' := [(5, vI (a5 + (6 : Int32))), (7, vI x14), (6, vI x5), (0, vR a0), (1, vR a1), (2, vR a2), (3, vR a3), (4, vR a4)]) dL_law_3377 7 rfl rfl (by decide) rfl ?_
      refine zw_goto (pc := 3380) (tgt := 28) dL_law_3380 rfl ?_
      refine zW_pick (lv' := [(0, vR a0), (1, vR a1), (2, vR a2), (3, vR a3), (4, vR a4), (5, vI (a5 + (6 : Int32)))]) [3, 4, 5, 6, 7, 0] rfl ?_
      exact hk28 _ _ _ _ _ _ _ H
  · refine zw_icmp_eq (pc := 3295) (tgt := 3300) dL_law_3295 rfl (fun q => absurd q c21) (fun _ => ?_)
    refine zw_iconst (pc := 3298) (v := (0 : Int32)) dL_law_3298 (by decide) ?_
    obtain ⟨rfl, rfl⟩ := Prod.mk.inj (Option.some.inj H)
    exact zw_zret (pc := 3299) dL_law_3299 rfl rfl rfl rfl
def B_L_law_3320 (k28 : Option Nat → Option Nat → Option Nat → Option Nat → Option Nat → Int32 → zH → Option ((Int32 ⊕ Nat) × zH)) (a0 : Option Nat) (a1 : Option Nat) (a2 : Option Nat) (a3 : Option Nat) (a4 : Option Nat) (a5 : Int32) (h : zH) : Option ((Int32 ⊕ Nat) × zH) :=
  (zrv 1 a1 h).bind fun b1 =>
  zb2 (f_X1_saveState (some b1) h) fun x7 h6 =>
  (zrv 4 a2 h6).bind fun b8 =>
  zb2 (f_X4_saveState (some b8) h6) fun x14 h13 =>
  if x7 = x14 then
  k28 a0 a1 a2 a3 a4 (a5 + (6 : Int32)) h13
  else
  some (.inl (0 : Int32), h13)
theorem wB_L_law_3320 {G : zG} {h0 h : zH} {vo : Int32 ⊕ Nat} {vh : zH} {k28 : Option Nat → Option Nat → Option Nat → Option Nat → Option Nat → Int32 → zH → Option ((Int32 ⊕ Nat) × zH)} (hk28 : ∀ (b0 : Option Nat) (b1 : Option Nat) (b2 : Option Nat) (b3 : Option Nat) (b4 : Option Nat) (b5 : Int32) (h' : zH), k28 b0 b1 b2 b3 b4 b5 h' = some (vo, vh) → zW G M_L_law 343 h0 (zoI vo) vh 28 [(0, vR b0), (1, vR b1), (2, vR b2), (3, vR b3), (4, vR b4), (5, vI b5)] [] h') {a0 : Option Nat} {a1 : Option Nat} {a2 : Option Nat} {a3 : Option Nat} {a4 : Option Nat} {a5 : Int32} (H : B_L_law_3320 k28 a0 a1 a2 a3 a4 a5 h = some (vo, vh)) : zW G M_L_law 343 h0 (zoI vo) vh 3320 [(0, vR a0), (1, vR a1), (2, vR a2), (3, vR a3), (4, vR a4), (5, vI a5)] [] h := by
  unfold B_L_law_3320 at H
  refine zw_aload_n (pc := 3320) dL_law_3320 rfl 1 rfl ?_
  obtain ⟨b1, e3, H⟩ := zbind H
  obtain ⟨e2, e4⟩ := zrv_ok e3
  obtain ⟨x7, h6, e5, H⟩ := zbind2 H
  refine zw_invV (pc := 3321) (M' := M_X1_saveState) (A := []) [] dL_law_3321 (Or.inl q542) mf_X1_saveState q544 (zkq e4 rfl) (w_X1_saveState e5) (Nat.le_of_ble_eq_true rfl) rfl (by rw [← e2]; rfl) (Nat.le_of_ble_eq_true rfl) (zkv ?_) zkn9
  refine zw_aload_n (pc := 3324) dL_law_3324 rfl 2 rfl ?_
  obtain ⟨b8, e10, H⟩ := zbind H
  obtain ⟨e9, e11⟩ := zrv_ok e10
  obtain ⟨x14, h13, e12, H⟩ := zbind2 H
  refine zw_invV (pc := 3325) (M' := M_X4_saveState) (A := []) [vI x7] dL_law_3325 (Or.inl q2343) mf_X4_saveState q2345 (zkq e11 rfl) (w_X4_saveState e12) (Nat.le_of_ble_eq_true rfl) rfl (by rw [← e9]; rfl) (Nat.le_of_ble_eq_true rfl) (zkv ?_) zkn9
  rcases zif H with ⟨c15, H⟩ | ⟨c15, H⟩
  · refine zw_icmp_eq (pc := 3328) (tgt := 3377) dL_law_3328 rfl (fun _ => ?_) (fun q => absurd c15 q)
    refine zw_iinc (pc := 3377) (v := (a5 + (6 : Int32))) (lv' := [(5, vI (a5 + (6 : Int32))), (0, vR a0), (1, vR a1), (2, vR a2), (3, vR a3), (4, vR a4)]) dL_law_3377 5 rfl rfl (by decide) rfl ?_
    refine zw_goto (pc := 3380) (tgt := 28) dL_law_3380 rfl ?_
    refine zW_pick (lv' := [(0, vR a0), (1, vR a1), (2, vR a2), (3, vR a3), (4, vR a4), (5, vI (a5 + (6 : Int32)))]) [1, 2, 3, 4, 5, 0] rfl ?_
    exact hk28 _ _ _ _ _ _ _ H
  · refine zw_icmp_eq (pc := 3328) (tgt := 3377) dL_law_3328 rfl (fun q => absurd q c15) (fun _ => ?_)
    refine zw_iconst (pc := 3331) (v := (0 : Int32)) dL_law_3331 (by decide) ?_
    obtain ⟨rfl, rfl⟩ := Prod.mk.inj (Option.some.inj H)
    exact zw_zret (pc := 3332) dL_law_3332 rfl rfl rfl rfl
def B_L_law_3333 (k28 : Option Nat → Option Nat → Option Nat → Option Nat → Option Nat → Int32 → zH → Option ((Int32 ⊕ Nat) × zH)) (a0 : Option Nat) (a1 : Option Nat) (a2 : Option Nat) (a3 : Option Nat) (a4 : Option Nat) (a5 : Int32) (h : zH) : Option ((Int32 ⊕ Nat) × zH) :=
  zb2 (f_X0_restoreState a1 a3 h) fun x3 h2 =>
  (zrv 4 a2 h2).bind fun b4 =>
  zb2 (f_X4_restoreState (some b4) h2) fun x10 h9 =>
  (zrv 4 a2 h9).bind fun b11 =>
  (f_X4_thrown (some b11) h9).bind fun x16 =>
  if x16 = x3 then
  if x3 = 0 then
  (zaJ a3 (0 : Int32) h9).bind fun x19 =>
  if x19 = x10.toInt64 then
  k28 a0 a1 a2 a3 a4 (a5 + (6 : Int32)) h9
  else
  some (.inl (0 : Int32), h9)
  else
  k28 a0 a1 a2 a3 a4 (a5 + (6 : Int32)) h9
  else
  some (.inl (0 : Int32), h9)
theorem wB_L_law_3333 {G : zG} {h0 h : zH} {vo : Int32 ⊕ Nat} {vh : zH} {k28 : Option Nat → Option Nat → Option Nat → Option Nat → Option Nat → Int32 → zH → Option ((Int32 ⊕ Nat) × zH)} (hk28 : ∀ (b0 : Option Nat) (b1 : Option Nat) (b2 : Option Nat) (b3 : Option Nat) (b4 : Option Nat) (b5 : Int32) (h' : zH), k28 b0 b1 b2 b3 b4 b5 h' = some (vo, vh) → zW G M_L_law 343 h0 (zoI vo) vh 28 [(0, vR b0), (1, vR b1), (2, vR b2), (3, vR b3), (4, vR b4), (5, vI b5)] [] h') {a0 : Option Nat} {a1 : Option Nat} {a2 : Option Nat} {a3 : Option Nat} {a4 : Option Nat} {a5 : Int32} (H : B_L_law_3333 k28 a0 a1 a2 a3 a4 a5 h = some (vo, vh)) : zW G M_L_law 343 h0 (zoI vo) vh 3333 [(0, vR a0), (1, vR a1), (2, vR a2), (3, vR a3), (4, vR a4), (5, vI a5)] [] h := by
  unfold B_L_law_3333 at H
  refine zw_aload_n (pc := 3333) dL_law_3333 rfl 1 rfl ?_
  refine zw_aload_n (pc := 3334) dL_law_3334 rfl 3 rfl ?_
  obtain ⟨x3, h2, e1, H⟩ := zbind2 H
  refine zw_invS (pc := 3335) (M' := M_X0_restoreState) (A := [vR a1, vR a3]) [] dL_law_3335 (Or.inl q2144) mf_X0_restoreState (w_X0_restoreState e1) (Nat.le_of_ble_eq_true rfl) rfl rfl (Nat.le_of_ble_eq_true rfl) (zkv ?_) zkn9
  refine zw_istore (pc := 3338) (lv' := [(6, vI x3), (0, vR a0), (1, vR a1), (2, vR a2), (3, vR a3), (4, vR a4), (5, vI a5)]) dL_law_3338 (by decide) rfl ?_
  refine zw_aload_n (pc := 3340) dL_law_3340 rfl 3 rfl ?_
  obtain ⟨b4, e6, H⟩ := zbind H
  obtain ⟨e5, e7⟩ := zrv_ok e6
  obtain ⟨x10, h9, e8, H⟩ := zbind2 H
  refine zw_invV (pc := 3341) (M' := M_X4_restoreState) (A := []) [] dL_law_3341 (Or.inl q2377) mf_X4_restoreState q2379 (zkq e7 rfl) (w_X4_restoreState e8) (Nat.le_of_ble_eq_true rfl) rfl (by rw [← e5]; rfl) (Nat.le_of_ble_eq_true rfl) (zkv ?_) zkn9
  refine zw_istore (pc := 3344) (lv' := [(7, vI x10), (6, vI x3), (0, vR a0), (1, vR a1), (2, vR a2), (3, vR a3), (4, vR a4), (5, vI a5)]) dL_law_3344 (by decide) rfl ?_
  refine zw_aload_n (pc := 3346) dL_law_3346 rfl 4 rfl ?_
  obtain ⟨b11, e13, H⟩ := zbind H
  obtain ⟨e12, e14⟩ := zrv_ok e13
  obtain ⟨x16, e15, H⟩ := zbind H
  refine zw_invV (pc := 3347) (M' := M_X4_thrown) (A := []) [] dL_law_3347 (Or.inl q2302) mf_X4_thrown q2304 (zkq e14 rfl) (w_X4_thrown e15) (Nat.le_of_ble_eq_true rfl) rfl (by rw [← e12]; rfl) (Nat.le_of_ble_eq_true rfl) (zkv ?_) zkn9
  refine zw_iload (pc := 3350) dL_law_3350 1 rfl ?_
  rcases zif H with ⟨c17, H⟩ | ⟨c17, H⟩
  · refine zw_icmp_eq (pc := 3352) (tgt := 3357) dL_law_3352 rfl (fun _ => ?_) (fun q => absurd c17 q)
    refine zw_iload (pc := 3357) dL_law_3357 1 rfl ?_
    rcases zif H with ⟨c18, H⟩ | ⟨c18, H⟩
    · refine zw_if_ne (pc := 3359) (tgt := 3374) dL_law_3359 rfl (fun q => absurd c18 q) (fun _ => ?_)
      refine zw_aload_n (pc := 3362) dL_law_3362 rfl 5 rfl ?_
      refine zw_iconst (pc := 3363) (v := (0 : Int32)) dL_law_3363 (by decide) ?_
      obtain ⟨x19, e20, H⟩ := zbind H
      refine zy_lald (pc := 3364) dL_law_3364 e20 ?_
      refine zw_iload (pc := 3365) dL_law_3365 0 rfl ?_
      refine zw_i2l (pc := 3367) dL_law_3367 ?_
      refine zw_lcmp (pc := 3368) dL_law_3368 ?_
      rcases zif H with ⟨c21, H⟩ | ⟨c21, H⟩
      · refine zw_if_eq (pc := 3369) (tgt := 3374) dL_law_3369 rfl (fun _ => ?_) (fun q => absurd (lgc_eq.mpr c21) q)
        refine zw_goto (pc := 3374) (tgt := 3377) dL_law_3374 rfl ?_
        refine zw_iinc (pc := 3377) (v := (a5 + (6 : Int32))) (lv' := [(5, vI (a5 + (6 : Int32))), (7, vI x10), (6, vI x3), (0, vR a0), (1, vR a1), (2, vR a2), (3, vR a3), (4, vR a4)]) dL_law_3377 7 rfl rfl (by decide) rfl ?_
        refine zw_goto (pc := 3380) (tgt := 28) dL_law_3380 rfl ?_
        refine zW_pick (lv' := [(0, vR a0), (1, vR a1), (2, vR a2), (3, vR a3), (4, vR a4), (5, vI (a5 + (6 : Int32)))]) [3, 4, 5, 6, 7, 0] rfl ?_
        exact hk28 _ _ _ _ _ _ _ H
      · refine zw_if_eq (pc := 3369) (tgt := 3374) dL_law_3369 rfl (fun q => absurd q (fun q => c21 (lgc_eq.mp q))) (fun _ => ?_)
        refine zw_iconst (pc := 3372) (v := (0 : Int32)) dL_law_3372 (by decide) ?_
        obtain ⟨rfl, rfl⟩ := Prod.mk.inj (Option.some.inj H)
        exact zw_zret (pc := 3373) dL_law_3373 rfl rfl rfl rfl
    · refine zw_if_ne (pc := 3359) (tgt := 3374) dL_law_3359 rfl (fun _ => ?_) (fun q => absurd q c18)
      refine zw_goto (pc := 3374) (tgt := 3377) dL_law_3374 rfl ?_
      refine zw_iinc (pc := 3377) (v := (a5 + (6 : Int32))) (lv' := [(5, vI (a5 + (6 : Int32))), (7, vI x10), (6, vI x3), (0, vR a0), (1, vR a1), (2, vR a2), (3, vR a3), (4, vR a4)]) dL_law_3377 7 rfl rfl (by decide) rfl ?_
      refine zw_goto (pc := 3380) (tgt := 28) dL_law_3380 rfl ?_
      refine zW_pick (lv' := [(0, vR a0), (1, vR a1), (2, vR a2), (3, vR a3), (4, vR a4), (5, vI (a5 + (6 : Int32)))]) [3, 4, 5, 6, 7, 0] rfl ?_
      exact hk28 _ _ _ _ _ _ _ H
  · refine zw_icmp_eq (pc := 3352) (tgt := 3357) dL_law_3352 rfl (fun q => absurd q c17) (fun _ => ?_)
    refine zw_iconst (pc := 3355) (v := (0 : Int32)) dL_law_3355 (by decide) ?_
    obtain ⟨rfl, rfl⟩ := Prod.mk.inj (Option.some.inj H)
    exact zw_zret (pc := 3356) dL_law_3356 rfl rfl rfl rfl
def B_L_law_28 (k28 : Option Nat → Option Nat → Option Nat → Option Nat → Option Nat → Int32 → zH → Option ((Int32 ⊕ Nat) × zH)) (a0 : Option Nat) (a1 : Option Nat) (a2 : Option Nat) (a3 : Option Nat) (a4 : Option Nat) (a5 : Int32) (h : zH) : Option ((Int32 ⊕ Nat) × zH) :=
  (zaN a0 h).bind fun x1 =>
  if (x1 - (6 : Int32)) < a5 then
  some (.inl (1 : Int32), h)
  else
  (zaI 50 a0 a5 h).bind fun x4 =>
  if (x4 &&& (63 : Int32)) = (0 : Int32) then
  B_L_law_264 k28 a0 a1 a2 a3 a4 a5 h
  else
  if (x4 &&& (63 : Int32)) = (1 : Int32) then
  B_L_law_368 k28 a0 a1 a2 a3 a4 a5 h
  else
  if (x4 &&& (63 : Int32)) = (2 : Int32) then
  B_L_law_424 k28 a0 a1 a2 a3 a4 a5 h
  else
  if (x4 &&& (63 : Int32)) = (3 : Int32) then
  B_L_law_468 k28 a0 a1 a2 a3 a4 a5 h
  else
  if (x4 &&& (63 : Int32)) = (4 : Int32) then
  B_L_law_512 k28 a0 a1 a2 a3 a4 a5 h
  else
  if (x4 &&& (63 : Int32)) = (5 : Int32) then
  B_L_law_525 k28 a0 a1 a2 a3 a4 a5 h
  else
  if (x4 &&& (63 : Int32)) = (6 : Int32) then
  B_L_law_538 k28 a0 a1 a2 a3 a4 a5 h
  else
  if (x4 &&& (63 : Int32)) = (7 : Int32) then
  B_L_law_594 k28 a0 a1 a2 a3 a4 a5 h
  else
  if (x4 &&& (63 : Int32)) = (8 : Int32) then
  B_L_law_650 k28 a0 a1 a2 a3 a4 a5 h
  else
  if (x4 &&& (63 : Int32)) = (9 : Int32) then
  B_L_law_706 k28 a0 a1 a2 a3 a4 a5 h
  else
  if (x4 &&& (63 : Int32)) = (10 : Int32) then
  B_L_law_774 k28 a0 a1 a2 a3 a4 a5 h
  else
  if (x4 &&& (63 : Int32)) = (11 : Int32) then
  B_L_law_842 k28 a0 a1 a2 a3 a4 a5 h
  else
  if (x4 &&& (63 : Int32)) = (12 : Int32) then
  B_L_law_910 k28 a0 a1 a2 a3 a4 a5 h
  else
  if (x4 &&& (63 : Int32)) = (13 : Int32) then
  B_L_law_978 k28 a0 a1 a2 a3 a4 a5 h
  else
  if (x4 &&& (63 : Int32)) = (14 : Int32) then
  B_L_law_1058 k28 a0 a1 a2 a3 a4 a5 h
  else
  if (x4 &&& (63 : Int32)) = (15 : Int32) then
  B_L_law_1138 k28 a0 a1 a2 a3 a4 a5 h
  else
  if (x4 &&& (63 : Int32)) = (16 : Int32) then
  B_L_law_1194 k28 a0 a1 a2 a3 a4 a5 h
  else
  if (x4 &&& (63 : Int32)) = (17 : Int32) then
  B_L_law_1262 k28 a0 a1 a2 a3 a4 a5 h
  else
  if (x4 &&& (63 : Int32)) = (18 : Int32) then
  B_L_law_1330 k28 a0 a1 a2 a3 a4 a5 h
  else
  if (x4 &&& (63 : Int32)) = (19 : Int32) then
  B_L_law_1386 k28 a0 a1 a2 a3 a4 a5 h
  else
  if (x4 &&& (63 : Int32)) = (20 : Int32) then
  B_L_law_1442 k28 a0 a1 a2 a3 a4 a5 h
  else
  if (x4 &&& (63 : Int32)) = (21 : Int32) then
  B_L_law_1498 k28 a0 a1 a2 a3 a4 a5 h
  else
  if (x4 &&& (63 : Int32)) = (22 : Int32) then
  B_L_law_1566 k28 a0 a1 a2 a3 a4 a5 h
  else
  if (x4 &&& (63 : Int32)) = (23 : Int32) then
  B_L_law_1622 k28 a0 a1 a2 a3 a4 a5 h
  else
  if (x4 &&& (63 : Int32)) = (24 : Int32) then
  B_L_law_1678 k28 a0 a1 a2 a3 a4 a5 h
  else
  if (x4 &&& (63 : Int32)) = (25 : Int32) then
  B_L_law_1741 k28 a0 a1 a2 a3 a4 a5 h
  else
  if (x4 &&& (63 : Int32)) = (26 : Int32) then
  B_L_law_1816 k28 a0 a1 a2 a3 a4 a5 h
  else
  if (x4 &&& (63 : Int32)) = (27 : Int32) then
  B_L_law_1891 k28 a0 a1 a2 a3 a4 a5 h
  else
  if (x4 &&& (63 : Int32)) = (28 : Int32) then
  B_L_law_1959 k28 a0 a1 a2 a3 a4 a5 h
  else
  if (x4 &&& (63 : Int32)) = (29 : Int32) then
  B_L_law_2027 k28 a0 a1 a2 a3 a4 a5 h
  else
  if (x4 &&& (63 : Int32)) = (30 : Int32) then
  B_L_law_2095 k28 a0 a1 a2 a3 a4 a5 h
  else
  if (x4 &&& (63 : Int32)) = (31 : Int32) then
  B_L_law_2163 k28 a0 a1 a2 a3 a4 a5 h
  else
  if (x4 &&& (63 : Int32)) = (32 : Int32) then
  B_L_law_2231 k28 a0 a1 a2 a3 a4 a5 h
  else
  if (x4 &&& (63 : Int32)) = (33 : Int32) then
  B_L_law_2299 k28 a0 a1 a2 a3 a4 a5 h
  else
  if (x4 &&& (63 : Int32)) = (34 : Int32) then
  B_L_law_2312 k28 a0 a1 a2 a3 a4 a5 h
  else
  if (x4 &&& (63 : Int32)) = (35 : Int32) then
  B_L_law_2325 k28 a0 a1 a2 a3 a4 a5 h
  else
  if (x4 &&& (63 : Int32)) = (36 : Int32) then
  B_L_law_2403 k28 a0 a1 a2 a3 a4 a5 h
  else
  if (x4 &&& (63 : Int32)) = (37 : Int32) then
  B_L_law_2480 k28 a0 a1 a2 a3 a4 a5 h
  else
  if (x4 &&& (63 : Int32)) = (38 : Int32) then
  B_L_law_2560 k28 a0 a1 a2 a3 a4 a5 h
  else
  if (x4 &&& (63 : Int32)) = (39 : Int32) then
  B_L_law_2652 k28 a0 a1 a2 a3 a4 a5 h
  else
  if (x4 &&& (63 : Int32)) = (40 : Int32) then
  B_L_law_2732 k28 a0 a1 a2 a3 a4 a5 h
  else
  if (x4 &&& (63 : Int32)) = (41 : Int32) then
  B_L_law_2788 k28 a0 a1 a2 a3 a4 a5 h
  else
  if (x4 &&& (63 : Int32)) = (42 : Int32) then
  B_L_law_2868 k28 a0 a1 a2 a3 a4 a5 h
  else
  if (x4 &&& (63 : Int32)) = (43 : Int32) then
  B_L_law_2936 k28 a0 a1 a2 a3 a4 a5 h
  else
  if (x4 &&& (63 : Int32)) = (44 : Int32) then
  B_L_law_3004 k28 a0 a1 a2 a3 a4 a5 h
  else
  if (x4 &&& (63 : Int32)) = (45 : Int32) then
  B_L_law_3084 k28 a0 a1 a2 a3 a4 a5 h
  else
  if (x4 &&& (63 : Int32)) = (46 : Int32) then
  B_L_law_3164 k28 a0 a1 a2 a3 a4 a5 h
  else
  if (x4 &&& (63 : Int32)) = (47 : Int32) then
  B_L_law_3208 k28 a0 a1 a2 a3 a4 a5 h
  else
  if (x4 &&& (63 : Int32)) = (48 : Int32) then
  B_L_law_3264 k28 a0 a1 a2 a3 a4 a5 h
  else
  if (x4 &&& (63 : Int32)) = (49 : Int32) then
  B_L_law_3320 k28 a0 a1 a2 a3 a4 a5 h
  else
  if (x4 &&& (63 : Int32)) = (50 : Int32) then
  B_L_law_3333 k28 a0 a1 a2 a3 a4 a5 h
  else
  k28 a0 a1 a2 a3 a4 (a5 + (6 : Int32)) h
theorem wB_L_law_28 {G : zG} {h0 h : zH} {vo : Int32 ⊕ Nat} {vh : zH} {k28 : Option Nat → Option Nat → Option Nat → Option Nat → Option Nat → Int32 → zH → Option ((Int32 ⊕ Nat) × zH)} (hk28 : ∀ (b0 : Option Nat) (b1 : Option Nat) (b2 : Option Nat) (b3 : Option Nat) (b4 : Option Nat) (b5 : Int32) (h' : zH), k28 b0 b1 b2 b3 b4 b5 h' = some (vo, vh) → zW G M_L_law 343 h0 (zoI vo) vh 28 [(0, vR b0), (1, vR b1), (2, vR b2), (3, vR b3), (4, vR b4), (5, vI b5)] [] h') {a0 : Option Nat} {a1 : Option Nat} {a2 : Option Nat} {a3 : Option Nat} {a4 : Option Nat} {a5 : Int32} (H : B_L_law_28 k28 a0 a1 a2 a3 a4 a5 h = some (vo, vh)) : zW G M_L_law 343 h0 (zoI vo) vh 28 [(0, vR a0), (1, vR a1), (2, vR a2), (3, vR a3), (4, vR a4), (5, vI a5)] [] h := by
  unfold B_L_law_28 at H
  refine zw_iload (pc := 28) dL_law_28 5 rfl ?_
  refine zw_aload_n (pc := 30) dL_law_30 rfl 0 rfl ?_
  obtain ⟨x1, e2, H⟩ := zbind H
  refine zy_alen (pc := 31) dL_law_31 e2 ?_
  refine zw_bipush (pc := 32) (v := (6 : Int32)) dL_law_32 (by decide) ?_
  refine zw_isub (pc := 34) dL_law_34 ?_
  rcases zif H with ⟨c3, H⟩ | ⟨c3, H⟩
  · refine zw_icmp_gt (pc := 35) (tgt := 3383) dL_law_35 rfl (fun _ => ?_) (fun q => absurd c3 q)
    refine zw_iconst (pc := 3383) (v := (1 : Int32)) dL_law_3383 (by decide) ?_
    obtain ⟨rfl, rfl⟩ := Prod.mk.inj (Option.some.inj H)
    exact zw_zret (pc := 3384) dL_law_3384 rfl rfl rfl rfl
  · refine zw_icmp_gt (pc := 35) (tgt := 3383) dL_law_35 rfl (fun q => absurd q c3) (fun _ => ?_)
    refine zw_aload_n (pc := 38) dL_law_38 rfl 0 rfl ?_
    refine zw_iload (pc := 39) dL_law_39 5 rfl ?_
    obtain ⟨x4, e5, H⟩ := zbind H
    refine zy_iald (pc := 41) dL_law_41 e5 ?_
    refine zw_bipush (pc := 42) (v := (63 : Int32)) dL_law_42 (by decide) ?_
    refine zw_iand (pc := 44) dL_law_44 ?_
    rcases zif H with ⟨c6, H⟩ | ⟨c6, H⟩
    · refine zw_tableIn (pc := 45) (219) 264 dL_law_45 (by rw [c6]; decide) (by rw [c6]; decide) (by rw [c6]; decide) rfl ?_
      refine zW_pick (lv' := [(0, vR a0), (1, vR a1), (2, vR a2), (3, vR a3), (4, vR a4), (5, vI a5)]) [0, 1, 2, 3, 4, 5] rfl ?_
      exact wB_L_law_264 hk28 H
    rcases zif H with ⟨c7, H⟩ | ⟨c7, H⟩
    · refine zw_tableIn (pc := 45) (323) 368 dL_law_45 (by rw [c7]; decide) (by rw [c7]; decide) (by rw [c7]; decide) rfl ?_
      refine zW_pick (lv' := [(0, vR a0), (1, vR a1), (2, vR a2), (3, vR a3), (4, vR a4), (5, vI a5)]) [0, 1, 2, 3, 4, 5] rfl ?_
      exact wB_L_law_368 hk28 H
    rcases zif H with ⟨c8, H⟩ | ⟨c8, H⟩
    · refine zw_tableIn (pc := 45) (379) 424 dL_law_45 (by rw [c8]; decide) (by rw [c8]; decide) (by rw [c8]; decide) rfl ?_
      refine zW_pick (lv' := [(0, vR a0), (1, vR a1), (2, vR a2), (3, vR a3), (4, vR a4), (5, vI a5)]) [0, 1, 2, 3, 4, 5] rfl ?_
      exact wB_L_law_424 hk28 H
    rcases zif H with ⟨c9, H⟩ | ⟨c9, H⟩
    · refine zw_tableIn (pc := 45) (423) 468 dL_law_45 (by rw [c9]; decide) (by rw [c9]; decide) (by rw [c9]; decide) rfl ?_
      refine zW_pick (lv' := [(0, vR a0), (1, vR a1), (2, vR a2), (3, vR a3), (4, vR a4), (5, vI a5)]) [0, 1, 2, 3, 4, 5] rfl ?_
      exact wB_L_law_468 hk28 H
    rcases zif H with ⟨c10, H⟩ | ⟨c10, H⟩
    · refine zw_tableIn (pc := 45) (467) 512 dL_law_45 (by rw [c10]; decide) (by rw [c10]; decide) (by rw [c10]; decide) rfl ?_
      refine zW_pick (lv' := [(0, vR a0), (1, vR a1), (2, vR a2), (3, vR a3), (4, vR a4), (5, vI a5)]) [0, 1, 2, 3, 4, 5] rfl ?_
      exact wB_L_law_512 hk28 H
    rcases zif H with ⟨c11, H⟩ | ⟨c11, H⟩
    · refine zw_tableIn (pc := 45) (480) 525 dL_law_45 (by rw [c11]; decide) (by rw [c11]; decide) (by rw [c11]; decide) rfl ?_
      refine zW_pick (lv' := [(0, vR a0), (1, vR a1), (2, vR a2), (3, vR a3), (4, vR a4), (5, vI a5)]) [0, 1, 2, 3, 4, 5] rfl ?_
      exact wB_L_law_525 hk28 H
    rcases zif H with ⟨c12, H⟩ | ⟨c12, H⟩
    · refine zw_tableIn (pc := 45) (493) 538 dL_law_45 (by rw [c12]; decide) (by rw [c12]; decide) (by rw [c12]; decide) rfl ?_
      refine zW_pick (lv' := [(0, vR a0), (1, vR a1), (2, vR a2), (3, vR a3), (4, vR a4), (5, vI a5)]) [0, 1, 2, 3, 4, 5] rfl ?_
      exact wB_L_law_538 hk28 H
    rcases zif H with ⟨c13, H⟩ | ⟨c13, H⟩
    · refine zw_tableIn (pc := 45) (549) 594 dL_law_45 (by rw [c13]; decide) (by rw [c13]; decide) (by rw [c13]; decide) rfl ?_
      refine zW_pick (lv' := [(0, vR a0), (1, vR a1), (2, vR a2), (3, vR a3), (4, vR a4), (5, vI a5)]) [0, 1, 2, 3, 4, 5] rfl ?_
      exact wB_L_law_594 hk28 H
    rcases zif H with ⟨c14, H⟩ | ⟨c14, H⟩
    · refine zw_tableIn (pc := 45) (605) 650 dL_law_45 (by rw [c14]; decide) (by rw [c14]; decide) (by rw [c14]; decide) rfl ?_
      refine zW_pick (lv' := [(0, vR a0), (1, vR a1), (2, vR a2), (3, vR a3), (4, vR a4), (5, vI a5)]) [0, 1, 2, 3, 4, 5] rfl ?_
      exact wB_L_law_650 hk28 H
    rcases zif H with ⟨c15, H⟩ | ⟨c15, H⟩
    · refine zw_tableIn (pc := 45) (661) 706 dL_law_45 (by rw [c15]; decide) (by rw [c15]; decide) (by rw [c15]; decide) rfl ?_
      refine zW_pick (lv' := [(0, vR a0), (1, vR a1), (2, vR a2), (3, vR a3), (4, vR a4), (5, vI a5)]) [0, 1, 2, 3, 4, 5] rfl ?_
      exact wB_L_law_706 hk28 H
    rcases zif H with ⟨c16, H⟩ | ⟨c16, H⟩
    · refine zw_tableIn (pc := 45) (729) 774 dL_law_45 (by rw [c16]; decide) (by rw [c16]; decide) (by rw [c16]; decide) rfl ?_
      refine zW_pick (lv' := [(0, vR a0), (1, vR a1), (2, vR a2), (3, vR a3), (4, vR a4), (5, vI a5)]) [0, 1, 2, 3, 4, 5] rfl ?_
      exact wB_L_law_774 hk28 H
    rcases zif H with ⟨c17, H⟩ | ⟨c17, H⟩
    · refine zw_tableIn (pc := 45) (797) 842 dL_law_45 (by rw [c17]; decide) (by rw [c17]; decide) (by rw [c17]; decide) rfl ?_
      refine zW_pick (lv' := [(0, vR a0), (1, vR a1), (2, vR a2), (3, vR a3), (4, vR a4), (5, vI a5)]) [0, 1, 2, 3, 4, 5] rfl ?_
      exact wB_L_law_842 hk28 H
    rcases zif H with ⟨c18, H⟩ | ⟨c18, H⟩
    · refine zw_tableIn (pc := 45) (865) 910 dL_law_45 (by rw [c18]; decide) (by rw [c18]; decide) (by rw [c18]; decide) rfl ?_
      refine zW_pick (lv' := [(0, vR a0), (1, vR a1), (2, vR a2), (3, vR a3), (4, vR a4), (5, vI a5)]) [0, 1, 2, 3, 4, 5] rfl ?_
      exact wB_L_law_910 hk28 H
    rcases zif H with ⟨c19, H⟩ | ⟨c19, H⟩
    · refine zw_tableIn (pc := 45) (933) 978 dL_law_45 (by rw [c19]; decide) (by rw [c19]; decide) (by rw [c19]; decide) rfl ?_
      refine zW_pick (lv' := [(0, vR a0), (1, vR a1), (2, vR a2), (3, vR a3), (4, vR a4), (5, vI a5)]) [0, 1, 2, 3, 4, 5] rfl ?_
      exact wB_L_law_978 hk28 H
    rcases zif H with ⟨c20, H⟩ | ⟨c20, H⟩
    · refine zw_tableIn (pc := 45) (1013) 1058 dL_law_45 (by rw [c20]; decide) (by rw [c20]; decide) (by rw [c20]; decide) rfl ?_
      refine zW_pick (lv' := [(0, vR a0), (1, vR a1), (2, vR a2), (3, vR a3), (4, vR a4), (5, vI a5)]) [0, 1, 2, 3, 4, 5] rfl ?_
      exact wB_L_law_1058 hk28 H
    rcases zif H with ⟨c21, H⟩ | ⟨c21, H⟩
    · refine zw_tableIn (pc := 45) (1093) 1138 dL_law_45 (by rw [c21]; decide) (by rw [c21]; decide) (by rw [c21]; decide) rfl ?_
      refine zW_pick (lv' := [(0, vR a0), (1, vR a1), (2, vR a2), (3, vR a3), (4, vR a4), (5, vI a5)]) [0, 1, 2, 3, 4, 5] rfl ?_
      exact wB_L_law_1138 hk28 H
    rcases zif H with ⟨c22, H⟩ | ⟨c22, H⟩
    · refine zw_tableIn (pc := 45) (1149) 1194 dL_law_45 (by rw [c22]; decide) (by rw [c22]; decide) (by rw [c22]; decide) rfl ?_
      refine zW_pick (lv' := [(0, vR a0), (1, vR a1), (2, vR a2), (3, vR a3), (4, vR a4), (5, vI a5)]) [0, 1, 2, 3, 4, 5] rfl ?_
      exact wB_L_law_1194 hk28 H
    rcases zif H with ⟨c23, H⟩ | ⟨c23, H⟩
    · refine zw_tableIn (pc := 45) (1217) 1262 dL_law_45 (by rw [c23]; decide) (by rw [c23]; decide) (by rw [c23]; decide) rfl ?_
      refine zW_pick (lv' := [(0, vR a0), (1, vR a1), (2, vR a2), (3, vR a3), (4, vR a4), (5, vI a5)]) [0, 1, 2, 3, 4, 5] rfl ?_
      exact wB_L_law_1262 hk28 H
    rcases zif H with ⟨c24, H⟩ | ⟨c24, H⟩
    · refine zw_tableIn (pc := 45) (1285) 1330 dL_law_45 (by rw [c24]; decide) (by rw [c24]; decide) (by rw [c24]; decide) rfl ?_
      refine zW_pick (lv' := [(0, vR a0), (1, vR a1), (2, vR a2), (3, vR a3), (4, vR a4), (5, vI a5)]) [0, 1, 2, 3, 4, 5] rfl ?_
      exact wB_L_law_1330 hk28 H
    rcases zif H with ⟨c25, H⟩ | ⟨c25, H⟩
    · refine zw_tableIn (pc := 45) (1341) 1386 dL_law_45 (by rw [c25]; decide) (by rw [c25]; decide) (by rw [c25]; decide) rfl ?_
      refine zW_pick (lv' := [(0, vR a0), (1, vR a1), (2, vR a2), (3, vR a3), (4, vR a4), (5, vI a5)]) [0, 1, 2, 3, 4, 5] rfl ?_
      exact wB_L_law_1386 hk28 H
    rcases zif H with ⟨c26, H⟩ | ⟨c26, H⟩
    · refine zw_tableIn (pc := 45) (1397) 1442 dL_law_45 (by rw [c26]; decide) (by rw [c26]; decide) (by rw [c26]; decide) rfl ?_
      refine zW_pick (lv' := [(0, vR a0), (1, vR a1), (2, vR a2), (3, vR a3), (4, vR a4), (5, vI a5)]) [0, 1, 2, 3, 4, 5] rfl ?_
      exact wB_L_law_1442 hk28 H
    rcases zif H with ⟨c27, H⟩ | ⟨c27, H⟩
    · refine zw_tableIn (pc := 45) (1453) 1498 dL_law_45 (by rw [c27]; decide) (by rw [c27]; decide) (by rw [c27]; decide) rfl ?_
      refine zW_pick (lv' := [(0, vR a0), (1, vR a1), (2, vR a2), (3, vR a3), (4, vR a4), (5, vI a5)]) [0, 1, 2, 3, 4, 5] rfl ?_
      exact wB_L_law_1498 hk28 H
    rcases zif H with ⟨c28, H⟩ | ⟨c28, H⟩
    · refine zw_tableIn (pc := 45) (1521) 1566 dL_law_45 (by rw [c28]; decide) (by rw [c28]; decide) (by rw [c28]; decide) rfl ?_
      refine zW_pick (lv' := [(0, vR a0), (1, vR a1), (2, vR a2), (3, vR a3), (4, vR a4), (5, vI a5)]) [0, 1, 2, 3, 4, 5] rfl ?_
      exact wB_L_law_1566 hk28 H
    rcases zif H with ⟨c29, H⟩ | ⟨c29, H⟩
    · refine zw_tableIn (pc := 45) (1577) 1622 dL_law_45 (by rw [c29]; decide) (by rw [c29]; decide) (by rw [c29]; decide) rfl ?_
      refine zW_pick (lv' := [(0, vR a0), (1, vR a1), (2, vR a2), (3, vR a3), (4, vR a4), (5, vI a5)]) [0, 1, 2, 3, 4, 5] rfl ?_
      exact wB_L_law_1622 hk28 H
    rcases zif H with ⟨c30, H⟩ | ⟨c30, H⟩
    · refine zw_tableIn (pc := 45) (1633) 1678 dL_law_45 (by rw [c30]; decide) (by rw [c30]; decide) (by rw [c30]; decide) rfl ?_
      refine zW_pick (lv' := [(0, vR a0), (1, vR a1), (2, vR a2), (3, vR a3), (4, vR a4), (5, vI a5)]) [0, 1, 2, 3, 4, 5] rfl ?_
      exact wB_L_law_1678 hk28 H
    rcases zif H with ⟨c31, H⟩ | ⟨c31, H⟩
    · refine zw_tableIn (pc := 45) (1696) 1741 dL_law_45 (by rw [c31]; decide) (by rw [c31]; decide) (by rw [c31]; decide) rfl ?_
      refine zW_pick (lv' := [(0, vR a0), (1, vR a1), (2, vR a2), (3, vR a3), (4, vR a4), (5, vI a5)]) [0, 1, 2, 3, 4, 5] rfl ?_
      exact wB_L_law_1741 hk28 H
    rcases zif H with ⟨c32, H⟩ | ⟨c32, H⟩
    · refine zw_tableIn (pc := 45) (1771) 1816 dL_law_45 (by rw [c32]; decide) (by rw [c32]; decide) (by rw [c32]; decide) rfl ?_
      refine zW_pick (lv' := [(0, vR a0), (1, vR a1), (2, vR a2), (3, vR a3), (4, vR a4), (5, vI a5)]) [0, 1, 2, 3, 4, 5] rfl ?_
      exact wB_L_law_1816 hk28 H
    rcases zif H with ⟨c33, H⟩ | ⟨c33, H⟩
    · refine zw_tableIn (pc := 45) (1846) 1891 dL_law_45 (by rw [c33]; decide) (by rw [c33]; decide) (by rw [c33]; decide) rfl ?_
      refine zW_pick (lv' := [(0, vR a0), (1, vR a1), (2, vR a2), (3, vR a3), (4, vR a4), (5, vI a5)]) [0, 1, 2, 3, 4, 5] rfl ?_
      exact wB_L_law_1891 hk28 H
    rcases zif H with ⟨c34, H⟩ | ⟨c34, H⟩
    · refine zw_tableIn (pc := 45) (1914) 1959 dL_law_45 (by rw [c34]; decide) (by rw [c34]; decide) (by rw [c34]; decide) rfl ?_
      refine zW_pick (lv' := [(0, vR a0), (1, vR a1), (2, vR a2), (3, vR a3), (4, vR a4), (5, vI a5)]) [0, 1, 2, 3, 4, 5] rfl ?_
      exact wB_L_law_1959 hk28 H
    rcases zif H with ⟨c35, H⟩ | ⟨c35, H⟩
    · refine zw_tableIn (pc := 45) (1982) 2027 dL_law_45 (by rw [c35]; decide) (by rw [c35]; decide) (by rw [c35]; decide) rfl ?_
      refine zW_pick (lv' := [(0, vR a0), (1, vR a1), (2, vR a2), (3, vR a3), (4, vR a4), (5, vI a5)]) [0, 1, 2, 3, 4, 5] rfl ?_
      exact wB_L_law_2027 hk28 H
    rcases zif H with ⟨c36, H⟩ | ⟨c36, H⟩
    · refine zw_tableIn (pc := 45) (2050) 2095 dL_law_45 (by rw [c36]; decide) (by rw [c36]; decide) (by rw [c36]; decide) rfl ?_
      refine zW_pick (lv' := [(0, vR a0), (1, vR a1), (2, vR a2), (3, vR a3), (4, vR a4), (5, vI a5)]) [0, 1, 2, 3, 4, 5] rfl ?_
      exact wB_L_law_2095 hk28 H
    rcases zif H with ⟨c37, H⟩ | ⟨c37, H⟩
    · refine zw_tableIn (pc := 45) (2118) 2163 dL_law_45 (by rw [c37]; decide) (by rw [c37]; decide) (by rw [c37]; decide) rfl ?_
      refine zW_pick (lv' := [(0, vR a0), (1, vR a1), (2, vR a2), (3, vR a3), (4, vR a4), (5, vI a5)]) [0, 1, 2, 3, 4, 5] rfl ?_
      exact wB_L_law_2163 hk28 H
    rcases zif H with ⟨c38, H⟩ | ⟨c38, H⟩
    · refine zw_tableIn (pc := 45) (2186) 2231 dL_law_45 (by rw [c38]; decide) (by rw [c38]; decide) (by rw [c38]; decide) rfl ?_
      refine zW_pick (lv' := [(0, vR a0), (1, vR a1), (2, vR a2), (3, vR a3), (4, vR a4), (5, vI a5)]) [0, 1, 2, 3, 4, 5] rfl ?_
      exact wB_L_law_2231 hk28 H
    rcases zif H with ⟨c39, H⟩ | ⟨c39, H⟩
    · refine zw_tableIn (pc := 45) (2254) 2299 dL_law_45 (by rw [c39]; decide) (by rw [c39]; decide) (by rw [c39]; decide) rfl ?_
      refine zW_pick (lv' := [(0, vR a0), (1, vR a1), (2, vR a2), (3, vR a3), (4, vR a4), (5, vI a5)]) [0, 1, 2, 3, 4, 5] rfl ?_
      exact wB_L_law_2299 hk28 H
    rcases zif H with ⟨c40, H⟩ | ⟨c40, H⟩
    · refine zw_tableIn (pc := 45) (2267) 2312 dL_law_45 (by rw [c40]; decide) (by rw [c40]; decide) (by rw [c40]; decide) rfl ?_
      refine zW_pick (lv' := [(0, vR a0), (1, vR a1), (2, vR a2), (3, vR a3), (4, vR a4), (5, vI a5)]) [0, 1, 2, 3, 4, 5] rfl ?_
      exact wB_L_law_2312 hk28 H
    rcases zif H with ⟨c41, H⟩ | ⟨c41, H⟩
    · refine zw_tableIn (pc := 45) (2280) 2325 dL_law_45 (by rw [c41]; decide) (by rw [c41]; decide) (by rw [c41]; decide) rfl ?_
      refine zW_pick (lv' := [(0, vR a0), (1, vR a1), (2, vR a2), (3, vR a3), (4, vR a4), (5, vI a5)]) [0, 1, 2, 3, 4, 5] rfl ?_
      exact wB_L_law_2325 hk28 H
    rcases zif H with ⟨c42, H⟩ | ⟨c42, H⟩
    · refine zw_tableIn (pc := 45) (2358) 2403 dL_law_45 (by rw [c42]; decide) (by rw [c42]; decide) (by rw [c42]; decide) rfl ?_
      refine zW_pick (lv' := [(0, vR a0), (1, vR a1), (2, vR a2), (3, vR a3), (4, vR a4), (5, vI a5)]) [0, 1, 2, 3, 4, 5] rfl ?_
      exact wB_L_law_2403 hk28 H
    rcases zif H with ⟨c43, H⟩ | ⟨c43, H⟩
    · refine zw_tableIn (pc := 45) (2435) 2480 dL_law_45 (by rw [c43]; decide) (by rw [c43]; decide) (by rw [c43]; decide) rfl ?_
      refine zW_pick (lv' := [(0, vR a0), (1, vR a1), (2, vR a2), (3, vR a3), (4, vR a4), (5, vI a5)]) [0, 1, 2, 3, 4, 5] rfl ?_
      exact wB_L_law_2480 hk28 H
    rcases zif H with ⟨c44, H⟩ | ⟨c44, H⟩
    · refine zw_tableIn (pc := 45) (2515) 2560 dL_law_45 (by rw [c44]; decide) (by rw [c44]; decide) (by rw [c44]; decide) rfl ?_
      refine zW_pick (lv' := [(0, vR a0), (1, vR a1), (2, vR a2), (3, vR a3), (4, vR a4), (5, vI a5)]) [0, 1, 2, 3, 4, 5] rfl ?_
      exact wB_L_law_2560 hk28 H
    rcases zif H with ⟨c45, H⟩ | ⟨c45, H⟩
    · refine zw_tableIn (pc := 45) (2607) 2652 dL_law_45 (by rw [c45]; decide) (by rw [c45]; decide) (by rw [c45]; decide) rfl ?_
      refine zW_pick (lv' := [(0, vR a0), (1, vR a1), (2, vR a2), (3, vR a3), (4, vR a4), (5, vI a5)]) [0, 1, 2, 3, 4, 5] rfl ?_
      exact wB_L_law_2652 hk28 H
    rcases zif H with ⟨c46, H⟩ | ⟨c46, H⟩
    · refine zw_tableIn (pc := 45) (2687) 2732 dL_law_45 (by rw [c46]; decide) (by rw [c46]; decide) (by rw [c46]; decide) rfl ?_
      refine zW_pick (lv' := [(0, vR a0), (1, vR a1), (2, vR a2), (3, vR a3), (4, vR a4), (5, vI a5)]) [0, 1, 2, 3, 4, 5] rfl ?_
      exact wB_L_law_2732 hk28 H
    rcases zif H with ⟨c47, H⟩ | ⟨c47, H⟩
    · refine zw_tableIn (pc := 45) (2743) 2788 dL_law_45 (by rw [c47]; decide) (by rw [c47]; decide) (by rw [c47]; decide) rfl ?_
      refine zW_pick (lv' := [(0, vR a0), (1, vR a1), (2, vR a2), (3, vR a3), (4, vR a4), (5, vI a5)]) [0, 1, 2, 3, 4, 5] rfl ?_
      exact wB_L_law_2788 hk28 H
    rcases zif H with ⟨c48, H⟩ | ⟨c48, H⟩
    · refine zw_tableIn (pc := 45) (2823) 2868 dL_law_45 (by rw [c48]; decide) (by rw [c48]; decide) (by rw [c48]; decide) rfl ?_
      refine zW_pick (lv' := [(0, vR a0), (1, vR a1), (2, vR a2), (3, vR a3), (4, vR a4), (5, vI a5)]) [0, 1, 2, 3, 4, 5] rfl ?_
      exact wB_L_law_2868 hk28 H
    rcases zif H with ⟨c49, H⟩ | ⟨c49, H⟩
    · refine zw_tableIn (pc := 45) (2891) 2936 dL_law_45 (by rw [c49]; decide) (by rw [c49]; decide) (by rw [c49]; decide) rfl ?_
      refine zW_pick (lv' := [(0, vR a0), (1, vR a1), (2, vR a2), (3, vR a3), (4, vR a4), (5, vI a5)]) [0, 1, 2, 3, 4, 5] rfl ?_
      exact wB_L_law_2936 hk28 H
    rcases zif H with ⟨c50, H⟩ | ⟨c50, H⟩
    · refine zw_tableIn (pc := 45) (2959) 3004 dL_law_45 (by rw [c50]; decide) (by rw [c50]; decide) (by rw [c50]; decide) rfl ?_
      refine zW_pick (lv' := [(0, vR a0), (1, vR a1), (2, vR a2), (3, vR a3), (4, vR a4), (5, vI a5)]) [0, 1, 2, 3, 4, 5] rfl ?_
      exact wB_L_law_3004 hk28 H
    rcases zif H with ⟨c51, H⟩ | ⟨c51, H⟩
    · refine zw_tableIn (pc := 45) (3039) 3084 dL_law_45 (by rw [c51]; decide) (by rw [c51]; decide) (by rw [c51]; decide) rfl ?_
      refine zW_pick (lv' := [(0, vR a0), (1, vR a1), (2, vR a2), (3, vR a3), (4, vR a4), (5, vI a5)]) [0, 1, 2, 3, 4, 5] rfl ?_
      exact wB_L_law_3084 hk28 H
    rcases zif H with ⟨c52, H⟩ | ⟨c52, H⟩
    · refine zw_tableIn (pc := 45) (3119) 3164 dL_law_45 (by rw [c52]; decide) (by rw [c52]; decide) (by rw [c52]; decide) rfl ?_
      refine zW_pick (lv' := [(0, vR a0), (1, vR a1), (2, vR a2), (3, vR a3), (4, vR a4), (5, vI a5)]) [0, 1, 2, 3, 4, 5] rfl ?_
      exact wB_L_law_3164 hk28 H
    rcases zif H with ⟨c53, H⟩ | ⟨c53, H⟩
    · refine zw_tableIn (pc := 45) (3163) 3208 dL_law_45 (by rw [c53]; decide) (by rw [c53]; decide) (by rw [c53]; decide) rfl ?_
      refine zW_pick (lv' := [(0, vR a0), (1, vR a1), (2, vR a2), (3, vR a3), (4, vR a4), (5, vI a5)]) [0, 1, 2, 3, 4, 5] rfl ?_
      exact wB_L_law_3208 hk28 H
    rcases zif H with ⟨c54, H⟩ | ⟨c54, H⟩
    · refine zw_tableIn (pc := 45) (3219) 3264 dL_law_45 (by rw [c54]; decide) (by rw [c54]; decide) (by rw [c54]; decide) rfl ?_
      refine zW_pick (lv' := [(0, vR a0), (1, vR a1), (2, vR a2), (3, vR a3), (4, vR a4), (5, vI a5)]) [0, 1, 2, 3, 4, 5] rfl ?_
      exact wB_L_law_3264 hk28 H
    rcases zif H with ⟨c55, H⟩ | ⟨c55, H⟩
    · refine zw_tableIn (pc := 45) (3275) 3320 dL_law_45 (by rw [c55]; decide) (by rw [c55]; decide) (by rw [c55]; decide) rfl ?_
      refine zW_pick (lv' := [(0, vR a0), (1, vR a1), (2, vR a2), (3, vR a3), (4, vR a4), (5, vI a5)]) [0, 1, 2, 3, 4, 5] rfl ?_
      exact wB_L_law_3320 hk28 H
    rcases zif H with ⟨c56, H⟩ | ⟨c56, H⟩
    · refine zw_tableIn (pc := 45) (3288) 3333 dL_law_45 (by rw [c56]; decide) (by rw [c56]; decide) (by rw [c56]; decide) rfl ?_
      refine zW_pick (lv' := [(0, vR a0), (1, vR a1), (2, vR a2), (3, vR a3), (4, vR a4), (5, vI a5)]) [0, 1, 2, 3, 4, 5] rfl ?_
      exact wB_L_law_3333 hk28 H
    refine zw_tableOut (pc := 45) 3377 dL_law_45 (ztbL (0) 51 [(0 : Int32), (1 : Int32), (2 : Int32), (3 : Int32), (4 : Int32), (5 : Int32), (6 : Int32), (7 : Int32), (8 : Int32), (9 : Int32), (10 : Int32), (11 : Int32), (12 : Int32), (13 : Int32), (14 : Int32), (15 : Int32), (16 : Int32), (17 : Int32), (18 : Int32), (19 : Int32), (20 : Int32), (21 : Int32), (22 : Int32), (23 : Int32), (24 : Int32), (25 : Int32), (26 : Int32), (27 : Int32), (28 : Int32), (29 : Int32), (30 : Int32), (31 : Int32), (32 : Int32), (33 : Int32), (34 : Int32), (35 : Int32), (36 : Int32), (37 : Int32), (38 : Int32), (39 : Int32), (40 : Int32), (41 : Int32), (42 : Int32), (43 : Int32), (44 : Int32), (45 : Int32), (46 : Int32), (47 : Int32), (48 : Int32), (49 : Int32), (50 : Int32)] rfl (by decide +kernel) (List.forall_mem_cons.mpr ⟨zne c6, List.forall_mem_cons.mpr ⟨zne c7, List.forall_mem_cons.mpr ⟨zne c8, List.forall_mem_cons.mpr ⟨zne c9, List.forall_mem_cons.mpr ⟨zne c10, List.forall_mem_cons.mpr ⟨zne c11, List.forall_mem_cons.mpr ⟨zne c12, List.forall_mem_cons.mpr ⟨zne c13, List.forall_mem_cons.mpr ⟨zne c14, List.forall_mem_cons.mpr ⟨zne c15, List.forall_mem_cons.mpr ⟨zne c16, List.forall_mem_cons.mpr ⟨zne c17, List.forall_mem_cons.mpr ⟨zne c18, List.forall_mem_cons.mpr ⟨zne c19, List.forall_mem_cons.mpr ⟨zne c20, List.forall_mem_cons.mpr ⟨zne c21, List.forall_mem_cons.mpr ⟨zne c22, List.forall_mem_cons.mpr ⟨zne c23, List.forall_mem_cons.mpr ⟨zne c24, List.forall_mem_cons.mpr ⟨zne c25, List.forall_mem_cons.mpr ⟨zne c26, List.forall_mem_cons.mpr ⟨zne c27, List.forall_mem_cons.mpr ⟨zne c28, List.forall_mem_cons.mpr ⟨zne c29, List.forall_mem_cons.mpr ⟨zne c30, List.forall_mem_cons.mpr ⟨zne c31, List.forall_mem_cons.mpr ⟨zne c32, List.forall_mem_cons.mpr ⟨zne c33, List.forall_mem_cons.mpr ⟨zne c34, List.forall_mem_cons.mpr ⟨zne c35, List.forall_mem_cons.mpr ⟨zne c36, List.forall_mem_cons.mpr ⟨zne c37, List.forall_mem_cons.mpr ⟨zne c38, List.forall_mem_cons.mpr ⟨zne c39, List.forall_mem_cons.mpr ⟨zne c40, List.forall_mem_cons.mpr ⟨zne c41, List.forall_mem_cons.mpr ⟨zne c42, List.forall_mem_cons.mpr ⟨zne c43, List.forall_mem_cons.mpr ⟨zne c44, List.forall_mem_cons.mpr ⟨zne c45, List.forall_mem_cons.mpr ⟨zne c46, List.forall_mem_cons.mpr ⟨zne c47, List.forall_mem_cons.mpr ⟨zne c48, List.forall_mem_cons.mpr ⟨zne c49, List.forall_mem_cons.mpr ⟨zne c50, List.forall_mem_cons.mpr ⟨zne c51, List.forall_mem_cons.mpr ⟨zne c52, List.forall_mem_cons.mpr ⟨zne c53, List.forall_mem_cons.mpr ⟨zne c54, List.forall_mem_cons.mpr ⟨zne c55, List.forall_mem_cons.mpr ⟨zne c56, fun _ hp => nomatch hp⟩⟩⟩⟩⟩⟩⟩⟩⟩⟩⟩⟩⟩⟩⟩⟩⟩⟩⟩⟩⟩⟩⟩⟩⟩⟩⟩⟩⟩⟩⟩⟩⟩⟩⟩⟩⟩⟩⟩⟩⟩⟩⟩⟩⟩⟩⟩⟩⟩⟩⟩)) rfl ?_
    refine zw_iinc (pc := 3377) (v := (a5 + (6 : Int32))) (lv' := [(5, vI (a5 + (6 : Int32))), (0, vR a0), (1, vR a1), (2, vR a2), (3, vR a3), (4, vR a4)]) dL_law_3377 5 rfl rfl (by decide) rfl ?_
    refine zw_goto (pc := 3380) (tgt := 28) dL_law_3380 rfl ?_
    refine zW_pick (lv' := [(0, vR a0), (1, vR a1), (2, vR a2), (3, vR a3), (4, vR a4), (5, vI (a5 + (6 : Int32)))]) [1, 2, 3, 4, 5, 0] rfl ?_
    exact hk28 _ _ _ _ _ _ _ H
def f_L_law (p0 : Option Nat) (h : zH) : Option ((Int32 ⊕ Nat) × zH) :=
  zb2 (znw 1 h) fun q1 h2 =>
  (some q1).bind fun b4 =>
  (f_X1_init (some b4) h2).bind fun h7 =>
  zb2 (znw 4 h7) fun q8 h9 =>
  (some q8).bind fun b11 =>
  (f_X4_init (some b11) h9).bind fun h14 =>
  zb2 (zna 51 (1 : Int32) h14) fun q15 h16 =>
  zb2 (zna 52 (1 : Int32) h16) fun q18 h19 =>
  zloop (B_L_law_28) (fun _ _ _ _ _ _ _ => none) zFU p0 (some q1) (some q8) (some q15) (some q18) (0 : Int32) h19
theorem w_L_law {G : zG} {p0 : Option Nat} {h : zH} {vo : Int32 ⊕ Nat} {vh : zH} (H : f_L_law p0 h = some (vo, vh)) : zW G M_L_law 343 h (zoI vo) vh 0 [(0, vR p0)] [] h := by
  unfold f_L_law at H
  obtain ⟨q1, h2, e3, H⟩ := zbind2 H
  refine zy_new (pc := 0) dL_law_0 ln_L_8 e3 ?_
  refine zw_dup (pc := 3) dL_law_3 rfl ?_
  obtain ⟨b4, e5, H⟩ := zbind H
  obtain ⟨h7, e6, H⟩ := zbind H
  refine zw_invI (pc := 4) (M' := M_X1_init) (A := []) [vR (some q1)] dL_law_4 (Or.inl q224) mf_X1_init rfl rfl (w_X1_init e6) (Nat.le_of_ble_eq_true rfl) rfl (by rw [← e5]; rfl) (Nat.le_of_ble_eq_true rfl) (zku ?_) zkn9
  refine zw_astore_n (pc := 7) (lv' := [(1, vR (some q1)), (0, vR p0)]) dL_law_7 rfl (by decide) rfl ?_
  obtain ⟨q8, h9, e10, H⟩ := zbind2 H
  refine zy_new (pc := 8) dL_law_8 ln_L_164 e10 ?_
  refine zw_dup (pc := 11) dL_law_11 rfl ?_
  obtain ⟨b11, e12, H⟩ := zbind H
  obtain ⟨h14, e13, H⟩ := zbind H
  refine zw_invI (pc := 12) (M' := M_X4_init) (A := []) [vR (some q8)] dL_law_12 (Or.inl q2153) mf_X4_init rfl rfl (w_X4_init e13) (Nat.le_of_ble_eq_true rfl) rfl (by rw [← e12]; rfl) (Nat.le_of_ble_eq_true rfl) (zku ?_) zkn9
  refine zw_astore_n (pc := 15) (lv' := [(2, vR (some q8)), (1, vR (some q1)), (0, vR p0)]) dL_law_15 rfl (by decide) rfl ?_
  refine zw_iconst (pc := 16) (v := (1 : Int32)) dL_law_16 (by decide) ?_
  obtain ⟨q15, h16, e17, H⟩ := zbind2 H
  refine zy_newa (pc := 17) (k := 51) dL_law_17 (by decide) q3016 e17 ?_
  refine zw_astore_n (pc := 19) (lv' := [(3, vR (some q15)), (2, vR (some q8)), (1, vR (some q1)), (0, vR p0)]) dL_law_19 rfl (by decide) rfl ?_
  refine zw_iconst (pc := 20) (v := (1 : Int32)) dL_law_20 (by decide) ?_
  obtain ⟨q18, h19, e20, H⟩ := zbind2 H
  refine zy_newa (pc := 21) (k := 52) dL_law_21 (by decide) q3017 e20 ?_
  refine zw_astore (pc := 23) (lv' := [(4, vR (some q18)), (3, vR (some q15)), (2, vR (some q8)), (1, vR (some q1)), (0, vR p0)]) dL_law_23 (by decide) rfl ?_
  refine zw_iconst (pc := 25) (v := (0 : Int32)) dL_law_25 (by decide) ?_
  refine zw_istore (pc := 26) (lv' := [(5, vI (0 : Int32)), (4, vR (some q18)), (3, vR (some q15)), (2, vR (some q8)), (1, vR (some q1)), (0, vR p0)]) dL_law_26 (by decide) rfl ?_
  refine zW_pick (lv' := [(0, vR p0), (1, vR (some q1)), (2, vR (some q8)), (3, vR (some q15)), (4, vR (some q18)), (5, vI (0 : Int32))]) [5, 4, 3, 2, 1, 0] rfl ?_
  exact zloop_ind (body := (B_L_law_28)) (bot := (fun _ _ _ _ _ _ _ => none)) (P := (fun (f : Option Nat → Option Nat → Option Nat → Option Nat → Option Nat → Int32 → zH → Option ((Int32 ⊕ Nat) × zH)) => ∀ (b0 : Option Nat) (b1 : Option Nat) (b2 : Option Nat) (b3 : Option Nat) (b4 : Option Nat) (b5 : Int32) (h' : zH), f b0 b1 b2 b3 b4 b5 h' = some (vo, vh) → zW G M_L_law 343 h (zoI vo) vh 28 [(0, vR b0), (1, vR b1), (2, vR b2), (3, vR b3), (4, vR b4), (5, vI b5)] [] h')) zFU (fun _ _ _ _ _ _ _ H => nomatch H) (fun f hf c0 c1 c2 c3 c4 c5 h' H => wB_L_law_28 hf H) _ _ _ _ _ _ _ H
