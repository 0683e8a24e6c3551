/-! THE PURE PICTURE: J1 J3 J18 J4 (written by gen/main.py) -/
set_option maxRecDepth 100000
def M_J0_init : zM := (yJ0_init, cJ0_init, 1, none, [])
theorem mf_J0_init : zMi M_J0_init 0 := ⟨⟨q288, q183, ⟨by decide +kernel, by decide +kernel⟩, by decide +kernel, by decide⟩, q287⟩
def f_J0_init (p0 : Option Nat) (h : zH) : Option Unit :=
  p0.bind fun b1 =>
  some ()
theorem w_J0_init {G : zG} {p0 : Option Nat} {h : zH} {vx : Unit} (H : f_J0_init p0 h = some vx) : zMet G M_J0_init 2 [vR p0] h (.inl none) h := by
  refine zMet.of (by decide +kernel) (Nat.le_of_ble_eq_true rfl) ?_
  show zW G M_J0_init 2 h (.inl none) h 0 [(0, vR p0)] [] h
  unfold f_J0_init at H
  refine zw_aload_n (pc := 0) dJ0_init_0 rfl 0 rfl ?_
  obtain ⟨b1, e2, H⟩ := zbind H
  refine zy_objInit (pc := 1) dJ0_init_1 q289 e2 (Nat.le_of_ble_eq_true rfl) (Nat.le_of_ble_eq_true rfl) ?_
  obtain rfl := Option.some.inj H
  exact zw_vret (pc := 4) dJ0_init_4 rfl rfl rfl
theorem lp_J1_3 {nm : String} : zFp "java/util/ArrayDeque" nm 3 17 0 := ⟨_, "java/util/ArrayDeque", by decide, rfl, by decide, Or.inl rfl, Or.inl ⟨Or.inl q292, rfl⟩⟩
def M_J1_init : zM := (yJ1_init, cJ1_init, 1, none, [])
theorem mf_J1_init : zMi M_J1_init 0 := ⟨⟨q285, q184, ⟨by decide +kernel, by decide +kernel⟩, by decide +kernel, by decide⟩, q284⟩
def f_J1_init (p0 : Option Nat) (h : zH) : Option zH :=
  p0.bind fun b1 =>
  (f_J0_init (some b1) h).bind fun _ =>
  zb2 (zna 60 (17 : Int32) h) fun q5 h6 =>
  (zpR 17 0 p0 (some q5) h6).bind fun h8 =>
  some h8
theorem w_J1_init {G : zG} {p0 : Option Nat} {h : zH} {vh : zH} (H : f_J1_init p0 h = some vh) : zMet G M_J1_init 3 [vR p0] h (.inl none) vh := by
  refine zMet.of (by decide +kernel) (Nat.le_of_ble_eq_true rfl) ?_
  show zW G M_J1_init 3 h (.inl none) vh 0 [(0, vR p0)] [] h
  unfold f_J1_init at H
  refine zw_aload_n (pc := 0) dJ1_init_0 rfl 0 rfl ?_
  obtain ⟨b1, e2, H⟩ := zbind H
  obtain ⟨x4, e3, H⟩ := zbind H
  refine zw_invI (pc := 1) (M' := M_J0_init) (A := []) [] dJ1_init_1 (Or.inl q286) mf_J0_init rfl rfl (w_J0_init e3) (Nat.le_of_ble_eq_true rfl) rfl (by rw [← e2]; rfl) (Nat.le_of_ble_eq_true rfl) (zku ?_) zkn9
  refine zw_aload_n (pc := 4) dJ1_init_4 rfl 0 rfl ?_
  refine zw_bipush (pc := 5) (v := (17 : Int32)) dJ1_init_5 (by decide) ?_
  obtain ⟨q5, h6, e7, H⟩ := zbind2 H
  refine zy_anew (pc := 7) (k := 60) dJ1_init_7 (by decide) rfl q290 (by decide +kernel) e7 ?_
  obtain ⟨h8, e9, H⟩ := zbind H
  refine zy_putR (pc := 10) dJ1_init_10 lp_J1_3 rfl e9 ?_
  obtain rfl := Option.some.inj H
  exact zw_vret (pc := 13) dJ1_init_13 rfl rfl rfl
def M_J1_circularClear : zM := (yJ1_circularClear, cJ1_circularClear, 4, none, [])
theorem mf_J1_circularClear : zMs M_J1_circularClear 3 := ⟨⟨q1457, q184, ⟨by decide +kernel, by decide +kernel⟩, by decide +kernel, by decide⟩, q1456⟩
def B_J1_circularClear_12 (k12 : Option Nat → Int32 → Int32 → Int32 → zH → Option zH) (a0 : Option Nat) (a1 : Int32) (a2 : Int32) (a3 : Int32) (h : zH) : Option zH :=
  if a3 ≤ a1 then
  if a3 = a2 then
  some h
  else
  k12 a0 (0 : Int32) a2 a2 h
  else
  (zsR 60 a0 a1 none h).bind fun h3 =>
  k12 a0 (a1 + (1 : Int32)) a2 a3 h3
theorem wB_J1_circularClear_12 {G : zG} {h0 h : zH} {vh : zH} {k12 : Option Nat → Int32 → Int32 → Int32 → zH → Option zH} (hk12 : ∀ (b0 : Option Nat) (b1 : Int32) (b2 : Int32) (b3 : Int32) (h' : zH), k12 b0 b1 b2 b3 h' = some vh → zW G M_J1_circularClear 2 h0 (.inl none) vh 12 [(0, vR b0), (1, vI b1), (2, vI b2), (3, vI b3)] [] h') {a0 : Option Nat} {a1 : Int32} {a2 : Int32} {a3 : Int32} (H : B_J1_circularClear_12 k12 a0 a1 a2 a3 h = some vh) : zW G M_J1_circularClear 2 h0 (.inl none) vh 12 [(0, vR a0), (1, vI a1), (2, vI a2), (3, vI a3)] [] h := by
  unfold B_J1_circularClear_12 at H
  refine zw_iload_n (pc := 12) dJ1_circularClear_12 rfl 1 rfl ?_
  refine zw_iload_n (pc := 13) dJ1_circularClear_13 rfl 3 rfl ?_
  rcases zif H with ⟨c1, H⟩ | ⟨c1, H⟩
  · refine zw_icmp_ge (pc := 14) (tgt := 27) dJ1_circularClear_14 rfl (fun _ => ?_) (fun q => absurd c1 q)
    refine zw_iload_n (pc := 27) dJ1_circularClear_27 rfl 3 rfl ?_
    refine zw_iload_n (pc := 28) dJ1_circularClear_28 rfl 2 rfl ?_
    rcases zif H with ⟨c2, H⟩ | ⟨c2, H⟩
    · refine zw_icmp_ne (pc := 29) (tgt := 35) dJ1_circularClear_29 rfl (fun q => absurd c2 q) (fun _ => ?_)
      refine zw_goto (pc := 32) (tgt := 42) dJ1_circularClear_32 rfl ?_
      obtain rfl := Option.some.inj H
      exact zw_vret (pc := 42) dJ1_circularClear_42 rfl rfl rfl
    · refine zw_icmp_ne (pc := 29) (tgt := 35) dJ1_circularClear_29 rfl (fun _ => ?_) (fun q => absurd q c2)
      refine zw_iconst (pc := 35) (v := (0 : Int32)) dJ1_circularClear_35 (by decide) ?_
      refine zw_istore_n (pc := 36) (lv' := [(1, vI (0 : Int32)), (0, vR a0), (2, vI a2), (3, vI a3)]) dJ1_circularClear_36 rfl (by decide) rfl ?_
      refine zw_iload_n (pc := 37) dJ1_circularClear_37 rfl 2 rfl ?_
      refine zw_istore_n (pc := 38) (lv' := [(3, vI a2), (1, vI (0 : Int32)), (0, vR a0), (2, vI a2)]) dJ1_circularClear_38 rfl (by decide) rfl ?_
      refine zw_goto (pc := 39) (tgt := 12) dJ1_circularClear_39 rfl ?_
      refine zW_pick (lv' := [(0, vR a0), (1, vI (0 : Int32)), (2, vI a2), (3, vI a2)]) [2, 1, 3, 0] rfl ?_
      exact hk12 _ _ _ _ _ H
  · refine zw_icmp_ge (pc := 14) (tgt := 27) dJ1_circularClear_14 rfl (fun q => absurd q c1) (fun _ => ?_)
    refine zw_aload_n (pc := 17) dJ1_circularClear_17 rfl 0 rfl ?_
    refine zw_iload_n (pc := 18) dJ1_circularClear_18 rfl 1 rfl ?_
    refine zw_null (pc := 19) dJ1_circularClear_19 ?_
    obtain ⟨h3, e4, H⟩ := zbind H
    refine zy_aast (pc := 20) dJ1_circularClear_20 (by decide) e4 ?_
    refine zw_iinc (pc := 21) (v := (a1 + (1 : Int32))) (lv' := [(1, vI (a1 + (1 : Int32))), (0, vR a0), (2, vI a2), (3, vI a3)]) dJ1_circularClear_21 1 rfl rfl (by decide) rfl ?_
    refine zw_goto (pc := 24) (tgt := 12) dJ1_circularClear_24 rfl ?_
    refine zW_pick (lv' := [(0, vR a0), (1, vI (a1 + (1 : Int32))), (2, vI a2), (3, vI a3)]) [1, 0, 2, 3] rfl ?_
    exact hk12 _ _ _ _ _ H
def f_J1_circularClear (p0 : Option Nat) (p1 : Int32) (p2 : Int32) (h : zH) : Option zH :=
  if p2 < p1 then
  (zaN p0 h).bind fun x2 =>
  zloop (B_J1_circularClear_12) (fun _ _ _ _ _ => none) zFU p0 p1 p2 x2 h
  else
  zloop (B_J1_circularClear_12) (fun _ _ _ _ _ => none) zFU p0 p1 p2 p2 h
theorem w_J1_circularClear {G : zG} {p0 : Option Nat} {p1 : Int32} {p2 : Int32} {h : zH} {vh : zH} (H : f_J1_circularClear p0 p1 p2 h = some vh) : zMet G M_J1_circularClear 2 [vR p0, vI p1, vI p2] h (.inl none) vh := by
  refine zMet.of (by decide +kernel) (Nat.le_of_ble_eq_true rfl) ?_
  show zW G M_J1_circularClear 2 h (.inl none) vh 0 [(0, vR p0), (1, vI p1), (2, vI p2)] [] h
  unfold f_J1_circularClear at H
  refine zw_iload_n (pc := 0) dJ1_circularClear_0 rfl 1 rfl ?_
  refine zw_iload_n (pc := 1) dJ1_circularClear_1 rfl 2 rfl ?_
  rcases zif H with ⟨c1, H⟩ | ⟨c1, H⟩
  · refine zw_icmp_gt (pc := 2) (tgt := 9) dJ1_circularClear_2 rfl (fun _ => ?_) (fun q => absurd c1 q)
    refine zw_aload_n (pc := 9) dJ1_circularClear_9 rfl 0 rfl ?_
    obtain ⟨x2, e3, H⟩ := zbind H
    refine zy_alen (pc := 10) dJ1_circularClear_10 e3 ?_
    refine zw_istore_n (pc := 11) (lv' := [(3, vI x2), (0, vR p0), (1, vI p1), (2, vI p2)]) dJ1_circularClear_11 rfl (by decide) rfl ?_
    refine zW_pick (lv' := [(0, vR p0), (1, vI p1), (2, vI p2), (3, vI x2)]) [1, 2, 3, 0] rfl ?_
    exact zloop_ind (body := (B_J1_circularClear_12)) (bot := (fun _ _ _ _ _ => none)) (P := (fun (f : Option Nat → Int32 → Int32 → Int32 → zH → Option zH) => ∀ (b0 : Option Nat) (b1 : Int32) (b2 : Int32) (b3 : Int32) (h' : zH), f b0 b1 b2 b3 h' = some vh → zW G M_J1_circularClear 2 h (.inl none) vh 12 [(0, vR b0), (1, vI b1), (2, vI b2), (3, vI b3)] [] h')) zFU (fun _ _ _ _ _ H => nomatch H) (fun f hf c0 c1 c2 c3 h' H => wB_J1_circularClear_12 hf H) _ _ _ _ _ H
  · refine zw_icmp_gt (pc := 2) (tgt := 9) dJ1_circularClear_2 rfl (fun q => absurd q c1) (fun _ => ?_)
    refine zw_iload_n (pc := 5) dJ1_circularClear_5 rfl 2 rfl ?_
    refine zw_goto (pc := 6) (tgt := 11) dJ1_circularClear_6 rfl ?_
    refine zw_istore_n (pc := 11) (lv' := [(3, vI p2), (0, vR p0), (1, vI p1), (2, vI p2)]) dJ1_circularClear_11 rfl (by decide) rfl ?_
    refine zW_pick (lv' := [(0, vR p0), (1, vI p1), (2, vI p2), (3, vI p2)]) [1, 2, 3, 0] rfl ?_
    exact zloop_ind (body := (B_J1_circularClear_12)) (bot := (fun _ _ _ _ _ => none)) (P := (fun (f : Option Nat → Int32 → Int32 → Int32 → zH → Option zH) => ∀ (b0 : Option Nat) (b1 : Int32) (b2 : Int32) (b3 : Int32) (h' : zH), f b0 b1 b2 b3 h' = some vh → zW G M_J1_circularClear 2 h (.inl none) vh 12 [(0, vR b0), (1, vI b1), (2, vI b2), (3, vI b3)] [] h')) zFU (fun _ _ _ _ _ H => nomatch H) (fun f hf c0 c1 c2 c3 h' H => wB_J1_circularClear_12 hf H) _ _ _ _ _ H
theorem lf_J1_3 : zFl "java/util/ArrayDeque" 3 17 0 := ⟨_, "java/util/ArrayDeque", by decide, rfl, by decide, Or.inl q292, Or.inl rfl⟩
theorem lf_J1_24 : zFl "java/util/ArrayDeque" 24 17 1 := ⟨_, "java/util/ArrayDeque", by decide, rfl, by decide, Or.inl q293, Or.inl rfl⟩
theorem lf_J1_20 : zFl "java/util/ArrayDeque" 20 17 2 := ⟨_, "java/util/ArrayDeque", by decide, rfl, by decide, Or.inl q294, Or.inl rfl⟩
theorem lp_J1_20 {nm : String} : zFp "java/util/ArrayDeque" nm 20 17 2 := ⟨_, "java/util/ArrayDeque", by decide, rfl, by decide, Or.inl rfl, Or.inl ⟨Or.inl q294, rfl⟩⟩
theorem lp_J1_24 {nm : String} : zFp "java/util/ArrayDeque" nm 24 17 1 := ⟨_, "java/util/ArrayDeque", by decide, rfl, by decide, Or.inl rfl, Or.inl ⟨Or.inl q293, rfl⟩⟩
def M_J1_clear : zM := (yJ1_clear, cJ1_clear, 1, none, [])
theorem mf_J1_clear : zMi M_J1_clear 0 := ⟨⟨q1454, q184, ⟨by decide +kernel, by decide +kernel⟩, by decide +kernel, by decide⟩, q1452⟩
def f_J1_clear (p0 : Option Nat) (h : zH) : Option zH :=
  (zgR 17 0 p0 h).bind fun x1 =>
  (zgI 17 1 p0 h).bind fun x3 =>
  (zgI 17 2 p0 h).bind fun x5 =>
  (f_J1_circularClear x1 x3 x5 h).bind fun h8 =>
  (zpI 17 2 p0 (0 : Int32) h8).bind fun h9 =>
  (zpI 17 1 p0 (0 : Int32) h9).bind fun h11 =>
  some h11
theorem w_J1_clear {G : zG} {p0 : Option Nat} {h : zH} {vh : zH} (H : f_J1_clear p0 h = some vh) : zMet G M_J1_clear 3 [vR p0] h (.inl none) vh := by
  refine zMet.of (by decide +kernel) (Nat.le_of_ble_eq_true rfl) ?_
  show zW G M_J1_clear 3 h (.inl none) vh 0 [(0, vR p0)] [] h
  unfold f_J1_clear at H
  refine zw_aload_n (pc := 0) dJ1_clear_0 rfl 0 rfl ?_
  obtain ⟨x1, e2, H⟩ := zbind H
  refine zy_getR (pc := 1) dJ1_clear_1 lf_J1_3 (fun _ _ => rfl) e2 ?_
  refine zw_aload_n (pc := 4) dJ1_clear_4 rfl 0 rfl ?_
  obtain ⟨x3, e4, H⟩ := zbind H
  refine zy_getI (pc := 5) dJ1_clear_5 lf_J1_24 (fun _ _ => rfl) e4 ?_
  refine zw_aload_n (pc := 8) dJ1_clear_8 rfl 0 rfl ?_
  obtain ⟨x5, e6, H⟩ := zbind H
  refine zy_getI (pc := 9) dJ1_clear_9 lf_J1_20 (fun _ _ => rfl) e6 ?_
  obtain ⟨h8, e7, H⟩ := zbind H
  refine zw_invS (pc := 12) (M' := M_J1_circularClear) (A := [vR x1, vI x3, vI x5]) [] dJ1_clear_12 (Or.inl q1455) mf_J1_circularClear (w_J1_circularClear e7) (Nat.le_of_ble_eq_true rfl) rfl rfl (Nat.le_of_ble_eq_true rfl) (zku ?_) zkn9
  refine zw_aload_n (pc := 15) dJ1_clear_15 rfl 0 rfl ?_
  refine zw_aload_n (pc := 16) dJ1_clear_16 rfl 0 rfl ?_
  refine zw_iconst (pc := 17) (v := (0 : Int32)) dJ1_clear_17 (by decide) ?_
  refine zw_dup_x1 (pc := 18) dJ1_clear_18 rfl rfl ?_
  obtain ⟨h9, e10, H⟩ := zbind H
  refine zy_putI (pc := 19) dJ1_clear_19 lp_J1_20 rfl e10 ?_
  obtain ⟨h11, e12, H⟩ := zbind H
  refine zy_putI (pc := 22) dJ1_clear_22 lp_J1_24 rfl e12 ?_
  obtain rfl := Option.some.inj H
  exact zw_vret (pc := 25) dJ1_clear_25 rfl rfl rfl
def M_J12_min : zM := (yJ12_min, cJ12_min, 2, (.some .int), [])
theorem mf_J12_min : zMs M_J12_min 2 := ⟨⟨q742, q197, ⟨by decide +kernel, by decide +kernel⟩, by decide +kernel, by decide⟩, q741⟩
def f_J12_min (p0 : Int32) (p1 : Int32) (h : zH) : Option Int32 :=
  if p1 < p0 then
  some p1
  else
  some p0
theorem w_J12_min {G : zG} {p0 : Int32} {p1 : Int32} {h : zH} {vx : Int32} (H : f_J12_min p0 p1 h = some vx) : zMet G M_J12_min 2 [vI p0, vI p1] h (.inl (some (vI vx))) h := by
  refine zMet.of (by decide +kernel) (Nat.le_of_ble_eq_true rfl) ?_
  show zW G M_J12_min 2 h (.inl (some (vI vx))) h 0 [(0, vI p0), (1, vI p1)] [] h
  unfold f_J12_min at H
  refine zw_iload_n (pc := 0) dJ12_min_0 rfl 0 rfl ?_
  refine zw_iload_n (pc := 1) dJ12_min_1 rfl 1 rfl ?_
  rcases zif H with ⟨c1, H⟩ | ⟨c1, H⟩
  · refine zw_icmp_gt (pc := 2) (tgt := 9) dJ12_min_2 rfl (fun _ => ?_) (fun q => absurd c1 q)
    refine zw_iload_n (pc := 9) dJ12_min_9 rfl 1 rfl ?_
    obtain rfl := Option.some.inj H
    exact zw_iret (pc := 10) dJ12_min_10 rfl rfl rfl
  · refine zw_icmp_gt (pc := 2) (tgt := 9) dJ12_min_2 rfl (fun q => absurd q c1) (fun _ => ?_)
    refine zw_iload_n (pc := 5) dJ12_min_5 rfl 0 rfl ?_
    refine zw_goto (pc := 6) (tgt := 10) dJ12_min_6 rfl ?_
    obtain rfl := Option.some.inj H
    exact zw_iret (pc := 10) dJ12_min_10 rfl rfl rfl
def M_J13_copyOf_3 : zM := (yJ13_copyOf_3, cJ13_copyOf_3, 4, (.some (.array (.object "java/lang/Object"))), [])
theorem mf_J13_copyOf_3 : zMs M_J13_copyOf_3 3 := ⟨⟨q1296, q198, ⟨by decide +kernel, by decide +kernel⟩, by decide +kernel, by decide⟩, q1295⟩
def f_J13_copyOf_3 (p0 : Option Nat) (p1 : Int32) (p2 : Option Nat) (h : zH) : Option (Option Nat × zH) :=
  (zsv h 40).bind fun x1 =>
  if p2 = (some x1) then
  zb2 (zna 60 p1 h) fun q4 h5 =>
  (zaN p0 h5).bind fun x7 =>
  (f_J12_min x7 p1 h5).bind fun x10 =>
  (zcpR p0 (0 : Int32) (some q4) (0 : Int32) x10 h5).bind fun h11 =>
  some ((some q4), h11)
  else
  none
theorem w_J13_copyOf_3 {G : zG} {p0 : Option Nat} {p1 : Int32} {p2 : Option Nat} {h : zH} {vx : Option Nat} {vh : zH} (H : f_J13_copyOf_3 p0 p1 p2 h = some (vx, vh)) : zMet G M_J13_copyOf_3 3 [vR p0, vI p1, vR p2] h (.inl (some (vR vx))) vh := by
  refine zMet.of (by decide +kernel) (Nat.le_of_ble_eq_true rfl) ?_
  show zW G M_J13_copyOf_3 3 h (.inl (some (vR vx))) vh 0 [(0, vR p0), (1, vI p1), (2, vR p2)] [] h
  unfold f_J13_copyOf_3 at H
  refine zw_aload_n (pc := 0) dJ13_copyOf_3_0 rfl 2 rfl ?_
  obtain ⟨x1, e2, H⟩ := zbind H
  refine zw_ldcM (pc := 1) dJ13_copyOf_3_1 q1297 e2 ?_
  rcases zif H with ⟨c3, H⟩ | ⟨c3, H⟩
  · refine zw_acmp_ne (pc := 3) (tgt := 13) dJ13_copyOf_3_3 rfl (fun q => absurd c3 q) (fun _ => ?_)
    refine zw_iload_n (pc := 6) dJ13_copyOf_3_6 rfl 1 rfl ?_
    obtain ⟨q4, h5, e6, H⟩ := zbind2 H
    refine zy_anew (pc := 7) (k := 60) dJ13_copyOf_3_7 (by decide) rfl q1298 (by decide +kernel) e6 ?_
    refine zw_goto (pc := 10) (tgt := 24) dJ13_copyOf_3_10 rfl ?_
    refine zw_astore_n (pc := 24) (lv' := [(3, vR (some q4)), (0, vR p0), (1, vI p1), (2, vR p2)]) dJ13_copyOf_3_24 rfl (by decide) rfl ?_
    refine zw_aload_n (pc := 25) dJ13_copyOf_3_25 rfl 1 rfl ?_
    refine zw_iconst (pc := 26) (v := (0 : Int32)) dJ13_copyOf_3_26 (by decide) ?_
    refine zw_aload_n (pc := 27) dJ13_copyOf_3_27 rfl 0 rfl ?_
    refine zw_iconst (pc := 28) (v := (0 : Int32)) dJ13_copyOf_3_28 (by decide) ?_
    refine zw_aload_n (pc := 29) dJ13_copyOf_3_29 rfl 1 rfl ?_
    obtain ⟨x7, e8, H⟩ := zbind H
    refine zy_alen (pc := 30) dJ13_copyOf_3_30 e8 ?_
    refine zw_iload_n (pc := 31) dJ13_copyOf_3_31 rfl 2 rfl ?_
    obtain ⟨x10, e9, H⟩ := zbind H
    refine zw_invS (pc := 32) (M' := M_J12_min) (A := [vI x7, vI p1]) [vI (0 : Int32), vR (some q4), vI (0 : Int32), vR p0] dJ13_copyOf_3_32 (Or.inl q740) mf_J12_min (w_J12_min e9) (Nat.le_of_ble_eq_true rfl) rfl rfl (Nat.le_of_ble_eq_true rfl) (zkv ?_) zkn9
    obtain ⟨h11, e12, H⟩ := zbind H
    refine zy_copyR (pc := 35) dJ13_copyOf_3_35 q743 (Nat.le_of_ble_eq_true rfl) e12 (Nat.le_of_ble_eq_true rfl) ?_
    refine zw_aload_n (pc := 38) dJ13_copyOf_3_38 rfl 0 rfl ?_
    obtain ⟨rfl, rfl⟩ := Prod.mk.inj (Option.some.inj H)
    exact zw_aret (pc := 39) dJ13_copyOf_3_39 rfl (Or.inr ⟨_, rfl⟩) rfl rfl
  · refine zw_acmp_ne (pc := 3) (tgt := 13) dJ13_copyOf_3_3 rfl (fun _ => ?_) (fun q => absurd q c3)
    refine zw_aload_n (pc := 13) dJ13_copyOf_3_13 rfl 2 rfl ?_
    cases H
def M_J13_copyOf_2 : zM := (yJ13_copyOf_2, cJ13_copyOf_2, 2, (.some (.array (.object "java/lang/Object"))), [])
theorem mf_J13_copyOf_2 : zMs M_J13_copyOf_2 2 := ⟨⟨q1262, q198, ⟨by decide +kernel, by decide +kernel⟩, by decide +kernel, by decide⟩, q1261⟩
def f_J13_copyOf_2 (p0 : Option Nat) (p1 : Int32) (h : zH) : Option (Option Nat × zH) :=
  (zgC p0 h).bind fun x1 =>
  zb2 (f_J13_copyOf_3 p0 p1 (some x1) h) fun x5 h4 =>
  some (x5, h4)
theorem w_J13_copyOf_2 {G : zG} {p0 : Option Nat} {p1 : Int32} {h : zH} {vx : Option Nat} {vh : zH} (H : f_J13_copyOf_2 p0 p1 h = some (vx, vh)) : zMet G M_J13_copyOf_2 4 [vR p0, vI p1] h (.inl (some (vR vx))) vh := by
  refine zMet.of (by decide +kernel) (Nat.le_of_ble_eq_true rfl) ?_
  show zW G M_J13_copyOf_2 4 h (.inl (some (vR vx))) vh 0 [(0, vR p0), (1, vI p1)] [] h
  unfold f_J13_copyOf_2 at H
  refine zw_aload_n (pc := 0) dJ13_copyOf_2_0 rfl 0 rfl ?_
  refine zw_iload_n (pc := 1) dJ13_copyOf_2_1 rfl 1 rfl ?_
  refine zw_aload_n (pc := 2) dJ13_copyOf_2_2 rfl 0 rfl ?_
  obtain ⟨x1, e2, H⟩ := zbind H
  refine zy_getC (pc := 3) dJ13_copyOf_2_3 rfl rfl e2 (Nat.le_of_ble_eq_true rfl) (Nat.le_of_ble_eq_true rfl) ?_
  obtain ⟨x5, h4, e3, H⟩ := zbind2 H
  refine zw_invS (pc := 6) (M' := M_J13_copyOf_3) (A := [vR p0, vI p1, vR (some x1)]) [] dJ13_copyOf_2_6 (Or.inl q1294) mf_J13_copyOf_3 (w_J13_copyOf_3 e3) (Nat.le_of_ble_eq_true rfl) rfl rfl (Nat.le_of_ble_eq_true rfl) (zkv ?_) zkn9
  obtain ⟨rfl, rfl⟩ := Prod.mk.inj (Option.some.inj H)
  exact zw_aret (pc := 9) dJ13_copyOf_2_9 rfl (Or.inr ⟨_, rfl⟩) rfl rfl
def M_J7_init_3 : zM := (yJ7_init_3, cJ7_init_3, 2, none, [])
theorem mf_J7_init_3 : zMi M_J7_init_3 1 := ⟨⟨q911, q191, ⟨by decide +kernel, by decide +kernel⟩, by decide +kernel, by decide⟩, q910⟩
def f_J7_init_3 (p0 : Option Nat) (p1 : Option Nat) (h : zH) : Option Unit :=
  none
theorem w_J7_init_3 {G : zG} {p0 : Option Nat} {p1 : Option Nat} {h : zH} {vx : Unit} (H : f_J7_init_3 p0 p1 h = some vx) : zMet G M_J7_init_3 2 [vR p0, vR p1] h (.inl none) h := by
  refine zMet.of (by decide +kernel) (Nat.le_of_ble_eq_true rfl) ?_
  show zW G M_J7_init_3 2 h (.inl none) h 0 [(0, vR p0), (1, vR p1)] [] h
  unfold f_J7_init_3 at H
  refine zw_aload_n (pc := 0) dJ7_init_3_0 rfl 0 rfl ?_
  refine zw_aload_n (pc := 1) dJ7_init_3_1 rfl 1 rfl ?_
  cases H
def M_J8_init_2 : zM := (yJ8_init_2, cJ8_init_2, 2, none, [])
theorem mf_J8_init_2 : zMi M_J8_init_2 1 := ⟨⟨q908, q192, ⟨by decide +kernel, by decide +kernel⟩, by decide +kernel, by decide⟩, q907⟩
def f_J8_init_2 (p0 : Option Nat) (p1 : Option Nat) (h : zH) : Option Unit :=
  p0.bind fun b1 =>
  (f_J7_init_3 (some b1) p1 h).bind fun _ =>
  some ()
theorem w_J8_init_2 {G : zG} {p0 : Option Nat} {p1 : Option Nat} {h : zH} {vx : Unit} (H : f_J8_init_2 p0 p1 h = some vx) : zMet G M_J8_init_2 3 [vR p0, vR p1] h (.inl none) h := by
  refine zMet.of (by decide +kernel) (Nat.le_of_ble_eq_true rfl) ?_
  show zW G M_J8_init_2 3 h (.inl none) h 0 [(0, vR p0), (1, vR p1)] [] h
  unfold f_J8_init_2 at H
  refine zw_aload_n (pc := 0) dJ8_init_2_0 rfl 0 rfl ?_
  refine zw_aload_n (pc := 1) dJ8_init_2_1 rfl 1 rfl ?_
  obtain ⟨b1, e2, H⟩ := zbind H
  obtain ⟨x4, e3, H⟩ := zbind H
  refine zw_invI (pc := 2) (M' := M_J7_init_3) (A := [vR p1]) [] dJ8_init_2_2 (Or.inl q909) mf_J7_init_3 rfl rfl (w_J7_init_3 e3) (Nat.le_of_ble_eq_true rfl) rfl (by rw [← e2]; rfl) (Nat.le_of_ble_eq_true rfl) (zku ?_) zkn9
  obtain rfl := Option.some.inj H
  exact zw_vret (pc := 5) dJ8_init_2_5 rfl rfl rfl
def M_J9_init_2 : zM := (yJ9_init_2, cJ9_init_2, 2, none, [])
theorem mf_J9_init_2 : zMi M_J9_init_2 1 := ⟨⟨q1693, q193, ⟨by decide +kernel, by decide +kernel⟩, by decide +kernel, by decide⟩, q1692⟩
def f_J9_init_2 (p0 : Option Nat) (p1 : Option Nat) (h : zH) : Option Unit :=
  p0.bind fun b1 =>
  (f_J8_init_2 (some b1) p1 h).bind fun _ =>
  some ()
theorem w_J9_init_2 {G : zG} {p0 : Option Nat} {p1 : Option Nat} {h : zH} {vx : Unit} (H : f_J9_init_2 p0 p1 h = some vx) : zMet G M_J9_init_2 4 [vR p0, vR p1] h (.inl none) h := by
  refine zMet.of (by decide +kernel) (Nat.le_of_ble_eq_true rfl) ?_
  show zW G M_J9_init_2 4 h (.inl none) h 0 [(0, vR p0), (1, vR p1)] [] h
  unfold f_J9_init_2 at H
  refine zw_aload_n (pc := 0) dJ9_init_2_0 rfl 0 rfl ?_
  refine zw_aload_n (pc := 1) dJ9_init_2_1 rfl 1 rfl ?_
  obtain ⟨b1, e2, H⟩ := zbind H
  obtain ⟨x4, e3, H⟩ := zbind H
  refine zw_invI (pc := 2) (M' := M_J8_init_2) (A := [vR p1]) [] dJ9_init_2_2 (Or.inl q1694) mf_J8_init_2 rfl rfl (w_J8_init_2 e3) (Nat.le_of_ble_eq_true rfl) rfl (by rw [← e2]; rfl) (Nat.le_of_ble_eq_true rfl) (zku ?_) zkn9
  obtain rfl := Option.some.inj H
  exact zw_vret (pc := 5) dJ9_init_2_5 rfl rfl rfl
def M_J1_newCapacity : zM := (yJ1_newCapacity, cJ1_newCapacity, 5, (.some .int), [])
theorem mf_J1_newCapacity : zMi M_J1_newCapacity 2 := ⟨⟨q1688, q184, ⟨by decide +kernel, by decide +kernel⟩, by decide +kernel, by decide⟩, q1687⟩
def f_J1_newCapacity (p0 : Option Nat) (p1 : Int32) (p2 : Int32) (h : zH) : Option (Int32 × zH) :=
  (zgR 17 0 p0 h).bind fun x1 =>
  (zaN x1 h).bind fun x3 =>
  if ((x3 + p1) - (2147483639 : Int32)) ≤ 0 then
  if p1 ≤ p2 then
  if 0 ≤ ((x3 + p2) - (2147483639 : Int32)) then
  some ((2147483639 : Int32), h)
  else
  some ((x3 + p2), h)
  else
  some ((x3 + p1), h)
  else
  if 0 ≤ (x3 + p1) then
  some ((2147483647 : Int32), h)
  else
  none
theorem w_J1_newCapacity {G : zG} {p0 : Option Nat} {p1 : Int32} {p2 : Int32} {h : zH} {vx : Int32} {vh : zH} (H : f_J1_newCapacity p0 p1 p2 h = some (vx, vh)) : zMet G M_J1_newCapacity 5 [vR p0, vI p1, vI p2] h (.inl (some (vI vx))) vh := by
  refine zMet.of (by decide +kernel) (Nat.le_of_ble_eq_true rfl) ?_
  show zW G M_J1_newCapacity 5 h (.inl (some (vI vx))) vh 0 [(0, vR p0), (1, vI p1), (2, vI p2)] [] h
  unfold f_J1_newCapacity at H
  refine zw_aload_n (pc := 0) dJ1_newCapacity_0 rfl 0 rfl ?_
  obtain ⟨x1, e2, H⟩ := zbind H
  refine zy_getR (pc := 1) dJ1_newCapacity_1 lf_J1_3 (fun _ _ => rfl) e2 ?_
  obtain ⟨x3, e4, H⟩ := zbind H
  refine zy_alen (pc := 4) dJ1_newCapacity_4 e4 ?_
  refine zw_istore_n (pc := 5) (lv' := [(3, vI x3), (0, vR p0), (1, vI p1), (2, vI p2)]) dJ1_newCapacity_5 rfl (by decide) rfl ?_
  refine zw_iload_n (pc := 6) dJ1_newCapacity_6 rfl 0 rfl ?_
  refine zw_iload_n (pc := 7) dJ1_newCapacity_7 rfl 2 rfl ?_
  refine zw_iadd (pc := 8) dJ1_newCapacity_8 ?_
  refine zw_dup (pc := 9) dJ1_newCapacity_9 rfl ?_
  refine zw_istore (pc := 10) (lv' := [(4, vI (x3 + p1)), (3, vI x3), (0, vR p0), (1, vI p1), (2, vI p2)]) dJ1_newCapacity_10 (by decide) rfl ?_
  refine zw_ldcI (pc := 12) dJ1_newCapacity_12 q1684 ?_
  refine zw_isub (pc := 14) dJ1_newCapacity_14 ?_
  rcases zif H with ⟨c5, H⟩ | ⟨c5, H⟩
  · refine zw_if_le (pc := 15) (tgt := 36) dJ1_newCapacity_15 rfl (fun _ => ?_) (fun q => absurd c5 q)
    refine zw_iload_n (pc := 36) dJ1_newCapacity_36 rfl 3 rfl ?_
    refine zw_iload_n (pc := 37) dJ1_newCapacity_37 rfl 4 rfl ?_
    rcases zif H with ⟨c6, H⟩ | ⟨c6, H⟩
    · refine zw_icmp_le (pc := 38) (tgt := 44) dJ1_newCapacity_38 rfl (fun _ => ?_) (fun q => absurd c6 q)
      refine zw_iload_n (pc := 44) dJ1_newCapacity_44 rfl 1 rfl ?_
      refine zw_iload_n (pc := 45) dJ1_newCapacity_45 rfl 4 rfl ?_
      refine zw_iadd (pc := 46) dJ1_newCapacity_46 ?_
      refine zw_ldcI (pc := 47) dJ1_newCapacity_47 q1684 ?_
      refine zw_isub (pc := 49) dJ1_newCapacity_49 ?_
      rcases zif H with ⟨c7, H⟩ | ⟨c7, H⟩
      · refine zw_if_ge (pc := 50) (tgt := 59) dJ1_newCapacity_50 rfl (fun _ => ?_) (fun q => absurd c7 q)
        refine zw_ldcI (pc := 59) dJ1_newCapacity_59 q1684 ?_
        obtain ⟨rfl, rfl⟩ := Prod.mk.inj (Option.some.inj H)
        exact zw_iret (pc := 61) dJ1_newCapacity_61 rfl rfl rfl
      · refine zw_if_ge (pc := 50) (tgt := 59) dJ1_newCapacity_50 rfl (fun q => absurd q c7) (fun _ => ?_)
        refine zw_iload_n (pc := 53) dJ1_newCapacity_53 rfl 1 rfl ?_
        refine zw_iload_n (pc := 54) dJ1_newCapacity_54 rfl 4 rfl ?_
        refine zw_iadd (pc := 55) dJ1_newCapacity_55 ?_
        refine zw_goto (pc := 56) (tgt := 61) dJ1_newCapacity_56 rfl ?_
        obtain ⟨rfl, rfl⟩ := Prod.mk.inj (Option.some.inj H)
        exact zw_iret (pc := 61) dJ1_newCapacity_61 rfl rfl rfl
    · refine zw_icmp_le (pc := 38) (tgt := 44) dJ1_newCapacity_38 rfl (fun q => absurd q c6) (fun _ => ?_)
      refine zw_iload (pc := 41) dJ1_newCapacity_41 0 rfl ?_
      obtain ⟨rfl, rfl⟩ := Prod.mk.inj (Option.some.inj H)
      exact zw_iret (pc := 43) dJ1_newCapacity_43 rfl rfl rfl
  · refine zw_if_le (pc := 15) (tgt := 36) dJ1_newCapacity_15 rfl (fun q => absurd q c5) (fun _ => ?_)
    refine zw_iload (pc := 18) dJ1_newCapacity_18 0 rfl ?_
    rcases zif H with ⟨c8, H⟩ | ⟨c8, H⟩
    · refine zw_if_ge (pc := 20) (tgt := 33) dJ1_newCapacity_20 rfl (fun _ => ?_) (fun q => absurd c8 q)
      refine zw_ldcI (pc := 33) dJ1_newCapacity_33 q1695 ?_
      obtain ⟨rfl, rfl⟩ := Prod.mk.inj (Option.some.inj H)
      exact zw_iret (pc := 35) dJ1_newCapacity_35 rfl rfl rfl
    · refine zw_if_ge (pc := 20) (tgt := 33) dJ1_newCapacity_20 rfl (fun q => absurd q c8) (fun _ => ?_)
      cases H
theorem ls_J1_newCapacity : Cond.selects yJ1_newCapacity.cls yJ1_newCapacity yJ1_newCapacity ∈ lw_all := lw_g (lw_ms _ (List.mem_of_getElem? (i := 63) rfl)) rfl
def M_J1_grow : zM := (yJ1_grow, cJ1_grow, 9, none, [])
theorem mf_J1_grow : zMi M_J1_grow 1 := ⟨⟨q1683, q184, ⟨by decide +kernel, by decide +kernel⟩, by decide +kernel, by decide⟩, q1682⟩
def B_J1_grow_145 (k145 : Option Nat → Int32 → Int32 → zH → Option zH) (a0 : Option Nat) (a1 : Int32) (a2 : Int32) (h : zH) : Option zH :=
  if a2 ≤ a1 then
  some h
  else
  (zsR 60 a0 a1 none h).bind fun h2 =>
  k145 a0 (a1 + (1 : Int32)) a2 h2
theorem wB_J1_grow_145 {G : zG} {h0 h : zH} {vh : zH} {k145 : Option Nat → Int32 → Int32 → zH → Option zH} (hk145 : ∀ (b0 : Option Nat) (b1 : Int32) (b2 : Int32) (h' : zH), k145 b0 b1 b2 h' = some vh → zW G M_J1_grow 6 h0 (.inl none) vh 145 [(5, vR b0), (7, vI b1), (8, vI b2)] [] h') {a0 : Option Nat} {a1 : Int32} {a2 : Int32} (H : B_J1_grow_145 k145 a0 a1 a2 h = some vh) : zW G M_J1_grow 6 h0 (.inl none) vh 145 [(5, vR a0), (7, vI a1), (8, vI a2)] [] h := by
  unfold B_J1_grow_145 at H
  refine zw_iload (pc := 145) dJ1_grow_145 1 rfl ?_
  refine zw_iload (pc := 147) dJ1_grow_147 2 rfl ?_
  rcases zif H with ⟨c1, H⟩ | ⟨c1, H⟩
  · refine zw_icmp_ge (pc := 149) (tgt := 164) dJ1_grow_149 rfl (fun _ => ?_) (fun q => absurd c1 q)
    obtain rfl := Option.some.inj H
    exact zw_vret (pc := 164) dJ1_grow_164 rfl rfl rfl
  · refine zw_icmp_ge (pc := 149) (tgt := 164) dJ1_grow_149 rfl (fun q => absurd q c1) (fun _ => ?_)
    refine zw_aload (pc := 152) dJ1_grow_152 0 rfl ?_
    refine zw_iload (pc := 154) dJ1_grow_154 1 rfl ?_
    refine zw_null (pc := 156) dJ1_grow_156 ?_
    obtain ⟨h2, e3, H⟩ := zbind H
    refine zy_aast (pc := 157) dJ1_grow_157 (by decide) e3 ?_
    refine zw_iinc (pc := 158) (v := (a1 + (1 : Int32))) (lv' := [(7, vI (a1 + (1 : Int32))), (5, vR a0), (8, vI a2)]) dJ1_grow_158 1 rfl rfl (by decide) rfl ?_
    refine zw_goto (pc := 161) (tgt := 145) dJ1_grow_161 rfl ?_
    refine zW_pick (lv' := [(5, vR a0), (7, vI (a1 + (1 : Int32))), (8, vI a2)]) [1, 0, 2] rfl ?_
    exact hk145 _ _ _ _ H
def B_J1_grow_96 (a0 : Option Nat) (a1 : Int32) (a2 : Int32) (a3 : Option Nat) (h : zH) : Option zH :=
  (zgI 17 1 a0 h).bind fun x1 =>
  (zgI 17 1 a0 h).bind fun x3 =>
  (zgI 17 1 a0 h).bind fun x5 =>
  (zcpR a3 x1 a3 (x3 + (a2 - a1)) (a1 - x5) h).bind fun h7 =>
  (zgI 17 1 a0 h7).bind fun x9 =>
  (zgI 17 1 a0 h7).bind fun x11 =>
  (zpI 17 1 a0 (x11 + (a2 - a1)) h7).bind fun h13 =>
  zloop (B_J1_grow_145) (fun _ _ _ _ => none) zFU a3 x9 (x11 + (a2 - a1)) h13
theorem wB_J1_grow_96 {G : zG} {h0 h : zH} {vh : zH} {a0 : Option Nat} {a1 : Int32} {a2 : Int32} {a3 : Option Nat} (H : B_J1_grow_96 a0 a1 a2 a3 h = some vh) : zW G M_J1_grow 6 h0 (.inl none) vh 96 [(0, vR a0), (2, vI a1), (3, vI a2), (5, vR a3)] [] h := by
  unfold B_J1_grow_96 at H
  refine zw_iload_n (pc := 96) dJ1_grow_96 rfl 2 rfl ?_
  refine zw_iload_n (pc := 97) dJ1_grow_97 rfl 1 rfl ?_
  refine zw_isub (pc := 98) dJ1_grow_98 ?_
  refine zw_istore (pc := 99) (lv' := [(6, vI (a2 - a1)), (0, vR a0), (2, vI a1), (3, vI a2), (5, vR a3)]) dJ1_grow_99 (by decide) rfl ?_
  refine zw_aload (pc := 101) dJ1_grow_101 4 rfl ?_
  refine zw_aload_n (pc := 103) dJ1_grow_103 rfl 1 rfl ?_
  obtain ⟨x1, e2, H⟩ := zbind H
  refine zy_getI (pc := 104) dJ1_grow_104 lf_J1_24 (fun _ _ => rfl) e2 ?_
  refine zw_aload (pc := 107) dJ1_grow_107 4 rfl ?_
  refine zw_aload_n (pc := 109) dJ1_grow_109 rfl 1 rfl ?_
  obtain ⟨x3, e4, H⟩ := zbind H
  refine zy_getI (pc := 110) dJ1_grow_110 lf_J1_24 (fun _ _ => rfl) e4 ?_
  refine zw_iload (pc := 113) dJ1_grow_113 0 rfl ?_
  refine zw_iadd (pc := 115) dJ1_grow_115 ?_
  refine zw_iload_n (pc := 116) dJ1_grow_116 rfl 2 rfl ?_
  refine zw_aload_n (pc := 117) dJ1_grow_117 rfl 1 rfl ?_
  obtain ⟨x5, e6, H⟩ := zbind H
  refine zy_getI (pc := 118) dJ1_grow_118 lf_J1_24 (fun _ _ => rfl) e6 ?_
  refine zw_isub (pc := 121) dJ1_grow_121 ?_
  obtain ⟨h7, e8, H⟩ := zbind H
  refine zy_copyR (pc := 122) dJ1_grow_122 q1697 (Nat.le_of_ble_eq_true rfl) e8 (Nat.le_of_ble_eq_true rfl) ?_
  refine zw_aload_n (pc := 125) dJ1_grow_125 rfl 1 rfl ?_
  obtain ⟨x9, e10, H⟩ := zbind H
  refine zy_getI (pc := 126) dJ1_grow_126 lf_J1_24 (fun _ _ => rfl) e10 ?_
  refine zw_istore (pc := 129) (lv' := [(7, vI x9), (6, vI (a2 - a1)), (0, vR a0), (2, vI a1), (3, vI a2), (5, vR a3)]) dJ1_grow_129 (by decide) rfl ?_
  refine zw_aload_n (pc := 131) dJ1_grow_131 rfl 2 rfl ?_
  refine zw_dup (pc := 132) dJ1_grow_132 rfl ?_
  obtain ⟨x11, e12, H⟩ := zbind H
  refine zy_getI (pc := 133) dJ1_grow_133 lf_J1_24 (fun _ _ => rfl) e12 ?_
  refine zw_iload (pc := 136) dJ1_grow_136 1 rfl ?_
  refine zw_iadd (pc := 138) dJ1_grow_138 ?_
  refine zw_dup_x1 (pc := 139) dJ1_grow_139 rfl rfl ?_
  obtain ⟨h13, e14, H⟩ := zbind H
  refine zy_putI (pc := 140) dJ1_grow_140 lp_J1_24 rfl e14 ?_
  refine zw_istore (pc := 143) (lv' := [(8, vI (x11 + (a2 - a1))), (7, vI x9), (6, vI (a2 - a1)), (0, vR a0), (2, vI a1), (3, vI a2), (5, vR a3)]) dJ1_grow_143 (by decide) rfl ?_
  refine zW_pick (lv' := [(5, vR a3), (7, vI x9), (8, vI (x11 + (a2 - a1)))]) [6, 1, 0] rfl ?_
  exact zloop_ind (body := (B_J1_grow_145)) (bot := (fun _ _ _ _ => none)) (P := (fun (f : Option Nat → Int32 → Int32 → zH → Option zH) => ∀ (b0 : Option Nat) (b1 : Int32) (b2 : Int32) (h' : zH), f b0 b1 b2 h' = some vh → zW G M_J1_grow 6 h0 (.inl none) vh 145 [(5, vR b0), (7, vI b1), (8, vI b2)] [] h')) zFU (fun _ _ _ _ H => nomatch H) (fun f hf c0 c1 c2 h' H => wB_J1_grow_145 hf H) _ _ _ _ H
def B_J1_grow_49 (a0 : Option Nat) (a1 : Int32) (a2 : Int32) (h : zH) : Option zH :=
  (zgR 17 0 a0 h).bind fun x1 =>
  zb2 (f_J13_copyOf_2 x1 a2 h) fun x5 h4 =>
  (zpR 17 0 a0 x5 h4).bind fun h6 =>
  (zgI 17 2 a0 h6).bind fun x8 =>
  (zgI 17 1 a0 h6).bind fun x10 =>
  if x8 < x10 then
  B_J1_grow_96 a0 a1 a2 x5 h6
  else
  (zgI 17 2 a0 h6).bind fun x13 =>
  (zgI 17 1 a0 h6).bind fun x15 =>
  if x13 = x15 then
  (zgI 17 1 a0 h6).bind fun x18 =>
  (zaR 60 x5 x18 h6).bind fun x20 =>
  if x20 = none then
  some h6
  else
  B_J1_grow_96 a0 a1 a2 x5 h6
  else
  some h6
theorem wB_J1_grow_49 {G : zG} {h0 h : zH} {vh : zH} {a0 : Option Nat} {a1 : Int32} {a2 : Int32} (H : B_J1_grow_49 a0 a1 a2 h = some vh) : zW G M_J1_grow 6 h0 (.inl none) vh 49 [(0, vR a0), (2, vI a1), (3, vI a2)] [] h := by
  unfold B_J1_grow_49 at H
  refine zw_aload_n (pc := 49) dJ1_grow_49 rfl 0 rfl ?_
  refine zw_aload_n (pc := 50) dJ1_grow_50 rfl 0 rfl ?_
  obtain ⟨x1, e2, H⟩ := zbind H
  refine zy_getR (pc := 51) dJ1_grow_51 lf_J1_3 (fun _ _ => rfl) e2 ?_
  refine zw_iload_n (pc := 54) dJ1_grow_54 rfl 2 rfl ?_
  obtain ⟨x5, h4, e3, H⟩ := zbind2 H
  refine zw_invS (pc := 55) (M' := M_J13_copyOf_2) (A := [vR x1, vI a2]) [vR a0] dJ1_grow_55 (Or.inl q1696) mf_J13_copyOf_2 (w_J13_copyOf_2 e3) (Nat.le_of_ble_eq_true rfl) rfl rfl (Nat.le_of_ble_eq_true rfl) (zkv ?_) zkn9
  refine zw_dup_x1 (pc := 58) dJ1_grow_58 rfl rfl ?_
  obtain ⟨h6, e7, H⟩ := zbind H
  refine zy_putR (pc := 59) dJ1_grow_59 lp_J1_3 rfl e7 ?_
  refine zw_astore (pc := 62) (lv' := [(5, vR x5), (0, vR a0), (2, vI a1), (3, vI a2)]) dJ1_grow_62 (by decide) rfl ?_
  refine zw_aload_n (pc := 64) dJ1_grow_64 rfl 1 rfl ?_
  obtain ⟨x8, e9, H⟩ := zbind H
  refine zy_getI (pc := 65) dJ1_grow_65 lf_J1_20 (fun _ _ => rfl) e9 ?_
  refine zw_aload_n (pc := 68) dJ1_grow_68 rfl 1 rfl ?_
  obtain ⟨x10, e11, H⟩ := zbind H
  refine zy_getI (pc := 69) dJ1_grow_69 lf_J1_24 (fun _ _ => rfl) e11 ?_
  rcases zif H with ⟨c12, H⟩ | ⟨c12, H⟩
  · refine zw_icmp_lt (pc := 72) (tgt := 96) dJ1_grow_72 rfl (fun _ => ?_) (fun q => absurd c12 q)
    refine zW_pick (lv' := [(0, vR a0), (2, vI a1), (3, vI a2), (5, vR x5)]) [1, 2, 3, 0] rfl ?_
    exact wB_J1_grow_96 H
  · refine zw_icmp_lt (pc := 72) (tgt := 96) dJ1_grow_72 rfl (fun q => absurd q c12) (fun _ => ?_)
    refine zw_aload_n (pc := 75) dJ1_grow_75 rfl 1 rfl ?_
    obtain ⟨x13, e14, H⟩ := zbind H
    refine zy_getI (pc := 76) dJ1_grow_76 lf_J1_20 (fun _ _ => rfl) e14 ?_
    refine zw_aload_n (pc := 79) dJ1_grow_79 rfl 1 rfl ?_
    obtain ⟨x15, e16, H⟩ := zbind H
    refine zy_getI (pc := 80) dJ1_grow_80 lf_J1_24 (fun _ _ => rfl) e16 ?_
    rcases zif H with ⟨c17, H⟩ | ⟨c17, H⟩
    · refine zw_icmp_ne (pc := 83) (tgt := 164) dJ1_grow_83 rfl (fun q => absurd c17 q) (fun _ => ?_)
      refine zw_aload (pc := 86) dJ1_grow_86 0 rfl ?_
      refine zw_aload_n (pc := 88) dJ1_grow_88 rfl 1 rfl ?_
      obtain ⟨x18, e19, H⟩ := zbind H
      refine zy_getI (pc := 89) dJ1_grow_89 lf_J1_24 (fun _ _ => rfl) e19 ?_
      obtain ⟨x20, e21, H⟩ := zbind H
      refine zy_aald (pc := 92) dJ1_grow_92 (by decide) e21 ?_
      rcases zif H with ⟨c22, H⟩ | ⟨c22, H⟩
      · refine zw_ifnull (pc := 93) (tgt := 164) dJ1_grow_93 rfl (fun _ => ?_) (fun q => absurd c22 q)
        obtain rfl := Option.some.inj H
        exact zw_vret (pc := 164) dJ1_grow_164 rfl rfl rfl
      · refine zw_ifnull (pc := 93) (tgt := 164) dJ1_grow_93 rfl (fun q => absurd q c22) (fun _ => ?_)
        refine zW_pick (lv' := [(0, vR a0), (2, vI a1), (3, vI a2), (5, vR x5)]) [1, 2, 3, 0] rfl ?_
        exact wB_J1_grow_96 H
    · refine zw_icmp_ne (pc := 83) (tgt := 164) dJ1_grow_83 rfl (fun _ => ?_) (fun q => absurd q c17)
      obtain rfl := Option.some.inj H
      exact zw_vret (pc := 164) dJ1_grow_164 rfl rfl rfl
def B_J1_grow_21 (a0 : Option Nat) (a1 : Int32) (a2 : Int32) (a3 : Int32) (h : zH) : Option zH :=
  if a3 < a1 then
  (zrv 17 a0 h).bind fun b2 =>
  zb2 (f_J1_newCapacity (some b2) a1 a3 h) fun x8 h7 =>
  B_J1_grow_49 a0 a2 x8 h7
  else
  if ((a2 + a3) - (2147483639 : Int32)) ≤ 0 then
  B_J1_grow_49 a0 a2 (a2 + a3) h
  else
  (zrv 17 a0 h).bind fun b10 =>
  zb2 (f_J1_newCapacity (some b10) a1 a3 h) fun x16 h15 =>
  B_J1_grow_49 a0 a2 x16 h15
theorem wB_J1_grow_21 {G : zG} {h0 h : zH} {vh : zH} {a0 : Option Nat} {a1 : Int32} {a2 : Int32} {a3 : Int32} (H : B_J1_grow_21 a0 a1 a2 a3 h = some vh) : zW G M_J1_grow 6 h0 (.inl none) vh 21 [(0, vR a0), (1, vI a1), (2, vI a2)] [vI a3] h := by
  unfold B_J1_grow_21 at H
  refine zw_istore (pc := 21) (lv' := [(4, vI a3), (0, vR a0), (1, vI a1), (2, vI a2)]) dJ1_grow_21 (by decide) rfl ?_
  refine zw_iload (pc := 23) dJ1_grow_23 0 rfl ?_
  refine zw_iload_n (pc := 25) dJ1_grow_25 rfl 2 rfl ?_
  rcases zif H with ⟨c1, H⟩ | ⟨c1, H⟩
  · refine zw_icmp_lt (pc := 26) (tgt := 41) dJ1_grow_26 rfl (fun _ => ?_) (fun q => absurd c1 q)
    refine zw_aload_n (pc := 41) dJ1_grow_41 rfl 1 rfl ?_
    refine zw_iload_n (pc := 42) dJ1_grow_42 rfl 2 rfl ?_
    refine zw_iload (pc := 43) dJ1_grow_43 0 rfl ?_
    obtain ⟨b2, e4, H⟩ := zbind H
    obtain ⟨e3, e5⟩ := zrv_ok e4
    obtain ⟨x8, h7, e6, H⟩ := zbind2 H
    refine zw_invV (pc := 45) (M' := M_J1_newCapacity) (A := [vI a1, vI a3]) [] dJ1_grow_45 (Or.inl q1685) mf_J1_newCapacity ls_J1_newCapacity (zkq e5 rfl) (w_J1_newCapacity e6) (Nat.le_of_ble_eq_true rfl) rfl (by rw [← e3]; rfl) (Nat.le_of_ble_eq_true rfl) (zkv ?_) zkn9
    refine zw_istore_n (pc := 48) (lv' := [(3, vI x8), (4, vI a3), (0, vR a0), (1, vI a1), (2, vI a2)]) dJ1_grow_48 rfl (by decide) rfl ?_
    refine zW_pick (lv' := [(0, vR a0), (2, vI a2), (3, vI x8)]) [2, 4, 0] rfl ?_
    exact wB_J1_grow_49 H
  · refine zw_icmp_lt (pc := 26) (tgt := 41) dJ1_grow_26 rfl (fun q => absurd q c1) (fun _ => ?_)
    refine zw_iload_n (pc := 29) dJ1_grow_29 rfl 3 rfl ?_
    refine zw_iload (pc := 30) dJ1_grow_30 0 rfl ?_
    refine zw_iadd (pc := 32) dJ1_grow_32 ?_
    refine zw_dup (pc := 33) dJ1_grow_33 rfl ?_
    refine zw_istore_n (pc := 34) (lv' := [(3, vI (a2 + a3)), (4, vI a3), (0, vR a0), (1, vI a1), (2, vI a2)]) dJ1_grow_34 rfl (by decide) rfl ?_
    refine zw_ldcI (pc := 35) dJ1_grow_35 q1684 ?_
    refine zw_isub (pc := 37) dJ1_grow_37 ?_
    rcases zif H with ⟨c9, H⟩ | ⟨c9, H⟩
    · refine zw_if_le (pc := 38) (tgt := 49) dJ1_grow_38 rfl (fun _ => ?_) (fun q => absurd c9 q)
      refine zW_pick (lv' := [(0, vR a0), (2, vI a2), (3, vI (a2 + a3))]) [2, 4, 0] rfl ?_
      exact wB_J1_grow_49 H
    · refine zw_if_le (pc := 38) (tgt := 49) dJ1_grow_38 rfl (fun q => absurd q c9) (fun _ => ?_)
      refine zw_aload_n (pc := 41) dJ1_grow_41 rfl 2 rfl ?_
      refine zw_iload_n (pc := 42) dJ1_grow_42 rfl 3 rfl ?_
      refine zw_iload (pc := 43) dJ1_grow_43 1 rfl ?_
      obtain ⟨b10, e12, H⟩ := zbind H
      obtain ⟨e11, e13⟩ := zrv_ok e12
      obtain ⟨x16, h15, e14, H⟩ := zbind2 H
      refine zw_invV (pc := 45) (M' := M_J1_newCapacity) (A := [vI a1, vI a3]) [] dJ1_grow_45 (Or.inl q1685) mf_J1_newCapacity ls_J1_newCapacity (zkq e13 rfl) (w_J1_newCapacity e14) (Nat.le_of_ble_eq_true rfl) rfl (by rw [← e11]; rfl) (Nat.le_of_ble_eq_true rfl) (zkv ?_) zkn9
      refine zw_istore_n (pc := 48) (lv' := [(3, vI x16), (4, vI a3), (0, vR a0), (1, vI a1), (2, vI a2)]) dJ1_grow_48 rfl (by decide) rfl ?_
      refine zW_pick (lv' := [(0, vR a0), (2, vI a2), (3, vI x16)]) [2, 4, 0] rfl ?_
      exact wB_J1_grow_49 H
def f_J1_grow (p0 : Option Nat) (p1 : Int32) (h : zH) : Option zH :=
  (zgR 17 0 p0 h).bind fun x1 =>
  (zaN x1 h).bind fun x3 =>
  if (64 : Int32) ≤ x3 then
  B_J1_grow_21 p0 p1 x3 (x3 >>> ((1 : Int32) &&& 31)) h
  else
  B_J1_grow_21 p0 p1 x3 (x3 + (2 : Int32)) h
theorem w_J1_grow {G : zG} {p0 : Option Nat} {p1 : Int32} {h : zH} {vh : zH} (H : f_J1_grow p0 p1 h = some vh) : zMet G M_J1_grow 6 [vR p0, vI p1] h (.inl none) vh := by
  refine zMet.of (by decide +kernel) (Nat.le_of_ble_eq_true rfl) ?_
  show zW G M_J1_grow 6 h (.inl none) vh 0 [(0, vR p0), (1, vI p1)] [] h
  unfold f_J1_grow at H
  refine zw_aload_n (pc := 0) dJ1_grow_0 rfl 0 rfl ?_
  obtain ⟨x1, e2, H⟩ := zbind H
  refine zy_getR (pc := 1) dJ1_grow_1 lf_J1_3 (fun _ _ => rfl) e2 ?_
  obtain ⟨x3, e4, H⟩ := zbind H
  refine zy_alen (pc := 4) dJ1_grow_4 e4 ?_
  refine zw_istore_n (pc := 5) (lv' := [(2, vI x3), (0, vR p0), (1, vI p1)]) dJ1_grow_5 rfl (by decide) rfl ?_
  refine zw_iload_n (pc := 6) dJ1_grow_6 rfl 0 rfl ?_
  refine zw_bipush (pc := 7) (v := (64 : Int32)) dJ1_grow_7 (by decide) ?_
  rcases zif H with ⟨c5, H⟩ | ⟨c5, H⟩
  · refine zw_icmp_ge (pc := 9) (tgt := 18) dJ1_grow_9 rfl (fun _ => ?_) (fun q => absurd c5 q)
    refine zw_iload_n (pc := 18) dJ1_grow_18 rfl 0 rfl ?_
    refine zw_iconst (pc := 19) (v := (1 : Int32)) dJ1_grow_19 (by decide) ?_
    refine zw_ishr (pc := 20) dJ1_grow_20 ?_
    refine zW_pick (lv' := [(0, vR p0), (1, vI p1), (2, vI x3)]) [1, 2, 0] rfl ?_
    exact wB_J1_grow_21 H
  · refine zw_icmp_ge (pc := 9) (tgt := 18) dJ1_grow_9 rfl (fun q => absurd q c5) (fun _ => ?_)
    refine zw_iload_n (pc := 12) dJ1_grow_12 rfl 0 rfl ?_
    refine zw_iconst (pc := 13) (v := (2 : Int32)) dJ1_grow_13 (by decide) ?_
    refine zw_iadd (pc := 14) dJ1_grow_14 ?_
    refine zw_goto (pc := 15) (tgt := 21) dJ1_grow_15 rfl ?_
    refine zW_pick (lv' := [(0, vR p0), (1, vI p1), (2, vI x3)]) [1, 2, 0] rfl ?_
    exact wB_J1_grow_21 H
def M_J1_inc : zM := (yJ1_inc, cJ1_inc, 2, (.some .int), [])
theorem mf_J1_inc : zMs M_J1_inc 2 := ⟨⟨q1679, q184, ⟨by decide +kernel, by decide +kernel⟩, by decide +kernel, by decide⟩, q1678⟩
def f_J1_inc (p0 : Int32) (p1 : Int32) (h : zH) : Option Int32 :=
  if (p0 + (1 : Int32)) < p1 then
  some (p0 + (1 : Int32))
  else
  some (0 : Int32)
theorem w_J1_inc {G : zG} {p0 : Int32} {p1 : Int32} {h : zH} {vx : Int32} (H : f_J1_inc p0 p1 h = some vx) : zMet G M_J1_inc 2 [vI p0, vI p1] h (.inl (some (vI vx))) h := by
  refine zMet.of (by decide +kernel) (Nat.le_of_ble_eq_true rfl) ?_
  show zW G M_J1_inc 2 h (.inl (some (vI vx))) h 0 [(0, vI p0), (1, vI p1)] [] h
  unfold f_J1_inc at H
  refine zw_iinc (pc := 0) (v := (p0 + (1 : Int32))) (lv' := [(0, vI (p0 + (1 : Int32))), (1, vI p1)]) dJ1_inc_0 0 rfl rfl (by decide) rfl ?_
  refine zw_iload_n (pc := 3) dJ1_inc_3 rfl 0 rfl ?_
  refine zw_iload_n (pc := 4) dJ1_inc_4 rfl 1 rfl ?_
  rcases zif H with ⟨c1, H⟩ | ⟨c1, H⟩
  · refine zw_icmp_lt (pc := 5) (tgt := 10) dJ1_inc_5 rfl (fun _ => ?_) (fun q => absurd c1 q)
    refine zw_iload_n (pc := 10) dJ1_inc_10 rfl 0 rfl ?_
    obtain rfl := Option.some.inj H
    exact zw_iret (pc := 11) dJ1_inc_11 rfl rfl rfl
  · refine zw_icmp_lt (pc := 5) (tgt := 10) dJ1_inc_5 rfl (fun q => absurd q c1) (fun _ => ?_)
    refine zw_iconst (pc := 8) (v := (0 : Int32)) dJ1_inc_8 (by decide) ?_
    refine zw_istore_n (pc := 9) (lv' := [(0, vI (0 : Int32)), (1, vI p1)]) dJ1_inc_9 rfl (by decide) rfl ?_
    refine zw_iload_n (pc := 10) dJ1_inc_10 rfl 0 rfl ?_
    obtain rfl := Option.some.inj H
    exact zw_iret (pc := 11) dJ1_inc_11 rfl rfl rfl
theorem ls_J1_grow : Cond.selects yJ1_grow.cls yJ1_grow yJ1_grow ∈ lw_all := lw_g (lw_ms _ (List.mem_of_getElem? (i := 62) rfl)) rfl
def M_J1_addLast : zM := (yJ1_addLast, cJ1_addLast, 3, none, [])
theorem mf_J1_addLast : zMi M_J1_addLast 1 := ⟨⟨q1676, q184, ⟨by decide +kernel, by decide +kernel⟩, by decide +kernel, by decide⟩, q1674⟩
def f_J1_addLast (p0 : Option Nat) (p1 : Option Nat) (h : zH) : Option zH :=
  if p1 = none then
  none
  else
  (zgR 17 0 p0 h).bind fun x2 =>
  (zgI 17 2 p0 h).bind fun x4 =>
  (zsR 60 x2 x4 p1 h).bind fun h6 =>
  (zgI 17 1 p0 h6).bind fun x8 =>
  (zgI 17 2 p0 h6).bind fun x10 =>
  (zaN x2 h6).bind fun x12 =>
  (f_J1_inc x10 x12 h6).bind fun x15 =>
  (zpI 17 2 p0 x15 h6).bind fun h16 =>
  if x8 = x15 then
  (zrv 17 p0 h16).bind fun b19 =>
  (f_J1_grow (some b19) (1 : Int32) h16).bind fun h24 =>
  some h24
  else
  some h16
theorem w_J1_addLast {G : zG} {p0 : Option Nat} {p1 : Option Nat} {h : zH} {vh : zH} (H : f_J1_addLast p0 p1 h = some vh) : zMet G M_J1_addLast 7 [vR p0, vR p1] h (.inl none) vh := by
  refine zMet.of (by decide +kernel) (Nat.le_of_ble_eq_true rfl) ?_
  show zW G M_J1_addLast 7 h (.inl none) vh 0 [(0, vR p0), (1, vR p1)] [] h
  unfold f_J1_addLast at H
  refine zw_aload_n (pc := 0) dJ1_addLast_0 rfl 1 rfl ?_
  rcases zif H with ⟨c1, H⟩ | ⟨c1, H⟩
  · refine zw_ifnonnull (pc := 1) (tgt := 12) dJ1_addLast_1 rfl (fun q => absurd c1 q) (fun _ => ?_)
    cases H
  · refine zw_ifnonnull (pc := 1) (tgt := 12) dJ1_addLast_1 rfl (fun _ => ?_) (fun q => absurd q c1)
    refine zw_aload_n (pc := 12) dJ1_addLast_12 rfl 0 rfl ?_
    obtain ⟨x2, e3, H⟩ := zbind H
    refine zy_getR (pc := 13) dJ1_addLast_13 lf_J1_3 (fun _ _ => rfl) e3 ?_
    refine zw_astore_n (pc := 16) (lv' := [(2, vR x2), (0, vR p0), (1, vR p1)]) dJ1_addLast_16 rfl (by decide) rfl ?_
    refine zw_aload_n (pc := 17) dJ1_addLast_17 rfl 0 rfl ?_
    refine zw_aload_n (pc := 18) dJ1_addLast_18 rfl 1 rfl ?_
    obtain ⟨x4, e5, H⟩ := zbind H
    refine zy_getI (pc := 19) dJ1_addLast_19 lf_J1_20 (fun _ _ => rfl) e5 ?_
    refine zw_aload_n (pc := 22) dJ1_addLast_22 rfl 2 rfl ?_
    obtain ⟨h6, e7, H⟩ := zbind H
    refine zy_aast (pc := 23) dJ1_addLast_23 (by decide) e7 ?_
    refine zw_aload_n (pc := 24) dJ1_addLast_24 rfl 1 rfl ?_
    obtain ⟨x8, e9, H⟩ := zbind H
    refine zy_getI (pc := 25) dJ1_addLast_25 lf_J1_24 (fun _ _ => rfl) e9 ?_
    refine zw_aload_n (pc := 28) dJ1_addLast_28 rfl 1 rfl ?_
    refine zw_aload_n (pc := 29) dJ1_addLast_29 rfl 1 rfl ?_
    obtain ⟨x10, e11, H⟩ := zbind H
    refine zy_getI (pc := 30) dJ1_addLast_30 lf_J1_20 (fun _ _ => rfl) e11 ?_
    refine zw_aload_n (pc := 33) dJ1_addLast_33 rfl 0 rfl ?_
    obtain ⟨x12, e13, H⟩ := zbind H
    refine zy_alen (pc := 34) dJ1_addLast_34 e13 ?_
    obtain ⟨x15, e14, H⟩ := zbind H
    refine zw_invS (pc := 35) (M' := M_J1_inc) (A := [vI x10, vI x12]) [vR p0, vI x8] dJ1_addLast_35 (Or.inl q1677) mf_J1_inc (w_J1_inc e14) (Nat.le_of_ble_eq_true rfl) rfl rfl (Nat.le_of_ble_eq_true rfl) (zkv ?_) zkn9
    refine zw_dup_x1 (pc := 38) dJ1_addLast_38 rfl rfl ?_
    obtain ⟨h16, e17, H⟩ := zbind H
    refine zy_putI (pc := 39) dJ1_addLast_39 lp_J1_20 rfl e17 ?_
    rcases zif H with ⟨c18, H⟩ | ⟨c18, H⟩
    · refine zw_icmp_ne (pc := 42) (tgt := 50) dJ1_addLast_42 rfl (fun q => absurd c18 q) (fun _ => ?_)
      refine zw_aload_n (pc := 45) dJ1_addLast_45 rfl 1 rfl ?_
      refine zw_iconst (pc := 46) (v := (1 : Int32)) dJ1_addLast_46 (by decide) ?_
      obtain ⟨b19, e21, H⟩ := zbind H
      obtain ⟨e20, e22⟩ := zrv_ok e21
      obtain ⟨h24, e23, H⟩ := zbind H
      refine zw_invV (pc := 47) (M' := M_J1_grow) (A := [vI (1 : Int32)]) [] dJ1_addLast_47 (Or.inl q1680) mf_J1_grow ls_J1_grow (zkq e22 rfl) (w_J1_grow e23) (Nat.le_of_ble_eq_true rfl) rfl (by rw [← e20]; rfl) (Nat.le_of_ble_eq_true rfl) (zku ?_) zkn9
      obtain rfl := Option.some.inj H
      exact zw_vret (pc := 50) dJ1_addLast_50 rfl rfl rfl
    · refine zw_icmp_ne (pc := 42) (tgt := 50) dJ1_addLast_42 rfl (fun _ => ?_) (fun q => absurd q c18)
      obtain rfl := Option.some.inj H
      exact zw_vret (pc := 50) dJ1_addLast_50 rfl rfl rfl
def M_J1_sub : zM := (yJ1_sub, cJ1_sub, 3, (.some .int), [])
theorem mf_J1_sub : zMs M_J1_sub 3 := ⟨⟨q1704, q184, ⟨by decide +kernel, by decide +kernel⟩, by decide +kernel, by decide⟩, q1703⟩
def f_J1_sub (p0 : Int32) (p1 : Int32) (p2 : Int32) (h : zH) : Option Int32 :=
  if 0 ≤ (p0 - p1) then
  some (p0 - p1)
  else
  some ((p0 - p1) + p2)
theorem w_J1_sub {G : zG} {p0 : Int32} {p1 : Int32} {p2 : Int32} {h : zH} {vx : Int32} (H : f_J1_sub p0 p1 p2 h = some vx) : zMet G M_J1_sub 2 [vI p0, vI p1, vI p2] h (.inl (some (vI vx))) h := by
  refine zMet.of (by decide +kernel) (Nat.le_of_ble_eq_true rfl) ?_
  show zW G M_J1_sub 2 h (.inl (some (vI vx))) h 0 [(0, vI p0), (1, vI p1), (2, vI p2)] [] h
  unfold f_J1_sub at H
  refine zw_iload_n (pc := 0) dJ1_sub_0 rfl 0 rfl ?_
  refine zw_iload_n (pc := 1) dJ1_sub_1 rfl 1 rfl ?_
  refine zw_isub (pc := 2) dJ1_sub_2 ?_
  refine zw_dup (pc := 3) dJ1_sub_3 rfl ?_
  refine zw_istore_n (pc := 4) (lv' := [(0, vI (p0 - p1)), (1, vI p1), (2, vI p2)]) dJ1_sub_4 rfl (by decide) rfl ?_
  rcases zif H with ⟨c1, H⟩ | ⟨c1, H⟩
  · refine zw_if_ge (pc := 5) (tgt := 12) dJ1_sub_5 rfl (fun _ => ?_) (fun q => absurd c1 q)
    refine zw_iload_n (pc := 12) dJ1_sub_12 rfl 0 rfl ?_
    obtain rfl := Option.some.inj H
    exact zw_iret (pc := 13) dJ1_sub_13 rfl rfl rfl
  · refine zw_if_ge (pc := 5) (tgt := 12) dJ1_sub_5 rfl (fun q => absurd q c1) (fun _ => ?_)
    refine zw_iload_n (pc := 8) dJ1_sub_8 rfl 0 rfl ?_
    refine zw_iload_n (pc := 9) dJ1_sub_9 rfl 2 rfl ?_
    refine zw_iadd (pc := 10) dJ1_sub_10 ?_
    refine zw_istore_n (pc := 11) (lv' := [(0, vI ((p0 - p1) + p2)), (1, vI p1), (2, vI p2)]) dJ1_sub_11 rfl (by decide) rfl ?_
    refine zw_iload_n (pc := 12) dJ1_sub_12 rfl 0 rfl ?_
    obtain rfl := Option.some.inj H
    exact zw_iret (pc := 13) dJ1_sub_13 rfl rfl rfl
def M_J1_size : zM := (yJ1_size, cJ1_size, 1, (.some .int), [])
theorem mf_J1_size : zMi M_J1_size 0 := ⟨⟨q1701, q184, ⟨by decide +kernel, by decide +kernel⟩, by decide +kernel, by decide⟩, q1699⟩
def f_J1_size (p0 : Option Nat) (h : zH) : Option Int32 :=
  (zgI 17 2 p0 h).bind fun x1 =>
  (zgI 17 1 p0 h).bind fun x3 =>
  (zgR 17 0 p0 h).bind fun x5 =>
  (zaN x5 h).bind fun x7 =>
  (f_J1_sub x1 x3 x7 h).bind fun x10 =>
  some x10
theorem w_J1_size {G : zG} {p0 : Option Nat} {h : zH} {vx : Int32} (H : f_J1_size p0 h = some vx) : zMet G M_J1_size 3 [vR p0] h (.inl (some (vI vx))) h := by
  refine zMet.of (by decide +kernel) (Nat.le_of_ble_eq_true rfl) ?_
  show zW G M_J1_size 3 h (.inl (some (vI vx))) h 0 [(0, vR p0)] [] h
  unfold f_J1_size at H
  refine zw_aload_n (pc := 0) dJ1_size_0 rfl 0 rfl ?_
  obtain ⟨x1, e2, H⟩ := zbind H
  refine zy_getI (pc := 1) dJ1_size_1 lf_J1_20 (fun _ _ => rfl) e2 ?_
  refine zw_aload_n (pc := 4) dJ1_size_4 rfl 0 rfl ?_
  obtain ⟨x3, e4, H⟩ := zbind H
  refine zy_getI (pc := 5) dJ1_size_5 lf_J1_24 (fun _ _ => rfl) e4 ?_
  refine zw_aload_n (pc := 8) dJ1_size_8 rfl 0 rfl ?_
  obtain ⟨x5, e6, H⟩ := zbind H
  refine zy_getR (pc := 9) dJ1_size_9 lf_J1_3 (fun _ _ => rfl) e6 ?_
  obtain ⟨x7, e8, H⟩ := zbind H
  refine zy_alen (pc := 12) dJ1_size_12 e8 ?_
  obtain ⟨x10, e9, H⟩ := zbind H
  refine zw_invS (pc := 13) (M' := M_J1_sub) (A := [vI x1, vI x3, vI x7]) [] dJ1_size_13 (Or.inl q1702) mf_J1_sub (w_J1_sub e9) (Nat.le_of_ble_eq_true rfl) rfl rfl (Nat.le_of_ble_eq_true rfl) (zkv ?_) zkn9
  obtain rfl := Option.some.inj H
  exact zw_iret (pc := 16) dJ1_size_16 rfl rfl rfl
def M_J1_elementAt : zM := (yJ1_elementAt, cJ1_elementAt, 2, (.some (.object "java/lang/Object")), [])
theorem mf_J1_elementAt : zMs M_J1_elementAt 2 := ⟨⟨q1715, q184, ⟨by decide +kernel, by decide +kernel⟩, by decide +kernel, by decide⟩, q1714⟩
def f_J1_elementAt (p0 : Option Nat) (p1 : Int32) (h : zH) : Option (Option Nat) :=
  (zaR 60 p0 p1 h).bind fun x1 =>
  some x1
theorem w_J1_elementAt {G : zG} {p0 : Option Nat} {p1 : Int32} {h : zH} {vx : Option Nat} (H : f_J1_elementAt p0 p1 h = some vx) : zMet G M_J1_elementAt 2 [vR p0, vI p1] h (.inl (some (vR vx))) h := by
  refine zMet.of (by decide +kernel) (Nat.le_of_ble_eq_true rfl) ?_
  show zW G M_J1_elementAt 2 h (.inl (some (vR vx))) h 0 [(0, vR p0), (1, vI p1)] [] h
  unfold f_J1_elementAt at H
  refine zw_aload_n (pc := 0) dJ1_elementAt_0 rfl 0 rfl ?_
  refine zw_iload_n (pc := 1) dJ1_elementAt_1 rfl 1 rfl ?_
  obtain ⟨x1, e2, H⟩ := zbind H
  refine zy_aald (pc := 2) dJ1_elementAt_2 (by decide) e2 ?_
  obtain rfl := Option.some.inj H
  exact zw_aret (pc := 3) dJ1_elementAt_3 rfl (Or.inl ⟨_, rfl⟩) rfl rfl
def M_J1_pollFirst : zM := (yJ1_pollFirst, cJ1_pollFirst, 4, (.some (.object "java/lang/Object")), [])
theorem mf_J1_pollFirst : zMi M_J1_pollFirst 0 := ⟨⟨q1712, q184, ⟨by decide +kernel, by decide +kernel⟩, by decide +kernel, by decide⟩, q1710⟩
def f_J1_pollFirst (p0 : Option Nat) (h : zH) : Option (Option Nat × zH) :=
  (zgR 17 0 p0 h).bind fun x1 =>
  (zgI 17 1 p0 h).bind fun x3 =>
  (f_J1_elementAt x1 x3 h).bind fun x6 =>
  if x6 = none then
  some (x6, h)
  else
  (zsR 60 x1 x3 none h).bind fun h8 =>
  (zaN x1 h8).bind fun x10 =>
  (f_J1_inc x3 x10 h8).bind fun x13 =>
  (zpI 17 1 p0 x13 h8).bind fun h14 =>
  some (x6, h14)
theorem w_J1_pollFirst {G : zG} {p0 : Option Nat} {h : zH} {vx : Option Nat} {vh : zH} (H : f_J1_pollFirst p0 h = some (vx, vh)) : zMet G M_J1_pollFirst 3 [vR p0] h (.inl (some (vR vx))) vh := by
  refine zMet.of (by decide +kernel) (Nat.le_of_ble_eq_true rfl) ?_
  show zW G M_J1_pollFirst 3 h (.inl (some (vR vx))) vh 0 [(0, vR p0)] [] h
  unfold f_J1_pollFirst at H
  refine zw_aload_n (pc := 0) dJ1_pollFirst_0 rfl 0 rfl ?_
  obtain ⟨x1, e2, H⟩ := zbind H
  refine zy_getR (pc := 1) dJ1_pollFirst_1 lf_J1_3 (fun _ _ => rfl) e2 ?_
  refine zw_dup (pc := 4) dJ1_pollFirst_4 rfl ?_
  refine zw_astore_n (pc := 5) (lv' := [(1, vR x1), (0, vR p0)]) dJ1_pollFirst_5 rfl (by decide) rfl ?_
  refine zw_aload_n (pc := 6) dJ1_pollFirst_6 rfl 1 rfl ?_
  obtain ⟨x3, e4, H⟩ := zbind H
  refine zy_getI (pc := 7) dJ1_pollFirst_7 lf_J1_24 (fun _ _ => rfl) e4 ?_
  refine zw_dup (pc := 10) dJ1_pollFirst_10 rfl ?_
  refine zw_istore_n (pc := 11) (lv' := [(2, vI x3), (1, vR x1), (0, vR p0)]) dJ1_pollFirst_11 rfl (by decide) rfl ?_
  obtain ⟨x6, e5, H⟩ := zbind H
  refine zw_invS (pc := 12) (M' := M_J1_elementAt) (A := [vR x1, vI x3]) [] dJ1_pollFirst_12 (Or.inl q1713) mf_J1_elementAt (w_J1_elementAt e5) (Nat.le_of_ble_eq_true rfl) rfl rfl (Nat.le_of_ble_eq_true rfl) (zkv ?_) zkn9
  refine zw_astore_n (pc := 15) (lv' := [(3, vR x6), (2, vI x3), (1, vR x1), (0, vR p0)]) dJ1_pollFirst_15 rfl (by decide) rfl ?_
  refine zw_aload_n (pc := 16) dJ1_pollFirst_16 rfl 0 rfl ?_
  rcases zif H with ⟨c7, H⟩ | ⟨c7, H⟩
  · refine zw_ifnull (pc := 17) (tgt := 34) dJ1_pollFirst_17 rfl (fun _ => ?_) (fun q => absurd c7 q)
    refine zw_aload_n (pc := 34) dJ1_pollFirst_34 rfl 0 rfl ?_
    obtain ⟨rfl, rfl⟩ := Prod.mk.inj (Option.some.inj H)
    exact zw_aret (pc := 35) dJ1_pollFirst_35 rfl (Or.inl ⟨_, rfl⟩) rfl rfl
  · refine zw_ifnull (pc := 17) (tgt := 34) dJ1_pollFirst_17 rfl (fun q => absurd q c7) (fun _ => ?_)
    refine zw_aload_n (pc := 20) dJ1_pollFirst_20 rfl 2 rfl ?_
    refine zw_iload_n (pc := 21) dJ1_pollFirst_21 rfl 1 rfl ?_
    refine zw_null (pc := 22) dJ1_pollFirst_22 ?_
    obtain ⟨h8, e9, H⟩ := zbind H
    refine zy_aast (pc := 23) dJ1_pollFirst_23 (by decide) e9 ?_
    refine zw_aload_n (pc := 24) dJ1_pollFirst_24 rfl 3 rfl ?_
    refine zw_iload_n (pc := 25) dJ1_pollFirst_25 rfl 1 rfl ?_
    refine zw_aload_n (pc := 26) dJ1_pollFirst_26 rfl 2 rfl ?_
    obtain ⟨x10, e11, H⟩ := zbind H
    refine zy_alen (pc := 27) dJ1_pollFirst_27 e11 ?_
    obtain ⟨x13, e12, H⟩ := zbind H
    refine zw_invS (pc := 28) (M' := M_J1_inc) (A := [vI x3, vI x10]) [vR p0] dJ1_pollFirst_28 (Or.inl q1677) mf_J1_inc (w_J1_inc e12) (Nat.le_of_ble_eq_true rfl) rfl rfl (Nat.le_of_ble_eq_true rfl) (zkv ?_) zkn9
    obtain ⟨h14, e15, H⟩ := zbind H
    refine zy_putI (pc := 31) dJ1_pollFirst_31 lp_J1_24 rfl e15 ?_
    refine zw_aload_n (pc := 34) dJ1_pollFirst_34 rfl 0 rfl ?_
    obtain ⟨rfl, rfl⟩ := Prod.mk.inj (Option.some.inj H)
    exact zw_aret (pc := 35) dJ1_pollFirst_35 rfl (Or.inl ⟨_, rfl⟩) rfl rfl
def M_J1_removeFirst : zM := (yJ1_removeFirst, cJ1_removeFirst, 2, (.some (.object "java/lang/Object")), [])
theorem mf_J1_removeFirst : zMi M_J1_removeFirst 0 := ⟨⟨q1708, q184, ⟨by decide +kernel, by decide +kernel⟩, by decide +kernel, by decide⟩, q1706⟩
def f_J1_removeFirst (p0 : Option Nat) (h : zH) : Option (Option Nat × zH) :=
  (zrv 17 p0 h).bind fun b1 =>
  zb2 (f_J1_pollFirst (some b1) h) fun x7 h6 =>
  if x7 = none then
  none
  else
  some (x7, h6)
theorem w_J1_removeFirst {G : zG} {p0 : Option Nat} {h : zH} {vx : Option Nat} {vh : zH} (H : f_J1_removeFirst p0 h = some (vx, vh)) : zMet G M_J1_removeFirst 4 [vR p0] h (.inl (some (vR vx))) vh := by
  refine zMet.of (by decide +kernel) (Nat.le_of_ble_eq_true rfl) ?_
  show zW G M_J1_removeFirst 4 h (.inl (some (vR vx))) vh 0 [(0, vR p0)] [] h
  unfold f_J1_removeFirst at H
  refine zw_aload_n (pc := 0) dJ1_removeFirst_0 rfl 0 rfl ?_
  obtain ⟨b1, e3, H⟩ := zbind H
  obtain ⟨e2, e4⟩ := zrv_ok e3
  obtain ⟨x7, h6, e5, H⟩ := zbind2 H
  refine zw_invV (pc := 1) (M' := M_J1_pollFirst) (A := []) [] dJ1_removeFirst_1 (Or.inl q1709) mf_J1_pollFirst q1711 (zkq e4 rfl) (w_J1_pollFirst e5) (Nat.le_of_ble_eq_true rfl) rfl (by rw [← e2]; rfl) (Nat.le_of_ble_eq_true rfl) (zkv ?_) zkn9
  refine zw_astore_n (pc := 4) (lv' := [(1, vR x7), (0, vR p0)]) dJ1_removeFirst_4 rfl (by decide) rfl ?_
  refine zw_aload_n (pc := 5) dJ1_removeFirst_5 rfl 0 rfl ?_
  rcases zif H with ⟨c8, H⟩ | ⟨c8, H⟩
  · refine zw_ifnonnull (pc := 6) (tgt := 17) dJ1_removeFirst_6 rfl (fun q => absurd c8 q) (fun _ => ?_)
    cases H
  · refine zw_ifnonnull (pc := 6) (tgt := 17) dJ1_removeFirst_6 rfl (fun _ => ?_) (fun q => absurd q c8)
    refine zw_aload_n (pc := 17) dJ1_removeFirst_17 rfl 0 rfl ?_
    obtain ⟨rfl, rfl⟩ := Prod.mk.inj (Option.some.inj H)
    exact zw_aret (pc := 18) dJ1_removeFirst_18 rfl (Or.inl ⟨_, rfl⟩) rfl rfl
def M_J1_isEmpty : zM := (yJ1_isEmpty, cJ1_isEmpty, 1, (.some .boolean), [])
theorem mf_J1_isEmpty : zMi M_J1_isEmpty 0 := ⟨⟨q2053, q184, ⟨by decide +kernel, by decide +kernel⟩, by decide +kernel, by decide⟩, q2051⟩
def f_J1_isEmpty (p0 : Option Nat) (h : zH) : Option Int32 :=
  (zgI 17 1 p0 h).bind fun x1 =>
  (zgI 17 2 p0 h).bind fun x3 =>
  if x1 = x3 then
  some (1 : Int32)
  else
  some (0 : Int32)
theorem w_J1_isEmpty {G : zG} {p0 : Option Nat} {h : zH} {vx : Int32} (H : f_J1_isEmpty p0 h = some vx) : zMet G M_J1_isEmpty 2 [vR p0] h (.inl (some (vI vx))) h := by
  refine zMet.of (by decide +kernel) (Nat.le_of_ble_eq_true rfl) ?_
  show zW G M_J1_isEmpty 2 h (.inl (some (vI vx))) h 0 [(0, vR p0)] [] h
  unfold f_J1_isEmpty at H
  refine zw_aload_n (pc := 0) dJ1_isEmpty_0 rfl 0 rfl ?_
  obtain ⟨x1, e2, H⟩ := zbind H
  refine zy_getI (pc := 1) dJ1_isEmpty_1 lf_J1_24 (fun _ _ => rfl) e2 ?_
  refine zw_aload_n (pc := 4) dJ1_isEmpty_4 rfl 0 rfl ?_
  obtain ⟨x3, e4, H⟩ := zbind H
  refine zy_getI (pc := 5) dJ1_isEmpty_5 lf_J1_20 (fun _ _ => rfl) e4 ?_
  rcases zif H with ⟨c5, H⟩ | ⟨c5, H⟩
  · refine zw_icmp_ne (pc := 8) (tgt := 15) dJ1_isEmpty_8 rfl (fun q => absurd c5 q) (fun _ => ?_)
    refine zw_iconst (pc := 11) (v := (1 : Int32)) dJ1_isEmpty_11 (by decide) ?_
    refine zw_goto (pc := 12) (tgt := 16) dJ1_isEmpty_12 rfl ?_
    obtain rfl := Option.some.inj H
    exact zw_zret (pc := 16) dJ1_isEmpty_16 rfl rfl rfl rfl
  · refine zw_icmp_ne (pc := 8) (tgt := 15) dJ1_isEmpty_8 rfl (fun _ => ?_) (fun q => absurd q c5)
    refine zw_iconst (pc := 15) (v := (0 : Int32)) dJ1_isEmpty_15 (by decide) ?_
    obtain rfl := Option.some.inj H
    exact zw_zret (pc := 16) dJ1_isEmpty_16 rfl rfl rfl rfl
def M_J1_dec : zM := (yJ1_dec, cJ1_dec, 2, (.some .int), [])
theorem mf_J1_dec : zMs M_J1_dec 2 := ⟨⟨q2064, q184, ⟨by decide +kernel, by decide +kernel⟩, by decide +kernel, by decide⟩, q2063⟩
def f_J1_dec (p0 : Int32) (p1 : Int32) (h : zH) : Option Int32 :=
  if 0 ≤ (p0 + (-1 : Int32)) then
  some (p0 + (-1 : Int32))
  else
  some (p1 - (1 : Int32))
theorem w_J1_dec {G : zG} {p0 : Int32} {p1 : Int32} {h : zH} {vx : Int32} (H : f_J1_dec p0 p1 h = some vx) : zMet G M_J1_dec 2 [vI p0, vI p1] h (.inl (some (vI vx))) h := by
  refine zMet.of (by decide +kernel) (Nat.le_of_ble_eq_true rfl) ?_
  show zW G M_J1_dec 2 h (.inl (some (vI vx))) h 0 [(0, vI p0), (1, vI p1)] [] h
  unfold f_J1_dec at H
  refine zw_iinc (pc := 0) (v := (p0 + (-1 : Int32))) (lv' := [(0, vI (p0 + (-1 : Int32))), (1, vI p1)]) dJ1_dec_0 0 rfl rfl (by decide) rfl ?_
  refine zw_iload_n (pc := 3) dJ1_dec_3 rfl 0 rfl ?_
  rcases zif H with ⟨c1, H⟩ | ⟨c1, H⟩
  · refine zw_if_ge (pc := 4) (tgt := 11) dJ1_dec_4 rfl (fun _ => ?_) (fun q => absurd c1 q)
    refine zw_iload_n (pc := 11) dJ1_dec_11 rfl 0 rfl ?_
    obtain rfl := Option.some.inj H
    exact zw_iret (pc := 12) dJ1_dec_12 rfl rfl rfl
  · refine zw_if_ge (pc := 4) (tgt := 11) dJ1_dec_4 rfl (fun q => absurd q c1) (fun _ => ?_)
    refine zw_iload_n (pc := 7) dJ1_dec_7 rfl 1 rfl ?_
    refine zw_iconst (pc := 8) (v := (1 : Int32)) dJ1_dec_8 (by decide) ?_
    refine zw_isub (pc := 9) dJ1_dec_9 ?_
    refine zw_istore_n (pc := 10) (lv' := [(0, vI (p1 - (1 : Int32))), (1, vI p1)]) dJ1_dec_10 rfl (by decide) rfl ?_
    refine zw_iload_n (pc := 11) dJ1_dec_11 rfl 0 rfl ?_
    obtain rfl := Option.some.inj H
    exact zw_iret (pc := 12) dJ1_dec_12 rfl rfl rfl
def M_J1_pollLast : zM := (yJ1_pollLast, cJ1_pollLast, 4, (.some (.object "java/lang/Object")), [])
theorem mf_J1_pollLast : zMi M_J1_pollLast 0 := ⟨⟨q2061, q184, ⟨by decide +kernel, by decide +kernel⟩, by decide +kernel, by decide⟩, q2059⟩
def f_J1_pollLast (p0 : Option Nat) (h : zH) : Option (Option Nat × zH) :=
  (zgR 17 0 p0 h).bind fun x1 =>
  (zgI 17 2 p0 h).bind fun x3 =>
  (zaN x1 h).bind fun x5 =>
  (f_J1_dec x3 x5 h).bind fun x8 =>
  (f_J1_elementAt x1 x8 h).bind fun x10 =>
  if x10 = none then
  some (x10, h)
  else
  (zpI 17 2 p0 x8 h).bind fun h12 =>
  (zsR 60 x1 x8 none h12).bind fun h14 =>
  some (x10, h14)
theorem w_J1_pollLast {G : zG} {p0 : Option Nat} {h : zH} {vx : Option Nat} {vh : zH} (H : f_J1_pollLast p0 h = some (vx, vh)) : zMet G M_J1_pollLast 3 [vR p0] h (.inl (some (vR vx))) vh := by
  refine zMet.of (by decide +kernel) (Nat.le_of_ble_eq_true rfl) ?_
  show zW G M_J1_pollLast 3 h (.inl (some (vR vx))) vh 0 [(0, vR p0)] [] h
  unfold f_J1_pollLast at H
  refine zw_aload_n (pc := 0) dJ1_pollLast_0 rfl 0 rfl ?_
  obtain ⟨x1, e2, H⟩ := zbind H
  refine zy_getR (pc := 1) dJ1_pollLast_1 lf_J1_3 (fun _ _ => rfl) e2 ?_
  refine zw_dup (pc := 4) dJ1_pollLast_4 rfl ?_
  refine zw_astore_n (pc := 5) (lv' := [(1, vR x1), (0, vR p0)]) dJ1_pollLast_5 rfl (by decide) rfl ?_
  refine zw_aload_n (pc := 6) dJ1_pollLast_6 rfl 1 rfl ?_
  obtain ⟨x3, e4, H⟩ := zbind H
  refine zy_getI (pc := 7) dJ1_pollLast_7 lf_J1_20 (fun _ _ => rfl) e4 ?_
  refine zw_aload_n (pc := 10) dJ1_pollLast_10 rfl 0 rfl ?_
  obtain ⟨x5, e6, H⟩ := zbind H
  refine zy_alen (pc := 11) dJ1_pollLast_11 e6 ?_
  obtain ⟨x8, e7, H⟩ := zbind H
  refine zw_invS (pc := 12) (M' := M_J1_dec) (A := [vI x3, vI x5]) [vR x1] dJ1_pollLast_12 (Or.inl q2062) mf_J1_dec (w_J1_dec e7) (Nat.le_of_ble_eq_true rfl) rfl rfl (Nat.le_of_ble_eq_true rfl) (zkv ?_) zkn9
  refine zw_dup (pc := 15) dJ1_pollLast_15 rfl ?_
  refine zw_istore_n (pc := 16) (lv' := [(2, vI x8), (1, vR x1), (0, vR p0)]) dJ1_pollLast_16 rfl (by decide) rfl ?_
  obtain ⟨x10, e9, H⟩ := zbind H
  refine zw_invS (pc := 17) (M' := M_J1_elementAt) (A := [vR x1, vI x8]) [] dJ1_pollLast_17 (Or.inl q1713) mf_J1_elementAt (w_J1_elementAt e9) (Nat.le_of_ble_eq_true rfl) rfl rfl (Nat.le_of_ble_eq_true rfl) (zkv ?_) zkn9
  refine zw_astore_n (pc := 20) (lv' := [(3, vR x10), (2, vI x8), (1, vR x1), (0, vR p0)]) dJ1_pollLast_20 rfl (by decide) rfl ?_
  refine zw_aload_n (pc := 21) dJ1_pollLast_21 rfl 0 rfl ?_
  rcases zif H with ⟨c11, H⟩ | ⟨c11, H⟩
  · refine zw_ifnull (pc := 22) (tgt := 34) dJ1_pollLast_22 rfl (fun _ => ?_) (fun q => absurd c11 q)
    refine zw_aload_n (pc := 34) dJ1_pollLast_34 rfl 0 rfl ?_
    obtain ⟨rfl, rfl⟩ := Prod.mk.inj (Option.some.inj H)
    exact zw_aret (pc := 35) dJ1_pollLast_35 rfl (Or.inl ⟨_, rfl⟩) rfl rfl
  · refine zw_ifnull (pc := 22) (tgt := 34) dJ1_pollLast_22 rfl (fun q => absurd q c11) (fun _ => ?_)
    refine zw_aload_n (pc := 25) dJ1_pollLast_25 rfl 2 rfl ?_
    refine zw_aload_n (pc := 26) dJ1_pollLast_26 rfl 3 rfl ?_
    refine zw_iload_n (pc := 27) dJ1_pollLast_27 rfl 1 rfl ?_
    refine zw_dup_x1 (pc := 28) dJ1_pollLast_28 rfl rfl ?_
    obtain ⟨h12, e13, H⟩ := zbind H
    refine zy_putI (pc := 29) dJ1_pollLast_29 lp_J1_20 rfl e13 ?_
    refine zw_null (pc := 32) dJ1_pollLast_32 ?_
    obtain ⟨h14, e15, H⟩ := zbind H
    refine zy_aast (pc := 33) dJ1_pollLast_33 (by decide) e15 ?_
    refine zw_aload_n (pc := 34) dJ1_pollLast_34 rfl 0 rfl ?_
    obtain ⟨rfl, rfl⟩ := Prod.mk.inj (Option.some.inj H)
    exact zw_aret (pc := 35) dJ1_pollLast_35 rfl (Or.inl ⟨_, rfl⟩) rfl rfl
def M_J1_removeLast : zM := (yJ1_removeLast, cJ1_removeLast, 2, (.some (.object "java/lang/Object")), [])
theorem mf_J1_removeLast : zMi M_J1_removeLast 0 := ⟨⟨q2057, q184, ⟨by decide +kernel, by decide +kernel⟩, by decide +kernel, by decide⟩, q2055⟩
def f_J1_removeLast (p0 : Option Nat) (h : zH) : Option (Option Nat × zH) :=
  (zrv 17 p0 h).bind fun b1 =>
  zb2 (f_J1_pollLast (some b1) h) fun x7 h6 =>
  if x7 = none then
  none
  else
  some (x7, h6)
theorem w_J1_removeLast {G : zG} {p0 : Option Nat} {h : zH} {vx : Option Nat} {vh : zH} (H : f_J1_removeLast p0 h = some (vx, vh)) : zMet G M_J1_removeLast 4 [vR p0] h (.inl (some (vR vx))) vh := by
  refine zMet.of (by decide +kernel) (Nat.le_of_ble_eq_true rfl) ?_
  show zW G M_J1_removeLast 4 h (.inl (some (vR vx))) vh 0 [(0, vR p0)] [] h
  unfold f_J1_removeLast at H
  refine zw_aload_n (pc := 0) dJ1_removeLast_0 rfl 0 rfl ?_
  obtain ⟨b1, e3, H⟩ := zbind H
  obtain ⟨e2, e4⟩ := zrv_ok e3
  obtain ⟨x7, h6, e5, H⟩ := zbind2 H
  refine zw_invV (pc := 1) (M' := M_J1_pollLast) (A := []) [] dJ1_removeLast_1 (Or.inl q2058) mf_J1_pollLast q2060 (zkq e4 rfl) (w_J1_pollLast e5) (Nat.le_of_ble_eq_true rfl) rfl (by rw [← e2]; rfl) (Nat.le_of_ble_eq_true rfl) (zkv ?_) zkn9
  refine zw_astore_n (pc := 4) (lv' := [(1, vR x7), (0, vR p0)]) dJ1_removeLast_4 rfl (by decide) rfl ?_
  refine zw_aload_n (pc := 5) dJ1_removeLast_5 rfl 0 rfl ?_
  rcases zif H with ⟨c8, H⟩ | ⟨c8, H⟩
  · refine zw_ifnonnull (pc := 6) (tgt := 17) dJ1_removeLast_6 rfl (fun q => absurd c8 q) (fun _ => ?_)
    cases H
  · refine zw_ifnonnull (pc := 6) (tgt := 17) dJ1_removeLast_6 rfl (fun _ => ?_) (fun q => absurd q c8)
    refine zw_aload_n (pc := 17) dJ1_removeLast_17 rfl 0 rfl ?_
    obtain ⟨rfl, rfl⟩ := Prod.mk.inj (Option.some.inj H)
    exact zw_aret (pc := 18) dJ1_removeLast_18 rfl (Or.inl ⟨_, rfl⟩) rfl rfl
theorem lp_J2_15 {nm : String} : zFp "java/lang/AbstractStringBuilder" nm 15 18 0 := ⟨_, "java/lang/AbstractStringBuilder", by decide, rfl, by decide, Or.inl rfl, Or.inl ⟨Or.inl q320, rfl⟩⟩
theorem lp_J2_22 {nm : String} : zFp "java/lang/AbstractStringBuilder" nm 22 18 1 := ⟨_, "java/lang/AbstractStringBuilder", by decide, rfl, by decide, Or.inl rfl, Or.inl ⟨Or.inl q321, rfl⟩⟩
def M_J2_init : zM := (yJ2_init, cJ2_init, 2, none, [])
theorem mf_J2_init : zMi M_J2_init 1 := ⟨⟨q309, q185, ⟨by decide +kernel, by decide +kernel⟩, by decide +kernel, by decide⟩, q308⟩
def f_J2_init (p0 : Option Nat) (p1 : Int32) (h : zH) : Option zH :=
  p0.bind fun b1 =>
  if (1 : Int32) = 0 then
  none
  else
  zb2 (zna 53 p1 h) fun q4 h5 =>
  (zpR 18 0 p0 (some q4) h5).bind fun h7 =>
  (zpZ 18 1 p0 (0 : Int32) h7).bind fun h9 =>
  some h9
theorem w_J2_init {G : zG} {p0 : Option Nat} {p1 : Int32} {h : zH} {vh : zH} (H : f_J2_init p0 p1 h = some vh) : zMet G M_J2_init 2 [vR p0, vI p1] h (.inl none) vh := by
  refine zMet.of (by decide +kernel) (Nat.le_of_ble_eq_true rfl) ?_
  show zW G M_J2_init 2 h (.inl none) vh 0 [(0, vR p0), (1, vI p1)] [] h
  unfold f_J2_init at H
  refine zw_aload_n (pc := 0) dJ2_init_0 rfl 0 rfl ?_
  obtain ⟨b1, e2, H⟩ := zbind H
  refine zy_objInit (pc := 1) dJ2_init_1 q310 e2 (Nat.le_of_ble_eq_true rfl) (Nat.le_of_ble_eq_true rfl) ?_
  refine zw_gets (pc := 4) 0 dJ2_init_4 rfl q311 rfl (show zstv _ 0 = vI (1 : Int32) from rfl) ?_
  rcases zif H with ⟨c3, H⟩ | ⟨c3, H⟩
  · refine zw_if_eq (pc := 7) (tgt := 25) dJ2_init_7 rfl (fun _ => ?_) (fun q => absurd c3 q)
    refine zw_aload_n (pc := 25) dJ2_init_25 rfl 0 rfl ?_
    refine zw_iload_n (pc := 26) dJ2_init_26 rfl 1 rfl ?_
    cases H
  · refine zw_if_eq (pc := 7) (tgt := 25) dJ2_init_7 rfl (fun q => absurd q c3) (fun _ => ?_)
    refine zw_aload_n (pc := 10) dJ2_init_10 rfl 0 rfl ?_
    refine zw_iload_n (pc := 11) dJ2_init_11 rfl 1 rfl ?_
    obtain ⟨q4, h5, e6, H⟩ := zbind2 H
    refine zy_newa (pc := 12) (k := 53) dJ2_init_12 (by decide) q269 e6 ?_
    obtain ⟨h7, e8, H⟩ := zbind H
    refine zy_putR (pc := 14) dJ2_init_14 lp_J2_15 rfl e8 ?_
    refine zw_aload_n (pc := 17) dJ2_init_17 rfl 0 rfl ?_
    refine zw_iconst (pc := 18) (v := (0 : Int32)) dJ2_init_18 (by decide) ?_
    obtain ⟨h9, e10, H⟩ := zbind H
    refine zy_putZ (pc := 19) dJ2_init_19 lp_J2_22 (Or.inr rfl) e10 ?_
    refine zw_goto (pc := 22) (tgt := 38) dJ2_init_22 rfl ?_
    obtain rfl := Option.some.inj H
    exact zw_vret (pc := 38) dJ2_init_38 rfl rfl rfl
def M_J3_init : zM := (yJ3_init, cJ3_init, 1, none, [])
theorem mf_J3_init : zMi M_J3_init 0 := ⟨⟨q306, q186, ⟨by decide +kernel, by decide +kernel⟩, by decide +kernel, by decide⟩, q305⟩
def f_J3_init (p0 : Option Nat) (h : zH) : Option zH :=
  p0.bind fun b1 =>
  (f_J2_init (some b1) (16 : Int32) h).bind fun h4 =>
  some h4
theorem w_J3_init {G : zG} {p0 : Option Nat} {h : zH} {vh : zH} (H : f_J3_init p0 h = some vh) : zMet G M_J3_init 3 [vR p0] h (.inl none) vh := by
  refine zMet.of (by decide +kernel) (Nat.le_of_ble_eq_true rfl) ?_
  show zW G M_J3_init 3 h (.inl none) vh 0 [(0, vR p0)] [] h
  unfold f_J3_init at H
  refine zw_aload_n (pc := 0) dJ3_init_0 rfl 0 rfl ?_
  refine zw_bipush (pc := 1) (v := (16 : Int32)) dJ3_init_1 (by decide) ?_
  obtain ⟨b1, e2, H⟩ := zbind H
  obtain ⟨h4, e3, H⟩ := zbind H
  refine zw_invI (pc := 3) (M' := M_J2_init) (A := [vI (16 : Int32)]) [] dJ3_init_3 (Or.inl q307) mf_J2_init rfl rfl (w_J2_init e3) (Nat.le_of_ble_eq_true rfl) rfl (by rw [← e2]; rfl) (Nat.le_of_ble_eq_true rfl) (zku ?_) zkn9
  obtain rfl := Option.some.inj H
  exact zw_vret (pc := 6) dJ3_init_6 rfl rfl rfl
theorem lf_J2_79 : zFl "java/lang/AbstractStringBuilder" 79 18 3 := ⟨_, "java/lang/AbstractStringBuilder", by decide, rfl, by decide, Or.inl q324, Or.inl rfl⟩
def M_J2_length : zM := (yJ2_length, cJ2_length, 1, (.some .int), [])
theorem mf_J2_length : zMi M_J2_length 0 := ⟨⟨q703, q185, ⟨by decide +kernel, by decide +kernel⟩, by decide +kernel, by decide⟩, q702⟩
def f_J2_length (p0 : Option Nat) (h : zH) : Option Int32 :=
  (zgI 18 3 p0 h).bind fun x1 =>
  some x1
theorem w_J2_length {G : zG} {p0 : Option Nat} {h : zH} {vx : Int32} (H : f_J2_length p0 h = some vx) : zMet G M_J2_length 2 [vR p0] h (.inl (some (vI vx))) h := by
  refine zMet.of (by decide +kernel) (Nat.le_of_ble_eq_true rfl) ?_
  show zW G M_J2_length 2 h (.inl (some (vI vx))) h 0 [(0, vR p0)] [] h
  unfold f_J2_length at H
  refine zw_aload_n (pc := 0) dJ2_length_0 rfl 0 rfl ?_
  obtain ⟨x1, e2, H⟩ := zbind H
  refine zy_getI (pc := 1) dJ2_length_1 lf_J2_79 (fun _ _ => rfl) e2 ?_
  obtain rfl := Option.some.inj H
  exact zw_iret (pc := 4) dJ2_length_4 rfl rfl rfl
def M_J3_length : zM := (yJ3_length, cJ3_length, 1, (.some .int), [])
theorem mf_J3_length : zMi M_J3_length 0 := ⟨⟨q700, q186, ⟨by decide +kernel, by decide +kernel⟩, by decide +kernel, by decide⟩, q698⟩
def f_J3_length (p0 : Option Nat) (h : zH) : Option Int32 :=
  (zrv 18 p0 h).bind fun b1 =>
  (f_J2_length (some b1) h).bind fun x6 =>
  some x6
theorem w_J3_length {G : zG} {p0 : Option Nat} {h : zH} {vx : Int32} (H : f_J3_length p0 h = some vx) : zMet G M_J3_length 3 [vR p0] h (.inl (some (vI vx))) h := by
  refine zMet.of (by decide +kernel) (Nat.le_of_ble_eq_true rfl) ?_
  show zW G M_J3_length 3 h (.inl (some (vI vx))) h 0 [(0, vR p0)] [] h
  unfold f_J3_length at H
  refine zw_aload_n (pc := 0) dJ3_length_0 rfl 0 rfl ?_
  obtain ⟨b1, e4, H⟩ := zbind H
  obtain ⟨e2, e5⟩ := zrv_ok e4
  obtain ⟨x6, e3, H⟩ := zbind H
  refine zw_invSU (pc := 1) (M' := M_J2_length) (A := []) [] dJ3_length_1 q701 q3019 q333 mf_J2_length (by decide) (zkq e5 rfl) (w_J2_length e3) (Nat.le_of_ble_eq_true rfl) rfl (by rw [← e2]; rfl) (Nat.le_of_ble_eq_true rfl) (zkv ?_) zkn9
  obtain rfl := Option.some.inj H
  exact zw_iret (pc := 4) dJ3_length_4 rfl rfl rfl
def M_J14_canEncode : zM := (yJ14_canEncode, cJ14_canEncode, 1, (.some .boolean), [])
theorem mf_J14_canEncode : zMs M_J14_canEncode 1 := ⟨⟨q751, q200, ⟨by decide +kernel, by decide +kernel⟩, by decide +kernel, by decide⟩, q750⟩
def f_J14_canEncode (p0 : Int32) (h : zH) : Option Int32 :=
  if (255 : Int32) < p0 then
  some (0 : Int32)
  else
  some (1 : Int32)
theorem w_J14_canEncode {G : zG} {p0 : Int32} {h : zH} {vx : Int32} (H : f_J14_canEncode p0 h = some vx) : zMet G M_J14_canEncode 2 [vI p0] h (.inl (some (vI vx))) h := by
  refine zMet.of (by decide +kernel) (Nat.le_of_ble_eq_true rfl) ?_
  show zW G M_J14_canEncode 2 h (.inl (some (vI vx))) h 0 [(0, vI p0)] [] h
  unfold f_J14_canEncode at H
  refine zw_iload_n (pc := 0) dJ14_canEncode_0 rfl 0 rfl ?_
  refine zw_sipush (pc := 1) (v := (255 : Int32)) dJ14_canEncode_1 (by decide) ?_
  rcases zif H with ⟨c1, H⟩ | ⟨c1, H⟩
  · refine zw_icmp_gt (pc := 4) (tgt := 11) dJ14_canEncode_4 rfl (fun _ => ?_) (fun q => absurd c1 q)
    refine zw_iconst (pc := 11) (v := (0 : Int32)) dJ14_canEncode_11 (by decide) ?_
    obtain rfl := Option.some.inj H
    exact zw_zret (pc := 12) dJ14_canEncode_12 rfl rfl rfl rfl
  · refine zw_icmp_gt (pc := 4) (tgt := 11) dJ14_canEncode_4 rfl (fun q => absurd q c1) (fun _ => ?_)
    refine zw_iconst (pc := 7) (v := (1 : Int32)) dJ14_canEncode_7 (by decide) ?_
    refine zw_goto (pc := 8) (tgt := 12) dJ14_canEncode_8 rfl ?_
    obtain rfl := Option.some.inj H
    exact zw_zret (pc := 12) dJ14_canEncode_12 rfl rfl rfl rfl
theorem lc_J13_311 : zCt "java/util/Arrays" 311 [53] := ⟨_, q739, by
  intro k hk
  simp only [List.mem_cons, List.not_mem_nil, or_false] at hk
  rcases hk with rfl <;> first | exact Or.inl ⟨by decide, by decide +kernel⟩ | exact Or.inr ⟨_, rfl, Or.inl rfl⟩ | exact Or.inr ⟨_, rfl, Or.inr (by decide +kernel)⟩⟩
def M_J13_copyOf : zM := (yJ13_copyOf, cJ13_copyOf, 3, (.some (.array .byte)), [])
theorem mf_J13_copyOf : zMs M_J13_copyOf 2 := ⟨⟨q732, q198, ⟨by decide +kernel, by decide +kernel⟩, by decide +kernel, by decide⟩, q731⟩
def f_J13_copyOf (p0 : Option Nat) (p1 : Int32) (h : zH) : Option (Option Nat × zH) :=
  (zaN p0 h).bind fun x1 =>
  if p1 = x1 then
  zb2 (zcB p0 h) fun q13 h14 =>
  if zct [53] (some q13) h14 = true then
  some ((some q13), h14)
  else none
  else
  zb2 (zna 53 p1 h) fun q4 h5 =>
  (zaN p0 h5).bind fun x7 =>
  (f_J12_min x7 p1 h5).bind fun x10 =>
  (zcpI 53 p0 (0 : Int32) (some q4) (0 : Int32) x10 h5).bind fun h11 =>
  some ((some q4), h11)
theorem w_J13_copyOf {G : zG} {p0 : Option Nat} {p1 : Int32} {h : zH} {vx : Option Nat} {vh : zH} (H : f_J13_copyOf p0 p1 h = some (vx, vh)) : zMet G M_J13_copyOf 3 [vR p0, vI p1] h (.inl (some (vR vx))) vh := by
  refine zMet.of (by decide +kernel) (Nat.le_of_ble_eq_true rfl) ?_
  show zW G M_J13_copyOf 3 h (.inl (some (vR vx))) vh 0 [(0, vR p0), (1, vI p1)] [] h
  unfold f_J13_copyOf at H
  refine zw_iload_n (pc := 0) dJ13_copyOf_0 rfl 1 rfl ?_
  refine zw_aload_n (pc := 1) dJ13_copyOf_1 rfl 0 rfl ?_
  obtain ⟨x1, e2, H⟩ := zbind H
  refine zy_alen (pc := 2) dJ13_copyOf_2 e2 ?_
  rcases zif H with ⟨c3, H⟩ | ⟨c3, H⟩
  · refine zw_icmp_ne (pc := 3) (tgt := 14) dJ13_copyOf_3 rfl (fun q => absurd c3 q) (fun _ => ?_)
    refine zw_aload_n (pc := 6) dJ13_copyOf_6 rfl 0 rfl ?_
    obtain ⟨q13, h14, e15, H⟩ := zbind2 H
    refine zy_cloneB (pc := 7) dJ13_copyOf_7 q733 (Nat.le_of_ble_eq_true rfl) e15 (Nat.le_of_ble_eq_true rfl) ?_
    obtain ⟨c16, H⟩ := zgd H
    refine zy_cast (pc := 10) [53] dJ13_copyOf_10 lc_J13_311 c16 ?_
    obtain ⟨rfl, rfl⟩ := Prod.mk.inj (Option.some.inj H)
    exact zw_aret (pc := 13) dJ13_copyOf_13 rfl (Or.inr ⟨_, rfl⟩) rfl rfl
  · refine zw_icmp_ne (pc := 3) (tgt := 14) dJ13_copyOf_3 rfl (fun _ => ?_) (fun q => absurd q c3)
    refine zw_iload_n (pc := 14) dJ13_copyOf_14 rfl 1 rfl ?_
    obtain ⟨q4, h5, e6, H⟩ := zbind2 H
    refine zy_newa (pc := 15) (k := 53) dJ13_copyOf_15 (by decide) q269 e6 ?_
    refine zw_astore_n (pc := 17) (lv' := [(2, vR (some q4)), (0, vR p0), (1, vI p1)]) dJ13_copyOf_17 rfl (by decide) rfl ?_
    refine zw_aload_n (pc := 18) dJ13_copyOf_18 rfl 1 rfl ?_
    refine zw_iconst (pc := 19) (v := (0 : Int32)) dJ13_copyOf_19 (by decide) ?_
    refine zw_aload_n (pc := 20) dJ13_copyOf_20 rfl 0 rfl ?_
    refine zw_iconst (pc := 21) (v := (0 : Int32)) dJ13_copyOf_21 (by decide) ?_
    refine zw_aload_n (pc := 22) dJ13_copyOf_22 rfl 1 rfl ?_
    obtain ⟨x7, e8, H⟩ := zbind H
    refine zy_alen (pc := 23) dJ13_copyOf_23 e8 ?_
    refine zw_iload_n (pc := 24) dJ13_copyOf_24 rfl 2 rfl ?_
    obtain ⟨x10, e9, H⟩ := zbind H
    refine zw_invS (pc := 25) (M' := M_J12_min) (A := [vI x7, vI p1]) [vI (0 : Int32), vR (some q4), vI (0 : Int32), vR p0] dJ13_copyOf_25 (Or.inl q740) mf_J12_min (w_J12_min e9) (Nat.le_of_ble_eq_true rfl) rfl rfl (Nat.le_of_ble_eq_true rfl) (zkv ?_) zkn9
    obtain ⟨h11, e12, H⟩ := zbind H
    refine zy_copyI (pc := 28) dJ13_copyOf_28 q743 (Nat.le_of_ble_eq_true rfl) (by decide) e12 (Nat.le_of_ble_eq_true rfl) ?_
    refine zw_aload_n (pc := 31) dJ13_copyOf_31 rfl 0 rfl ?_
    obtain ⟨rfl, rfl⟩ := Prod.mk.inj (Option.some.inj H)
    exact zw_aret (pc := 32) dJ13_copyOf_32 rfl (Or.inr ⟨_, rfl⟩) rfl rfl
def M_J11_newLength : zM := (yJ11_newLength, cJ11_newLength, 4, (.some .int), [])
theorem mf_J11_newLength : zMs M_J11_newLength 3 := ⟨⟨q721, q196, ⟨by decide +kernel, by decide +kernel⟩, by decide +kernel, by decide⟩, q720⟩
def f_J11_newLength (p0 : Int32) (p1 : Int32) (p2 : Int32) (h : zH) : Option Int32 :=
  (f_J12_max p1 p2 h).bind fun x2 =>
  if (p0 + x2) ≤ (0 : Int32) then
  none
  else
  if (2147483639 : Int32) < (p0 + x2) then
  none
  else
  some (p0 + x2)
theorem w_J11_newLength {G : zG} {p0 : Int32} {p1 : Int32} {p2 : Int32} {h : zH} {vx : Int32} (H : f_J11_newLength p0 p1 p2 h = some vx) : zMet G M_J11_newLength 3 [vI p0, vI p1, vI p2] h (.inl (some (vI vx))) h := by
  refine zMet.of (by decide +kernel) (Nat.le_of_ble_eq_true rfl) ?_
  show zW G M_J11_newLength 3 h (.inl (some (vI vx))) h 0 [(0, vI p0), (1, vI p1), (2, vI p2)] [] h
  unfold f_J11_newLength at H
  refine zw_iload_n (pc := 0) dJ11_newLength_0 rfl 0 rfl ?_
  refine zw_iload_n (pc := 1) dJ11_newLength_1 rfl 1 rfl ?_
  refine zw_iload_n (pc := 2) dJ11_newLength_2 rfl 2 rfl ?_
  obtain ⟨x2, e1, H⟩ := zbind H
  refine zw_invS (pc := 3) (M' := M_J12_max) (A := [vI p1, vI p2]) [vI p0] dJ11_newLength_3 (Or.inl q722) mf_J12_max (w_J12_max e1) (Nat.le_of_ble_eq_true rfl) rfl rfl (Nat.le_of_ble_eq_true rfl) (zkv ?_) zkn9
  refine zw_iadd (pc := 6) dJ11_newLength_6 ?_
  refine zw_istore_n (pc := 7) (lv' := [(3, vI (p0 + x2)), (0, vI p0), (1, vI p1), (2, vI p2)]) dJ11_newLength_7 rfl (by decide) rfl ?_
  refine zw_iconst (pc := 8) (v := (0 : Int32)) dJ11_newLength_8 (by decide) ?_
  refine zw_iload_n (pc := 9) dJ11_newLength_9 rfl 0 rfl ?_
  rcases zif H with ⟨c3, H⟩ | ⟨c3, H⟩
  · refine zw_icmp_ge (pc := 10) (tgt := 21) dJ11_newLength_10 rfl (fun _ => ?_) (fun q => absurd c3 q)
    refine zw_iload_n (pc := 21) dJ11_newLength_21 rfl 1 rfl ?_
    refine zw_iload_n (pc := 22) dJ11_newLength_22 rfl 2 rfl ?_
    cases H
  · refine zw_icmp_ge (pc := 10) (tgt := 21) dJ11_newLength_10 rfl (fun q => absurd q c3) (fun _ => ?_)
    refine zw_iload_n (pc := 13) dJ11_newLength_13 rfl 0 rfl ?_
    refine zw_ldcI (pc := 14) dJ11_newLength_14 q725 ?_
    rcases zif H with ⟨c4, H⟩ | ⟨c4, H⟩
    · refine zw_icmp_gt (pc := 16) (tgt := 21) dJ11_newLength_16 rfl (fun _ => ?_) (fun q => absurd c4 q)
      refine zw_iload_n (pc := 21) dJ11_newLength_21 rfl 1 rfl ?_
      refine zw_iload_n (pc := 22) dJ11_newLength_22 rfl 2 rfl ?_
      cases H
    · refine zw_icmp_gt (pc := 16) (tgt := 21) dJ11_newLength_16 rfl (fun q => absurd q c4) (fun _ => ?_)
      refine zw_iload_n (pc := 19) dJ11_newLength_19 rfl 0 rfl ?_
      obtain rfl := Option.some.inj H
      exact zw_iret (pc := 20) dJ11_newLength_20 rfl rfl rfl
theorem lf_J2_15 : zFl "java/lang/AbstractStringBuilder" 15 18 0 := ⟨_, "java/lang/AbstractStringBuilder", by decide, rfl, by decide, Or.inl q320, Or.inl rfl⟩
theorem lf_J2_22 : zFl "java/lang/AbstractStringBuilder" 22 18 1 := ⟨_, "java/lang/AbstractStringBuilder", by decide, rfl, by decide, Or.inl q321, Or.inl rfl⟩
def M_J2_newCapacity : zM := (yJ2_newCapacity, cJ2_newCapacity, 6, (.some .int), [])
theorem mf_J2_newCapacity : zMi M_J2_newCapacity 1 := ⟨⟨q718, q185, ⟨by decide +kernel, by decide +kernel⟩, by decide +kernel, by decide⟩, q717⟩
def f_J2_newCapacity (p0 : Option Nat) (p1 : Int32) (h : zH) : Option (Int32 × zH) :=
  (zgR 18 0 p0 h).bind fun x1 =>
  (zaN x1 h).bind fun x3 =>
  (zgI 18 1 p0 h).bind fun x5 =>
  (zgI 18 1 p0 h).bind fun x7 =>
  (f_J11_newLength x3 ((p1 <<< (x5 &&& 31)) - x3) (x3 + ((2 : Int32) <<< (x7 &&& 31))) h).bind fun x10 =>
  if x10 = (2147483647 : Int32) then
  none
  else
  (zgI 18 1 p0 h).bind fun x12 =>
  some ((x10 >>> (x12 &&& 31)), h)
theorem w_J2_newCapacity {G : zG} {p0 : Option Nat} {p1 : Int32} {h : zH} {vx : Int32} {vh : zH} (H : f_J2_newCapacity p0 p1 h = some (vx, vh)) : zMet G M_J2_newCapacity 4 [vR p0, vI p1] h (.inl (some (vI vx))) vh := by
  refine zMet.of (by decide +kernel) (Nat.le_of_ble_eq_true rfl) ?_
  show zW G M_J2_newCapacity 4 h (.inl (some (vI vx))) vh 0 [(0, vR p0), (1, vI p1)] [] h
  unfold f_J2_newCapacity at H
  refine zw_aload_n (pc := 0) dJ2_newCapacity_0 rfl 0 rfl ?_
  obtain ⟨x1, e2, H⟩ := zbind H
  refine zy_getR (pc := 1) dJ2_newCapacity_1 lf_J2_15 (fun _ _ => rfl) e2 ?_
  obtain ⟨x3, e4, H⟩ := zbind H
  refine zy_alen (pc := 4) dJ2_newCapacity_4 e4 ?_
  refine zw_istore_n (pc := 5) (lv' := [(2, vI x3), (0, vR p0), (1, vI p1)]) dJ2_newCapacity_5 rfl (by decide) rfl ?_
  refine zw_iload_n (pc := 6) dJ2_newCapacity_6 rfl 2 rfl ?_
  refine zw_aload_n (pc := 7) dJ2_newCapacity_7 rfl 1 rfl ?_
  obtain ⟨x5, e6, H⟩ := zbind H
  refine zy_getI (pc := 8) dJ2_newCapacity_8 lf_J2_22 (fun _ _ => rfl) e6 ?_
  refine zw_ishl (pc := 11) dJ2_newCapacity_11 ?_
  refine zw_istore_n (pc := 12) (lv' := [(3, vI (p1 <<< (x5 &&& 31))), (2, vI x3), (0, vR p0), (1, vI p1)]) dJ2_newCapacity_12 rfl (by decide) rfl ?_
  refine zw_iload_n (pc := 13) dJ2_newCapacity_13 rfl 0 rfl ?_
  refine zw_iload_n (pc := 14) dJ2_newCapacity_14 rfl 1 rfl ?_
  refine zw_isub (pc := 15) dJ2_newCapacity_15 ?_
  refine zw_istore (pc := 16) (lv' := [(4, vI ((p1 <<< (x5 &&& 31)) - x3)), (3, vI (p1 <<< (x5 &&& 31))), (2, vI x3), (0, vR p0), (1, vI p1)]) dJ2_newCapacity_16 (by decide) rfl ?_
  refine zw_iload_n (pc := 18) dJ2_newCapacity_18 rfl 2 rfl ?_
  refine zw_iload (pc := 19) dJ2_newCapacity_19 0 rfl ?_
  refine zw_iload_n (pc := 21) dJ2_newCapacity_21 rfl 2 rfl ?_
  refine zw_iconst (pc := 22) (v := (2 : Int32)) dJ2_newCapacity_22 (by decide) ?_
  refine zw_aload_n (pc := 23) dJ2_newCapacity_23 rfl 3 rfl ?_
  obtain ⟨x7, e8, H⟩ := zbind H
  refine zy_getI (pc := 24) dJ2_newCapacity_24 lf_J2_22 (fun _ _ => rfl) e8 ?_
  refine zw_ishl (pc := 27) dJ2_newCapacity_27 ?_
  refine zw_iadd (pc := 28) dJ2_newCapacity_28 ?_
  obtain ⟨x10, e9, H⟩ := zbind H
  refine zw_invS (pc := 29) (M' := M_J11_newLength) (A := [vI x3, vI ((p1 <<< (x5 &&& 31)) - x3), vI (x3 + ((2 : Int32) <<< (x7 &&& 31)))]) [] dJ2_newCapacity_29 (Or.inl q719) mf_J11_newLength (w_J11_newLength e9) (Nat.le_of_ble_eq_true rfl) rfl rfl (Nat.le_of_ble_eq_true rfl) (zkv ?_) zkn9
  refine zw_istore (pc := 32) (lv' := [(5, vI x10), (4, vI ((p1 <<< (x5 &&& 31)) - x3)), (3, vI (p1 <<< (x5 &&& 31))), (2, vI x3), (0, vR p0), (1, vI p1)]) dJ2_newCapacity_32 (by decide) rfl ?_
  refine zw_iload (pc := 34) dJ2_newCapacity_34 0 rfl ?_
  refine zw_ldcI (pc := 36) dJ2_newCapacity_36 q729 ?_
  rcases zif H with ⟨c11, H⟩ | ⟨c11, H⟩
  · refine zw_icmp_ne (pc := 38) (tgt := 51) dJ2_newCapacity_38 rfl (fun q => absurd c11 q) (fun _ => ?_)
    cases H
  · refine zw_icmp_ne (pc := 38) (tgt := 51) dJ2_newCapacity_38 rfl (fun _ => ?_) (fun q => absurd q c11)
    refine zw_iload (pc := 51) dJ2_newCapacity_51 0 rfl ?_
    refine zw_aload_n (pc := 53) dJ2_newCapacity_53 rfl 4 rfl ?_
    obtain ⟨x12, e13, H⟩ := zbind H
    refine zy_getI (pc := 54) dJ2_newCapacity_54 lf_J2_22 (fun _ _ => rfl) e13 ?_
    refine zw_ishr (pc := 57) dJ2_newCapacity_57 ?_
    obtain ⟨rfl, rfl⟩ := Prod.mk.inj (Option.some.inj H)
    exact zw_iret (pc := 58) dJ2_newCapacity_58 rfl rfl rfl
def M_J2_ensureCapacityInternal : zM := (yJ2_ensureCapacityInternal, cJ2_ensureCapacityInternal, 3, none, [])
theorem mf_J2_ensureCapacityInternal : zMi M_J2_ensureCapacityInternal 1 := ⟨⟨q714, q185, ⟨by decide +kernel, by decide +kernel⟩, by decide +kernel, by decide⟩, q713⟩
def f_J2_ensureCapacityInternal (p0 : Option Nat) (p1 : Int32) (h : zH) : Option zH :=
  (zgR 18 0 p0 h).bind fun x1 =>
  (zaN x1 h).bind fun x3 =>
  (zgI 18 1 p0 h).bind fun x5 =>
  if (p1 - (x3 >>> (x5 &&& 31))) ≤ 0 then
  some h
  else
  (zgR 18 0 p0 h).bind fun x8 =>
  (zrv 18 p0 h).bind fun b10 =>
  zb2 (f_J2_newCapacity (some b10) p1 h) fun x16 h15 =>
  (zgI 18 1 p0 h15).bind fun x17 =>
  zb2 (f_J13_copyOf x8 (x16 <<< (x17 &&& 31)) h15) fun x21 h20 =>
  (zpR 18 0 p0 x21 h20).bind fun h22 =>
  some h22
theorem w_J2_ensureCapacityInternal {G : zG} {p0 : Option Nat} {p1 : Int32} {h : zH} {vh : zH} (H : f_J2_ensureCapacityInternal p0 p1 h = some vh) : zMet G M_J2_ensureCapacityInternal 5 [vR p0, vI p1] h (.inl none) vh := by
  refine zMet.of (by decide +kernel) (Nat.le_of_ble_eq_true rfl) ?_
  show zW G M_J2_ensureCapacityInternal 5 h (.inl none) vh 0 [(0, vR p0), (1, vI p1)] [] h
  unfold f_J2_ensureCapacityInternal at H
  refine zw_aload_n (pc := 0) dJ2_ensureCapacityInternal_0 rfl 0 rfl ?_
  obtain ⟨x1, e2, H⟩ := zbind H
  refine zy_getR (pc := 1) dJ2_ensureCapacityInternal_1 lf_J2_15 (fun _ _ => rfl) e2 ?_
  obtain ⟨x3, e4, H⟩ := zbind H
  refine zy_alen (pc := 4) dJ2_ensureCapacityInternal_4 e4 ?_
  refine zw_aload_n (pc := 5) dJ2_ensureCapacityInternal_5 rfl 0 rfl ?_
  obtain ⟨x5, e6, H⟩ := zbind H
  refine zy_getI (pc := 6) dJ2_ensureCapacityInternal_6 lf_J2_22 (fun _ _ => rfl) e6 ?_
  refine zw_ishr (pc := 9) dJ2_ensureCapacityInternal_9 ?_
  refine zw_istore_n (pc := 10) (lv' := [(2, vI (x3 >>> (x5 &&& 31))), (0, vR p0), (1, vI p1)]) dJ2_ensureCapacityInternal_10 rfl (by decide) rfl ?_
  refine zw_iload_n (pc := 11) dJ2_ensureCapacityInternal_11 rfl 2 rfl ?_
  refine zw_iload_n (pc := 12) dJ2_ensureCapacityInternal_12 rfl 0 rfl ?_
  refine zw_isub (pc := 13) dJ2_ensureCapacityInternal_13 ?_
  rcases zif H with ⟨c7, H⟩ | ⟨c7, H⟩
  · refine zw_if_le (pc := 14) (tgt := 38) dJ2_ensureCapacityInternal_14 rfl (fun _ => ?_) (fun q => absurd c7 q)
    obtain rfl := Option.some.inj H
    exact zw_vret (pc := 38) dJ2_ensureCapacityInternal_38 rfl rfl rfl
  · refine zw_if_le (pc := 14) (tgt := 38) dJ2_ensureCapacityInternal_14 rfl (fun q => absurd q c7) (fun _ => ?_)
    refine zw_aload_n (pc := 17) dJ2_ensureCapacityInternal_17 rfl 1 rfl ?_
    refine zw_aload_n (pc := 18) dJ2_ensureCapacityInternal_18 rfl 1 rfl ?_
    obtain ⟨x8, e9, H⟩ := zbind H
    refine zy_getR (pc := 19) dJ2_ensureCapacityInternal_19 lf_J2_15 (fun _ _ => rfl) e9 ?_
    refine zw_aload_n (pc := 22) dJ2_ensureCapacityInternal_22 rfl 1 rfl ?_
    refine zw_iload_n (pc := 23) dJ2_ensureCapacityInternal_23 rfl 2 rfl ?_
    obtain ⟨b10, e12, H⟩ := zbind H
    obtain ⟨e11, e13⟩ := zrv_ok e12
    obtain ⟨x16, h15, e14, H⟩ := zbind2 H
    refine zw_invP (pc := 24) (M' := M_J2_newCapacity) (A := [vI p1]) [vR x8, vR p0] dJ2_ensureCapacityInternal_24 q715 mf_J2_newCapacity (by decide +kernel) q747 rfl (zkq e13 rfl) (w_J2_newCapacity e14) (Nat.le_of_ble_eq_true rfl) rfl (by rw [← e11]; rfl) (Nat.le_of_ble_eq_true rfl) (zkv ?_) zkn9
    refine zw_aload_n (pc := 27) dJ2_ensureCapacityInternal_27 rfl 1 rfl ?_
    obtain ⟨x17, e18, H⟩ := zbind H
    refine zy_getI (pc := 28) dJ2_ensureCapacityInternal_28 lf_J2_22 (fun _ _ => rfl) e18 ?_
    refine zw_ishl (pc := 31) dJ2_ensureCapacityInternal_31 ?_
    obtain ⟨x21, h20, e19, H⟩ := zbind2 H
    refine zw_invS (pc := 32) (M' := M_J13_copyOf) (A := [vR x8, vI (x16 <<< (x17 &&& 31))]) [vR p0] dJ2_ensureCapacityInternal_32 (Or.inl q730) mf_J13_copyOf (w_J13_copyOf e19) (Nat.le_of_ble_eq_true rfl) rfl rfl (Nat.le_of_ble_eq_true rfl) (zkv ?_) zkn9
    obtain ⟨h22, e23, H⟩ := zbind H
    refine zy_putR (pc := 35) dJ2_ensureCapacityInternal_35 lp_J2_15 rfl e23 ?_
    obtain rfl := Option.some.inj H
    exact zw_vret (pc := 38) dJ2_ensureCapacityInternal_38 rfl rfl rfl
def M_J14_inflate : zM := (yJ14_inflate, cJ14_inflate, 5, none, [])
theorem mf_J14_inflate : zMs M_J14_inflate 5 := ⟨⟨q758, q200, ⟨by decide +kernel, by decide +kernel⟩, by decide +kernel, by decide⟩, q757⟩
def f_J14_inflate (p0 : Option Nat) (p1 : Int32) (p2 : Option Nat) (p3 : Int32) (p4 : Int32) (h : zH) : Option Unit :=
  none
theorem w_J14_inflate {G : zG} {p0 : Option Nat} {p1 : Int32} {p2 : Option Nat} {p3 : Int32} {p4 : Int32} {h : zH} {vx : Unit} (H : f_J14_inflate p0 p1 p2 p3 p4 h = some vx) : zMet G M_J14_inflate 2 [vR p0, vI p1, vR p2, vI p3, vI p4] h (.inl none) h := by
  refine zMet.of (by decide +kernel) (Nat.le_of_ble_eq_true rfl) ?_
  show zW G M_J14_inflate 2 h (.inl none) h 0 [(0, vR p0), (1, vI p1), (2, vR p2), (3, vI p3), (4, vI p4)] [] h
  unfold f_J14_inflate at H
  refine zw_aload_n (pc := 0) dJ14_inflate_0 rfl 0 rfl ?_
  refine zw_iload_n (pc := 1) dJ14_inflate_1 rfl 1 rfl ?_
  refine zw_aload_n (pc := 2) dJ14_inflate_2 rfl 2 rfl ?_
  refine zw_iload_n (pc := 3) dJ14_inflate_3 rfl 3 rfl ?_
  refine zw_iload (pc := 4) dJ14_inflate_4 4 rfl ?_
  cases H
def M_J2_isLatin1 : zM := (yJ2_isLatin1, cJ2_isLatin1, 1, (.some .boolean), [])
theorem mf_J2_isLatin1 : zMi M_J2_isLatin1 0 := ⟨⟨q748, q185, ⟨by decide +kernel, by decide +kernel⟩, by decide +kernel, by decide⟩, q745⟩
def f_J2_isLatin1 (p0 : Option Nat) (h : zH) : Option Int32 :=
  if (1 : Int32) = 0 then
  some (0 : Int32)
  else
  (zgI 18 1 p0 h).bind fun x2 =>
  if x2 = 0 then
  some (1 : Int32)
  else
  some (0 : Int32)
theorem w_J2_isLatin1 {G : zG} {p0 : Option Nat} {h : zH} {vx : Int32} (H : f_J2_isLatin1 p0 h = some vx) : zMet G M_J2_isLatin1 2 [vR p0] h (.inl (some (vI vx))) h := by
  refine zMet.of (by decide +kernel) (Nat.le_of_ble_eq_true rfl) ?_
  show zW G M_J2_isLatin1 2 h (.inl (some (vI vx))) h 0 [(0, vR p0)] [] h
  unfold f_J2_isLatin1 at H
  refine zw_gets (pc := 0) 0 dJ2_isLatin1_0 rfl q311 rfl (show zstv _ 0 = vI (1 : Int32) from rfl) ?_
  rcases zif H with ⟨c1, H⟩ | ⟨c1, H⟩
  · refine zw_if_eq (pc := 3) (tgt := 17) dJ2_isLatin1_3 rfl (fun _ => ?_) (fun q => absurd c1 q)
    refine zw_iconst (pc := 17) (v := (0 : Int32)) dJ2_isLatin1_17 (by decide) ?_
    obtain rfl := Option.some.inj H
    exact zw_zret (pc := 18) dJ2_isLatin1_18 rfl rfl rfl rfl
  · refine zw_if_eq (pc := 3) (tgt := 17) dJ2_isLatin1_3 rfl (fun q => absurd q c1) (fun _ => ?_)
    refine zw_aload_n (pc := 6) dJ2_isLatin1_6 rfl 0 rfl ?_
    obtain ⟨x2, e3, H⟩ := zbind H
    refine zy_getI (pc := 7) dJ2_isLatin1_7 lf_J2_22 (fun _ _ => rfl) e3 ?_
    rcases zif H with ⟨c4, H⟩ | ⟨c4, H⟩
    · refine zw_if_ne (pc := 10) (tgt := 17) dJ2_isLatin1_10 rfl (fun q => absurd c4 q) (fun _ => ?_)
      refine zw_iconst (pc := 13) (v := (1 : Int32)) dJ2_isLatin1_13 (by decide) ?_
      refine zw_goto (pc := 14) (tgt := 18) dJ2_isLatin1_14 rfl ?_
      obtain rfl := Option.some.inj H
      exact zw_zret (pc := 18) dJ2_isLatin1_18 rfl rfl rfl rfl
    · refine zw_if_ne (pc := 10) (tgt := 17) dJ2_isLatin1_10 rfl (fun _ => ?_) (fun q => absurd q c4)
      refine zw_iconst (pc := 17) (v := (0 : Int32)) dJ2_isLatin1_17 (by decide) ?_
      obtain rfl := Option.some.inj H
      exact zw_zret (pc := 18) dJ2_isLatin1_18 rfl rfl rfl rfl
def M_J2_inflate : zM := (yJ2_inflate, cJ2_inflate, 2, none, [])
theorem mf_J2_inflate : zMi M_J2_inflate 0 := ⟨⟨q755, q185, ⟨by decide +kernel, by decide +kernel⟩, by decide +kernel, by decide⟩, q754⟩
def f_J2_inflate (p0 : Option Nat) (h : zH) : Option zH :=
  (zrv 18 p0 h).bind fun b1 =>
  (f_J2_isLatin1 (some b1) h).bind fun x6 =>
  if x6 = 0 then
  some h
  else
  (zgR 18 0 p0 h).bind fun x8 =>
  (zaN x8 h).bind fun x10 =>
  none
theorem w_J2_inflate {G : zG} {p0 : Option Nat} {h : zH} {vh : zH} (H : f_J2_inflate p0 h = some vh) : zMet G M_J2_inflate 3 [vR p0] h (.inl none) vh := by
  refine zMet.of (by decide +kernel) (Nat.le_of_ble_eq_true rfl) ?_
  show zW G M_J2_inflate 3 h (.inl none) vh 0 [(0, vR p0)] [] h
  unfold f_J2_inflate at H
  refine zw_aload_n (pc := 0) dJ2_inflate_0 rfl 0 rfl ?_
  obtain ⟨b1, e3, H⟩ := zbind H
  obtain ⟨e2, e4⟩ := zrv_ok e3
  obtain ⟨x6, e5, H⟩ := zbind H
  refine zw_invU (pc := 1) (M' := M_J2_isLatin1) (owner := "java/lang/AbstractStringBuilder") (C0 := "java/lang/StringBuilder") (A := []) [] dJ2_inflate_1 q744 q746 (Or.inl ⟨M_J2_isLatin1, _, mf_J2_isLatin1, rfl⟩) (by decide +kernel) mf_J2_isLatin1 rfl q747 (zrecv (zkq e4 rfl)) (w_J2_isLatin1 e5) (Nat.le_of_ble_eq_true rfl) rfl (by rw [← e2]; rfl) (Nat.le_of_ble_eq_true rfl) (zkv ?_) zkn9
  rcases zif H with ⟨c7, H⟩ | ⟨c7, H⟩
  · refine zw_if_ne (pc := 4) (tgt := 8) dJ2_inflate_4 rfl (fun q => absurd c7 q) (fun _ => ?_)
    obtain rfl := Option.some.inj H
    exact zw_vret (pc := 7) dJ2_inflate_7 rfl rfl rfl
  · refine zw_if_ne (pc := 4) (tgt := 8) dJ2_inflate_4 rfl (fun _ => ?_) (fun q => absurd q c7)
    refine zw_aload_n (pc := 8) dJ2_inflate_8 rfl 0 rfl ?_
    obtain ⟨x8, e9, H⟩ := zbind H
    refine zy_getR (pc := 9) dJ2_inflate_9 lf_J2_15 (fun _ _ => rfl) e9 ?_
    obtain ⟨x10, e11, H⟩ := zbind H
    refine zy_alen (pc := 12) dJ2_inflate_12 e11 ?_
    cases H
theorem lp_J2_79 {nm : String} : zFp "java/lang/AbstractStringBuilder" nm 79 18 3 := ⟨_, "java/lang/AbstractStringBuilder", by decide, rfl, by decide, Or.inl rfl, Or.inl ⟨Or.inl q324, rfl⟩⟩
def M_J2_append : zM := (yJ2_append, cJ2_append, 2, (.some (.object "java/lang/AbstractStringBuilder")), [])
theorem mf_J2_append : zMi M_J2_append 1 := ⟨⟨q710, q185, ⟨by decide +kernel, by decide +kernel⟩, by decide +kernel, by decide⟩, q709⟩
def B_J2_append_56 (a0 : Option Nat) (a1 : Int32) (h : zH) : Option (Option Nat × zH) :=
  (zgR 18 0 a0 h).bind fun x1 =>
  (zgI 18 3 a0 h).bind fun x3 =>
  (zpI 18 3 a0 (x3 + (1 : Int32)) h).bind fun h5 =>
  none
theorem wB_J2_append_56 {G : zG} {h0 h : zH} {vx : Option Nat} {vh : zH} {a0 : Option Nat} {a1 : Int32} (H : B_J2_append_56 a0 a1 h = some (vx, vh)) : zW G M_J2_append 6 h0 (.inl (some (vR vx))) vh 56 [(0, vR a0), (1, vI a1)] [] h := by
  unfold B_J2_append_56 at H
  refine zw_aload_n (pc := 56) dJ2_append_56 rfl 0 rfl ?_
  obtain ⟨x1, e2, H⟩ := zbind H
  refine zy_getR (pc := 57) dJ2_append_57 lf_J2_15 (fun _ _ => rfl) e2 ?_
  refine zw_aload_n (pc := 60) dJ2_append_60 rfl 0 rfl ?_
  refine zw_dup (pc := 61) dJ2_append_61 rfl ?_
  obtain ⟨x3, e4, H⟩ := zbind H
  refine zy_getI (pc := 62) dJ2_append_62 lf_J2_79 (fun _ _ => rfl) e4 ?_
  refine zw_dup_x1 (pc := 65) dJ2_append_65 rfl rfl ?_
  refine zw_iconst (pc := 66) (v := (1 : Int32)) dJ2_append_66 (by decide) ?_
  refine zw_iadd (pc := 67) dJ2_append_67 ?_
  obtain ⟨h5, e6, H⟩ := zbind H
  refine zy_putI (pc := 68) dJ2_append_68 lp_J2_79 rfl e6 ?_
  refine zw_iload_n (pc := 71) dJ2_append_71 rfl 1 rfl ?_
  cases H
def f_J2_append (p0 : Option Nat) (p1 : Int32) (h : zH) : Option (Option Nat × zH) :=
  (zgI 18 3 p0 h).bind fun x1 =>
  (zrv 18 p0 h).bind fun b3 =>
  (f_J2_ensureCapacityInternal (some b3) (x1 + (1 : Int32)) h).bind fun h8 =>
  (zrv 18 p0 h8).bind fun b9 =>
  (f_J2_isLatin1 (some b9) h8).bind fun x14 =>
  if x14 = 0 then
  (zrv 18 p0 h8).bind fun b16 =>
  (f_J2_isLatin1 (some b16) h8).bind fun x21 =>
  if x21 = 0 then
  B_J2_append_56 p0 p1 h8
  else
  (zrv 18 p0 h8).bind fun b23 =>
  (f_J2_inflate (some b23) h8).bind fun h28 =>
  B_J2_append_56 p0 p1 h28
  else
  (f_J14_canEncode p1 h8).bind fun x30 =>
  if x30 = 0 then
  (zrv 18 p0 h8).bind fun b32 =>
  (f_J2_isLatin1 (some b32) h8).bind fun x37 =>
  if x37 = 0 then
  B_J2_append_56 p0 p1 h8
  else
  (zrv 18 p0 h8).bind fun b39 =>
  (f_J2_inflate (some b39) h8).bind fun h44 =>
  B_J2_append_56 p0 p1 h44
  else
  (zgR 18 0 p0 h8).bind fun x45 =>
  (zgI 18 3 p0 h8).bind fun x47 =>
  (zpI 18 3 p0 (x47 + (1 : Int32)) h8).bind fun h49 =>
  (zsB x45 x47 p1.toInt8.toInt32 h49).bind fun h51 =>
  some (p0, h51)
theorem w_J2_append {G : zG} {p0 : Option Nat} {p1 : Int32} {h : zH} {vx : Option Nat} {vh : zH} (H : f_J2_append p0 p1 h = some (vx, vh)) : zMet G M_J2_append 6 [vR p0, vI p1] h (.inl (some (vR vx))) vh := by
  refine zMet.of (by decide +kernel) (Nat.le_of_ble_eq_true rfl) ?_
  show zW G M_J2_append 6 h (.inl (some (vR vx))) vh 0 [(0, vR p0), (1, vI p1)] [] h
  unfold f_J2_append at H
  refine zw_aload_n (pc := 0) dJ2_append_0 rfl 0 rfl ?_
  refine zw_aload_n (pc := 1) dJ2_append_1 rfl 0 rfl ?_
  obtain ⟨x1, e2, H⟩ := zbind H
  refine zy_getI (pc := 2) dJ2_append_2 lf_J2_79 (fun _ _ => rfl) e2 ?_
  refine zw_iconst (pc := 5) (v := (1 : Int32)) dJ2_append_5 (by decide) ?_
  refine zw_iadd (pc := 6) dJ2_append_6 ?_
  obtain ⟨b3, e5, H⟩ := zbind H
  obtain ⟨e4, e6⟩ := zrv_ok e5
  obtain ⟨h8, e7, H⟩ := zbind H
  refine zw_invP (pc := 7) (M' := M_J2_ensureCapacityInternal) (A := [vI (x1 + (1 : Int32))]) [] dJ2_append_7 q711 mf_J2_ensureCapacityInternal (by decide +kernel) q747 rfl (zkq e6 rfl) (w_J2_ensureCapacityInternal e7) (Nat.le_of_ble_eq_true rfl) rfl (by rw [← e4]; rfl) (Nat.le_of_ble_eq_true rfl) (zku ?_) zkn9
  refine zw_aload_n (pc := 10) dJ2_append_10 rfl 0 rfl ?_
  obtain ⟨b9, e11, H⟩ := zbind H
  obtain ⟨e10, e12⟩ := zrv_ok e11
  obtain ⟨x14, e13, H⟩ := zbind H
  refine zw_invU (pc := 11) (M' := M_J2_isLatin1) (owner := "java/lang/AbstractStringBuilder") (C0 := "java/lang/StringBuilder") (A := []) [] dJ2_append_11 q744 q746 (Or.inl ⟨M_J2_isLatin1, _, mf_J2_isLatin1, rfl⟩) (by decide +kernel) mf_J2_isLatin1 rfl q747 (zrecv (zkq e12 rfl)) (w_J2_isLatin1 e13) (Nat.le_of_ble_eq_true rfl) rfl (by rw [← e10]; rfl) (Nat.le_of_ble_eq_true rfl) (zkv ?_) zkn9
  rcases zif H with ⟨c15, H⟩ | ⟨c15, H⟩
  · refine zw_if_eq (pc := 14) (tgt := 45) dJ2_append_14 rfl (fun _ => ?_) (fun q => absurd c15 q)
    refine zw_aload_n (pc := 45) dJ2_append_45 rfl 0 rfl ?_
    obtain ⟨b16, e18, H⟩ := zbind H
    obtain ⟨e17, e19⟩ := zrv_ok e18
    obtain ⟨x21, e20, H⟩ := zbind H
    refine zw_invU (pc := 46) (M' := M_J2_isLatin1) (owner := "java/lang/AbstractStringBuilder") (C0 := "java/lang/StringBuilder") (A := []) [] dJ2_append_46 q744 q746 (Or.inl ⟨M_J2_isLatin1, _, mf_J2_isLatin1, rfl⟩) (by decide +kernel) mf_J2_isLatin1 rfl q747 (zrecv (zkq e19 rfl)) (w_J2_isLatin1 e20) (Nat.le_of_ble_eq_true rfl) rfl (by rw [← e17]; rfl) (Nat.le_of_ble_eq_true rfl) (zkv ?_) zkn9
    rcases zif H with ⟨c22, H⟩ | ⟨c22, H⟩
    · refine zw_if_eq (pc := 49) (tgt := 56) dJ2_append_49 rfl (fun _ => ?_) (fun q => absurd c22 q)
      refine zW_pick (lv' := [(0, vR p0), (1, vI p1)]) [0, 1] rfl ?_
      exact wB_J2_append_56 H
    · refine zw_if_eq (pc := 49) (tgt := 56) dJ2_append_49 rfl (fun q => absurd q c22) (fun _ => ?_)
      refine zw_aload_n (pc := 52) dJ2_append_52 rfl 0 rfl ?_
      obtain ⟨b23, e25, H⟩ := zbind H
      obtain ⟨e24, e26⟩ := zrv_ok e25
      obtain ⟨h28, e27, H⟩ := zbind H
      refine zw_invP (pc := 53) (M' := M_J2_inflate) (A := []) [] dJ2_append_53 q752 mf_J2_inflate (by decide +kernel) q747 rfl (zkq e26 rfl) (w_J2_inflate e27) (Nat.le_of_ble_eq_true rfl) rfl (by rw [← e24]; rfl) (Nat.le_of_ble_eq_true rfl) (zku ?_) zkn9
      refine zW_pick (lv' := [(0, vR p0), (1, vI p1)]) [0, 1] rfl ?_
      exact wB_J2_append_56 H
  · refine zw_if_eq (pc := 14) (tgt := 45) dJ2_append_14 rfl (fun q => absurd q c15) (fun _ => ?_)
    refine zw_iload_n (pc := 17) dJ2_append_17 rfl 1 rfl ?_
    obtain ⟨x30, e29, H⟩ := zbind H
    refine zw_invS (pc := 18) (M' := M_J14_canEncode) (A := [vI p1]) [] dJ2_append_18 (Or.inl q749) mf_J14_canEncode (w_J14_canEncode e29) (Nat.le_of_ble_eq_true rfl) rfl rfl (Nat.le_of_ble_eq_true rfl) (zkv ?_) zkn9
    rcases zif H with ⟨c31, H⟩ | ⟨c31, H⟩
    · refine zw_if_eq (pc := 21) (tgt := 45) dJ2_append_21 rfl (fun _ => ?_) (fun q => absurd c31 q)
      refine zw_aload_n (pc := 45) dJ2_append_45 rfl 0 rfl ?_
      obtain ⟨b32, e34, H⟩ := zbind H
      obtain ⟨e33, e35⟩ := zrv_ok e34
      obtain ⟨x37, e36, H⟩ := zbind H
      refine zw_invU (pc := 46) (M' := M_J2_isLatin1) (owner := "java/lang/AbstractStringBuilder") (C0 := "java/lang/StringBuilder") (A := []) [] dJ2_append_46 q744 q746 (Or.inl ⟨M_J2_isLatin1, _, mf_J2_isLatin1, rfl⟩) (by decide +kernel) mf_J2_isLatin1 rfl q747 (zrecv (zkq e35 rfl)) (w_J2_isLatin1 e36) (Nat.le_of_ble_eq_true rfl) rfl (by rw [← e33]; rfl) (Nat.le_of_ble_eq_true rfl) (zkv ?_) zkn9
      rcases zif H with ⟨c38, H⟩ | ⟨c38, H⟩
      · refine zw_if_eq (pc := 49) (tgt := 56) dJ2_append_49 rfl (fun _ => ?_) (fun q => absurd c38 q)
        refine zW_pick (lv' := [(0, vR p0), (1, vI p1)]) [0, 1] rfl ?_
        exact wB_J2_append_56 H
      · refine zw_if_eq (pc := 49) (tgt := 56) dJ2_append_49 rfl (fun q => absurd q c38) (fun _ => ?_)
        refine zw_aload_n (pc := 52) dJ2_append_52 rfl 0 rfl ?_
        obtain ⟨b39, e41, H⟩ := zbind H
        obtain ⟨e40, e42⟩ := zrv_ok e41
        obtain ⟨h44, e43, H⟩ := zbind H
        refine zw_invP (pc := 53) (M' := M_J2_inflate) (A := []) [] dJ2_append_53 q752 mf_J2_inflate (by decide +kernel) q747 rfl (zkq e42 rfl) (w_J2_inflate e43) (Nat.le_of_ble_eq_true rfl) rfl (by rw [← e40]; rfl) (Nat.le_of_ble_eq_true rfl) (zku ?_) zkn9
        refine zW_pick (lv' := [(0, vR p0), (1, vI p1)]) [0, 1] rfl ?_
        exact wB_J2_append_56 H
    · refine zw_if_eq (pc := 21) (tgt := 45) dJ2_append_21 rfl (fun q => absurd q c31) (fun _ => ?_)
      refine zw_aload_n (pc := 24) dJ2_append_24 rfl 0 rfl ?_
      obtain ⟨x45, e46, H⟩ := zbind H
      refine zy_getR (pc := 25) dJ2_append_25 lf_J2_15 (fun _ _ => rfl) e46 ?_
      refine zw_aload_n (pc := 28) dJ2_append_28 rfl 0 rfl ?_
      refine zw_dup (pc := 29) dJ2_append_29 rfl ?_
      obtain ⟨x47, e48, H⟩ := zbind H
      refine zy_getI (pc := 30) dJ2_append_30 lf_J2_79 (fun _ _ => rfl) e48 ?_
      refine zw_dup_x1 (pc := 33) dJ2_append_33 rfl rfl ?_
      refine zw_iconst (pc := 34) (v := (1 : Int32)) dJ2_append_34 (by decide) ?_
      refine zw_iadd (pc := 35) dJ2_append_35 ?_
      obtain ⟨h49, e50, H⟩ := zbind H
      refine zy_putI (pc := 36) dJ2_append_36 lp_J2_79 rfl e50 ?_
      refine zw_iload_n (pc := 39) dJ2_append_39 rfl 1 rfl ?_
      refine zw_i2b (pc := 40) dJ2_append_40 ?_
      obtain ⟨h51, e52, H⟩ := zbind H
      refine zy_bast (pc := 41) dJ2_append_41 e52 ?_
      refine zw_goto (pc := 42) (tgt := 75) dJ2_append_42 rfl ?_
      refine zw_aload_n (pc := 75) dJ2_append_75 rfl 0 rfl ?_
      obtain ⟨rfl, rfl⟩ := Prod.mk.inj (Option.some.inj H)
      exact zw_aret (pc := 76) dJ2_append_76 rfl (Or.inl ⟨_, rfl⟩) rfl rfl
def M_J3_append : zM := (yJ3_append, cJ3_append, 2, (.some (.object "java/lang/StringBuilder")), [])
theorem mf_J3_append : zMi M_J3_append 1 := ⟨⟨q707, q186, ⟨by decide +kernel, by decide +kernel⟩, by decide +kernel, by decide⟩, q705⟩
def f_J3_append (p0 : Option Nat) (p1 : Int32) (h : zH) : Option (Option Nat × zH) :=
  (zrv 18 p0 h).bind fun b1 =>
  zb2 (f_J2_append (some b1) p1 h) fun x7 h6 =>
  some (p0, h6)
theorem w_J3_append {G : zG} {p0 : Option Nat} {p1 : Int32} {h : zH} {vx : Option Nat} {vh : zH} (H : f_J3_append p0 p1 h = some (vx, vh)) : zMet G M_J3_append 7 [vR p0, vI p1] h (.inl (some (vR vx))) vh := by
  refine zMet.of (by decide +kernel) (Nat.le_of_ble_eq_true rfl) ?_
  show zW G M_J3_append 7 h (.inl (some (vR vx))) vh 0 [(0, vR p0), (1, vI p1)] [] h
  unfold f_J3_append at H
  refine zw_aload_n (pc := 0) dJ3_append_0 rfl 0 rfl ?_
  refine zw_iload_n (pc := 1) dJ3_append_1 rfl 1 rfl ?_
  obtain ⟨b1, e4, H⟩ := zbind H
  obtain ⟨e2, e5⟩ := zrv_ok e4
  obtain ⟨x7, h6, e3, H⟩ := zbind2 H
  refine zw_invSU (pc := 2) (M' := M_J2_append) (A := [vI p1]) [] dJ3_append_2 q708 q3020 q333 mf_J2_append (by decide) (zkq e5 rfl) (w_J2_append e3) (Nat.le_of_ble_eq_true rfl) rfl (by rw [← e2]; rfl) (Nat.le_of_ble_eq_true rfl) (zkv ?_) zkn9
  refine zw_pop (pc := 5) dJ3_append_5 rfl ?_
  refine zw_aload_n (pc := 6) dJ3_append_6 rfl 0 rfl ?_
  obtain ⟨rfl, rfl⟩ := Prod.mk.inj (Option.some.inj H)
  exact zw_aret (pc := 7) dJ3_append_7 rfl (Or.inl ⟨_, rfl⟩) rfl rfl
def M_J10_init_2 : zM := (yJ10_init_2, cJ10_init_2, 2, none, [])
theorem mf_J10_init_2 : zMi M_J10_init_2 1 := ⟨⟨q905, q194, ⟨by decide +kernel, by decide +kernel⟩, by decide +kernel, by decide⟩, q904⟩
def f_J10_init_2 (p0 : Option Nat) (p1 : Option Nat) (h : zH) : Option Unit :=
  p0.bind fun b1 =>
  (f_J8_init_2 (some b1) p1 h).bind fun _ =>
  some ()
theorem w_J10_init_2 {G : zG} {p0 : Option Nat} {p1 : Option Nat} {h : zH} {vx : Unit} (H : f_J10_init_2 p0 p1 h = some vx) : zMet G M_J10_init_2 4 [vR p0, vR p1] h (.inl none) h := by
  refine zMet.of (by decide +kernel) (Nat.le_of_ble_eq_true rfl) ?_
  show zW G M_J10_init_2 4 h (.inl none) h 0 [(0, vR p0), (1, vR p1)] [] h
  unfold f_J10_init_2 at H
  refine zw_aload_n (pc := 0) dJ10_init_2_0 rfl 0 rfl ?_
  refine zw_aload_n (pc := 1) dJ10_init_2_1 rfl 1 rfl ?_
  obtain ⟨b1, e2, H⟩ := zbind H
  obtain ⟨x4, e3, H⟩ := zbind H
  refine zw_invI (pc := 2) (M' := M_J8_init_2) (A := [vR p1]) [] dJ10_init_2_2 (Or.inl q906) mf_J8_init_2 rfl rfl (w_J8_init_2 e3) (Nat.le_of_ble_eq_true rfl) rfl (by rw [← e2]; rfl) (Nat.le_of_ble_eq_true rfl) (zku ?_) zkn9
  obtain rfl := Option.some.inj H
  exact zw_vret (pc := 5) dJ10_init_2_5 rfl rfl rfl
def M_J13_checkLength : zM := (yJ13_checkLength, cJ13_checkLength, 2, none, [])
theorem mf_J13_checkLength : zMs M_J13_checkLength 2 := ⟨⟨q825, q198, ⟨by decide +kernel, by decide +kernel⟩, by decide +kernel, by decide⟩, q824⟩
def f_J13_checkLength (p0 : Int32) (p1 : Int32) (h : zH) : Option zH :=
  if p0 ≤ p1 then
  some h
  else
  none
theorem w_J13_checkLength {G : zG} {p0 : Int32} {p1 : Int32} {h : zH} {vh : zH} (H : f_J13_checkLength p0 p1 h = some vh) : zMet G M_J13_checkLength 5 [vI p0, vI p1] h (.inl none) vh := by
  refine zMet.of (by decide +kernel) (Nat.le_of_ble_eq_true rfl) ?_
  show zW G M_J13_checkLength 5 h (.inl none) vh 0 [(0, vI p0), (1, vI p1)] [] h
  unfold f_J13_checkLength at H
  refine zw_iload_n (pc := 0) dJ13_checkLength_0 rfl 1 rfl ?_
  refine zw_iload_n (pc := 1) dJ13_checkLength_1 rfl 0 rfl ?_
  rcases zif H with ⟨c1, H⟩ | ⟨c1, H⟩
  · refine zw_icmp_ge (pc := 2) (tgt := 37) dJ13_checkLength_2 rfl (fun _ => ?_) (fun q => absurd c1 q)
    obtain rfl := Option.some.inj H
    exact zw_vret (pc := 37) dJ13_checkLength_37 rfl rfl rfl
  · refine zw_icmp_ge (pc := 2) (tgt := 37) dJ13_checkLength_2 rfl (fun q => absurd q c1) (fun _ => ?_)
    cases H
def M_J13_copyOfRangeByte : zM := (yJ13_copyOfRangeByte, cJ13_copyOfRangeByte, 5, (.some (.array .byte)), [])
theorem mf_J13_copyOfRangeByte : zMs M_J13_copyOfRangeByte 3 := ⟨⟨q822, q198, ⟨by decide +kernel, by decide +kernel⟩, by decide +kernel, by decide⟩, q821⟩
def f_J13_copyOfRangeByte (p0 : Option Nat) (p1 : Int32) (p2 : Int32) (h : zH) : Option (Option Nat × zH) :=
  (f_J13_checkLength p1 p2 h).bind fun h2 =>
  zb2 (zna 53 (p2 - p1) h2) fun q3 h4 =>
  (zaN p0 h4).bind fun x6 =>
  (f_J12_min (x6 - p1) (p2 - p1) h4).bind fun x9 =>
  (zcpI 53 p0 p1 (some q3) (0 : Int32) x9 h4).bind fun h10 =>
  some ((some q3), h10)
theorem w_J13_copyOfRangeByte {G : zG} {p0 : Option Nat} {p1 : Int32} {p2 : Int32} {h : zH} {vx : Option Nat} {vh : zH} (H : f_J13_copyOfRangeByte p0 p1 p2 h = some (vx, vh)) : zMet G M_J13_copyOfRangeByte 6 [vR p0, vI p1, vI p2] h (.inl (some (vR vx))) vh := by
  refine zMet.of (by decide +kernel) (Nat.le_of_ble_eq_true rfl) ?_
  show zW G M_J13_copyOfRangeByte 6 h (.inl (some (vR vx))) vh 0 [(0, vR p0), (1, vI p1), (2, vI p2)] [] h
  unfold f_J13_copyOfRangeByte at H
  refine zw_iload_n (pc := 0) dJ13_copyOfRangeByte_0 rfl 1 rfl ?_
  refine zw_iload_n (pc := 1) dJ13_copyOfRangeByte_1 rfl 2 rfl ?_
  obtain ⟨h2, e1, H⟩ := zbind H
  refine zw_invS (pc := 2) (M' := M_J13_checkLength) (A := [vI p1, vI p2]) [] dJ13_copyOfRangeByte_2 (Or.inl q823) mf_J13_checkLength (w_J13_checkLength e1) (Nat.le_of_ble_eq_true rfl) rfl rfl (Nat.le_of_ble_eq_true rfl) (zku ?_) zkn9
  refine zw_iload_n (pc := 5) dJ13_copyOfRangeByte_5 rfl 2 rfl ?_
  refine zw_iload_n (pc := 6) dJ13_copyOfRangeByte_6 rfl 1 rfl ?_
  refine zw_isub (pc := 7) dJ13_copyOfRangeByte_7 ?_
  refine zw_istore_n (pc := 8) (lv' := [(3, vI (p2 - p1)), (0, vR p0), (1, vI p1), (2, vI p2)]) dJ13_copyOfRangeByte_8 rfl (by decide) rfl ?_
  refine zw_iload_n (pc := 9) dJ13_copyOfRangeByte_9 rfl 0 rfl ?_
  obtain ⟨q3, h4, e5, H⟩ := zbind2 H
  refine zy_newa (pc := 10) (k := 53) dJ13_copyOfRangeByte_10 (by decide) q269 e5 ?_
  refine zw_astore (pc := 12) (lv' := [(4, vR (some q3)), (3, vI (p2 - p1)), (0, vR p0), (1, vI p1), (2, vI p2)]) dJ13_copyOfRangeByte_12 (by decide) rfl ?_
  refine zw_aload_n (pc := 14) dJ13_copyOfRangeByte_14 rfl 2 rfl ?_
  refine zw_iload_n (pc := 15) dJ13_copyOfRangeByte_15 rfl 3 rfl ?_
  refine zw_aload (pc := 16) dJ13_copyOfRangeByte_16 0 rfl ?_
  refine zw_iconst (pc := 18) (v := (0 : Int32)) dJ13_copyOfRangeByte_18 (by decide) ?_
  refine zw_aload_n (pc := 19) dJ13_copyOfRangeByte_19 rfl 2 rfl ?_
  obtain ⟨x6, e7, H⟩ := zbind H
  refine zy_alen (pc := 20) dJ13_copyOfRangeByte_20 e7 ?_
  refine zw_iload_n (pc := 21) dJ13_copyOfRangeByte_21 rfl 3 rfl ?_
  refine zw_isub (pc := 22) dJ13_copyOfRangeByte_22 ?_
  refine zw_iload_n (pc := 23) dJ13_copyOfRangeByte_23 rfl 1 rfl ?_
  obtain ⟨x9, e8, H⟩ := zbind H
  refine zw_invS (pc := 24) (M' := M_J12_min) (A := [vI (x6 - p1), vI (p2 - p1)]) [vI (0 : Int32), vR (some q3), vI p1, vR p0] dJ13_copyOfRangeByte_24 (Or.inl q740) mf_J12_min (w_J12_min e8) (Nat.le_of_ble_eq_true rfl) rfl rfl (Nat.le_of_ble_eq_true rfl) (zkv ?_) zkn9
  obtain ⟨h10, e11, H⟩ := zbind H
  refine zy_copyI (pc := 27) dJ13_copyOfRangeByte_27 q743 (Nat.le_of_ble_eq_true rfl) (by decide) e11 (Nat.le_of_ble_eq_true rfl) ?_
  refine zw_aload (pc := 30) dJ13_copyOfRangeByte_30 0 rfl ?_
  obtain ⟨rfl, rfl⟩ := Prod.mk.inj (Option.some.inj H)
  exact zw_aret (pc := 32) dJ13_copyOfRangeByte_32 rfl (Or.inr ⟨_, rfl⟩) rfl rfl
def M_J13_copyOfRange : zM := (yJ13_copyOfRange, cJ13_copyOfRange, 3, (.some (.array .byte)), [])
theorem mf_J13_copyOfRange : zMs M_J13_copyOfRange 3 := ⟨⟨q819, q198, ⟨by decide +kernel, by decide +kernel⟩, by decide +kernel, by decide⟩, q818⟩
def f_J13_copyOfRange (p0 : Option Nat) (p1 : Int32) (p2 : Int32) (h : zH) : Option (Option Nat × zH) :=
  if p1 = 0 then
  (zaN p0 h).bind fun x5 =>
  if p2 = x5 then
  zb2 (zcB p0 h) fun q8 h9 =>
  if zct [53] (some q8) h9 = true then
  some ((some q8), h9)
  else none
  else
  zb2 (f_J13_copyOfRangeByte p0 p1 p2 h) fun x14 h13 =>
  some (x14, h13)
  else
  zb2 (f_J13_copyOfRangeByte p0 p1 p2 h) fun x4 h3 =>
  some (x4, h3)
theorem w_J13_copyOfRange {G : zG} {p0 : Option Nat} {p1 : Int32} {p2 : Int32} {h : zH} {vx : Option Nat} {vh : zH} (H : f_J13_copyOfRange p0 p1 p2 h = some (vx, vh)) : zMet G M_J13_copyOfRange 7 [vR p0, vI p1, vI p2] h (.inl (some (vR vx))) vh := by
  refine zMet.of (by decide +kernel) (Nat.le_of_ble_eq_true rfl) ?_
  show zW G M_J13_copyOfRange 7 h (.inl (some (vR vx))) vh 0 [(0, vR p0), (1, vI p1), (2, vI p2)] [] h
  unfold f_J13_copyOfRange at H
  refine zw_iload_n (pc := 0) dJ13_copyOfRange_0 rfl 1 rfl ?_
  rcases zif H with ⟨c1, H⟩ | ⟨c1, H⟩
  · refine zw_if_ne (pc := 1) (tgt := 10) dJ13_copyOfRange_1 rfl (fun q => absurd c1 q) (fun _ => ?_)
    refine zw_iload_n (pc := 4) dJ13_copyOfRange_4 rfl 2 rfl ?_
    refine zw_aload_n (pc := 5) dJ13_copyOfRange_5 rfl 0 rfl ?_
    obtain ⟨x5, e6, H⟩ := zbind H
    refine zy_alen (pc := 6) dJ13_copyOfRange_6 e6 ?_
    rcases zif H with ⟨c7, H⟩ | ⟨c7, H⟩
    · refine zw_icmp_eq (pc := 7) (tgt := 17) dJ13_copyOfRange_7 rfl (fun _ => ?_) (fun q => absurd c7 q)
      refine zw_aload_n (pc := 17) dJ13_copyOfRange_17 rfl 0 rfl ?_
      obtain ⟨q8, h9, e10, H⟩ := zbind2 H
      refine zy_cloneB (pc := 18) dJ13_copyOfRange_18 q733 (Nat.le_of_ble_eq_true rfl) e10 (Nat.le_of_ble_eq_true rfl) ?_
      obtain ⟨c11, H⟩ := zgd H
      refine zy_cast (pc := 21) [53] dJ13_copyOfRange_21 lc_J13_311 c11 ?_
      obtain ⟨rfl, rfl⟩ := Prod.mk.inj (Option.some.inj H)
      exact zw_aret (pc := 24) dJ13_copyOfRange_24 rfl (Or.inr ⟨_, rfl⟩) rfl rfl
    · refine zw_icmp_eq (pc := 7) (tgt := 17) dJ13_copyOfRange_7 rfl (fun q => absurd q c7) (fun _ => ?_)
      refine zw_aload_n (pc := 10) dJ13_copyOfRange_10 rfl 0 rfl ?_
      refine zw_iload_n (pc := 11) dJ13_copyOfRange_11 rfl 1 rfl ?_
      refine zw_iload_n (pc := 12) dJ13_copyOfRange_12 rfl 2 rfl ?_
      obtain ⟨x14, h13, e12, H⟩ := zbind2 H
      refine zw_invS (pc := 13) (M' := M_J13_copyOfRangeByte) (A := [vR p0, vI p1, vI p2]) [] dJ13_copyOfRange_13 (Or.inl q820) mf_J13_copyOfRangeByte (w_J13_copyOfRangeByte e12) (Nat.le_of_ble_eq_true rfl) rfl rfl (Nat.le_of_ble_eq_true rfl) (zkv ?_) zkn9
      obtain ⟨rfl, rfl⟩ := Prod.mk.inj (Option.some.inj H)
      exact zw_aret (pc := 16) dJ13_copyOfRange_16 rfl (Or.inr ⟨_, rfl⟩) rfl rfl
  · refine zw_if_ne (pc := 1) (tgt := 10) dJ13_copyOfRange_1 rfl (fun _ => ?_) (fun q => absurd q c1)
    refine zw_aload_n (pc := 10) dJ13_copyOfRange_10 rfl 0 rfl ?_
    refine zw_iload_n (pc := 11) dJ13_copyOfRange_11 rfl 1 rfl ?_
    refine zw_iload_n (pc := 12) dJ13_copyOfRange_12 rfl 2 rfl ?_
    obtain ⟨x4, h3, e2, H⟩ := zbind2 H
    refine zw_invS (pc := 13) (M' := M_J13_copyOfRangeByte) (A := [vR p0, vI p1, vI p2]) [] dJ13_copyOfRange_13 (Or.inl q820) mf_J13_copyOfRangeByte (w_J13_copyOfRangeByte e2) (Nat.le_of_ble_eq_true rfl) rfl rfl (Nat.le_of_ble_eq_true rfl) (zkv ?_) zkn9
    obtain ⟨rfl, rfl⟩ := Prod.mk.inj (Option.some.inj H)
    exact zw_aret (pc := 16) dJ13_copyOfRange_16 rfl (Or.inr ⟨_, rfl⟩) rfl rfl
def M_J2_getValue : zM := (yJ2_getValue, cJ2_getValue, 1, (.some (.array .byte)), [])
theorem mf_J2_getValue : zMi M_J2_getValue 0 := ⟨⟨q814, q185, ⟨by decide +kernel, by decide +kernel⟩, by decide +kernel, by decide⟩, q811⟩
def f_J2_getValue (p0 : Option Nat) (h : zH) : Option (Option Nat) :=
  (zgR 18 0 p0 h).bind fun x1 =>
  some x1
theorem w_J2_getValue {G : zG} {p0 : Option Nat} {h : zH} {vx : Option Nat} (H : f_J2_getValue p0 h = some vx) : zMet G M_J2_getValue 2 [vR p0] h (.inl (some (vR vx))) h := by
  refine zMet.of (by decide +kernel) (Nat.le_of_ble_eq_true rfl) ?_
  show zW G M_J2_getValue 2 h (.inl (some (vR vx))) h 0 [(0, vR p0)] [] h
  unfold f_J2_getValue at H
  refine zw_aload_n (pc := 0) dJ2_getValue_0 rfl 0 rfl ?_
  obtain ⟨x1, e2, H⟩ := zbind H
  refine zy_getR (pc := 1) dJ2_getValue_1 lf_J2_15 (fun _ _ => rfl) e2 ?_
  obtain rfl := Option.some.inj H
  exact zw_aret (pc := 4) dJ2_getValue_4 rfl (Or.inr ⟨_, rfl⟩) rfl rfl
theorem lq_J4_15 : zFp "java/lang/String" "<init>" 15 19 1 := ⟨_, "java/lang/String", by decide, rfl, by decide, Or.inl rfl, Or.inr ⟨q929, rfl, rfl, rfl⟩⟩
theorem lq_J4_9 : zFp "java/lang/String" "<init>" 9 19 0 := ⟨_, "java/lang/String", by decide, rfl, by decide, Or.inl rfl, Or.inr ⟨q928, rfl, rfl, rfl⟩⟩
theorem lf_J4_1048 : zFl "java/lang/String" 1048 18 2 := ⟨_, "java/lang/AbstractStringBuilder", by decide, rfl, by decide, Or.inl q323, Or.inl rfl⟩
def M_J4_init_2 : zM := (yJ4_init_2, cJ4_init_2, 5, none, [])
theorem mf_J4_init_2 : zMi M_J4_init_2 2 := ⟨⟨q808, q187, ⟨by decide +kernel, by decide +kernel⟩, by decide +kernel, by decide⟩, q807⟩
def B_J4_init_2_79 (a0 : Option Nat) (a1 : Option Nat) (a2 : Int32) (h : zH) : Option zH :=
  (zpZ 19 1 a0 (1 : Int32) h).bind fun h1 =>
  zb2 (f_J13_copyOfRange a1 (0 : Int32) (a2 <<< ((1 : Int32) &&& 31)) h1) fun x5 h4 =>
  (zpR 19 0 a0 x5 h4).bind fun h6 =>
  some h6
theorem wB_J4_init_2_79 {G : zG} {h0 h : zH} {vh : zH} {a0 : Option Nat} {a1 : Option Nat} {a2 : Int32} (H : B_J4_init_2_79 a0 a1 a2 h = some vh) : zW G M_J4_init_2 8 h0 (.inl none) vh 79 [(0, vR a0), (3, vR a1), (4, vI a2)] [] h := by
  unfold B_J4_init_2_79 at H
  refine zw_aload_n (pc := 79) dJ4_init_2_79 rfl 0 rfl ?_
  refine zw_iconst (pc := 80) (v := (1 : Int32)) dJ4_init_2_80 (by decide) ?_
  obtain ⟨h1, e2, H⟩ := zbind H
  refine zy_putZ (pc := 81) dJ4_init_2_81 lq_J4_15 (Or.inr rfl) e2 ?_
  refine zw_aload_n (pc := 84) dJ4_init_2_84 rfl 0 rfl ?_
  refine zw_aload_n (pc := 85) dJ4_init_2_85 rfl 1 rfl ?_
  refine zw_iconst (pc := 86) (v := (0 : Int32)) dJ4_init_2_86 (by decide) ?_
  refine zw_iload (pc := 87) dJ4_init_2_87 2 rfl ?_
  refine zw_iconst (pc := 89) (v := (1 : Int32)) dJ4_init_2_89 (by decide) ?_
  refine zw_ishl (pc := 90) dJ4_init_2_90 ?_
  obtain ⟨x5, h4, e3, H⟩ := zbind2 H
  refine zw_invS (pc := 91) (M' := M_J13_copyOfRange) (A := [vR a1, vI (0 : Int32), vI (a2 <<< ((1 : Int32) &&& 31))]) [vR a0] dJ4_init_2_91 (Or.inl q817) mf_J13_copyOfRange (w_J13_copyOfRange e3) (Nat.le_of_ble_eq_true rfl) rfl rfl (Nat.le_of_ble_eq_true rfl) (zkv ?_) zkn9
  obtain ⟨h6, e7, H⟩ := zbind H
  refine zy_putR (pc := 94) dJ4_init_2_94 lq_J4_9 rfl e7 ?_
  obtain rfl := Option.some.inj H
  exact zw_vret (pc := 97) dJ4_init_2_97 rfl rfl rfl
def f_J4_init_2 (p0 : Option Nat) (p1 : Option Nat) (p2 : Option Nat) (h : zH) : Option zH :=
  p0.bind fun b1 =>
  (zrv 18 p1 h).bind fun b3 =>
  (f_J2_getValue (some b3) h).bind fun x8 =>
  (zrv 18 p1 h).bind fun b9 =>
  (f_J3_length (some b9) h).bind fun x14 =>
  (zrv 18 p1 h).bind fun b15 =>
  (f_J2_isLatin1 (some b15) h).bind fun x20 =>
  if x20 = 0 then
  if (1 : Int32) = 0 then
  B_J4_init_2_79 p0 x8 x14 h
  else
  (zgI 18 2 p1 h).bind fun x23 =>
  if x23 = 0 then
  B_J4_init_2_79 p0 x8 x14 h
  else
  none
  else
  (zpZ 19 1 p0 (0 : Int32) h).bind fun h26 =>
  zb2 (f_J13_copyOfRange x8 (0 : Int32) x14 h26) fun x30 h29 =>
  (zpR 19 0 p0 x30 h29).bind fun h31 =>
  some h31
theorem w_J4_init_2 {G : zG} {p0 : Option Nat} {p1 : Option Nat} {p2 : Option Nat} {h : zH} {vh : zH} (H : f_J4_init_2 p0 p1 p2 h = some vh) : zMet G M_J4_init_2 8 [vR p0, vR p1, vR p2] h (.inl none) vh := by
  refine zMet.of (by decide +kernel) (Nat.le_of_ble_eq_true rfl) ?_
  show zW G M_J4_init_2 8 h (.inl none) vh 0 [(0, vR p0), (1, vR p1), (2, vR p2)] [] h
  unfold f_J4_init_2 at H
  refine zw_aload_n (pc := 0) dJ4_init_2_0 rfl 0 rfl ?_
  obtain ⟨b1, e2, H⟩ := zbind H
  refine zy_objInit (pc := 1) dJ4_init_2_1 q809 e2 (Nat.le_of_ble_eq_true rfl) (Nat.le_of_ble_eq_true rfl) ?_
  refine zw_aload_n (pc := 4) dJ4_init_2_4 rfl 1 rfl ?_
  obtain ⟨b3, e5, H⟩ := zbind H
  obtain ⟨e4, e6⟩ := zrv_ok e5
  obtain ⟨x8, e7, H⟩ := zbind H
  refine zw_invU (pc := 5) (M' := M_J2_getValue) (owner := "java/lang/AbstractStringBuilder") (C0 := "java/lang/StringBuilder") (A := []) [] dJ4_init_2_5 q810 q812 (Or.inl ⟨M_J2_getValue, _, mf_J2_getValue, rfl⟩) (by decide +kernel) mf_J2_getValue rfl q813 (zrecv (zkq e6 rfl)) (w_J2_getValue e7) (Nat.le_of_ble_eq_true rfl) rfl (by rw [← e4]; rfl) (Nat.le_of_ble_eq_true rfl) (zkv ?_) zkn9
  refine zw_astore_n (pc := 8) (lv' := [(3, vR x8), (0, vR p0), (1, vR p1), (2, vR p2)]) dJ4_init_2_8 rfl (by decide) rfl ?_
  refine zw_aload_n (pc := 9) dJ4_init_2_9 rfl 2 rfl ?_
  obtain ⟨b9, e11, H⟩ := zbind H
  obtain ⟨e10, e12⟩ := zrv_ok e11
  obtain ⟨x14, e13, H⟩ := zbind H
  refine zw_invU (pc := 10) (M' := M_J3_length) (owner := "java/lang/AbstractStringBuilder") (C0 := "java/lang/StringBuilder") (A := []) [] dJ4_init_2_10 q815 q3019 (Or.inl ⟨M_J2_length, _, mf_J2_length, rfl⟩) (by decide +kernel) mf_J3_length rfl q3024 (zrecv (zkq e12 rfl)) (w_J3_length e13) (Nat.le_of_ble_eq_true rfl) rfl (by rw [← e10]; rfl) (Nat.le_of_ble_eq_true rfl) (zkv ?_) zkn9
  refine zw_istore (pc := 13) (lv' := [(4, vI x14), (3, vR x8), (0, vR p0), (1, vR p1), (2, vR p2)]) dJ4_init_2_13 (by decide) rfl ?_
  refine zw_aload_n (pc := 15) dJ4_init_2_15 rfl 3 rfl ?_
  obtain ⟨b15, e17, H⟩ := zbind H
  obtain ⟨e16, e18⟩ := zrv_ok e17
  obtain ⟨x20, e19, H⟩ := zbind H
  refine zw_invU (pc := 16) (M' := M_J2_isLatin1) (owner := "java/lang/AbstractStringBuilder") (C0 := "java/lang/StringBuilder") (A := []) [] dJ4_init_2_16 q816 q746 (Or.inl ⟨M_J2_isLatin1, _, mf_J2_isLatin1, rfl⟩) (by decide +kernel) mf_J2_isLatin1 rfl q747 (zrecv (zkq e18 rfl)) (w_J2_isLatin1 e19) (Nat.le_of_ble_eq_true rfl) rfl (by rw [← e16]; rfl) (Nat.le_of_ble_eq_true rfl) (zkv ?_) zkn9
  rcases zif H with ⟨c21, H⟩ | ⟨c21, H⟩
  · refine zw_if_eq (pc := 19) (tgt := 41) dJ4_init_2_19 rfl (fun _ => ?_) (fun q => absurd c21 q)
    refine zw_gets (pc := 41) 0 dJ4_init_2_41 rfl q886 rfl (show zstv _ 0 = vI (1 : Int32) from rfl) ?_
    rcases zif H with ⟨c22, H⟩ | ⟨c22, H⟩
    · refine zw_if_eq (pc := 44) (tgt := 79) dJ4_init_2_44 rfl (fun _ => ?_) (fun q => absurd c22 q)
      refine zW_pick (lv' := [(0, vR p0), (3, vR x8), (4, vI x14)]) [2, 1, 0] rfl ?_
      exact wB_J4_init_2_79 H
    · refine zw_if_eq (pc := 44) (tgt := 79) dJ4_init_2_44 rfl (fun q => absurd q c22) (fun _ => ?_)
      refine zw_aload_n (pc := 47) dJ4_init_2_47 rfl 3 rfl ?_
      obtain ⟨x23, e24, H⟩ := zbind H
      refine zy_getI (pc := 48) dJ4_init_2_48 lf_J4_1048 (fun _ _ => rfl) e24 ?_
      rcases zif H with ⟨c25, H⟩ | ⟨c25, H⟩
      · refine zw_if_eq (pc := 51) (tgt := 79) dJ4_init_2_51 rfl (fun _ => ?_) (fun q => absurd c25 q)
        refine zW_pick (lv' := [(0, vR p0), (3, vR x8), (4, vI x14)]) [2, 1, 0] rfl ?_
        exact wB_J4_init_2_79 H
      · refine zw_if_eq (pc := 51) (tgt := 79) dJ4_init_2_51 rfl (fun q => absurd q c25) (fun _ => ?_)
        refine zw_aload_n (pc := 54) dJ4_init_2_54 rfl 2 rfl ?_
        refine zw_aload_n (pc := 55) dJ4_init_2_55 rfl 1 rfl ?_
        refine zw_iconst (pc := 56) (v := (0 : Int32)) dJ4_init_2_56 (by decide) ?_
        refine zw_iload (pc := 57) dJ4_init_2_57 0 rfl ?_
        cases H
  · refine zw_if_eq (pc := 19) (tgt := 41) dJ4_init_2_19 rfl (fun q => absurd q c21) (fun _ => ?_)
    refine zw_aload_n (pc := 22) dJ4_init_2_22 rfl 2 rfl ?_
    refine zw_iconst (pc := 23) (v := (0 : Int32)) dJ4_init_2_23 (by decide) ?_
    obtain ⟨h26, e27, H⟩ := zbind H
    refine zy_putZ (pc := 24) dJ4_init_2_24 lq_J4_15 (Or.inr rfl) e27 ?_
    refine zw_aload_n (pc := 27) dJ4_init_2_27 rfl 2 rfl ?_
    refine zw_aload_n (pc := 28) dJ4_init_2_28 rfl 1 rfl ?_
    refine zw_iconst (pc := 29) (v := (0 : Int32)) dJ4_init_2_29 (by decide) ?_
    refine zw_iload (pc := 30) dJ4_init_2_30 0 rfl ?_
    obtain ⟨x30, h29, e28, H⟩ := zbind2 H
    refine zw_invS (pc := 32) (M' := M_J13_copyOfRange) (A := [vR x8, vI (0 : Int32), vI x14]) [vR p0] dJ4_init_2_32 (Or.inl q817) mf_J13_copyOfRange (w_J13_copyOfRange e28) (Nat.le_of_ble_eq_true rfl) rfl rfl (Nat.le_of_ble_eq_true rfl) (zkv ?_) zkn9
    obtain ⟨h31, e32, H⟩ := zbind H
    refine zy_putR (pc := 35) dJ4_init_2_35 lq_J4_9 rfl e32 ?_
    refine zw_goto (pc := 38) (tgt := 97) dJ4_init_2_38 rfl ?_
    obtain rfl := Option.some.inj H
    exact zw_vret (pc := 97) dJ4_init_2_97 rfl rfl rfl
def M_J4_init : zM := (yJ4_init, cJ4_init, 2, none, [])
theorem mf_J4_init : zMi M_J4_init 1 := ⟨⟨q805, q187, ⟨by decide +kernel, by decide +kernel⟩, by decide +kernel, by decide⟩, q804⟩
def f_J4_init (p0 : Option Nat) (p1 : Option Nat) (h : zH) : Option zH :=
  p0.bind fun b1 =>
  (f_J4_init_2 (some b1) p1 none h).bind fun h4 =>
  some h4
theorem w_J4_init {G : zG} {p0 : Option Nat} {p1 : Option Nat} {h : zH} {vh : zH} (H : f_J4_init p0 p1 h = some vh) : zMet G M_J4_init 9 [vR p0, vR p1] h (.inl none) vh := by
  refine zMet.of (by decide +kernel) (Nat.le_of_ble_eq_true rfl) ?_
  show zW G M_J4_init 9 h (.inl none) vh 0 [(0, vR p0), (1, vR p1)] [] h
  unfold f_J4_init at H
  refine zw_aload_n (pc := 0) dJ4_init_0 rfl 0 rfl ?_
  refine zw_aload_n (pc := 1) dJ4_init_1 rfl 1 rfl ?_
  refine zw_null (pc := 2) dJ4_init_2 ?_
  obtain ⟨b1, e2, H⟩ := zbind H
  obtain ⟨h4, e3, H⟩ := zbind H
  refine zw_invI (pc := 3) (M' := M_J4_init_2) (A := [vR p1, vR none]) [] dJ4_init_3 (Or.inl q806) mf_J4_init_2 rfl rfl (w_J4_init_2 e3) (Nat.le_of_ble_eq_true rfl) rfl (by rw [← e2]; rfl) (Nat.le_of_ble_eq_true rfl) (zku ?_) zkn9
  obtain rfl := Option.some.inj H
  exact zw_vret (pc := 6) dJ4_init_6 rfl rfl rfl
theorem ln_J3_18 : zCl "java/lang/StringBuilder" 18 19 := ⟨_, by decide, by decide, rfl, q801, q802, q187⟩
def M_J3_toString : zM := (yJ3_toString, cJ3_toString, 1, (.some (.object "java/lang/String")), [])
theorem mf_J3_toString : zMi M_J3_toString 0 := ⟨⟨q800, q186, ⟨by decide +kernel, by decide +kernel⟩, by decide +kernel, by decide⟩, q798⟩
def f_J3_toString (p0 : Option Nat) (h : zH) : Option (Option Nat × zH) :=
  zb2 (znw 19 h) fun q1 h2 =>
  (some q1).bind fun b4 =>
  (f_J4_init (some b4) p0 h2).bind fun h7 =>
  some ((some q1), h7)
theorem w_J3_toString {G : zG} {p0 : Option Nat} {h : zH} {vx : Option Nat} {vh : zH} (H : f_J3_toString p0 h = some (vx, vh)) : zMet G M_J3_toString 10 [vR p0] h (.inl (some (vR vx))) vh := by
  refine zMet.of (by decide +kernel) (Nat.le_of_ble_eq_true rfl) ?_
  show zW G M_J3_toString 10 h (.inl (some (vR vx))) vh 0 [(0, vR p0)] [] h
  unfold f_J3_toString at H
  obtain ⟨q1, h2, e3, H⟩ := zbind2 H
  refine zy_new (pc := 0) dJ3_toString_0 ln_J3_18 e3 ?_
  refine zw_dup (pc := 3) dJ3_toString_3 rfl ?_
  refine zw_aload_n (pc := 4) dJ3_toString_4 rfl 0 rfl ?_
  obtain ⟨b4, e5, H⟩ := zbind H
  obtain ⟨h7, e6, H⟩ := zbind H
  refine zw_invI (pc := 5) (M' := M_J4_init) (A := [vR p0]) [vR (some q1)] dJ3_toString_5 (Or.inl q803) mf_J4_init rfl rfl (w_J4_init e6) (Nat.le_of_ble_eq_true rfl) rfl (by rw [← e5]; rfl) (Nat.le_of_ble_eq_true rfl) (zku ?_) zkn9
  obtain ⟨rfl, rfl⟩ := Prod.mk.inj (Option.some.inj H)
  exact zw_aret (pc := 8) dJ3_toString_8 rfl (Or.inl ⟨_, rfl⟩) rfl rfl
def M_J16_getChars : zM := (yJ16_getChars, cJ16_getChars, 7, (.some .int), [])
theorem mf_J16_getChars : zMs M_J16_getChars 3 := ⟨⟨q841, q203, ⟨by decide +kernel, by decide +kernel⟩, by decide +kernel, by decide⟩, q840⟩
def B_J16_getChars_104 (a0 : Option Nat) (a1 : Int32) (a2 : Int32) (h : zH) : Option (Int32 × zH) :=
  if a2 = 0 then
  some (a1, h)
  else
  (zsB a0 (a1 + (-1 : Int32)) (45 : Int32) h).bind fun h2 =>
  some ((a1 + (-1 : Int32)), h2)
theorem wB_J16_getChars_104 {G : zG} {h0 h : zH} {vx : Int32} {vh : zH} {a0 : Option Nat} {a1 : Int32} {a2 : Int32} (H : B_J16_getChars_104 a0 a1 a2 h = some (vx, vh)) : zW G M_J16_getChars 2 h0 (.inl (some (vI vx))) vh 104 [(2, vR a0), (5, vI a1), (6, vI a2)] [] h := by
  unfold B_J16_getChars_104 at H
  refine zw_iload (pc := 104) dJ16_getChars_104 2 rfl ?_
  rcases zif H with ⟨c1, H⟩ | ⟨c1, H⟩
  · refine zw_if_eq (pc := 106) (tgt := 118) dJ16_getChars_106 rfl (fun _ => ?_) (fun q => absurd c1 q)
    refine zw_iload (pc := 118) dJ16_getChars_118 1 rfl ?_
    obtain ⟨rfl, rfl⟩ := Prod.mk.inj (Option.some.inj H)
    exact zw_iret (pc := 120) dJ16_getChars_120 rfl rfl rfl
  · refine zw_if_eq (pc := 106) (tgt := 118) dJ16_getChars_106 rfl (fun q => absurd q c1) (fun _ => ?_)
    refine zw_aload_n (pc := 109) dJ16_getChars_109 rfl 0 rfl ?_
    refine zw_iinc (pc := 110) (v := (a1 + (-1 : Int32))) (lv' := [(5, vI (a1 + (-1 : Int32))), (2, vR a0), (6, vI a2)]) dJ16_getChars_110 1 rfl rfl (by decide) rfl ?_
    refine zw_iload (pc := 113) dJ16_getChars_113 0 rfl ?_
    refine zw_bipush (pc := 115) (v := (45 : Int32)) dJ16_getChars_115 (by decide) ?_
    obtain ⟨h2, e3, H⟩ := zbind H
    refine zy_bast (pc := 117) dJ16_getChars_117 e3 ?_
    refine zw_iload (pc := 118) dJ16_getChars_118 0 rfl ?_
    obtain ⟨rfl, rfl⟩ := Prod.mk.inj (Option.some.inj H)
    exact zw_iret (pc := 120) dJ16_getChars_120 rfl rfl rfl
def B_J16_getChars_72 (a0 : Int32) (a1 : Option Nat) (a2 : Int32) (a3 : Int32) (h : zH) : Option (Int32 × zH) :=
  (zaI 53 (zsv h 1) (-a0) h).bind fun x1 =>
  (zsB a1 (a2 + (-1 : Int32)) x1 h).bind fun h3 =>
  if (-9 : Int32) ≤ a0 then
  B_J16_getChars_104 a1 (a2 + (-1 : Int32)) a3 h3
  else
  (zaI 53 (zsv h3 2) (-a0) h3).bind fun x6 =>
  (zsB a1 ((a2 + (-1 : Int32)) + (-1 : Int32)) x6 h3).bind fun h8 =>
  B_J16_getChars_104 a1 ((a2 + (-1 : Int32)) + (-1 : Int32)) a3 h8
theorem wB_J16_getChars_72 {G : zG} {h0 h : zH} {vx : Int32} {vh : zH} {a0 : Int32} {a1 : Option Nat} {a2 : Int32} {a3 : Int32} (H : B_J16_getChars_72 a0 a1 a2 a3 h = some (vx, vh)) : zW G M_J16_getChars 2 h0 (.inl (some (vI vx))) vh 72 [(0, vI a0), (2, vR a1), (5, vI a2), (6, vI a3)] [] h := by
  unfold B_J16_getChars_72 at H
  refine zw_aload_n (pc := 72) dJ16_getChars_72 rfl 1 rfl ?_
  refine zw_iinc (pc := 73) (v := (a2 + (-1 : Int32))) (lv' := [(5, vI (a2 + (-1 : Int32))), (0, vI a0), (2, vR a1), (6, vI a3)]) dJ16_getChars_73 2 rfl rfl (by decide) rfl ?_
  refine zw_iload (pc := 76) dJ16_getChars_76 0 rfl ?_
  refine zw_gets (pc := 78) 1 dJ16_getChars_78 rfl q842 rfl (show zstv _ 1 = vR (zsv h 1) from rfl) ?_
  refine zw_iload_n (pc := 81) dJ16_getChars_81 rfl 1 rfl ?_
  refine zw_ineg (pc := 82) dJ16_getChars_82 ?_
  obtain ⟨x1, e2, H⟩ := zbind H
  refine zy_bald (pc := 83) dJ16_getChars_83 e2 ?_
  obtain ⟨h3, e4, H⟩ := zbind H
  refine zy_bast (pc := 84) dJ16_getChars_84 e4 ?_
  refine zw_iload_n (pc := 85) dJ16_getChars_85 rfl 1 rfl ?_
  refine zw_bipush (pc := 86) (v := (-9 : Int32)) dJ16_getChars_86 (by decide) ?_
  rcases zif H with ⟨c5, H⟩ | ⟨c5, H⟩
  · refine zw_icmp_ge (pc := 88) (tgt := 104) dJ16_getChars_88 rfl (fun _ => ?_) (fun q => absurd c5 q)
    refine zW_pick (lv' := [(2, vR a1), (5, vI (a2 + (-1 : Int32))), (6, vI a3)]) [2, 0, 3] rfl ?_
    exact wB_J16_getChars_104 H
  · refine zw_icmp_ge (pc := 88) (tgt := 104) dJ16_getChars_88 rfl (fun q => absurd q c5) (fun _ => ?_)
    refine zw_aload_n (pc := 91) dJ16_getChars_91 rfl 2 rfl ?_
    refine zw_iinc (pc := 92) (v := ((a2 + (-1 : Int32)) + (-1 : Int32))) (lv' := [(5, vI ((a2 + (-1 : Int32)) + (-1 : Int32))), (0, vI a0), (2, vR a1), (6, vI a3)]) dJ16_getChars_92 0 rfl rfl (by decide) rfl ?_
    refine zw_iload (pc := 95) dJ16_getChars_95 0 rfl ?_
    refine zw_gets (pc := 97) 2 dJ16_getChars_97 rfl q844 rfl (show zstv _ 2 = vR (zsv h3 2) from rfl) ?_
    refine zw_iload_n (pc := 100) dJ16_getChars_100 rfl 1 rfl ?_
    refine zw_ineg (pc := 101) dJ16_getChars_101 ?_
    obtain ⟨x6, e7, H⟩ := zbind H
    refine zy_bald (pc := 102) dJ16_getChars_102 e7 ?_
    obtain ⟨h8, e9, H⟩ := zbind H
    refine zy_bast (pc := 103) dJ16_getChars_103 e9 ?_
    refine zW_pick (lv' := [(2, vR a1), (5, vI ((a2 + (-1 : Int32)) + (-1 : Int32))), (6, vI a3)]) [2, 0, 3] rfl ?_
    exact wB_J16_getChars_104 H
def B_J16_getChars_22 (k22 : Int32 → Option Nat → Int32 → Int32 → zH → Option (Int32 × zH)) (a0 : Int32) (a1 : Option Nat) (a2 : Int32) (a3 : Int32) (h : zH) : Option (Int32 × zH) :=
  if (-100 : Int32) < a0 then
  B_J16_getChars_72 a0 a1 a2 a3 h
  else
  if (100 : Int32) ≠ 0 then
  (zaI 53 (zsv h 1) (((a0 / (100 : Int32)) * (100 : Int32)) - a0) h).bind fun x3 =>
  (zsB a1 (a2 + (-1 : Int32)) x3 h).bind fun h5 =>
  (zaI 53 (zsv h5 2) (((a0 / (100 : Int32)) * (100 : Int32)) - a0) h5).bind fun x7 =>
  (zsB a1 ((a2 + (-1 : Int32)) + (-1 : Int32)) x7 h5).bind fun h9 =>
  k22 (a0 / (100 : Int32)) a1 ((a2 + (-1 : Int32)) + (-1 : Int32)) a3 h9
  else none
theorem wB_J16_getChars_22 {G : zG} {h0 h : zH} {vx : Int32} {vh : zH} {k22 : Int32 → Option Nat → Int32 → Int32 → zH → Option (Int32 × zH)} (hk22 : ∀ (b0 : Int32) (b1 : Option Nat) (b2 : Int32) (b3 : Int32) (h' : zH), k22 b0 b1 b2 b3 h' = some (vx, vh) → zW G M_J16_getChars 2 h0 (.inl (some (vI vx))) vh 22 [(0, vI b0), (2, vR b1), (5, vI b2), (6, vI b3)] [] h') {a0 : Int32} {a1 : Option Nat} {a2 : Int32} {a3 : Int32} (H : B_J16_getChars_22 k22 a0 a1 a2 a3 h = some (vx, vh)) : zW G M_J16_getChars 2 h0 (.inl (some (vI vx))) vh 22 [(0, vI a0), (2, vR a1), (5, vI a2), (6, vI a3)] [] h := by
  unfold B_J16_getChars_22 at H
  refine zw_iload_n (pc := 22) dJ16_getChars_22 rfl 0 rfl ?_
  refine zw_bipush (pc := 23) (v := (-100 : Int32)) dJ16_getChars_23 (by decide) ?_
  rcases zif H with ⟨c1, H⟩ | ⟨c1, H⟩
  · refine zw_icmp_gt (pc := 25) (tgt := 72) dJ16_getChars_25 rfl (fun _ => ?_) (fun q => absurd c1 q)
    refine zW_pick (lv' := [(0, vI a0), (2, vR a1), (5, vI a2), (6, vI a3)]) [0, 1, 2, 3] rfl ?_
    exact wB_J16_getChars_72 H
  · refine zw_icmp_gt (pc := 25) (tgt := 72) dJ16_getChars_25 rfl (fun q => absurd q c1) (fun _ => ?_)
    refine zw_iload_n (pc := 28) dJ16_getChars_28 rfl 0 rfl ?_
    refine zw_bipush (pc := 29) (v := (100 : Int32)) dJ16_getChars_29 (by decide) ?_
    obtain ⟨c2, H⟩ := zgd H
    refine zw_idiv (pc := 31) dJ16_getChars_31 c2 ?_
    refine zw_istore_n (pc := 32) (lv' := [(3, vI (a0 / (100 : Int32))), (0, vI a0), (2, vR a1), (5, vI a2), (6, vI a3)]) dJ16_getChars_32 rfl (by decide) rfl ?_
    refine zw_iload_n (pc := 33) dJ16_getChars_33 rfl 0 rfl ?_
    refine zw_bipush (pc := 34) (v := (100 : Int32)) dJ16_getChars_34 (by decide) ?_
    refine zw_imul (pc := 36) dJ16_getChars_36 ?_
    refine zw_iload_n (pc := 37) dJ16_getChars_37 rfl 1 rfl ?_
    refine zw_isub (pc := 38) dJ16_getChars_38 ?_
    refine zw_istore (pc := 39) (lv' := [(4, vI (((a0 / (100 : Int32)) * (100 : Int32)) - a0)), (3, vI (a0 / (100 : Int32))), (0, vI a0), (2, vR a1), (5, vI a2), (6, vI a3)]) dJ16_getChars_39 (by decide) rfl ?_
    refine zw_iload_n (pc := 41) dJ16_getChars_41 rfl 1 rfl ?_
    refine zw_istore_n (pc := 42) (lv' := [(0, vI (a0 / (100 : Int32))), (4, vI (((a0 / (100 : Int32)) * (100 : Int32)) - a0)), (3, vI (a0 / (100 : Int32))), (2, vR a1), (5, vI a2), (6, vI a3)]) dJ16_getChars_42 rfl (by decide) rfl ?_
    refine zw_aload_n (pc := 43) dJ16_getChars_43 rfl 3 rfl ?_
    refine zw_iinc (pc := 44) (v := (a2 + (-1 : Int32))) (lv' := [(5, vI (a2 + (-1 : Int32))), (0, vI (a0 / (100 : Int32))), (4, vI (((a0 / (100 : Int32)) * (100 : Int32)) - a0)), (3, vI (a0 / (100 : Int32))), (2, vR a1), (6, vI a3)]) dJ16_getChars_44 4 rfl rfl (by decide) rfl ?_
    refine zw_iload (pc := 47) dJ16_getChars_47 0 rfl ?_
    refine zw_gets (pc := 49) 1 dJ16_getChars_49 rfl q842 rfl (show zstv _ 1 = vR (zsv h 1) from rfl) ?_
    refine zw_iload (pc := 52) dJ16_getChars_52 2 rfl ?_
    obtain ⟨x3, e4, H⟩ := zbind H
    refine zy_bald (pc := 54) dJ16_getChars_54 e4 ?_
    obtain ⟨h5, e6, H⟩ := zbind H
    refine zy_bast (pc := 55) dJ16_getChars_55 e6 ?_
    refine zw_aload_n (pc := 56) dJ16_getChars_56 rfl 4 rfl ?_
    refine zw_iinc (pc := 57) (v := ((a2 + (-1 : Int32)) + (-1 : Int32))) (lv' := [(5, vI ((a2 + (-1 : Int32)) + (-1 : Int32))), (0, vI (a0 / (100 : Int32))), (4, vI (((a0 / (100 : Int32)) * (100 : Int32)) - a0)), (3, vI (a0 / (100 : Int32))), (2, vR a1), (6, vI a3)]) dJ16_getChars_57 0 rfl rfl (by decide) rfl ?_
    refine zw_iload (pc := 60) dJ16_getChars_60 0 rfl ?_
    refine zw_gets (pc := 62) 2 dJ16_getChars_62 rfl q844 rfl (show zstv _ 2 = vR (zsv h5 2) from rfl) ?_
    refine zw_iload (pc := 65) dJ16_getChars_65 2 rfl ?_
    obtain ⟨x7, e8, H⟩ := zbind H
    refine zy_bald (pc := 67) dJ16_getChars_67 e8 ?_
    obtain ⟨h9, e10, H⟩ := zbind H
    refine zy_bast (pc := 68) dJ16_getChars_68 e10 ?_
    refine zw_goto (pc := 69) (tgt := 22) dJ16_getChars_69 rfl ?_
    refine zW_pick (lv' := [(0, vI (a0 / (100 : Int32))), (2, vR a1), (5, vI ((a2 + (-1 : Int32)) + (-1 : Int32))), (6, vI a3)]) [1, 4, 0, 5] rfl ?_
    exact hk22 _ _ _ _ _ H
def f_J16_getChars (p0 : Int32) (p1 : Int32) (p2 : Option Nat) (h : zH) : Option (Int32 × zH) :=
  if 0 ≤ p0 then
  if (0 : Int32) = 0 then
  zloop (B_J16_getChars_22) (fun _ _ _ _ _ => none) zFU (-p0) p2 p1 (0 : Int32) h
  else
  zloop (B_J16_getChars_22) (fun _ _ _ _ _ => none) zFU p0 p2 p1 (0 : Int32) h
  else
  if (1 : Int32) = 0 then
  zloop (B_J16_getChars_22) (fun _ _ _ _ _ => none) zFU (-p0) p2 p1 (1 : Int32) h
  else
  zloop (B_J16_getChars_22) (fun _ _ _ _ _ => none) zFU p0 p2 p1 (1 : Int32) h
theorem w_J16_getChars {G : zG} {p0 : Int32} {p1 : Int32} {p2 : Option Nat} {h : zH} {vx : Int32} {vh : zH} (H : f_J16_getChars p0 p1 p2 h = some (vx, vh)) : zMet G M_J16_getChars 2 [vI p0, vI p1, vR p2] h (.inl (some (vI vx))) vh := by
  refine zMet.of (by decide +kernel) (Nat.le_of_ble_eq_true rfl) ?_
  show zW G M_J16_getChars 2 h (.inl (some (vI vx))) vh 0 [(0, vI p0), (1, vI p1), (2, vR p2)] [] h
  unfold f_J16_getChars at H
  refine zw_iload_n (pc := 0) dJ16_getChars_0 rfl 1 rfl ?_
  refine zw_istore (pc := 1) (lv' := [(5, vI p1), (0, vI p0), (1, vI p1), (2, vR p2)]) dJ16_getChars_1 (by decide) rfl ?_
  refine zw_iload_n (pc := 3) dJ16_getChars_3 rfl 1 rfl ?_
  rcases zif H with ⟨c1, H⟩ | ⟨c1, H⟩
  · refine zw_if_ge (pc := 4) (tgt := 11) dJ16_getChars_4 rfl (fun _ => ?_) (fun q => absurd c1 q)
    refine zw_iconst (pc := 11) (v := (0 : Int32)) dJ16_getChars_11 (by decide) ?_
    refine zw_istore (pc := 12) (lv' := [(6, vI (0 : Int32)), (5, vI p1), (0, vI p0), (1, vI p1), (2, vR p2)]) dJ16_getChars_12 (by decide) rfl ?_
    refine zw_iload (pc := 14) dJ16_getChars_14 0 rfl ?_
    rcases zif H with ⟨c2, H⟩ | ⟨c2, H⟩
    · refine zw_if_ne (pc := 16) (tgt := 22) dJ16_getChars_16 rfl (fun q => absurd c2 q) (fun _ => ?_)
      refine zw_iload_n (pc := 19) dJ16_getChars_19 rfl 2 rfl ?_
      refine zw_ineg (pc := 20) dJ16_getChars_20 ?_
      refine zw_istore_n (pc := 21) (lv' := [(0, vI (-p0)), (6, vI (0 : Int32)), (5, vI p1), (1, vI p1), (2, vR p2)]) dJ16_getChars_21 rfl (by decide) rfl ?_
      refine zW_pick (lv' := [(0, vI (-p0)), (2, vR p2), (5, vI p1), (6, vI (0 : Int32))]) [0, 4, 2, 1] rfl ?_
      exact zloop_ind (body := (B_J16_getChars_22)) (bot := (fun _ _ _ _ _ => none)) (P := (fun (f : Int32 → Option Nat → Int32 → Int32 → zH → Option (Int32 × zH)) => ∀ (b0 : Int32) (b1 : Option Nat) (b2 : Int32) (b3 : Int32) (h' : zH), f b0 b1 b2 b3 h' = some (vx, vh) → zW G M_J16_getChars 2 h (.inl (some (vI vx))) vh 22 [(0, vI b0), (2, vR b1), (5, vI b2), (6, vI b3)] [] h')) zFU (fun _ _ _ _ _ H => nomatch H) (fun f hf c0 c1 c2 c3 h' H => wB_J16_getChars_22 hf H) _ _ _ _ _ H
    · refine zw_if_ne (pc := 16) (tgt := 22) dJ16_getChars_16 rfl (fun _ => ?_) (fun q => absurd q c2)
      refine zW_pick (lv' := [(0, vI p0), (2, vR p2), (5, vI p1), (6, vI (0 : Int32))]) [2, 4, 1, 0] rfl ?_
      exact zloop_ind (body := (B_J16_getChars_22)) (bot := (fun _ _ _ _ _ => none)) (P := (fun (f : Int32 → Option Nat → Int32 → Int32 → zH → Option (Int32 × zH)) => ∀ (b0 : Int32) (b1 : Option Nat) (b2 : Int32) (b3 : Int32) (h' : zH), f b0 b1 b2 b3 h' = some (vx, vh) → zW G M_J16_getChars 2 h (.inl (some (vI vx))) vh 22 [(0, vI b0), (2, vR b1), (5, vI b2), (6, vI b3)] [] h')) zFU (fun _ _ _ _ _ H => nomatch H) (fun f hf c0 c1 c2 c3 h' H => wB_J16_getChars_22 hf H) _ _ _ _ _ H
  · refine zw_if_ge (pc := 4) (tgt := 11) dJ16_getChars_4 rfl (fun q => absurd q c1) (fun _ => ?_)
    refine zw_iconst (pc := 7) (v := (1 : Int32)) dJ16_getChars_7 (by decide) ?_
    refine zw_goto (pc := 8) (tgt := 12) dJ16_getChars_8 rfl ?_
    refine zw_istore (pc := 12) (lv' := [(6, vI (1 : Int32)), (5, vI p1), (0, vI p0), (1, vI p1), (2, vR p2)]) dJ16_getChars_12 (by decide) rfl ?_
    refine zw_iload (pc := 14) dJ16_getChars_14 0 rfl ?_
    rcases zif H with ⟨c3, H⟩ | ⟨c3, H⟩
    · refine zw_if_ne (pc := 16) (tgt := 22) dJ16_getChars_16 rfl (fun q => absurd c3 q) (fun _ => ?_)
      refine zw_iload_n (pc := 19) dJ16_getChars_19 rfl 2 rfl ?_
      refine zw_ineg (pc := 20) dJ16_getChars_20 ?_
      refine zw_istore_n (pc := 21) (lv' := [(0, vI (-p0)), (6, vI (1 : Int32)), (5, vI p1), (1, vI p1), (2, vR p2)]) dJ16_getChars_21 rfl (by decide) rfl ?_
      refine zW_pick (lv' := [(0, vI (-p0)), (2, vR p2), (5, vI p1), (6, vI (1 : Int32))]) [0, 4, 2, 1] rfl ?_
      exact zloop_ind (body := (B_J16_getChars_22)) (bot := (fun _ _ _ _ _ => none)) (P := (fun (f : Int32 → Option Nat → Int32 → Int32 → zH → Option (Int32 × zH)) => ∀ (b0 : Int32) (b1 : Option Nat) (b2 : Int32) (b3 : Int32) (h' : zH), f b0 b1 b2 b3 h' = some (vx, vh) → zW G M_J16_getChars 2 h (.inl (some (vI vx))) vh 22 [(0, vI b0), (2, vR b1), (5, vI b2), (6, vI b3)] [] h')) zFU (fun _ _ _ _ _ H => nomatch H) (fun f hf c0 c1 c2 c3 h' H => wB_J16_getChars_22 hf H) _ _ _ _ _ H
    · refine zw_if_ne (pc := 16) (tgt := 22) dJ16_getChars_16 rfl (fun _ => ?_) (fun q => absurd q c3)
      refine zW_pick (lv' := [(0, vI p0), (2, vR p2), (5, vI p1), (6, vI (1 : Int32))]) [2, 4, 1, 0] rfl ?_
      exact zloop_ind (body := (B_J16_getChars_22)) (bot := (fun _ _ _ _ _ => none)) (P := (fun (f : Int32 → Option Nat → Int32 → Int32 → zH → Option (Int32 × zH)) => ∀ (b0 : Int32) (b1 : Option Nat) (b2 : Int32) (b3 : Int32) (h' : zH), f b0 b1 b2 b3 h' = some (vx, vh) → zW G M_J16_getChars 2 h (.inl (some (vI vx))) vh 22 [(0, vI b0), (2, vR b1), (5, vI b2), (6, vI b3)] [] h')) zFU (fun _ _ _ _ _ H => nomatch H) (fun f hf c0 c1 c2 c3 h' H => wB_J16_getChars_22 hf H) _ _ _ _ _ H
def M_J16_stringSize : zM := (yJ16_stringSize, cJ16_stringSize, 4, (.some .int), [])
theorem mf_J16_stringSize : zMs M_J16_stringSize 1 := ⟨⟨q838, q203, ⟨by decide +kernel, by decide +kernel⟩, by decide +kernel, by decide⟩, q837⟩
def B_J16_stringSize_16 (k16 : Int32 → Int32 → Int32 → Int32 → Option Int32) (a0 : Int32) (a1 : Int32) (a2 : Int32) (a3 : Int32) (h : zH) : Option Int32 :=
  if (10 : Int32) ≤ a3 then
  some ((10 : Int32) + a1)
  else
  if a0 ≤ a2 then
  k16 a0 a1 ((10 : Int32) * a2) (a3 + (1 : Int32))
  else
  some (a3 + a1)
theorem wB_J16_stringSize_16 {G : zG} {h0 h : zH} {vx : Int32} {k16 : Int32 → Int32 → Int32 → Int32 → Option Int32} (hk16 : ∀ (b0 : Int32) (b1 : Int32) (b2 : Int32) (b3 : Int32), k16 b0 b1 b2 b3 = some vx → zW G M_J16_stringSize 2 h0 (.inl (some (vI vx))) h 16 [(0, vI b0), (1, vI b1), (2, vI b2), (3, vI b3)] [] h) {a0 : Int32} {a1 : Int32} {a2 : Int32} {a3 : Int32} (H : B_J16_stringSize_16 k16 a0 a1 a2 a3 h = some vx) : zW G M_J16_stringSize 2 h0 (.inl (some (vI vx))) h 16 [(0, vI a0), (1, vI a1), (2, vI a2), (3, vI a3)] [] h := by
  unfold B_J16_stringSize_16 at H
  refine zw_iload_n (pc := 16) dJ16_stringSize_16 rfl 3 rfl ?_
  refine zw_bipush (pc := 17) (v := (10 : Int32)) dJ16_stringSize_17 (by decide) ?_
  rcases zif H with ⟨c1, H⟩ | ⟨c1, H⟩
  · refine zw_icmp_ge (pc := 19) (tgt := 42) dJ16_stringSize_19 rfl (fun _ => ?_) (fun q => absurd c1 q)
    refine zw_bipush (pc := 42) (v := (10 : Int32)) dJ16_stringSize_42 (by decide) ?_
    refine zw_iload_n (pc := 44) dJ16_stringSize_44 rfl 1 rfl ?_
    refine zw_iadd (pc := 45) dJ16_stringSize_45 ?_
    obtain rfl := Option.some.inj H
    exact zw_iret (pc := 46) dJ16_stringSize_46 rfl rfl rfl
  · refine zw_icmp_ge (pc := 19) (tgt := 42) dJ16_stringSize_19 rfl (fun q => absurd q c1) (fun _ => ?_)
    refine zw_iload_n (pc := 22) dJ16_stringSize_22 rfl 0 rfl ?_
    refine zw_iload_n (pc := 23) dJ16_stringSize_23 rfl 2 rfl ?_
    rcases zif H with ⟨c2, H⟩ | ⟨c2, H⟩
    · refine zw_icmp_le (pc := 24) (tgt := 31) dJ16_stringSize_24 rfl (fun _ => ?_) (fun q => absurd c2 q)
      refine zw_bipush (pc := 31) (v := (10 : Int32)) dJ16_stringSize_31 (by decide) ?_
      refine zw_iload_n (pc := 33) dJ16_stringSize_33 rfl 2 rfl ?_
      refine zw_imul (pc := 34) dJ16_stringSize_34 ?_
      refine zw_istore_n (pc := 35) (lv' := [(2, vI ((10 : Int32) * a2)), (0, vI a0), (1, vI a1), (3, vI a3)]) dJ16_stringSize_35 rfl (by decide) rfl ?_
      refine zw_iinc (pc := 36) (v := (a3 + (1 : Int32))) (lv' := [(3, vI (a3 + (1 : Int32))), (2, vI ((10 : Int32) * a2)), (0, vI a0), (1, vI a1)]) dJ16_stringSize_36 3 rfl rfl (by decide) rfl ?_
      refine zw_goto (pc := 39) (tgt := 16) dJ16_stringSize_39 rfl ?_
      refine zW_pick (lv' := [(0, vI a0), (1, vI a1), (2, vI ((10 : Int32) * a2)), (3, vI (a3 + (1 : Int32)))]) [2, 3, 1, 0] rfl ?_
      exact hk16 _ _ _ _ H
    · refine zw_icmp_le (pc := 24) (tgt := 31) dJ16_stringSize_24 rfl (fun q => absurd q c2) (fun _ => ?_)
      refine zw_iload_n (pc := 27) dJ16_stringSize_27 rfl 3 rfl ?_
      refine zw_iload_n (pc := 28) dJ16_stringSize_28 rfl 1 rfl ?_
      refine zw_iadd (pc := 29) dJ16_stringSize_29 ?_
      obtain rfl := Option.some.inj H
      exact zw_iret (pc := 30) dJ16_stringSize_30 rfl rfl rfl
def f_J16_stringSize (p0 : Int32) (h : zH) : Option Int32 :=
  if p0 < 0 then
  zloop (fun f c0 c1 c2 c3 => B_J16_stringSize_16 f c0 c1 c2 c3 h) (fun _ _ _ _ => none) zFU p0 (1 : Int32) (-10 : Int32) (1 : Int32)
  else
  zloop (fun f c0 c1 c2 c3 => B_J16_stringSize_16 f c0 c1 c2 c3 h) (fun _ _ _ _ => none) zFU (-p0) (0 : Int32) (-10 : Int32) (1 : Int32)
theorem w_J16_stringSize {G : zG} {p0 : Int32} {h : zH} {vx : Int32} (H : f_J16_stringSize p0 h = some vx) : zMet G M_J16_stringSize 2 [vI p0] h (.inl (some (vI vx))) h := by
  refine zMet.of (by decide +kernel) (Nat.le_of_ble_eq_true rfl) ?_
  show zW G M_J16_stringSize 2 h (.inl (some (vI vx))) h 0 [(0, vI p0)] [] h
  unfold f_J16_stringSize at H
  refine zw_iconst (pc := 0) (v := (1 : Int32)) dJ16_stringSize_0 (by decide) ?_
  refine zw_istore_n (pc := 1) (lv' := [(1, vI (1 : Int32)), (0, vI p0)]) dJ16_stringSize_1 rfl (by decide) rfl ?_
  refine zw_iload_n (pc := 2) dJ16_stringSize_2 rfl 1 rfl ?_
  rcases zif H with ⟨c1, H⟩ | ⟨c1, H⟩
  · refine zw_if_lt (pc := 3) (tgt := 11) dJ16_stringSize_3 rfl (fun _ => ?_) (fun q => absurd c1 q)
    refine zw_bipush (pc := 11) (v := (-10 : Int32)) dJ16_stringSize_11 (by decide) ?_
    refine zw_istore_n (pc := 13) (lv' := [(2, vI (-10 : Int32)), (1, vI (1 : Int32)), (0, vI p0)]) dJ16_stringSize_13 rfl (by decide) rfl ?_
    refine zw_iconst (pc := 14) (v := (1 : Int32)) dJ16_stringSize_14 (by decide) ?_
    refine zw_istore_n (pc := 15) (lv' := [(3, vI (1 : Int32)), (2, vI (-10 : Int32)), (1, vI (1 : Int32)), (0, vI p0)]) dJ16_stringSize_15 rfl (by decide) rfl ?_
    refine zW_pick (lv' := [(0, vI p0), (1, vI (1 : Int32)), (2, vI (-10 : Int32)), (3, vI (1 : Int32))]) [3, 2, 1, 0] rfl ?_
    exact zloop_ind (body := (fun f c0 c1 c2 c3 => B_J16_stringSize_16 f c0 c1 c2 c3 h)) (bot := (fun _ _ _ _ => none)) (P := (fun (f : Int32 → Int32 → Int32 → Int32 → Option Int32) => ∀ (b0 : Int32) (b1 : Int32) (b2 : Int32) (b3 : Int32), f b0 b1 b2 b3 = some vx → zW G M_J16_stringSize 2 h (.inl (some (vI vx))) h 16 [(0, vI b0), (1, vI b1), (2, vI b2), (3, vI b3)] [] h)) zFU (fun _ _ _ _ H => nomatch H) (fun f hf c0 c1 c2 c3 H => wB_J16_stringSize_16 hf H) _ _ _ _ H
  · refine zw_if_lt (pc := 3) (tgt := 11) dJ16_stringSize_3 rfl (fun q => absurd q c1) (fun _ => ?_)
    refine zw_iconst (pc := 6) (v := (0 : Int32)) dJ16_stringSize_6 (by decide) ?_
    refine zw_istore_n (pc := 7) (lv' := [(1, vI (0 : Int32)), (0, vI p0)]) dJ16_stringSize_7 rfl (by decide) rfl ?_
    refine zw_iload_n (pc := 8) dJ16_stringSize_8 rfl 1 rfl ?_
    refine zw_ineg (pc := 9) dJ16_stringSize_9 ?_
    refine zw_istore_n (pc := 10) (lv' := [(0, vI (-p0)), (1, vI (0 : Int32))]) dJ16_stringSize_10 rfl (by decide) rfl ?_
    refine zw_bipush (pc := 11) (v := (-10 : Int32)) dJ16_stringSize_11 (by decide) ?_
    refine zw_istore_n (pc := 13) (lv' := [(2, vI (-10 : Int32)), (0, vI (-p0)), (1, vI (0 : Int32))]) dJ16_stringSize_13 rfl (by decide) rfl ?_
    refine zw_iconst (pc := 14) (v := (1 : Int32)) dJ16_stringSize_14 (by decide) ?_
    refine zw_istore_n (pc := 15) (lv' := [(3, vI (1 : Int32)), (2, vI (-10 : Int32)), (0, vI (-p0)), (1, vI (0 : Int32))]) dJ16_stringSize_15 rfl (by decide) rfl ?_
    refine zW_pick (lv' := [(0, vI (-p0)), (1, vI (0 : Int32)), (2, vI (-10 : Int32)), (3, vI (1 : Int32))]) [2, 3, 1, 0] rfl ?_
    exact zloop_ind (body := (fun f c0 c1 c2 c3 => B_J16_stringSize_16 f c0 c1 c2 c3 h)) (bot := (fun _ _ _ _ => none)) (P := (fun (f : Int32 → Int32 → Int32 → Int32 → Option Int32) => ∀ (b0 : Int32) (b1 : Int32) (b2 : Int32) (b3 : Int32), f b0 b1 b2 b3 = some vx → zW G M_J16_stringSize 2 h (.inl (some (vI vx))) h 16 [(0, vI b0), (1, vI b1), (2, vI b2), (3, vI b3)] [] h)) zFU (fun _ _ _ _ H => nomatch H) (fun f hf c0 c1 c2 c3 H => wB_J16_stringSize_16 hf H) _ _ _ _ H
def M_J2_append_2 : zM := (yJ2_append_2, cJ2_append_2, 4, (.some (.object "java/lang/AbstractStringBuilder")), [])
theorem mf_J2_append_2 : zMi M_J2_append_2 1 := ⟨⟨q835, q185, ⟨by decide +kernel, by decide +kernel⟩, by decide +kernel, by decide⟩, q834⟩
def f_J2_append_2 (p0 : Option Nat) (p1 : Int32) (h : zH) : Option (Option Nat × zH) :=
  (zgI 18 3 p0 h).bind fun x1 =>
  (f_J16_stringSize p1 h).bind fun x4 =>
  (zrv 18 p0 h).bind fun b5 =>
  (f_J2_ensureCapacityInternal (some b5) (x1 + x4) h).bind fun h10 =>
  (zrv 18 p0 h10).bind fun b11 =>
  (f_J2_isLatin1 (some b11) h10).bind fun x16 =>
  if x16 = 0 then
  (zgR 18 0 p0 h10).bind fun x18 =>
  none
  else
  (zgR 18 0 p0 h10).bind fun x20 =>
  zb2 (f_J16_getChars p1 (x1 + x4) x20 h10) fun x24 h23 =>
  (zpI 18 3 p0 (x1 + x4) h23).bind fun h25 =>
  some (p0, h25)
theorem w_J2_append_2 {G : zG} {p0 : Option Nat} {p1 : Int32} {h : zH} {vx : Option Nat} {vh : zH} (H : f_J2_append_2 p0 p1 h = some (vx, vh)) : zMet G M_J2_append_2 6 [vR p0, vI p1] h (.inl (some (vR vx))) vh := by
  refine zMet.of (by decide +kernel) (Nat.le_of_ble_eq_true rfl) ?_
  show zW G M_J2_append_2 6 h (.inl (some (vR vx))) vh 0 [(0, vR p0), (1, vI p1)] [] h
  unfold f_J2_append_2 at H
  refine zw_aload_n (pc := 0) dJ2_append_2_0 rfl 0 rfl ?_
  obtain ⟨x1, e2, H⟩ := zbind H
  refine zy_getI (pc := 1) dJ2_append_2_1 lf_J2_79 (fun _ _ => rfl) e2 ?_
  refine zw_istore_n (pc := 4) (lv' := [(2, vI x1), (0, vR p0), (1, vI p1)]) dJ2_append_2_4 rfl (by decide) rfl ?_
  refine zw_iload_n (pc := 5) dJ2_append_2_5 rfl 0 rfl ?_
  refine zw_iload_n (pc := 6) dJ2_append_2_6 rfl 2 rfl ?_
  obtain ⟨x4, e3, H⟩ := zbind H
  refine zw_invS (pc := 7) (M' := M_J16_stringSize) (A := [vI p1]) [vI x1] dJ2_append_2_7 (Or.inl q836) mf_J16_stringSize (w_J16_stringSize e3) (Nat.le_of_ble_eq_true rfl) rfl rfl (Nat.le_of_ble_eq_true rfl) (zkv ?_) zkn9
  refine zw_iadd (pc := 10) dJ2_append_2_10 ?_
  refine zw_istore_n (pc := 11) (lv' := [(3, vI (x1 + x4)), (2, vI x1), (0, vR p0), (1, vI p1)]) dJ2_append_2_11 rfl (by decide) rfl ?_
  refine zw_aload_n (pc := 12) dJ2_append_2_12 rfl 2 rfl ?_
  refine zw_iload_n (pc := 13) dJ2_append_2_13 rfl 0 rfl ?_
  obtain ⟨b5, e7, H⟩ := zbind H
  obtain ⟨e6, e8⟩ := zrv_ok e7
  obtain ⟨h10, e9, H⟩ := zbind H
  refine zw_invP (pc := 14) (M' := M_J2_ensureCapacityInternal) (A := [vI (x1 + x4)]) [] dJ2_append_2_14 q711 mf_J2_ensureCapacityInternal (by decide +kernel) q747 rfl (zkq e8 rfl) (w_J2_ensureCapacityInternal e9) (Nat.le_of_ble_eq_true rfl) rfl (by rw [← e6]; rfl) (Nat.le_of_ble_eq_true rfl) (zku ?_) zkn9
  refine zw_aload_n (pc := 17) dJ2_append_2_17 rfl 2 rfl ?_
  obtain ⟨b11, e13, H⟩ := zbind H
  obtain ⟨e12, e14⟩ := zrv_ok e13
  obtain ⟨x16, e15, H⟩ := zbind H
  refine zw_invU (pc := 18) (M' := M_J2_isLatin1) (owner := "java/lang/AbstractStringBuilder") (C0 := "java/lang/StringBuilder") (A := []) [] dJ2_append_2_18 q744 q746 (Or.inl ⟨M_J2_isLatin1, _, mf_J2_isLatin1, rfl⟩) (by decide +kernel) mf_J2_isLatin1 rfl q747 (zrecv (zkq e14 rfl)) (w_J2_isLatin1 e15) (Nat.le_of_ble_eq_true rfl) rfl (by rw [← e12]; rfl) (Nat.le_of_ble_eq_true rfl) (zkv ?_) zkn9
  rcases zif H with ⟨c17, H⟩ | ⟨c17, H⟩
  · refine zw_if_eq (pc := 21) (tgt := 37) dJ2_append_2_21 rfl (fun _ => ?_) (fun q => absurd c17 q)
    refine zw_iload_n (pc := 37) dJ2_append_2_37 rfl 3 rfl ?_
    refine zw_iload_n (pc := 38) dJ2_append_2_38 rfl 1 rfl ?_
    refine zw_iload_n (pc := 39) dJ2_append_2_39 rfl 0 rfl ?_
    refine zw_aload_n (pc := 40) dJ2_append_2_40 rfl 2 rfl ?_
    obtain ⟨x18, e19, H⟩ := zbind H
    refine zy_getR (pc := 41) dJ2_append_2_41 lf_J2_15 (fun _ _ => rfl) e19 ?_
    cases H
  · refine zw_if_eq (pc := 21) (tgt := 37) dJ2_append_2_21 rfl (fun q => absurd q c17) (fun _ => ?_)
    refine zw_iload_n (pc := 24) dJ2_append_2_24 rfl 3 rfl ?_
    refine zw_iload_n (pc := 25) dJ2_append_2_25 rfl 0 rfl ?_
    refine zw_aload_n (pc := 26) dJ2_append_2_26 rfl 2 rfl ?_
    obtain ⟨x20, e21, H⟩ := zbind H
    refine zy_getR (pc := 27) dJ2_append_2_27 lf_J2_15 (fun _ _ => rfl) e21 ?_
    obtain ⟨x24, h23, e22, H⟩ := zbind2 H
    refine zw_invS (pc := 30) (M' := M_J16_getChars) (A := [vI p1, vI (x1 + x4), vR x20]) [] dJ2_append_2_30 (Or.inl q839) mf_J16_getChars (w_J16_getChars e22) (Nat.le_of_ble_eq_true rfl) rfl rfl (Nat.le_of_ble_eq_true rfl) (zkv ?_) zkn9
    refine zw_pop (pc := 33) dJ2_append_2_33 rfl ?_
    refine zw_goto (pc := 34) (tgt := 48) dJ2_append_2_34 rfl ?_
    refine zw_aload_n (pc := 48) dJ2_append_2_48 rfl 2 rfl ?_
    refine zw_iload_n (pc := 49) dJ2_append_2_49 rfl 0 rfl ?_
    obtain ⟨h25, e26, H⟩ := zbind H
    refine zy_putI (pc := 50) dJ2_append_2_50 lp_J2_79 rfl e26 ?_
    refine zw_aload_n (pc := 53) dJ2_append_2_53 rfl 2 rfl ?_
    obtain ⟨rfl, rfl⟩ := Prod.mk.inj (Option.some.inj H)
    exact zw_aret (pc := 54) dJ2_append_2_54 rfl (Or.inl ⟨_, rfl⟩) rfl rfl
def M_J3_append_2 : zM := (yJ3_append_2, cJ3_append_2, 2, (.some (.object "java/lang/StringBuilder")), [])
theorem mf_J3_append_2 : zMi M_J3_append_2 1 := ⟨⟨q832, q186, ⟨by decide +kernel, by decide +kernel⟩, by decide +kernel, by decide⟩, q830⟩
def f_J3_append_2 (p0 : Option Nat) (p1 : Int32) (h : zH) : Option (Option Nat × zH) :=
  (zrv 18 p0 h).bind fun b1 =>
  zb2 (f_J2_append_2 (some b1) p1 h) fun x7 h6 =>
  some (p0, h6)
theorem w_J3_append_2 {G : zG} {p0 : Option Nat} {p1 : Int32} {h : zH} {vx : Option Nat} {vh : zH} (H : f_J3_append_2 p0 p1 h = some (vx, vh)) : zMet G M_J3_append_2 7 [vR p0, vI p1] h (.inl (some (vR vx))) vh := by
  refine zMet.of (by decide +kernel) (Nat.le_of_ble_eq_true rfl) ?_
  show zW G M_J3_append_2 7 h (.inl (some (vR vx))) vh 0 [(0, vR p0), (1, vI p1)] [] h
  unfold f_J3_append_2 at H
  refine zw_aload_n (pc := 0) dJ3_append_2_0 rfl 0 rfl ?_
  refine zw_iload_n (pc := 1) dJ3_append_2_1 rfl 1 rfl ?_
  obtain ⟨b1, e4, H⟩ := zbind H
  obtain ⟨e2, e5⟩ := zrv_ok e4
  obtain ⟨x7, h6, e3, H⟩ := zbind2 H
  refine zw_invSU (pc := 2) (M' := M_J2_append_2) (A := [vI p1]) [] dJ3_append_2_2 q833 q3025 q333 mf_J2_append_2 (by decide) (zkq e5 rfl) (w_J2_append_2 e3) (Nat.le_of_ble_eq_true rfl) rfl (by rw [← e2]; rfl) (Nat.le_of_ble_eq_true rfl) (zkv ?_) zkn9
  refine zw_pop (pc := 5) dJ3_append_2_5 rfl ?_
  refine zw_aload_n (pc := 6) dJ3_append_2_6 rfl 0 rfl ?_
  obtain ⟨rfl, rfl⟩ := Prod.mk.inj (Option.some.inj H)
  exact zw_aret (pc := 7) dJ3_append_2_7 rfl (Or.inl ⟨_, rfl⟩) rfl rfl
def M_J2_appendNull : zM := (yJ2_appendNull, cJ2_appendNull, 3, (.some (.object "java/lang/AbstractStringBuilder")), [])
theorem mf_J2_appendNull : zMi M_J2_appendNull 0 := ⟨⟨q874, q185, ⟨by decide +kernel, by decide +kernel⟩, by decide +kernel, by decide⟩, q873⟩
def f_J2_appendNull (p0 : Option Nat) (h : zH) : Option (Option Nat × zH) :=
  (zgI 18 3 p0 h).bind fun x1 =>
  (zrv 18 p0 h).bind fun b3 =>
  (f_J2_ensureCapacityInternal (some b3) (x1 + (4 : Int32)) h).bind fun h8 =>
  (zgI 18 3 p0 h8).bind fun x9 =>
  (zgR 18 0 p0 h8).bind fun x11 =>
  (zrv 18 p0 h8).bind fun b13 =>
  (f_J2_isLatin1 (some b13) h8).bind fun x18 =>
  if x18 = 0 then
  none
  else
  (zsB x11 x9 (110 : Int32) h8).bind fun h20 =>
  (zsB x11 (x9 + (1 : Int32)) (117 : Int32) h20).bind fun h22 =>
  (zsB x11 ((x9 + (1 : Int32)) + (1 : Int32)) (108 : Int32) h22).bind fun h24 =>
  (zsB x11 (((x9 + (1 : Int32)) + (1 : Int32)) + (1 : Int32)) (108 : Int32) h24).bind fun h26 =>
  (zpI 18 3 p0 ((((x9 + (1 : Int32)) + (1 : Int32)) + (1 : Int32)) + (1 : Int32)) h26).bind fun h28 =>
  some (p0, h28)
theorem w_J2_appendNull {G : zG} {p0 : Option Nat} {h : zH} {vx : Option Nat} {vh : zH} (H : f_J2_appendNull p0 h = some (vx, vh)) : zMet G M_J2_appendNull 6 [vR p0] h (.inl (some (vR vx))) vh := by
  refine zMet.of (by decide +kernel) (Nat.le_of_ble_eq_true rfl) ?_
  show zW G M_J2_appendNull 6 h (.inl (some (vR vx))) vh 0 [(0, vR p0)] [] h
  unfold f_J2_appendNull at H
  refine zw_aload_n (pc := 0) dJ2_appendNull_0 rfl 0 rfl ?_
  refine zw_aload_n (pc := 1) dJ2_appendNull_1 rfl 0 rfl ?_
  obtain ⟨x1, e2, H⟩ := zbind H
  refine zy_getI (pc := 2) dJ2_appendNull_2 lf_J2_79 (fun _ _ => rfl) e2 ?_
  refine zw_iconst (pc := 5) (v := (4 : Int32)) dJ2_appendNull_5 (by decide) ?_
  refine zw_iadd (pc := 6) dJ2_appendNull_6 ?_
  obtain ⟨b3, e5, H⟩ := zbind H
  obtain ⟨e4, e6⟩ := zrv_ok e5
  obtain ⟨h8, e7, H⟩ := zbind H
  refine zw_invP (pc := 7) (M' := M_J2_ensureCapacityInternal) (A := [vI (x1 + (4 : Int32))]) [] dJ2_appendNull_7 q711 mf_J2_ensureCapacityInternal (by decide +kernel) q747 rfl (zkq e6 rfl) (w_J2_ensureCapacityInternal e7) (Nat.le_of_ble_eq_true rfl) rfl (by rw [← e4]; rfl) (Nat.le_of_ble_eq_true rfl) (zku ?_) zkn9
  refine zw_aload_n (pc := 10) dJ2_appendNull_10 rfl 0 rfl ?_
  obtain ⟨x9, e10, H⟩ := zbind H
  refine zy_getI (pc := 11) dJ2_appendNull_11 lf_J2_79 (fun _ _ => rfl) e10 ?_
  refine zw_istore_n (pc := 14) (lv' := [(1, vI x9), (0, vR p0)]) dJ2_appendNull_14 rfl (by decide) rfl ?_
  refine zw_aload_n (pc := 15) dJ2_appendNull_15 rfl 1 rfl ?_
  obtain ⟨x11, e12, H⟩ := zbind H
  refine zy_getR (pc := 16) dJ2_appendNull_16 lf_J2_15 (fun _ _ => rfl) e12 ?_
  refine zw_astore_n (pc := 19) (lv' := [(2, vR x11), (1, vI x9), (0, vR p0)]) dJ2_appendNull_19 rfl (by decide) rfl ?_
  refine zw_aload_n (pc := 20) dJ2_appendNull_20 rfl 2 rfl ?_
  obtain ⟨b13, e15, H⟩ := zbind H
  obtain ⟨e14, e16⟩ := zrv_ok e15
  obtain ⟨x18, e17, H⟩ := zbind H
  refine zw_invU (pc := 21) (M' := M_J2_isLatin1) (owner := "java/lang/AbstractStringBuilder") (C0 := "java/lang/StringBuilder") (A := []) [] dJ2_appendNull_21 q744 q746 (Or.inl ⟨M_J2_isLatin1, _, mf_J2_isLatin1, rfl⟩) (by decide +kernel) mf_J2_isLatin1 rfl q747 (zrecv (zkq e16 rfl)) (w_J2_isLatin1 e17) (Nat.le_of_ble_eq_true rfl) rfl (by rw [← e14]; rfl) (Nat.le_of_ble_eq_true rfl) (zkv ?_) zkn9
  rcases zif H with ⟨c19, H⟩ | ⟨c19, H⟩
  · refine zw_if_eq (pc := 24) (tgt := 62) dJ2_appendNull_24 rfl (fun _ => ?_) (fun q => absurd c19 q)
    refine zw_aload_n (pc := 62) dJ2_appendNull_62 rfl 0 rfl ?_
    refine zw_iload_n (pc := 63) dJ2_appendNull_63 rfl 1 rfl ?_
    refine zw_bipush (pc := 64) (v := (110 : Int32)) dJ2_appendNull_64 (by decide) ?_
    refine zw_bipush (pc := 66) (v := (117 : Int32)) dJ2_appendNull_66 (by decide) ?_
    refine zw_bipush (pc := 68) (v := (108 : Int32)) dJ2_appendNull_68 (by decide) ?_
    refine zw_bipush (pc := 70) (v := (108 : Int32)) dJ2_appendNull_70 (by decide) ?_
    cases H
  · refine zw_if_eq (pc := 24) (tgt := 62) dJ2_appendNull_24 rfl (fun q => absurd q c19) (fun _ => ?_)
    refine zw_aload_n (pc := 27) dJ2_appendNull_27 rfl 0 rfl ?_
    refine zw_iload_n (pc := 28) dJ2_appendNull_28 rfl 1 rfl ?_
    refine zw_iinc (pc := 29) (v := (x9 + (1 : Int32))) (lv' := [(1, vI (x9 + (1 : Int32))), (2, vR x11), (0, vR p0)]) dJ2_appendNull_29 1 rfl rfl (by decide) rfl ?_
    refine zw_bipush (pc := 32) (v := (110 : Int32)) dJ2_appendNull_32 (by decide) ?_
    obtain ⟨h20, e21, H⟩ := zbind H
    refine zy_bast (pc := 34) dJ2_appendNull_34 e21 ?_
    refine zw_aload_n (pc := 35) dJ2_appendNull_35 rfl 1 rfl ?_
    refine zw_iload_n (pc := 36) dJ2_appendNull_36 rfl 0 rfl ?_
    refine zw_iinc (pc := 37) (v := ((x9 + (1 : Int32)) + (1 : Int32))) (lv' := [(1, vI ((x9 + (1 : Int32)) + (1 : Int32))), (2, vR x11), (0, vR p0)]) dJ2_appendNull_37 0 rfl rfl (by decide) rfl ?_
    refine zw_bipush (pc := 40) (v := (117 : Int32)) dJ2_appendNull_40 (by decide) ?_
    obtain ⟨h22, e23, H⟩ := zbind H
    refine zy_bast (pc := 42) dJ2_appendNull_42 e23 ?_
    refine zw_aload_n (pc := 43) dJ2_appendNull_43 rfl 1 rfl ?_
    refine zw_iload_n (pc := 44) dJ2_appendNull_44 rfl 0 rfl ?_
    refine zw_iinc (pc := 45) (v := (((x9 + (1 : Int32)) + (1 : Int32)) + (1 : Int32))) (lv' := [(1, vI (((x9 + (1 : Int32)) + (1 : Int32)) + (1 : Int32))), (2, vR x11), (0, vR p0)]) dJ2_appendNull_45 0 rfl rfl (by decide) rfl ?_
    refine zw_bipush (pc := 48) (v := (108 : Int32)) dJ2_appendNull_48 (by decide) ?_
    obtain ⟨h24, e25, H⟩ := zbind H
    refine zy_bast (pc := 50) dJ2_appendNull_50 e25 ?_
    refine zw_aload_n (pc := 51) dJ2_appendNull_51 rfl 1 rfl ?_
    refine zw_iload_n (pc := 52) dJ2_appendNull_52 rfl 0 rfl ?_
    refine zw_iinc (pc := 53) (v := ((((x9 + (1 : Int32)) + (1 : Int32)) + (1 : Int32)) + (1 : Int32))) (lv' := [(1, vI ((((x9 + (1 : Int32)) + (1 : Int32)) + (1 : Int32)) + (1 : Int32))), (2, vR x11), (0, vR p0)]) dJ2_appendNull_53 0 rfl rfl (by decide) rfl ?_
    refine zw_bipush (pc := 56) (v := (108 : Int32)) dJ2_appendNull_56 (by decide) ?_
    obtain ⟨h26, e27, H⟩ := zbind H
    refine zy_bast (pc := 58) dJ2_appendNull_58 e27 ?_
    refine zw_goto (pc := 59) (tgt := 76) dJ2_appendNull_59 rfl ?_
    refine zw_aload_n (pc := 76) dJ2_appendNull_76 rfl 2 rfl ?_
    refine zw_iload_n (pc := 77) dJ2_appendNull_77 rfl 0 rfl ?_
    obtain ⟨h28, e29, H⟩ := zbind H
    refine zy_putI (pc := 78) dJ2_appendNull_78 lp_J2_79 rfl e29 ?_
    refine zw_aload_n (pc := 81) dJ2_appendNull_81 rfl 2 rfl ?_
    obtain ⟨rfl, rfl⟩ := Prod.mk.inj (Option.some.inj H)
    exact zw_aret (pc := 82) dJ2_appendNull_82 rfl (Or.inl ⟨_, rfl⟩) rfl rfl
theorem lf_J4_15 : zFl "java/lang/String" 15 19 1 := ⟨_, "java/lang/String", by decide, rfl, by decide, Or.inl q929, Or.inl rfl⟩
def M_J4_coder : zM := (yJ4_coder, cJ4_coder, 1, (.some .byte), [])
theorem mf_J4_coder : zMi M_J4_coder 0 := ⟨⟨q885, q187, ⟨by decide +kernel, by decide +kernel⟩, by decide +kernel, by decide⟩, q883⟩
def f_J4_coder (p0 : Option Nat) (h : zH) : Option Int32 :=
  if (1 : Int32) = 0 then
  if vp_nar .byte (1 : Int32) = (1 : Int32) then some (1 : Int32) else none
  else
  (zgI 19 1 p0 h).bind fun x3 =>
  if vp_nar .byte x3 = x3 then some x3 else none
theorem w_J4_coder {G : zG} {p0 : Option Nat} {h : zH} {vx : Int32} (H : f_J4_coder p0 h = some vx) : zMet G M_J4_coder 2 [vR p0] h (.inl (some (vI vx))) h := by
  refine zMet.of (by decide +kernel) (Nat.le_of_ble_eq_true rfl) ?_
  show zW G M_J4_coder 2 h (.inl (some (vI vx))) h 0 [(0, vR p0)] [] h
  unfold f_J4_coder at H
  refine zw_gets (pc := 0) 0 dJ4_coder_0 rfl q886 rfl (show zstv _ 0 = vI (1 : Int32) from rfl) ?_
  rcases zif H with ⟨c1, H⟩ | ⟨c1, H⟩
  · refine zw_if_eq (pc := 3) (tgt := 13) dJ4_coder_3 rfl (fun _ => ?_) (fun q => absurd c1 q)
    refine zw_iconst (pc := 13) (v := (1 : Int32)) dJ4_coder_13 (by decide) ?_
    obtain ⟨c2, H⟩ := zgd H
    obtain rfl := Option.some.inj H
    exact zw_zret (pc := 14) dJ4_coder_14 rfl (znarV c2) rfl rfl
  · refine zw_if_eq (pc := 3) (tgt := 13) dJ4_coder_3 rfl (fun q => absurd q c1) (fun _ => ?_)
    refine zw_aload_n (pc := 6) dJ4_coder_6 rfl 0 rfl ?_
    obtain ⟨x3, e4, H⟩ := zbind H
    refine zy_getI (pc := 7) dJ4_coder_7 lf_J4_15 (fun _ _ => rfl) e4 ?_
    refine zw_goto (pc := 10) (tgt := 14) dJ4_coder_10 rfl ?_
    obtain ⟨c5, H⟩ := zgd H
    obtain rfl := Option.some.inj H
    exact zw_zret (pc := 14) dJ4_coder_14 rfl (znarV c5) rfl rfl
def M_J2_inflateIfNeededFor : zM := (yJ2_inflateIfNeededFor, cJ2_inflateIfNeededFor, 2, none, [])
theorem mf_J2_inflateIfNeededFor : zMi M_J2_inflateIfNeededFor 1 := ⟨⟨q894, q185, ⟨by decide +kernel, by decide +kernel⟩, by decide +kernel, by decide⟩, q893⟩
def f_J2_inflateIfNeededFor (p0 : Option Nat) (p1 : Option Nat) (h : zH) : Option zH :=
  if (1 : Int32) = 0 then
  some h
  else
  (zgI 18 1 p0 h).bind fun x2 =>
  (zrv 19 p1 h).bind fun b4 =>
  (f_J4_coder (some b4) h).bind fun x9 =>
  if x2 = x9 then
  some h
  else
  (zrv 18 p0 h).bind fun b11 =>
  (f_J2_inflate (some b11) h).bind fun h16 =>
  some h16
theorem w_J2_inflateIfNeededFor {G : zG} {p0 : Option Nat} {p1 : Option Nat} {h : zH} {vh : zH} (H : f_J2_inflateIfNeededFor p0 p1 h = some vh) : zMet G M_J2_inflateIfNeededFor 4 [vR p0, vR p1] h (.inl none) vh := by
  refine zMet.of (by decide +kernel) (Nat.le_of_ble_eq_true rfl) ?_
  show zW G M_J2_inflateIfNeededFor 4 h (.inl none) vh 0 [(0, vR p0), (1, vR p1)] [] h
  unfold f_J2_inflateIfNeededFor at H
  refine zw_gets (pc := 0) 0 dJ2_inflateIfNeededFor_0 rfl q311 rfl (show zstv _ 0 = vI (1 : Int32) from rfl) ?_
  rcases zif H with ⟨c1, H⟩ | ⟨c1, H⟩
  · refine zw_if_eq (pc := 3) (tgt := 21) dJ2_inflateIfNeededFor_3 rfl (fun _ => ?_) (fun q => absurd c1 q)
    obtain rfl := Option.some.inj H
    exact zw_vret (pc := 21) dJ2_inflateIfNeededFor_21 rfl rfl rfl
  · refine zw_if_eq (pc := 3) (tgt := 21) dJ2_inflateIfNeededFor_3 rfl (fun q => absurd q c1) (fun _ => ?_)
    refine zw_aload_n (pc := 6) dJ2_inflateIfNeededFor_6 rfl 0 rfl ?_
    obtain ⟨x2, e3, H⟩ := zbind H
    refine zy_getI (pc := 7) dJ2_inflateIfNeededFor_7 lf_J2_22 (fun _ _ => rfl) e3 ?_
    refine zw_aload_n (pc := 10) dJ2_inflateIfNeededFor_10 rfl 1 rfl ?_
    obtain ⟨b4, e6, H⟩ := zbind H
    obtain ⟨e5, e7⟩ := zrv_ok e6
    obtain ⟨x9, e8, H⟩ := zbind H
    refine zw_invV (pc := 11) (M' := M_J4_coder) (A := []) [vI x2] dJ2_inflateIfNeededFor_11 (Or.inl q895) mf_J4_coder q884 (zkq e7 rfl) (w_J4_coder e8) (Nat.le_of_ble_eq_true rfl) rfl (by rw [← e5]; rfl) (Nat.le_of_ble_eq_true rfl) (zkv ?_) zkn9
    rcases zif H with ⟨c10, H⟩ | ⟨c10, H⟩
    · refine zw_icmp_eq (pc := 14) (tgt := 21) dJ2_inflateIfNeededFor_14 rfl (fun _ => ?_) (fun q => absurd c10 q)
      obtain rfl := Option.some.inj H
      exact zw_vret (pc := 21) dJ2_inflateIfNeededFor_21 rfl rfl rfl
    · refine zw_icmp_eq (pc := 14) (tgt := 21) dJ2_inflateIfNeededFor_14 rfl (fun q => absurd q c10) (fun _ => ?_)
      refine zw_aload_n (pc := 17) dJ2_inflateIfNeededFor_17 rfl 0 rfl ?_
      obtain ⟨b11, e13, H⟩ := zbind H
      obtain ⟨e12, e14⟩ := zrv_ok e13
      obtain ⟨h16, e15, H⟩ := zbind H
      refine zw_invP (pc := 18) (M' := M_J2_inflate) (A := []) [] dJ2_inflateIfNeededFor_18 q752 mf_J2_inflate (by decide +kernel) q747 rfl (zkq e14 rfl) (w_J2_inflate e15) (Nat.le_of_ble_eq_true rfl) rfl (by rw [← e12]; rfl) (Nat.le_of_ble_eq_true rfl) (zku ?_) zkn9
      obtain rfl := Option.some.inj H
      exact zw_vret (pc := 21) dJ2_inflateIfNeededFor_21 rfl rfl rfl
theorem lf_J4_9 : zFl "java/lang/String" 9 19 0 := ⟨_, "java/lang/String", by decide, rfl, by decide, Or.inl q928, Or.inl rfl⟩
def M_J4_getBytes : zM := (yJ4_getBytes, cJ4_getBytes, 4, none, [])
theorem mf_J4_getBytes : zMi M_J4_getBytes 3 := ⟨⟨q899, q187, ⟨by decide +kernel, by decide +kernel⟩, by decide +kernel, by decide⟩, q897⟩
def f_J4_getBytes (p0 : Option Nat) (p1 : Option Nat) (p2 : Int32) (p3 : Int32) (h : zH) : Option zH :=
  (zrv 19 p0 h).bind fun b1 =>
  (f_J4_coder (some b1) h).bind fun x6 =>
  if x6 = p3 then
  (zgR 19 0 p0 h).bind fun x16 =>
  (zgR 19 0 p0 h).bind fun x18 =>
  (zaN x18 h).bind fun x20 =>
  (zcpI 53 x16 (0 : Int32) p1 (p2 <<< (p3 &&& 31)) x20 h).bind fun h22 =>
  some h22
  else
  (zgR 19 0 p0 h).bind fun x8 =>
  (zgR 19 0 p0 h).bind fun x10 =>
  (zaN x10 h).bind fun x12 =>
  (f_J14_inflate x8 (0 : Int32) p1 p2 x12 h).bind fun _ =>
  some h
theorem w_J4_getBytes {G : zG} {p0 : Option Nat} {p1 : Option Nat} {p2 : Int32} {p3 : Int32} {h : zH} {vh : zH} (H : f_J4_getBytes p0 p1 p2 p3 h = some vh) : zMet G M_J4_getBytes 3 [vR p0, vR p1, vI p2, vI p3] h (.inl none) vh := by
  refine zMet.of (by decide +kernel) (Nat.le_of_ble_eq_true rfl) ?_
  show zW G M_J4_getBytes 3 h (.inl none) vh 0 [(0, vR p0), (1, vR p1), (2, vI p2), (3, vI p3)] [] h
  unfold f_J4_getBytes at H
  refine zw_aload_n (pc := 0) dJ4_getBytes_0 rfl 0 rfl ?_
  obtain ⟨b1, e3, H⟩ := zbind H
  obtain ⟨e2, e4⟩ := zrv_ok e3
  obtain ⟨x6, e5, H⟩ := zbind H
  refine zw_invV (pc := 1) (M' := M_J4_coder) (A := []) [] dJ4_getBytes_1 (Or.inl q882) mf_J4_coder q884 (zkq e4 rfl) (w_J4_coder e5) (Nat.le_of_ble_eq_true rfl) rfl (by rw [← e2]; rfl) (Nat.le_of_ble_eq_true rfl) (zkv ?_) zkn9
  refine zw_iload_n (pc := 4) dJ4_getBytes_4 rfl 3 rfl ?_
  rcases zif H with ⟨c7, H⟩ | ⟨c7, H⟩
  · refine zw_icmp_ne (pc := 5) (tgt := 28) dJ4_getBytes_5 rfl (fun q => absurd c7 q) (fun _ => ?_)
    refine zw_aload_n (pc := 8) dJ4_getBytes_8 rfl 0 rfl ?_
    obtain ⟨x16, e17, H⟩ := zbind H
    refine zy_getR (pc := 9) dJ4_getBytes_9 lf_J4_9 (fun _ _ => rfl) e17 ?_
    refine zw_iconst (pc := 12) (v := (0 : Int32)) dJ4_getBytes_12 (by decide) ?_
    refine zw_aload_n (pc := 13) dJ4_getBytes_13 rfl 1 rfl ?_
    refine zw_iload_n (pc := 14) dJ4_getBytes_14 rfl 2 rfl ?_
    refine zw_iload_n (pc := 15) dJ4_getBytes_15 rfl 3 rfl ?_
    refine zw_ishl (pc := 16) dJ4_getBytes_16 ?_
    refine zw_aload_n (pc := 17) dJ4_getBytes_17 rfl 0 rfl ?_
    obtain ⟨x18, e19, H⟩ := zbind H
    refine zy_getR (pc := 18) dJ4_getBytes_18 lf_J4_9 (fun _ _ => rfl) e19 ?_
    obtain ⟨x20, e21, H⟩ := zbind H
    refine zy_alen (pc := 21) dJ4_getBytes_21 e21 ?_
    obtain ⟨h22, e23, H⟩ := zbind H
    refine zy_copyI (pc := 22) dJ4_getBytes_22 q900 (Nat.le_of_ble_eq_true rfl) (by decide) e23 (Nat.le_of_ble_eq_true rfl) ?_
    refine zw_goto (pc := 25) (tgt := 43) dJ4_getBytes_25 rfl ?_
    obtain rfl := Option.some.inj H
    exact zw_vret (pc := 43) dJ4_getBytes_43 rfl rfl rfl
  · refine zw_icmp_ne (pc := 5) (tgt := 28) dJ4_getBytes_5 rfl (fun _ => ?_) (fun q => absurd q c7)
    refine zw_aload_n (pc := 28) dJ4_getBytes_28 rfl 0 rfl ?_
    obtain ⟨x8, e9, H⟩ := zbind H
    refine zy_getR (pc := 29) dJ4_getBytes_29 lf_J4_9 (fun _ _ => rfl) e9 ?_
    refine zw_iconst (pc := 32) (v := (0 : Int32)) dJ4_getBytes_32 (by decide) ?_
    refine zw_aload_n (pc := 33) dJ4_getBytes_33 rfl 1 rfl ?_
    refine zw_iload_n (pc := 34) dJ4_getBytes_34 rfl 2 rfl ?_
    refine zw_aload_n (pc := 35) dJ4_getBytes_35 rfl 0 rfl ?_
    obtain ⟨x10, e11, H⟩ := zbind H
    refine zy_getR (pc := 36) dJ4_getBytes_36 lf_J4_9 (fun _ _ => rfl) e11 ?_
    obtain ⟨x12, e13, H⟩ := zbind H
    refine zy_alen (pc := 39) dJ4_getBytes_39 e13 ?_
    obtain ⟨x15, e14, H⟩ := zbind H
    refine zw_invS (pc := 40) (M' := M_J14_inflate) (A := [vR x8, vI (0 : Int32), vR p1, vI p2, vI x12]) [] dJ4_getBytes_40 (Or.inl q901) mf_J14_inflate (w_J14_inflate e14) (Nat.le_of_ble_eq_true rfl) rfl rfl (Nat.le_of_ble_eq_true rfl) (zku ?_) zkn9
    obtain rfl := Option.some.inj H
    exact zw_vret (pc := 43) dJ4_getBytes_43 rfl rfl rfl
def M_J2_putStringAt : zM := (yJ2_putStringAt, cJ2_putStringAt, 3, none, [])
theorem mf_J2_putStringAt : zMi M_J2_putStringAt 2 := ⟨⟨q890, q185, ⟨by decide +kernel, by decide +kernel⟩, by decide +kernel, by decide⟩, q889⟩
def f_J2_putStringAt (p0 : Option Nat) (p1 : Int32) (p2 : Option Nat) (h : zH) : Option zH :=
  (zrv 18 p0 h).bind fun b1 =>
  (f_J2_inflateIfNeededFor (some b1) p2 h).bind fun h6 =>
  (zgR 18 0 p0 h6).bind fun x7 =>
  (zgI 18 1 p0 h6).bind fun x9 =>
  (zrv 19 p2 h6).bind fun b11 =>
  (f_J4_getBytes (some b11) x7 p1 x9 h6).bind fun h16 =>
  some h16
theorem w_J2_putStringAt {G : zG} {p0 : Option Nat} {p1 : Int32} {p2 : Option Nat} {h : zH} {vh : zH} (H : f_J2_putStringAt p0 p1 p2 h = some vh) : zMet G M_J2_putStringAt 5 [vR p0, vI p1, vR p2] h (.inl none) vh := by
  refine zMet.of (by decide +kernel) (Nat.le_of_ble_eq_true rfl) ?_
  show zW G M_J2_putStringAt 5 h (.inl none) vh 0 [(0, vR p0), (1, vI p1), (2, vR p2)] [] h
  unfold f_J2_putStringAt at H
  refine zw_aload_n (pc := 0) dJ2_putStringAt_0 rfl 0 rfl ?_
  refine zw_aload_n (pc := 1) dJ2_putStringAt_1 rfl 2 rfl ?_
  obtain ⟨b1, e3, H⟩ := zbind H
  obtain ⟨e2, e4⟩ := zrv_ok e3
  obtain ⟨h6, e5, H⟩ := zbind H
  refine zw_invP (pc := 2) (M' := M_J2_inflateIfNeededFor) (A := [vR p2]) [] dJ2_putStringAt_2 q891 mf_J2_inflateIfNeededFor (by decide +kernel) q747 rfl (zkq e4 rfl) (w_J2_inflateIfNeededFor e5) (Nat.le_of_ble_eq_true rfl) rfl (by rw [← e2]; rfl) (Nat.le_of_ble_eq_true rfl) (zku ?_) zkn9
  refine zw_aload_n (pc := 5) dJ2_putStringAt_5 rfl 2 rfl ?_
  refine zw_aload_n (pc := 6) dJ2_putStringAt_6 rfl 0 rfl ?_
  obtain ⟨x7, e8, H⟩ := zbind H
  refine zy_getR (pc := 7) dJ2_putStringAt_7 lf_J2_15 (fun _ _ => rfl) e8 ?_
  refine zw_iload_n (pc := 10) dJ2_putStringAt_10 rfl 1 rfl ?_
  refine zw_aload_n (pc := 11) dJ2_putStringAt_11 rfl 0 rfl ?_
  obtain ⟨x9, e10, H⟩ := zbind H
  refine zy_getI (pc := 12) dJ2_putStringAt_12 lf_J2_22 (fun _ _ => rfl) e10 ?_
  obtain ⟨b11, e13, H⟩ := zbind H
  obtain ⟨e12, e14⟩ := zrv_ok e13
  obtain ⟨h16, e15, H⟩ := zbind H
  refine zw_invV (pc := 15) (M' := M_J4_getBytes) (A := [vR x7, vI p1, vI x9]) [] dJ2_putStringAt_15 (Or.inl q896) mf_J4_getBytes q898 (zkq e14 rfl) (w_J4_getBytes e15) (Nat.le_of_ble_eq_true rfl) rfl (by rw [← e12]; rfl) (Nat.le_of_ble_eq_true rfl) (zku ?_) zkn9
  obtain rfl := Option.some.inj H
  exact zw_vret (pc := 18) dJ2_putStringAt_18 rfl rfl rfl
def M_J4_length : zM := (yJ4_length, cJ4_length, 1, (.some .int), [])
theorem mf_J4_length : zMi M_J4_length 0 := ⟨⟨q881, q187, ⟨by decide +kernel, by decide +kernel⟩, by decide +kernel, by decide⟩, q879⟩
def f_J4_length (p0 : Option Nat) (h : zH) : Option Int32 :=
  (zgR 19 0 p0 h).bind fun x1 =>
  (zaN x1 h).bind fun x3 =>
  (zrv 19 p0 h).bind fun b5 =>
  (f_J4_coder (some b5) h).bind fun x10 =>
  some (x3 >>> (x10 &&& 31))
theorem w_J4_length {G : zG} {p0 : Option Nat} {h : zH} {vx : Int32} (H : f_J4_length p0 h = some vx) : zMet G M_J4_length 3 [vR p0] h (.inl (some (vI vx))) h := by
  refine zMet.of (by decide +kernel) (Nat.le_of_ble_eq_true rfl) ?_
  show zW G M_J4_length 3 h (.inl (some (vI vx))) h 0 [(0, vR p0)] [] h
  unfold f_J4_length at H
  refine zw_aload_n (pc := 0) dJ4_length_0 rfl 0 rfl ?_
  obtain ⟨x1, e2, H⟩ := zbind H
  refine zy_getR (pc := 1) dJ4_length_1 lf_J4_9 (fun _ _ => rfl) e2 ?_
  obtain ⟨x3, e4, H⟩ := zbind H
  refine zy_alen (pc := 4) dJ4_length_4 e4 ?_
  refine zw_aload_n (pc := 5) dJ4_length_5 rfl 0 rfl ?_
  obtain ⟨b5, e7, H⟩ := zbind H
  obtain ⟨e6, e8⟩ := zrv_ok e7
  obtain ⟨x10, e9, H⟩ := zbind H
  refine zw_invV (pc := 6) (M' := M_J4_coder) (A := []) [vI x3] dJ4_length_6 (Or.inl q882) mf_J4_coder q884 (zkq e8 rfl) (w_J4_coder e9) (Nat.le_of_ble_eq_true rfl) rfl (by rw [← e6]; rfl) (Nat.le_of_ble_eq_true rfl) (zkv ?_) zkn9
  refine zw_ishr (pc := 9) dJ4_length_9 ?_
  obtain rfl := Option.some.inj H
  exact zw_iret (pc := 10) dJ4_length_10 rfl rfl rfl
def M_J2_append_3 : zM := (yJ2_append_3, cJ2_append_3, 3, (.some (.object "java/lang/AbstractStringBuilder")), [])
theorem mf_J2_append_3 : zMi M_J2_append_3 1 := ⟨⟨q870, q185, ⟨by decide +kernel, by decide +kernel⟩, by decide +kernel, by decide⟩, q869⟩
def f_J2_append_3 (p0 : Option Nat) (p1 : Option Nat) (h : zH) : Option (Option Nat × zH) :=
  if p1 = none then
  (zrv 18 p0 h).bind fun b28 =>
  zb2 (f_J2_appendNull (some b28) h) fun x34 h33 =>
  some (x34, h33)
  else
  (zrv 19 p1 h).bind fun b2 =>
  (f_J4_length (some b2) h).bind fun x7 =>
  (zgI 18 3 p0 h).bind fun x8 =>
  (zrv 18 p0 h).bind fun b10 =>
  (f_J2_ensureCapacityInternal (some b10) (x8 + x7) h).bind fun h15 =>
  (zgI 18 3 p0 h15).bind fun x16 =>
  (zrv 18 p0 h15).bind fun b18 =>
  (f_J2_putStringAt (some b18) x16 p1 h15).bind fun h23 =>
  (zgI 18 3 p0 h23).bind fun x24 =>
  (zpI 18 3 p0 (x24 + x7) h23).bind fun h26 =>
  some (p0, h26)
theorem w_J2_append_3 {G : zG} {p0 : Option Nat} {p1 : Option Nat} {h : zH} {vx : Option Nat} {vh : zH} (H : f_J2_append_3 p0 p1 h = some (vx, vh)) : zMet G M_J2_append_3 7 [vR p0, vR p1] h (.inl (some (vR vx))) vh := by
  refine zMet.of (by decide +kernel) (Nat.le_of_ble_eq_true rfl) ?_
  show zW G M_J2_append_3 7 h (.inl (some (vR vx))) vh 0 [(0, vR p0), (1, vR p1)] [] h
  unfold f_J2_append_3 at H
  refine zw_aload_n (pc := 0) dJ2_append_3_0 rfl 1 rfl ?_
  rcases zif H with ⟨c1, H⟩ | ⟨c1, H⟩
  · refine zw_ifnonnull (pc := 1) (tgt := 9) dJ2_append_3_1 rfl (fun q => absurd c1 q) (fun _ => ?_)
    refine zw_aload_n (pc := 4) dJ2_append_3_4 rfl 0 rfl ?_
    obtain ⟨b28, e30, H⟩ := zbind H
    obtain ⟨e29, e31⟩ := zrv_ok e30
    obtain ⟨x34, h33, e32, H⟩ := zbind2 H
    refine zw_invP (pc := 5) (M' := M_J2_appendNull) (A := []) [] dJ2_append_3_5 q871 mf_J2_appendNull (by decide +kernel) q747 rfl (zkq e31 rfl) (w_J2_appendNull e32) (Nat.le_of_ble_eq_true rfl) rfl (by rw [← e29]; rfl) (Nat.le_of_ble_eq_true rfl) (zkv ?_) zkn9
    obtain ⟨rfl, rfl⟩ := Prod.mk.inj (Option.some.inj H)
    exact zw_aret (pc := 8) dJ2_append_3_8 rfl (Or.inl ⟨_, rfl⟩) rfl rfl
  · refine zw_ifnonnull (pc := 1) (tgt := 9) dJ2_append_3_1 rfl (fun _ => ?_) (fun q => absurd q c1)
    refine zw_aload_n (pc := 9) dJ2_append_3_9 rfl 1 rfl ?_
    obtain ⟨b2, e4, H⟩ := zbind H
    obtain ⟨e3, e5⟩ := zrv_ok e4
    obtain ⟨x7, e6, H⟩ := zbind H
    refine zw_invV (pc := 10) (M' := M_J4_length) (A := []) [] dJ2_append_3_10 (Or.inl q878) mf_J4_length q880 (zkq e5 rfl) (w_J4_length e6) (Nat.le_of_ble_eq_true rfl) rfl (by rw [← e3]; rfl) (Nat.le_of_ble_eq_true rfl) (zkv ?_) zkn9
    refine zw_istore_n (pc := 13) (lv' := [(2, vI x7), (0, vR p0), (1, vR p1)]) dJ2_append_3_13 rfl (by decide) rfl ?_
    refine zw_aload_n (pc := 14) dJ2_append_3_14 rfl 1 rfl ?_
    refine zw_aload_n (pc := 15) dJ2_append_3_15 rfl 1 rfl ?_
    obtain ⟨x8, e9, H⟩ := zbind H
    refine zy_getI (pc := 16) dJ2_append_3_16 lf_J2_79 (fun _ _ => rfl) e9 ?_
    refine zw_iload_n (pc := 19) dJ2_append_3_19 rfl 0 rfl ?_
    refine zw_iadd (pc := 20) dJ2_append_3_20 ?_
    obtain ⟨b10, e12, H⟩ := zbind H
    obtain ⟨e11, e13⟩ := zrv_ok e12
    obtain ⟨h15, e14, H⟩ := zbind H
    refine zw_invP (pc := 21) (M' := M_J2_ensureCapacityInternal) (A := [vI (x8 + x7)]) [] dJ2_append_3_21 q711 mf_J2_ensureCapacityInternal (by decide +kernel) q747 rfl (zkq e13 rfl) (w_J2_ensureCapacityInternal e14) (Nat.le_of_ble_eq_true rfl) rfl (by rw [← e11]; rfl) (Nat.le_of_ble_eq_true rfl) (zku ?_) zkn9
    refine zw_aload_n (pc := 24) dJ2_append_3_24 rfl 1 rfl ?_
    refine zw_aload_n (pc := 25) dJ2_append_3_25 rfl 1 rfl ?_
    obtain ⟨x16, e17, H⟩ := zbind H
    refine zy_getI (pc := 26) dJ2_append_3_26 lf_J2_79 (fun _ _ => rfl) e17 ?_
    refine zw_aload_n (pc := 29) dJ2_append_3_29 rfl 2 rfl ?_
    obtain ⟨b18, e20, H⟩ := zbind H
    obtain ⟨e19, e21⟩ := zrv_ok e20
    obtain ⟨h23, e22, H⟩ := zbind H
    refine zw_invP (pc := 30) (M' := M_J2_putStringAt) (A := [vI x16, vR p1]) [] dJ2_append_3_30 q887 mf_J2_putStringAt (by decide +kernel) q747 rfl (zkq e21 rfl) (w_J2_putStringAt e22) (Nat.le_of_ble_eq_true rfl) rfl (by rw [← e19]; rfl) (Nat.le_of_ble_eq_true rfl) (zku ?_) zkn9
    refine zw_aload_n (pc := 33) dJ2_append_3_33 rfl 1 rfl ?_
    refine zw_dup (pc := 34) dJ2_append_3_34 rfl ?_
    obtain ⟨x24, e25, H⟩ := zbind H
    refine zy_getI (pc := 35) dJ2_append_3_35 lf_J2_79 (fun _ _ => rfl) e25 ?_
    refine zw_iload_n (pc := 38) dJ2_append_3_38 rfl 0 rfl ?_
    refine zw_iadd (pc := 39) dJ2_append_3_39 ?_
    obtain ⟨h26, e27, H⟩ := zbind H
    refine zy_putI (pc := 40) dJ2_append_3_40 lp_J2_79 rfl e27 ?_
    refine zw_aload_n (pc := 43) dJ2_append_3_43 rfl 1 rfl ?_
    obtain ⟨rfl, rfl⟩ := Prod.mk.inj (Option.some.inj H)
    exact zw_aret (pc := 44) dJ2_append_3_44 rfl (Or.inl ⟨_, rfl⟩) rfl rfl
def M_J3_append_3 : zM := (yJ3_append_3, cJ3_append_3, 2, (.some (.object "java/lang/StringBuilder")), [])
theorem mf_J3_append_3 : zMi M_J3_append_3 1 := ⟨⟨q867, q186, ⟨by decide +kernel, by decide +kernel⟩, by decide +kernel, by decide⟩, q865⟩
def f_J3_append_3 (p0 : Option Nat) (p1 : Option Nat) (h : zH) : Option (Option Nat × zH) :=
  (zrv 18 p0 h).bind fun b1 =>
  zb2 (f_J2_append_3 (some b1) p1 h) fun x7 h6 =>
  some (p0, h6)
theorem w_J3_append_3 {G : zG} {p0 : Option Nat} {p1 : Option Nat} {h : zH} {vx : Option Nat} {vh : zH} (H : f_J3_append_3 p0 p1 h = some (vx, vh)) : zMet G M_J3_append_3 8 [vR p0, vR p1] h (.inl (some (vR vx))) vh := by
  refine zMet.of (by decide +kernel) (Nat.le_of_ble_eq_true rfl) ?_
  show zW G M_J3_append_3 8 h (.inl (some (vR vx))) vh 0 [(0, vR p0), (1, vR p1)] [] h
  unfold f_J3_append_3 at H
  refine zw_aload_n (pc := 0) dJ3_append_3_0 rfl 0 rfl ?_
  refine zw_aload_n (pc := 1) dJ3_append_3_1 rfl 1 rfl ?_
  obtain ⟨b1, e4, H⟩ := zbind H
  obtain ⟨e2, e5⟩ := zrv_ok e4
  obtain ⟨x7, h6, e3, H⟩ := zbind2 H
  refine zw_invSU (pc := 2) (M' := M_J2_append_3) (A := [vR p1]) [] dJ3_append_3_2 q868 q3026 q333 mf_J2_append_3 (by decide) (zkq e5 rfl) (w_J2_append_3 e3) (Nat.le_of_ble_eq_true rfl) rfl (by rw [← e2]; rfl) (Nat.le_of_ble_eq_true rfl) (zkv ?_) zkn9
  refine zw_pop (pc := 5) dJ3_append_3_5 rfl ?_
  refine zw_aload_n (pc := 6) dJ3_append_3_6 rfl 0 rfl ?_
  obtain ⟨rfl, rfl⟩ := Prod.mk.inj (Option.some.inj H)
  exact zw_aret (pc := 7) dJ3_append_3_7 rfl (Or.inl ⟨_, rfl⟩) rfl rfl
def M_J13_rangeCheck : zM := (yJ13_rangeCheck, cJ13_rangeCheck, 3, none, [])
theorem mf_J13_rangeCheck : zMs M_J13_rangeCheck 3 := ⟨⟨q2106, q198, ⟨by decide +kernel, by decide +kernel⟩, by decide +kernel, by decide⟩, q2105⟩
def f_J13_rangeCheck (p0 : Int32) (p1 : Int32) (p2 : Int32) (h : zH) : Option zH :=
  if p1 ≤ p2 then
  if 0 ≤ p1 then
  if p2 ≤ p0 then
  some h
  else
  none
  else
  none
  else
  none
theorem w_J13_rangeCheck {G : zG} {p0 : Int32} {p1 : Int32} {p2 : Int32} {h : zH} {vh : zH} (H : f_J13_rangeCheck p0 p1 p2 h = some vh) : zMet G M_J13_rangeCheck 5 [vI p0, vI p1, vI p2] h (.inl none) vh := by
  refine zMet.of (by decide +kernel) (Nat.le_of_ble_eq_true rfl) ?_
  show zW G M_J13_rangeCheck 5 h (.inl none) vh 0 [(0, vI p0), (1, vI p1), (2, vI p2)] [] h
  unfold f_J13_rangeCheck at H
  refine zw_iload_n (pc := 0) dJ13_rangeCheck_0 rfl 1 rfl ?_
  refine zw_iload_n (pc := 1) dJ13_rangeCheck_1 rfl 2 rfl ?_
  rcases zif H with ⟨c1, H⟩ | ⟨c1, H⟩
  · refine zw_icmp_le (pc := 2) (tgt := 46) dJ13_rangeCheck_2 rfl (fun _ => ?_) (fun q => absurd c1 q)
    refine zw_iload_n (pc := 46) dJ13_rangeCheck_46 rfl 1 rfl ?_
    rcases zif H with ⟨c2, H⟩ | ⟨c2, H⟩
    · refine zw_if_ge (pc := 47) (tgt := 59) dJ13_rangeCheck_47 rfl (fun _ => ?_) (fun q => absurd c2 q)
      refine zw_iload_n (pc := 59) dJ13_rangeCheck_59 rfl 2 rfl ?_
      refine zw_iload_n (pc := 60) dJ13_rangeCheck_60 rfl 0 rfl ?_
      rcases zif H with ⟨c3, H⟩ | ⟨c3, H⟩
      · refine zw_icmp_le (pc := 61) (tgt := 73) dJ13_rangeCheck_61 rfl (fun _ => ?_) (fun q => absurd c3 q)
        obtain rfl := Option.some.inj H
        exact zw_vret (pc := 73) dJ13_rangeCheck_73 rfl rfl rfl
      · refine zw_icmp_le (pc := 61) (tgt := 73) dJ13_rangeCheck_61 rfl (fun q => absurd q c3) (fun _ => ?_)
        cases H
    · refine zw_if_ge (pc := 47) (tgt := 59) dJ13_rangeCheck_47 rfl (fun q => absurd q c2) (fun _ => ?_)
      cases H
  · refine zw_icmp_le (pc := 2) (tgt := 46) dJ13_rangeCheck_2 rfl (fun q => absurd q c1) (fun _ => ?_)
    cases H
def M_J13_fill : zM := (yJ13_fill, cJ13_fill, 5, none, [])
theorem mf_J13_fill : zMs M_J13_fill 4 := ⟨⟨q2103, q198, ⟨by decide +kernel, by decide +kernel⟩, by decide +kernel, by decide⟩, q2102⟩
def B_J13_fill_10 (k10 : Option Nat → Int32 → Int32 → Int32 → zH → Option zH) (a0 : Option Nat) (a1 : Int32) (a2 : Int32) (a3 : Int32) (h : zH) : Option zH :=
  if a1 ≤ a3 then
  some h
  else
  (zsB a0 a3 a2 h).bind fun h2 =>
  k10 a0 a1 a2 (a3 + (1 : Int32)) h2
theorem wB_J13_fill_10 {G : zG} {h0 h : zH} {vh : zH} {k10 : Option Nat → Int32 → Int32 → Int32 → zH → Option zH} (hk10 : ∀ (b0 : Option Nat) (b1 : Int32) (b2 : Int32) (b3 : Int32) (h' : zH), k10 b0 b1 b2 b3 h' = some vh → zW G M_J13_fill 6 h0 (.inl none) vh 10 [(0, vR b0), (2, vI b1), (3, vI b2), (4, vI b3)] [] h') {a0 : Option Nat} {a1 : Int32} {a2 : Int32} {a3 : Int32} (H : B_J13_fill_10 k10 a0 a1 a2 a3 h = some vh) : zW G M_J13_fill 6 h0 (.inl none) vh 10 [(0, vR a0), (2, vI a1), (3, vI a2), (4, vI a3)] [] h := by
  unfold B_J13_fill_10 at H
  refine zw_iload (pc := 10) dJ13_fill_10 3 rfl ?_
  refine zw_iload_n (pc := 12) dJ13_fill_12 rfl 1 rfl ?_
  rcases zif H with ⟨c1, H⟩ | ⟨c1, H⟩
  · refine zw_icmp_ge (pc := 13) (tgt := 27) dJ13_fill_13 rfl (fun _ => ?_) (fun q => absurd c1 q)
    obtain rfl := Option.some.inj H
    exact zw_vret (pc := 27) dJ13_fill_27 rfl rfl rfl
  · refine zw_icmp_ge (pc := 13) (tgt := 27) dJ13_fill_13 rfl (fun q => absurd q c1) (fun _ => ?_)
    refine zw_aload_n (pc := 16) dJ13_fill_16 rfl 0 rfl ?_
    refine zw_iload (pc := 17) dJ13_fill_17 3 rfl ?_
    refine zw_iload_n (pc := 19) dJ13_fill_19 rfl 2 rfl ?_
    obtain ⟨h2, e3, H⟩ := zbind H
    refine zy_bast (pc := 20) dJ13_fill_20 e3 ?_
    refine zw_iinc (pc := 21) (v := (a3 + (1 : Int32))) (lv' := [(4, vI (a3 + (1 : Int32))), (0, vR a0), (2, vI a1), (3, vI a2)]) dJ13_fill_21 3 rfl rfl (by decide) rfl ?_
    refine zw_goto (pc := 24) (tgt := 10) dJ13_fill_24 rfl ?_
    refine zW_pick (lv' := [(0, vR a0), (2, vI a1), (3, vI a2), (4, vI (a3 + (1 : Int32)))]) [1, 2, 3, 0] rfl ?_
    exact hk10 _ _ _ _ _ H
def f_J13_fill (p0 : Option Nat) (p1 : Int32) (p2 : Int32) (p3 : Int32) (h : zH) : Option zH :=
  (zaN p0 h).bind fun x1 =>
  (f_J13_rangeCheck x1 p1 p2 h).bind fun h4 =>
  zloop (B_J13_fill_10) (fun _ _ _ _ _ => none) zFU p0 p2 p3 p1 h4
theorem w_J13_fill {G : zG} {p0 : Option Nat} {p1 : Int32} {p2 : Int32} {p3 : Int32} {h : zH} {vh : zH} (H : f_J13_fill p0 p1 p2 p3 h = some vh) : zMet G M_J13_fill 6 [vR p0, vI p1, vI p2, vI p3] h (.inl none) vh := by
  refine zMet.of (by decide +kernel) (Nat.le_of_ble_eq_true rfl) ?_
  show zW G M_J13_fill 6 h (.inl none) vh 0 [(0, vR p0), (1, vI p1), (2, vI p2), (3, vI p3)] [] h
  unfold f_J13_fill at H
  refine zw_aload_n (pc := 0) dJ13_fill_0 rfl 0 rfl ?_
  obtain ⟨x1, e2, H⟩ := zbind H
  refine zy_alen (pc := 1) dJ13_fill_1 e2 ?_
  refine zw_iload_n (pc := 2) dJ13_fill_2 rfl 1 rfl ?_
  refine zw_iload_n (pc := 3) dJ13_fill_3 rfl 2 rfl ?_
  obtain ⟨h4, e3, H⟩ := zbind H
  refine zw_invS (pc := 4) (M' := M_J13_rangeCheck) (A := [vI x1, vI p1, vI p2]) [] dJ13_fill_4 (Or.inl q2104) mf_J13_rangeCheck (w_J13_rangeCheck e3) (Nat.le_of_ble_eq_true rfl) rfl rfl (Nat.le_of_ble_eq_true rfl) (zku ?_) zkn9
  refine zw_iload_n (pc := 7) dJ13_fill_7 rfl 1 rfl ?_
  refine zw_istore (pc := 8) (lv' := [(4, vI p1), (0, vR p0), (1, vI p1), (2, vI p2), (3, vI p3)]) dJ13_fill_8 (by decide) rfl ?_
  refine zW_pick (lv' := [(0, vR p0), (2, vI p2), (3, vI p3), (4, vI p1)]) [1, 3, 4, 0] rfl ?_
  exact zloop_ind (body := (B_J13_fill_10)) (bot := (fun _ _ _ _ _ => none)) (P := (fun (f : Option Nat → Int32 → Int32 → Int32 → zH → Option zH) => ∀ (b0 : Option Nat) (b1 : Int32) (b2 : Int32) (b3 : Int32) (h' : zH), f b0 b1 b2 b3 h' = some vh → zW G M_J13_fill 6 h (.inl none) vh 10 [(0, vR b0), (2, vI b1), (3, vI b2), (4, vI b3)] [] h')) zFU (fun _ _ _ _ _ H => nomatch H) (fun f hf c0 c1 c2 c3 h' H => wB_J13_fill_10 hf H) _ _ _ _ _ H
def M_J14_fillNull : zM := (yJ14_fillNull, cJ14_fillNull, 3, none, [])
theorem mf_J14_fillNull : zMs M_J14_fillNull 3 := ⟨⟨q2100, q200, ⟨by decide +kernel, by decide +kernel⟩, by decide +kernel, by decide⟩, q2099⟩
def f_J14_fillNull (p0 : Option Nat) (p1 : Int32) (p2 : Int32) (h : zH) : Option zH :=
  (f_J13_fill p0 p1 p2 (0 : Int32) h).bind fun h2 =>
  some h2
theorem w_J14_fillNull {G : zG} {p0 : Option Nat} {p1 : Int32} {p2 : Int32} {h : zH} {vh : zH} (H : f_J14_fillNull p0 p1 p2 h = some vh) : zMet G M_J14_fillNull 7 [vR p0, vI p1, vI p2] h (.inl none) vh := by
  refine zMet.of (by decide +kernel) (Nat.le_of_ble_eq_true rfl) ?_
  show zW G M_J14_fillNull 7 h (.inl none) vh 0 [(0, vR p0), (1, vI p1), (2, vI p2)] [] h
  unfold f_J14_fillNull at H
  refine zw_aload_n (pc := 0) dJ14_fillNull_0 rfl 0 rfl ?_
  refine zw_iload_n (pc := 1) dJ14_fillNull_1 rfl 1 rfl ?_
  refine zw_iload_n (pc := 2) dJ14_fillNull_2 rfl 2 rfl ?_
  refine zw_iconst (pc := 3) (v := (0 : Int32)) dJ14_fillNull_3 (by decide) ?_
  obtain ⟨h2, e1, H⟩ := zbind H
  refine zw_invS (pc := 4) (M' := M_J13_fill) (A := [vR p0, vI p1, vI p2, vI (0 : Int32)]) [] dJ14_fillNull_4 (Or.inl q2101) mf_J13_fill (w_J13_fill e1) (Nat.le_of_ble_eq_true rfl) rfl rfl (Nat.le_of_ble_eq_true rfl) (zku ?_) zkn9
  obtain rfl := Option.some.inj H
  exact zw_vret (pc := 7) dJ14_fillNull_7 rfl rfl rfl
theorem lp_J2_73 {nm : String} : zFp "java/lang/AbstractStringBuilder" nm 73 18 2 := ⟨_, "java/lang/AbstractStringBuilder", by decide, rfl, by decide, Or.inl rfl, Or.inl ⟨Or.inl q322, rfl⟩⟩
def M_J2_setLength : zM := (yJ2_setLength, cJ2_setLength, 2, none, [])
theorem mf_J2_setLength : zMi M_J2_setLength 1 := ⟨⟨q2078, q185, ⟨by decide +kernel, by decide +kernel⟩, by decide +kernel, by decide⟩, q2077⟩
def f_J2_setLength (p0 : Option Nat) (p1 : Int32) (h : zH) : Option zH :=
  if 0 ≤ p1 then
  (zrv 18 p0 h).bind fun b2 =>
  (f_J2_ensureCapacityInternal (some b2) p1 h).bind fun h7 =>
  (zgI 18 3 p0 h7).bind fun x8 =>
  if p1 ≤ x8 then
  (zgI 18 3 p0 h7).bind fun x11 =>
  if x11 ≤ p1 then
  (zpI 18 3 p0 p1 h7).bind fun h14 =>
  some h14
  else
  (zpZ 18 2 p0 (1 : Int32) h7).bind fun h16 =>
  (zpI 18 3 p0 p1 h16).bind fun h18 =>
  some h18
  else
  (zrv 18 p0 h7).bind fun b20 =>
  (f_J2_isLatin1 (some b20) h7).bind fun x25 =>
  if x25 = 0 then
  (zgR 18 0 p0 h7).bind fun x27 =>
  (zgI 18 3 p0 h7).bind fun x29 =>
  none
  else
  (zgR 18 0 p0 h7).bind fun x31 =>
  (zgI 18 3 p0 h7).bind fun x33 =>
  (f_J14_fillNull x31 x33 p1 h7).bind fun h36 =>
  (zpI 18 3 p0 p1 h36).bind fun h37 =>
  some h37
  else
  none
theorem w_J2_setLength {G : zG} {p0 : Option Nat} {p1 : Int32} {h : zH} {vh : zH} (H : f_J2_setLength p0 p1 h = some vh) : zMet G M_J2_setLength 8 [vR p0, vI p1] h (.inl none) vh := by
  refine zMet.of (by decide +kernel) (Nat.le_of_ble_eq_true rfl) ?_
  show zW G M_J2_setLength 8 h (.inl none) vh 0 [(0, vR p0), (1, vI p1)] [] h
  unfold f_J2_setLength at H
  refine zw_iload_n (pc := 0) dJ2_setLength_0 rfl 1 rfl ?_
  rcases zif H with ⟨c1, H⟩ | ⟨c1, H⟩
  · refine zw_if_ge (pc := 1) (tgt := 13) dJ2_setLength_1 rfl (fun _ => ?_) (fun q => absurd c1 q)
    refine zw_aload_n (pc := 13) dJ2_setLength_13 rfl 0 rfl ?_
    refine zw_iload_n (pc := 14) dJ2_setLength_14 rfl 1 rfl ?_
    obtain ⟨b2, e4, H⟩ := zbind H
    obtain ⟨e3, e5⟩ := zrv_ok e4
    obtain ⟨h7, e6, H⟩ := zbind H
    refine zw_invP (pc := 15) (M' := M_J2_ensureCapacityInternal) (A := [vI p1]) [] dJ2_setLength_15 q711 mf_J2_ensureCapacityInternal (by decide +kernel) q747 rfl (zkq e5 rfl) (w_J2_ensureCapacityInternal e6) (Nat.le_of_ble_eq_true rfl) rfl (by rw [← e3]; rfl) (Nat.le_of_ble_eq_true rfl) (zku ?_) zkn9
    refine zw_aload_n (pc := 18) dJ2_setLength_18 rfl 0 rfl ?_
    obtain ⟨x8, e9, H⟩ := zbind H
    refine zy_getI (pc := 19) dJ2_setLength_19 lf_J2_79 (fun _ _ => rfl) e9 ?_
    refine zw_iload_n (pc := 22) dJ2_setLength_22 rfl 1 rfl ?_
    rcases zif H with ⟨c10, H⟩ | ⟨c10, H⟩
    · refine zw_icmp_ge (pc := 23) (tgt := 63) dJ2_setLength_23 rfl (fun _ => ?_) (fun q => absurd c10 q)
      refine zw_aload_n (pc := 63) dJ2_setLength_63 rfl 0 rfl ?_
      obtain ⟨x11, e12, H⟩ := zbind H
      refine zy_getI (pc := 64) dJ2_setLength_64 lf_J2_79 (fun _ _ => rfl) e12 ?_
      refine zw_iload_n (pc := 67) dJ2_setLength_67 rfl 1 rfl ?_
      rcases zif H with ⟨c13, H⟩ | ⟨c13, H⟩
      · refine zw_icmp_le (pc := 68) (tgt := 76) dJ2_setLength_68 rfl (fun _ => ?_) (fun q => absurd c13 q)
        refine zw_aload_n (pc := 76) dJ2_setLength_76 rfl 0 rfl ?_
        refine zw_iload_n (pc := 77) dJ2_setLength_77 rfl 1 rfl ?_
        obtain ⟨h14, e15, H⟩ := zbind H
        refine zy_putI (pc := 78) dJ2_setLength_78 lp_J2_79 rfl e15 ?_
        obtain rfl := Option.some.inj H
        exact zw_vret (pc := 81) dJ2_setLength_81 rfl rfl rfl
      · refine zw_icmp_le (pc := 68) (tgt := 76) dJ2_setLength_68 rfl (fun q => absurd q c13) (fun _ => ?_)
        refine zw_aload_n (pc := 71) dJ2_setLength_71 rfl 0 rfl ?_
        refine zw_iconst (pc := 72) (v := (1 : Int32)) dJ2_setLength_72 (by decide) ?_
        obtain ⟨h16, e17, H⟩ := zbind H
        refine zy_putZ (pc := 73) dJ2_setLength_73 lp_J2_73 (Or.inl rfl) e17 ?_
        refine zw_aload_n (pc := 76) dJ2_setLength_76 rfl 0 rfl ?_
        refine zw_iload_n (pc := 77) dJ2_setLength_77 rfl 1 rfl ?_
        obtain ⟨h18, e19, H⟩ := zbind H
        refine zy_putI (pc := 78) dJ2_setLength_78 lp_J2_79 rfl e19 ?_
        obtain rfl := Option.some.inj H
        exact zw_vret (pc := 81) dJ2_setLength_81 rfl rfl rfl
    · refine zw_icmp_ge (pc := 23) (tgt := 63) dJ2_setLength_23 rfl (fun q => absurd q c10) (fun _ => ?_)
      refine zw_aload_n (pc := 26) dJ2_setLength_26 rfl 0 rfl ?_
      obtain ⟨b20, e22, H⟩ := zbind H
      obtain ⟨e21, e23⟩ := zrv_ok e22
      obtain ⟨x25, e24, H⟩ := zbind H
      refine zw_invU (pc := 27) (M' := M_J2_isLatin1) (owner := "java/lang/AbstractStringBuilder") (C0 := "java/lang/StringBuilder") (A := []) [] dJ2_setLength_27 q744 q746 (Or.inl ⟨M_J2_isLatin1, _, mf_J2_isLatin1, rfl⟩) (by decide +kernel) mf_J2_isLatin1 rfl q747 (zrecv (zkq e23 rfl)) (w_J2_isLatin1 e24) (Nat.le_of_ble_eq_true rfl) rfl (by rw [← e21]; rfl) (Nat.le_of_ble_eq_true rfl) (zkv ?_) zkn9
      rcases zif H with ⟨c26, H⟩ | ⟨c26, H⟩
      · refine zw_if_eq (pc := 30) (tgt := 48) dJ2_setLength_30 rfl (fun _ => ?_) (fun q => absurd c26 q)
        refine zw_aload_n (pc := 48) dJ2_setLength_48 rfl 0 rfl ?_
        obtain ⟨x27, e28, H⟩ := zbind H
        refine zy_getR (pc := 49) dJ2_setLength_49 lf_J2_15 (fun _ _ => rfl) e28 ?_
        refine zw_aload_n (pc := 52) dJ2_setLength_52 rfl 0 rfl ?_
        obtain ⟨x29, e30, H⟩ := zbind H
        refine zy_getI (pc := 53) dJ2_setLength_53 lf_J2_79 (fun _ _ => rfl) e30 ?_
        refine zw_iload_n (pc := 56) dJ2_setLength_56 rfl 1 rfl ?_
        cases H
      · refine zw_if_eq (pc := 30) (tgt := 48) dJ2_setLength_30 rfl (fun q => absurd q c26) (fun _ => ?_)
        refine zw_aload_n (pc := 33) dJ2_setLength_33 rfl 0 rfl ?_
        obtain ⟨x31, e32, H⟩ := zbind H
        refine zy_getR (pc := 34) dJ2_setLength_34 lf_J2_15 (fun _ _ => rfl) e32 ?_
        refine zw_aload_n (pc := 37) dJ2_setLength_37 rfl 0 rfl ?_
        obtain ⟨x33, e34, H⟩ := zbind H
        refine zy_getI (pc := 38) dJ2_setLength_38 lf_J2_79 (fun _ _ => rfl) e34 ?_
        refine zw_iload_n (pc := 41) dJ2_setLength_41 rfl 1 rfl ?_
        obtain ⟨h36, e35, H⟩ := zbind H
        refine zw_invS (pc := 42) (M' := M_J14_fillNull) (A := [vR x31, vI x33, vI p1]) [] dJ2_setLength_42 (Or.inl q2098) mf_J14_fillNull (w_J14_fillNull e35) (Nat.le_of_ble_eq_true rfl) rfl rfl (Nat.le_of_ble_eq_true rfl) (zku ?_) zkn9
        refine zw_goto (pc := 45) (tgt := 76) dJ2_setLength_45 rfl ?_
        refine zw_aload_n (pc := 76) dJ2_setLength_76 rfl 0 rfl ?_
        refine zw_iload_n (pc := 77) dJ2_setLength_77 rfl 1 rfl ?_
        obtain ⟨h37, e38, H⟩ := zbind H
        refine zy_putI (pc := 78) dJ2_setLength_78 lp_J2_79 rfl e38 ?_
        obtain rfl := Option.some.inj H
        exact zw_vret (pc := 81) dJ2_setLength_81 rfl rfl rfl
  · refine zw_if_ge (pc := 1) (tgt := 13) dJ2_setLength_1 rfl (fun q => absurd q c1) (fun _ => ?_)
    cases H
def M_J3_setLength : zM := (yJ3_setLength, cJ3_setLength, 2, none, [])
theorem mf_J3_setLength : zMi M_J3_setLength 1 := ⟨⟨q2075, q186, ⟨by decide +kernel, by decide +kernel⟩, by decide +kernel, by decide⟩, q2073⟩
def f_J3_setLength (p0 : Option Nat) (p1 : Int32) (h : zH) : Option zH :=
  (zrv 18 p0 h).bind fun b1 =>
  (f_J2_setLength (some b1) p1 h).bind fun h6 =>
  some h6
theorem w_J3_setLength {G : zG} {p0 : Option Nat} {p1 : Int32} {h : zH} {vh : zH} (H : f_J3_setLength p0 p1 h = some vh) : zMet G M_J3_setLength 9 [vR p0, vI p1] h (.inl none) vh := by
  refine zMet.of (by decide +kernel) (Nat.le_of_ble_eq_true rfl) ?_
  show zW G M_J3_setLength 9 h (.inl none) vh 0 [(0, vR p0), (1, vI p1)] [] h
  unfold f_J3_setLength at H
  refine zw_aload_n (pc := 0) dJ3_setLength_0 rfl 0 rfl ?_
  refine zw_iload_n (pc := 1) dJ3_setLength_1 rfl 1 rfl ?_
  obtain ⟨b1, e4, H⟩ := zbind H
  obtain ⟨e2, e5⟩ := zrv_ok e4
  obtain ⟨h6, e3, H⟩ := zbind H
  refine zw_invSU (pc := 2) (M' := M_J2_setLength) (A := [vI p1]) [] dJ3_setLength_2 q2076 q3030 q333 mf_J2_setLength (by decide) (zkq e5 rfl) (w_J2_setLength e3) (Nat.le_of_ble_eq_true rfl) rfl (by rw [← e2]; rfl) (Nat.le_of_ble_eq_true rfl) (zku ?_) zkn9
  obtain rfl := Option.some.inj H
  exact zw_vret (pc := 5) dJ3_setLength_5 rfl rfl rfl
def M_J15_checkIndex : zM := (yJ15_checkIndex, cJ15_checkIndex, 3, (.some .int), [])
theorem mf_J15_checkIndex : zMs M_J15_checkIndex 3 := ⟨⟨q796, q201, ⟨by decide +kernel, by decide +kernel⟩, by decide +kernel, by decide⟩, q795⟩
def f_J15_checkIndex (p0 : Int32) (p1 : Int32) (p2 : Option Nat) (h : zH) : Option Int32 :=
  if p0 < 0 then
  none
  else
  if p0 < p1 then
  some p0
  else
  none
theorem w_J15_checkIndex {G : zG} {p0 : Int32} {p1 : Int32} {p2 : Option Nat} {h : zH} {vx : Int32} (H : f_J15_checkIndex p0 p1 p2 h = some vx) : zMet G M_J15_checkIndex 2 [vI p0, vI p1, vR p2] h (.inl (some (vI vx))) h := by
  refine zMet.of (by decide +kernel) (Nat.le_of_ble_eq_true rfl) ?_
  show zW G M_J15_checkIndex 2 h (.inl (some (vI vx))) h 0 [(0, vI p0), (1, vI p1), (2, vR p2)] [] h
  unfold f_J15_checkIndex at H
  refine zw_iload_n (pc := 0) dJ15_checkIndex_0 rfl 0 rfl ?_
  rcases zif H with ⟨c1, H⟩ | ⟨c1, H⟩
  · refine zw_if_lt (pc := 1) (tgt := 9) dJ15_checkIndex_1 rfl (fun _ => ?_) (fun q => absurd c1 q)
    refine zw_aload_n (pc := 9) dJ15_checkIndex_9 rfl 2 rfl ?_
    refine zw_iload_n (pc := 10) dJ15_checkIndex_10 rfl 0 rfl ?_
    refine zw_iload_n (pc := 11) dJ15_checkIndex_11 rfl 1 rfl ?_
    cases H
  · refine zw_if_lt (pc := 1) (tgt := 9) dJ15_checkIndex_1 rfl (fun q => absurd q c1) (fun _ => ?_)
    refine zw_iload_n (pc := 4) dJ15_checkIndex_4 rfl 0 rfl ?_
    refine zw_iload_n (pc := 5) dJ15_checkIndex_5 rfl 1 rfl ?_
    rcases zif H with ⟨c2, H⟩ | ⟨c2, H⟩
    · refine zw_icmp_lt (pc := 6) (tgt := 16) dJ15_checkIndex_6 rfl (fun _ => ?_) (fun q => absurd c2 q)
      refine zw_iload_n (pc := 16) dJ15_checkIndex_16 rfl 0 rfl ?_
      obtain rfl := Option.some.inj H
      exact zw_iret (pc := 17) dJ15_checkIndex_17 rfl rfl rfl
    · refine zw_icmp_lt (pc := 6) (tgt := 16) dJ15_checkIndex_6 rfl (fun q => absurd q c2) (fun _ => ?_)
      refine zw_aload_n (pc := 9) dJ15_checkIndex_9 rfl 2 rfl ?_
      refine zw_iload_n (pc := 10) dJ15_checkIndex_10 rfl 0 rfl ?_
      refine zw_iload_n (pc := 11) dJ15_checkIndex_11 rfl 1 rfl ?_
      cases H
def M_J4_checkIndex : zM := (yJ4_checkIndex, cJ4_checkIndex, 2, none, [])
theorem mf_J4_checkIndex : zMs M_J4_checkIndex 2 := ⟨⟨q793, q187, ⟨by decide +kernel, by decide +kernel⟩, by decide +kernel, by decide⟩, q792⟩
def f_J4_checkIndex (p0 : Int32) (p1 : Int32) (h : zH) : Option Unit :=
  (f_J15_checkIndex p0 p1 (zsv h 9) h).bind fun x2 =>
  some ()
theorem w_J4_checkIndex {G : zG} {p0 : Int32} {p1 : Int32} {h : zH} {vx : Unit} (H : f_J4_checkIndex p0 p1 h = some vx) : zMet G M_J4_checkIndex 3 [vI p0, vI p1] h (.inl none) h := by
  refine zMet.of (by decide +kernel) (Nat.le_of_ble_eq_true rfl) ?_
  show zW G M_J4_checkIndex 3 h (.inl none) h 0 [(0, vI p0), (1, vI p1)] [] h
  unfold f_J4_checkIndex at H
  refine zw_iload_n (pc := 0) dJ4_checkIndex_0 rfl 0 rfl ?_
  refine zw_iload_n (pc := 1) dJ4_checkIndex_1 rfl 1 rfl ?_
  refine zw_gets (pc := 2) 9 dJ4_checkIndex_2 rfl q771 rfl (show zstv _ 9 = vR (zsv h 9) from rfl) ?_
  obtain ⟨x2, e1, H⟩ := zbind H
  refine zw_invS (pc := 5) (M' := M_J15_checkIndex) (A := [vI p0, vI p1, vR (zsv h 9)]) [] dJ4_checkIndex_5 (Or.inl q794) mf_J15_checkIndex (w_J15_checkIndex e1) (Nat.le_of_ble_eq_true rfl) rfl rfl (Nat.le_of_ble_eq_true rfl) (zkv ?_) zkn9
  refine zw_pop (pc := 8) dJ4_checkIndex_8 rfl ?_
  obtain rfl := Option.some.inj H
  exact zw_vret (pc := 9) dJ4_checkIndex_9 rfl rfl rfl
def M_J2_charAt : zM := (yJ2_charAt, cJ2_charAt, 5, (.some .char), [])
theorem mf_J2_charAt : zMi M_J2_charAt 1 := ⟨⟨q2140, q185, ⟨by decide +kernel, by decide +kernel⟩, by decide +kernel, by decide⟩, q2139⟩
def f_J2_charAt (p0 : Option Nat) (p1 : Int32) (h : zH) : Option Int32 :=
  (zgI 18 1 p0 h).bind fun x1 =>
  (zgR 18 0 p0 h).bind fun x3 =>
  (zgI 18 3 p0 h).bind fun x5 =>
  (zaN x3 h).bind fun x7 =>
  (f_J12_min x5 (x7 >>> (x1 &&& 31)) h).bind fun x10 =>
  (f_J4_checkIndex p1 x10 h).bind fun _ =>
  if x1 = 0 then
  (zaI 53 x3 p1 h).bind fun x14 =>
  if vp_nar .char ((x14 &&& (255 : Int32)).toUInt32 % 65536).toInt32 = ((x14 &&& (255 : Int32)).toUInt32 % 65536).toInt32 then some ((x14 &&& (255 : Int32)).toUInt32 % 65536).toInt32 else none
  else
  none
theorem w_J2_charAt {G : zG} {p0 : Option Nat} {p1 : Int32} {h : zH} {vx : Int32} (H : f_J2_charAt p0 p1 h = some vx) : zMet G M_J2_charAt 4 [vR p0, vI p1] h (.inl (some (vI vx))) h := by
  refine zMet.of (by decide +kernel) (Nat.le_of_ble_eq_true rfl) ?_
  show zW G M_J2_charAt 4 h (.inl (some (vI vx))) h 0 [(0, vR p0), (1, vI p1)] [] h
  unfold f_J2_charAt at H
  refine zw_aload_n (pc := 0) dJ2_charAt_0 rfl 0 rfl ?_
  obtain ⟨x1, e2, H⟩ := zbind H
  refine zy_getI (pc := 1) dJ2_charAt_1 lf_J2_22 (fun _ _ => rfl) e2 ?_
  refine zw_istore_n (pc := 4) (lv' := [(2, vI x1), (0, vR p0), (1, vI p1)]) dJ2_charAt_4 rfl (by decide) rfl ?_
  refine zw_aload_n (pc := 5) dJ2_charAt_5 rfl 1 rfl ?_
  obtain ⟨x3, e4, H⟩ := zbind H
  refine zy_getR (pc := 6) dJ2_charAt_6 lf_J2_15 (fun _ _ => rfl) e4 ?_
  refine zw_astore_n (pc := 9) (lv' := [(3, vR x3), (2, vI x1), (0, vR p0), (1, vI p1)]) dJ2_charAt_9 rfl (by decide) rfl ?_
  refine zw_aload_n (pc := 10) dJ2_charAt_10 rfl 2 rfl ?_
  obtain ⟨x5, e6, H⟩ := zbind H
  refine zy_getI (pc := 11) dJ2_charAt_11 lf_J2_79 (fun _ _ => rfl) e6 ?_
  refine zw_aload_n (pc := 14) dJ2_charAt_14 rfl 0 rfl ?_
  obtain ⟨x7, e8, H⟩ := zbind H
  refine zy_alen (pc := 15) dJ2_charAt_15 e8 ?_
  refine zw_iload_n (pc := 16) dJ2_charAt_16 rfl 1 rfl ?_
  refine zw_ishr (pc := 17) dJ2_charAt_17 ?_
  obtain ⟨x10, e9, H⟩ := zbind H
  refine zw_invS (pc := 18) (M' := M_J12_min) (A := [vI x5, vI (x7 >>> (x1 &&& 31))]) [] dJ2_charAt_18 (Or.inl q2141) mf_J12_min (w_J12_min e9) (Nat.le_of_ble_eq_true rfl) rfl rfl (Nat.le_of_ble_eq_true rfl) (zkv ?_) zkn9
  refine zw_istore (pc := 21) (lv' := [(4, vI x10), (3, vR x3), (2, vI x1), (0, vR p0), (1, vI p1)]) dJ2_charAt_21 (by decide) rfl ?_
  refine zw_iload_n (pc := 23) dJ2_charAt_23 rfl 4 rfl ?_
  refine zw_iload (pc := 24) dJ2_charAt_24 0 rfl ?_
  obtain ⟨x12, e11, H⟩ := zbind H
  refine zw_invS (pc := 26) (M' := M_J4_checkIndex) (A := [vI p1, vI x10]) [] dJ2_charAt_26 (Or.inl q2142) mf_J4_checkIndex (w_J4_checkIndex e11) (Nat.le_of_ble_eq_true rfl) rfl rfl (Nat.le_of_ble_eq_true rfl) (zku ?_) zkn9
  refine zw_iload_n (pc := 29) dJ2_charAt_29 rfl 2 rfl ?_
  rcases zif H with ⟨c13, H⟩ | ⟨c13, H⟩
  · refine zw_if_ne (pc := 30) (tgt := 42) dJ2_charAt_30 rfl (fun q => absurd c13 q) (fun _ => ?_)
    refine zw_aload_n (pc := 33) dJ2_charAt_33 rfl 1 rfl ?_
    refine zw_iload_n (pc := 34) dJ2_charAt_34 rfl 4 rfl ?_
    obtain ⟨x14, e15, H⟩ := zbind H
    refine zy_bald (pc := 35) dJ2_charAt_35 e15 ?_
    refine zw_sipush (pc := 36) (v := (255 : Int32)) dJ2_charAt_36 (by decide) ?_
    refine zw_iand (pc := 39) dJ2_charAt_39 ?_
    refine zw_i2c (pc := 40) dJ2_charAt_40 ?_
    obtain ⟨c16, H⟩ := zgd H
    obtain rfl := Option.some.inj H
    exact zw_zret (pc := 41) dJ2_charAt_41 rfl (znarV c16) rfl rfl
  · refine zw_if_ne (pc := 30) (tgt := 42) dJ2_charAt_30 rfl (fun _ => ?_) (fun q => absurd q c13)
    refine zw_aload_n (pc := 42) dJ2_charAt_42 rfl 1 rfl ?_
    refine zw_iload_n (pc := 43) dJ2_charAt_43 rfl 4 rfl ?_
    cases H
def M_J3_charAt : zM := (yJ3_charAt, cJ3_charAt, 2, (.some .char), [])
theorem mf_J3_charAt : zMi M_J3_charAt 1 := ⟨⟨q2137, q186, ⟨by decide +kernel, by decide +kernel⟩, by decide +kernel, by decide⟩, q2135⟩
def f_J3_charAt (p0 : Option Nat) (p1 : Int32) (h : zH) : Option Int32 :=
  (zrv 18 p0 h).bind fun b1 =>
  (f_J2_charAt (some b1) p1 h).bind fun x6 =>
  if vp_nar .char x6 = x6 then some x6 else none
theorem w_J3_charAt {G : zG} {p0 : Option Nat} {p1 : Int32} {h : zH} {vx : Int32} (H : f_J3_charAt p0 p1 h = some vx) : zMet G M_J3_charAt 5 [vR p0, vI p1] h (.inl (some (vI vx))) h := by
  refine zMet.of (by decide +kernel) (Nat.le_of_ble_eq_true rfl) ?_
  show zW G M_J3_charAt 5 h (.inl (some (vI vx))) h 0 [(0, vR p0), (1, vI p1)] [] h
  unfold f_J3_charAt at H
  refine zw_aload_n (pc := 0) dJ3_charAt_0 rfl 0 rfl ?_
  refine zw_iload_n (pc := 1) dJ3_charAt_1 rfl 1 rfl ?_
  obtain ⟨b1, e4, H⟩ := zbind H
  obtain ⟨e2, e5⟩ := zrv_ok e4
  obtain ⟨x6, e3, H⟩ := zbind H
  refine zw_invSU (pc := 2) (M' := M_J2_charAt) (A := [vI p1]) [] dJ3_charAt_2 q2138 q3031 q333 mf_J2_charAt (by decide) (zkq e5 rfl) (w_J2_charAt e3) (Nat.le_of_ble_eq_true rfl) rfl (by rw [← e2]; rfl) (Nat.le_of_ble_eq_true rfl) (zkv ?_) zkn9
  obtain ⟨c7, H⟩ := zgd H
  obtain rfl := Option.some.inj H
  exact zw_zret (pc := 5) dJ3_charAt_5 rfl (znarV c7) rfl rfl
theorem lp_J17_7 {nm : String} : zFp "java/util/AbstractList" nm 7 16 0 := ⟨_, "java/util/AbstractList", by decide, rfl, by decide, Or.inl rfl, Or.inl ⟨Or.inl q1135, rfl⟩⟩
def M_J17_init : zM := (yJ17_init, cJ17_init, 1, none, [])
theorem mf_J17_init : zMi M_J17_init 0 := ⟨⟨q1129, q207, ⟨by decide +kernel, by decide +kernel⟩, by decide +kernel, by decide⟩, q1128⟩
def f_J17_init (p0 : Option Nat) (h : zH) : Option zH :=
  p0.bind fun b1 =>
  (f_J0_init (some b1) h).bind fun _ =>
  (zpI 16 0 p0 (0 : Int32) h).bind fun h5 =>
  some h5
theorem w_J17_init {G : zG} {p0 : Option Nat} {h : zH} {vh : zH} (H : f_J17_init p0 h = some vh) : zMet G M_J17_init 3 [vR p0] h (.inl none) vh := by
  refine zMet.of (by decide +kernel) (Nat.le_of_ble_eq_true rfl) ?_
  show zW G M_J17_init 3 h (.inl none) vh 0 [(0, vR p0)] [] h
  unfold f_J17_init at H
  refine zw_aload_n (pc := 0) dJ17_init_0 rfl 0 rfl ?_
  obtain ⟨b1, e2, H⟩ := zbind H
  obtain ⟨x4, e3, H⟩ := zbind H
  refine zw_invI (pc := 1) (M' := M_J0_init) (A := []) [] dJ17_init_1 (Or.inl q1130) mf_J0_init rfl rfl (w_J0_init e3) (Nat.le_of_ble_eq_true rfl) rfl (by rw [← e2]; rfl) (Nat.le_of_ble_eq_true rfl) (zku ?_) zkn9
  refine zw_aload_n (pc := 4) dJ17_init_4 rfl 0 rfl ?_
  refine zw_iconst (pc := 5) (v := (0 : Int32)) dJ17_init_5 (by decide) ?_
  obtain ⟨h5, e6, H⟩ := zbind H
  refine zy_putI (pc := 6) dJ17_init_6 lp_J17_7 rfl e6 ?_
  obtain rfl := Option.some.inj H
  exact zw_vret (pc := 9) dJ17_init_9 rfl rfl rfl
theorem lp_J18_9 {nm : String} : zFp "java/util/ArrayList" nm 9 16 1 := ⟨_, "java/util/ArrayList", by decide, rfl, by decide, Or.inl rfl, Or.inl ⟨Or.inl q1133, rfl⟩⟩
def M_J18_init : zM := (yJ18_init, cJ18_init, 1, none, [])
theorem mf_J18_init : zMi M_J18_init 0 := ⟨⟨q1126, q208, ⟨by decide +kernel, by decide +kernel⟩, by decide +kernel, by decide⟩, q1125⟩
def f_J18_init (p0 : Option Nat) (h : zH) : Option zH :=
  p0.bind fun b1 =>
  (f_J17_init (some b1) h).bind fun h4 =>
  (zpR 16 1 p0 (zsv h4 3) h4).bind fun h5 =>
  some h5
theorem w_J18_init {G : zG} {p0 : Option Nat} {h : zH} {vh : zH} (H : f_J18_init p0 h = some vh) : zMet G M_J18_init 4 [vR p0] h (.inl none) vh := by
  refine zMet.of (by decide +kernel) (Nat.le_of_ble_eq_true rfl) ?_
  show zW G M_J18_init 4 h (.inl none) vh 0 [(0, vR p0)] [] h
  unfold f_J18_init at H
  refine zw_aload_n (pc := 0) dJ18_init_0 rfl 0 rfl ?_
  obtain ⟨b1, e2, H⟩ := zbind H
  obtain ⟨h4, e3, H⟩ := zbind H
  refine zw_invI (pc := 1) (M' := M_J17_init) (A := []) [] dJ18_init_1 (Or.inl q1127) mf_J17_init rfl rfl (w_J17_init e3) (Nat.le_of_ble_eq_true rfl) rfl (by rw [← e2]; rfl) (Nat.le_of_ble_eq_true rfl) (zku ?_) zkn9
  refine zw_aload_n (pc := 4) dJ18_init_4 rfl 0 rfl ?_
  refine zw_gets (pc := 5) 3 dJ18_init_5 rfl q1131 rfl (show zstv _ 3 = vR (zsv h4 3) from rfl) ?_
  obtain ⟨h5, e6, H⟩ := zbind H
  refine zy_putR (pc := 8) dJ18_init_8 lp_J18_9 rfl e6 ?_
  obtain rfl := Option.some.inj H
  exact zw_vret (pc := 11) dJ18_init_11 rfl rfl rfl
theorem lf_J18_9 : zFl "java/util/ArrayList" 9 16 1 := ⟨_, "java/util/ArrayList", by decide, rfl, by decide, Or.inl q1133, Or.inl rfl⟩
def M_J18_grow_2 : zM := (yJ18_grow_2, cJ18_grow_2, 4, (.some (.array (.object "java/lang/Object"))), [])
theorem mf_J18_grow_2 : zMi M_J18_grow_2 1 := ⟨⟨q1258, q208, ⟨by decide +kernel, by decide +kernel⟩, by decide +kernel, by decide⟩, q1257⟩
def B_J18_grow_2_20 (a0 : Option Nat) (a1 : Int32) (a2 : Int32) (h : zH) : Option (Option Nat × zH) :=
  (f_J11_newLength a2 (a1 - a2) (a2 >>> ((1 : Int32) &&& 31)) h).bind fun x2 =>
  (zgR 16 1 a0 h).bind fun x3 =>
  zb2 (f_J13_copyOf_2 x3 x2 h) fun x7 h6 =>
  (zpR 16 1 a0 x7 h6).bind fun h8 =>
  some (x7, h8)
theorem wB_J18_grow_2_20 {G : zG} {h0 h : zH} {vx : Option Nat} {vh : zH} {a0 : Option Nat} {a1 : Int32} {a2 : Int32} (H : B_J18_grow_2_20 a0 a1 a2 h = some (vx, vh)) : zW G M_J18_grow_2 5 h0 (.inl (some (vR vx))) vh 20 [(0, vR a0), (1, vI a1), (2, vI a2)] [] h := by
  unfold B_J18_grow_2_20 at H
  refine zw_iload_n (pc := 20) dJ18_grow_2_20 rfl 2 rfl ?_
  refine zw_iload_n (pc := 21) dJ18_grow_2_21 rfl 1 rfl ?_
  refine zw_iload_n (pc := 22) dJ18_grow_2_22 rfl 2 rfl ?_
  refine zw_isub (pc := 23) dJ18_grow_2_23 ?_
  refine zw_iload_n (pc := 24) dJ18_grow_2_24 rfl 2 rfl ?_
  refine zw_iconst (pc := 25) (v := (1 : Int32)) dJ18_grow_2_25 (by decide) ?_
  refine zw_ishr (pc := 26) dJ18_grow_2_26 ?_
  obtain ⟨x2, e1, H⟩ := zbind H
  refine zw_invS (pc := 27) (M' := M_J11_newLength) (A := [vI a2, vI (a1 - a2), vI (a2 >>> ((1 : Int32) &&& 31))]) [] dJ18_grow_2_27 (Or.inl q1259) mf_J11_newLength (w_J11_newLength e1) (Nat.le_of_ble_eq_true rfl) rfl rfl (Nat.le_of_ble_eq_true rfl) (zkv ?_) zkn9
  refine zw_istore_n (pc := 30) (lv' := [(3, vI x2), (0, vR a0), (1, vI a1), (2, vI a2)]) dJ18_grow_2_30 rfl (by decide) rfl ?_
  refine zw_aload_n (pc := 31) dJ18_grow_2_31 rfl 1 rfl ?_
  refine zw_aload_n (pc := 32) dJ18_grow_2_32 rfl 1 rfl ?_
  obtain ⟨x3, e4, H⟩ := zbind H
  refine zy_getR (pc := 33) dJ18_grow_2_33 lf_J18_9 (fun _ _ => rfl) e4 ?_
  refine zw_iload_n (pc := 36) dJ18_grow_2_36 rfl 0 rfl ?_
  obtain ⟨x7, h6, e5, H⟩ := zbind2 H
  refine zw_invS (pc := 37) (M' := M_J13_copyOf_2) (A := [vR x3, vI x2]) [vR a0] dJ18_grow_2_37 (Or.inl q1260) mf_J13_copyOf_2 (w_J13_copyOf_2 e5) (Nat.le_of_ble_eq_true rfl) rfl rfl (Nat.le_of_ble_eq_true rfl) (zkv ?_) zkn9
  refine zw_dup_x1 (pc := 40) dJ18_grow_2_40 rfl rfl ?_
  obtain ⟨h8, e9, H⟩ := zbind H
  refine zy_putR (pc := 41) dJ18_grow_2_41 lp_J18_9 rfl e9 ?_
  obtain ⟨rfl, rfl⟩ := Prod.mk.inj (Option.some.inj H)
  exact zw_aret (pc := 44) dJ18_grow_2_44 rfl (Or.inr ⟨_, rfl⟩) rfl rfl
def f_J18_grow_2 (p0 : Option Nat) (p1 : Int32) (h : zH) : Option (Option Nat × zH) :=
  (zgR 16 1 p0 h).bind fun x1 =>
  (zaN x1 h).bind fun x3 =>
  if 0 < x3 then
  B_J18_grow_2_20 p0 p1 x3 h
  else
  (zgR 16 1 p0 h).bind fun x6 =>
  if x6 = (zsv h 3) then
  (f_J12_max (10 : Int32) p1 h).bind fun x10 =>
  zb2 (zna 60 x10 h) fun q11 h12 =>
  (zpR 16 1 p0 (some q11) h12).bind fun h14 =>
  some ((some q11), h14)
  else
  B_J18_grow_2_20 p0 p1 x3 h
theorem w_J18_grow_2 {G : zG} {p0 : Option Nat} {p1 : Int32} {h : zH} {vx : Option Nat} {vh : zH} (H : f_J18_grow_2 p0 p1 h = some (vx, vh)) : zMet G M_J18_grow_2 5 [vR p0, vI p1] h (.inl (some (vR vx))) vh := by
  refine zMet.of (by decide +kernel) (Nat.le_of_ble_eq_true rfl) ?_
  show zW G M_J18_grow_2 5 h (.inl (some (vR vx))) vh 0 [(0, vR p0), (1, vI p1)] [] h
  unfold f_J18_grow_2 at H
  refine zw_aload_n (pc := 0) dJ18_grow_2_0 rfl 0 rfl ?_
  obtain ⟨x1, e2, H⟩ := zbind H
  refine zy_getR (pc := 1) dJ18_grow_2_1 lf_J18_9 (fun _ _ => rfl) e2 ?_
  obtain ⟨x3, e4, H⟩ := zbind H
  refine zy_alen (pc := 4) dJ18_grow_2_4 e4 ?_
  refine zw_istore_n (pc := 5) (lv' := [(2, vI x3), (0, vR p0), (1, vI p1)]) dJ18_grow_2_5 rfl (by decide) rfl ?_
  refine zw_iload_n (pc := 6) dJ18_grow_2_6 rfl 0 rfl ?_
  rcases zif H with ⟨c5, H⟩ | ⟨c5, H⟩
  · refine zw_if_gt (pc := 7) (tgt := 20) dJ18_grow_2_7 rfl (fun _ => ?_) (fun q => absurd c5 q)
    refine zW_pick (lv' := [(0, vR p0), (1, vI p1), (2, vI x3)]) [1, 2, 0] rfl ?_
    exact wB_J18_grow_2_20 H
  · refine zw_if_gt (pc := 7) (tgt := 20) dJ18_grow_2_7 rfl (fun q => absurd q c5) (fun _ => ?_)
    refine zw_aload_n (pc := 10) dJ18_grow_2_10 rfl 1 rfl ?_
    obtain ⟨x6, e7, H⟩ := zbind H
    refine zy_getR (pc := 11) dJ18_grow_2_11 lf_J18_9 (fun _ _ => rfl) e7 ?_
    refine zw_gets (pc := 14) 3 dJ18_grow_2_14 rfl q1131 rfl (show zstv _ 3 = vR (zsv h 3) from rfl) ?_
    rcases zif H with ⟨c8, H⟩ | ⟨c8, H⟩
    · refine zw_acmp_eq (pc := 17) (tgt := 45) dJ18_grow_2_17 rfl (fun _ => ?_) (fun q => absurd c8 q)
      refine zw_aload_n (pc := 45) dJ18_grow_2_45 rfl 1 rfl ?_
      refine zw_bipush (pc := 46) (v := (10 : Int32)) dJ18_grow_2_46 (by decide) ?_
      refine zw_iload_n (pc := 48) dJ18_grow_2_48 rfl 2 rfl ?_
      obtain ⟨x10, e9, H⟩ := zbind H
      refine zw_invS (pc := 49) (M' := M_J12_max) (A := [vI (10 : Int32), vI p1]) [vR p0] dJ18_grow_2_49 (Or.inl q1299) mf_J12_max (w_J12_max e9) (Nat.le_of_ble_eq_true rfl) rfl rfl (Nat.le_of_ble_eq_true rfl) (zkv ?_) zkn9
      obtain ⟨q11, h12, e13, H⟩ := zbind2 H
      refine zy_anew (pc := 52) (k := 60) dJ18_grow_2_52 (by decide) rfl q1300 (by decide +kernel) e13 ?_
      refine zw_dup_x1 (pc := 55) dJ18_grow_2_55 rfl rfl ?_
      obtain ⟨h14, e15, H⟩ := zbind H
      refine zy_putR (pc := 56) dJ18_grow_2_56 lp_J18_9 rfl e15 ?_
      obtain ⟨rfl, rfl⟩ := Prod.mk.inj (Option.some.inj H)
      exact zw_aret (pc := 59) dJ18_grow_2_59 rfl (Or.inr ⟨_, rfl⟩) rfl rfl
    · refine zw_acmp_eq (pc := 17) (tgt := 45) dJ18_grow_2_17 rfl (fun q => absurd q c8) (fun _ => ?_)
      refine zW_pick (lv' := [(0, vR p0), (1, vI p1), (2, vI x3)]) [1, 2, 0] rfl ?_
      exact wB_J18_grow_2_20 H
theorem lf_J18_48 : zFl "java/util/ArrayList" 48 16 2 := ⟨_, "java/util/ArrayList", by decide, rfl, by decide, Or.inl q1134, Or.inl rfl⟩
theorem ls_J18_grow_2 : Cond.selects yJ18_grow_2.cls yJ18_grow_2 yJ18_grow_2 ∈ lw_all := lw_g (lw_ms _ (List.mem_of_getElem? (i := 29) rfl)) rfl
def M_J18_grow : zM := (yJ18_grow, cJ18_grow, 1, (.some (.array (.object "java/lang/Object"))), [])
theorem mf_J18_grow : zMi M_J18_grow 0 := ⟨⟨q1254, q208, ⟨by decide +kernel, by decide +kernel⟩, by decide +kernel, by decide⟩, q1253⟩
def f_J18_grow (p0 : Option Nat) (h : zH) : Option (Option Nat × zH) :=
  (zgI 16 2 p0 h).bind fun x1 =>
  (zrv 16 p0 h).bind fun b3 =>
  zb2 (f_J18_grow_2 (some b3) (x1 + (1 : Int32)) h) fun x9 h8 =>
  some (x9, h8)
theorem w_J18_grow {G : zG} {p0 : Option Nat} {h : zH} {vx : Option Nat} {vh : zH} (H : f_J18_grow p0 h = some (vx, vh)) : zMet G M_J18_grow 6 [vR p0] h (.inl (some (vR vx))) vh := by
  refine zMet.of (by decide +kernel) (Nat.le_of_ble_eq_true rfl) ?_
  show zW G M_J18_grow 6 h (.inl (some (vR vx))) vh 0 [(0, vR p0)] [] h
  unfold f_J18_grow at H
  refine zw_aload_n (pc := 0) dJ18_grow_0 rfl 0 rfl ?_
  refine zw_aload_n (pc := 1) dJ18_grow_1 rfl 0 rfl ?_
  obtain ⟨x1, e2, H⟩ := zbind H
  refine zy_getI (pc := 2) dJ18_grow_2 lf_J18_48 (fun _ _ => rfl) e2 ?_
  refine zw_iconst (pc := 5) (v := (1 : Int32)) dJ18_grow_5 (by decide) ?_
  refine zw_iadd (pc := 6) dJ18_grow_6 ?_
  obtain ⟨b3, e5, H⟩ := zbind H
  obtain ⟨e4, e6⟩ := zrv_ok e5
  obtain ⟨x9, h8, e7, H⟩ := zbind2 H
  refine zw_invV (pc := 7) (M' := M_J18_grow_2) (A := [vI (x1 + (1 : Int32))]) [] dJ18_grow_7 (Or.inl q1255) mf_J18_grow_2 ls_J18_grow_2 (zkq e6 rfl) (w_J18_grow_2 e7) (Nat.le_of_ble_eq_true rfl) rfl (by rw [← e4]; rfl) (Nat.le_of_ble_eq_true rfl) (zkv ?_) zkn9
  obtain ⟨rfl, rfl⟩ := Prod.mk.inj (Option.some.inj H)
  exact zw_aret (pc := 10) dJ18_grow_10 rfl (Or.inr ⟨_, rfl⟩) rfl rfl
theorem lp_J18_48 {nm : String} : zFp "java/util/ArrayList" nm 48 16 2 := ⟨_, "java/util/ArrayList", by decide, rfl, by decide, Or.inl rfl, Or.inl ⟨Or.inl q1134, rfl⟩⟩
theorem ls_J18_grow : Cond.selects yJ18_grow.cls yJ18_grow yJ18_grow ∈ lw_all := lw_g (lw_ms _ (List.mem_of_getElem? (i := 28) rfl)) rfl
def M_J18_add_2 : zM := (yJ18_add_2, cJ18_add_2, 4, none, [])
theorem mf_J18_add_2 : zMi M_J18_add_2 3 := ⟨⟨q1250, q208, ⟨by decide +kernel, by decide +kernel⟩, by decide +kernel, by decide⟩, q1249⟩
def B_J18_add_2_11 (a0 : Option Nat) (a1 : Option Nat) (a2 : Option Nat) (a3 : Int32) (h : zH) : Option zH :=
  (zsR 60 a2 a3 a1 h).bind fun h1 =>
  (zpI 16 2 a0 (a3 + (1 : Int32)) h1).bind fun h3 =>
  some h3
theorem wB_J18_add_2_11 {G : zG} {h0 h : zH} {vh : zH} {a0 : Option Nat} {a1 : Option Nat} {a2 : Option Nat} {a3 : Int32} (H : B_J18_add_2_11 a0 a1 a2 a3 h = some vh) : zW G M_J18_add_2 7 h0 (.inl none) vh 11 [(0, vR a0), (1, vR a1), (2, vR a2), (3, vI a3)] [] h := by
  unfold B_J18_add_2_11 at H
  refine zw_aload_n (pc := 11) dJ18_add_2_11 rfl 2 rfl ?_
  refine zw_iload_n (pc := 12) dJ18_add_2_12 rfl 3 rfl ?_
  refine zw_aload_n (pc := 13) dJ18_add_2_13 rfl 1 rfl ?_
  obtain ⟨h1, e2, H⟩ := zbind H
  refine zy_aast (pc := 14) dJ18_add_2_14 (by decide) e2 ?_
  refine zw_aload_n (pc := 15) dJ18_add_2_15 rfl 0 rfl ?_
  refine zw_iload_n (pc := 16) dJ18_add_2_16 rfl 3 rfl ?_
  refine zw_iconst (pc := 17) (v := (1 : Int32)) dJ18_add_2_17 (by decide) ?_
  refine zw_iadd (pc := 18) dJ18_add_2_18 ?_
  obtain ⟨h3, e4, H⟩ := zbind H
  refine zy_putI (pc := 19) dJ18_add_2_19 lp_J18_48 rfl e4 ?_
  obtain rfl := Option.some.inj H
  exact zw_vret (pc := 22) dJ18_add_2_22 rfl rfl rfl
def f_J18_add_2 (p0 : Option Nat) (p1 : Option Nat) (p2 : Option Nat) (p3 : Int32) (h : zH) : Option zH :=
  (zaN p2 h).bind fun x1 =>
  if p3 = x1 then
  (zrv 16 p0 h).bind fun b4 =>
  zb2 (f_J18_grow (some b4) h) fun x10 h9 =>
  B_J18_add_2_11 p0 p1 x10 p3 h9
  else
  B_J18_add_2_11 p0 p1 p2 p3 h
theorem w_J18_add_2 {G : zG} {p0 : Option Nat} {p1 : Option Nat} {p2 : Option Nat} {p3 : Int32} {h : zH} {vh : zH} (H : f_J18_add_2 p0 p1 p2 p3 h = some vh) : zMet G M_J18_add_2 7 [vR p0, vR p1, vR p2, vI p3] h (.inl none) vh := by
  refine zMet.of (by decide +kernel) (Nat.le_of_ble_eq_true rfl) ?_
  show zW G M_J18_add_2 7 h (.inl none) vh 0 [(0, vR p0), (1, vR p1), (2, vR p2), (3, vI p3)] [] h
  unfold f_J18_add_2 at H
  refine zw_iload_n (pc := 0) dJ18_add_2_0 rfl 3 rfl ?_
  refine zw_aload_n (pc := 1) dJ18_add_2_1 rfl 2 rfl ?_
  obtain ⟨x1, e2, H⟩ := zbind H
  refine zy_alen (pc := 2) dJ18_add_2_2 e2 ?_
  rcases zif H with ⟨c3, H⟩ | ⟨c3, H⟩
  · refine zw_icmp_ne (pc := 3) (tgt := 11) dJ18_add_2_3 rfl (fun q => absurd c3 q) (fun _ => ?_)
    refine zw_aload_n (pc := 6) dJ18_add_2_6 rfl 0 rfl ?_
    obtain ⟨b4, e6, H⟩ := zbind H
    obtain ⟨e5, e7⟩ := zrv_ok e6
    obtain ⟨x10, h9, e8, H⟩ := zbind2 H
    refine zw_invV (pc := 7) (M' := M_J18_grow) (A := []) [] dJ18_add_2_7 (Or.inl q1251) mf_J18_grow ls_J18_grow (zkq e7 rfl) (w_J18_grow e8) (Nat.le_of_ble_eq_true rfl) rfl (by rw [← e5]; rfl) (Nat.le_of_ble_eq_true rfl) (zkv ?_) zkn9
    refine zw_astore_n (pc := 10) (lv' := [(2, vR x10), (0, vR p0), (1, vR p1), (3, vI p3)]) dJ18_add_2_10 rfl (by decide) rfl ?_
    refine zW_pick (lv' := [(0, vR p0), (1, vR p1), (2, vR x10), (3, vI p3)]) [1, 2, 0, 3] rfl ?_
    exact wB_J18_add_2_11 H
  · refine zw_icmp_ne (pc := 3) (tgt := 11) dJ18_add_2_3 rfl (fun _ => ?_) (fun q => absurd q c3)
    refine zW_pick (lv' := [(0, vR p0), (1, vR p1), (2, vR p2), (3, vI p3)]) [0, 1, 2, 3] rfl ?_
    exact wB_J18_add_2_11 H
theorem lf_J18_63 : zFl "java/util/ArrayList" 63 16 0 := ⟨_, "java/util/ArrayList", by decide, rfl, by decide, Or.inl q1136, Or.inr q1137⟩
theorem lp_J18_63 {nm : String} : zFp "java/util/ArrayList" nm 63 16 0 := ⟨_, "java/util/ArrayList", by decide, rfl, by decide, Or.inr q1137, Or.inl ⟨Or.inl q1136, rfl⟩⟩
theorem ls_J18_add_2 : Cond.selects yJ18_add_2.cls yJ18_add_2 yJ18_add_2 ∈ lw_all := lw_g (lw_ms _ (List.mem_of_getElem? (i := 27) rfl)) rfl
def M_J18_add : zM := (yJ18_add, cJ18_add, 2, (.some .boolean), [])
theorem mf_J18_add : zMi M_J18_add 1 := ⟨⟨q1246, q208, ⟨by decide +kernel, by decide +kernel⟩, by decide +kernel, by decide⟩, q1244⟩
def f_J18_add (p0 : Option Nat) (p1 : Option Nat) (h : zH) : Option (Int32 × zH) :=
  (zgI 16 0 p0 h).bind fun x1 =>
  (zpI 16 0 p0 (x1 + (1 : Int32)) h).bind fun h3 =>
  (zgR 16 1 p0 h3).bind fun x5 =>
  (zgI 16 2 p0 h3).bind fun x7 =>
  (zrv 16 p0 h3).bind fun b9 =>
  (f_J18_add_2 (some b9) p1 x5 x7 h3).bind fun h14 =>
  some ((1 : Int32), h14)
theorem w_J18_add {G : zG} {p0 : Option Nat} {p1 : Option Nat} {h : zH} {vx : Int32} {vh : zH} (H : f_J18_add p0 p1 h = some (vx, vh)) : zMet G M_J18_add 8 [vR p0, vR p1] h (.inl (some (vI vx))) vh := by
  refine zMet.of (by decide +kernel) (Nat.le_of_ble_eq_true rfl) ?_
  show zW G M_J18_add 8 h (.inl (some (vI vx))) vh 0 [(0, vR p0), (1, vR p1)] [] h
  unfold f_J18_add at H
  refine zw_aload_n (pc := 0) dJ18_add_0 rfl 0 rfl ?_
  refine zw_dup (pc := 1) dJ18_add_1 rfl ?_
  obtain ⟨x1, e2, H⟩ := zbind H
  refine zy_getI (pc := 2) dJ18_add_2 lf_J18_63 (fun _ _ => rfl) e2 ?_
  refine zw_iconst (pc := 5) (v := (1 : Int32)) dJ18_add_5 (by decide) ?_
  refine zw_iadd (pc := 6) dJ18_add_6 ?_
  obtain ⟨h3, e4, H⟩ := zbind H
  refine zy_putI (pc := 7) dJ18_add_7 lp_J18_63 rfl e4 ?_
  refine zw_aload_n (pc := 10) dJ18_add_10 rfl 0 rfl ?_
  refine zw_aload_n (pc := 11) dJ18_add_11 rfl 1 rfl ?_
  refine zw_aload_n (pc := 12) dJ18_add_12 rfl 0 rfl ?_
  obtain ⟨x5, e6, H⟩ := zbind H
  refine zy_getR (pc := 13) dJ18_add_13 lf_J18_9 (fun _ _ => rfl) e6 ?_
  refine zw_aload_n (pc := 16) dJ18_add_16 rfl 0 rfl ?_
  obtain ⟨x7, e8, H⟩ := zbind H
  refine zy_getI (pc := 17) dJ18_add_17 lf_J18_48 (fun _ _ => rfl) e8 ?_
  obtain ⟨b9, e11, H⟩ := zbind H
  obtain ⟨e10, e12⟩ := zrv_ok e11
  obtain ⟨h14, e13, H⟩ := zbind H
  refine zw_invV (pc := 20) (M' := M_J18_add_2) (A := [vR p1, vR x5, vI x7]) [] dJ18_add_20 (Or.inl q1247) mf_J18_add_2 ls_J18_add_2 (zkq e12 rfl) (w_J18_add_2 e13) (Nat.le_of_ble_eq_true rfl) rfl (by rw [← e10]; rfl) (Nat.le_of_ble_eq_true rfl) (zku ?_) zkn9
  refine zw_iconst (pc := 23) (v := (1 : Int32)) dJ18_add_23 (by decide) ?_
  obtain ⟨rfl, rfl⟩ := Prod.mk.inj (Option.some.inj H)
  exact zw_zret (pc := 24) dJ18_add_24 rfl rfl rfl rfl
def M_J18_elementData : zM := (yJ18_elementData, cJ18_elementData, 2, (.some (.object "java/lang/Object")), [])
theorem mf_J18_elementData : zMi M_J18_elementData 1 := ⟨⟨q1395, q208, ⟨by decide +kernel, by decide +kernel⟩, by decide +kernel, by decide⟩, q1393⟩
def f_J18_elementData (p0 : Option Nat) (p1 : Int32) (h : zH) : Option (Option Nat) :=
  (zgR 16 1 p0 h).bind fun x1 =>
  (zaR 60 x1 p1 h).bind fun x3 =>
  some x3
theorem w_J18_elementData {G : zG} {p0 : Option Nat} {p1 : Int32} {h : zH} {vx : Option Nat} (H : f_J18_elementData p0 p1 h = some vx) : zMet G M_J18_elementData 2 [vR p0, vI p1] h (.inl (some (vR vx))) h := by
  refine zMet.of (by decide +kernel) (Nat.le_of_ble_eq_true rfl) ?_
  show zW G M_J18_elementData 2 h (.inl (some (vR vx))) h 0 [(0, vR p0), (1, vI p1)] [] h
  unfold f_J18_elementData at H
  refine zw_aload_n (pc := 0) dJ18_elementData_0 rfl 0 rfl ?_
  obtain ⟨x1, e2, H⟩ := zbind H
  refine zy_getR (pc := 1) dJ18_elementData_1 lf_J18_9 (fun _ _ => rfl) e2 ?_
  refine zw_iload_n (pc := 4) dJ18_elementData_4 rfl 1 rfl ?_
  obtain ⟨x3, e4, H⟩ := zbind H
  refine zy_aald (pc := 5) dJ18_elementData_5 (by decide) e4 ?_
  obtain rfl := Option.some.inj H
  exact zw_aret (pc := 6) dJ18_elementData_6 rfl (Or.inl ⟨_, rfl⟩) rfl rfl
def M_J19_checkIndex : zM := (yJ19_checkIndex, cJ19_checkIndex, 2, (.some .int), [])
theorem mf_J19_checkIndex : zMs M_J19_checkIndex 2 := ⟨⟨q1390, q217, ⟨by decide +kernel, by decide +kernel⟩, by decide +kernel, by decide⟩, q1389⟩
def f_J19_checkIndex (p0 : Int32) (p1 : Int32) (h : zH) : Option Int32 :=
  (f_J15_checkIndex p0 p1 none h).bind fun x2 =>
  some x2
theorem w_J19_checkIndex {G : zG} {p0 : Int32} {p1 : Int32} {h : zH} {vx : Int32} (H : f_J19_checkIndex p0 p1 h = some vx) : zMet G M_J19_checkIndex 3 [vI p0, vI p1] h (.inl (some (vI vx))) h := by
  refine zMet.of (by decide +kernel) (Nat.le_of_ble_eq_true rfl) ?_
  show zW G M_J19_checkIndex 3 h (.inl (some (vI vx))) h 0 [(0, vI p0), (1, vI p1)] [] h
  unfold f_J19_checkIndex at H
  refine zw_iload_n (pc := 0) dJ19_checkIndex_0 rfl 0 rfl ?_
  refine zw_iload_n (pc := 1) dJ19_checkIndex_1 rfl 1 rfl ?_
  refine zw_null (pc := 2) dJ19_checkIndex_2 ?_
  obtain ⟨x2, e1, H⟩ := zbind H
  refine zw_invS (pc := 3) (M' := M_J15_checkIndex) (A := [vI p0, vI p1, vR none]) [] dJ19_checkIndex_3 (Or.inl q1391) mf_J15_checkIndex (w_J15_checkIndex e1) (Nat.le_of_ble_eq_true rfl) rfl rfl (Nat.le_of_ble_eq_true rfl) (zkv ?_) zkn9
  obtain rfl := Option.some.inj H
  exact zw_iret (pc := 6) dJ19_checkIndex_6 rfl rfl rfl
def M_J18_get : zM := (yJ18_get, cJ18_get, 2, (.some (.object "java/lang/Object")), [])
theorem mf_J18_get : zMi M_J18_get 1 := ⟨⟨q1387, q208, ⟨by decide +kernel, by decide +kernel⟩, by decide +kernel, by decide⟩, q1385⟩
def f_J18_get (p0 : Option Nat) (p1 : Int32) (h : zH) : Option (Option Nat) :=
  (zgI 16 2 p0 h).bind fun x1 =>
  (f_J19_checkIndex p1 x1 h).bind fun x4 =>
  (zrv 16 p0 h).bind fun b5 =>
  (f_J18_elementData (some b5) p1 h).bind fun x10 =>
  some x10
theorem w_J18_get {G : zG} {p0 : Option Nat} {p1 : Int32} {h : zH} {vx : Option Nat} (H : f_J18_get p0 p1 h = some vx) : zMet G M_J18_get 4 [vR p0, vI p1] h (.inl (some (vR vx))) h := by
  refine zMet.of (by decide +kernel) (Nat.le_of_ble_eq_true rfl) ?_
  show zW G M_J18_get 4 h (.inl (some (vR vx))) h 0 [(0, vR p0), (1, vI p1)] [] h
  unfold f_J18_get at H
  refine zw_iload_n (pc := 0) dJ18_get_0 rfl 1 rfl ?_
  refine zw_aload_n (pc := 1) dJ18_get_1 rfl 0 rfl ?_
  obtain ⟨x1, e2, H⟩ := zbind H
  refine zy_getI (pc := 2) dJ18_get_2 lf_J18_48 (fun _ _ => rfl) e2 ?_
  obtain ⟨x4, e3, H⟩ := zbind H
  refine zw_invS (pc := 5) (M' := M_J19_checkIndex) (A := [vI p1, vI x1]) [] dJ18_get_5 (Or.inl q1388) mf_J19_checkIndex (w_J19_checkIndex e3) (Nat.le_of_ble_eq_true rfl) rfl rfl (Nat.le_of_ble_eq_true rfl) (zkv ?_) zkn9
  refine zw_pop (pc := 8) dJ18_get_8 rfl ?_
  refine zw_aload_n (pc := 9) dJ18_get_9 rfl 0 rfl ?_
  refine zw_iload_n (pc := 10) dJ18_get_10 rfl 1 rfl ?_
  obtain ⟨b5, e7, H⟩ := zbind H
  obtain ⟨e6, e8⟩ := zrv_ok e7
  obtain ⟨x10, e9, H⟩ := zbind H
  refine zw_invV (pc := 11) (M' := M_J18_elementData) (A := [vI p1]) [] dJ18_get_11 (Or.inl q1392) mf_J18_elementData q1394 (zkq e8 rfl) (w_J18_elementData e9) (Nat.le_of_ble_eq_true rfl) rfl (by rw [← e6]; rfl) (Nat.le_of_ble_eq_true rfl) (zkv ?_) zkn9
  obtain rfl := Option.some.inj H
  exact zw_aret (pc := 14) dJ18_get_14 rfl (Or.inl ⟨_, rfl⟩) rfl rfl
def M_J18_size : zM := (yJ18_size, cJ18_size, 1, (.some .int), [])
theorem mf_J18_size : zMi M_J18_size 0 := ⟨⟨q1405, q208, ⟨by decide +kernel, by decide +kernel⟩, by decide +kernel, by decide⟩, q1403⟩
def f_J18_size (p0 : Option Nat) (h : zH) : Option Int32 :=
  (zgI 16 2 p0 h).bind fun x1 =>
  some x1
theorem w_J18_size {G : zG} {p0 : Option Nat} {h : zH} {vx : Int32} (H : f_J18_size p0 h = some vx) : zMet G M_J18_size 2 [vR p0] h (.inl (some (vI vx))) h := by
  refine zMet.of (by decide +kernel) (Nat.le_of_ble_eq_true rfl) ?_
  show zW G M_J18_size 2 h (.inl (some (vI vx))) h 0 [(0, vR p0)] [] h
  unfold f_J18_size at H
  refine zw_aload_n (pc := 0) dJ18_size_0 rfl 0 rfl ?_
  obtain ⟨x1, e2, H⟩ := zbind H
  refine zy_getI (pc := 1) dJ18_size_1 lf_J18_48 (fun _ _ => rfl) e2 ?_
  obtain rfl := Option.some.inj H
  exact zw_iret (pc := 4) dJ18_size_4 rfl rfl rfl
def M_J15_checkFromIndexSize : zM := (yJ15_checkFromIndexSize, cJ15_checkFromIndexSize, 4, (.some .int), [])
theorem mf_J15_checkFromIndexSize : zMs M_J15_checkFromIndexSize 4 := ⟨⟨q775, q201, ⟨by decide +kernel, by decide +kernel⟩, by decide +kernel, by decide⟩, q774⟩
def f_J15_checkFromIndexSize (p0 : Int32) (p1 : Int32) (p2 : Int32) (p3 : Option Nat) (h : zH) : Option Int32 :=
  if ((p2 ||| p0) ||| p1) < 0 then
  none
  else
  if p1 ≤ (p2 - p0) then
  some p0
  else
  none
theorem w_J15_checkFromIndexSize {G : zG} {p0 : Int32} {p1 : Int32} {p2 : Int32} {p3 : Option Nat} {h : zH} {vx : Int32} (H : f_J15_checkFromIndexSize p0 p1 p2 p3 h = some vx) : zMet G M_J15_checkFromIndexSize 2 [vI p0, vI p1, vI p2, vR p3] h (.inl (some (vI vx))) h := by
  refine zMet.of (by decide +kernel) (Nat.le_of_ble_eq_true rfl) ?_
  show zW G M_J15_checkFromIndexSize 2 h (.inl (some (vI vx))) h 0 [(0, vI p0), (1, vI p1), (2, vI p2), (3, vR p3)] [] h
  unfold f_J15_checkFromIndexSize at H
  refine zw_iload_n (pc := 0) dJ15_checkFromIndexSize_0 rfl 2 rfl ?_
  refine zw_iload_n (pc := 1) dJ15_checkFromIndexSize_1 rfl 0 rfl ?_
  refine zw_ior (pc := 2) dJ15_checkFromIndexSize_2 ?_
  refine zw_iload_n (pc := 3) dJ15_checkFromIndexSize_3 rfl 1 rfl ?_
  refine zw_ior (pc := 4) dJ15_checkFromIndexSize_4 ?_
  rcases zif H with ⟨c1, H⟩ | ⟨c1, H⟩
  · refine zw_if_lt (pc := 5) (tgt := 15) dJ15_checkFromIndexSize_5 rfl (fun _ => ?_) (fun q => absurd c1 q)
    refine zw_aload_n (pc := 15) dJ15_checkFromIndexSize_15 rfl 3 rfl ?_
    refine zw_iload_n (pc := 16) dJ15_checkFromIndexSize_16 rfl 0 rfl ?_
    refine zw_iload_n (pc := 17) dJ15_checkFromIndexSize_17 rfl 1 rfl ?_
    refine zw_iload_n (pc := 18) dJ15_checkFromIndexSize_18 rfl 2 rfl ?_
    cases H
  · refine zw_if_lt (pc := 5) (tgt := 15) dJ15_checkFromIndexSize_5 rfl (fun q => absurd q c1) (fun _ => ?_)
    refine zw_iload_n (pc := 8) dJ15_checkFromIndexSize_8 rfl 1 rfl ?_
    refine zw_iload_n (pc := 9) dJ15_checkFromIndexSize_9 rfl 2 rfl ?_
    refine zw_iload_n (pc := 10) dJ15_checkFromIndexSize_10 rfl 0 rfl ?_
    refine zw_isub (pc := 11) dJ15_checkFromIndexSize_11 ?_
    rcases zif H with ⟨c2, H⟩ | ⟨c2, H⟩
    · refine zw_icmp_le (pc := 12) (tgt := 23) dJ15_checkFromIndexSize_12 rfl (fun _ => ?_) (fun q => absurd c2 q)
      refine zw_iload_n (pc := 23) dJ15_checkFromIndexSize_23 rfl 0 rfl ?_
      obtain rfl := Option.some.inj H
      exact zw_iret (pc := 24) dJ15_checkFromIndexSize_24 rfl rfl rfl
    · refine zw_icmp_le (pc := 12) (tgt := 23) dJ15_checkFromIndexSize_12 rfl (fun q => absurd q c2) (fun _ => ?_)
      refine zw_aload_n (pc := 15) dJ15_checkFromIndexSize_15 rfl 3 rfl ?_
      refine zw_iload_n (pc := 16) dJ15_checkFromIndexSize_16 rfl 0 rfl ?_
      refine zw_iload_n (pc := 17) dJ15_checkFromIndexSize_17 rfl 1 rfl ?_
      refine zw_iload_n (pc := 18) dJ15_checkFromIndexSize_18 rfl 2 rfl ?_
      cases H
def M_J4_checkBoundsOffCount : zM := (yJ4_checkBoundsOffCount, cJ4_checkBoundsOffCount, 3, (.some .int), [])
theorem mf_J4_checkBoundsOffCount : zMs M_J4_checkBoundsOffCount 3 := ⟨⟨q770, q187, ⟨by decide +kernel, by decide +kernel⟩, by decide +kernel, by decide⟩, q769⟩
def f_J4_checkBoundsOffCount (p0 : Int32) (p1 : Int32) (p2 : Int32) (h : zH) : Option Int32 :=
  (f_J15_checkFromIndexSize p0 p1 p2 (zsv h 9) h).bind fun x2 =>
  some x2
theorem w_J4_checkBoundsOffCount {G : zG} {p0 : Int32} {p1 : Int32} {p2 : Int32} {h : zH} {vx : Int32} (H : f_J4_checkBoundsOffCount p0 p1 p2 h = some vx) : zMet G M_J4_checkBoundsOffCount 3 [vI p0, vI p1, vI p2] h (.inl (some (vI vx))) h := by
  refine zMet.of (by decide +kernel) (Nat.le_of_ble_eq_true rfl) ?_
  show zW G M_J4_checkBoundsOffCount 3 h (.inl (some (vI vx))) h 0 [(0, vI p0), (1, vI p1), (2, vI p2)] [] h
  unfold f_J4_checkBoundsOffCount at H
  refine zw_iload_n (pc := 0) dJ4_checkBoundsOffCount_0 rfl 0 rfl ?_
  refine zw_iload_n (pc := 1) dJ4_checkBoundsOffCount_1 rfl 1 rfl ?_
  refine zw_iload_n (pc := 2) dJ4_checkBoundsOffCount_2 rfl 2 rfl ?_
  refine zw_gets (pc := 3) 9 dJ4_checkBoundsOffCount_3 rfl q771 rfl (show zstv _ 9 = vR (zsv h 9) from rfl) ?_
  obtain ⟨x2, e1, H⟩ := zbind H
  refine zw_invS (pc := 6) (M' := M_J15_checkFromIndexSize) (A := [vI p0, vI p1, vI p2, vR (zsv h 9)]) [] dJ4_checkBoundsOffCount_6 (Or.inl q773) mf_J15_checkFromIndexSize (w_J15_checkFromIndexSize e1) (Nat.le_of_ble_eq_true rfl) rfl rfl (Nat.le_of_ble_eq_true rfl) (zkv ?_) zkn9
  obtain rfl := Option.some.inj H
  exact zw_iret (pc := 9) dJ4_checkBoundsOffCount_9 rfl rfl rfl
def M_J15_checkFromToIndex : zM := (yJ15_checkFromToIndex, cJ15_checkFromToIndex, 4, (.some .int), [])
theorem mf_J15_checkFromToIndex : zMs M_J15_checkFromToIndex 4 := ⟨⟨q857, q201, ⟨by decide +kernel, by decide +kernel⟩, by decide +kernel, by decide⟩, q856⟩
def f_J15_checkFromToIndex (p0 : Int32) (p1 : Int32) (p2 : Int32) (p3 : Option Nat) (h : zH) : Option Int32 :=
  if p0 < 0 then
  none
  else
  if p1 < p0 then
  none
  else
  if p1 ≤ p2 then
  some p0
  else
  none
theorem w_J15_checkFromToIndex {G : zG} {p0 : Int32} {p1 : Int32} {p2 : Int32} {p3 : Option Nat} {h : zH} {vx : Int32} (H : f_J15_checkFromToIndex p0 p1 p2 p3 h = some vx) : zMet G M_J15_checkFromToIndex 2 [vI p0, vI p1, vI p2, vR p3] h (.inl (some (vI vx))) h := by
  refine zMet.of (by decide +kernel) (Nat.le_of_ble_eq_true rfl) ?_
  show zW G M_J15_checkFromToIndex 2 h (.inl (some (vI vx))) h 0 [(0, vI p0), (1, vI p1), (2, vI p2), (3, vR p3)] [] h
  unfold f_J15_checkFromToIndex at H
  refine zw_iload_n (pc := 0) dJ15_checkFromToIndex_0 rfl 0 rfl ?_
  rcases zif H with ⟨c1, H⟩ | ⟨c1, H⟩
  · refine zw_if_lt (pc := 1) (tgt := 14) dJ15_checkFromToIndex_1 rfl (fun _ => ?_) (fun q => absurd c1 q)
    refine zw_aload_n (pc := 14) dJ15_checkFromToIndex_14 rfl 3 rfl ?_
    refine zw_iload_n (pc := 15) dJ15_checkFromToIndex_15 rfl 0 rfl ?_
    refine zw_iload_n (pc := 16) dJ15_checkFromToIndex_16 rfl 1 rfl ?_
    refine zw_iload_n (pc := 17) dJ15_checkFromToIndex_17 rfl 2 rfl ?_
    cases H
  · refine zw_if_lt (pc := 1) (tgt := 14) dJ15_checkFromToIndex_1 rfl (fun q => absurd q c1) (fun _ => ?_)
    refine zw_iload_n (pc := 4) dJ15_checkFromToIndex_4 rfl 0 rfl ?_
    refine zw_iload_n (pc := 5) dJ15_checkFromToIndex_5 rfl 1 rfl ?_
    rcases zif H with ⟨c2, H⟩ | ⟨c2, H⟩
    · refine zw_icmp_gt (pc := 6) (tgt := 14) dJ15_checkFromToIndex_6 rfl (fun _ => ?_) (fun q => absurd c2 q)
      refine zw_aload_n (pc := 14) dJ15_checkFromToIndex_14 rfl 3 rfl ?_
      refine zw_iload_n (pc := 15) dJ15_checkFromToIndex_15 rfl 0 rfl ?_
      refine zw_iload_n (pc := 16) dJ15_checkFromToIndex_16 rfl 1 rfl ?_
      refine zw_iload_n (pc := 17) dJ15_checkFromToIndex_17 rfl 2 rfl ?_
      cases H
    · refine zw_icmp_gt (pc := 6) (tgt := 14) dJ15_checkFromToIndex_6 rfl (fun q => absurd q c2) (fun _ => ?_)
      refine zw_iload_n (pc := 9) dJ15_checkFromToIndex_9 rfl 1 rfl ?_
      refine zw_iload_n (pc := 10) dJ15_checkFromToIndex_10 rfl 2 rfl ?_
      rcases zif H with ⟨c3, H⟩ | ⟨c3, H⟩
      · refine zw_icmp_le (pc := 11) (tgt := 22) dJ15_checkFromToIndex_11 rfl (fun _ => ?_) (fun q => absurd c3 q)
        refine zw_iload_n (pc := 22) dJ15_checkFromToIndex_22 rfl 0 rfl ?_
        obtain rfl := Option.some.inj H
        exact zw_iret (pc := 23) dJ15_checkFromToIndex_23 rfl rfl rfl
      · refine zw_icmp_le (pc := 11) (tgt := 22) dJ15_checkFromToIndex_11 rfl (fun q => absurd q c3) (fun _ => ?_)
        refine zw_aload_n (pc := 14) dJ15_checkFromToIndex_14 rfl 3 rfl ?_
        refine zw_iload_n (pc := 15) dJ15_checkFromToIndex_15 rfl 0 rfl ?_
        refine zw_iload_n (pc := 16) dJ15_checkFromToIndex_16 rfl 1 rfl ?_
        refine zw_iload_n (pc := 17) dJ15_checkFromToIndex_17 rfl 2 rfl ?_
        cases H
def M_J4_checkBoundsBeginEnd : zM := (yJ4_checkBoundsBeginEnd, cJ4_checkBoundsBeginEnd, 3, none, [])
theorem mf_J4_checkBoundsBeginEnd : zMs M_J4_checkBoundsBeginEnd 3 := ⟨⟨q854, q187, ⟨by decide +kernel, by decide +kernel⟩, by decide +kernel, by decide⟩, q853⟩
def f_J4_checkBoundsBeginEnd (p0 : Int32) (p1 : Int32) (p2 : Int32) (h : zH) : Option Unit :=
  (f_J15_checkFromToIndex p0 p1 p2 (zsv h 9) h).bind fun x2 =>
  some ()
theorem w_J4_checkBoundsBeginEnd {G : zG} {p0 : Int32} {p1 : Int32} {p2 : Int32} {h : zH} {vx : Unit} (H : f_J4_checkBoundsBeginEnd p0 p1 p2 h = some vx) : zMet G M_J4_checkBoundsBeginEnd 3 [vI p0, vI p1, vI p2] h (.inl none) h := by
  refine zMet.of (by decide +kernel) (Nat.le_of_ble_eq_true rfl) ?_
  show zW G M_J4_checkBoundsBeginEnd 3 h (.inl none) h 0 [(0, vI p0), (1, vI p1), (2, vI p2)] [] h
  unfold f_J4_checkBoundsBeginEnd at H
  refine zw_iload_n (pc := 0) dJ4_checkBoundsBeginEnd_0 rfl 0 rfl ?_
  refine zw_iload_n (pc := 1) dJ4_checkBoundsBeginEnd_1 rfl 1 rfl ?_
  refine zw_iload_n (pc := 2) dJ4_checkBoundsBeginEnd_2 rfl 2 rfl ?_
  refine zw_gets (pc := 3) 9 dJ4_checkBoundsBeginEnd_3 rfl q771 rfl (show zstv _ 9 = vR (zsv h 9) from rfl) ?_
  obtain ⟨x2, e1, H⟩ := zbind H
  refine zw_invS (pc := 6) (M' := M_J15_checkFromToIndex) (A := [vI p0, vI p1, vI p2, vR (zsv h 9)]) [] dJ4_checkBoundsBeginEnd_6 (Or.inl q855) mf_J15_checkFromToIndex (w_J15_checkFromToIndex e1) (Nat.le_of_ble_eq_true rfl) rfl rfl (Nat.le_of_ble_eq_true rfl) (zkv ?_) zkn9
  refine zw_pop (pc := 9) dJ4_checkBoundsBeginEnd_9 rfl ?_
  obtain rfl := Option.some.inj H
  exact zw_vret (pc := 10) dJ4_checkBoundsBeginEnd_10 rfl rfl rfl
def M_J14_equals : zM := (yJ14_equals, cJ14_equals, 3, (.some .boolean), [])
theorem mf_J14_equals : zMs M_J14_equals 2 := ⟨⟨q953, q200, ⟨by decide +kernel, by decide +kernel⟩, by decide +kernel, by decide⟩, q952⟩
def B_J14_equals_9 (k9 : Option Nat → Option Nat → Int32 → Option Int32) (a0 : Option Nat) (a1 : Option Nat) (a2 : Int32) (h : zH) : Option Int32 :=
  (zaN a0 h).bind fun x1 =>
  if x1 ≤ a2 then
  some (1 : Int32)
  else
  (zaI 53 a0 a2 h).bind fun x4 =>
  (zaI 53 a1 a2 h).bind fun x6 =>
  if x4 = x6 then
  k9 a0 a1 (a2 + (1 : Int32))
  else
  some (0 : Int32)
theorem wB_J14_equals_9 {G : zG} {h0 h : zH} {vx : Int32} {k9 : Option Nat → Option Nat → Int32 → Option Int32} (hk9 : ∀ (b0 : Option Nat) (b1 : Option Nat) (b2 : Int32), k9 b0 b1 b2 = some vx → zW G M_J14_equals 2 h0 (.inl (some (vI vx))) h 9 [(0, vR b0), (1, vR b1), (2, vI b2)] [] h) {a0 : Option Nat} {a1 : Option Nat} {a2 : Int32} (H : B_J14_equals_9 k9 a0 a1 a2 h = some vx) : zW G M_J14_equals 2 h0 (.inl (some (vI vx))) h 9 [(0, vR a0), (1, vR a1), (2, vI a2)] [] h := by
  unfold B_J14_equals_9 at H
  refine zw_iload_n (pc := 9) dJ14_equals_9 rfl 2 rfl ?_
  refine zw_aload_n (pc := 10) dJ14_equals_10 rfl 0 rfl ?_
  obtain ⟨x1, e2, H⟩ := zbind H
  refine zy_alen (pc := 11) dJ14_equals_11 e2 ?_
  rcases zif H with ⟨c3, H⟩ | ⟨c3, H⟩
  · refine zw_icmp_ge (pc := 12) (tgt := 32) dJ14_equals_12 rfl (fun _ => ?_) (fun q => absurd c3 q)
    refine zw_iconst (pc := 32) (v := (1 : Int32)) dJ14_equals_32 (by decide) ?_
    obtain rfl := Option.some.inj H
    exact zw_zret (pc := 33) dJ14_equals_33 rfl rfl rfl rfl
  · refine zw_icmp_ge (pc := 12) (tgt := 32) dJ14_equals_12 rfl (fun q => absurd q c3) (fun _ => ?_)
    refine zw_aload_n (pc := 15) dJ14_equals_15 rfl 0 rfl ?_
    refine zw_iload_n (pc := 16) dJ14_equals_16 rfl 2 rfl ?_
    obtain ⟨x4, e5, H⟩ := zbind H
    refine zy_bald (pc := 17) dJ14_equals_17 e5 ?_
    refine zw_aload_n (pc := 18) dJ14_equals_18 rfl 1 rfl ?_
    refine zw_iload_n (pc := 19) dJ14_equals_19 rfl 2 rfl ?_
    obtain ⟨x6, e7, H⟩ := zbind H
    refine zy_bald (pc := 20) dJ14_equals_20 e7 ?_
    rcases zif H with ⟨c8, H⟩ | ⟨c8, H⟩
    · refine zw_icmp_eq (pc := 21) (tgt := 26) dJ14_equals_21 rfl (fun _ => ?_) (fun q => absurd c8 q)
      refine zw_iinc (pc := 26) (v := (a2 + (1 : Int32))) (lv' := [(2, vI (a2 + (1 : Int32))), (0, vR a0), (1, vR a1)]) dJ14_equals_26 2 rfl rfl (by decide) rfl ?_
      refine zw_goto (pc := 29) (tgt := 9) dJ14_equals_29 rfl ?_
      refine zW_pick (lv' := [(0, vR a0), (1, vR a1), (2, vI (a2 + (1 : Int32)))]) [1, 2, 0] rfl ?_
      exact hk9 _ _ _ H
    · refine zw_icmp_eq (pc := 21) (tgt := 26) dJ14_equals_21 rfl (fun q => absurd q c8) (fun _ => ?_)
      refine zw_iconst (pc := 24) (v := (0 : Int32)) dJ14_equals_24 (by decide) ?_
      obtain rfl := Option.some.inj H
      exact zw_zret (pc := 25) dJ14_equals_25 rfl rfl rfl rfl
def f_J14_equals (p0 : Option Nat) (p1 : Option Nat) (h : zH) : Option Int32 :=
  (zaN p0 h).bind fun x1 =>
  (zaN p1 h).bind fun x3 =>
  if x1 = x3 then
  zloop (fun f c0 c1 c2 => B_J14_equals_9 f c0 c1 c2 h) (fun _ _ _ => none) zFU p0 p1 (0 : Int32)
  else
  some (0 : Int32)
theorem w_J14_equals {G : zG} {p0 : Option Nat} {p1 : Option Nat} {h : zH} {vx : Int32} (H : f_J14_equals p0 p1 h = some vx) : zMet G M_J14_equals 2 [vR p0, vR p1] h (.inl (some (vI vx))) h := by
  refine zMet.of (by decide +kernel) (Nat.le_of_ble_eq_true rfl) ?_
  show zW G M_J14_equals 2 h (.inl (some (vI vx))) h 0 [(0, vR p0), (1, vR p1)] [] h
  unfold f_J14_equals at H
  refine zw_aload_n (pc := 0) dJ14_equals_0 rfl 0 rfl ?_
  obtain ⟨x1, e2, H⟩ := zbind H
  refine zy_alen (pc := 1) dJ14_equals_1 e2 ?_
  refine zw_aload_n (pc := 2) dJ14_equals_2 rfl 1 rfl ?_
  obtain ⟨x3, e4, H⟩ := zbind H
  refine zy_alen (pc := 3) dJ14_equals_3 e4 ?_
  rcases zif H with ⟨c5, H⟩ | ⟨c5, H⟩
  · refine zw_icmp_ne (pc := 4) (tgt := 34) dJ14_equals_4 rfl (fun q => absurd c5 q) (fun _ => ?_)
    refine zw_iconst (pc := 7) (v := (0 : Int32)) dJ14_equals_7 (by decide) ?_
    refine zw_istore_n (pc := 8) (lv' := [(2, vI (0 : Int32)), (0, vR p0), (1, vR p1)]) dJ14_equals_8 rfl (by decide) rfl ?_
    refine zW_pick (lv' := [(0, vR p0), (1, vR p1), (2, vI (0 : Int32))]) [1, 2, 0] rfl ?_
    exact zloop_ind (body := (fun f c0 c1 c2 => B_J14_equals_9 f c0 c1 c2 h)) (bot := (fun _ _ _ => none)) (P := (fun (f : Option Nat → Option Nat → Int32 → Option Int32) => ∀ (b0 : Option Nat) (b1 : Option Nat) (b2 : Int32), f b0 b1 b2 = some vx → zW G M_J14_equals 2 h (.inl (some (vI vx))) h 9 [(0, vR b0), (1, vR b1), (2, vI b2)] [] h)) zFU (fun _ _ _ H => nomatch H) (fun f hf c0 c1 c2 H => wB_J14_equals_9 hf H) _ _ _ H
  · refine zw_icmp_ne (pc := 4) (tgt := 34) dJ14_equals_4 rfl (fun _ => ?_) (fun q => absurd q c5)
    refine zw_iconst (pc := 34) (v := (0 : Int32)) dJ14_equals_34 (by decide) ?_
    obtain rfl := Option.some.inj H
    exact zw_zret (pc := 35) dJ14_equals_35 rfl rfl rfl rfl
theorem li_J4_10 : zIs "java/lang/String" 10 19 [] := ⟨_, q950, rfl, fun k hk => nomatch hk⟩
theorem lc_J4_10 : zCt "java/lang/String" 10 [19] := ⟨_, q950, by
  intro k hk
  simp only [List.mem_cons, List.not_mem_nil, or_false] at hk
  rcases hk with rfl <;> first | exact Or.inl ⟨by decide, by decide +kernel⟩ | exact Or.inr ⟨_, rfl, Or.inl rfl⟩ | exact Or.inr ⟨_, rfl, Or.inr (by decide +kernel)⟩⟩
def M_J4_equals : zM := (yJ4_equals, cJ4_equals, 3, (.some .boolean), [])
theorem mf_J4_equals : zMi M_J4_equals 1 := ⟨⟨q949, q187, ⟨by decide +kernel, by decide +kernel⟩, by decide +kernel, by decide⟩, q947⟩
def B_J4_equals_36 (a0 : Option Nat) (a1 : Option Nat) (h : zH) : Option Int32 :=
  (zgR 19 0 a0 h).bind fun x1 =>
  (zgR 19 0 a1 h).bind fun x3 =>
  (f_J14_equals x1 x3 h).bind fun x6 =>
  if x6 = 0 then
  some (0 : Int32)
  else
  some (1 : Int32)
theorem wB_J4_equals_36 {G : zG} {h0 h : zH} {vx : Int32} {a0 : Option Nat} {a1 : Option Nat} (H : B_J4_equals_36 a0 a1 h = some vx) : zW G M_J4_equals 3 h0 (.inl (some (vI vx))) h 36 [(0, vR a0), (2, vR a1)] [] h := by
  unfold B_J4_equals_36 at H
  refine zw_aload_n (pc := 36) dJ4_equals_36 rfl 0 rfl ?_
  obtain ⟨x1, e2, H⟩ := zbind H
  refine zy_getR (pc := 37) dJ4_equals_37 lf_J4_9 (fun _ _ => rfl) e2 ?_
  refine zw_aload_n (pc := 40) dJ4_equals_40 rfl 1 rfl ?_
  obtain ⟨x3, e4, H⟩ := zbind H
  refine zy_getR (pc := 41) dJ4_equals_41 lf_J4_9 (fun _ _ => rfl) e4 ?_
  obtain ⟨x6, e5, H⟩ := zbind H
  refine zw_invS (pc := 44) (M' := M_J14_equals) (A := [vR x1, vR x3]) [] dJ4_equals_44 (Or.inl q951) mf_J14_equals (w_J14_equals e5) (Nat.le_of_ble_eq_true rfl) rfl rfl (Nat.le_of_ble_eq_true rfl) (zkv ?_) zkn9
  rcases zif H with ⟨c7, H⟩ | ⟨c7, H⟩
  · refine zw_if_eq (pc := 47) (tgt := 54) dJ4_equals_47 rfl (fun _ => ?_) (fun q => absurd c7 q)
    refine zw_iconst (pc := 54) (v := (0 : Int32)) dJ4_equals_54 (by decide) ?_
    obtain rfl := Option.some.inj H
    exact zw_zret (pc := 55) dJ4_equals_55 rfl rfl rfl rfl
  · refine zw_if_eq (pc := 47) (tgt := 54) dJ4_equals_47 rfl (fun q => absurd q c7) (fun _ => ?_)
    refine zw_iconst (pc := 50) (v := (1 : Int32)) dJ4_equals_50 (by decide) ?_
    refine zw_goto (pc := 51) (tgt := 55) dJ4_equals_51 rfl ?_
    obtain rfl := Option.some.inj H
    exact zw_zret (pc := 55) dJ4_equals_55 rfl rfl rfl rfl
def f_J4_equals (p0 : Option Nat) (p1 : Option Nat) (h : zH) : Option Int32 :=
  if p0 = p1 then
  some (1 : Int32)
  else
  (zis 19 [] p1 h).bind fun x2 =>
  if x2 = 0 then
  some (0 : Int32)
  else
  if zct [19] p1 h = true then
  if (1 : Int32) = 0 then
  B_J4_equals_36 p0 p1 h
  else
  (zgI 19 1 p0 h).bind fun x7 =>
  (zgI 19 1 p1 h).bind fun x9 =>
  if x7 = x9 then
  B_J4_equals_36 p0 p1 h
  else
  some (0 : Int32)
  else none
theorem w_J4_equals {G : zG} {p0 : Option Nat} {p1 : Option Nat} {h : zH} {vx : Int32} (H : f_J4_equals p0 p1 h = some vx) : zMet G M_J4_equals 3 [vR p0, vR p1] h (.inl (some (vI vx))) h := by
  refine zMet.of (by decide +kernel) (Nat.le_of_ble_eq_true rfl) ?_
  show zW G M_J4_equals 3 h (.inl (some (vI vx))) h 0 [(0, vR p0), (1, vR p1)] [] h
  unfold f_J4_equals at H
  refine zw_aload_n (pc := 0) dJ4_equals_0 rfl 0 rfl ?_
  refine zw_aload_n (pc := 1) dJ4_equals_1 rfl 1 rfl ?_
  rcases zif H with ⟨c1, H⟩ | ⟨c1, H⟩
  · refine zw_acmp_ne (pc := 2) (tgt := 7) dJ4_equals_2 rfl (fun q => absurd c1 q) (fun _ => ?_)
    refine zw_iconst (pc := 5) (v := (1 : Int32)) dJ4_equals_5 (by decide) ?_
    obtain rfl := Option.some.inj H
    exact zw_zret (pc := 6) dJ4_equals_6 rfl rfl rfl rfl
  · refine zw_acmp_ne (pc := 2) (tgt := 7) dJ4_equals_2 rfl (fun _ => ?_) (fun q => absurd q c1)
    refine zw_aload_n (pc := 7) dJ4_equals_7 rfl 1 rfl ?_
    obtain ⟨x2, e3, H⟩ := zbind H
    refine zy_inst (pc := 8) [] dJ4_equals_8 li_J4_10 e3 ?_
    rcases zif H with ⟨c4, H⟩ | ⟨c4, H⟩
    · refine zw_if_eq (pc := 11) (tgt := 54) dJ4_equals_11 rfl (fun _ => ?_) (fun q => absurd c4 q)
      refine zw_iconst (pc := 54) (v := (0 : Int32)) dJ4_equals_54 (by decide) ?_
      obtain rfl := Option.some.inj H
      exact zw_zret (pc := 55) dJ4_equals_55 rfl rfl rfl rfl
    · refine zw_if_eq (pc := 11) (tgt := 54) dJ4_equals_11 rfl (fun q => absurd q c4) (fun _ => ?_)
      refine zw_aload_n (pc := 14) dJ4_equals_14 rfl 1 rfl ?_
      obtain ⟨c5, H⟩ := zgd H
      refine zy_cast (pc := 15) [19] dJ4_equals_15 lc_J4_10 c5 ?_
      refine zw_astore_n (pc := 18) (lv' := [(2, vR p1), (0, vR p0), (1, vR p1)]) dJ4_equals_18 rfl (by decide) rfl ?_
      refine zw_gets (pc := 19) 0 dJ4_equals_19 rfl q886 rfl (show zstv _ 0 = vI (1 : Int32) from rfl) ?_
      rcases zif H with ⟨c6, H⟩ | ⟨c6, H⟩
      · refine zw_if_eq (pc := 22) (tgt := 36) dJ4_equals_22 rfl (fun _ => ?_) (fun q => absurd c6 q)
        refine zW_pick (lv' := [(0, vR p0), (2, vR p1)]) [1, 0] rfl ?_
        exact wB_J4_equals_36 H
      · refine zw_if_eq (pc := 22) (tgt := 36) dJ4_equals_22 rfl (fun q => absurd q c6) (fun _ => ?_)
        refine zw_aload_n (pc := 25) dJ4_equals_25 rfl 1 rfl ?_
        obtain ⟨x7, e8, H⟩ := zbind H
        refine zy_getI (pc := 26) dJ4_equals_26 lf_J4_15 (fun _ _ => rfl) e8 ?_
        refine zw_aload_n (pc := 29) dJ4_equals_29 rfl 0 rfl ?_
        obtain ⟨x9, e10, H⟩ := zbind H
        refine zy_getI (pc := 30) dJ4_equals_30 lf_J4_15 (fun _ _ => rfl) e10 ?_
        rcases zif H with ⟨c11, H⟩ | ⟨c11, H⟩
        · refine zw_icmp_ne (pc := 33) (tgt := 54) dJ4_equals_33 rfl (fun q => absurd c11 q) (fun _ => ?_)
          refine zW_pick (lv' := [(0, vR p0), (2, vR p1)]) [1, 0] rfl ?_
          exact wB_J4_equals_36 H
        · refine zw_icmp_ne (pc := 33) (tgt := 54) dJ4_equals_33 rfl (fun _ => ?_) (fun q => absurd q c11)
          refine zw_iconst (pc := 54) (v := (0 : Int32)) dJ4_equals_54 (by decide) ?_
          obtain rfl := Option.some.inj H
          exact zw_zret (pc := 55) dJ4_equals_55 rfl rfl rfl rfl
def M_J11_hashCode : zM := (yJ11_hashCode, cJ11_hashCode, 6, (.some .int), [])
theorem mf_J11_hashCode : zMs M_J11_hashCode 4 := ⟨⟨q1029, q196, ⟨by decide +kernel, by decide +kernel⟩, by decide +kernel, by decide⟩, q1028⟩
def B_J11_hashCode_8 (k8 : Int32 → Option Nat → Int32 → Int32 → Option Int32) (a0 : Int32) (a1 : Option Nat) (a2 : Int32) (a3 : Int32) (h : zH) : Option Int32 :=
  if a2 ≤ a3 then
  some a0
  else
  none
theorem wB_J11_hashCode_8 {G : zG} {h0 h : zH} {vx : Int32} {k8 : Int32 → Option Nat → Int32 → Int32 → Option Int32} (hk8 : ∀ (b0 : Int32) (b1 : Option Nat) (b2 : Int32) (b3 : Int32), k8 b0 b1 b2 b3 = some vx → zW G M_J11_hashCode 2 h0 (.inl (some (vI vx))) h 8 [(0, vI b0), (1, vR b1), (4, vI b2), (5, vI b3)] [] h) {a0 : Int32} {a1 : Option Nat} {a2 : Int32} {a3 : Int32} (H : B_J11_hashCode_8 k8 a0 a1 a2 a3 h = some vx) : zW G M_J11_hashCode 2 h0 (.inl (some (vI vx))) h 8 [(0, vI a0), (1, vR a1), (4, vI a2), (5, vI a3)] [] h := by
  unfold B_J11_hashCode_8 at H
  refine zw_iload (pc := 8) dJ11_hashCode_8 3 rfl ?_
  refine zw_iload (pc := 10) dJ11_hashCode_10 2 rfl ?_
  rcases zif H with ⟨c1, H⟩ | ⟨c1, H⟩
  · refine zw_icmp_ge (pc := 12) (tgt := 31) dJ11_hashCode_12 rfl (fun _ => ?_) (fun q => absurd c1 q)
    refine zw_iload_n (pc := 31) dJ11_hashCode_31 rfl 0 rfl ?_
    obtain rfl := Option.some.inj H
    exact zw_iret (pc := 32) dJ11_hashCode_32 rfl rfl rfl
  · refine zw_icmp_ge (pc := 12) (tgt := 31) dJ11_hashCode_12 rfl (fun q => absurd q c1) (fun _ => ?_)
    refine zw_bipush (pc := 15) (v := (31 : Int32)) dJ11_hashCode_15 (by decide) ?_
    refine zw_iload_n (pc := 17) dJ11_hashCode_17 rfl 0 rfl ?_
    refine zw_imul (pc := 18) dJ11_hashCode_18 ?_
    refine zw_aload_n (pc := 19) dJ11_hashCode_19 rfl 1 rfl ?_
    refine zw_iload (pc := 20) dJ11_hashCode_20 3 rfl ?_
    cases H
def f_J11_hashCode (p0 : Int32) (p1 : Option Nat) (p2 : Int32) (p3 : Int32) (h : zH) : Option Int32 :=
  zloop (fun f c0 c1 c2 c3 => B_J11_hashCode_8 f c0 c1 c2 c3 h) (fun _ _ _ _ => none) zFU p0 p1 (p2 + p3) p2
theorem w_J11_hashCode {G : zG} {p0 : Int32} {p1 : Option Nat} {p2 : Int32} {p3 : Int32} {h : zH} {vx : Int32} (H : f_J11_hashCode p0 p1 p2 p3 h = some vx) : zMet G M_J11_hashCode 2 [vI p0, vR p1, vI p2, vI p3] h (.inl (some (vI vx))) h := by
  refine zMet.of (by decide +kernel) (Nat.le_of_ble_eq_true rfl) ?_
  show zW G M_J11_hashCode 2 h (.inl (some (vI vx))) h 0 [(0, vI p0), (1, vR p1), (2, vI p2), (3, vI p3)] [] h
  unfold f_J11_hashCode at H
  refine zw_iload_n (pc := 0) dJ11_hashCode_0 rfl 2 rfl ?_
  refine zw_iload_n (pc := 1) dJ11_hashCode_1 rfl 3 rfl ?_
  refine zw_iadd (pc := 2) dJ11_hashCode_2 ?_
  refine zw_istore (pc := 3) (lv' := [(4, vI (p2 + p3)), (0, vI p0), (1, vR p1), (2, vI p2), (3, vI p3)]) dJ11_hashCode_3 (by decide) rfl ?_
  refine zw_iload_n (pc := 5) dJ11_hashCode_5 rfl 3 rfl ?_
  refine zw_istore (pc := 6) (lv' := [(5, vI p2), (4, vI (p2 + p3)), (0, vI p0), (1, vR p1), (2, vI p2), (3, vI p3)]) dJ11_hashCode_6 (by decide) rfl ?_
  refine zW_pick (lv' := [(0, vI p0), (1, vR p1), (4, vI (p2 + p3)), (5, vI p2)]) [2, 3, 1, 0] rfl ?_
  exact zloop_ind (body := (fun f c0 c1 c2 c3 => B_J11_hashCode_8 f c0 c1 c2 c3 h)) (bot := (fun _ _ _ _ => none)) (P := (fun (f : Int32 → Option Nat → Int32 → Int32 → Option Int32) => ∀ (b0 : Int32) (b1 : Option Nat) (b2 : Int32) (b3 : Int32), f b0 b1 b2 b3 = some vx → zW G M_J11_hashCode 2 h (.inl (some (vI vx))) h 8 [(0, vI b0), (1, vR b1), (4, vI b2), (5, vI b3)] [] h)) zFU (fun _ _ _ _ H => nomatch H) (fun f hf c0 c1 c2 c3 H => wB_J11_hashCode_8 hf H) _ _ _ _ H
def M_J11_hashCode_2 : zM := (yJ11_hashCode_2, cJ11_hashCode_2, 6, (.some .int), [])
theorem mf_J11_hashCode_2 : zMs M_J11_hashCode_2 4 := ⟨⟨q1032, q196, ⟨by decide +kernel, by decide +kernel⟩, by decide +kernel, by decide⟩, q1031⟩
def B_J11_hashCode_2_8 (k8 : Int32 → Option Nat → Int32 → Int32 → Option Int32) (a0 : Int32) (a1 : Option Nat) (a2 : Int32) (a3 : Int32) (h : zH) : Option Int32 :=
  if a2 ≤ a3 then
  some a0
  else
  (zaI 53 a1 a3 h).bind fun x2 =>
  k8 (((31 : Int32) * a0) + x2) a1 a2 (a3 + (1 : Int32))
theorem wB_J11_hashCode_2_8 {G : zG} {h0 h : zH} {vx : Int32} {k8 : Int32 → Option Nat → Int32 → Int32 → Option Int32} (hk8 : ∀ (b0 : Int32) (b1 : Option Nat) (b2 : Int32) (b3 : Int32), k8 b0 b1 b2 b3 = some vx → zW G M_J11_hashCode_2 2 h0 (.inl (some (vI vx))) h 8 [(0, vI b0), (1, vR b1), (4, vI b2), (5, vI b3)] [] h) {a0 : Int32} {a1 : Option Nat} {a2 : Int32} {a3 : Int32} (H : B_J11_hashCode_2_8 k8 a0 a1 a2 a3 h = some vx) : zW G M_J11_hashCode_2 2 h0 (.inl (some (vI vx))) h 8 [(0, vI a0), (1, vR a1), (4, vI a2), (5, vI a3)] [] h := by
  unfold B_J11_hashCode_2_8 at H
  refine zw_iload (pc := 8) dJ11_hashCode_2_8 3 rfl ?_
  refine zw_iload (pc := 10) dJ11_hashCode_2_10 2 rfl ?_
  rcases zif H with ⟨c1, H⟩ | ⟨c1, H⟩
  · refine zw_icmp_ge (pc := 12) (tgt := 31) dJ11_hashCode_2_12 rfl (fun _ => ?_) (fun q => absurd c1 q)
    refine zw_iload_n (pc := 31) dJ11_hashCode_2_31 rfl 0 rfl ?_
    obtain rfl := Option.some.inj H
    exact zw_iret (pc := 32) dJ11_hashCode_2_32 rfl rfl rfl
  · refine zw_icmp_ge (pc := 12) (tgt := 31) dJ11_hashCode_2_12 rfl (fun q => absurd q c1) (fun _ => ?_)
    refine zw_bipush (pc := 15) (v := (31 : Int32)) dJ11_hashCode_2_15 (by decide) ?_
    refine zw_iload_n (pc := 17) dJ11_hashCode_2_17 rfl 0 rfl ?_
    refine zw_imul (pc := 18) dJ11_hashCode_2_18 ?_
    refine zw_aload_n (pc := 19) dJ11_hashCode_2_19 rfl 1 rfl ?_
    refine zw_iload (pc := 20) dJ11_hashCode_2_20 3 rfl ?_
    obtain ⟨x2, e3, H⟩ := zbind H
    refine zy_bald (pc := 22) dJ11_hashCode_2_22 e3 ?_
    refine zw_iadd (pc := 23) dJ11_hashCode_2_23 ?_
    refine zw_istore_n (pc := 24) (lv' := [(0, vI (((31 : Int32) * a0) + x2)), (1, vR a1), (4, vI a2), (5, vI a3)]) dJ11_hashCode_2_24 rfl (by decide) rfl ?_
    refine zw_iinc (pc := 25) (v := (a3 + (1 : Int32))) (lv' := [(5, vI (a3 + (1 : Int32))), (0, vI (((31 : Int32) * a0) + x2)), (1, vR a1), (4, vI a2)]) dJ11_hashCode_2_25 3 rfl rfl (by decide) rfl ?_
    refine zw_goto (pc := 28) (tgt := 8) dJ11_hashCode_2_28 rfl ?_
    refine zW_pick (lv' := [(0, vI (((31 : Int32) * a0) + x2)), (1, vR a1), (4, vI a2), (5, vI (a3 + (1 : Int32)))]) [1, 2, 3, 0] rfl ?_
    exact hk8 _ _ _ _ H
def f_J11_hashCode_2 (p0 : Int32) (p1 : Option Nat) (p2 : Int32) (p3 : Int32) (h : zH) : Option Int32 :=
  zloop (fun f c0 c1 c2 c3 => B_J11_hashCode_2_8 f c0 c1 c2 c3 h) (fun _ _ _ _ => none) zFU p0 p1 (p2 + p3) p2
theorem w_J11_hashCode_2 {G : zG} {p0 : Int32} {p1 : Option Nat} {p2 : Int32} {p3 : Int32} {h : zH} {vx : Int32} (H : f_J11_hashCode_2 p0 p1 p2 p3 h = some vx) : zMet G M_J11_hashCode_2 2 [vI p0, vR p1, vI p2, vI p3] h (.inl (some (vI vx))) h := by
  refine zMet.of (by decide +kernel) (Nat.le_of_ble_eq_true rfl) ?_
  show zW G M_J11_hashCode_2 2 h (.inl (some (vI vx))) h 0 [(0, vI p0), (1, vR p1), (2, vI p2), (3, vI p3)] [] h
  unfold f_J11_hashCode_2 at H
  refine zw_iload_n (pc := 0) dJ11_hashCode_2_0 rfl 2 rfl ?_
  refine zw_iload_n (pc := 1) dJ11_hashCode_2_1 rfl 3 rfl ?_
  refine zw_iadd (pc := 2) dJ11_hashCode_2_2 ?_
  refine zw_istore (pc := 3) (lv' := [(4, vI (p2 + p3)), (0, vI p0), (1, vR p1), (2, vI p2), (3, vI p3)]) dJ11_hashCode_2_3 (by decide) rfl ?_
  refine zw_iload_n (pc := 5) dJ11_hashCode_2_5 rfl 3 rfl ?_
  refine zw_istore (pc := 6) (lv' := [(5, vI p2), (4, vI (p2 + p3)), (0, vI p0), (1, vR p1), (2, vI p2), (3, vI p3)]) dJ11_hashCode_2_6 (by decide) rfl ?_
  refine zW_pick (lv' := [(0, vI p0), (1, vR p1), (4, vI (p2 + p3)), (5, vI p2)]) [2, 3, 1, 0] rfl ?_
  exact zloop_ind (body := (fun f c0 c1 c2 c3 => B_J11_hashCode_2_8 f c0 c1 c2 c3 h)) (bot := (fun _ _ _ _ => none)) (P := (fun (f : Int32 → Option Nat → Int32 → Int32 → Option Int32) => ∀ (b0 : Int32) (b1 : Option Nat) (b2 : Int32) (b3 : Int32), f b0 b1 b2 b3 = some vx → zW G M_J11_hashCode_2 2 h (.inl (some (vI vx))) h 8 [(0, vI b0), (1, vR b1), (4, vI b2), (5, vI b3)] [] h)) zFU (fun _ _ _ _ H => nomatch H) (fun f hf c0 c1 c2 c3 H => wB_J11_hashCode_2_8 hf H) _ _ _ _ H
def M_J11_hashCode_3 : zM := (yJ11_hashCode_3, cJ11_hashCode_3, 6, (.some .int), [])
theorem mf_J11_hashCode_3 : zMs M_J11_hashCode_3 4 := ⟨⟨q1036, q196, ⟨by decide +kernel, by decide +kernel⟩, by decide +kernel, by decide⟩, q1035⟩
def B_J11_hashCode_3_8 (k8 : Int32 → Option Nat → Int32 → Int32 → Option Int32) (a0 : Int32) (a1 : Option Nat) (a2 : Int32) (a3 : Int32) (h : zH) : Option Int32 :=
  if a2 ≤ a3 then
  some a0
  else
  none
theorem wB_J11_hashCode_3_8 {G : zG} {h0 h : zH} {vx : Int32} {k8 : Int32 → Option Nat → Int32 → Int32 → Option Int32} (hk8 : ∀ (b0 : Int32) (b1 : Option Nat) (b2 : Int32) (b3 : Int32), k8 b0 b1 b2 b3 = some vx → zW G M_J11_hashCode_3 2 h0 (.inl (some (vI vx))) h 8 [(0, vI b0), (1, vR b1), (4, vI b2), (5, vI b3)] [] h) {a0 : Int32} {a1 : Option Nat} {a2 : Int32} {a3 : Int32} (H : B_J11_hashCode_3_8 k8 a0 a1 a2 a3 h = some vx) : zW G M_J11_hashCode_3 2 h0 (.inl (some (vI vx))) h 8 [(0, vI a0), (1, vR a1), (4, vI a2), (5, vI a3)] [] h := by
  unfold B_J11_hashCode_3_8 at H
  refine zw_iload (pc := 8) dJ11_hashCode_3_8 3 rfl ?_
  refine zw_iload (pc := 10) dJ11_hashCode_3_10 2 rfl ?_
  rcases zif H with ⟨c1, H⟩ | ⟨c1, H⟩
  · refine zw_icmp_ge (pc := 12) (tgt := 31) dJ11_hashCode_3_12 rfl (fun _ => ?_) (fun q => absurd c1 q)
    refine zw_iload_n (pc := 31) dJ11_hashCode_3_31 rfl 0 rfl ?_
    obtain rfl := Option.some.inj H
    exact zw_iret (pc := 32) dJ11_hashCode_3_32 rfl rfl rfl
  · refine zw_icmp_ge (pc := 12) (tgt := 31) dJ11_hashCode_3_12 rfl (fun q => absurd q c1) (fun _ => ?_)
    refine zw_bipush (pc := 15) (v := (31 : Int32)) dJ11_hashCode_3_15 (by decide) ?_
    refine zw_iload_n (pc := 17) dJ11_hashCode_3_17 rfl 0 rfl ?_
    refine zw_imul (pc := 18) dJ11_hashCode_3_18 ?_
    refine zw_aload_n (pc := 19) dJ11_hashCode_3_19 rfl 1 rfl ?_
    refine zw_iload (pc := 20) dJ11_hashCode_3_20 3 rfl ?_
    cases H
def f_J11_hashCode_3 (p0 : Int32) (p1 : Option Nat) (p2 : Int32) (p3 : Int32) (h : zH) : Option Int32 :=
  zloop (fun f c0 c1 c2 c3 => B_J11_hashCode_3_8 f c0 c1 c2 c3 h) (fun _ _ _ _ => none) zFU p0 p1 (p2 + p3) p2
theorem w_J11_hashCode_3 {G : zG} {p0 : Int32} {p1 : Option Nat} {p2 : Int32} {p3 : Int32} {h : zH} {vx : Int32} (H : f_J11_hashCode_3 p0 p1 p2 p3 h = some vx) : zMet G M_J11_hashCode_3 2 [vI p0, vR p1, vI p2, vI p3] h (.inl (some (vI vx))) h := by
  refine zMet.of (by decide +kernel) (Nat.le_of_ble_eq_true rfl) ?_
  show zW G M_J11_hashCode_3 2 h (.inl (some (vI vx))) h 0 [(0, vI p0), (1, vR p1), (2, vI p2), (3, vI p3)] [] h
  unfold f_J11_hashCode_3 at H
  refine zw_iload_n (pc := 0) dJ11_hashCode_3_0 rfl 2 rfl ?_
  refine zw_iload_n (pc := 1) dJ11_hashCode_3_1 rfl 3 rfl ?_
  refine zw_iadd (pc := 2) dJ11_hashCode_3_2 ?_
  refine zw_istore (pc := 3) (lv' := [(4, vI (p2 + p3)), (0, vI p0), (1, vR p1), (2, vI p2), (3, vI p3)]) dJ11_hashCode_3_3 (by decide) rfl ?_
  refine zw_iload_n (pc := 5) dJ11_hashCode_3_5 rfl 3 rfl ?_
  refine zw_istore (pc := 6) (lv' := [(5, vI p2), (4, vI (p2 + p3)), (0, vI p0), (1, vR p1), (2, vI p2), (3, vI p3)]) dJ11_hashCode_3_6 (by decide) rfl ?_
  refine zW_pick (lv' := [(0, vI p0), (1, vR p1), (4, vI (p2 + p3)), (5, vI p2)]) [2, 3, 1, 0] rfl ?_
  exact zloop_ind (body := (fun f c0 c1 c2 c3 => B_J11_hashCode_3_8 f c0 c1 c2 c3 h)) (bot := (fun _ _ _ _ => none)) (P := (fun (f : Int32 → Option Nat → Int32 → Int32 → Option Int32) => ∀ (b0 : Int32) (b1 : Option Nat) (b2 : Int32) (b3 : Int32), f b0 b1 b2 b3 = some vx → zW G M_J11_hashCode_3 2 h (.inl (some (vI vx))) h 8 [(0, vI b0), (1, vR b1), (4, vI b2), (5, vI b3)] [] h)) zFU (fun _ _ _ _ H => nomatch H) (fun f hf c0 c1 c2 c3 H => wB_J11_hashCode_3_8 hf H) _ _ _ _ H
def M_J11_hashCode_4 : zM := (yJ11_hashCode_4, cJ11_hashCode_4, 6, (.some .int), [])
theorem mf_J11_hashCode_4 : zMs M_J11_hashCode_4 4 := ⟨⟨q1040, q196, ⟨by decide +kernel, by decide +kernel⟩, by decide +kernel, by decide⟩, q1039⟩
def B_J11_hashCode_4_8 (k8 : Int32 → Option Nat → Int32 → Int32 → Option Int32) (a0 : Int32) (a1 : Option Nat) (a2 : Int32) (a3 : Int32) (h : zH) : Option Int32 :=
  if a2 ≤ a3 then
  some a0
  else
  (zaI 50 a1 a3 h).bind fun x2 =>
  k8 (((31 : Int32) * a0) + x2) a1 a2 (a3 + (1 : Int32))
theorem wB_J11_hashCode_4_8 {G : zG} {h0 h : zH} {vx : Int32} {k8 : Int32 → Option Nat → Int32 → Int32 → Option Int32} (hk8 : ∀ (b0 : Int32) (b1 : Option Nat) (b2 : Int32) (b3 : Int32), k8 b0 b1 b2 b3 = some vx → zW G M_J11_hashCode_4 2 h0 (.inl (some (vI vx))) h 8 [(0, vI b0), (1, vR b1), (4, vI b2), (5, vI b3)] [] h) {a0 : Int32} {a1 : Option Nat} {a2 : Int32} {a3 : Int32} (H : B_J11_hashCode_4_8 k8 a0 a1 a2 a3 h = some vx) : zW G M_J11_hashCode_4 2 h0 (.inl (some (vI vx))) h 8 [(0, vI a0), (1, vR a1), (4, vI a2), (5, vI a3)] [] h := by
  unfold B_J11_hashCode_4_8 at H
  refine zw_iload (pc := 8) dJ11_hashCode_4_8 3 rfl ?_
  refine zw_iload (pc := 10) dJ11_hashCode_4_10 2 rfl ?_
  rcases zif H with ⟨c1, H⟩ | ⟨c1, H⟩
  · refine zw_icmp_ge (pc := 12) (tgt := 31) dJ11_hashCode_4_12 rfl (fun _ => ?_) (fun q => absurd c1 q)
    refine zw_iload_n (pc := 31) dJ11_hashCode_4_31 rfl 0 rfl ?_
    obtain rfl := Option.some.inj H
    exact zw_iret (pc := 32) dJ11_hashCode_4_32 rfl rfl rfl
  · refine zw_icmp_ge (pc := 12) (tgt := 31) dJ11_hashCode_4_12 rfl (fun q => absurd q c1) (fun _ => ?_)
    refine zw_bipush (pc := 15) (v := (31 : Int32)) dJ11_hashCode_4_15 (by decide) ?_
    refine zw_iload_n (pc := 17) dJ11_hashCode_4_17 rfl 0 rfl ?_
    refine zw_imul (pc := 18) dJ11_hashCode_4_18 ?_
    refine zw_aload_n (pc := 19) dJ11_hashCode_4_19 rfl 1 rfl ?_
    refine zw_iload (pc := 20) dJ11_hashCode_4_20 3 rfl ?_
    obtain ⟨x2, e3, H⟩ := zbind H
    refine zy_iald (pc := 22) dJ11_hashCode_4_22 e3 ?_
    refine zw_iadd (pc := 23) dJ11_hashCode_4_23 ?_
    refine zw_istore_n (pc := 24) (lv' := [(0, vI (((31 : Int32) * a0) + x2)), (1, vR a1), (4, vI a2), (5, vI a3)]) dJ11_hashCode_4_24 rfl (by decide) rfl ?_
    refine zw_iinc (pc := 25) (v := (a3 + (1 : Int32))) (lv' := [(5, vI (a3 + (1 : Int32))), (0, vI (((31 : Int32) * a0) + x2)), (1, vR a1), (4, vI a2)]) dJ11_hashCode_4_25 3 rfl rfl (by decide) rfl ?_
    refine zw_goto (pc := 28) (tgt := 8) dJ11_hashCode_4_28 rfl ?_
    refine zW_pick (lv' := [(0, vI (((31 : Int32) * a0) + x2)), (1, vR a1), (4, vI a2), (5, vI (a3 + (1 : Int32)))]) [1, 2, 3, 0] rfl ?_
    exact hk8 _ _ _ _ H
def f_J11_hashCode_4 (p0 : Int32) (p1 : Option Nat) (p2 : Int32) (p3 : Int32) (h : zH) : Option Int32 :=
  zloop (fun f c0 c1 c2 c3 => B_J11_hashCode_4_8 f c0 c1 c2 c3 h) (fun _ _ _ _ => none) zFU p0 p1 (p2 + p3) p2
theorem w_J11_hashCode_4 {G : zG} {p0 : Int32} {p1 : Option Nat} {p2 : Int32} {p3 : Int32} {h : zH} {vx : Int32} (H : f_J11_hashCode_4 p0 p1 p2 p3 h = some vx) : zMet G M_J11_hashCode_4 2 [vI p0, vR p1, vI p2, vI p3] h (.inl (some (vI vx))) h := by
  refine zMet.of (by decide +kernel) (Nat.le_of_ble_eq_true rfl) ?_
  show zW G M_J11_hashCode_4 2 h (.inl (some (vI vx))) h 0 [(0, vI p0), (1, vR p1), (2, vI p2), (3, vI p3)] [] h
  unfold f_J11_hashCode_4 at H
  refine zw_iload_n (pc := 0) dJ11_hashCode_4_0 rfl 2 rfl ?_
  refine zw_iload_n (pc := 1) dJ11_hashCode_4_1 rfl 3 rfl ?_
  refine zw_iadd (pc := 2) dJ11_hashCode_4_2 ?_
  refine zw_istore (pc := 3) (lv' := [(4, vI (p2 + p3)), (0, vI p0), (1, vR p1), (2, vI p2), (3, vI p3)]) dJ11_hashCode_4_3 (by decide) rfl ?_
  refine zw_iload_n (pc := 5) dJ11_hashCode_4_5 rfl 3 rfl ?_
  refine zw_istore (pc := 6) (lv' := [(5, vI p2), (4, vI (p2 + p3)), (0, vI p0), (1, vR p1), (2, vI p2), (3, vI p3)]) dJ11_hashCode_4_6 (by decide) rfl ?_
  refine zW_pick (lv' := [(0, vI p0), (1, vR p1), (4, vI (p2 + p3)), (5, vI p2)]) [2, 3, 1, 0] rfl ?_
  exact zloop_ind (body := (fun f c0 c1 c2 c3 => B_J11_hashCode_4_8 f c0 c1 c2 c3 h)) (bot := (fun _ _ _ _ => none)) (P := (fun (f : Int32 → Option Nat → Int32 → Int32 → Option Int32) => ∀ (b0 : Int32) (b1 : Option Nat) (b2 : Int32) (b3 : Int32), f b0 b1 b2 b3 = some vx → zW G M_J11_hashCode_4 2 h (.inl (some (vI vx))) h 8 [(0, vI b0), (1, vR b1), (4, vI b2), (5, vI b3)] [] h)) zFU (fun _ _ _ _ H => nomatch H) (fun f hf c0 c1 c2 c3 H => wB_J11_hashCode_4_8 hf H) _ _ _ _ H
def M_J11_signedHashCode : zM := (yJ11_signedHashCode, cJ11_signedHashCode, 6, (.some .int), [])
theorem mf_J11_signedHashCode : zMs M_J11_signedHashCode 4 := ⟨⟨q1009, q196, ⟨by decide +kernel, by decide +kernel⟩, by decide +kernel, by decide⟩, q1008⟩
def B_J11_signedHashCode_8 (k8 : Int32 → Option Nat → Int32 → Int32 → Option Int32) (a0 : Int32) (a1 : Option Nat) (a2 : Int32) (a3 : Int32) (h : zH) : Option Int32 :=
  if a2 ≤ a3 then
  some a0
  else
  (zaI 53 a1 a3 h).bind fun x2 =>
  k8 (((31 : Int32) * a0) + (x2 &&& (255 : Int32))) a1 a2 (a3 + (1 : Int32))
theorem wB_J11_signedHashCode_8 {G : zG} {h0 h : zH} {vx : Int32} {k8 : Int32 → Option Nat → Int32 → Int32 → Option Int32} (hk8 : ∀ (b0 : Int32) (b1 : Option Nat) (b2 : Int32) (b3 : Int32), k8 b0 b1 b2 b3 = some vx → zW G M_J11_signedHashCode 2 h0 (.inl (some (vI vx))) h 8 [(0, vI b0), (1, vR b1), (4, vI b2), (5, vI b3)] [] h) {a0 : Int32} {a1 : Option Nat} {a2 : Int32} {a3 : Int32} (H : B_J11_signedHashCode_8 k8 a0 a1 a2 a3 h = some vx) : zW G M_J11_signedHashCode 2 h0 (.inl (some (vI vx))) h 8 [(0, vI a0), (1, vR a1), (4, vI a2), (5, vI a3)] [] h := by
  unfold B_J11_signedHashCode_8 at H
  refine zw_iload (pc := 8) dJ11_signedHashCode_8 3 rfl ?_
  refine zw_iload (pc := 10) dJ11_signedHashCode_10 2 rfl ?_
  rcases zif H with ⟨c1, H⟩ | ⟨c1, H⟩
  · refine zw_icmp_ge (pc := 12) (tgt := 35) dJ11_signedHashCode_12 rfl (fun _ => ?_) (fun q => absurd c1 q)
    refine zw_iload_n (pc := 35) dJ11_signedHashCode_35 rfl 0 rfl ?_
    obtain rfl := Option.some.inj H
    exact zw_iret (pc := 36) dJ11_signedHashCode_36 rfl rfl rfl
  · refine zw_icmp_ge (pc := 12) (tgt := 35) dJ11_signedHashCode_12 rfl (fun q => absurd q c1) (fun _ => ?_)
    refine zw_bipush (pc := 15) (v := (31 : Int32)) dJ11_signedHashCode_15 (by decide) ?_
    refine zw_iload_n (pc := 17) dJ11_signedHashCode_17 rfl 0 rfl ?_
    refine zw_imul (pc := 18) dJ11_signedHashCode_18 ?_
    refine zw_aload_n (pc := 19) dJ11_signedHashCode_19 rfl 1 rfl ?_
    refine zw_iload (pc := 20) dJ11_signedHashCode_20 3 rfl ?_
    obtain ⟨x2, e3, H⟩ := zbind H
    refine zy_bald (pc := 22) dJ11_signedHashCode_22 e3 ?_
    refine zw_sipush (pc := 23) (v := (255 : Int32)) dJ11_signedHashCode_23 (by decide) ?_
    refine zw_iand (pc := 26) dJ11_signedHashCode_26 ?_
    refine zw_iadd (pc := 27) dJ11_signedHashCode_27 ?_
    refine zw_istore_n (pc := 28) (lv' := [(0, vI (((31 : Int32) * a0) + (x2 &&& (255 : Int32)))), (1, vR a1), (4, vI a2), (5, vI a3)]) dJ11_signedHashCode_28 rfl (by decide) rfl ?_
    refine zw_iinc (pc := 29) (v := (a3 + (1 : Int32))) (lv' := [(5, vI (a3 + (1 : Int32))), (0, vI (((31 : Int32) * a0) + (x2 &&& (255 : Int32)))), (1, vR a1), (4, vI a2)]) dJ11_signedHashCode_29 3 rfl rfl (by decide) rfl ?_
    refine zw_goto (pc := 32) (tgt := 8) dJ11_signedHashCode_32 rfl ?_
    refine zW_pick (lv' := [(0, vI (((31 : Int32) * a0) + (x2 &&& (255 : Int32)))), (1, vR a1), (4, vI a2), (5, vI (a3 + (1 : Int32)))]) [1, 2, 3, 0] rfl ?_
    exact hk8 _ _ _ _ H
def f_J11_signedHashCode (p0 : Int32) (p1 : Option Nat) (p2 : Int32) (p3 : Int32) (h : zH) : Option Int32 :=
  zloop (fun f c0 c1 c2 c3 => B_J11_signedHashCode_8 f c0 c1 c2 c3 h) (fun _ _ _ _ => none) zFU p0 p1 (p2 + p3) p2
theorem w_J11_signedHashCode {G : zG} {p0 : Int32} {p1 : Option Nat} {p2 : Int32} {p3 : Int32} {h : zH} {vx : Int32} (H : f_J11_signedHashCode p0 p1 p2 p3 h = some vx) : zMet G M_J11_signedHashCode 2 [vI p0, vR p1, vI p2, vI p3] h (.inl (some (vI vx))) h := by
  refine zMet.of (by decide +kernel) (Nat.le_of_ble_eq_true rfl) ?_
  show zW G M_J11_signedHashCode 2 h (.inl (some (vI vx))) h 0 [(0, vI p0), (1, vR p1), (2, vI p2), (3, vI p3)] [] h
  unfold f_J11_signedHashCode at H
  refine zw_iload_n (pc := 0) dJ11_signedHashCode_0 rfl 2 rfl ?_
  refine zw_iload_n (pc := 1) dJ11_signedHashCode_1 rfl 3 rfl ?_
  refine zw_iadd (pc := 2) dJ11_signedHashCode_2 ?_
  refine zw_istore (pc := 3) (lv' := [(4, vI (p2 + p3)), (0, vI p0), (1, vR p1), (2, vI p2), (3, vI p3)]) dJ11_signedHashCode_3 (by decide) rfl ?_
  refine zw_iload_n (pc := 5) dJ11_signedHashCode_5 rfl 3 rfl ?_
  refine zw_istore (pc := 6) (lv' := [(5, vI p2), (4, vI (p2 + p3)), (0, vI p0), (1, vR p1), (2, vI p2), (3, vI p3)]) dJ11_signedHashCode_6 (by decide) rfl ?_
  refine zW_pick (lv' := [(0, vI p0), (1, vR p1), (4, vI (p2 + p3)), (5, vI p2)]) [2, 3, 1, 0] rfl ?_
  exact zloop_ind (body := (fun f c0 c1 c2 c3 => B_J11_signedHashCode_8 f c0 c1 c2 c3 h)) (bot := (fun _ _ _ _ => none)) (P := (fun (f : Int32 → Option Nat → Int32 → Int32 → Option Int32) => ∀ (b0 : Int32) (b1 : Option Nat) (b2 : Int32) (b3 : Int32), f b0 b1 b2 b3 = some vx → zW G M_J11_signedHashCode 2 h (.inl (some (vI vx))) h 8 [(0, vI b0), (1, vR b1), (4, vI b2), (5, vI b3)] [] h)) zFU (fun _ _ _ _ H => nomatch H) (fun f hf c0 c1 c2 c3 H => wB_J11_signedHashCode_8 hf H) _ _ _ _ H
def M_J11_utf16hashCode : zM := (yJ11_utf16hashCode, cJ11_utf16hashCode, 6, (.some .int), [])
theorem mf_J11_utf16hashCode : zMs M_J11_utf16hashCode 4 := ⟨⟨q1012, q196, ⟨by decide +kernel, by decide +kernel⟩, by decide +kernel, by decide⟩, q1011⟩
def B_J11_utf16hashCode_8 (k8 : Int32 → Option Nat → Int32 → Int32 → Option Int32) (a0 : Int32) (a1 : Option Nat) (a2 : Int32) (a3 : Int32) (h : zH) : Option Int32 :=
  if a2 ≤ a3 then
  some a0
  else
  none
theorem wB_J11_utf16hashCode_8 {G : zG} {h0 h : zH} {vx : Int32} {k8 : Int32 → Option Nat → Int32 → Int32 → Option Int32} (hk8 : ∀ (b0 : Int32) (b1 : Option Nat) (b2 : Int32) (b3 : Int32), k8 b0 b1 b2 b3 = some vx → zW G M_J11_utf16hashCode 2 h0 (.inl (some (vI vx))) h 8 [(0, vI b0), (1, vR b1), (4, vI b2), (5, vI b3)] [] h) {a0 : Int32} {a1 : Option Nat} {a2 : Int32} {a3 : Int32} (H : B_J11_utf16hashCode_8 k8 a0 a1 a2 a3 h = some vx) : zW G M_J11_utf16hashCode 2 h0 (.inl (some (vI vx))) h 8 [(0, vI a0), (1, vR a1), (4, vI a2), (5, vI a3)] [] h := by
  unfold B_J11_utf16hashCode_8 at H
  refine zw_iload (pc := 8) dJ11_utf16hashCode_8 3 rfl ?_
  refine zw_iload (pc := 10) dJ11_utf16hashCode_10 2 rfl ?_
  rcases zif H with ⟨c1, H⟩ | ⟨c1, H⟩
  · refine zw_icmp_ge (pc := 12) (tgt := 38) dJ11_utf16hashCode_12 rfl (fun _ => ?_) (fun q => absurd c1 q)
    refine zw_iload_n (pc := 38) dJ11_utf16hashCode_38 rfl 0 rfl ?_
    obtain rfl := Option.some.inj H
    exact zw_iret (pc := 39) dJ11_utf16hashCode_39 rfl rfl rfl
  · refine zw_icmp_ge (pc := 12) (tgt := 38) dJ11_utf16hashCode_12 rfl (fun q => absurd q c1) (fun _ => ?_)
    refine zw_bipush (pc := 15) (v := (31 : Int32)) dJ11_utf16hashCode_15 (by decide) ?_
    refine zw_iload_n (pc := 17) dJ11_utf16hashCode_17 rfl 0 rfl ?_
    refine zw_imul (pc := 18) dJ11_utf16hashCode_18 ?_
    cases H
def f_J11_utf16hashCode (p0 : Int32) (p1 : Option Nat) (p2 : Int32) (p3 : Int32) (h : zH) : Option Int32 :=
  zloop (fun f c0 c1 c2 c3 => B_J11_utf16hashCode_8 f c0 c1 c2 c3 h) (fun _ _ _ _ => none) zFU p0 p1 (p2 + p3) p2
theorem w_J11_utf16hashCode {G : zG} {p0 : Int32} {p1 : Option Nat} {p2 : Int32} {p3 : Int32} {h : zH} {vx : Int32} (H : f_J11_utf16hashCode p0 p1 p2 p3 h = some vx) : zMet G M_J11_utf16hashCode 2 [vI p0, vR p1, vI p2, vI p3] h (.inl (some (vI vx))) h := by
  refine zMet.of (by decide +kernel) (Nat.le_of_ble_eq_true rfl) ?_
  show zW G M_J11_utf16hashCode 2 h (.inl (some (vI vx))) h 0 [(0, vI p0), (1, vR p1), (2, vI p2), (3, vI p3)] [] h
  unfold f_J11_utf16hashCode at H
  refine zw_iload_n (pc := 0) dJ11_utf16hashCode_0 rfl 2 rfl ?_
  refine zw_iload_n (pc := 1) dJ11_utf16hashCode_1 rfl 3 rfl ?_
  refine zw_iadd (pc := 2) dJ11_utf16hashCode_2 ?_
  refine zw_istore (pc := 3) (lv' := [(4, vI (p2 + p3)), (0, vI p0), (1, vR p1), (2, vI p2), (3, vI p3)]) dJ11_utf16hashCode_3 (by decide) rfl ?_
  refine zw_iload_n (pc := 5) dJ11_utf16hashCode_5 rfl 3 rfl ?_
  refine zw_istore (pc := 6) (lv' := [(5, vI p2), (4, vI (p2 + p3)), (0, vI p0), (1, vR p1), (2, vI p2), (3, vI p3)]) dJ11_utf16hashCode_6 (by decide) rfl ?_
  refine zW_pick (lv' := [(0, vI p0), (1, vR p1), (4, vI (p2 + p3)), (5, vI p2)]) [2, 3, 1, 0] rfl ?_
  exact zloop_ind (body := (fun f c0 c1 c2 c3 => B_J11_utf16hashCode_8 f c0 c1 c2 c3 h)) (bot := (fun _ _ _ _ => none)) (P := (fun (f : Int32 → Option Nat → Int32 → Int32 → Option Int32) => ∀ (b0 : Int32) (b1 : Option Nat) (b2 : Int32) (b3 : Int32), f b0 b1 b2 b3 = some vx → zW G M_J11_utf16hashCode 2 h (.inl (some (vI vx))) h 8 [(0, vI b0), (1, vR b1), (4, vI b2), (5, vI b3)] [] h)) zFU (fun _ _ _ _ H => nomatch H) (fun f hf c0 c1 c2 c3 H => wB_J11_utf16hashCode_8 hf H) _ _ _ _ H
theorem lc_J11_60 : zCt "jdk/internal/util/ArraysSupport" 60 [53] := ⟨_, q1006, by
  intro k hk
  simp only [List.mem_cons, List.not_mem_nil, or_false] at hk
  rcases hk with rfl <;> first | exact Or.inl ⟨by decide, by decide +kernel⟩ | exact Or.inr ⟨_, rfl, Or.inl rfl⟩ | exact Or.inr ⟨_, rfl, Or.inr (by decide +kernel)⟩⟩
theorem lc_J11_82 : zCt "jdk/internal/util/ArraysSupport" 82 [50] := ⟨_, q1037, by
  intro k hk
  simp only [List.mem_cons, List.not_mem_nil, or_false] at hk
  rcases hk with rfl <;> first | exact Or.inl ⟨by decide, by decide +kernel⟩ | exact Or.inr ⟨_, rfl, Or.inl rfl⟩ | exact Or.inr ⟨_, rfl, Or.inr (by decide +kernel)⟩⟩
def M_J11_vectorizedHashCode : zM := (yJ11_vectorizedHashCode, cJ11_vectorizedHashCode, 5, (.some .int), [])
theorem mf_J11_vectorizedHashCode : zMs M_J11_vectorizedHashCode 5 := ⟨⟨q1005, q196, ⟨by decide +kernel, by decide +kernel⟩, by decide +kernel, by decide⟩, q1004⟩
def f_J11_vectorizedHashCode (p0 : Option Nat) (p1 : Int32) (p2 : Int32) (p3 : Int32) (p4 : Int32) (h : zH) : Option (Int32 × zH) :=
  if p4 = (4 : Int32) then
  if zct [53] p0 h = true then
  (f_J11_signedHashCode p3 p0 p1 p2 h).bind fun x4 =>
  some (x4, h)
  else none
  else
  if p4 = (5 : Int32) then
  none
  else
  if p4 = (6 : Int32) then
  none
  else
  if p4 = (7 : Int32) then
  none
  else
  if p4 = (8 : Int32) then
  if zct [53] p0 h = true then
  (f_J11_hashCode_2 p3 p0 p1 p2 h).bind fun x11 =>
  some (x11, h)
  else none
  else
  if p4 = (9 : Int32) then
  none
  else
  if p4 = (10 : Int32) then
  if zct [50] p0 h = true then
  (f_J11_hashCode_4 p3 p0 p1 p2 h).bind fun x16 =>
  some (x16, h)
  else none
  else
  none
theorem w_J11_vectorizedHashCode {G : zG} {p0 : Option Nat} {p1 : Int32} {p2 : Int32} {p3 : Int32} {p4 : Int32} {h : zH} {vx : Int32} {vh : zH} (H : f_J11_vectorizedHashCode p0 p1 p2 p3 p4 h = some (vx, vh)) : zMet G M_J11_vectorizedHashCode 5 [vR p0, vI p1, vI p2, vI p3, vI p4] h (.inl (some (vI vx))) vh := by
  refine zMet.of (by decide +kernel) (Nat.le_of_ble_eq_true rfl) ?_
  show zW G M_J11_vectorizedHashCode 5 h (.inl (some (vI vx))) vh 0 [(0, vR p0), (1, vI p1), (2, vI p2), (3, vI p3), (4, vI p4)] [] h
  unfold f_J11_vectorizedHashCode at H
  refine zw_iload (pc := 0) dJ11_vectorizedHashCode_0 4 rfl ?_
  rcases zif H with ⟨c1, H⟩ | ⟨c1, H⟩
  · refine zw_tableIn (pc := 2) (42) 44 dJ11_vectorizedHashCode_2 (by rw [c1]; decide) (by rw [c1]; decide) (by rw [c1]; decide) rfl ?_
    refine zw_iload_n (pc := 44) dJ11_vectorizedHashCode_44 rfl 3 rfl ?_
    refine zw_aload_n (pc := 45) dJ11_vectorizedHashCode_45 rfl 0 rfl ?_
    obtain ⟨c2, H⟩ := zgd H
    refine zy_cast (pc := 46) [53] dJ11_vectorizedHashCode_46 lc_J11_60 c2 ?_
    refine zw_iload_n (pc := 49) dJ11_vectorizedHashCode_49 rfl 1 rfl ?_
    refine zw_iload_n (pc := 50) dJ11_vectorizedHashCode_50 rfl 2 rfl ?_
    obtain ⟨x4, e3, H⟩ := zbind H
    refine zw_invS (pc := 51) (M' := M_J11_signedHashCode) (A := [vI p3, vR p0, vI p1, vI p2]) [] dJ11_vectorizedHashCode_51 (Or.inl q1007) mf_J11_signedHashCode (w_J11_signedHashCode e3) (Nat.le_of_ble_eq_true rfl) rfl rfl (Nat.le_of_ble_eq_true rfl) (zkv ?_) zkn9
    refine zw_goto (pc := 54) (tgt := 157) dJ11_vectorizedHashCode_54 rfl ?_
    obtain ⟨rfl, rfl⟩ := Prod.mk.inj (Option.some.inj H)
    exact zw_iret (pc := 157) dJ11_vectorizedHashCode_157 rfl rfl rfl
  rcases zif H with ⟨c5, H⟩ | ⟨c5, H⟩
  · refine zw_tableIn (pc := 2) (55) 57 dJ11_vectorizedHashCode_2 (by rw [c5]; decide) (by rw [c5]; decide) (by rw [c5]; decide) rfl ?_
    refine zw_aload_n (pc := 57) dJ11_vectorizedHashCode_57 rfl 0 rfl ?_
    cases H
  rcases zif H with ⟨c6, H⟩ | ⟨c6, H⟩
  · refine zw_tableIn (pc := 2) (127) 129 dJ11_vectorizedHashCode_2 (by rw [c6]; decide) (by rw [c6]; decide) (by rw [c6]; decide) rfl ?_
    cases H
  rcases zif H with ⟨c7, H⟩ | ⟨c7, H⟩
  · refine zw_tableIn (pc := 2) (127) 129 dJ11_vectorizedHashCode_2 (by rw [c7]; decide) (by rw [c7]; decide) (by rw [c7]; decide) rfl ?_
    cases H
  rcases zif H with ⟨c8, H⟩ | ⟨c8, H⟩
  · refine zw_tableIn (pc := 2) (88) 90 dJ11_vectorizedHashCode_2 (by rw [c8]; decide) (by rw [c8]; decide) (by rw [c8]; decide) rfl ?_
    refine zw_iload_n (pc := 90) dJ11_vectorizedHashCode_90 rfl 3 rfl ?_
    refine zw_aload_n (pc := 91) dJ11_vectorizedHashCode_91 rfl 0 rfl ?_
    obtain ⟨c9, H⟩ := zgd H
    refine zy_cast (pc := 92) [53] dJ11_vectorizedHashCode_92 lc_J11_60 c9 ?_
    refine zw_iload_n (pc := 95) dJ11_vectorizedHashCode_95 rfl 1 rfl ?_
    refine zw_iload_n (pc := 96) dJ11_vectorizedHashCode_96 rfl 2 rfl ?_
    obtain ⟨x11, e10, H⟩ := zbind H
    refine zw_invS (pc := 97) (M' := M_J11_hashCode_2) (A := [vI p3, vR p0, vI p1, vI p2]) [] dJ11_vectorizedHashCode_97 (Or.inl q1030) mf_J11_hashCode_2 (w_J11_hashCode_2 e10) (Nat.le_of_ble_eq_true rfl) rfl rfl (Nat.le_of_ble_eq_true rfl) (zkv ?_) zkn9
    refine zw_goto (pc := 100) (tgt := 157) dJ11_vectorizedHashCode_100 rfl ?_
    obtain ⟨rfl, rfl⟩ := Prod.mk.inj (Option.some.inj H)
    exact zw_iret (pc := 157) dJ11_vectorizedHashCode_157 rfl rfl rfl
  rcases zif H with ⟨c12, H⟩ | ⟨c12, H⟩
  · refine zw_tableIn (pc := 2) (101) 103 dJ11_vectorizedHashCode_2 (by rw [c12]; decide) (by rw [c12]; decide) (by rw [c12]; decide) rfl ?_
    refine zw_iload_n (pc := 103) dJ11_vectorizedHashCode_103 rfl 3 rfl ?_
    refine zw_aload_n (pc := 104) dJ11_vectorizedHashCode_104 rfl 0 rfl ?_
    cases H
  rcases zif H with ⟨c13, H⟩ | ⟨c13, H⟩
  · refine zw_tableIn (pc := 2) (114) 116 dJ11_vectorizedHashCode_2 (by rw [c13]; decide) (by rw [c13]; decide) (by rw [c13]; decide) rfl ?_
    refine zw_iload_n (pc := 116) dJ11_vectorizedHashCode_116 rfl 3 rfl ?_
    refine zw_aload_n (pc := 117) dJ11_vectorizedHashCode_117 rfl 0 rfl ?_
    obtain ⟨c14, H⟩ := zgd H
    refine zy_cast (pc := 118) [50] dJ11_vectorizedHashCode_118 lc_J11_82 c14 ?_
    refine zw_iload_n (pc := 121) dJ11_vectorizedHashCode_121 rfl 1 rfl ?_
    refine zw_iload_n (pc := 122) dJ11_vectorizedHashCode_122 rfl 2 rfl ?_
    obtain ⟨x16, e15, H⟩ := zbind H
    refine zw_invS (pc := 123) (M' := M_J11_hashCode_4) (A := [vI p3, vR p0, vI p1, vI p2]) [] dJ11_vectorizedHashCode_123 (Or.inl q1038) mf_J11_hashCode_4 (w_J11_hashCode_4 e15) (Nat.le_of_ble_eq_true rfl) rfl rfl (Nat.le_of_ble_eq_true rfl) (zkv ?_) zkn9
    refine zw_goto (pc := 126) (tgt := 157) dJ11_vectorizedHashCode_126 rfl ?_
    obtain ⟨rfl, rfl⟩ := Prod.mk.inj (Option.some.inj H)
    exact zw_iret (pc := 157) dJ11_vectorizedHashCode_157 rfl rfl rfl
  refine zw_tableOut (pc := 2) 129 dJ11_vectorizedHashCode_2 (ztb (4) 7 rfl (by intro j hj; match j, hj with | 0, _ => exact zne c1 | 1, _ => exact zne c5 | 2, _ => exact zne c6 | 3, _ => exact zne c7 | 4, _ => exact zne c8 | 5, _ => exact zne c12 | 6, _ => exact zne c13)) rfl ?_
  cases H
def M_J14_hashCode : zM := (yJ14_hashCode, cJ14_hashCode, 1, (.some .int), [])
theorem mf_J14_hashCode : zMs M_J14_hashCode 1 := ⟨⟨q1002, q200, ⟨by decide +kernel, by decide +kernel⟩, by decide +kernel, by decide⟩, q1001⟩
def f_J14_hashCode (p0 : Option Nat) (h : zH) : Option (Int32 × zH) :=
  (zaN p0 h).bind fun x1 =>
  if x1 = (0 : Int32) then
  some ((0 : Int32), h)
  else
  if x1 = (1 : Int32) then
  (zaI 53 p0 (0 : Int32) h).bind fun x5 =>
  some ((x5 &&& (255 : Int32)), h)
  else
  (zaN p0 h).bind fun x7 =>
  zb2 (f_J11_vectorizedHashCode p0 (0 : Int32) x7 (0 : Int32) (4 : Int32) h) fun x11 h10 =>
  some (x11, h10)
theorem w_J14_hashCode {G : zG} {p0 : Option Nat} {h : zH} {vx : Int32} {vh : zH} (H : f_J14_hashCode p0 h = some (vx, vh)) : zMet G M_J14_hashCode 6 [vR p0] h (.inl (some (vI vx))) vh := by
  refine zMet.of (by decide +kernel) (Nat.le_of_ble_eq_true rfl) ?_
  show zW G M_J14_hashCode 6 h (.inl (some (vI vx))) vh 0 [(0, vR p0)] [] h
  unfold f_J14_hashCode at H
  refine zw_aload_n (pc := 0) dJ14_hashCode_0 rfl 0 rfl ?_
  obtain ⟨x1, e2, H⟩ := zbind H
  refine zy_alen (pc := 1) dJ14_hashCode_1 e2 ?_
  rcases zif H with ⟨c3, H⟩ | ⟨c3, H⟩
  · refine zw_lookup (pc := 2) (26) 28 dJ14_hashCode_2 (by decide) (by rw [c3]; decide) rfl ?_
    refine zw_iconst (pc := 28) (v := (0 : Int32)) dJ14_hashCode_28 (by decide) ?_
    refine zw_goto (pc := 29) (tgt := 51) dJ14_hashCode_29 rfl ?_
    obtain ⟨rfl, rfl⟩ := Prod.mk.inj (Option.some.inj H)
    exact zw_iret (pc := 51) dJ14_hashCode_51 rfl rfl rfl
  rcases zif H with ⟨c4, H⟩ | ⟨c4, H⟩
  · refine zw_lookup (pc := 2) (30) 32 dJ14_hashCode_2 (by decide) (by rw [c4]; decide) rfl ?_
    refine zw_aload_n (pc := 32) dJ14_hashCode_32 rfl 0 rfl ?_
    refine zw_iconst (pc := 33) (v := (0 : Int32)) dJ14_hashCode_33 (by decide) ?_
    obtain ⟨x5, e6, H⟩ := zbind H
    refine zy_bald (pc := 34) dJ14_hashCode_34 e6 ?_
    refine zw_sipush (pc := 35) (v := (255 : Int32)) dJ14_hashCode_35 (by decide) ?_
    refine zw_iand (pc := 38) dJ14_hashCode_38 ?_
    refine zw_goto (pc := 39) (tgt := 51) dJ14_hashCode_39 rfl ?_
    obtain ⟨rfl, rfl⟩ := Prod.mk.inj (Option.some.inj H)
    exact zw_iret (pc := 51) dJ14_hashCode_51 rfl rfl rfl
  refine zw_lookup (pc := 2) (40) 42 dJ14_hashCode_2 (by decide) (zlkD (List.forall_mem_cons.mpr ⟨zne c3, List.forall_mem_cons.mpr ⟨zne c4, fun _ hp => nomatch hp⟩⟩)) rfl ?_
  refine zw_aload_n (pc := 42) dJ14_hashCode_42 rfl 0 rfl ?_
  refine zw_iconst (pc := 43) (v := (0 : Int32)) dJ14_hashCode_43 (by decide) ?_
  refine zw_aload_n (pc := 44) dJ14_hashCode_44 rfl 0 rfl ?_
  obtain ⟨x7, e8, H⟩ := zbind H
  refine zy_alen (pc := 45) dJ14_hashCode_45 e8 ?_
  refine zw_iconst (pc := 46) (v := (0 : Int32)) dJ14_hashCode_46 (by decide) ?_
  refine zw_iconst (pc := 47) (v := (4 : Int32)) dJ14_hashCode_47 (by decide) ?_
  obtain ⟨x11, h10, e9, H⟩ := zbind2 H
  refine zw_invS (pc := 48) (M' := M_J11_vectorizedHashCode) (A := [vR p0, vI (0 : Int32), vI x7, vI (0 : Int32), vI (4 : Int32)]) [] dJ14_hashCode_48 (Or.inl q1003) mf_J11_vectorizedHashCode (w_J11_vectorizedHashCode e9) (Nat.le_of_ble_eq_true rfl) rfl rfl (Nat.le_of_ble_eq_true rfl) (zkv ?_) zkn9
  obtain ⟨rfl, rfl⟩ := Prod.mk.inj (Option.some.inj H)
  exact zw_iret (pc := 51) dJ14_hashCode_51 rfl rfl rfl
def M_J4_isLatin1 : zM := (yJ4_isLatin1, cJ4_isLatin1, 1, (.some .boolean), [])
theorem mf_J4_isLatin1 : zMi M_J4_isLatin1 0 := ⟨⟨q999, q187, ⟨by decide +kernel, by decide +kernel⟩, by decide +kernel, by decide⟩, q997⟩
def f_J4_isLatin1 (p0 : Option Nat) (h : zH) : Option Int32 :=
  if (1 : Int32) = 0 then
  some (0 : Int32)
  else
  (zgI 19 1 p0 h).bind fun x2 =>
  if x2 = 0 then
  some (1 : Int32)
  else
  some (0 : Int32)
theorem w_J4_isLatin1 {G : zG} {p0 : Option Nat} {h : zH} {vx : Int32} (H : f_J4_isLatin1 p0 h = some vx) : zMet G M_J4_isLatin1 2 [vR p0] h (.inl (some (vI vx))) h := by
  refine zMet.of (by decide +kernel) (Nat.le_of_ble_eq_true rfl) ?_
  show zW G M_J4_isLatin1 2 h (.inl (some (vI vx))) h 0 [(0, vR p0)] [] h
  unfold f_J4_isLatin1 at H
  refine zw_gets (pc := 0) 0 dJ4_isLatin1_0 rfl q886 rfl (show zstv _ 0 = vI (1 : Int32) from rfl) ?_
  rcases zif H with ⟨c1, H⟩ | ⟨c1, H⟩
  · refine zw_if_eq (pc := 3) (tgt := 17) dJ4_isLatin1_3 rfl (fun _ => ?_) (fun q => absurd c1 q)
    refine zw_iconst (pc := 17) (v := (0 : Int32)) dJ4_isLatin1_17 (by decide) ?_
    obtain rfl := Option.some.inj H
    exact zw_zret (pc := 18) dJ4_isLatin1_18 rfl rfl rfl rfl
  · refine zw_if_eq (pc := 3) (tgt := 17) dJ4_isLatin1_3 rfl (fun q => absurd q c1) (fun _ => ?_)
    refine zw_aload_n (pc := 6) dJ4_isLatin1_6 rfl 0 rfl ?_
    obtain ⟨x2, e3, H⟩ := zbind H
    refine zy_getI (pc := 7) dJ4_isLatin1_7 lf_J4_15 (fun _ _ => rfl) e3 ?_
    rcases zif H with ⟨c4, H⟩ | ⟨c4, H⟩
    · refine zw_if_ne (pc := 10) (tgt := 17) dJ4_isLatin1_10 rfl (fun q => absurd c4 q) (fun _ => ?_)
      refine zw_iconst (pc := 13) (v := (1 : Int32)) dJ4_isLatin1_13 (by decide) ?_
      refine zw_goto (pc := 14) (tgt := 18) dJ4_isLatin1_14 rfl ?_
      obtain rfl := Option.some.inj H
      exact zw_zret (pc := 18) dJ4_isLatin1_18 rfl rfl rfl rfl
    · refine zw_if_ne (pc := 10) (tgt := 17) dJ4_isLatin1_10 rfl (fun _ => ?_) (fun q => absurd q c4)
      refine zw_iconst (pc := 17) (v := (0 : Int32)) dJ4_isLatin1_17 (by decide) ?_
      obtain rfl := Option.some.inj H
      exact zw_zret (pc := 18) dJ4_isLatin1_18 rfl rfl rfl rfl
theorem lf_J4_19 : zFl "java/lang/String" 19 19 2 := ⟨_, "java/lang/String", by decide, rfl, by decide, Or.inl q930, Or.inl rfl⟩
theorem lf_J4_23 : zFl "java/lang/String" 23 19 3 := ⟨_, "java/lang/String", by decide, rfl, by decide, Or.inl q931, Or.inl rfl⟩
theorem lp_J4_19 {nm : String} : zFp "java/lang/String" nm 19 19 2 := ⟨_, "java/lang/String", by decide, rfl, by decide, Or.inl rfl, Or.inl ⟨Or.inl q930, rfl⟩⟩
theorem lp_J4_23 {nm : String} : zFp "java/lang/String" nm 23 19 3 := ⟨_, "java/lang/String", by decide, rfl, by decide, Or.inl rfl, Or.inl ⟨Or.inl q931, rfl⟩⟩
def M_J4_hashCode : zM := (yJ4_hashCode, cJ4_hashCode, 2, (.some .int), [])
theorem mf_J4_hashCode : zMi M_J4_hashCode 0 := ⟨⟨q995, q187, ⟨by decide +kernel, by decide +kernel⟩, by decide +kernel, by decide⟩, q993⟩
def B_J4_hashCode_40 (a0 : Option Nat) (a1 : Int32) (h : zH) : Option (Int32 × zH) :=
  if a1 = 0 then
  (zpZ 19 3 a0 (1 : Int32) h).bind fun h4 =>
  some (a1, h4)
  else
  (zpI 19 2 a0 a1 h).bind fun h2 =>
  some (a1, h2)
theorem wB_J4_hashCode_40 {G : zG} {h0 h : zH} {vx : Int32} {vh : zH} {a0 : Option Nat} {a1 : Int32} (H : B_J4_hashCode_40 a0 a1 h = some (vx, vh)) : zW G M_J4_hashCode 7 h0 (.inl (some (vI vx))) vh 40 [(0, vR a0)] [vI a1] h := by
  unfold B_J4_hashCode_40 at H
  refine zw_istore_n (pc := 40) (lv' := [(1, vI a1), (0, vR a0)]) dJ4_hashCode_40 rfl (by decide) rfl ?_
  refine zw_iload_n (pc := 41) dJ4_hashCode_41 rfl 0 rfl ?_
  rcases zif H with ⟨c1, H⟩ | ⟨c1, H⟩
  · refine zw_if_ne (pc := 42) (tgt := 53) dJ4_hashCode_42 rfl (fun q => absurd c1 q) (fun _ => ?_)
    refine zw_aload_n (pc := 45) dJ4_hashCode_45 rfl 1 rfl ?_
    refine zw_iconst (pc := 46) (v := (1 : Int32)) dJ4_hashCode_46 (by decide) ?_
    obtain ⟨h4, e5, H⟩ := zbind H
    refine zy_putZ (pc := 47) dJ4_hashCode_47 lp_J4_23 (Or.inl rfl) e5 ?_
    refine zw_goto (pc := 50) (tgt := 58) dJ4_hashCode_50 rfl ?_
    refine zw_iload_n (pc := 58) dJ4_hashCode_58 rfl 0 rfl ?_
    obtain ⟨rfl, rfl⟩ := Prod.mk.inj (Option.some.inj H)
    exact zw_iret (pc := 59) dJ4_hashCode_59 rfl rfl rfl
  · refine zw_if_ne (pc := 42) (tgt := 53) dJ4_hashCode_42 rfl (fun _ => ?_) (fun q => absurd q c1)
    refine zw_aload_n (pc := 53) dJ4_hashCode_53 rfl 1 rfl ?_
    refine zw_iload_n (pc := 54) dJ4_hashCode_54 rfl 0 rfl ?_
    obtain ⟨h2, e3, H⟩ := zbind H
    refine zy_putI (pc := 55) dJ4_hashCode_55 lp_J4_19 rfl e3 ?_
    refine zw_iload_n (pc := 58) dJ4_hashCode_58 rfl 0 rfl ?_
    obtain ⟨rfl, rfl⟩ := Prod.mk.inj (Option.some.inj H)
    exact zw_iret (pc := 59) dJ4_hashCode_59 rfl rfl rfl
def f_J4_hashCode (p0 : Option Nat) (h : zH) : Option (Int32 × zH) :=
  (zgI 19 2 p0 h).bind fun x1 =>
  if x1 = 0 then
  (zgI 19 3 p0 h).bind fun x4 =>
  if x4 = 0 then
  (zrv 19 p0 h).bind fun b7 =>
  (f_J4_isLatin1 (some b7) h).bind fun x12 =>
  if x12 = 0 then
  (zgR 19 0 p0 h).bind fun x14 =>
  none
  else
  (zgR 19 0 p0 h).bind fun x16 =>
  zb2 (f_J14_hashCode x16 h) fun x20 h19 =>
  B_J4_hashCode_40 p0 x20 h19
  else
  some (x1, h)
  else
  some (x1, h)
theorem w_J4_hashCode {G : zG} {p0 : Option Nat} {h : zH} {vx : Int32} {vh : zH} (H : f_J4_hashCode p0 h = some (vx, vh)) : zMet G M_J4_hashCode 7 [vR p0] h (.inl (some (vI vx))) vh := by
  refine zMet.of (by decide +kernel) (Nat.le_of_ble_eq_true rfl) ?_
  show zW G M_J4_hashCode 7 h (.inl (some (vI vx))) vh 0 [(0, vR p0)] [] h
  unfold f_J4_hashCode at H
  refine zw_aload_n (pc := 0) dJ4_hashCode_0 rfl 0 rfl ?_
  obtain ⟨x1, e2, H⟩ := zbind H
  refine zy_getI (pc := 1) dJ4_hashCode_1 lf_J4_19 (fun _ _ => rfl) e2 ?_
  refine zw_istore_n (pc := 4) (lv' := [(1, vI x1), (0, vR p0)]) dJ4_hashCode_4 rfl (by decide) rfl ?_
  refine zw_iload_n (pc := 5) dJ4_hashCode_5 rfl 0 rfl ?_
  rcases zif H with ⟨c3, H⟩ | ⟨c3, H⟩
  · refine zw_if_ne (pc := 6) (tgt := 58) dJ4_hashCode_6 rfl (fun q => absurd c3 q) (fun _ => ?_)
    refine zw_aload_n (pc := 9) dJ4_hashCode_9 rfl 1 rfl ?_
    obtain ⟨x4, e5, H⟩ := zbind H
    refine zy_getI (pc := 10) dJ4_hashCode_10 lf_J4_23 (fun _ _ => rfl) e5 ?_
    rcases zif H with ⟨c6, H⟩ | ⟨c6, H⟩
    · refine zw_if_ne (pc := 13) (tgt := 58) dJ4_hashCode_13 rfl (fun q => absurd c6 q) (fun _ => ?_)
      refine zw_aload_n (pc := 16) dJ4_hashCode_16 rfl 1 rfl ?_
      obtain ⟨b7, e9, H⟩ := zbind H
      obtain ⟨e8, e10⟩ := zrv_ok e9
      obtain ⟨x12, e11, H⟩ := zbind H
      refine zw_invV (pc := 17) (M' := M_J4_isLatin1) (A := []) [] dJ4_hashCode_17 (Or.inl q996) mf_J4_isLatin1 q998 (zkq e10 rfl) (w_J4_isLatin1 e11) (Nat.le_of_ble_eq_true rfl) rfl (by rw [← e8]; rfl) (Nat.le_of_ble_eq_true rfl) (zkv ?_) zkn9
      rcases zif H with ⟨c13, H⟩ | ⟨c13, H⟩
      · refine zw_if_eq (pc := 20) (tgt := 33) dJ4_hashCode_20 rfl (fun _ => ?_) (fun q => absurd c13 q)
        refine zw_aload_n (pc := 33) dJ4_hashCode_33 rfl 1 rfl ?_
        obtain ⟨x14, e15, H⟩ := zbind H
        refine zy_getR (pc := 34) dJ4_hashCode_34 lf_J4_9 (fun _ _ => rfl) e15 ?_
        cases H
      · refine zw_if_eq (pc := 20) (tgt := 33) dJ4_hashCode_20 rfl (fun q => absurd q c13) (fun _ => ?_)
        refine zw_aload_n (pc := 23) dJ4_hashCode_23 rfl 1 rfl ?_
        obtain ⟨x16, e17, H⟩ := zbind H
        refine zy_getR (pc := 24) dJ4_hashCode_24 lf_J4_9 (fun _ _ => rfl) e17 ?_
        obtain ⟨x20, h19, e18, H⟩ := zbind2 H
        refine zw_invS (pc := 27) (M' := M_J14_hashCode) (A := [vR x16]) [] dJ4_hashCode_27 (Or.inl q1000) mf_J14_hashCode (w_J14_hashCode e18) (Nat.le_of_ble_eq_true rfl) rfl rfl (Nat.le_of_ble_eq_true rfl) (zkv ?_) zkn9
        refine zw_goto (pc := 30) (tgt := 40) dJ4_hashCode_30 rfl ?_
        refine zW_pick (lv' := [(0, vR p0)]) [1] rfl ?_
        exact wB_J4_hashCode_40 H
    · refine zw_if_ne (pc := 13) (tgt := 58) dJ4_hashCode_13 rfl (fun _ => ?_) (fun q => absurd q c6)
      refine zw_iload_n (pc := 58) dJ4_hashCode_58 rfl 0 rfl ?_
      obtain ⟨rfl, rfl⟩ := Prod.mk.inj (Option.some.inj H)
      exact zw_iret (pc := 59) dJ4_hashCode_59 rfl rfl rfl
  · refine zw_if_ne (pc := 6) (tgt := 58) dJ4_hashCode_6 rfl (fun _ => ?_) (fun q => absurd q c3)
    refine zw_iload_n (pc := 58) dJ4_hashCode_58 rfl 0 rfl ?_
    obtain ⟨rfl, rfl⟩ := Prod.mk.inj (Option.some.inj H)
    exact zw_iret (pc := 59) dJ4_hashCode_59 rfl rfl rfl
def M_J14_charAt : zM := (yJ14_charAt, cJ14_charAt, 2, (.some .char), [])
theorem mf_J14_charAt : zMs M_J14_charAt 2 := ⟨⟨q1078, q200, ⟨by decide +kernel, by decide +kernel⟩, by decide +kernel, by decide⟩, q1077⟩
def f_J14_charAt (p0 : Option Nat) (p1 : Int32) (h : zH) : Option Int32 :=
  (zaN p0 h).bind fun x1 =>
  (f_J4_checkIndex p1 x1 h).bind fun _ =>
  (zaI 53 p0 p1 h).bind fun x5 =>
  if vp_nar .char ((x5 &&& (255 : Int32)).toUInt32 % 65536).toInt32 = ((x5 &&& (255 : Int32)).toUInt32 % 65536).toInt32 then some ((x5 &&& (255 : Int32)).toUInt32 % 65536).toInt32 else none
theorem w_J14_charAt {G : zG} {p0 : Option Nat} {p1 : Int32} {h : zH} {vx : Int32} (H : f_J14_charAt p0 p1 h = some vx) : zMet G M_J14_charAt 4 [vR p0, vI p1] h (.inl (some (vI vx))) h := by
  refine zMet.of (by decide +kernel) (Nat.le_of_ble_eq_true rfl) ?_
  show zW G M_J14_charAt 4 h (.inl (some (vI vx))) h 0 [(0, vR p0), (1, vI p1)] [] h
  unfold f_J14_charAt at H
  refine zw_iload_n (pc := 0) dJ14_charAt_0 rfl 1 rfl ?_
  refine zw_aload_n (pc := 1) dJ14_charAt_1 rfl 0 rfl ?_
  obtain ⟨x1, e2, H⟩ := zbind H
  refine zy_alen (pc := 2) dJ14_charAt_2 e2 ?_
  obtain ⟨x4, e3, H⟩ := zbind H
  refine zw_invS (pc := 3) (M' := M_J4_checkIndex) (A := [vI p1, vI x1]) [] dJ14_charAt_3 (Or.inl q1079) mf_J4_checkIndex (w_J4_checkIndex e3) (Nat.le_of_ble_eq_true rfl) rfl rfl (Nat.le_of_ble_eq_true rfl) (zku ?_) zkn9
  refine zw_aload_n (pc := 6) dJ14_charAt_6 rfl 0 rfl ?_
  refine zw_iload_n (pc := 7) dJ14_charAt_7 rfl 1 rfl ?_
  obtain ⟨x5, e6, H⟩ := zbind H
  refine zy_bald (pc := 8) dJ14_charAt_8 e6 ?_
  refine zw_sipush (pc := 9) (v := (255 : Int32)) dJ14_charAt_9 (by decide) ?_
  refine zw_iand (pc := 12) dJ14_charAt_12 ?_
  refine zw_i2c (pc := 13) dJ14_charAt_13 ?_
  obtain ⟨c7, H⟩ := zgd H
  obtain rfl := Option.some.inj H
  exact zw_zret (pc := 14) dJ14_charAt_14 rfl (znarV c7) rfl rfl
def M_J4_charAt : zM := (yJ4_charAt, cJ4_charAt, 2, (.some .char), [])
theorem mf_J4_charAt : zMi M_J4_charAt 1 := ⟨⟨q1075, q187, ⟨by decide +kernel, by decide +kernel⟩, by decide +kernel, by decide⟩, q1073⟩
def f_J4_charAt (p0 : Option Nat) (p1 : Int32) (h : zH) : Option Int32 :=
  (zrv 19 p0 h).bind fun b1 =>
  (f_J4_isLatin1 (some b1) h).bind fun x6 =>
  if x6 = 0 then
  (zgR 19 0 p0 h).bind fun x8 =>
  none
  else
  (zgR 19 0 p0 h).bind fun x10 =>
  (f_J14_charAt x10 p1 h).bind fun x13 =>
  if vp_nar .char x13 = x13 then some x13 else none
theorem w_J4_charAt {G : zG} {p0 : Option Nat} {p1 : Int32} {h : zH} {vx : Int32} (H : f_J4_charAt p0 p1 h = some vx) : zMet G M_J4_charAt 5 [vR p0, vI p1] h (.inl (some (vI vx))) h := by
  refine zMet.of (by decide +kernel) (Nat.le_of_ble_eq_true rfl) ?_
  show zW G M_J4_charAt 5 h (.inl (some (vI vx))) h 0 [(0, vR p0), (1, vI p1)] [] h
  unfold f_J4_charAt at H
  refine zw_aload_n (pc := 0) dJ4_charAt_0 rfl 0 rfl ?_
  obtain ⟨b1, e3, H⟩ := zbind H
  obtain ⟨e2, e4⟩ := zrv_ok e3
  obtain ⟨x6, e5, H⟩ := zbind H
  refine zw_invV (pc := 1) (M' := M_J4_isLatin1) (A := []) [] dJ4_charAt_1 (Or.inl q996) mf_J4_isLatin1 q998 (zkq e4 rfl) (w_J4_isLatin1 e5) (Nat.le_of_ble_eq_true rfl) rfl (by rw [← e2]; rfl) (Nat.le_of_ble_eq_true rfl) (zkv ?_) zkn9
  rcases zif H with ⟨c7, H⟩ | ⟨c7, H⟩
  · refine zw_if_eq (pc := 4) (tgt := 16) dJ4_charAt_4 rfl (fun _ => ?_) (fun q => absurd c7 q)
    refine zw_aload_n (pc := 16) dJ4_charAt_16 rfl 0 rfl ?_
    obtain ⟨x8, e9, H⟩ := zbind H
    refine zy_getR (pc := 17) dJ4_charAt_17 lf_J4_9 (fun _ _ => rfl) e9 ?_
    refine zw_iload_n (pc := 20) dJ4_charAt_20 rfl 1 rfl ?_
    cases H
  · refine zw_if_eq (pc := 4) (tgt := 16) dJ4_charAt_4 rfl (fun q => absurd q c7) (fun _ => ?_)
    refine zw_aload_n (pc := 7) dJ4_charAt_7 rfl 0 rfl ?_
    obtain ⟨x10, e11, H⟩ := zbind H
    refine zy_getR (pc := 8) dJ4_charAt_8 lf_J4_9 (fun _ _ => rfl) e11 ?_
    refine zw_iload_n (pc := 11) dJ4_charAt_11 rfl 1 rfl ?_
    obtain ⟨x13, e12, H⟩ := zbind H
    refine zw_invS (pc := 12) (M' := M_J14_charAt) (A := [vR x10, vI p1]) [] dJ4_charAt_12 (Or.inl q1076) mf_J14_charAt (w_J14_charAt e12) (Nat.le_of_ble_eq_true rfl) rfl rfl (Nat.le_of_ble_eq_true rfl) (zkv ?_) zkn9
    obtain ⟨c14, H⟩ := zgd H
    obtain rfl := Option.some.inj H
    exact zw_zret (pc := 15) dJ4_charAt_15 rfl (znarV c14) rfl rfl
