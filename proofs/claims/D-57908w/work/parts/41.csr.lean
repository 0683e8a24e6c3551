/-! THE PURE PICTURE: X17 X18 X3 (written by gen/main.py) -/
set_option maxRecDepth 100000
def M_X17_of : zM := (yX17_of, cX17_of, 5, (.some .long), [])
def f_X17_of (p0 : Option Nat) (p1 : Int64) (p2 : Int64) (h : zH) : Option Int64 :=
  some (p1 + p2)
theorem w_X17_of {G : zG} {p0 : Option Nat} {p1 : Int64} {p2 : Int64} {h : zH} {vx : Int64} (H : f_X17_of p0 p1 p2 h = some vx) : zW G M_X17_of 2 h (.inl (some (vJ vx))) h 0 [(0, vR p0), (1, vJ p1), (3, vJ p2)] [] h := by
  unfold f_X17_of at H
  refine zw_lload_n (pc := 0) dX17_of_0 rfl 1 rfl ?_
  refine zw_lload_n (pc := 1) dX17_of_1 rfl 2 rfl ?_
  refine zw_ladd (pc := 2) dX17_of_2 ?_
  obtain rfl := Option.some.inj H
  exact zw_lret (pc := 3) dX17_of_3 rfl rfl rfl
def M_X18_of : zM := (yX18_of, cX18_of, 5, (.some .long), [])
def f_X18_of (p0 : Option Nat) (p1 : Int64) (p2 : Int64) (h : zH) : Option Int64 :=
  some (p1 - p2)
theorem w_X18_of {G : zG} {p0 : Option Nat} {p1 : Int64} {p2 : Int64} {h : zH} {vx : Int64} (H : f_X18_of p0 p1 p2 h = some vx) : zW G M_X18_of 2 h (.inl (some (vJ vx))) h 0 [(0, vR p0), (1, vJ p1), (3, vJ p2)] [] h := by
  unfold f_X18_of at H
  refine zw_lload_n (pc := 0) dX18_of_0 rfl 1 rfl ?_
  refine zw_lload_n (pc := 1) dX18_of_1 rfl 2 rfl ?_
  refine zw_lsub (pc := 2) dX18_of_2 ?_
  obtain rfl := Option.some.inj H
  exact zw_lret (pc := 3) dX18_of_3 rfl rfl rfl
theorem lq_X3_14 : zFp "CsrCalculator$Csr" "<init>" 14 3 0 := ⟨_, "CsrCalculator$Csr", by decide, rfl, by decide, Or.inl rfl, Or.inr ⟨q246, rfl, rfl, rfl⟩⟩
theorem lq_X3_18 : zFp "CsrCalculator$Csr" "<init>" 18 3 1 := ⟨_, "CsrCalculator$Csr", by decide, rfl, by decide, Or.inl rfl, Or.inr ⟨q249, rfl, rfl, rfl⟩⟩
theorem lq_X3_21 : zFp "CsrCalculator$Csr" "<init>" 21 3 2 := ⟨_, "CsrCalculator$Csr", by decide, rfl, by decide, Or.inl rfl, Or.inr ⟨q252, rfl, rfl, rfl⟩⟩
theorem lq_X3_25 : zFp "CsrCalculator$Csr" "<init>" 25 3 3 := ⟨_, "CsrCalculator$Csr", by decide, rfl, by decide, Or.inl rfl, Or.inr ⟨q254, rfl, rfl, rfl⟩⟩
theorem lq_X3_28 : zFp "CsrCalculator$Csr" "<init>" 28 3 4 := ⟨_, "CsrCalculator$Csr", by decide, rfl, by decide, Or.inl rfl, Or.inr ⟨q256, rfl, rfl, rfl⟩⟩
def M_X3_init_2 : zM := (yX3_init_2, cX3_init_2, 6, none, [])
theorem mf_X3_init_2 : zMi M_X3_init_2 5 := ⟨⟨q244, q182, ⟨by decide +kernel, by decide +kernel⟩, by decide +kernel, by decide⟩, q243⟩
def f_X3_init_2 (p0 : Option Nat) (p1 : Int32) (p2 : Int32) (p3 : Option Nat) (p4 : Option Nat) (p5 : Option Nat) (h : zH) : Option zH :=
  p0.bind fun b1 =>
  (zpI 3 0 p0 p1 h).bind fun h3 =>
  (zpI 3 1 p0 p2 h3).bind fun h5 =>
  (zpR 3 2 p0 p3 h5).bind fun h7 =>
  (zpR 3 3 p0 p4 h7).bind fun h9 =>
  (zpR 3 4 p0 p5 h9).bind fun h11 =>
  some h11
theorem w_X3_init_2 {G : zG} {p0 : Option Nat} {p1 : Int32} {p2 : Int32} {p3 : Option Nat} {p4 : Option Nat} {p5 : Option Nat} {h : zH} {vh : zH} (H : f_X3_init_2 p0 p1 p2 p3 p4 p5 h = some vh) : zMet G M_X3_init_2 2 [vR p0, vI p1, vI p2, vR p3, vR p4, vR p5] h (.inl none) vh := by
  refine zMet.of (by decide +kernel) (Nat.le_of_ble_eq_true rfl) ?_
  show zW G M_X3_init_2 2 h (.inl none) vh 0 [(0, vR p0), (1, vI p1), (2, vI p2), (3, vR p3), (4, vR p4), (5, vR p5)] [] h
  unfold f_X3_init_2 at H
  refine zw_aload_n (pc := 0) dX3_init_2_0 rfl 0 rfl ?_
  obtain ⟨b1, e2, H⟩ := zbind H
  refine zy_objInit (pc := 1) dX3_init_2_1 q245 e2 (Nat.le_of_ble_eq_true rfl) (Nat.le_of_ble_eq_true rfl) ?_
  refine zw_aload_n (pc := 4) dX3_init_2_4 rfl 0 rfl ?_
  refine zw_iload_n (pc := 5) dX3_init_2_5 rfl 1 rfl ?_
  obtain ⟨h3, e4, H⟩ := zbind H
  refine zy_putI (pc := 6) dX3_init_2_6 lq_X3_14 rfl e4 ?_
  refine zw_aload_n (pc := 9) dX3_init_2_9 rfl 0 rfl ?_
  refine zw_iload_n (pc := 10) dX3_init_2_10 rfl 2 rfl ?_
  obtain ⟨h5, e6, H⟩ := zbind H
  refine zy_putI (pc := 11) dX3_init_2_11 lq_X3_18 rfl e6 ?_
  refine zw_aload_n (pc := 14) dX3_init_2_14 rfl 0 rfl ?_
  refine zw_aload_n (pc := 15) dX3_init_2_15 rfl 3 rfl ?_
  obtain ⟨h7, e8, H⟩ := zbind H
  refine zy_putR (pc := 16) dX3_init_2_16 lq_X3_21 rfl e8 ?_
  refine zw_aload_n (pc := 19) dX3_init_2_19 rfl 0 rfl ?_
  refine zw_aload (pc := 20) dX3_init_2_20 4 rfl ?_
  obtain ⟨h9, e10, H⟩ := zbind H
  refine zy_putR (pc := 22) dX3_init_2_22 lq_X3_25 rfl e10 ?_
  refine zw_aload_n (pc := 25) dX3_init_2_25 rfl 0 rfl ?_
  refine zw_aload (pc := 26) dX3_init_2_26 5 rfl ?_
  obtain ⟨h11, e12, H⟩ := zbind H
  refine zy_putR (pc := 28) dX3_init_2_28 lq_X3_28 rfl e12 ?_
  obtain rfl := Option.some.inj H
  exact zw_vret (pc := 31) dX3_init_2_31 rfl rfl rfl
def M_X3_init : zM := (yX3_init, cX3_init, 3, none, [])
theorem mf_X3_init : zMi M_X3_init 2 := ⟨⟨q241, q182, ⟨by decide +kernel, by decide +kernel⟩, by decide +kernel, by decide⟩, q240⟩
def f_X3_init (p0 : Option Nat) (p1 : Int32) (p2 : Int32) (h : zH) : Option zH :=
  zb2 (zna 50 (p1 + (1 : Int32)) h) fun q1 h2 =>
  zb2 (zna 50 (0 : Int32) h2) fun q4 h5 =>
  zb2 (zna 50 (0 : Int32) h5) fun q7 h8 =>
  p0.bind fun b10 =>
  (f_X3_init_2 (some b10) p1 p2 (some q1) (some q4) (some q7) h8).bind fun h13 =>
  some h13
theorem w_X3_init {G : zG} {p0 : Option Nat} {p1 : Int32} {p2 : Int32} {h : zH} {vh : zH} (H : f_X3_init p0 p1 p2 h = some vh) : zMet G M_X3_init 3 [vR p0, vI p1, vI p2] h (.inl none) vh := by
  refine zMet.of (by decide +kernel) (Nat.le_of_ble_eq_true rfl) ?_
  show zW G M_X3_init 3 h (.inl none) vh 0 [(0, vR p0), (1, vI p1), (2, vI p2)] [] h
  unfold f_X3_init at H
  refine zw_aload_n (pc := 0) dX3_init_0 rfl 0 rfl ?_
  refine zw_iload_n (pc := 1) dX3_init_1 rfl 1 rfl ?_
  refine zw_iload_n (pc := 2) dX3_init_2 rfl 2 rfl ?_
  refine zw_iload_n (pc := 3) dX3_init_3 rfl 1 rfl ?_
  refine zw_iconst (pc := 4) (v := (1 : Int32)) dX3_init_4 (by decide) ?_
  refine zw_iadd (pc := 5) dX3_init_5 ?_
  obtain ⟨q1, h2, e3, H⟩ := zbind2 H
  refine zy_newa (pc := 6) (k := 50) dX3_init_6 (by decide) q270 e3 ?_
  refine zw_iconst (pc := 8) (v := (0 : Int32)) dX3_init_8 (by decide) ?_
  obtain ⟨q4, h5, e6, H⟩ := zbind2 H
  refine zy_newa (pc := 9) (k := 50) dX3_init_9 (by decide) q270 e6 ?_
  refine zw_iconst (pc := 11) (v := (0 : Int32)) dX3_init_11 (by decide) ?_
  obtain ⟨q7, h8, e9, H⟩ := zbind2 H
  refine zy_newa (pc := 12) (k := 50) dX3_init_12 (by decide) q270 e9 ?_
  obtain ⟨b10, e11, H⟩ := zbind H
  obtain ⟨h13, e12, H⟩ := zbind H
  refine zw_invI (pc := 14) (M' := M_X3_init_2) (A := [vI p1, vI p2, vR (some q1), vR (some q4), vR (some q7)]) [] dX3_init_14 (Or.inl q242) mf_X3_init_2 rfl rfl (w_X3_init_2 e12) (Nat.le_of_ble_eq_true rfl) rfl (by rw [← e11]; rfl) (Nat.le_of_ble_eq_true rfl) (zku ?_) zkn9
  obtain rfl := Option.some.inj H
  exact zw_vret (pc := 17) dX3_init_17 rfl rfl rfl
theorem lf_X3_14 : zFl "CsrCalculator$Csr" 14 3 0 := ⟨_, "CsrCalculator$Csr", by decide, rfl, by decide, Or.inl q246, Or.inl rfl⟩
theorem lf_X3_21 : zFl "CsrCalculator$Csr" 21 3 2 := ⟨_, "CsrCalculator$Csr", by decide, rfl, by decide, Or.inl q252, Or.inl rfl⟩
theorem lf_X3_25 : zFl "CsrCalculator$Csr" 25 3 3 := ⟨_, "CsrCalculator$Csr", by decide, rfl, by decide, Or.inl q254, Or.inl rfl⟩
def M_X3_wrongOrder : zM := (yX3_wrongOrder, cX3_wrongOrder, 4, (.some .int), [])
theorem mf_X3_wrongOrder : zMi M_X3_wrongOrder 0 := ⟨⟨q384, q182, ⟨by decide +kernel, by decide +kernel⟩, by decide +kernel, by decide⟩, q382⟩
def B_X3_wrongOrder_41 (k4 : Option Nat → Int32 → Int32 → Option Int32) (k41 : Option Nat → Int32 → Int32 → Int32 → Option Int32) (a0 : Option Nat) (a1 : Int32) (a2 : Int32) (a3 : Int32) (h : zH) : Option Int32 :=
  (zgR 3 2 a0 h).bind fun x1 =>
  (zaI 50 x1 (a2 + (1 : Int32)) h).bind fun x3 =>
  if x3 ≤ a3 then
  k4 a0 a1 (a2 + (1 : Int32))
  else
  (zgR 3 3 a0 h).bind fun x6 =>
  (zaI 50 x6 a3 h).bind fun x8 =>
  (zgR 3 3 a0 h).bind fun x10 =>
  (zaI 50 x10 (a3 - (1 : Int32)) h).bind fun x12 =>
  if x12 < x8 then
  k41 a0 a1 a2 (a3 + (1 : Int32))
  else
  k41 a0 (a1 + (1 : Int32)) a2 (a3 + (1 : Int32))
theorem wB_X3_wrongOrder_41 {G : zG} {h0 h : zH} {vx : Int32} {k4 : Option Nat → Int32 → Int32 → Option Int32} (hk4 : ∀ (b0 : Option Nat) (b1 : Int32) (b2 : Int32), k4 b0 b1 b2 = some vx → zW G M_X3_wrongOrder 2 h0 (.inl (some (vI vx))) h 4 [(0, vR b0), (1, vI b1), (2, vI b2)] [] h) {k41 : Option Nat → Int32 → Int32 → Int32 → Option Int32} (hk41 : ∀ (b0 : Option Nat) (b1 : Int32) (b2 : Int32) (b3 : Int32), k41 b0 b1 b2 b3 = some vx → zW G M_X3_wrongOrder 2 h0 (.inl (some (vI vx))) h 41 [(0, vR b0), (1, vI b1), (2, vI b2), (3, vI b3)] [] h) {a0 : Option Nat} {a1 : Int32} {a2 : Int32} {a3 : Int32} (H : B_X3_wrongOrder_41 k4 k41 a0 a1 a2 a3 h = some vx) : zW G M_X3_wrongOrder 2 h0 (.inl (some (vI vx))) h 41 [(0, vR a0), (1, vI a1), (2, vI a2), (3, vI a3)] [] h := by
  unfold B_X3_wrongOrder_41 at H
  refine zw_iload_n (pc := 41) dX3_wrongOrder_41 rfl 3 rfl ?_
  refine zw_aload_n (pc := 42) dX3_wrongOrder_42 rfl 0 rfl ?_
  obtain ⟨x1, e2, H⟩ := zbind H
  refine zy_getR (pc := 43) dX3_wrongOrder_43 lf_X3_21 (fun _ _ => rfl) e2 ?_
  refine zw_iload_n (pc := 46) dX3_wrongOrder_46 rfl 2 rfl ?_
  refine zw_iconst (pc := 47) (v := (1 : Int32)) dX3_wrongOrder_47 (by decide) ?_
  refine zw_iadd (pc := 48) dX3_wrongOrder_48 ?_
  obtain ⟨x3, e4, H⟩ := zbind H
  refine zy_iald (pc := 49) dX3_wrongOrder_49 e4 ?_
  rcases zif H with ⟨c5, H⟩ | ⟨c5, H⟩
  · refine zw_icmp_ge (pc := 50) (tgt := 79) dX3_wrongOrder_50 rfl (fun _ => ?_) (fun q => absurd c5 q)
    refine zw_iinc (pc := 79) (v := (a2 + (1 : Int32))) (lv' := [(2, vI (a2 + (1 : Int32))), (0, vR a0), (1, vI a1), (3, vI a3)]) dX3_wrongOrder_79 2 rfl rfl (by decide) rfl ?_
    refine zw_goto (pc := 82) (tgt := 4) dX3_wrongOrder_82 rfl ?_
    refine zW_pick (lv' := [(0, vR a0), (1, vI a1), (2, vI (a2 + (1 : Int32)))]) [1, 2, 0] rfl ?_
    exact hk4 _ _ _ H
  · refine zw_icmp_ge (pc := 50) (tgt := 79) dX3_wrongOrder_50 rfl (fun q => absurd q c5) (fun _ => ?_)
    refine zw_aload_n (pc := 53) dX3_wrongOrder_53 rfl 0 rfl ?_
    obtain ⟨x6, e7, H⟩ := zbind H
    refine zy_getR (pc := 54) dX3_wrongOrder_54 lf_X3_25 (fun _ _ => rfl) e7 ?_
    refine zw_iload_n (pc := 57) dX3_wrongOrder_57 rfl 3 rfl ?_
    obtain ⟨x8, e9, H⟩ := zbind H
    refine zy_iald (pc := 58) dX3_wrongOrder_58 e9 ?_
    refine zw_aload_n (pc := 59) dX3_wrongOrder_59 rfl 0 rfl ?_
    obtain ⟨x10, e11, H⟩ := zbind H
    refine zy_getR (pc := 60) dX3_wrongOrder_60 lf_X3_25 (fun _ _ => rfl) e11 ?_
    refine zw_iload_n (pc := 63) dX3_wrongOrder_63 rfl 3 rfl ?_
    refine zw_iconst (pc := 64) (v := (1 : Int32)) dX3_wrongOrder_64 (by decide) ?_
    refine zw_isub (pc := 65) dX3_wrongOrder_65 ?_
    obtain ⟨x12, e13, H⟩ := zbind H
    refine zy_iald (pc := 66) dX3_wrongOrder_66 e13 ?_
    rcases zif H with ⟨c14, H⟩ | ⟨c14, H⟩
    · refine zw_icmp_gt (pc := 67) (tgt := 73) dX3_wrongOrder_67 rfl (fun _ => ?_) (fun q => absurd c14 q)
      refine zw_iinc (pc := 73) (v := (a3 + (1 : Int32))) (lv' := [(3, vI (a3 + (1 : Int32))), (0, vR a0), (1, vI a1), (2, vI a2)]) dX3_wrongOrder_73 3 rfl rfl (by decide) rfl ?_
      refine zw_goto (pc := 76) (tgt := 41) dX3_wrongOrder_76 rfl ?_
      refine zW_pick (lv' := [(0, vR a0), (1, vI a1), (2, vI a2), (3, vI (a3 + (1 : Int32)))]) [1, 2, 3, 0] rfl ?_
      exact hk41 _ _ _ _ H
    · refine zw_icmp_gt (pc := 67) (tgt := 73) dX3_wrongOrder_67 rfl (fun q => absurd q c14) (fun _ => ?_)
      refine zw_iinc (pc := 70) (v := (a1 + (1 : Int32))) (lv' := [(1, vI (a1 + (1 : Int32))), (0, vR a0), (2, vI a2), (3, vI a3)]) dX3_wrongOrder_70 1 rfl rfl (by decide) rfl ?_
      refine zw_iinc (pc := 73) (v := (a3 + (1 : Int32))) (lv' := [(3, vI (a3 + (1 : Int32))), (1, vI (a1 + (1 : Int32))), (0, vR a0), (2, vI a2)]) dX3_wrongOrder_73 3 rfl rfl (by decide) rfl ?_
      refine zw_goto (pc := 76) (tgt := 41) dX3_wrongOrder_76 rfl ?_
      refine zW_pick (lv' := [(0, vR a0), (1, vI (a1 + (1 : Int32))), (2, vI a2), (3, vI (a3 + (1 : Int32)))]) [2, 1, 3, 0] rfl ?_
      exact hk41 _ _ _ _ H
def B_X3_wrongOrder_4 (k4 : Option Nat → Int32 → Int32 → Option Int32) (a0 : Option Nat) (a1 : Int32) (a2 : Int32) (h : zH) : Option Int32 :=
  (zgI 3 0 a0 h).bind fun x1 =>
  if x1 ≤ a2 then
  some a1
  else
  (zgR 3 2 a0 h).bind fun x4 =>
  (zaI 50 x4 (a2 + (1 : Int32)) h).bind fun x6 =>
  (zgR 3 2 a0 h).bind fun x8 =>
  (zaI 50 x8 a2 h).bind fun x10 =>
  if x10 ≤ x6 then
  (zgR 3 2 a0 h).bind fun x13 =>
  (zaI 50 x13 a2 h).bind fun x15 =>
  zloop (fun f c0 c1 c2 c3 => B_X3_wrongOrder_41 k4 f c0 c1 c2 c3 h) (fun _ _ _ _ => none) zFU a0 a1 a2 (x15 + (1 : Int32))
  else
  (zgR 3 2 a0 h).bind fun x17 =>
  (zaI 50 x17 a2 h).bind fun x19 =>
  zloop (fun f c0 c1 c2 c3 => B_X3_wrongOrder_41 k4 f c0 c1 c2 c3 h) (fun _ _ _ _ => none) zFU a0 (a1 + (1 : Int32)) a2 (x19 + (1 : Int32))
theorem wB_X3_wrongOrder_4 {G : zG} {h0 h : zH} {vx : Int32} {k4 : Option Nat → Int32 → Int32 → Option Int32} (hk4 : ∀ (b0 : Option Nat) (b1 : Int32) (b2 : Int32), k4 b0 b1 b2 = some vx → zW G M_X3_wrongOrder 2 h0 (.inl (some (vI vx))) h 4 [(0, vR b0), (1, vI b1), (2, vI b2)] [] h) {a0 : Option Nat} {a1 : Int32} {a2 : Int32} (H : B_X3_wrongOrder_4 k4 a0 a1 a2 h = some vx) : zW G M_X3_wrongOrder 2 h0 (.inl (some (vI vx))) h 4 [(0, vR a0), (1, vI a1), (2, vI a2)] [] h := by
  unfold B_X3_wrongOrder_4 at H
  refine zw_iload_n (pc := 4) dX3_wrongOrder_4 rfl 2 rfl ?_
  refine zw_aload_n (pc := 5) dX3_wrongOrder_5 rfl 0 rfl ?_
  obtain ⟨x1, e2, H⟩ := zbind H
  refine zy_getI (pc := 6) dX3_wrongOrder_6 lf_X3_14 (fun _ _ => rfl) e2 ?_
  rcases zif H with ⟨c3, H⟩ | ⟨c3, H⟩
  · refine zw_icmp_ge (pc := 9) (tgt := 85) dX3_wrongOrder_9 rfl (fun _ => ?_) (fun q => absurd c3 q)
    refine zw_iload_n (pc := 85) dX3_wrongOrder_85 rfl 1 rfl ?_
    obtain rfl := Option.some.inj H
    exact zw_iret (pc := 86) dX3_wrongOrder_86 rfl rfl rfl
  · refine zw_icmp_ge (pc := 9) (tgt := 85) dX3_wrongOrder_9 rfl (fun q => absurd q c3) (fun _ => ?_)
    refine zw_aload_n (pc := 12) dX3_wrongOrder_12 rfl 0 rfl ?_
    obtain ⟨x4, e5, H⟩ := zbind H
    refine zy_getR (pc := 13) dX3_wrongOrder_13 lf_X3_21 (fun _ _ => rfl) e5 ?_
    refine zw_iload_n (pc := 16) dX3_wrongOrder_16 rfl 2 rfl ?_
    refine zw_iconst (pc := 17) (v := (1 : Int32)) dX3_wrongOrder_17 (by decide) ?_
    refine zw_iadd (pc := 18) dX3_wrongOrder_18 ?_
    obtain ⟨x6, e7, H⟩ := zbind H
    refine zy_iald (pc := 19) dX3_wrongOrder_19 e7 ?_
    refine zw_aload_n (pc := 20) dX3_wrongOrder_20 rfl 0 rfl ?_
    obtain ⟨x8, e9, H⟩ := zbind H
    refine zy_getR (pc := 21) dX3_wrongOrder_21 lf_X3_21 (fun _ _ => rfl) e9 ?_
    refine zw_iload_n (pc := 24) dX3_wrongOrder_24 rfl 2 rfl ?_
    obtain ⟨x10, e11, H⟩ := zbind H
    refine zy_iald (pc := 25) dX3_wrongOrder_25 e11 ?_
    rcases zif H with ⟨c12, H⟩ | ⟨c12, H⟩
    · refine zw_icmp_ge (pc := 26) (tgt := 32) dX3_wrongOrder_26 rfl (fun _ => ?_) (fun q => absurd c12 q)
      refine zw_aload_n (pc := 32) dX3_wrongOrder_32 rfl 0 rfl ?_
      obtain ⟨x13, e14, H⟩ := zbind H
      refine zy_getR (pc := 33) dX3_wrongOrder_33 lf_X3_21 (fun _ _ => rfl) e14 ?_
      refine zw_iload_n (pc := 36) dX3_wrongOrder_36 rfl 2 rfl ?_
      obtain ⟨x15, e16, H⟩ := zbind H
      refine zy_iald (pc := 37) dX3_wrongOrder_37 e16 ?_
      refine zw_iconst (pc := 38) (v := (1 : Int32)) dX3_wrongOrder_38 (by decide) ?_
      refine zw_iadd (pc := 39) dX3_wrongOrder_39 ?_
      refine zw_istore_n (pc := 40) (lv' := [(3, vI (x15 + (1 : Int32))), (0, vR a0), (1, vI a1), (2, vI a2)]) dX3_wrongOrder_40 rfl (by decide) rfl ?_
      refine zW_pick (lv' := [(0, vR a0), (1, vI a1), (2, vI a2), (3, vI (x15 + (1 : Int32)))]) [1, 2, 3, 0] rfl ?_
      exact zloop_ind (body := (fun f c0 c1 c2 c3 => B_X3_wrongOrder_41 k4 f c0 c1 c2 c3 h)) (bot := (fun _ _ _ _ => none)) (P := (fun (f : Option Nat → Int32 → Int32 → Int32 → Option Int32) => ∀ (b0 : Option Nat) (b1 : Int32) (b2 : Int32) (b3 : Int32), f b0 b1 b2 b3 = some vx → zW G M_X3_wrongOrder 2 h0 (.inl (some (vI vx))) h 41 [(0, vR b0), (1, vI b1), (2, vI b2), (3, vI b3)] [] h)) zFU (fun _ _ _ _ H => nomatch H) (fun f hf c0 c1 c2 c3 H => wB_X3_wrongOrder_41 hk4 hf H) _ _ _ _ H
    · refine zw_icmp_ge (pc := 26) (tgt := 32) dX3_wrongOrder_26 rfl (fun q => absurd q c12) (fun _ => ?_)
      refine zw_iinc (pc := 29) (v := (a1 + (1 : Int32))) (lv' := [(1, vI (a1 + (1 : Int32))), (0, vR a0), (2, vI a2)]) dX3_wrongOrder_29 1 rfl rfl (by decide) rfl ?_
      refine zw_aload_n (pc := 32) dX3_wrongOrder_32 rfl 1 rfl ?_
      obtain ⟨x17, e18, H⟩ := zbind H
      refine zy_getR (pc := 33) dX3_wrongOrder_33 lf_X3_21 (fun _ _ => rfl) e18 ?_
      refine zw_iload_n (pc := 36) dX3_wrongOrder_36 rfl 2 rfl ?_
      obtain ⟨x19, e20, H⟩ := zbind H
      refine zy_iald (pc := 37) dX3_wrongOrder_37 e20 ?_
      refine zw_iconst (pc := 38) (v := (1 : Int32)) dX3_wrongOrder_38 (by decide) ?_
      refine zw_iadd (pc := 39) dX3_wrongOrder_39 ?_
      refine zw_istore_n (pc := 40) (lv' := [(3, vI (x19 + (1 : Int32))), (1, vI (a1 + (1 : Int32))), (0, vR a0), (2, vI a2)]) dX3_wrongOrder_40 rfl (by decide) rfl ?_
      refine zW_pick (lv' := [(0, vR a0), (1, vI (a1 + (1 : Int32))), (2, vI a2), (3, vI (x19 + (1 : Int32)))]) [2, 1, 3, 0] rfl ?_
      exact zloop_ind (body := (fun f c0 c1 c2 c3 => B_X3_wrongOrder_41 k4 f c0 c1 c2 c3 h)) (bot := (fun _ _ _ _ => none)) (P := (fun (f : Option Nat → Int32 → Int32 → Int32 → Option Int32) => ∀ (b0 : Option Nat) (b1 : Int32) (b2 : Int32) (b3 : Int32), f b0 b1 b2 b3 = some vx → zW G M_X3_wrongOrder 2 h0 (.inl (some (vI vx))) h 41 [(0, vR b0), (1, vI b1), (2, vI b2), (3, vI b3)] [] h)) zFU (fun _ _ _ _ H => nomatch H) (fun f hf c0 c1 c2 c3 H => wB_X3_wrongOrder_41 hk4 hf H) _ _ _ _ H
def f_X3_wrongOrder (p0 : Option Nat) (h : zH) : Option Int32 :=
  zloop (fun f c0 c1 c2 => B_X3_wrongOrder_4 f c0 c1 c2 h) (fun _ _ _ => none) zFU p0 (0 : Int32) (0 : Int32)
theorem w_X3_wrongOrder {G : zG} {p0 : Option Nat} {h : zH} {vx : Int32} (H : f_X3_wrongOrder p0 h = some vx) : zMet G M_X3_wrongOrder 2 [vR p0] h (.inl (some (vI vx))) h := by
  refine zMet.of (by decide +kernel) (Nat.le_of_ble_eq_true rfl) ?_
  show zW G M_X3_wrongOrder 2 h (.inl (some (vI vx))) h 0 [(0, vR p0)] [] h
  unfold f_X3_wrongOrder at H
  refine zw_iconst (pc := 0) (v := (0 : Int32)) dX3_wrongOrder_0 (by decide) ?_
  refine zw_istore_n (pc := 1) (lv' := [(1, vI (0 : Int32)), (0, vR p0)]) dX3_wrongOrder_1 rfl (by decide) rfl ?_
  refine zw_iconst (pc := 2) (v := (0 : Int32)) dX3_wrongOrder_2 (by decide) ?_
  refine zw_istore_n (pc := 3) (lv' := [(2, vI (0 : Int32)), (1, vI (0 : Int32)), (0, vR p0)]) dX3_wrongOrder_3 rfl (by decide) rfl ?_
  refine zW_pick (lv' := [(0, vR p0), (1, vI (0 : Int32)), (2, vI (0 : Int32))]) [2, 1, 0] rfl ?_
  exact zloop_ind (body := (fun f c0 c1 c2 => B_X3_wrongOrder_4 f c0 c1 c2 h)) (bot := (fun _ _ _ => none)) (P := (fun (f : Option Nat → Int32 → Int32 → Option Int32) => ∀ (b0 : Option Nat) (b1 : Int32) (b2 : Int32), f b0 b1 b2 = some vx → zW G M_X3_wrongOrder 2 h (.inl (some (vI vx))) h 4 [(0, vR b0), (1, vI b1), (2, vI b2)] [] h)) zFU (fun _ _ _ H => nomatch H) (fun f hf c0 c1 c2 H => wB_X3_wrongOrder_4 hf H) _ _ _ H
def M_X1_isIn : zM := (yX1_isIn, cX1_isIn, 6, (.some .boolean), [])
theorem mf_X1_isIn : zMs M_X1_isIn 3 := ⟨⟨q427, q180, ⟨by decide +kernel, by decide +kernel⟩, by decide +kernel, by decide⟩, q426⟩
def f_X1_isIn (p0 : Int64) (p1 : Int64) (p2 : Int64) (h : zH) : Option Int32 :=
  if p0 < p1 then
  some (0 : Int32)
  else
  if p2 < p0 then
  some (0 : Int32)
  else
  some (1 : Int32)
theorem w_X1_isIn {G : zG} {p0 : Int64} {p1 : Int64} {p2 : Int64} {h : zH} {vx : Int32} (H : f_X1_isIn p0 p1 p2 h = some vx) : zMet G M_X1_isIn 2 [vJ p0, vJ p1, vJ p2] h (.inl (some (vI vx))) h := by
  refine zMet.of (by decide +kernel) (Nat.le_of_ble_eq_true rfl) ?_
  show zW G M_X1_isIn 2 h (.inl (some (vI vx))) h 0 [(0, vJ p0), (2, vJ p1), (4, vJ p2)] [] h
  unfold f_X1_isIn at H
  refine zw_lload_n (pc := 0) dX1_isIn_0 rfl 0 rfl ?_
  refine zw_lload_n (pc := 1) dX1_isIn_1 rfl 1 rfl ?_
  refine zw_lcmp (pc := 2) dX1_isIn_2 ?_
  rcases zif H with ⟨c1, H⟩ | ⟨c1, H⟩
  · refine zw_if_lt (pc := 3) (tgt := 17) dX1_isIn_3 rfl (fun _ => ?_) (fun q => absurd (lgc_lt.mpr c1) q)
    refine zw_iconst (pc := 17) (v := (0 : Int32)) dX1_isIn_17 (by decide) ?_
    obtain rfl := Option.some.inj H
    exact zw_zret (pc := 18) dX1_isIn_18 rfl rfl rfl rfl
  · refine zw_if_lt (pc := 3) (tgt := 17) dX1_isIn_3 rfl (fun q => absurd q (fun q => c1 (lgc_lt.mp q))) (fun _ => ?_)
    refine zw_lload_n (pc := 6) dX1_isIn_6 rfl 0 rfl ?_
    refine zw_lload (pc := 7) dX1_isIn_7 2 rfl ?_
    refine zw_lcmp (pc := 9) dX1_isIn_9 ?_
    rcases zif H with ⟨c2, H⟩ | ⟨c2, H⟩
    · refine zw_if_gt (pc := 10) (tgt := 17) dX1_isIn_10 rfl (fun _ => ?_) (fun q => absurd (lgc_gt.mpr c2) q)
      refine zw_iconst (pc := 17) (v := (0 : Int32)) dX1_isIn_17 (by decide) ?_
      obtain rfl := Option.some.inj H
      exact zw_zret (pc := 18) dX1_isIn_18 rfl rfl rfl rfl
    · refine zw_if_gt (pc := 10) (tgt := 17) dX1_isIn_10 rfl (fun q => absurd q (fun q => c2 (lgc_gt.mp q))) (fun _ => ?_)
      refine zw_iconst (pc := 13) (v := (1 : Int32)) dX1_isIn_13 (by decide) ?_
      refine zw_goto (pc := 14) (tgt := 18) dX1_isIn_14 rfl ?_
      obtain rfl := Option.some.inj H
      exact zw_zret (pc := 18) dX1_isIn_18 rfl rfl rfl rfl
def M_X3_cut : zM := (yX3_cut, cX3_cut, 3, (.some (.array .int)), [])
theorem mf_X3_cut : zMs M_X3_cut 2 := ⟨⟨q496, q182, ⟨by decide +kernel, by decide +kernel⟩, by decide +kernel, by decide⟩, q495⟩
def f_X3_cut (p0 : Option Nat) (p1 : Int32) (h : zH) : Option (Option Nat × zH) :=
  zb2 (zna 50 p1 h) fun q1 h2 =>
  (zcpI 50 p0 (0 : Int32) (some q1) (0 : Int32) p1 h2).bind fun h4 =>
  some ((some q1), h4)
theorem w_X3_cut {G : zG} {p0 : Option Nat} {p1 : Int32} {h : zH} {vx : Option Nat} {vh : zH} (H : f_X3_cut p0 p1 h = some (vx, vh)) : zMet G M_X3_cut 2 [vR p0, vI p1] h (.inl (some (vR vx))) vh := by
  refine zMet.of (by decide +kernel) (Nat.le_of_ble_eq_true rfl) ?_
  show zW G M_X3_cut 2 h (.inl (some (vR vx))) vh 0 [(0, vR p0), (1, vI p1)] [] h
  unfold f_X3_cut at H
  refine zw_iload_n (pc := 0) dX3_cut_0 rfl 1 rfl ?_
  obtain ⟨q1, h2, e3, H⟩ := zbind2 H
  refine zy_newa (pc := 1) (k := 50) dX3_cut_1 (by decide) q270 e3 ?_
  refine zw_astore_n (pc := 3) (lv' := [(2, vR (some q1)), (0, vR p0), (1, vI p1)]) dX3_cut_3 rfl (by decide) rfl ?_
  refine zw_aload_n (pc := 4) dX3_cut_4 rfl 1 rfl ?_
  refine zw_iconst (pc := 5) (v := (0 : Int32)) dX3_cut_5 (by decide) ?_
  refine zw_aload_n (pc := 6) dX3_cut_6 rfl 0 rfl ?_
  refine zw_iconst (pc := 7) (v := (0 : Int32)) dX3_cut_7 (by decide) ?_
  refine zw_iload_n (pc := 8) dX3_cut_8 rfl 2 rfl ?_
  obtain ⟨h4, e5, H⟩ := zbind H
  refine zy_copyI (pc := 9) dX3_cut_9 q497 (Nat.le_of_ble_eq_true rfl) (by decide) e5 (Nat.le_of_ble_eq_true rfl) ?_
  refine zw_aload_n (pc := 12) dX3_cut_12 rfl 0 rfl ?_
  obtain ⟨rfl, rfl⟩ := Prod.mk.inj (Option.some.inj H)
  exact zw_aret (pc := 13) dX3_cut_13 rfl (Or.inr ⟨_, rfl⟩) rfl rfl
def M_X3_find : zM := (yX3_find, cX3_find, 6, (.some .int), [])
theorem mf_X3_find : zMi M_X3_find 2 := ⟨⟨q404, q182, ⟨by decide +kernel, by decide +kernel⟩, by decide +kernel, by decide⟩, q402⟩
def B_X3_find_19 (k19 : Option Nat → Int32 → Int32 → Int32 → Option Int32) (a0 : Option Nat) (a1 : Int32) (a2 : Int32) (a3 : Int32) (h : zH) : Option Int32 :=
  if a3 < a2 then
  some (-1 : Int32)
  else
  (zgR 3 3 a0 h).bind fun x2 =>
  (zaI 50 x2 (((a2 + a3).toUInt32 >>> ((1 : Int32).toUInt32 &&& Int32.toUInt32 31)).toInt32) h).bind fun x4 =>
  if x4 = a1 then
  some (((a2 + a3).toUInt32 >>> ((1 : Int32).toUInt32 &&& Int32.toUInt32 31)).toInt32)
  else
  (zgR 3 3 a0 h).bind fun x7 =>
  (zaI 50 x7 (((a2 + a3).toUInt32 >>> ((1 : Int32).toUInt32 &&& Int32.toUInt32 31)).toInt32) h).bind fun x9 =>
  if a1 ≤ x9 then
  k19 a0 a1 a2 ((((a2 + a3).toUInt32 >>> ((1 : Int32).toUInt32 &&& Int32.toUInt32 31)).toInt32) - (1 : Int32))
  else
  k19 a0 a1 ((((a2 + a3).toUInt32 >>> ((1 : Int32).toUInt32 &&& Int32.toUInt32 31)).toInt32) + (1 : Int32)) a3
theorem wB_X3_find_19 {G : zG} {h0 h : zH} {vx : Int32} {k19 : Option Nat → Int32 → Int32 → Int32 → Option Int32} (hk19 : ∀ (b0 : Option Nat) (b1 : Int32) (b2 : Int32) (b3 : Int32), k19 b0 b1 b2 b3 = some vx → zW G M_X3_find 2 h0 (.inl (some (vI vx))) h 19 [(0, vR b0), (2, vI b1), (3, vI b2), (4, vI b3)] [] h) {a0 : Option Nat} {a1 : Int32} {a2 : Int32} {a3 : Int32} (H : B_X3_find_19 k19 a0 a1 a2 a3 h = some vx) : zW G M_X3_find 2 h0 (.inl (some (vI vx))) h 19 [(0, vR a0), (2, vI a1), (3, vI a2), (4, vI a3)] [] h := by
  unfold B_X3_find_19 at H
  refine zw_iload_n (pc := 19) dX3_find_19 rfl 2 rfl ?_
  refine zw_iload (pc := 20) dX3_find_20 3 rfl ?_
  rcases zif H with ⟨c1, H⟩ | ⟨c1, H⟩
  · refine zw_icmp_gt (pc := 22) (tgt := 75) dX3_find_22 rfl (fun _ => ?_) (fun q => absurd c1 q)
    refine zw_iconst (pc := 75) (v := (-1 : Int32)) dX3_find_75 (by decide) ?_
    obtain rfl := Option.some.inj H
    exact zw_iret (pc := 76) dX3_find_76 rfl rfl rfl
  · refine zw_icmp_gt (pc := 22) (tgt := 75) dX3_find_22 rfl (fun q => absurd q c1) (fun _ => ?_)
    refine zw_iload_n (pc := 25) dX3_find_25 rfl 2 rfl ?_
    refine zw_iload (pc := 26) dX3_find_26 3 rfl ?_
    refine zw_iadd (pc := 28) dX3_find_28 ?_
    refine zw_iconst (pc := 29) (v := (1 : Int32)) dX3_find_29 (by decide) ?_
    refine zw_iushr (pc := 30) dX3_find_30 ?_
    refine zw_istore (pc := 31) (lv' := [(5, vI (((a2 + a3).toUInt32 >>> ((1 : Int32).toUInt32 &&& Int32.toUInt32 31)).toInt32)), (0, vR a0), (2, vI a1), (3, vI a2), (4, vI a3)]) dX3_find_31 (by decide) rfl ?_
    refine zw_aload_n (pc := 33) dX3_find_33 rfl 1 rfl ?_
    obtain ⟨x2, e3, H⟩ := zbind H
    refine zy_getR (pc := 34) dX3_find_34 lf_X3_25 (fun _ _ => rfl) e3 ?_
    refine zw_iload (pc := 37) dX3_find_37 0 rfl ?_
    obtain ⟨x4, e5, H⟩ := zbind H
    refine zy_iald (pc := 39) dX3_find_39 e5 ?_
    refine zw_iload_n (pc := 40) dX3_find_40 rfl 2 rfl ?_
    rcases zif H with ⟨c6, H⟩ | ⟨c6, H⟩
    · refine zw_icmp_ne (pc := 41) (tgt := 47) dX3_find_41 rfl (fun q => absurd c6 q) (fun _ => ?_)
      refine zw_iload (pc := 44) dX3_find_44 0 rfl ?_
      obtain rfl := Option.some.inj H
      exact zw_iret (pc := 46) dX3_find_46 rfl rfl rfl
    · refine zw_icmp_ne (pc := 41) (tgt := 47) dX3_find_41 rfl (fun _ => ?_) (fun q => absurd q c6)
      refine zw_aload_n (pc := 47) dX3_find_47 rfl 1 rfl ?_
      obtain ⟨x7, e8, H⟩ := zbind H
      refine zy_getR (pc := 48) dX3_find_48 lf_X3_25 (fun _ _ => rfl) e8 ?_
      refine zw_iload (pc := 51) dX3_find_51 0 rfl ?_
      obtain ⟨x9, e10, H⟩ := zbind H
      refine zy_iald (pc := 53) dX3_find_53 e10 ?_
      refine zw_iload_n (pc := 54) dX3_find_54 rfl 2 rfl ?_
      rcases zif H with ⟨c11, H⟩ | ⟨c11, H⟩
      · refine zw_icmp_ge (pc := 55) (tgt := 66) dX3_find_55 rfl (fun _ => ?_) (fun q => absurd c11 q)
        refine zw_iload (pc := 66) dX3_find_66 0 rfl ?_
        refine zw_iconst (pc := 68) (v := (1 : Int32)) dX3_find_68 (by decide) ?_
        refine zw_isub (pc := 69) dX3_find_69 ?_
        refine zw_istore (pc := 70) (lv' := [(4, vI ((((a2 + a3).toUInt32 >>> ((1 : Int32).toUInt32 &&& Int32.toUInt32 31)).toInt32) - (1 : Int32))), (5, vI (((a2 + a3).toUInt32 >>> ((1 : Int32).toUInt32 &&& Int32.toUInt32 31)).toInt32)), (0, vR a0), (2, vI a1), (3, vI a2)]) dX3_find_70 (by decide) rfl ?_
        refine zw_goto (pc := 72) (tgt := 19) dX3_find_72 rfl ?_
        refine zW_pick (lv' := [(0, vR a0), (2, vI a1), (3, vI a2), (4, vI ((((a2 + a3).toUInt32 >>> ((1 : Int32).toUInt32 &&& Int32.toUInt32 31)).toInt32) - (1 : Int32)))]) [2, 3, 4, 0] rfl ?_
        exact hk19 _ _ _ _ H
      · refine zw_icmp_ge (pc := 55) (tgt := 66) dX3_find_55 rfl (fun q => absurd q c11) (fun _ => ?_)
        refine zw_iload (pc := 58) dX3_find_58 0 rfl ?_
        refine zw_iconst (pc := 60) (v := (1 : Int32)) dX3_find_60 (by decide) ?_
        refine zw_iadd (pc := 61) dX3_find_61 ?_
        refine zw_istore_n (pc := 62) (lv' := [(3, vI ((((a2 + a3).toUInt32 >>> ((1 : Int32).toUInt32 &&& Int32.toUInt32 31)).toInt32) + (1 : Int32))), (5, vI (((a2 + a3).toUInt32 >>> ((1 : Int32).toUInt32 &&& Int32.toUInt32 31)).toInt32)), (0, vR a0), (2, vI a1), (4, vI a3)]) dX3_find_62 rfl (by decide) rfl ?_
        refine zw_goto (pc := 63) (tgt := 72) dX3_find_63 rfl ?_
        refine zw_goto (pc := 72) (tgt := 19) dX3_find_72 rfl ?_
        refine zW_pick (lv' := [(0, vR a0), (2, vI a1), (3, vI ((((a2 + a3).toUInt32 >>> ((1 : Int32).toUInt32 &&& Int32.toUInt32 31)).toInt32) + (1 : Int32))), (4, vI a3)]) [2, 3, 0, 4] rfl ?_
        exact hk19 _ _ _ _ H
def f_X3_find (p0 : Option Nat) (p1 : Int32) (p2 : Int32) (h : zH) : Option Int32 :=
  (zgR 3 2 p0 h).bind fun x1 =>
  (zaI 50 x1 p1 h).bind fun x3 =>
  (zgR 3 2 p0 h).bind fun x5 =>
  (zaI 50 x5 (p1 + (1 : Int32)) h).bind fun x7 =>
  zloop (fun f c0 c1 c2 c3 => B_X3_find_19 f c0 c1 c2 c3 h) (fun _ _ _ _ => none) zFU p0 p2 x3 (x7 - (1 : Int32))
theorem w_X3_find {G : zG} {p0 : Option Nat} {p1 : Int32} {p2 : Int32} {h : zH} {vx : Int32} (H : f_X3_find p0 p1 p2 h = some vx) : zMet G M_X3_find 2 [vR p0, vI p1, vI p2] h (.inl (some (vI vx))) h := by
  refine zMet.of (by decide +kernel) (Nat.le_of_ble_eq_true rfl) ?_
  show zW G M_X3_find 2 h (.inl (some (vI vx))) h 0 [(0, vR p0), (1, vI p1), (2, vI p2)] [] h
  unfold f_X3_find at H
  refine zw_aload_n (pc := 0) dX3_find_0 rfl 0 rfl ?_
  obtain ⟨x1, e2, H⟩ := zbind H
  refine zy_getR (pc := 1) dX3_find_1 lf_X3_21 (fun _ _ => rfl) e2 ?_
  refine zw_iload_n (pc := 4) dX3_find_4 rfl 1 rfl ?_
  obtain ⟨x3, e4, H⟩ := zbind H
  refine zy_iald (pc := 5) dX3_find_5 e4 ?_
  refine zw_istore_n (pc := 6) (lv' := [(3, vI x3), (0, vR p0), (1, vI p1), (2, vI p2)]) dX3_find_6 rfl (by decide) rfl ?_
  refine zw_aload_n (pc := 7) dX3_find_7 rfl 1 rfl ?_
  obtain ⟨x5, e6, H⟩ := zbind H
  refine zy_getR (pc := 8) dX3_find_8 lf_X3_21 (fun _ _ => rfl) e6 ?_
  refine zw_iload_n (pc := 11) dX3_find_11 rfl 2 rfl ?_
  refine zw_iconst (pc := 12) (v := (1 : Int32)) dX3_find_12 (by decide) ?_
  refine zw_iadd (pc := 13) dX3_find_13 ?_
  obtain ⟨x7, e8, H⟩ := zbind H
  refine zy_iald (pc := 14) dX3_find_14 e8 ?_
  refine zw_iconst (pc := 15) (v := (1 : Int32)) dX3_find_15 (by decide) ?_
  refine zw_isub (pc := 16) dX3_find_16 ?_
  refine zw_istore (pc := 17) (lv' := [(4, vI (x7 - (1 : Int32))), (3, vI x3), (0, vR p0), (1, vI p1), (2, vI p2)]) dX3_find_17 (by decide) rfl ?_
  refine zW_pick (lv' := [(0, vR p0), (2, vI p2), (3, vI x3), (4, vI (x7 - (1 : Int32)))]) [2, 4, 1, 0] rfl ?_
  exact zloop_ind (body := (fun f c0 c1 c2 c3 => B_X3_find_19 f c0 c1 c2 c3 h)) (bot := (fun _ _ _ _ => none)) (P := (fun (f : Option Nat → Int32 → Int32 → Int32 → Option Int32) => ∀ (b0 : Option Nat) (b1 : Int32) (b2 : Int32) (b3 : Int32), f b0 b1 b2 b3 = some vx → zW G M_X3_find 2 h (.inl (some (vI vx))) h 19 [(0, vR b0), (2, vI b1), (3, vI b2), (4, vI b3)] [] h)) zFU (fun _ _ _ _ H => nomatch H) (fun f hf c0 c1 c2 c3 H => wB_X3_find_19 hf H) _ _ _ _ H
def M_X3_stores : zM := (yX3_stores, cX3_stores, 3, (.some .boolean), [])
theorem mf_X3_stores : zMi M_X3_stores 2 := ⟨⟨q400, q182, ⟨by decide +kernel, by decide +kernel⟩, by decide +kernel, by decide⟩, q398⟩
def f_X3_stores (p0 : Option Nat) (p1 : Int32) (p2 : Int32) (h : zH) : Option Int32 :=
  (zrv 3 p0 h).bind fun b1 =>
  (f_X3_find (some b1) p1 p2 h).bind fun x6 =>
  if x6 = (-1 : Int32) then
  some (0 : Int32)
  else
  some (1 : Int32)
theorem w_X3_stores {G : zG} {p0 : Option Nat} {p1 : Int32} {p2 : Int32} {h : zH} {vx : Int32} (H : f_X3_stores p0 p1 p2 h = some vx) : zMet G M_X3_stores 3 [vR p0, vI p1, vI p2] h (.inl (some (vI vx))) h := by
  refine zMet.of (by decide +kernel) (Nat.le_of_ble_eq_true rfl) ?_
  show zW G M_X3_stores 3 h (.inl (some (vI vx))) h 0 [(0, vR p0), (1, vI p1), (2, vI p2)] [] h
  unfold f_X3_stores at H
  refine zw_aload_n (pc := 0) dX3_stores_0 rfl 0 rfl ?_
  refine zw_iload_n (pc := 1) dX3_stores_1 rfl 1 rfl ?_
  refine zw_iload_n (pc := 2) dX3_stores_2 rfl 2 rfl ?_
  obtain ⟨b1, e3, H⟩ := zbind H
  obtain ⟨e2, e4⟩ := zrv_ok e3
  obtain ⟨x6, e5, H⟩ := zbind H
  refine zw_invV (pc := 3) (M' := M_X3_find) (A := [vI p1, vI p2]) [] dX3_stores_3 (Or.inl q401) mf_X3_find q403 (zkq e4 rfl) (w_X3_find e5) (Nat.le_of_ble_eq_true rfl) rfl (by rw [← e2]; rfl) (Nat.le_of_ble_eq_true rfl) (zkv ?_) zkn9
  refine zw_iconst (pc := 6) (v := (-1 : Int32)) dX3_stores_6 (by decide) ?_
  rcases zif H with ⟨c7, H⟩ | ⟨c7, H⟩
  · refine zw_icmp_eq (pc := 7) (tgt := 14) dX3_stores_7 rfl (fun _ => ?_) (fun q => absurd c7 q)
    refine zw_iconst (pc := 14) (v := (0 : Int32)) dX3_stores_14 (by decide) ?_
    obtain rfl := Option.some.inj H
    exact zw_zret (pc := 15) dX3_stores_15 rfl rfl rfl rfl
  · refine zw_icmp_eq (pc := 7) (tgt := 14) dX3_stores_7 rfl (fun q => absurd q c7) (fun _ => ?_)
    refine zw_iconst (pc := 10) (v := (1 : Int32)) dX3_stores_10 (by decide) ?_
    refine zw_goto (pc := 11) (tgt := 15) dX3_stores_11 rfl ?_
    obtain rfl := Option.some.inj H
    exact zw_zret (pc := 15) dX3_stores_15 rfl rfl rfl rfl
def M_X3_lambda_joined_14 : zM := (yX3_lambda_joined_14, cX3_lambda_joined_14, 4, (.some .boolean), [])
theorem mf_X3_lambda_joined_14 : zMi M_X3_lambda_joined_14 3 := ⟨⟨q1413, q182, ⟨by decide +kernel, by decide +kernel⟩, by decide +kernel, by decide⟩, q1412⟩
def f_X3_lambda_joined_14 (p0 : Option Nat) (p1 : Option Nat) (p2 : Int32) (p3 : Int32) (h : zH) : Option Int32 :=
  (zrv 3 p0 h).bind fun b1 =>
  (f_X3_stores (some b1) p2 p3 h).bind fun x6 =>
  if x6 = 0 then
  (zrv 3 p1 h).bind fun b8 =>
  (f_X3_stores (some b8) p2 p3 h).bind fun x13 =>
  if x13 = 0 then
  some (0 : Int32)
  else
  some (1 : Int32)
  else
  some (1 : Int32)
theorem w_X3_lambda_joined_14 {G : zG} {p0 : Option Nat} {p1 : Option Nat} {p2 : Int32} {p3 : Int32} {h : zH} {vx : Int32} (H : f_X3_lambda_joined_14 p0 p1 p2 p3 h = some vx) : zMet G M_X3_lambda_joined_14 4 [vR p0, vR p1, vI p2, vI p3] h (.inl (some (vI vx))) h := by
  refine zMet.of (by decide +kernel) (Nat.le_of_ble_eq_true rfl) ?_
  show zW G M_X3_lambda_joined_14 4 h (.inl (some (vI vx))) h 0 [(0, vR p0), (1, vR p1), (2, vI p2), (3, vI p3)] [] h
  unfold f_X3_lambda_joined_14 at H
  refine zw_aload_n (pc := 0) dX3_lambda_joined_14_0 rfl 0 rfl ?_
  refine zw_iload_n (pc := 1) dX3_lambda_joined_14_1 rfl 2 rfl ?_
  refine zw_iload_n (pc := 2) dX3_lambda_joined_14_2 rfl 3 rfl ?_
  obtain ⟨b1, e3, H⟩ := zbind H
  obtain ⟨e2, e4⟩ := zrv_ok e3
  obtain ⟨x6, e5, H⟩ := zbind H
  refine zw_invV (pc := 3) (M' := M_X3_stores) (A := [vI p2, vI p3]) [] dX3_lambda_joined_14_3 (Or.inl q397) mf_X3_stores q399 (zkq e4 rfl) (w_X3_stores e5) (Nat.le_of_ble_eq_true rfl) rfl (by rw [← e2]; rfl) (Nat.le_of_ble_eq_true rfl) (zkv ?_) zkn9
  rcases zif H with ⟨c7, H⟩ | ⟨c7, H⟩
  · refine zw_if_ne (pc := 6) (tgt := 18) dX3_lambda_joined_14_6 rfl (fun q => absurd c7 q) (fun _ => ?_)
    refine zw_aload_n (pc := 9) dX3_lambda_joined_14_9 rfl 1 rfl ?_
    refine zw_iload_n (pc := 10) dX3_lambda_joined_14_10 rfl 2 rfl ?_
    refine zw_iload_n (pc := 11) dX3_lambda_joined_14_11 rfl 3 rfl ?_
    obtain ⟨b8, e10, H⟩ := zbind H
    obtain ⟨e9, e11⟩ := zrv_ok e10
    obtain ⟨x13, e12, H⟩ := zbind H
    refine zw_invV (pc := 12) (M' := M_X3_stores) (A := [vI p2, vI p3]) [] dX3_lambda_joined_14_12 (Or.inl q397) mf_X3_stores q399 (zkq e11 rfl) (w_X3_stores e12) (Nat.le_of_ble_eq_true rfl) rfl (by rw [← e9]; rfl) (Nat.le_of_ble_eq_true rfl) (zkv ?_) zkn9
    rcases zif H with ⟨c14, H⟩ | ⟨c14, H⟩
    · refine zw_if_eq (pc := 15) (tgt := 22) dX3_lambda_joined_14_15 rfl (fun _ => ?_) (fun q => absurd c14 q)
      refine zw_iconst (pc := 22) (v := (0 : Int32)) dX3_lambda_joined_14_22 (by decide) ?_
      obtain rfl := Option.some.inj H
      exact zw_zret (pc := 23) dX3_lambda_joined_14_23 rfl rfl rfl rfl
    · refine zw_if_eq (pc := 15) (tgt := 22) dX3_lambda_joined_14_15 rfl (fun q => absurd q c14) (fun _ => ?_)
      refine zw_iconst (pc := 18) (v := (1 : Int32)) dX3_lambda_joined_14_18 (by decide) ?_
      refine zw_goto (pc := 19) (tgt := 23) dX3_lambda_joined_14_19 rfl ?_
      obtain rfl := Option.some.inj H
      exact zw_zret (pc := 23) dX3_lambda_joined_14_23 rfl rfl rfl rfl
  · refine zw_if_ne (pc := 6) (tgt := 18) dX3_lambda_joined_14_6 rfl (fun _ => ?_) (fun q => absurd q c7)
    refine zw_iconst (pc := 18) (v := (1 : Int32)) dX3_lambda_joined_14_18 (by decide) ?_
    refine zw_goto (pc := 19) (tgt := 23) dX3_lambda_joined_14_19 rfl ?_
    obtain rfl := Option.some.inj H
    exact zw_zret (pc := 23) dX3_lambda_joined_14_23 rfl rfl rfl rfl
theorem lf_X3_28 : zFl "CsrCalculator$Csr" 28 3 4 := ⟨_, "CsrCalculator$Csr", by decide, rfl, by decide, Or.inl q256, Or.inl rfl⟩
def M_X3_value : zM := (yX3_value, cX3_value, 4, (.some .int), [])
theorem mf_X3_value : zMi M_X3_value 2 := ⟨⟨q411, q182, ⟨by decide +kernel, by decide +kernel⟩, by decide +kernel, by decide⟩, q409⟩
def f_X3_value (p0 : Option Nat) (p1 : Int32) (p2 : Int32) (h : zH) : Option Int32 :=
  (zrv 3 p0 h).bind fun b1 =>
  (f_X3_find (some b1) p1 p2 h).bind fun x6 =>
  if x6 = (-1 : Int32) then
  some (0 : Int32)
  else
  (zgR 3 4 p0 h).bind fun x8 =>
  (zaI 50 x8 x6 h).bind fun x10 =>
  some x10
theorem w_X3_value {G : zG} {p0 : Option Nat} {p1 : Int32} {p2 : Int32} {h : zH} {vx : Int32} (H : f_X3_value p0 p1 p2 h = some vx) : zMet G M_X3_value 3 [vR p0, vI p1, vI p2] h (.inl (some (vI vx))) h := by
  refine zMet.of (by decide +kernel) (Nat.le_of_ble_eq_true rfl) ?_
  show zW G M_X3_value 3 h (.inl (some (vI vx))) h 0 [(0, vR p0), (1, vI p1), (2, vI p2)] [] h
  unfold f_X3_value at H
  refine zw_aload_n (pc := 0) dX3_value_0 rfl 0 rfl ?_
  refine zw_iload_n (pc := 1) dX3_value_1 rfl 1 rfl ?_
  refine zw_iload_n (pc := 2) dX3_value_2 rfl 2 rfl ?_
  obtain ⟨b1, e3, H⟩ := zbind H
  obtain ⟨e2, e4⟩ := zrv_ok e3
  obtain ⟨x6, e5, H⟩ := zbind H
  refine zw_invV (pc := 3) (M' := M_X3_find) (A := [vI p1, vI p2]) [] dX3_value_3 (Or.inl q401) mf_X3_find q403 (zkq e4 rfl) (w_X3_find e5) (Nat.le_of_ble_eq_true rfl) rfl (by rw [← e2]; rfl) (Nat.le_of_ble_eq_true rfl) (zkv ?_) zkn9
  refine zw_istore_n (pc := 6) (lv' := [(3, vI x6), (0, vR p0), (1, vI p1), (2, vI p2)]) dX3_value_6 rfl (by decide) rfl ?_
  refine zw_iload_n (pc := 7) dX3_value_7 rfl 0 rfl ?_
  refine zw_iconst (pc := 8) (v := (-1 : Int32)) dX3_value_8 (by decide) ?_
  rcases zif H with ⟨c7, H⟩ | ⟨c7, H⟩
  · refine zw_icmp_ne (pc := 9) (tgt := 16) dX3_value_9 rfl (fun q => absurd c7 q) (fun _ => ?_)
    refine zw_iconst (pc := 12) (v := (0 : Int32)) dX3_value_12 (by decide) ?_
    refine zw_goto (pc := 13) (tgt := 22) dX3_value_13 rfl ?_
    obtain rfl := Option.some.inj H
    exact zw_iret (pc := 22) dX3_value_22 rfl rfl rfl
  · refine zw_icmp_ne (pc := 9) (tgt := 16) dX3_value_9 rfl (fun _ => ?_) (fun q => absurd q c7)
    refine zw_aload_n (pc := 16) dX3_value_16 rfl 1 rfl ?_
    obtain ⟨x8, e9, H⟩ := zbind H
    refine zy_getR (pc := 17) dX3_value_17 lf_X3_28 (fun _ _ => rfl) e9 ?_
    refine zw_iload_n (pc := 20) dX3_value_20 rfl 0 rfl ?_
    obtain ⟨x10, e11, H⟩ := zbind H
    refine zy_iald (pc := 21) dX3_value_21 e11 ?_
    obtain rfl := Option.some.inj H
    exact zw_iret (pc := 22) dX3_value_22 rfl rfl rfl
def M_X3_lambda_joined_15 : zM := (yX3_lambda_joined_15, cX3_lambda_joined_15, 5, (.some .long), [])
theorem mf_X3_lambda_joined_15 : zMi M_X3_lambda_joined_15 4 := ⟨⟨q1416, q182, ⟨by decide +kernel, by decide +kernel⟩, by decide +kernel, by decide⟩, q1415⟩
def f_X3_lambda_joined_15 (p0 : Option Nat) (p1 : Option Nat) (p2 : Option Nat) (p3 : Int32) (p4 : Int32) (h : zH) : Option Int64 :=
  (zrv 3 p0 h).bind fun b1 =>
  (f_X3_value (some b1) p3 p4 h).bind fun x6 =>
  (zrv 3 p2 h).bind fun b7 =>
  (f_X3_value (some b7) p3 p4 h).bind fun x12 =>
  p1.bind fun b13 =>
  if zk h b13 = 23 then
  (f_X17_of (some b13) x6.toInt64 x12.toInt64 h).bind fun x15 =>
  some x15
  else if zk h b13 = 24 then
  (f_X18_of (some b13) x6.toInt64 x12.toInt64 h).bind fun x15 =>
  some x15
  else none
theorem w_X3_lambda_joined_15 {G : zG} {p0 : Option Nat} {p1 : Option Nat} {p2 : Option Nat} {p3 : Int32} {p4 : Int32} {h : zH} {vx : Int64} (H : f_X3_lambda_joined_15 p0 p1 p2 p3 p4 h = some vx) : zMet G M_X3_lambda_joined_15 4 [vR p0, vR p1, vR p2, vI p3, vI p4] h (.inl (some (vJ vx))) h := by
  refine zMet.of (by decide +kernel) (Nat.le_of_ble_eq_true rfl) ?_
  show zW G M_X3_lambda_joined_15 4 h (.inl (some (vJ vx))) h 0 [(0, vR p0), (1, vR p1), (2, vR p2), (3, vI p3), (4, vI p4)] [] h
  unfold f_X3_lambda_joined_15 at H
  refine zw_aload_n (pc := 0) dX3_lambda_joined_15_0 rfl 1 rfl ?_
  refine zw_aload_n (pc := 1) dX3_lambda_joined_15_1 rfl 0 rfl ?_
  refine zw_iload_n (pc := 2) dX3_lambda_joined_15_2 rfl 3 rfl ?_
  refine zw_iload (pc := 3) dX3_lambda_joined_15_3 4 rfl ?_
  obtain ⟨b1, e3, H⟩ := zbind H
  obtain ⟨e2, e4⟩ := zrv_ok e3
  obtain ⟨x6, e5, H⟩ := zbind H
  refine zw_invV (pc := 5) (M' := M_X3_value) (A := [vI p3, vI p4]) [vR p1] dX3_lambda_joined_15_5 (Or.inl q408) mf_X3_value q410 (zkq e4 rfl) (w_X3_value e5) (Nat.le_of_ble_eq_true rfl) rfl (by rw [← e2]; rfl) (Nat.le_of_ble_eq_true rfl) (zkv ?_) zkn9
  refine zw_i2l (pc := 8) dX3_lambda_joined_15_8 ?_
  refine zw_aload_n (pc := 9) dX3_lambda_joined_15_9 rfl 2 rfl ?_
  refine zw_iload_n (pc := 10) dX3_lambda_joined_15_10 rfl 3 rfl ?_
  refine zw_iload (pc := 11) dX3_lambda_joined_15_11 4 rfl ?_
  obtain ⟨b7, e9, H⟩ := zbind H
  obtain ⟨e8, e10⟩ := zrv_ok e9
  obtain ⟨x12, e11, H⟩ := zbind H
  refine zw_invV (pc := 13) (M' := M_X3_value) (A := [vI p3, vI p4]) [vJ x6.toInt64, vR p1] dX3_lambda_joined_15_13 (Or.inl q408) mf_X3_value q410 (zkq e10 rfl) (w_X3_value e11) (Nat.le_of_ble_eq_true rfl) rfl (by rw [← e8]; rfl) (Nat.le_of_ble_eq_true rfl) (zkv ?_) zkn9
  refine zw_i2l (pc := 16) dX3_lambda_joined_15_16 ?_
  obtain ⟨b13, e14, H⟩ := zbind H
  rcases zif H with ⟨c17, H⟩ | ⟨_, H⟩
  · obtain ⟨x15, e16, H⟩ := zbind H
    refine zw_joinOf (pc := 17) (M' := M_X17_of) [] dX3_lambda_joined_15_17 q1417 q1422 q1421 rfl (by decide +kernel) q1420 (zkq c17 rfl) (w_X17_of e16) (Nat.le_of_ble_eq_true rfl) (by rw [← e14]) (Nat.le_of_ble_eq_true rfl) ?_
    obtain rfl := Option.some.inj H
    exact zw_lret (pc := 20) dX3_lambda_joined_15_20 rfl rfl rfl
  rcases zif H with ⟨c17, H⟩ | ⟨_, H⟩
  · obtain ⟨x15, e16, H⟩ := zbind H
    refine zw_joinOf (pc := 17) (M' := M_X18_of) [] dX3_lambda_joined_15_17 q1417 q1425 q1424 rfl (by decide +kernel) q1423 (zkq c17 rfl) (w_X18_of e16) (Nat.le_of_ble_eq_true rfl) (by rw [← e14]) (Nat.le_of_ble_eq_true rfl) ?_
    obtain rfl := Option.some.inj H
    exact zw_lret (pc := 20) dX3_lambda_joined_15_20 rfl rfl rfl
  cases H
def M_X3_lambda_scaled_10 : zM := (yX3_lambda_scaled_10, cX3_lambda_scaled_10, 3, (.some .boolean), [])
theorem mf_X3_lambda_scaled_10 : zMi M_X3_lambda_scaled_10 2 := ⟨⟨q1370, q182, ⟨by decide +kernel, by decide +kernel⟩, by decide +kernel, by decide⟩, q1369⟩
def f_X3_lambda_scaled_10 (p0 : Option Nat) (p1 : Int32) (p2 : Int32) (h : zH) : Option Int32 :=
  (zrv 3 p0 h).bind fun b1 =>
  (f_X3_stores (some b1) p1 p2 h).bind fun x6 =>
  if x6 = 0 ∨ x6 = 1 then some x6 else none
theorem w_X3_lambda_scaled_10 {G : zG} {p0 : Option Nat} {p1 : Int32} {p2 : Int32} {h : zH} {vx : Int32} (H : f_X3_lambda_scaled_10 p0 p1 p2 h = some vx) : zMet G M_X3_lambda_scaled_10 4 [vR p0, vI p1, vI p2] h (.inl (some (vI vx))) h := by
  refine zMet.of (by decide +kernel) (Nat.le_of_ble_eq_true rfl) ?_
  show zW G M_X3_lambda_scaled_10 4 h (.inl (some (vI vx))) h 0 [(0, vR p0), (1, vI p1), (2, vI p2)] [] h
  unfold f_X3_lambda_scaled_10 at H
  refine zw_aload_n (pc := 0) dX3_lambda_scaled_10_0 rfl 0 rfl ?_
  refine zw_iload_n (pc := 1) dX3_lambda_scaled_10_1 rfl 1 rfl ?_
  refine zw_iload_n (pc := 2) dX3_lambda_scaled_10_2 rfl 2 rfl ?_
  obtain ⟨b1, e3, H⟩ := zbind H
  obtain ⟨e2, e4⟩ := zrv_ok e3
  obtain ⟨x6, e5, H⟩ := zbind H
  refine zw_invV (pc := 3) (M' := M_X3_stores) (A := [vI p1, vI p2]) [] dX3_lambda_scaled_10_3 (Or.inl q397) mf_X3_stores q399 (zkq e4 rfl) (w_X3_stores e5) (Nat.le_of_ble_eq_true rfl) rfl (by rw [← e2]; rfl) (Nat.le_of_ble_eq_true rfl) (zkv ?_) zkn9
  obtain ⟨c7, H⟩ := zgd H
  obtain rfl := Option.some.inj H
  exact zw_zret (pc := 6) dX3_lambda_scaled_10_6 rfl (znarZ c7) rfl rfl
def M_X3_lambda_scaled_11 : zM := (yX3_lambda_scaled_11, cX3_lambda_scaled_11, 4, (.some .long), [])
theorem mf_X3_lambda_scaled_11 : zMi M_X3_lambda_scaled_11 3 := ⟨⟨q1373, q182, ⟨by decide +kernel, by decide +kernel⟩, by decide +kernel, by decide⟩, q1372⟩
def f_X3_lambda_scaled_11 (p0 : Option Nat) (p1 : Int32) (p2 : Int32) (p3 : Int32) (h : zH) : Option Int64 :=
  (zrv 3 p0 h).bind fun b1 =>
  (f_X3_value (some b1) p2 p3 h).bind fun x6 =>
  some (p1.toInt64 * x6.toInt64)
theorem w_X3_lambda_scaled_11 {G : zG} {p0 : Option Nat} {p1 : Int32} {p2 : Int32} {p3 : Int32} {h : zH} {vx : Int64} (H : f_X3_lambda_scaled_11 p0 p1 p2 p3 h = some vx) : zMet G M_X3_lambda_scaled_11 4 [vR p0, vI p1, vI p2, vI p3] h (.inl (some (vJ vx))) h := by
  refine zMet.of (by decide +kernel) (Nat.le_of_ble_eq_true rfl) ?_
  show zW G M_X3_lambda_scaled_11 4 h (.inl (some (vJ vx))) h 0 [(0, vR p0), (1, vI p1), (2, vI p2), (3, vI p3)] [] h
  unfold f_X3_lambda_scaled_11 at H
  refine zw_iload_n (pc := 0) dX3_lambda_scaled_11_0 rfl 1 rfl ?_
  refine zw_i2l (pc := 1) dX3_lambda_scaled_11_1 ?_
  refine zw_aload_n (pc := 2) dX3_lambda_scaled_11_2 rfl 0 rfl ?_
  refine zw_iload_n (pc := 3) dX3_lambda_scaled_11_3 rfl 2 rfl ?_
  refine zw_iload_n (pc := 4) dX3_lambda_scaled_11_4 rfl 3 rfl ?_
  obtain ⟨b1, e3, H⟩ := zbind H
  obtain ⟨e2, e4⟩ := zrv_ok e3
  obtain ⟨x6, e5, H⟩ := zbind H
  refine zw_invV (pc := 5) (M' := M_X3_value) (A := [vI p2, vI p3]) [vJ p1.toInt64] dX3_lambda_scaled_11_5 (Or.inl q408) mf_X3_value q410 (zkq e4 rfl) (w_X3_value e5) (Nat.le_of_ble_eq_true rfl) rfl (by rw [← e2]; rfl) (Nat.le_of_ble_eq_true rfl) (zkv ?_) zkn9
  refine zw_i2l (pc := 8) dX3_lambda_scaled_11_8 ?_
  refine zw_lmul (pc := 9) dX3_lambda_scaled_11_9 ?_
  obtain rfl := Option.some.inj H
  exact zw_lret (pc := 10) dX3_lambda_scaled_11_10 rfl rfl rfl
def M_X3_meets : zM := (yX3_meets, cX3_meets, 5, (.some .boolean), [])
theorem mf_X3_meets : zMi M_X3_meets 3 := ⟨⟨q530, q182, ⟨by decide +kernel, by decide +kernel⟩, by decide +kernel, by decide⟩, q528⟩
def B_X3_meets_8 (k8 : Option Nat → Option Nat → Int32 → Int32 → Int32 → Option Int32) (a0 : Option Nat) (a1 : Option Nat) (a2 : Int32) (a3 : Int32) (a4 : Int32) (h : zH) : Option Int32 :=
  (zgR 3 2 a0 h).bind fun x1 =>
  (zaI 50 x1 (a2 + (1 : Int32)) h).bind fun x3 =>
  if x3 ≤ a4 then
  some (0 : Int32)
  else
  (zgR 3 3 a0 h).bind fun x6 =>
  (zaI 50 x6 a4 h).bind fun x8 =>
  (zrv 3 a1 h).bind fun b10 =>
  (f_X3_stores (some b10) x8 a3 h).bind fun x15 =>
  if x15 = 0 then
  k8 a0 a1 a2 a3 (a4 + (1 : Int32))
  else
  some (1 : Int32)
theorem wB_X3_meets_8 {G : zG} {h0 h : zH} {vx : Int32} {k8 : Option Nat → Option Nat → Int32 → Int32 → Int32 → Option Int32} (hk8 : ∀ (b0 : Option Nat) (b1 : Option Nat) (b2 : Int32) (b3 : Int32) (b4 : Int32), k8 b0 b1 b2 b3 b4 = some vx → zW G M_X3_meets 4 h0 (.inl (some (vI vx))) h 8 [(0, vR b0), (1, vR b1), (2, vI b2), (3, vI b3), (4, vI b4)] [] h) {a0 : Option Nat} {a1 : Option Nat} {a2 : Int32} {a3 : Int32} {a4 : Int32} (H : B_X3_meets_8 k8 a0 a1 a2 a3 a4 h = some vx) : zW G M_X3_meets 4 h0 (.inl (some (vI vx))) h 8 [(0, vR a0), (1, vR a1), (2, vI a2), (3, vI a3), (4, vI a4)] [] h := by
  unfold B_X3_meets_8 at H
  refine zw_iload (pc := 8) dX3_meets_8 4 rfl ?_
  refine zw_aload_n (pc := 10) dX3_meets_10 rfl 0 rfl ?_
  obtain ⟨x1, e2, H⟩ := zbind H
  refine zy_getR (pc := 11) dX3_meets_11 lf_X3_21 (fun _ _ => rfl) e2 ?_
  refine zw_iload_n (pc := 14) dX3_meets_14 rfl 2 rfl ?_
  refine zw_iconst (pc := 15) (v := (1 : Int32)) dX3_meets_15 (by decide) ?_
  refine zw_iadd (pc := 16) dX3_meets_16 ?_
  obtain ⟨x3, e4, H⟩ := zbind H
  refine zy_iald (pc := 17) dX3_meets_17 e4 ?_
  rcases zif H with ⟨c5, H⟩ | ⟨c5, H⟩
  · refine zw_icmp_ge (pc := 18) (tgt := 44) dX3_meets_18 rfl (fun _ => ?_) (fun q => absurd c5 q)
    refine zw_iconst (pc := 44) (v := (0 : Int32)) dX3_meets_44 (by decide) ?_
    obtain rfl := Option.some.inj H
    exact zw_zret (pc := 45) dX3_meets_45 rfl rfl rfl rfl
  · refine zw_icmp_ge (pc := 18) (tgt := 44) dX3_meets_18 rfl (fun q => absurd q c5) (fun _ => ?_)
    refine zw_aload_n (pc := 21) dX3_meets_21 rfl 1 rfl ?_
    refine zw_aload_n (pc := 22) dX3_meets_22 rfl 0 rfl ?_
    obtain ⟨x6, e7, H⟩ := zbind H
    refine zy_getR (pc := 23) dX3_meets_23 lf_X3_25 (fun _ _ => rfl) e7 ?_
    refine zw_iload (pc := 26) dX3_meets_26 4 rfl ?_
    obtain ⟨x8, e9, H⟩ := zbind H
    refine zy_iald (pc := 28) dX3_meets_28 e9 ?_
    refine zw_iload_n (pc := 29) dX3_meets_29 rfl 3 rfl ?_
    obtain ⟨b10, e12, H⟩ := zbind H
    obtain ⟨e11, e13⟩ := zrv_ok e12
    obtain ⟨x15, e14, H⟩ := zbind H
    refine zw_invV (pc := 30) (M' := M_X3_stores) (A := [vI x8, vI a3]) [] dX3_meets_30 (Or.inl q397) mf_X3_stores q399 (zkq e13 rfl) (w_X3_stores e14) (Nat.le_of_ble_eq_true rfl) rfl (by rw [← e11]; rfl) (Nat.le_of_ble_eq_true rfl) (zkv ?_) zkn9
    rcases zif H with ⟨c16, H⟩ | ⟨c16, H⟩
    · refine zw_if_eq (pc := 33) (tgt := 38) dX3_meets_33 rfl (fun _ => ?_) (fun q => absurd c16 q)
      refine zw_iinc (pc := 38) (v := (a4 + (1 : Int32))) (lv' := [(4, vI (a4 + (1 : Int32))), (0, vR a0), (1, vR a1), (2, vI a2), (3, vI a3)]) dX3_meets_38 4 rfl rfl (by decide) rfl ?_
      refine zw_goto (pc := 41) (tgt := 8) dX3_meets_41 rfl ?_
      refine zW_pick (lv' := [(0, vR a0), (1, vR a1), (2, vI a2), (3, vI a3), (4, vI (a4 + (1 : Int32)))]) [1, 2, 3, 4, 0] rfl ?_
      exact hk8 _ _ _ _ _ H
    · refine zw_if_eq (pc := 33) (tgt := 38) dX3_meets_33 rfl (fun q => absurd q c16) (fun _ => ?_)
      refine zw_iconst (pc := 36) (v := (1 : Int32)) dX3_meets_36 (by decide) ?_
      obtain rfl := Option.some.inj H
      exact zw_zret (pc := 37) dX3_meets_37 rfl rfl rfl rfl
def f_X3_meets (p0 : Option Nat) (p1 : Option Nat) (p2 : Int32) (p3 : Int32) (h : zH) : Option Int32 :=
  (zgR 3 2 p0 h).bind fun x1 =>
  (zaI 50 x1 p2 h).bind fun x3 =>
  zloop (fun f c0 c1 c2 c3 c4 => B_X3_meets_8 f c0 c1 c2 c3 c4 h) (fun _ _ _ _ _ => none) zFU p0 p1 p2 p3 x3
theorem w_X3_meets {G : zG} {p0 : Option Nat} {p1 : Option Nat} {p2 : Int32} {p3 : Int32} {h : zH} {vx : Int32} (H : f_X3_meets p0 p1 p2 p3 h = some vx) : zMet G M_X3_meets 4 [vR p0, vR p1, vI p2, vI p3] h (.inl (some (vI vx))) h := by
  refine zMet.of (by decide +kernel) (Nat.le_of_ble_eq_true rfl) ?_
  show zW G M_X3_meets 4 h (.inl (some (vI vx))) h 0 [(0, vR p0), (1, vR p1), (2, vI p2), (3, vI p3)] [] h
  unfold f_X3_meets at H
  refine zw_aload_n (pc := 0) dX3_meets_0 rfl 0 rfl ?_
  obtain ⟨x1, e2, H⟩ := zbind H
  refine zy_getR (pc := 1) dX3_meets_1 lf_X3_21 (fun _ _ => rfl) e2 ?_
  refine zw_iload_n (pc := 4) dX3_meets_4 rfl 2 rfl ?_
  obtain ⟨x3, e4, H⟩ := zbind H
  refine zy_iald (pc := 5) dX3_meets_5 e4 ?_
  refine zw_istore (pc := 6) (lv' := [(4, vI x3), (0, vR p0), (1, vR p1), (2, vI p2), (3, vI p3)]) dX3_meets_6 (by decide) rfl ?_
  refine zW_pick (lv' := [(0, vR p0), (1, vR p1), (2, vI p2), (3, vI p3), (4, vI x3)]) [1, 2, 3, 4, 0] rfl ?_
  exact zloop_ind (body := (fun f c0 c1 c2 c3 c4 => B_X3_meets_8 f c0 c1 c2 c3 c4 h)) (bot := (fun _ _ _ _ _ => none)) (P := (fun (f : Option Nat → Option Nat → Int32 → Int32 → Int32 → Option Int32) => ∀ (b0 : Option Nat) (b1 : Option Nat) (b2 : Int32) (b3 : Int32) (b4 : Int32), f b0 b1 b2 b3 b4 = some vx → zW G M_X3_meets 4 h (.inl (some (vI vx))) h 8 [(0, vR b0), (1, vR b1), (2, vI b2), (3, vI b3), (4, vI b4)] [] h)) zFU (fun _ _ _ _ _ H => nomatch H) (fun f hf c0 c1 c2 c3 c4 H => wB_X3_meets_8 hf H) _ _ _ _ _ H
def M_X3_lambda_times_16 : zM := (yX3_lambda_times_16, cX3_lambda_times_16, 4, (.some .boolean), [])
theorem mf_X3_lambda_times_16 : zMi M_X3_lambda_times_16 3 := ⟨⟨q526, q182, ⟨by decide +kernel, by decide +kernel⟩, by decide +kernel, by decide⟩, q525⟩
def f_X3_lambda_times_16 (p0 : Option Nat) (p1 : Option Nat) (p2 : Int32) (p3 : Int32) (h : zH) : Option Int32 :=
  (zrv 3 p0 h).bind fun b1 =>
  (f_X3_meets (some b1) p1 p2 p3 h).bind fun x6 =>
  if x6 = 0 ∨ x6 = 1 then some x6 else none
theorem w_X3_lambda_times_16 {G : zG} {p0 : Option Nat} {p1 : Option Nat} {p2 : Int32} {p3 : Int32} {h : zH} {vx : Int32} (H : f_X3_lambda_times_16 p0 p1 p2 p3 h = some vx) : zMet G M_X3_lambda_times_16 5 [vR p0, vR p1, vI p2, vI p3] h (.inl (some (vI vx))) h := by
  refine zMet.of (by decide +kernel) (Nat.le_of_ble_eq_true rfl) ?_
  show zW G M_X3_lambda_times_16 5 h (.inl (some (vI vx))) h 0 [(0, vR p0), (1, vR p1), (2, vI p2), (3, vI p3)] [] h
  unfold f_X3_lambda_times_16 at H
  refine zw_aload_n (pc := 0) dX3_lambda_times_16_0 rfl 0 rfl ?_
  refine zw_aload_n (pc := 1) dX3_lambda_times_16_1 rfl 1 rfl ?_
  refine zw_iload_n (pc := 2) dX3_lambda_times_16_2 rfl 2 rfl ?_
  refine zw_iload_n (pc := 3) dX3_lambda_times_16_3 rfl 3 rfl ?_
  obtain ⟨b1, e3, H⟩ := zbind H
  obtain ⟨e2, e4⟩ := zrv_ok e3
  obtain ⟨x6, e5, H⟩ := zbind H
  refine zw_invV (pc := 4) (M' := M_X3_meets) (A := [vR p1, vI p2, vI p3]) [] dX3_lambda_times_16_4 (Or.inl q527) mf_X3_meets q529 (zkq e4 rfl) (w_X3_meets e5) (Nat.le_of_ble_eq_true rfl) rfl (by rw [← e2]; rfl) (Nat.le_of_ble_eq_true rfl) (zkv ?_) zkn9
  obtain ⟨c7, H⟩ := zgd H
  obtain rfl := Option.some.inj H
  exact zw_zret (pc := 7) dX3_lambda_times_16_7 rfl (znarZ c7) rfl rfl
def M_X3_dot : zM := (yX3_dot, cX3_dot, 7, (.some .long), [])
theorem mf_X3_dot : zMi M_X3_dot 3 := ⟨⟨q537, q182, ⟨by decide +kernel, by decide +kernel⟩, by decide +kernel, by decide⟩, q536⟩
def B_X3_dot_11 (k11 : Option Nat → Option Nat → Int32 → Int32 → Int64 → Int32 → Option Int64) (a0 : Option Nat) (a1 : Option Nat) (a2 : Int32) (a3 : Int32) (a4 : Int64) (a5 : Int32) (h : zH) : Option Int64 :=
  (zgR 3 2 a0 h).bind fun x1 =>
  (zaI 50 x1 (a2 + (1 : Int32)) h).bind fun x3 =>
  if x3 ≤ a5 then
  some a4
  else
  (zgR 3 4 a0 h).bind fun x6 =>
  (zaI 50 x6 a5 h).bind fun x8 =>
  (zgR 3 3 a0 h).bind fun x10 =>
  (zaI 50 x10 a5 h).bind fun x12 =>
  (zrv 3 a1 h).bind fun b14 =>
  (f_X3_value (some b14) x12 a3 h).bind fun x19 =>
  k11 a0 a1 a2 a3 (a4 + (x8.toInt64 * x19.toInt64)) (a5 + (1 : Int32))
theorem wB_X3_dot_11 {G : zG} {h0 h : zH} {vx : Int64} {k11 : Option Nat → Option Nat → Int32 → Int32 → Int64 → Int32 → Option Int64} (hk11 : ∀ (b0 : Option Nat) (b1 : Option Nat) (b2 : Int32) (b3 : Int32) (b4 : Int64) (b5 : Int32), k11 b0 b1 b2 b3 b4 b5 = some vx → zW G M_X3_dot 4 h0 (.inl (some (vJ vx))) h 11 [(0, vR b0), (1, vR b1), (2, vI b2), (3, vI b3), (4, vJ b4), (6, vI b5)] [] h) {a0 : Option Nat} {a1 : Option Nat} {a2 : Int32} {a3 : Int32} {a4 : Int64} {a5 : Int32} (H : B_X3_dot_11 k11 a0 a1 a2 a3 a4 a5 h = some vx) : zW G M_X3_dot 4 h0 (.inl (some (vJ vx))) h 11 [(0, vR a0), (1, vR a1), (2, vI a2), (3, vI a3), (4, vJ a4), (6, vI a5)] [] h := by
  unfold B_X3_dot_11 at H
  refine zw_iload (pc := 11) dX3_dot_11 5 rfl ?_
  refine zw_aload_n (pc := 13) dX3_dot_13 rfl 0 rfl ?_
  obtain ⟨x1, e2, H⟩ := zbind H
  refine zy_getR (pc := 14) dX3_dot_14 lf_X3_21 (fun _ _ => rfl) e2 ?_
  refine zw_iload_n (pc := 17) dX3_dot_17 rfl 2 rfl ?_
  refine zw_iconst (pc := 18) (v := (1 : Int32)) dX3_dot_18 (by decide) ?_
  refine zw_iadd (pc := 19) dX3_dot_19 ?_
  obtain ⟨x3, e4, H⟩ := zbind H
  refine zy_iald (pc := 20) dX3_dot_20 e4 ?_
  rcases zif H with ⟨c5, H⟩ | ⟨c5, H⟩
  · refine zw_icmp_ge (pc := 21) (tgt := 57) dX3_dot_21 rfl (fun _ => ?_) (fun q => absurd c5 q)
    refine zw_lload (pc := 57) dX3_dot_57 4 rfl ?_
    obtain rfl := Option.some.inj H
    exact zw_lret (pc := 59) dX3_dot_59 rfl rfl rfl
  · refine zw_icmp_ge (pc := 21) (tgt := 57) dX3_dot_21 rfl (fun q => absurd q c5) (fun _ => ?_)
    refine zw_lload (pc := 24) dX3_dot_24 4 rfl ?_
    refine zw_aload_n (pc := 26) dX3_dot_26 rfl 0 rfl ?_
    obtain ⟨x6, e7, H⟩ := zbind H
    refine zy_getR (pc := 27) dX3_dot_27 lf_X3_28 (fun _ _ => rfl) e7 ?_
    refine zw_iload (pc := 30) dX3_dot_30 5 rfl ?_
    obtain ⟨x8, e9, H⟩ := zbind H
    refine zy_iald (pc := 32) dX3_dot_32 e9 ?_
    refine zw_i2l (pc := 33) dX3_dot_33 ?_
    refine zw_aload_n (pc := 34) dX3_dot_34 rfl 1 rfl ?_
    refine zw_aload_n (pc := 35) dX3_dot_35 rfl 0 rfl ?_
    obtain ⟨x10, e11, H⟩ := zbind H
    refine zy_getR (pc := 36) dX3_dot_36 lf_X3_25 (fun _ _ => rfl) e11 ?_
    refine zw_iload (pc := 39) dX3_dot_39 5 rfl ?_
    obtain ⟨x12, e13, H⟩ := zbind H
    refine zy_iald (pc := 41) dX3_dot_41 e13 ?_
    refine zw_iload_n (pc := 42) dX3_dot_42 rfl 3 rfl ?_
    obtain ⟨b14, e16, H⟩ := zbind H
    obtain ⟨e15, e17⟩ := zrv_ok e16
    obtain ⟨x19, e18, H⟩ := zbind H
    refine zw_invV (pc := 43) (M' := M_X3_value) (A := [vI x12, vI a3]) [vJ x8.toInt64, vJ a4] dX3_dot_43 (Or.inl q408) mf_X3_value q410 (zkq e17 rfl) (w_X3_value e18) (Nat.le_of_ble_eq_true rfl) rfl (by rw [← e15]; rfl) (Nat.le_of_ble_eq_true rfl) (zkv ?_) zkn9
    refine zw_i2l (pc := 46) dX3_dot_46 ?_
    refine zw_lmul (pc := 47) dX3_dot_47 ?_
    refine zw_ladd (pc := 48) dX3_dot_48 ?_
    refine zw_lstore (pc := 49) (lv' := [(4, vJ (a4 + (x8.toInt64 * x19.toInt64))), (0, vR a0), (1, vR a1), (2, vI a2), (3, vI a3), (6, vI a5)]) dX3_dot_49 (by decide) rfl ?_
    refine zw_iinc (pc := 51) (v := (a5 + (1 : Int32))) (lv' := [(6, vI (a5 + (1 : Int32))), (4, vJ (a4 + (x8.toInt64 * x19.toInt64))), (0, vR a0), (1, vR a1), (2, vI a2), (3, vI a3)]) dX3_dot_51 5 rfl rfl (by decide) rfl ?_
    refine zw_goto (pc := 54) (tgt := 11) dX3_dot_54 rfl ?_
    refine zW_pick (lv' := [(0, vR a0), (1, vR a1), (2, vI a2), (3, vI a3), (4, vJ (a4 + (x8.toInt64 * x19.toInt64))), (6, vI (a5 + (1 : Int32)))]) [2, 3, 4, 5, 1, 0] rfl ?_
    exact hk11 _ _ _ _ _ _ H
def f_X3_dot (p0 : Option Nat) (p1 : Option Nat) (p2 : Int32) (p3 : Int32) (h : zH) : Option Int64 :=
  (zgR 3 2 p0 h).bind fun x1 =>
  (zaI 50 x1 p2 h).bind fun x3 =>
  zloop (fun f c0 c1 c2 c3 c4 c5 => B_X3_dot_11 f c0 c1 c2 c3 c4 c5 h) (fun _ _ _ _ _ _ => none) zFU p0 p1 p2 p3 (0 : Int64) x3
theorem w_X3_dot {G : zG} {p0 : Option Nat} {p1 : Option Nat} {p2 : Int32} {p3 : Int32} {h : zH} {vx : Int64} (H : f_X3_dot p0 p1 p2 p3 h = some vx) : zMet G M_X3_dot 4 [vR p0, vR p1, vI p2, vI p3] h (.inl (some (vJ vx))) h := by
  refine zMet.of (by decide +kernel) (Nat.le_of_ble_eq_true rfl) ?_
  show zW G M_X3_dot 4 h (.inl (some (vJ vx))) h 0 [(0, vR p0), (1, vR p1), (2, vI p2), (3, vI p3)] [] h
  unfold f_X3_dot at H
  refine zw_lconst (pc := 0) (v := (0 : Int64)) dX3_dot_0 (by decide) ?_
  refine zw_lstore (pc := 1) (lv' := [(4, vJ (0 : Int64)), (0, vR p0), (1, vR p1), (2, vI p2), (3, vI p3)]) dX3_dot_1 (by decide) rfl ?_
  refine zw_aload_n (pc := 3) dX3_dot_3 rfl 1 rfl ?_
  obtain ⟨x1, e2, H⟩ := zbind H
  refine zy_getR (pc := 4) dX3_dot_4 lf_X3_21 (fun _ _ => rfl) e2 ?_
  refine zw_iload_n (pc := 7) dX3_dot_7 rfl 3 rfl ?_
  obtain ⟨x3, e4, H⟩ := zbind H
  refine zy_iald (pc := 8) dX3_dot_8 e4 ?_
  refine zw_istore (pc := 9) (lv' := [(6, vI x3), (4, vJ (0 : Int64)), (0, vR p0), (1, vR p1), (2, vI p2), (3, vI p3)]) dX3_dot_9 (by decide) rfl ?_
  refine zW_pick (lv' := [(0, vR p0), (1, vR p1), (2, vI p2), (3, vI p3), (4, vJ (0 : Int64)), (6, vI x3)]) [2, 3, 4, 5, 1, 0] rfl ?_
  exact zloop_ind (body := (fun f c0 c1 c2 c3 c4 c5 => B_X3_dot_11 f c0 c1 c2 c3 c4 c5 h)) (bot := (fun _ _ _ _ _ _ => none)) (P := (fun (f : Option Nat → Option Nat → Int32 → Int32 → Int64 → Int32 → Option Int64) => ∀ (b0 : Option Nat) (b1 : Option Nat) (b2 : Int32) (b3 : Int32) (b4 : Int64) (b5 : Int32), f b0 b1 b2 b3 b4 b5 = some vx → zW G M_X3_dot 4 h (.inl (some (vJ vx))) h 11 [(0, vR b0), (1, vR b1), (2, vI b2), (3, vI b3), (4, vJ b4), (6, vI b5)] [] h)) zFU (fun _ _ _ _ _ _ H => nomatch H) (fun f hf c0 c1 c2 c3 c4 c5 H => wB_X3_dot_11 hf H) _ _ _ _ _ _ H
theorem ls_X3_dot : Cond.selects yX3_dot.cls yX3_dot yX3_dot ∈ lw_all := lw_g (lw_ms _ (List.mem_of_getElem? (i := 7) rfl)) rfl
def M_X3_lambda_times_17 : zM := (yX3_lambda_times_17, cX3_lambda_times_17, 4, (.some .long), [])
theorem mf_X3_lambda_times_17 : zMi M_X3_lambda_times_17 3 := ⟨⟨q533, q182, ⟨by decide +kernel, by decide +kernel⟩, by decide +kernel, by decide⟩, q532⟩
def f_X3_lambda_times_17 (p0 : Option Nat) (p1 : Option Nat) (p2 : Int32) (p3 : Int32) (h : zH) : Option Int64 :=
  (zrv 3 p0 h).bind fun b1 =>
  (f_X3_dot (some b1) p1 p2 p3 h).bind fun x6 =>
  some x6
theorem w_X3_lambda_times_17 {G : zG} {p0 : Option Nat} {p1 : Option Nat} {p2 : Int32} {p3 : Int32} {h : zH} {vx : Int64} (H : f_X3_lambda_times_17 p0 p1 p2 p3 h = some vx) : zMet G M_X3_lambda_times_17 5 [vR p0, vR p1, vI p2, vI p3] h (.inl (some (vJ vx))) h := by
  refine zMet.of (by decide +kernel) (Nat.le_of_ble_eq_true rfl) ?_
  show zW G M_X3_lambda_times_17 5 h (.inl (some (vJ vx))) h 0 [(0, vR p0), (1, vR p1), (2, vI p2), (3, vI p3)] [] h
  unfold f_X3_lambda_times_17 at H
  refine zw_aload_n (pc := 0) dX3_lambda_times_17_0 rfl 0 rfl ?_
  refine zw_aload_n (pc := 1) dX3_lambda_times_17_1 rfl 1 rfl ?_
  refine zw_iload_n (pc := 2) dX3_lambda_times_17_2 rfl 2 rfl ?_
  refine zw_iload_n (pc := 3) dX3_lambda_times_17_3 rfl 3 rfl ?_
  obtain ⟨b1, e3, H⟩ := zbind H
  obtain ⟨e2, e4⟩ := zrv_ok e3
  obtain ⟨x6, e5, H⟩ := zbind H
  refine zw_invV (pc := 4) (M' := M_X3_dot) (A := [vR p1, vI p2, vI p3]) [] dX3_lambda_times_17_4 (Or.inl q534) mf_X3_dot ls_X3_dot (zkq e4 rfl) (w_X3_dot e5) (Nat.le_of_ble_eq_true rfl) rfl (by rw [← e2]; rfl) (Nat.le_of_ble_eq_true rfl) (zkv ?_) zkn9
  obtain rfl := Option.some.inj H
  exact zw_lret (pc := 7) dX3_lambda_times_17_7 rfl rfl rfl
def M_X3_lambda_transposed_8 : zM := (yX3_lambda_transposed_8, cX3_lambda_transposed_8, 3, (.some .boolean), [])
theorem mf_X3_lambda_transposed_8 : zMi M_X3_lambda_transposed_8 2 := ⟨⟨q396, q182, ⟨by decide +kernel, by decide +kernel⟩, by decide +kernel, by decide⟩, q395⟩
def f_X3_lambda_transposed_8 (p0 : Option Nat) (p1 : Int32) (p2 : Int32) (h : zH) : Option Int32 :=
  (zrv 3 p0 h).bind fun b1 =>
  (f_X3_stores (some b1) p2 p1 h).bind fun x6 =>
  if x6 = 0 ∨ x6 = 1 then some x6 else none
theorem w_X3_lambda_transposed_8 {G : zG} {p0 : Option Nat} {p1 : Int32} {p2 : Int32} {h : zH} {vx : Int32} (H : f_X3_lambda_transposed_8 p0 p1 p2 h = some vx) : zMet G M_X3_lambda_transposed_8 4 [vR p0, vI p1, vI p2] h (.inl (some (vI vx))) h := by
  refine zMet.of (by decide +kernel) (Nat.le_of_ble_eq_true rfl) ?_
  show zW G M_X3_lambda_transposed_8 4 h (.inl (some (vI vx))) h 0 [(0, vR p0), (1, vI p1), (2, vI p2)] [] h
  unfold f_X3_lambda_transposed_8 at H
  refine zw_aload_n (pc := 0) dX3_lambda_transposed_8_0 rfl 0 rfl ?_
  refine zw_iload_n (pc := 1) dX3_lambda_transposed_8_1 rfl 2 rfl ?_
  refine zw_iload_n (pc := 2) dX3_lambda_transposed_8_2 rfl 1 rfl ?_
  obtain ⟨b1, e3, H⟩ := zbind H
  obtain ⟨e2, e4⟩ := zrv_ok e3
  obtain ⟨x6, e5, H⟩ := zbind H
  refine zw_invV (pc := 3) (M' := M_X3_stores) (A := [vI p2, vI p1]) [] dX3_lambda_transposed_8_3 (Or.inl q397) mf_X3_stores q399 (zkq e4 rfl) (w_X3_stores e5) (Nat.le_of_ble_eq_true rfl) rfl (by rw [← e2]; rfl) (Nat.le_of_ble_eq_true rfl) (zkv ?_) zkn9
  obtain ⟨c7, H⟩ := zgd H
  obtain rfl := Option.some.inj H
  exact zw_zret (pc := 6) dX3_lambda_transposed_8_6 rfl (znarZ c7) rfl rfl
def M_X3_lambda_transposed_9 : zM := (yX3_lambda_transposed_9, cX3_lambda_transposed_9, 3, (.some .long), [])
theorem mf_X3_lambda_transposed_9 : zMi M_X3_lambda_transposed_9 2 := ⟨⟨q407, q182, ⟨by decide +kernel, by decide +kernel⟩, by decide +kernel, by decide⟩, q406⟩
def f_X3_lambda_transposed_9 (p0 : Option Nat) (p1 : Int32) (p2 : Int32) (h : zH) : Option Int64 :=
  (zrv 3 p0 h).bind fun b1 =>
  (f_X3_value (some b1) p2 p1 h).bind fun x6 =>
  some x6.toInt64
theorem w_X3_lambda_transposed_9 {G : zG} {p0 : Option Nat} {p1 : Int32} {p2 : Int32} {h : zH} {vx : Int64} (H : f_X3_lambda_transposed_9 p0 p1 p2 h = some vx) : zMet G M_X3_lambda_transposed_9 4 [vR p0, vI p1, vI p2] h (.inl (some (vJ vx))) h := by
  refine zMet.of (by decide +kernel) (Nat.le_of_ble_eq_true rfl) ?_
  show zW G M_X3_lambda_transposed_9 4 h (.inl (some (vJ vx))) h 0 [(0, vR p0), (1, vI p1), (2, vI p2)] [] h
  unfold f_X3_lambda_transposed_9 at H
  refine zw_aload_n (pc := 0) dX3_lambda_transposed_9_0 rfl 0 rfl ?_
  refine zw_iload_n (pc := 1) dX3_lambda_transposed_9_1 rfl 2 rfl ?_
  refine zw_iload_n (pc := 2) dX3_lambda_transposed_9_2 rfl 1 rfl ?_
  obtain ⟨b1, e3, H⟩ := zbind H
  obtain ⟨e2, e4⟩ := zrv_ok e3
  obtain ⟨x6, e5, H⟩ := zbind H
  refine zw_invV (pc := 3) (M' := M_X3_value) (A := [vI p2, vI p1]) [] dX3_lambda_transposed_9_3 (Or.inl q408) mf_X3_value q410 (zkq e4 rfl) (w_X3_value e5) (Nat.le_of_ble_eq_true rfl) rfl (by rw [← e2]; rfl) (Nat.le_of_ble_eq_true rfl) (zkv ?_) zkn9
  refine zw_i2l (pc := 6) dX3_lambda_transposed_9_6 ?_
  obtain rfl := Option.some.inj H
  exact zw_lret (pc := 7) dX3_lambda_transposed_9_7 rfl rfl rfl
def M_X3_lambda_unit_12 : zM := (yX3_lambda_unit_12, cX3_lambda_unit_12, 2, (.some .boolean), [])
theorem mf_X3_lambda_unit_12 : zMs M_X3_lambda_unit_12 2 := ⟨⟨q1353, q182, ⟨by decide +kernel, by decide +kernel⟩, by decide +kernel, by decide⟩, q1352⟩
def f_X3_lambda_unit_12 (p0 : Int32) (p1 : Int32) (h : zH) : Option Int32 :=
  if p0 = p1 then
  some (1 : Int32)
  else
  some (0 : Int32)
theorem w_X3_lambda_unit_12 {G : zG} {p0 : Int32} {p1 : Int32} {h : zH} {vx : Int32} (H : f_X3_lambda_unit_12 p0 p1 h = some vx) : zMet G M_X3_lambda_unit_12 2 [vI p0, vI p1] h (.inl (some (vI vx))) h := by
  refine zMet.of (by decide +kernel) (Nat.le_of_ble_eq_true rfl) ?_
  show zW G M_X3_lambda_unit_12 2 h (.inl (some (vI vx))) h 0 [(0, vI p0), (1, vI p1)] [] h
  unfold f_X3_lambda_unit_12 at H
  refine zw_iload_n (pc := 0) dX3_lambda_unit_12_0 rfl 0 rfl ?_
  refine zw_iload_n (pc := 1) dX3_lambda_unit_12_1 rfl 1 rfl ?_
  rcases zif H with ⟨c1, H⟩ | ⟨c1, H⟩
  · refine zw_icmp_ne (pc := 2) (tgt := 9) dX3_lambda_unit_12_2 rfl (fun q => absurd c1 q) (fun _ => ?_)
    refine zw_iconst (pc := 5) (v := (1 : Int32)) dX3_lambda_unit_12_5 (by decide) ?_
    refine zw_goto (pc := 6) (tgt := 10) dX3_lambda_unit_12_6 rfl ?_
    obtain rfl := Option.some.inj H
    exact zw_zret (pc := 10) dX3_lambda_unit_12_10 rfl rfl rfl rfl
  · refine zw_icmp_ne (pc := 2) (tgt := 9) dX3_lambda_unit_12_2 rfl (fun _ => ?_) (fun q => absurd q c1)
    refine zw_iconst (pc := 9) (v := (0 : Int32)) dX3_lambda_unit_12_9 (by decide) ?_
    obtain rfl := Option.some.inj H
    exact zw_zret (pc := 10) dX3_lambda_unit_12_10 rfl rfl rfl rfl
def M_X3_lambda_unit_13 : zM := (yX3_lambda_unit_13, cX3_lambda_unit_13, 2, (.some .long), [])
theorem mf_X3_lambda_unit_13 : zMs M_X3_lambda_unit_13 2 := ⟨⟨q1355, q182, ⟨by decide +kernel, by decide +kernel⟩, by decide +kernel, by decide⟩, q1354⟩
def f_X3_lambda_unit_13 (p0 : Int32) (p1 : Int32) (h : zH) : Option Int64 :=
  some (1 : Int64)
theorem w_X3_lambda_unit_13 {G : zG} {p0 : Int32} {p1 : Int32} {h : zH} {vx : Int64} (H : f_X3_lambda_unit_13 p0 p1 h = some vx) : zMet G M_X3_lambda_unit_13 2 [vI p0, vI p1] h (.inl (some (vJ vx))) h := by
  refine zMet.of (by decide +kernel) (Nat.le_of_ble_eq_true rfl) ?_
  show zW G M_X3_lambda_unit_13 2 h (.inl (some (vJ vx))) h 0 [(0, vI p0), (1, vI p1)] [] h
  unfold f_X3_lambda_unit_13 at H
  refine zw_lconst (pc := 0) (v := (1 : Int64)) dX3_lambda_unit_13_0 (by decide) ?_
  obtain rfl := Option.some.inj H
  exact zw_lret (pc := 1) dX3_lambda_unit_13_1 rfl rfl rfl
def M_X3_swapped : zM := (yX3_swapped, cX3_swapped, 3, (.some .int), [])
theorem mf_X3_swapped : zMs M_X3_swapped 3 := ⟨⟨q1664, q182, ⟨by decide +kernel, by decide +kernel⟩, by decide +kernel, by decide⟩, q1663⟩
def f_X3_swapped (p0 : Int32) (p1 : Int32) (p2 : Int32) (h : zH) : Option Int32 :=
  if p0 = p1 then
  some p2
  else
  if p0 = p2 then
  some p1
  else
  some p0
theorem w_X3_swapped {G : zG} {p0 : Int32} {p1 : Int32} {p2 : Int32} {h : zH} {vx : Int32} (H : f_X3_swapped p0 p1 p2 h = some vx) : zMet G M_X3_swapped 2 [vI p0, vI p1, vI p2] h (.inl (some (vI vx))) h := by
  refine zMet.of (by decide +kernel) (Nat.le_of_ble_eq_true rfl) ?_
  show zW G M_X3_swapped 2 h (.inl (some (vI vx))) h 0 [(0, vI p0), (1, vI p1), (2, vI p2)] [] h
  unfold f_X3_swapped at H
  refine zw_iload_n (pc := 0) dX3_swapped_0 rfl 0 rfl ?_
  refine zw_iload_n (pc := 1) dX3_swapped_1 rfl 1 rfl ?_
  rcases zif H with ⟨c1, H⟩ | ⟨c1, H⟩
  · refine zw_icmp_ne (pc := 2) (tgt := 9) dX3_swapped_2 rfl (fun q => absurd c1 q) (fun _ => ?_)
    refine zw_iload_n (pc := 5) dX3_swapped_5 rfl 2 rfl ?_
    refine zw_goto (pc := 6) (tgt := 19) dX3_swapped_6 rfl ?_
    obtain rfl := Option.some.inj H
    exact zw_iret (pc := 19) dX3_swapped_19 rfl rfl rfl
  · refine zw_icmp_ne (pc := 2) (tgt := 9) dX3_swapped_2 rfl (fun _ => ?_) (fun q => absurd q c1)
    refine zw_iload_n (pc := 9) dX3_swapped_9 rfl 0 rfl ?_
    refine zw_iload_n (pc := 10) dX3_swapped_10 rfl 2 rfl ?_
    rcases zif H with ⟨c2, H⟩ | ⟨c2, H⟩
    · refine zw_icmp_ne (pc := 11) (tgt := 18) dX3_swapped_11 rfl (fun q => absurd c2 q) (fun _ => ?_)
      refine zw_iload_n (pc := 14) dX3_swapped_14 rfl 1 rfl ?_
      refine zw_goto (pc := 15) (tgt := 19) dX3_swapped_15 rfl ?_
      obtain rfl := Option.some.inj H
      exact zw_iret (pc := 19) dX3_swapped_19 rfl rfl rfl
    · refine zw_icmp_ne (pc := 11) (tgt := 18) dX3_swapped_11 rfl (fun _ => ?_) (fun q => absurd q c2)
      refine zw_iload_n (pc := 18) dX3_swapped_18 rfl 0 rfl ?_
      obtain rfl := Option.some.inj H
      exact zw_iret (pc := 19) dX3_swapped_19 rfl rfl rfl
def M_X3_lambda_withSwapped_6 : zM := (yX3_lambda_withSwapped_6, cX3_lambda_withSwapped_6, 5, (.some .boolean), [])
theorem mf_X3_lambda_withSwapped_6 : zMi M_X3_lambda_withSwapped_6 4 := ⟨⟨q1661, q182, ⟨by decide +kernel, by decide +kernel⟩, by decide +kernel, by decide⟩, q1660⟩
def f_X3_lambda_withSwapped_6 (p0 : Option Nat) (p1 : Int32) (p2 : Int32) (p3 : Int32) (p4 : Int32) (h : zH) : Option Int32 :=
  (f_X3_swapped p3 p1 p2 h).bind fun x2 =>
  (zrv 3 p0 h).bind fun b3 =>
  (f_X3_stores (some b3) x2 p4 h).bind fun x8 =>
  if x8 = 0 ∨ x8 = 1 then some x8 else none
theorem w_X3_lambda_withSwapped_6 {G : zG} {p0 : Option Nat} {p1 : Int32} {p2 : Int32} {p3 : Int32} {p4 : Int32} {h : zH} {vx : Int32} (H : f_X3_lambda_withSwapped_6 p0 p1 p2 p3 p4 h = some vx) : zMet G M_X3_lambda_withSwapped_6 4 [vR p0, vI p1, vI p2, vI p3, vI p4] h (.inl (some (vI vx))) h := by
  refine zMet.of (by decide +kernel) (Nat.le_of_ble_eq_true rfl) ?_
  show zW G M_X3_lambda_withSwapped_6 4 h (.inl (some (vI vx))) h 0 [(0, vR p0), (1, vI p1), (2, vI p2), (3, vI p3), (4, vI p4)] [] h
  unfold f_X3_lambda_withSwapped_6 at H
  refine zw_aload_n (pc := 0) dX3_lambda_withSwapped_6_0 rfl 0 rfl ?_
  refine zw_iload_n (pc := 1) dX3_lambda_withSwapped_6_1 rfl 3 rfl ?_
  refine zw_iload_n (pc := 2) dX3_lambda_withSwapped_6_2 rfl 1 rfl ?_
  refine zw_iload_n (pc := 3) dX3_lambda_withSwapped_6_3 rfl 2 rfl ?_
  obtain ⟨x2, e1, H⟩ := zbind H
  refine zw_invS (pc := 4) (M' := M_X3_swapped) (A := [vI p3, vI p1, vI p2]) [vR p0] dX3_lambda_withSwapped_6_4 (Or.inl q1662) mf_X3_swapped (w_X3_swapped e1) (Nat.le_of_ble_eq_true rfl) rfl rfl (Nat.le_of_ble_eq_true rfl) (zkv ?_) zkn9
  refine zw_iload (pc := 7) dX3_lambda_withSwapped_6_7 4 rfl ?_
  obtain ⟨b3, e5, H⟩ := zbind H
  obtain ⟨e4, e6⟩ := zrv_ok e5
  obtain ⟨x8, e7, H⟩ := zbind H
  refine zw_invV (pc := 9) (M' := M_X3_stores) (A := [vI x2, vI p4]) [] dX3_lambda_withSwapped_6_9 (Or.inl q397) mf_X3_stores q399 (zkq e6 rfl) (w_X3_stores e7) (Nat.le_of_ble_eq_true rfl) rfl (by rw [← e4]; rfl) (Nat.le_of_ble_eq_true rfl) (zkv ?_) zkn9
  obtain ⟨c9, H⟩ := zgd H
  obtain rfl := Option.some.inj H
  exact zw_zret (pc := 12) dX3_lambda_withSwapped_6_12 rfl (znarZ c9) rfl rfl
def M_X3_lambda_withSwapped_7 : zM := (yX3_lambda_withSwapped_7, cX3_lambda_withSwapped_7, 5, (.some .long), [])
theorem mf_X3_lambda_withSwapped_7 : zMi M_X3_lambda_withSwapped_7 4 := ⟨⟨q1667, q182, ⟨by decide +kernel, by decide +kernel⟩, by decide +kernel, by decide⟩, q1666⟩
def f_X3_lambda_withSwapped_7 (p0 : Option Nat) (p1 : Int32) (p2 : Int32) (p3 : Int32) (p4 : Int32) (h : zH) : Option Int64 :=
  (f_X3_swapped p3 p1 p2 h).bind fun x2 =>
  (zrv 3 p0 h).bind fun b3 =>
  (f_X3_value (some b3) x2 p4 h).bind fun x8 =>
  some x8.toInt64
theorem w_X3_lambda_withSwapped_7 {G : zG} {p0 : Option Nat} {p1 : Int32} {p2 : Int32} {p3 : Int32} {p4 : Int32} {h : zH} {vx : Int64} (H : f_X3_lambda_withSwapped_7 p0 p1 p2 p3 p4 h = some vx) : zMet G M_X3_lambda_withSwapped_7 4 [vR p0, vI p1, vI p2, vI p3, vI p4] h (.inl (some (vJ vx))) h := by
  refine zMet.of (by decide +kernel) (Nat.le_of_ble_eq_true rfl) ?_
  show zW G M_X3_lambda_withSwapped_7 4 h (.inl (some (vJ vx))) h 0 [(0, vR p0), (1, vI p1), (2, vI p2), (3, vI p3), (4, vI p4)] [] h
  unfold f_X3_lambda_withSwapped_7 at H
  refine zw_aload_n (pc := 0) dX3_lambda_withSwapped_7_0 rfl 0 rfl ?_
  refine zw_iload_n (pc := 1) dX3_lambda_withSwapped_7_1 rfl 3 rfl ?_
  refine zw_iload_n (pc := 2) dX3_lambda_withSwapped_7_2 rfl 1 rfl ?_
  refine zw_iload_n (pc := 3) dX3_lambda_withSwapped_7_3 rfl 2 rfl ?_
  obtain ⟨x2, e1, H⟩ := zbind H
  refine zw_invS (pc := 4) (M' := M_X3_swapped) (A := [vI p3, vI p1, vI p2]) [vR p0] dX3_lambda_withSwapped_7_4 (Or.inl q1662) mf_X3_swapped (w_X3_swapped e1) (Nat.le_of_ble_eq_true rfl) rfl rfl (Nat.le_of_ble_eq_true rfl) (zkv ?_) zkn9
  refine zw_iload (pc := 7) dX3_lambda_withSwapped_7_7 4 rfl ?_
  obtain ⟨b3, e5, H⟩ := zbind H
  obtain ⟨e4, e6⟩ := zrv_ok e5
  obtain ⟨x8, e7, H⟩ := zbind H
  refine zw_invV (pc := 9) (M' := M_X3_value) (A := [vI x2, vI p4]) [] dX3_lambda_withSwapped_7_9 (Or.inl q408) mf_X3_value q410 (zkq e6 rfl) (w_X3_value e7) (Nat.le_of_ble_eq_true rfl) rfl (by rw [← e4]; rfl) (Nat.le_of_ble_eq_true rfl) (zkv ?_) zkn9
  refine zw_i2l (pc := 12) dX3_lambda_withSwapped_7_12 ?_
  obtain rfl := Option.some.inj H
  exact zw_lret (pc := 13) dX3_lambda_withSwapped_7_13 rfl rfl rfl
def M_X3_lambda_with_0 : zM := (yX3_lambda_with_0, cX3_lambda_with_0, 5, (.some .boolean), [])
theorem mf_X3_lambda_with_0 : zMi M_X3_lambda_with_0 4 := ⟨⟨q1108, q182, ⟨by decide +kernel, by decide +kernel⟩, by decide +kernel, by decide⟩, q1107⟩
def B_X3_lambda_with_0_11 (a0 : Option Nat) (a1 : Int32) (a2 : Int32) (h : zH) : Option Int32 :=
  (zrv 3 a0 h).bind fun b1 =>
  (f_X3_stores (some b1) a1 a2 h).bind fun x6 =>
  if x6 = 0 then
  some (0 : Int32)
  else
  some (1 : Int32)
theorem wB_X3_lambda_with_0_11 {G : zG} {h0 h : zH} {vx : Int32} {a0 : Option Nat} {a1 : Int32} {a2 : Int32} (H : B_X3_lambda_with_0_11 a0 a1 a2 h = some vx) : zW G M_X3_lambda_with_0 4 h0 (.inl (some (vI vx))) h 11 [(0, vR a0), (3, vI a1), (4, vI a2)] [] h := by
  unfold B_X3_lambda_with_0_11 at H
  refine zw_aload_n (pc := 11) dX3_lambda_with_0_11 rfl 0 rfl ?_
  refine zw_iload_n (pc := 12) dX3_lambda_with_0_12 rfl 1 rfl ?_
  refine zw_iload (pc := 13) dX3_lambda_with_0_13 2 rfl ?_
  obtain ⟨b1, e3, H⟩ := zbind H
  obtain ⟨e2, e4⟩ := zrv_ok e3
  obtain ⟨x6, e5, H⟩ := zbind H
  refine zw_invV (pc := 15) (M' := M_X3_stores) (A := [vI a1, vI a2]) [] dX3_lambda_with_0_15 (Or.inl q397) mf_X3_stores q399 (zkq e4 rfl) (w_X3_stores e5) (Nat.le_of_ble_eq_true rfl) rfl (by rw [← e2]; rfl) (Nat.le_of_ble_eq_true rfl) (zkv ?_) zkn9
  rcases zif H with ⟨c7, H⟩ | ⟨c7, H⟩
  · refine zw_if_eq (pc := 18) (tgt := 25) dX3_lambda_with_0_18 rfl (fun _ => ?_) (fun q => absurd c7 q)
    refine zw_iconst (pc := 25) (v := (0 : Int32)) dX3_lambda_with_0_25 (by decide) ?_
    obtain rfl := Option.some.inj H
    exact zw_zret (pc := 26) dX3_lambda_with_0_26 rfl rfl rfl rfl
  · refine zw_if_eq (pc := 18) (tgt := 25) dX3_lambda_with_0_18 rfl (fun q => absurd q c7) (fun _ => ?_)
    refine zw_iconst (pc := 21) (v := (1 : Int32)) dX3_lambda_with_0_21 (by decide) ?_
    refine zw_goto (pc := 22) (tgt := 26) dX3_lambda_with_0_22 rfl ?_
    obtain rfl := Option.some.inj H
    exact zw_zret (pc := 26) dX3_lambda_with_0_26 rfl rfl rfl rfl
def f_X3_lambda_with_0 (p0 : Option Nat) (p1 : Int32) (p2 : Int32) (p3 : Int32) (p4 : Int32) (h : zH) : Option Int32 :=
  if p3 = p1 then
  if p4 = p2 then
  some (1 : Int32)
  else
  B_X3_lambda_with_0_11 p0 p3 p4 h
  else
  B_X3_lambda_with_0_11 p0 p3 p4 h
theorem w_X3_lambda_with_0 {G : zG} {p0 : Option Nat} {p1 : Int32} {p2 : Int32} {p3 : Int32} {p4 : Int32} {h : zH} {vx : Int32} (H : f_X3_lambda_with_0 p0 p1 p2 p3 p4 h = some vx) : zMet G M_X3_lambda_with_0 4 [vR p0, vI p1, vI p2, vI p3, vI p4] h (.inl (some (vI vx))) h := by
  refine zMet.of (by decide +kernel) (Nat.le_of_ble_eq_true rfl) ?_
  show zW G M_X3_lambda_with_0 4 h (.inl (some (vI vx))) h 0 [(0, vR p0), (1, vI p1), (2, vI p2), (3, vI p3), (4, vI p4)] [] h
  unfold f_X3_lambda_with_0 at H
  refine zw_iload_n (pc := 0) dX3_lambda_with_0_0 rfl 3 rfl ?_
  refine zw_iload_n (pc := 1) dX3_lambda_with_0_1 rfl 1 rfl ?_
  rcases zif H with ⟨c1, H⟩ | ⟨c1, H⟩
  · refine zw_icmp_ne (pc := 2) (tgt := 11) dX3_lambda_with_0_2 rfl (fun q => absurd c1 q) (fun _ => ?_)
    refine zw_iload (pc := 5) dX3_lambda_with_0_5 4 rfl ?_
    refine zw_iload_n (pc := 7) dX3_lambda_with_0_7 rfl 2 rfl ?_
    rcases zif H with ⟨c2, H⟩ | ⟨c2, H⟩
    · refine zw_icmp_eq (pc := 8) (tgt := 21) dX3_lambda_with_0_8 rfl (fun _ => ?_) (fun q => absurd c2 q)
      refine zw_iconst (pc := 21) (v := (1 : Int32)) dX3_lambda_with_0_21 (by decide) ?_
      refine zw_goto (pc := 22) (tgt := 26) dX3_lambda_with_0_22 rfl ?_
      obtain rfl := Option.some.inj H
      exact zw_zret (pc := 26) dX3_lambda_with_0_26 rfl rfl rfl rfl
    · refine zw_icmp_eq (pc := 8) (tgt := 21) dX3_lambda_with_0_8 rfl (fun q => absurd q c2) (fun _ => ?_)
      refine zW_pick (lv' := [(0, vR p0), (3, vI p3), (4, vI p4)]) [0, 3, 4] rfl ?_
      exact wB_X3_lambda_with_0_11 H
  · refine zw_icmp_ne (pc := 2) (tgt := 11) dX3_lambda_with_0_2 rfl (fun _ => ?_) (fun q => absurd q c1)
    refine zW_pick (lv' := [(0, vR p0), (3, vI p3), (4, vI p4)]) [0, 3, 4] rfl ?_
    exact wB_X3_lambda_with_0_11 H
def M_X3_lambda_with_1 : zM := (yX3_lambda_with_1, cX3_lambda_with_1, 6, (.some .long), [])
theorem mf_X3_lambda_with_1 : zMi M_X3_lambda_with_1 5 := ⟨⟨q1111, q182, ⟨by decide +kernel, by decide +kernel⟩, by decide +kernel, by decide⟩, q1110⟩
def f_X3_lambda_with_1 (p0 : Option Nat) (p1 : Int32) (p2 : Int32) (p3 : Int32) (p4 : Int32) (p5 : Int32) (h : zH) : Option Int64 :=
  if p4 = p1 then
  if p5 = p2 then
  some p3.toInt64
  else
  (zrv 3 p0 h).bind fun b9 =>
  (f_X3_value (some b9) p4 p5 h).bind fun x14 =>
  some x14.toInt64
  else
  (zrv 3 p0 h).bind fun b2 =>
  (f_X3_value (some b2) p4 p5 h).bind fun x7 =>
  some x7.toInt64
theorem w_X3_lambda_with_1 {G : zG} {p0 : Option Nat} {p1 : Int32} {p2 : Int32} {p3 : Int32} {p4 : Int32} {p5 : Int32} {h : zH} {vx : Int64} (H : f_X3_lambda_with_1 p0 p1 p2 p3 p4 p5 h = some vx) : zMet G M_X3_lambda_with_1 4 [vR p0, vI p1, vI p2, vI p3, vI p4, vI p5] h (.inl (some (vJ vx))) h := by
  refine zMet.of (by decide +kernel) (Nat.le_of_ble_eq_true rfl) ?_
  show zW G M_X3_lambda_with_1 4 h (.inl (some (vJ vx))) h 0 [(0, vR p0), (1, vI p1), (2, vI p2), (3, vI p3), (4, vI p4), (5, vI p5)] [] h
  unfold f_X3_lambda_with_1 at H
  refine zw_iload (pc := 0) dX3_lambda_with_1_0 4 rfl ?_
  refine zw_iload_n (pc := 2) dX3_lambda_with_1_2 rfl 1 rfl ?_
  rcases zif H with ⟨c1, H⟩ | ⟨c1, H⟩
  · refine zw_icmp_ne (pc := 3) (tgt := 17) dX3_lambda_with_1_3 rfl (fun q => absurd c1 q) (fun _ => ?_)
    refine zw_iload (pc := 6) dX3_lambda_with_1_6 5 rfl ?_
    refine zw_iload_n (pc := 8) dX3_lambda_with_1_8 rfl 2 rfl ?_
    rcases zif H with ⟨c8, H⟩ | ⟨c8, H⟩
    · refine zw_icmp_ne (pc := 9) (tgt := 17) dX3_lambda_with_1_9 rfl (fun q => absurd c8 q) (fun _ => ?_)
      refine zw_iload_n (pc := 12) dX3_lambda_with_1_12 rfl 3 rfl ?_
      refine zw_i2l (pc := 13) dX3_lambda_with_1_13 ?_
      refine zw_goto (pc := 14) (tgt := 26) dX3_lambda_with_1_14 rfl ?_
      obtain rfl := Option.some.inj H
      exact zw_lret (pc := 26) dX3_lambda_with_1_26 rfl rfl rfl
    · refine zw_icmp_ne (pc := 9) (tgt := 17) dX3_lambda_with_1_9 rfl (fun _ => ?_) (fun q => absurd q c8)
      refine zw_aload_n (pc := 17) dX3_lambda_with_1_17 rfl 0 rfl ?_
      refine zw_iload (pc := 18) dX3_lambda_with_1_18 4 rfl ?_
      refine zw_iload (pc := 20) dX3_lambda_with_1_20 5 rfl ?_
      obtain ⟨b9, e11, H⟩ := zbind H
      obtain ⟨e10, e12⟩ := zrv_ok e11
      obtain ⟨x14, e13, H⟩ := zbind H
      refine zw_invV (pc := 22) (M' := M_X3_value) (A := [vI p4, vI p5]) [] dX3_lambda_with_1_22 (Or.inl q408) mf_X3_value q410 (zkq e12 rfl) (w_X3_value e13) (Nat.le_of_ble_eq_true rfl) rfl (by rw [← e10]; rfl) (Nat.le_of_ble_eq_true rfl) (zkv ?_) zkn9
      refine zw_i2l (pc := 25) dX3_lambda_with_1_25 ?_
      obtain rfl := Option.some.inj H
      exact zw_lret (pc := 26) dX3_lambda_with_1_26 rfl rfl rfl
  · refine zw_icmp_ne (pc := 3) (tgt := 17) dX3_lambda_with_1_3 rfl (fun _ => ?_) (fun q => absurd q c1)
    refine zw_aload_n (pc := 17) dX3_lambda_with_1_17 rfl 0 rfl ?_
    refine zw_iload (pc := 18) dX3_lambda_with_1_18 4 rfl ?_
    refine zw_iload (pc := 20) dX3_lambda_with_1_20 5 rfl ?_
    obtain ⟨b2, e4, H⟩ := zbind H
    obtain ⟨e3, e5⟩ := zrv_ok e4
    obtain ⟨x7, e6, H⟩ := zbind H
    refine zw_invV (pc := 22) (M' := M_X3_value) (A := [vI p4, vI p5]) [] dX3_lambda_with_1_22 (Or.inl q408) mf_X3_value q410 (zkq e5 rfl) (w_X3_value e6) (Nat.le_of_ble_eq_true rfl) rfl (by rw [← e3]; rfl) (Nat.le_of_ble_eq_true rfl) (zkv ?_) zkn9
    refine zw_i2l (pc := 25) dX3_lambda_with_1_25 ?_
    obtain rfl := Option.some.inj H
    exact zw_lret (pc := 26) dX3_lambda_with_1_26 rfl rfl rfl
def M_X3_lambda_withoutZeros_4 : zM := (yX3_lambda_withoutZeros_4, cX3_lambda_withoutZeros_4, 3, (.some .boolean), [])
theorem mf_X3_lambda_withoutZeros_4 : zMi M_X3_lambda_withoutZeros_4 2 := ⟨⟨q1447, q182, ⟨by decide +kernel, by decide +kernel⟩, by decide +kernel, by decide⟩, q1446⟩
def f_X3_lambda_withoutZeros_4 (p0 : Option Nat) (p1 : Int32) (p2 : Int32) (h : zH) : Option Int32 :=
  (zrv 3 p0 h).bind fun b1 =>
  (f_X3_value (some b1) p1 p2 h).bind fun x6 =>
  if x6 = 0 then
  some (0 : Int32)
  else
  some (1 : Int32)
theorem w_X3_lambda_withoutZeros_4 {G : zG} {p0 : Option Nat} {p1 : Int32} {p2 : Int32} {h : zH} {vx : Int32} (H : f_X3_lambda_withoutZeros_4 p0 p1 p2 h = some vx) : zMet G M_X3_lambda_withoutZeros_4 4 [vR p0, vI p1, vI p2] h (.inl (some (vI vx))) h := by
  refine zMet.of (by decide +kernel) (Nat.le_of_ble_eq_true rfl) ?_
  show zW G M_X3_lambda_withoutZeros_4 4 h (.inl (some (vI vx))) h 0 [(0, vR p0), (1, vI p1), (2, vI p2)] [] h
  unfold f_X3_lambda_withoutZeros_4 at H
  refine zw_aload_n (pc := 0) dX3_lambda_withoutZeros_4_0 rfl 0 rfl ?_
  refine zw_iload_n (pc := 1) dX3_lambda_withoutZeros_4_1 rfl 1 rfl ?_
  refine zw_iload_n (pc := 2) dX3_lambda_withoutZeros_4_2 rfl 2 rfl ?_
  obtain ⟨b1, e3, H⟩ := zbind H
  obtain ⟨e2, e4⟩ := zrv_ok e3
  obtain ⟨x6, e5, H⟩ := zbind H
  refine zw_invV (pc := 3) (M' := M_X3_value) (A := [vI p1, vI p2]) [] dX3_lambda_withoutZeros_4_3 (Or.inl q408) mf_X3_value q410 (zkq e4 rfl) (w_X3_value e5) (Nat.le_of_ble_eq_true rfl) rfl (by rw [← e2]; rfl) (Nat.le_of_ble_eq_true rfl) (zkv ?_) zkn9
  rcases zif H with ⟨c7, H⟩ | ⟨c7, H⟩
  · refine zw_if_eq (pc := 6) (tgt := 13) dX3_lambda_withoutZeros_4_6 rfl (fun _ => ?_) (fun q => absurd c7 q)
    refine zw_iconst (pc := 13) (v := (0 : Int32)) dX3_lambda_withoutZeros_4_13 (by decide) ?_
    obtain rfl := Option.some.inj H
    exact zw_zret (pc := 14) dX3_lambda_withoutZeros_4_14 rfl rfl rfl rfl
  · refine zw_if_eq (pc := 6) (tgt := 13) dX3_lambda_withoutZeros_4_6 rfl (fun q => absurd q c7) (fun _ => ?_)
    refine zw_iconst (pc := 9) (v := (1 : Int32)) dX3_lambda_withoutZeros_4_9 (by decide) ?_
    refine zw_goto (pc := 10) (tgt := 14) dX3_lambda_withoutZeros_4_10 rfl ?_
    obtain rfl := Option.some.inj H
    exact zw_zret (pc := 14) dX3_lambda_withoutZeros_4_14 rfl rfl rfl rfl
def M_X3_lambda_withoutZeros_5 : zM := (yX3_lambda_withoutZeros_5, cX3_lambda_withoutZeros_5, 3, (.some .long), [])
theorem mf_X3_lambda_withoutZeros_5 : zMi M_X3_lambda_withoutZeros_5 2 := ⟨⟨q1450, q182, ⟨by decide +kernel, by decide +kernel⟩, by decide +kernel, by decide⟩, q1449⟩
def f_X3_lambda_withoutZeros_5 (p0 : Option Nat) (p1 : Int32) (p2 : Int32) (h : zH) : Option Int64 :=
  (zrv 3 p0 h).bind fun b1 =>
  (f_X3_value (some b1) p1 p2 h).bind fun x6 =>
  some x6.toInt64
theorem w_X3_lambda_withoutZeros_5 {G : zG} {p0 : Option Nat} {p1 : Int32} {p2 : Int32} {h : zH} {vx : Int64} (H : f_X3_lambda_withoutZeros_5 p0 p1 p2 h = some vx) : zMet G M_X3_lambda_withoutZeros_5 4 [vR p0, vI p1, vI p2] h (.inl (some (vJ vx))) h := by
  refine zMet.of (by decide +kernel) (Nat.le_of_ble_eq_true rfl) ?_
  show zW G M_X3_lambda_withoutZeros_5 4 h (.inl (some (vJ vx))) h 0 [(0, vR p0), (1, vI p1), (2, vI p2)] [] h
  unfold f_X3_lambda_withoutZeros_5 at H
  refine zw_aload_n (pc := 0) dX3_lambda_withoutZeros_5_0 rfl 0 rfl ?_
  refine zw_iload_n (pc := 1) dX3_lambda_withoutZeros_5_1 rfl 1 rfl ?_
  refine zw_iload_n (pc := 2) dX3_lambda_withoutZeros_5_2 rfl 2 rfl ?_
  obtain ⟨b1, e3, H⟩ := zbind H
  obtain ⟨e2, e4⟩ := zrv_ok e3
  obtain ⟨x6, e5, H⟩ := zbind H
  refine zw_invV (pc := 3) (M' := M_X3_value) (A := [vI p1, vI p2]) [] dX3_lambda_withoutZeros_5_3 (Or.inl q408) mf_X3_value q410 (zkq e4 rfl) (w_X3_value e5) (Nat.le_of_ble_eq_true rfl) rfl (by rw [← e2]; rfl) (Nat.le_of_ble_eq_true rfl) (zkv ?_) zkn9
  refine zw_i2l (pc := 6) dX3_lambda_withoutZeros_5_6 ?_
  obtain rfl := Option.some.inj H
  exact zw_lret (pc := 7) dX3_lambda_withoutZeros_5_7 rfl rfl rfl
def M_X3_lambda_without_2 : zM := (yX3_lambda_without_2, cX3_lambda_without_2, 5, (.some .boolean), [])
theorem mf_X3_lambda_without_2 : zMi M_X3_lambda_without_2 4 := ⟨⟨q1644, q182, ⟨by decide +kernel, by decide +kernel⟩, by decide +kernel, by decide⟩, q1643⟩
def B_X3_lambda_without_2_11 (a0 : Option Nat) (a1 : Int32) (a2 : Int32) (h : zH) : Option Int32 :=
  (zrv 3 a0 h).bind fun b1 =>
  (f_X3_stores (some b1) a1 a2 h).bind fun x6 =>
  if x6 = 0 then
  some (0 : Int32)
  else
  some (1 : Int32)
theorem wB_X3_lambda_without_2_11 {G : zG} {h0 h : zH} {vx : Int32} {a0 : Option Nat} {a1 : Int32} {a2 : Int32} (H : B_X3_lambda_without_2_11 a0 a1 a2 h = some vx) : zW G M_X3_lambda_without_2 4 h0 (.inl (some (vI vx))) h 11 [(0, vR a0), (3, vI a1), (4, vI a2)] [] h := by
  unfold B_X3_lambda_without_2_11 at H
  refine zw_aload_n (pc := 11) dX3_lambda_without_2_11 rfl 0 rfl ?_
  refine zw_iload_n (pc := 12) dX3_lambda_without_2_12 rfl 1 rfl ?_
  refine zw_iload (pc := 13) dX3_lambda_without_2_13 2 rfl ?_
  obtain ⟨b1, e3, H⟩ := zbind H
  obtain ⟨e2, e4⟩ := zrv_ok e3
  obtain ⟨x6, e5, H⟩ := zbind H
  refine zw_invV (pc := 15) (M' := M_X3_stores) (A := [vI a1, vI a2]) [] dX3_lambda_without_2_15 (Or.inl q397) mf_X3_stores q399 (zkq e4 rfl) (w_X3_stores e5) (Nat.le_of_ble_eq_true rfl) rfl (by rw [← e2]; rfl) (Nat.le_of_ble_eq_true rfl) (zkv ?_) zkn9
  rcases zif H with ⟨c7, H⟩ | ⟨c7, H⟩
  · refine zw_if_eq (pc := 18) (tgt := 25) dX3_lambda_without_2_18 rfl (fun _ => ?_) (fun q => absurd c7 q)
    refine zw_iconst (pc := 25) (v := (0 : Int32)) dX3_lambda_without_2_25 (by decide) ?_
    obtain rfl := Option.some.inj H
    exact zw_zret (pc := 26) dX3_lambda_without_2_26 rfl rfl rfl rfl
  · refine zw_if_eq (pc := 18) (tgt := 25) dX3_lambda_without_2_18 rfl (fun q => absurd q c7) (fun _ => ?_)
    refine zw_iconst (pc := 21) (v := (1 : Int32)) dX3_lambda_without_2_21 (by decide) ?_
    refine zw_goto (pc := 22) (tgt := 26) dX3_lambda_without_2_22 rfl ?_
    obtain rfl := Option.some.inj H
    exact zw_zret (pc := 26) dX3_lambda_without_2_26 rfl rfl rfl rfl
def f_X3_lambda_without_2 (p0 : Option Nat) (p1 : Int32) (p2 : Int32) (p3 : Int32) (p4 : Int32) (h : zH) : Option Int32 :=
  if p3 = p1 then
  if p4 = p2 then
  some (0 : Int32)
  else
  B_X3_lambda_without_2_11 p0 p3 p4 h
  else
  B_X3_lambda_without_2_11 p0 p3 p4 h
theorem w_X3_lambda_without_2 {G : zG} {p0 : Option Nat} {p1 : Int32} {p2 : Int32} {p3 : Int32} {p4 : Int32} {h : zH} {vx : Int32} (H : f_X3_lambda_without_2 p0 p1 p2 p3 p4 h = some vx) : zMet G M_X3_lambda_without_2 4 [vR p0, vI p1, vI p2, vI p3, vI p4] h (.inl (some (vI vx))) h := by
  refine zMet.of (by decide +kernel) (Nat.le_of_ble_eq_true rfl) ?_
  show zW G M_X3_lambda_without_2 4 h (.inl (some (vI vx))) h 0 [(0, vR p0), (1, vI p1), (2, vI p2), (3, vI p3), (4, vI p4)] [] h
  unfold f_X3_lambda_without_2 at H
  refine zw_iload_n (pc := 0) dX3_lambda_without_2_0 rfl 3 rfl ?_
  refine zw_iload_n (pc := 1) dX3_lambda_without_2_1 rfl 1 rfl ?_
  rcases zif H with ⟨c1, H⟩ | ⟨c1, H⟩
  · refine zw_icmp_ne (pc := 2) (tgt := 11) dX3_lambda_without_2_2 rfl (fun q => absurd c1 q) (fun _ => ?_)
    refine zw_iload (pc := 5) dX3_lambda_without_2_5 4 rfl ?_
    refine zw_iload_n (pc := 7) dX3_lambda_without_2_7 rfl 2 rfl ?_
    rcases zif H with ⟨c2, H⟩ | ⟨c2, H⟩
    · refine zw_icmp_eq (pc := 8) (tgt := 25) dX3_lambda_without_2_8 rfl (fun _ => ?_) (fun q => absurd c2 q)
      refine zw_iconst (pc := 25) (v := (0 : Int32)) dX3_lambda_without_2_25 (by decide) ?_
      obtain rfl := Option.some.inj H
      exact zw_zret (pc := 26) dX3_lambda_without_2_26 rfl rfl rfl rfl
    · refine zw_icmp_eq (pc := 8) (tgt := 25) dX3_lambda_without_2_8 rfl (fun q => absurd q c2) (fun _ => ?_)
      refine zW_pick (lv' := [(0, vR p0), (3, vI p3), (4, vI p4)]) [0, 3, 4] rfl ?_
      exact wB_X3_lambda_without_2_11 H
  · refine zw_icmp_ne (pc := 2) (tgt := 11) dX3_lambda_without_2_2 rfl (fun _ => ?_) (fun q => absurd q c1)
    refine zW_pick (lv' := [(0, vR p0), (3, vI p3), (4, vI p4)]) [0, 3, 4] rfl ?_
    exact wB_X3_lambda_without_2_11 H
def M_X3_lambda_without_3 : zM := (yX3_lambda_without_3, cX3_lambda_without_3, 3, (.some .long), [])
theorem mf_X3_lambda_without_3 : zMi M_X3_lambda_without_3 2 := ⟨⟨q1647, q182, ⟨by decide +kernel, by decide +kernel⟩, by decide +kernel, by decide⟩, q1646⟩
def f_X3_lambda_without_3 (p0 : Option Nat) (p1 : Int32) (p2 : Int32) (h : zH) : Option Int64 :=
  (zrv 3 p0 h).bind fun b1 =>
  (f_X3_value (some b1) p1 p2 h).bind fun x6 =>
  some x6.toInt64
theorem w_X3_lambda_without_3 {G : zG} {p0 : Option Nat} {p1 : Int32} {p2 : Int32} {h : zH} {vx : Int64} (H : f_X3_lambda_without_3 p0 p1 p2 h = some vx) : zMet G M_X3_lambda_without_3 4 [vR p0, vI p1, vI p2] h (.inl (some (vJ vx))) h := by
  refine zMet.of (by decide +kernel) (Nat.le_of_ble_eq_true rfl) ?_
  show zW G M_X3_lambda_without_3 4 h (.inl (some (vJ vx))) h 0 [(0, vR p0), (1, vI p1), (2, vI p2)] [] h
  unfold f_X3_lambda_without_3 at H
  refine zw_aload_n (pc := 0) dX3_lambda_without_3_0 rfl 0 rfl ?_
  refine zw_iload_n (pc := 1) dX3_lambda_without_3_1 rfl 1 rfl ?_
  refine zw_iload_n (pc := 2) dX3_lambda_without_3_2 rfl 2 rfl ?_
  obtain ⟨b1, e3, H⟩ := zbind H
  obtain ⟨e2, e4⟩ := zrv_ok e3
  obtain ⟨x6, e5, H⟩ := zbind H
  refine zw_invV (pc := 3) (M' := M_X3_value) (A := [vI p1, vI p2]) [] dX3_lambda_without_3_3 (Or.inl q408) mf_X3_value q410 (zkq e4 rfl) (w_X3_value e5) (Nat.le_of_ble_eq_true rfl) rfl (by rw [← e2]; rfl) (Nat.le_of_ble_eq_true rfl) (zkv ?_) zkn9
  refine zw_i2l (pc := 6) dX3_lambda_without_3_6 ?_
  obtain rfl := Option.some.inj H
  exact zw_lret (pc := 7) dX3_lambda_without_3_7 rfl rfl rfl
theorem lp_J6_7_k6 {nm : String} : zFp "java/lang/Throwable" nm 7 6 0 := ⟨_, "java/lang/Throwable", by decide, rfl, by decide, Or.inl rfl, Or.inl ⟨Or.inl q482, rfl⟩⟩
theorem lp_J6_17_k6 {nm : String} : zFp "java/lang/Throwable" nm 17 6 1 := ⟨_, "java/lang/Throwable", by decide, rfl, by decide, Or.inl rfl, Or.inl ⟨Or.inl q483, rfl⟩⟩
theorem lp_J6_24_k6 {nm : String} : zFp "java/lang/Throwable" nm 24 6 2 := ⟨_, "java/lang/Throwable", by decide, rfl, by decide, Or.inl rfl, Or.inl ⟨Or.inl q484, rfl⟩⟩
theorem lp_J6_31_k6 {nm : String} : zFp "java/lang/Throwable" nm 31 6 3 := ⟨_, "java/lang/Throwable", by decide, rfl, by decide, Or.inl rfl, Or.inl ⟨Or.inl q481, rfl⟩⟩
theorem lp_J6_7_k7 {nm : String} : zFp "java/lang/Throwable" nm 7 7 0 := ⟨_, "java/lang/Throwable", by decide, rfl, by decide, Or.inl rfl, Or.inl ⟨Or.inl q482, rfl⟩⟩
theorem lp_J6_17_k7 {nm : String} : zFp "java/lang/Throwable" nm 17 7 1 := ⟨_, "java/lang/Throwable", by decide, rfl, by decide, Or.inl rfl, Or.inl ⟨Or.inl q483, rfl⟩⟩
theorem lp_J6_24_k7 {nm : String} : zFp "java/lang/Throwable" nm 24 7 2 := ⟨_, "java/lang/Throwable", by decide, rfl, by decide, Or.inl rfl, Or.inl ⟨Or.inl q484, rfl⟩⟩
theorem lp_J6_31_k7 {nm : String} : zFp "java/lang/Throwable" nm 31 7 3 := ⟨_, "java/lang/Throwable", by decide, rfl, by decide, Or.inl rfl, Or.inl ⟨Or.inl q481, rfl⟩⟩
def M_J6_init_2 : zM := (yJ6_init_2, cJ6_init_2, 5, none, [])
theorem mf_J6_init_2 : zMi M_J6_init_2 4 := ⟨⟨q479, q190, ⟨by decide +kernel, by decide +kernel⟩, by decide +kernel, by decide⟩, q478⟩
def B_J6_init_2_k6_41 (a0 : Option Nat) (a1 : Option Nat) (a2 : Option Nat) (a3 : Int32) (h : zH) : Option zH :=
  (zpR 6 3 a0 a1 h).bind fun h1 =>
  (zpR 6 0 a0 a2 h1).bind fun h3 =>
  if a3 = 0 then
  (zpR 6 2 a0 none h3).bind fun h6 =>
  some h6
  else
  some h3
theorem wB_J6_init_2_k6_41 {G : zG} {h0 h : zH} {vh : zH} {a0 : Option Nat} {a1 : Option Nat} {a2 : Option Nat} {a3 : Int32} (H : B_J6_init_2_k6_41 a0 a1 a2 a3 h = some vh) : zW G M_J6_init_2 2 h0 (.inl none) vh 41 [(0, vR a0), (1, vR a1), (2, vR a2), (3, vI a3)] [] h := by
  unfold B_J6_init_2_k6_41 at H
  refine zw_aload_n (pc := 41) dJ6_init_2_41 rfl 0 rfl ?_
  refine zw_aload_n (pc := 42) dJ6_init_2_42 rfl 1 rfl ?_
  obtain ⟨h1, e2, H⟩ := zbind H
  refine zy_putR (pc := 43) dJ6_init_2_43 lp_J6_31_k6 rfl e2 ?_
  refine zw_aload_n (pc := 46) dJ6_init_2_46 rfl 0 rfl ?_
  refine zw_aload_n (pc := 47) dJ6_init_2_47 rfl 2 rfl ?_
  obtain ⟨h3, e4, H⟩ := zbind H
  refine zy_putR (pc := 48) dJ6_init_2_48 lp_J6_7_k6 rfl e4 ?_
  refine zw_iload_n (pc := 51) dJ6_init_2_51 rfl 3 rfl ?_
  rcases zif H with ⟨c5, H⟩ | ⟨c5, H⟩
  · refine zw_if_ne (pc := 52) (tgt := 60) dJ6_init_2_52 rfl (fun q => absurd c5 q) (fun _ => ?_)
    refine zw_aload_n (pc := 55) dJ6_init_2_55 rfl 0 rfl ?_
    refine zw_null (pc := 56) dJ6_init_2_56 ?_
    obtain ⟨h6, e7, H⟩ := zbind H
    refine zy_putR (pc := 57) dJ6_init_2_57 lp_J6_24_k6 rfl e7 ?_
    obtain rfl := Option.some.inj H
    exact zw_vret (pc := 60) dJ6_init_2_60 rfl rfl rfl
  · refine zw_if_ne (pc := 52) (tgt := 60) dJ6_init_2_52 rfl (fun _ => ?_) (fun q => absurd q c5)
    obtain rfl := Option.some.inj H
    exact zw_vret (pc := 60) dJ6_init_2_60 rfl rfl rfl
def f_J6_init_2_k6 (p0 : Option Nat) (p1 : Option Nat) (p2 : Option Nat) (p3 : Int32) (p4 : Int32) (h : zH) : Option zH :=
  p0.bind fun b1 =>
  (zpR 6 0 p0 p0 h).bind fun h3 =>
  (zpR 6 1 p0 (zsv h3 7) h3).bind fun h5 =>
  (zpR 6 2 p0 (zsv h5 8) h5).bind fun h7 =>
  if p4 = 0 then
  (zpR 6 1 p0 none h7).bind fun h10 =>
  B_J6_init_2_k6_41 p0 p1 p2 p3 h10
  else
  none
theorem w_J6_init_2_k6 {G : zG} {p0 : Option Nat} {p1 : Option Nat} {p2 : Option Nat} {p3 : Int32} {p4 : Int32} {h : zH} {vh : zH} (H : f_J6_init_2_k6 p0 p1 p2 p3 p4 h = some vh) : zMet G M_J6_init_2 2 [vR p0, vR p1, vR p2, vI p3, vI p4] h (.inl none) vh := by
  refine zMet.of (by decide +kernel) (Nat.le_of_ble_eq_true rfl) ?_
  show zW G M_J6_init_2 2 h (.inl none) vh 0 [(0, vR p0), (1, vR p1), (2, vR p2), (3, vI p3), (4, vI p4)] [] h
  unfold f_J6_init_2_k6 at H
  refine zw_aload_n (pc := 0) dJ6_init_2_0 rfl 0 rfl ?_
  obtain ⟨b1, e2, H⟩ := zbind H
  refine zy_objInit (pc := 1) dJ6_init_2_1 q451 e2 (Nat.le_of_ble_eq_true rfl) (Nat.le_of_ble_eq_true rfl) ?_
  refine zw_aload_n (pc := 4) dJ6_init_2_4 rfl 0 rfl ?_
  refine zw_aload_n (pc := 5) dJ6_init_2_5 rfl 0 rfl ?_
  obtain ⟨h3, e4, H⟩ := zbind H
  refine zy_putR (pc := 6) dJ6_init_2_6 lp_J6_7_k6 rfl e4 ?_
  refine zw_aload_n (pc := 9) dJ6_init_2_9 rfl 0 rfl ?_
  refine zw_gets (pc := 10) 7 dJ6_init_2_10 rfl q452 rfl (show zstv _ 7 = vR (zsv h3 7) from rfl) ?_
  obtain ⟨h5, e6, H⟩ := zbind H
  refine zy_putR (pc := 13) dJ6_init_2_13 lp_J6_17_k6 rfl e6 ?_
  refine zw_aload_n (pc := 16) dJ6_init_2_16 rfl 0 rfl ?_
  refine zw_gets (pc := 17) 8 dJ6_init_2_17 rfl q454 rfl (show zstv _ 8 = vR (zsv h5 8) from rfl) ?_
  obtain ⟨h7, e8, H⟩ := zbind H
  refine zy_putR (pc := 20) dJ6_init_2_20 lp_J6_24_k6 rfl e8 ?_
  refine zw_iload (pc := 23) dJ6_init_2_23 4 rfl ?_
  rcases zif H with ⟨c9, H⟩ | ⟨c9, H⟩
  · refine zw_if_eq (pc := 25) (tgt := 36) dJ6_init_2_25 rfl (fun _ => ?_) (fun q => absurd c9 q)
    refine zw_aload_n (pc := 36) dJ6_init_2_36 rfl 0 rfl ?_
    refine zw_null (pc := 37) dJ6_init_2_37 ?_
    obtain ⟨h10, e11, H⟩ := zbind H
    refine zy_putR (pc := 38) dJ6_init_2_38 lp_J6_17_k6 rfl e11 ?_
    refine zW_pick (lv' := [(0, vR p0), (1, vR p1), (2, vR p2), (3, vI p3)]) [0, 1, 2, 3] rfl ?_
    exact wB_J6_init_2_k6_41 H
  · refine zw_if_eq (pc := 25) (tgt := 36) dJ6_init_2_25 rfl (fun q => absurd q c9) (fun _ => ?_)
    refine zw_aload_n (pc := 28) dJ6_init_2_28 rfl 0 rfl ?_
    cases H
def B_J6_init_2_k7_41 (a0 : Option Nat) (a1 : Option Nat) (a2 : Option Nat) (a3 : Int32) (h : zH) : Option zH :=
  (zpR 7 3 a0 a1 h).bind fun h1 =>
  (zpR 7 0 a0 a2 h1).bind fun h3 =>
  if a3 = 0 then
  (zpR 7 2 a0 none h3).bind fun h6 =>
  some h6
  else
  some h3
theorem wB_J6_init_2_k7_41 {G : zG} {h0 h : zH} {vh : zH} {a0 : Option Nat} {a1 : Option Nat} {a2 : Option Nat} {a3 : Int32} (H : B_J6_init_2_k7_41 a0 a1 a2 a3 h = some vh) : zW G M_J6_init_2 2 h0 (.inl none) vh 41 [(0, vR a0), (1, vR a1), (2, vR a2), (3, vI a3)] [] h := by
  unfold B_J6_init_2_k7_41 at H
  refine zw_aload_n (pc := 41) dJ6_init_2_41 rfl 0 rfl ?_
  refine zw_aload_n (pc := 42) dJ6_init_2_42 rfl 1 rfl ?_
  obtain ⟨h1, e2, H⟩ := zbind H
  refine zy_putR (pc := 43) dJ6_init_2_43 lp_J6_31_k7 rfl e2 ?_
  refine zw_aload_n (pc := 46) dJ6_init_2_46 rfl 0 rfl ?_
  refine zw_aload_n (pc := 47) dJ6_init_2_47 rfl 2 rfl ?_
  obtain ⟨h3, e4, H⟩ := zbind H
  refine zy_putR (pc := 48) dJ6_init_2_48 lp_J6_7_k7 rfl e4 ?_
  refine zw_iload_n (pc := 51) dJ6_init_2_51 rfl 3 rfl ?_
  rcases zif H with ⟨c5, H⟩ | ⟨c5, H⟩
  · refine zw_if_ne (pc := 52) (tgt := 60) dJ6_init_2_52 rfl (fun q => absurd c5 q) (fun _ => ?_)
    refine zw_aload_n (pc := 55) dJ6_init_2_55 rfl 0 rfl ?_
    refine zw_null (pc := 56) dJ6_init_2_56 ?_
    obtain ⟨h6, e7, H⟩ := zbind H
    refine zy_putR (pc := 57) dJ6_init_2_57 lp_J6_24_k7 rfl e7 ?_
    obtain rfl := Option.some.inj H
    exact zw_vret (pc := 60) dJ6_init_2_60 rfl rfl rfl
  · refine zw_if_ne (pc := 52) (tgt := 60) dJ6_init_2_52 rfl (fun _ => ?_) (fun q => absurd q c5)
    obtain rfl := Option.some.inj H
    exact zw_vret (pc := 60) dJ6_init_2_60 rfl rfl rfl
def f_J6_init_2_k7 (p0 : Option Nat) (p1 : Option Nat) (p2 : Option Nat) (p3 : Int32) (p4 : Int32) (h : zH) : Option zH :=
  p0.bind fun b1 =>
  (zpR 7 0 p0 p0 h).bind fun h3 =>
  (zpR 7 1 p0 (zsv h3 7) h3).bind fun h5 =>
  (zpR 7 2 p0 (zsv h5 8) h5).bind fun h7 =>
  if p4 = 0 then
  (zpR 7 1 p0 none h7).bind fun h10 =>
  B_J6_init_2_k7_41 p0 p1 p2 p3 h10
  else
  none
theorem w_J6_init_2_k7 {G : zG} {p0 : Option Nat} {p1 : Option Nat} {p2 : Option Nat} {p3 : Int32} {p4 : Int32} {h : zH} {vh : zH} (H : f_J6_init_2_k7 p0 p1 p2 p3 p4 h = some vh) : zMet G M_J6_init_2 2 [vR p0, vR p1, vR p2, vI p3, vI p4] h (.inl none) vh := by
  refine zMet.of (by decide +kernel) (Nat.le_of_ble_eq_true rfl) ?_
  show zW G M_J6_init_2 2 h (.inl none) vh 0 [(0, vR p0), (1, vR p1), (2, vR p2), (3, vI p3), (4, vI p4)] [] h
  unfold f_J6_init_2_k7 at H
  refine zw_aload_n (pc := 0) dJ6_init_2_0 rfl 0 rfl ?_
  obtain ⟨b1, e2, H⟩ := zbind H
  refine zy_objInit (pc := 1) dJ6_init_2_1 q451 e2 (Nat.le_of_ble_eq_true rfl) (Nat.le_of_ble_eq_true rfl) ?_
  refine zw_aload_n (pc := 4) dJ6_init_2_4 rfl 0 rfl ?_
  refine zw_aload_n (pc := 5) dJ6_init_2_5 rfl 0 rfl ?_
  obtain ⟨h3, e4, H⟩ := zbind H
  refine zy_putR (pc := 6) dJ6_init_2_6 lp_J6_7_k7 rfl e4 ?_
  refine zw_aload_n (pc := 9) dJ6_init_2_9 rfl 0 rfl ?_
  refine zw_gets (pc := 10) 7 dJ6_init_2_10 rfl q452 rfl (show zstv _ 7 = vR (zsv h3 7) from rfl) ?_
  obtain ⟨h5, e6, H⟩ := zbind H
  refine zy_putR (pc := 13) dJ6_init_2_13 lp_J6_17_k7 rfl e6 ?_
  refine zw_aload_n (pc := 16) dJ6_init_2_16 rfl 0 rfl ?_
  refine zw_gets (pc := 17) 8 dJ6_init_2_17 rfl q454 rfl (show zstv _ 8 = vR (zsv h5 8) from rfl) ?_
  obtain ⟨h7, e8, H⟩ := zbind H
  refine zy_putR (pc := 20) dJ6_init_2_20 lp_J6_24_k7 rfl e8 ?_
  refine zw_iload (pc := 23) dJ6_init_2_23 4 rfl ?_
  rcases zif H with ⟨c9, H⟩ | ⟨c9, H⟩
  · refine zw_if_eq (pc := 25) (tgt := 36) dJ6_init_2_25 rfl (fun _ => ?_) (fun q => absurd c9 q)
    refine zw_aload_n (pc := 36) dJ6_init_2_36 rfl 0 rfl ?_
    refine zw_null (pc := 37) dJ6_init_2_37 ?_
    obtain ⟨h10, e11, H⟩ := zbind H
    refine zy_putR (pc := 38) dJ6_init_2_38 lp_J6_17_k7 rfl e11 ?_
    refine zW_pick (lv' := [(0, vR p0), (1, vR p1), (2, vR p2), (3, vI p3)]) [0, 1, 2, 3] rfl ?_
    exact wB_J6_init_2_k7_41 H
  · refine zw_if_eq (pc := 25) (tgt := 36) dJ6_init_2_25 rfl (fun q => absurd q c9) (fun _ => ?_)
    refine zw_aload_n (pc := 28) dJ6_init_2_28 rfl 0 rfl ?_
    cases H
def M_J7_init : zM := (yJ7_init, cJ7_init, 5, none, [])
theorem mf_J7_init : zMi M_J7_init 4 := ⟨⟨q476, q191, ⟨by decide +kernel, by decide +kernel⟩, by decide +kernel, by decide⟩, q475⟩
def f_J7_init_k6 (p0 : Option Nat) (p1 : Option Nat) (p2 : Option Nat) (p3 : Int32) (p4 : Int32) (h : zH) : Option zH :=
  p0.bind fun b1 =>
  (f_J6_init_2_k6 (some b1) p1 p2 p3 p4 h).bind fun h4 =>
  some h4
theorem w_J7_init_k6 {G : zG} {p0 : Option Nat} {p1 : Option Nat} {p2 : Option Nat} {p3 : Int32} {p4 : Int32} {h : zH} {vh : zH} (H : f_J7_init_k6 p0 p1 p2 p3 p4 h = some vh) : zMet G M_J7_init 3 [vR p0, vR p1, vR p2, vI p3, vI p4] h (.inl none) vh := by
  refine zMet.of (by decide +kernel) (Nat.le_of_ble_eq_true rfl) ?_
  show zW G M_J7_init 3 h (.inl none) vh 0 [(0, vR p0), (1, vR p1), (2, vR p2), (3, vI p3), (4, vI p4)] [] h
  unfold f_J7_init_k6 at H
  refine zw_aload_n (pc := 0) dJ7_init_0 rfl 0 rfl ?_
  refine zw_aload_n (pc := 1) dJ7_init_1 rfl 1 rfl ?_
  refine zw_aload_n (pc := 2) dJ7_init_2 rfl 2 rfl ?_
  refine zw_iload_n (pc := 3) dJ7_init_3 rfl 3 rfl ?_
  refine zw_iload (pc := 4) dJ7_init_4 4 rfl ?_
  obtain ⟨b1, e2, H⟩ := zbind H
  obtain ⟨h4, e3, H⟩ := zbind H
  refine zw_invI (pc := 6) (M' := M_J6_init_2) (A := [vR p1, vR p2, vI p3, vI p4]) [] dJ7_init_6 (Or.inl q477) mf_J6_init_2 rfl rfl (w_J6_init_2_k6 e3) (Nat.le_of_ble_eq_true rfl) rfl (by rw [← e2]; rfl) (Nat.le_of_ble_eq_true rfl) (zku ?_) zkn9
  obtain rfl := Option.some.inj H
  exact zw_vret (pc := 9) dJ7_init_9 rfl rfl rfl
def f_J7_init_k7 (p0 : Option Nat) (p1 : Option Nat) (p2 : Option Nat) (p3 : Int32) (p4 : Int32) (h : zH) : Option zH :=
  p0.bind fun b1 =>
  (f_J6_init_2_k7 (some b1) p1 p2 p3 p4 h).bind fun h4 =>
  some h4
theorem w_J7_init_k7 {G : zG} {p0 : Option Nat} {p1 : Option Nat} {p2 : Option Nat} {p3 : Int32} {p4 : Int32} {h : zH} {vh : zH} (H : f_J7_init_k7 p0 p1 p2 p3 p4 h = some vh) : zMet G M_J7_init 3 [vR p0, vR p1, vR p2, vI p3, vI p4] h (.inl none) vh := by
  refine zMet.of (by decide +kernel) (Nat.le_of_ble_eq_true rfl) ?_
  show zW G M_J7_init 3 h (.inl none) vh 0 [(0, vR p0), (1, vR p1), (2, vR p2), (3, vI p3), (4, vI p4)] [] h
  unfold f_J7_init_k7 at H
  refine zw_aload_n (pc := 0) dJ7_init_0 rfl 0 rfl ?_
  refine zw_aload_n (pc := 1) dJ7_init_1 rfl 1 rfl ?_
  refine zw_aload_n (pc := 2) dJ7_init_2 rfl 2 rfl ?_
  refine zw_iload_n (pc := 3) dJ7_init_3 rfl 3 rfl ?_
  refine zw_iload (pc := 4) dJ7_init_4 4 rfl ?_
  obtain ⟨b1, e2, H⟩ := zbind H
  obtain ⟨h4, e3, H⟩ := zbind H
  refine zw_invI (pc := 6) (M' := M_J6_init_2) (A := [vR p1, vR p2, vI p3, vI p4]) [] dJ7_init_6 (Or.inl q477) mf_J6_init_2 rfl rfl (w_J6_init_2_k7 e3) (Nat.le_of_ble_eq_true rfl) rfl (by rw [← e2]; rfl) (Nat.le_of_ble_eq_true rfl) (zku ?_) zkn9
  obtain rfl := Option.some.inj H
  exact zw_vret (pc := 9) dJ7_init_9 rfl rfl rfl
def M_X7_init : zM := (yX7_init, cX7_init, 1, none, [])
theorem mf_X7_init : zMi M_X7_init 0 := ⟨⟨q473, q205, ⟨by decide +kernel, by decide +kernel⟩, by decide +kernel, by decide⟩, q472⟩
def f_X7_init (p0 : Option Nat) (h : zH) : Option zH :=
  p0.bind fun b1 =>
  (f_J7_init_k7 (some b1) none none (0 : Int32) (0 : Int32) h).bind fun h4 =>
  some h4
theorem w_X7_init {G : zG} {p0 : Option Nat} {h : zH} {vh : zH} (H : f_X7_init p0 h = some vh) : zMet G M_X7_init 4 [vR p0] h (.inl none) vh := by
  refine zMet.of (by decide +kernel) (Nat.le_of_ble_eq_true rfl) ?_
  show zW G M_X7_init 4 h (.inl none) vh 0 [(0, vR p0)] [] h
  unfold f_X7_init at H
  refine zw_aload_n (pc := 0) dX7_init_0 rfl 0 rfl ?_
  refine zw_null (pc := 1) dX7_init_1 ?_
  refine zw_null (pc := 2) dX7_init_2 ?_
  refine zw_iconst (pc := 3) (v := (0 : Int32)) dX7_init_3 (by decide) ?_
  refine zw_iconst (pc := 4) (v := (0 : Int32)) dX7_init_4 (by decide) ?_
  obtain ⟨b1, e2, H⟩ := zbind H
  obtain ⟨h4, e3, H⟩ := zbind H
  refine zw_invI (pc := 5) (M' := M_J7_init) (A := [vR none, vR none, vI (0 : Int32), vI (0 : Int32)]) [] dX7_init_5 (Or.inl q474) mf_J7_init rfl rfl (w_J7_init_k7 e3) (Nat.le_of_ble_eq_true rfl) rfl (by rw [← e2]; rfl) (Nat.le_of_ble_eq_true rfl) (zku ?_) zkn9
  obtain rfl := Option.some.inj H
  exact zw_vret (pc := 8) dX7_init_8 rfl rfl rfl
theorem ln_X3_4 : zCl "CsrCalculator$Csr" 4 3 := ⟨_, by decide, by decide, rfl, q493, q238, q182⟩
theorem ln_X3_51 : zCl "CsrCalculator$Csr" 51 7 := ⟨_, by decide, by decide, rfl, q428, q429, q205⟩
theorem st_0 : zSite 0 ⟨"CsrCalculator$Mask", "stores", "(II)Z"⟩ M_X3_lambda_transposed_8 [42, 180, 0, 15, 27, 28, 182, 0, 22, 172] 3 [15] 22 .boolean 2 := ⟨zfchk_0, ⟨_, _, _, _, rfl⟩, by decide +kernel, by decide +kernel, by decide +kernel, by decide +kernel, by decide +kernel, by decide +kernel, by decide, by decide⟩
theorem sd_0 {a1 a2 : Int32} : zfdec ⟨([42, 180, 0, 15, 27, 28, 182, 0, 22, 172] : List UInt8).toArray⟩ [15] [vI a1, vI a2] 6 (.invokevirtual 22) .ireturn := ⟨by decide +kernel, Or.inr ⟨a1, a2, rfl, by decide, by decide +kernel, by decide +kernel⟩, by decide +kernel, by decide +kernel⟩
theorem st_2 : zSite 2 ⟨"CsrCalculator$Mask", "stores", "(II)Z"⟩ M_X3_lambda_times_16 [42, 180, 0, 16, 42, 180, 0, 18, 27, 28, 182, 0, 26, 172] 3 [16, 18] 26 .boolean 2 := ⟨zfchk_2, ⟨_, _, _, _, rfl⟩, by decide +kernel, by decide +kernel, by decide +kernel, by decide +kernel, by decide +kernel, by decide +kernel, by decide, by decide⟩
theorem sd_2 {a1 a2 : Int32} : zfdec ⟨([42, 180, 0, 16, 42, 180, 0, 18, 27, 28, 182, 0, 26, 172] : List UInt8).toArray⟩ [16, 18] [vI a1, vI a2] 10 (.invokevirtual 26) .ireturn := ⟨by decide +kernel, Or.inr ⟨a1, a2, rfl, by decide, by decide +kernel, by decide +kernel⟩, by decide +kernel, by decide +kernel⟩
theorem st_4 : zSite 4 ⟨"CsrCalculator$Mask", "stores", "(II)Z"⟩ M_X3_lambda_with_0 [42, 180, 0, 18, 42, 180, 0, 20, 42, 180, 0, 22, 27, 28, 182, 0, 30, 172] 3 [18, 20, 22] 30 .boolean 2 := ⟨zfchk_4, ⟨_, _, _, _, rfl⟩, by decide +kernel, by decide +kernel, by decide +kernel, by decide +kernel, by decide +kernel, by decide +kernel, by decide, by decide⟩
theorem sd_4 {a1 a2 : Int32} : zfdec ⟨([42, 180, 0, 18, 42, 180, 0, 20, 42, 180, 0, 22, 27, 28, 182, 0, 30, 172] : List UInt8).toArray⟩ [18, 20, 22] [vI a1, vI a2] 14 (.invokevirtual 30) .ireturn := ⟨by decide +kernel, Or.inr ⟨a1, a2, rfl, by decide, by decide +kernel, by decide +kernel⟩, by decide +kernel, by decide +kernel⟩
theorem st_6 : zSite 6 ⟨"CsrCalculator$Mask", "stores", "(II)Z"⟩ M_X3_lambda_unit_12 [27, 28, 184, 0, 17, 172] 3 [] 17 .boolean 2 := ⟨zfchk_6, ⟨_, _, _, _, rfl⟩, by decide +kernel, by decide +kernel, by decide +kernel, by decide +kernel, by decide +kernel, by decide +kernel, by decide, by decide⟩
theorem sd_6 {a1 a2 : Int32} : zfdec ⟨([27, 28, 184, 0, 17, 172] : List UInt8).toArray⟩ [] [vI a1, vI a2] 2 (.invokestatic 17) .ireturn := ⟨by decide +kernel, Or.inr ⟨a1, a2, rfl, by decide, by decide +kernel, by decide +kernel⟩, by decide +kernel, by decide +kernel⟩
theorem st_8 : zSite 8 ⟨"CsrCalculator$Mask", "stores", "(II)Z"⟩ M_X3_lambda_scaled_10 [42, 180, 0, 15, 27, 28, 182, 0, 22, 172] 3 [15] 22 .boolean 2 := ⟨zfchk_8, ⟨_, _, _, _, rfl⟩, by decide +kernel, by decide +kernel, by decide +kernel, by decide +kernel, by decide +kernel, by decide +kernel, by decide, by decide⟩
theorem sd_8 {a1 a2 : Int32} : zfdec ⟨([42, 180, 0, 15, 27, 28, 182, 0, 22, 172] : List UInt8).toArray⟩ [15] [vI a1, vI a2] 6 (.invokevirtual 22) .ireturn := ⟨by decide +kernel, Or.inr ⟨a1, a2, rfl, by decide, by decide +kernel, by decide +kernel⟩, by decide +kernel, by decide +kernel⟩
theorem st_10 : zSite 10 ⟨"CsrCalculator$Mask", "stores", "(II)Z"⟩ M_X3_lambda_joined_14 [42, 180, 0, 16, 42, 180, 0, 18, 27, 28, 182, 0, 26, 172] 3 [16, 18] 26 .boolean 2 := ⟨zfchk_10, ⟨_, _, _, _, rfl⟩, by decide +kernel, by decide +kernel, by decide +kernel, by decide +kernel, by decide +kernel, by decide +kernel, by decide, by decide⟩
theorem sd_10 {a1 a2 : Int32} : zfdec ⟨([42, 180, 0, 16, 42, 180, 0, 18, 27, 28, 182, 0, 26, 172] : List UInt8).toArray⟩ [16, 18] [vI a1, vI a2] 10 (.invokevirtual 26) .ireturn := ⟨by decide +kernel, Or.inr ⟨a1, a2, rfl, by decide, by decide +kernel, by decide +kernel⟩, by decide +kernel, by decide +kernel⟩
theorem st_12 : zSite 12 ⟨"CsrCalculator$Mask", "stores", "(II)Z"⟩ M_X3_lambda_withoutZeros_4 [42, 180, 0, 15, 27, 28, 182, 0, 22, 172] 3 [15] 22 .boolean 2 := ⟨zfchk_12, ⟨_, _, _, _, rfl⟩, by decide +kernel, by decide +kernel, by decide +kernel, by decide +kernel, by decide +kernel, by decide +kernel, by decide, by decide⟩
theorem sd_12 {a1 a2 : Int32} : zfdec ⟨([42, 180, 0, 15, 27, 28, 182, 0, 22, 172] : List UInt8).toArray⟩ [15] [vI a1, vI a2] 6 (.invokevirtual 22) .ireturn := ⟨by decide +kernel, Or.inr ⟨a1, a2, rfl, by decide, by decide +kernel, by decide +kernel⟩, by decide +kernel, by decide +kernel⟩
theorem st_17 : zSite 17 ⟨"CsrCalculator$Mask", "stores", "(II)Z"⟩ M_X3_lambda_without_2 [42, 180, 0, 18, 42, 180, 0, 20, 42, 180, 0, 22, 27, 28, 182, 0, 30, 172] 3 [18, 20, 22] 30 .boolean 2 := ⟨zfchk_17, ⟨_, _, _, _, rfl⟩, by decide +kernel, by decide +kernel, by decide +kernel, by decide +kernel, by decide +kernel, by decide +kernel, by decide, by decide⟩
theorem sd_17 {a1 a2 : Int32} : zfdec ⟨([42, 180, 0, 18, 42, 180, 0, 20, 42, 180, 0, 22, 27, 28, 182, 0, 30, 172] : List UInt8).toArray⟩ [18, 20, 22] [vI a1, vI a2] 14 (.invokevirtual 30) .ireturn := ⟨by decide +kernel, Or.inr ⟨a1, a2, rfl, by decide, by decide +kernel, by decide +kernel⟩, by decide +kernel, by decide +kernel⟩
theorem st_20 : zSite 20 ⟨"CsrCalculator$Mask", "stores", "(II)Z"⟩ M_X3_lambda_withSwapped_6 [42, 180, 0, 18, 42, 180, 0, 20, 42, 180, 0, 22, 27, 28, 182, 0, 30, 172] 3 [18, 20, 22] 30 .boolean 2 := ⟨zfchk_20, ⟨_, _, _, _, rfl⟩, by decide +kernel, by decide +kernel, by decide +kernel, by decide +kernel, by decide +kernel, by decide +kernel, by decide, by decide⟩
theorem sd_20 {a1 a2 : Int32} : zfdec ⟨([42, 180, 0, 18, 42, 180, 0, 20, 42, 180, 0, 22, 27, 28, 182, 0, 30, 172] : List UInt8).toArray⟩ [18, 20, 22] [vI a1, vI a2] 14 (.invokevirtual 30) .ireturn := ⟨by decide +kernel, Or.inr ⟨a1, a2, rfl, by decide, by decide +kernel, by decide +kernel⟩, by decide +kernel, by decide +kernel⟩
def fl_Mask (r : Option Nat) (a1 a2 : Int32) (h : zH) : Option Int32 := r.bind fun b =>
  if zk h b = 70 then
    (zrv 3 (zr h b 0) h).bind fun v0 =>
    (f_X3_lambda_transposed_8 (some v0) a1 a2 h).bind fun x => if x = 0 ∨ x = 1 then some x else none
  else if zk h b = 72 then
    (zrv 3 (zr h b 0) h).bind fun v0 =>
    (f_X3_lambda_times_16 (some v0) (zr h b 1) a1 a2 h).bind fun x => if x = 0 ∨ x = 1 then some x else none
  else if zk h b = 74 then
    (zrv 3 (zr h b 0) h).bind fun v0 =>
    (f_X3_lambda_with_0 (some v0) (zi h b 1) (zi h b 2) a1 a2 h).bind fun x => if x = 0 ∨ x = 1 then some x else none
  else if zk h b = 76 then
    (f_X3_lambda_unit_12 a1 a2 h).bind fun x => if x = 0 ∨ x = 1 then some x else none
  else if zk h b = 78 then
    (zrv 3 (zr h b 0) h).bind fun v0 =>
    (f_X3_lambda_scaled_10 (some v0) a1 a2 h).bind fun x => if x = 0 ∨ x = 1 then some x else none
  else if zk h b = 80 then
    (zrv 3 (zr h b 0) h).bind fun v0 =>
    (f_X3_lambda_joined_14 (some v0) (zr h b 1) a1 a2 h).bind fun x => if x = 0 ∨ x = 1 then some x else none
  else if zk h b = 82 then
    (zrv 3 (zr h b 0) h).bind fun v0 =>
    (f_X3_lambda_withoutZeros_4 (some v0) a1 a2 h).bind fun x => if x = 0 ∨ x = 1 then some x else none
  else if zk h b = 87 then
    (zrv 3 (zr h b 0) h).bind fun v0 =>
    (f_X3_lambda_without_2 (some v0) (zi h b 1) (zi h b 2) a1 a2 h).bind fun x => if x = 0 ∨ x = 1 then some x else none
  else if zk h b = 90 then
    (zrv 3 (zr h b 0) h).bind fun v0 =>
    (f_X3_lambda_withSwapped_6 (some v0) (zi h b 1) (zi h b 2) a1 a2 h).bind fun x => if x = 0 ∨ x = 1 then some x else none
  else none
theorem zy_Mask {G : zG} {M : zM} {d : Nat} {h0 h9 h : zH} {o : zO} {pc : Nat} {lv : zL} {idx count : Nat} {r : Option Nat} {a1 a2 : Int32} {x : Int32} (rest : List zV) (hd : decode M.2.1 pc = .ok (.invokeinterface idx count, 5)) (hl : Cond.methodLink M.1.cls idx ⟨"CsrCalculator$Mask", "stores", "(II)Z"⟩ ∈ lw_all) (hdd : 7 ≤ d) (hw : (rest.map zc).sum ≤ 8) (e : fl_Mask r a1 a2 h = some x) (kk : zW G M d h0 o h9 (pc + 5) lv (vI x :: rest) h) : zW G M d h0 o h9 pc lv (vI a2 :: vI a1 :: vR r :: rest) h := by
  obtain ⟨b, rfl, e⟩ := zbind e
  rcases zif e with ⟨c, e⟩ | ⟨_, e⟩
  · skip
    obtain ⟨v0, e1, e⟩ := zbind e
    obtain ⟨e2, e3⟩ := zrv_ok e1
    obtain ⟨x1, e4, e⟩ := zbind e
    obtain ⟨hb, e⟩ := zgd e
    cases e
    exact zw_lamCall (M' := M_X3_lambda_transposed_8) (d' := 4) (A := [vI a1, vI a2]) (V := [vR (some v0)]) rest 0 hd hl st_0 sd_0 rfl mf_X3_lambda_transposed_8.1 c (show [vR (some v0)] = [vR (zr h b 0)] from by rw [e2]) (Or.inr (Or.inl ⟨x, rfl, rfl, hb, rfl⟩)) (w_X3_lambda_transposed_8 e4) (fun _ hq => nomatch hq) (zfinvV (V' := []) (sd_0 (a1 := a1) (a2 := a2)).2.2.1 mf_X3_lambda_transposed_8 (by decide +kernel) st_0.2.2.2.1 (by decide +kernel) rfl rfl (zkq e3 rfl)) (Nat.le_trans (Nat.le_of_ble_eq_true rfl) hdd) rfl hw (zkv kk) zkn9
  rcases zif e with ⟨c, e⟩ | ⟨_, e⟩
  · skip
    obtain ⟨v0, e1, e⟩ := zbind e
    obtain ⟨e2, e3⟩ := zrv_ok e1
    obtain ⟨x1, e4, e⟩ := zbind e
    obtain ⟨hb, e⟩ := zgd e
    cases e
    exact zw_lamCall (M' := M_X3_lambda_times_16) (d' := 5) (A := [vI a1, vI a2]) (V := [vR (some v0), vR (zr h b 1)]) rest 2 hd hl st_2 sd_2 rfl mf_X3_lambda_times_16.1 c (show [vR (some v0), vR (zr h b 1)] = [vR (zr h b 0), vR (zr h b 1)] from by rw [e2]) (Or.inr (Or.inl ⟨x, rfl, rfl, hb, rfl⟩)) (w_X3_lambda_times_16 e4) (fun _ hq => nomatch hq) (zfinvV (V' := [vR (zr h b 1)]) (sd_2 (a1 := a1) (a2 := a2)).2.2.1 mf_X3_lambda_times_16 (by decide +kernel) st_2.2.2.2.1 (by decide +kernel) rfl rfl (zkq e3 rfl)) (Nat.le_trans (Nat.le_of_ble_eq_true rfl) hdd) rfl hw (zkv kk) zkn9
  rcases zif e with ⟨c, e⟩ | ⟨_, e⟩
  · skip
    obtain ⟨v0, e1, e⟩ := zbind e
    obtain ⟨e2, e3⟩ := zrv_ok e1
    obtain ⟨x1, e4, e⟩ := zbind e
    obtain ⟨hb, e⟩ := zgd e
    cases e
    exact zw_lamCall (M' := M_X3_lambda_with_0) (d' := 4) (A := [vI a1, vI a2]) (V := [vR (some v0), vI (zi h b 1), vI (zi h b 2)]) rest 4 hd hl st_4 sd_4 rfl mf_X3_lambda_with_0.1 c (show [vR (some v0), vI (zi h b 1), vI (zi h b 2)] = [vR (zr h b 0), vI (zi h b 1), vI (zi h b 2)] from by rw [e2]) (Or.inr (Or.inl ⟨x, rfl, rfl, hb, rfl⟩)) (w_X3_lambda_with_0 e4) (fun _ hq => nomatch hq) (zfinvV (V' := [vI (zi h b 1), vI (zi h b 2)]) (sd_4 (a1 := a1) (a2 := a2)).2.2.1 mf_X3_lambda_with_0 (by decide +kernel) st_4.2.2.2.1 (by decide +kernel) rfl rfl (zkq e3 rfl)) (Nat.le_trans (Nat.le_of_ble_eq_true rfl) hdd) rfl hw (zkv kk) zkn9
  rcases zif e with ⟨c, e⟩ | ⟨_, e⟩
  · skip
    obtain ⟨x1, e4, e⟩ := zbind e
    obtain ⟨hb, e⟩ := zgd e
    cases e
    exact zw_lamCall (M' := M_X3_lambda_unit_12) (d' := 2) (A := [vI a1, vI a2]) (V := []) rest 6 hd hl st_6 sd_6 rfl mf_X3_lambda_unit_12.1 c rfl (Or.inr (Or.inl ⟨x, rfl, rfl, hb, rfl⟩)) (w_X3_lambda_unit_12 e4) (fun _ hq => nomatch hq) (zfinvS (sd_6 (a1 := a1) (a2 := a2)).2.2.1 mf_X3_lambda_unit_12 st_6.2.2.2.1 rfl) (Nat.le_trans (Nat.le_of_ble_eq_true rfl) hdd) rfl hw (zkv kk) zkn9
  rcases zif e with ⟨c, e⟩ | ⟨_, e⟩
  · skip
    obtain ⟨v0, e1, e⟩ := zbind e
    obtain ⟨e2, e3⟩ := zrv_ok e1
    obtain ⟨x1, e4, e⟩ := zbind e
    obtain ⟨hb, e⟩ := zgd e
    cases e
    exact zw_lamCall (M' := M_X3_lambda_scaled_10) (d' := 4) (A := [vI a1, vI a2]) (V := [vR (some v0)]) rest 8 hd hl st_8 sd_8 rfl mf_X3_lambda_scaled_10.1 c (show [vR (some v0)] = [vR (zr h b 0)] from by rw [e2]) (Or.inr (Or.inl ⟨x, rfl, rfl, hb, rfl⟩)) (w_X3_lambda_scaled_10 e4) (fun _ hq => nomatch hq) (zfinvV (V' := []) (sd_8 (a1 := a1) (a2 := a2)).2.2.1 mf_X3_lambda_scaled_10 (by decide +kernel) st_8.2.2.2.1 (by decide +kernel) rfl rfl (zkq e3 rfl)) (Nat.le_trans (Nat.le_of_ble_eq_true rfl) hdd) rfl hw (zkv kk) zkn9
  rcases zif e with ⟨c, e⟩ | ⟨_, e⟩
  · skip
    obtain ⟨v0, e1, e⟩ := zbind e
    obtain ⟨e2, e3⟩ := zrv_ok e1
    obtain ⟨x1, e4, e⟩ := zbind e
    obtain ⟨hb, e⟩ := zgd e
    cases e
    exact zw_lamCall (M' := M_X3_lambda_joined_14) (d' := 4) (A := [vI a1, vI a2]) (V := [vR (some v0), vR (zr h b 1)]) rest 10 hd hl st_10 sd_10 rfl mf_X3_lambda_joined_14.1 c (show [vR (some v0), vR (zr h b 1)] = [vR (zr h b 0), vR (zr h b 1)] from by rw [e2]) (Or.inr (Or.inl ⟨x, rfl, rfl, hb, rfl⟩)) (w_X3_lambda_joined_14 e4) (fun _ hq => nomatch hq) (zfinvV (V' := [vR (zr h b 1)]) (sd_10 (a1 := a1) (a2 := a2)).2.2.1 mf_X3_lambda_joined_14 (by decide +kernel) st_10.2.2.2.1 (by decide +kernel) rfl rfl (zkq e3 rfl)) (Nat.le_trans (Nat.le_of_ble_eq_true rfl) hdd) rfl hw (zkv kk) zkn9
  rcases zif e with ⟨c, e⟩ | ⟨_, e⟩
  · skip
    obtain ⟨v0, e1, e⟩ := zbind e
    obtain ⟨e2, e3⟩ := zrv_ok e1
    obtain ⟨x1, e4, e⟩ := zbind e
    obtain ⟨hb, e⟩ := zgd e
    cases e
    exact zw_lamCall (M' := M_X3_lambda_withoutZeros_4) (d' := 4) (A := [vI a1, vI a2]) (V := [vR (some v0)]) rest 12 hd hl st_12 sd_12 rfl mf_X3_lambda_withoutZeros_4.1 c (show [vR (some v0)] = [vR (zr h b 0)] from by rw [e2]) (Or.inr (Or.inl ⟨x, rfl, rfl, hb, rfl⟩)) (w_X3_lambda_withoutZeros_4 e4) (fun _ hq => nomatch hq) (zfinvV (V' := []) (sd_12 (a1 := a1) (a2 := a2)).2.2.1 mf_X3_lambda_withoutZeros_4 (by decide +kernel) st_12.2.2.2.1 (by decide +kernel) rfl rfl (zkq e3 rfl)) (Nat.le_trans (Nat.le_of_ble_eq_true rfl) hdd) rfl hw (zkv kk) zkn9
  rcases zif e with ⟨c, e⟩ | ⟨_, e⟩
  · skip
    obtain ⟨v0, e1, e⟩ := zbind e
    obtain ⟨e2, e3⟩ := zrv_ok e1
    obtain ⟨x1, e4, e⟩ := zbind e
    obtain ⟨hb, e⟩ := zgd e
    cases e
    exact zw_lamCall (M' := M_X3_lambda_without_2) (d' := 4) (A := [vI a1, vI a2]) (V := [vR (some v0), vI (zi h b 1), vI (zi h b 2)]) rest 17 hd hl st_17 sd_17 rfl mf_X3_lambda_without_2.1 c (show [vR (some v0), vI (zi h b 1), vI (zi h b 2)] = [vR (zr h b 0), vI (zi h b 1), vI (zi h b 2)] from by rw [e2]) (Or.inr (Or.inl ⟨x, rfl, rfl, hb, rfl⟩)) (w_X3_lambda_without_2 e4) (fun _ hq => nomatch hq) (zfinvV (V' := [vI (zi h b 1), vI (zi h b 2)]) (sd_17 (a1 := a1) (a2 := a2)).2.2.1 mf_X3_lambda_without_2 (by decide +kernel) st_17.2.2.2.1 (by decide +kernel) rfl rfl (zkq e3 rfl)) (Nat.le_trans (Nat.le_of_ble_eq_true rfl) hdd) rfl hw (zkv kk) zkn9
  rcases zif e with ⟨c, e⟩ | ⟨_, e⟩
  · skip
    obtain ⟨v0, e1, e⟩ := zbind e
    obtain ⟨e2, e3⟩ := zrv_ok e1
    obtain ⟨x1, e4, e⟩ := zbind e
    obtain ⟨hb, e⟩ := zgd e
    cases e
    exact zw_lamCall (M' := M_X3_lambda_withSwapped_6) (d' := 4) (A := [vI a1, vI a2]) (V := [vR (some v0), vI (zi h b 1), vI (zi h b 2)]) rest 20 hd hl st_20 sd_20 rfl mf_X3_lambda_withSwapped_6.1 c (show [vR (some v0), vI (zi h b 1), vI (zi h b 2)] = [vR (zr h b 0), vI (zi h b 1), vI (zi h b 2)] from by rw [e2]) (Or.inr (Or.inl ⟨x, rfl, rfl, hb, rfl⟩)) (w_X3_lambda_withSwapped_6 e4) (fun _ hq => nomatch hq) (zfinvV (V' := [vI (zi h b 1), vI (zi h b 2)]) (sd_20 (a1 := a1) (a2 := a2)).2.2.1 mf_X3_lambda_withSwapped_6 (by decide +kernel) st_20.2.2.2.1 (by decide +kernel) rfl rfl (zkq e3 rfl)) (Nat.le_trans (Nat.le_of_ble_eq_true rfl) hdd) rfl hw (zkv kk) zkn9
  cases e
theorem st_1 : zSite 1 ⟨"CsrCalculator$Cell", "value", "(II)J"⟩ M_X3_lambda_transposed_9 [42, 180, 0, 15, 27, 28, 182, 0, 22, 173] 3 [15] 22 .long 2 := ⟨zfchk_1, ⟨_, _, _, _, rfl⟩, by decide +kernel, by decide +kernel, by decide +kernel, by decide +kernel, by decide +kernel, by decide +kernel, by decide, by decide⟩
theorem sd_1 {a1 a2 : Int32} : zfdec ⟨([42, 180, 0, 15, 27, 28, 182, 0, 22, 173] : List UInt8).toArray⟩ [15] [vI a1, vI a2] 6 (.invokevirtual 22) .lreturn := ⟨by decide +kernel, Or.inr ⟨a1, a2, rfl, by decide, by decide +kernel, by decide +kernel⟩, by decide +kernel, by decide +kernel⟩
theorem st_3 : zSite 3 ⟨"CsrCalculator$Cell", "value", "(II)J"⟩ M_X3_lambda_times_17 [42, 180, 0, 16, 42, 180, 0, 18, 27, 28, 182, 0, 26, 173] 3 [16, 18] 26 .long 2 := ⟨zfchk_3, ⟨_, _, _, _, rfl⟩, by decide +kernel, by decide +kernel, by decide +kernel, by decide +kernel, by decide +kernel, by decide +kernel, by decide, by decide⟩
theorem sd_3 {a1 a2 : Int32} : zfdec ⟨([42, 180, 0, 16, 42, 180, 0, 18, 27, 28, 182, 0, 26, 173] : List UInt8).toArray⟩ [16, 18] [vI a1, vI a2] 10 (.invokevirtual 26) .lreturn := ⟨by decide +kernel, Or.inr ⟨a1, a2, rfl, by decide, by decide +kernel, by decide +kernel⟩, by decide +kernel, by decide +kernel⟩
theorem st_5 : zSite 5 ⟨"CsrCalculator$Cell", "value", "(II)J"⟩ M_X3_lambda_with_1 [42, 180, 0, 19, 42, 180, 0, 21, 42, 180, 0, 23, 42, 180, 0, 25, 27, 28, 182, 0, 33, 173] 3 [19, 21, 23, 25] 33 .long 2 := ⟨zfchk_5, ⟨_, _, _, _, rfl⟩, by decide +kernel, by decide +kernel, by decide +kernel, by decide +kernel, by decide +kernel, by decide +kernel, by decide, by decide⟩
theorem sd_5 {a1 a2 : Int32} : zfdec ⟨([42, 180, 0, 19, 42, 180, 0, 21, 42, 180, 0, 23, 42, 180, 0, 25, 27, 28, 182, 0, 33, 173] : List UInt8).toArray⟩ [19, 21, 23, 25] [vI a1, vI a2] 18 (.invokevirtual 33) .lreturn := ⟨by decide +kernel, Or.inr ⟨a1, a2, rfl, by decide, by decide +kernel, by decide +kernel⟩, by decide +kernel, by decide +kernel⟩
theorem st_7 : zSite 7 ⟨"CsrCalculator$Cell", "value", "(II)J"⟩ M_X3_lambda_unit_13 [27, 28, 184, 0, 17, 173] 3 [] 17 .long 2 := ⟨zfchk_7, ⟨_, _, _, _, rfl⟩, by decide +kernel, by decide +kernel, by decide +kernel, by decide +kernel, by decide +kernel, by decide +kernel, by decide, by decide⟩
theorem sd_7 {a1 a2 : Int32} : zfdec ⟨([27, 28, 184, 0, 17, 173] : List UInt8).toArray⟩ [] [vI a1, vI a2] 2 (.invokestatic 17) .lreturn := ⟨by decide +kernel, Or.inr ⟨a1, a2, rfl, by decide, by decide +kernel, by decide +kernel⟩, by decide +kernel, by decide +kernel⟩
theorem st_9 : zSite 9 ⟨"CsrCalculator$Cell", "value", "(II)J"⟩ M_X3_lambda_scaled_11 [42, 180, 0, 17, 42, 180, 0, 19, 27, 28, 182, 0, 27, 173] 3 [17, 19] 27 .long 2 := ⟨zfchk_9, ⟨_, _, _, _, rfl⟩, by decide +kernel, by decide +kernel, by decide +kernel, by decide +kernel, by decide +kernel, by decide +kernel, by decide, by decide⟩
theorem sd_9 {a1 a2 : Int32} : zfdec ⟨([42, 180, 0, 17, 42, 180, 0, 19, 27, 28, 182, 0, 27, 173] : List UInt8).toArray⟩ [17, 19] [vI a1, vI a2] 10 (.invokevirtual 27) .lreturn := ⟨by decide +kernel, Or.inr ⟨a1, a2, rfl, by decide, by decide +kernel, by decide +kernel⟩, by decide +kernel, by decide +kernel⟩
theorem st_11 : zSite 11 ⟨"CsrCalculator$Cell", "value", "(II)J"⟩ M_X3_lambda_joined_15 [42, 180, 0, 18, 42, 180, 0, 20, 42, 180, 0, 22, 27, 28, 182, 0, 30, 173] 3 [18, 20, 22] 30 .long 2 := ⟨zfchk_11, ⟨_, _, _, _, rfl⟩, by decide +kernel, by decide +kernel, by decide +kernel, by decide +kernel, by decide +kernel, by decide +kernel, by decide, by decide⟩
theorem sd_11 {a1 a2 : Int32} : zfdec ⟨([42, 180, 0, 18, 42, 180, 0, 20, 42, 180, 0, 22, 27, 28, 182, 0, 30, 173] : List UInt8).toArray⟩ [18, 20, 22] [vI a1, vI a2] 14 (.invokevirtual 30) .lreturn := ⟨by decide +kernel, Or.inr ⟨a1, a2, rfl, by decide, by decide +kernel, by decide +kernel⟩, by decide +kernel, by decide +kernel⟩
theorem st_13 : zSite 13 ⟨"CsrCalculator$Cell", "value", "(II)J"⟩ M_X3_lambda_withoutZeros_5 [42, 180, 0, 15, 27, 28, 182, 0, 22, 173] 3 [15] 22 .long 2 := ⟨zfchk_13, ⟨_, _, _, _, rfl⟩, by decide +kernel, by decide +kernel, by decide +kernel, by decide +kernel, by decide +kernel, by decide +kernel, by decide, by decide⟩
theorem sd_13 {a1 a2 : Int32} : zfdec ⟨([42, 180, 0, 15, 27, 28, 182, 0, 22, 173] : List UInt8).toArray⟩ [15] [vI a1, vI a2] 6 (.invokevirtual 22) .lreturn := ⟨by decide +kernel, Or.inr ⟨a1, a2, rfl, by decide, by decide +kernel, by decide +kernel⟩, by decide +kernel, by decide +kernel⟩
theorem st_18 : zSite 18 ⟨"CsrCalculator$Cell", "value", "(II)J"⟩ M_X3_lambda_without_3 [42, 180, 0, 15, 27, 28, 182, 0, 22, 173] 3 [15] 22 .long 2 := ⟨zfchk_18, ⟨_, _, _, _, rfl⟩, by decide +kernel, by decide +kernel, by decide +kernel, by decide +kernel, by decide +kernel, by decide +kernel, by decide, by decide⟩
theorem sd_18 {a1 a2 : Int32} : zfdec ⟨([42, 180, 0, 15, 27, 28, 182, 0, 22, 173] : List UInt8).toArray⟩ [15] [vI a1, vI a2] 6 (.invokevirtual 22) .lreturn := ⟨by decide +kernel, Or.inr ⟨a1, a2, rfl, by decide, by decide +kernel, by decide +kernel⟩, by decide +kernel, by decide +kernel⟩
theorem st_21 : zSite 21 ⟨"CsrCalculator$Cell", "value", "(II)J"⟩ M_X3_lambda_withSwapped_7 [42, 180, 0, 18, 42, 180, 0, 20, 42, 180, 0, 22, 27, 28, 182, 0, 30, 173] 3 [18, 20, 22] 30 .long 2 := ⟨zfchk_21, ⟨_, _, _, _, rfl⟩, by decide +kernel, by decide +kernel, by decide +kernel, by decide +kernel, by decide +kernel, by decide +kernel, by decide, by decide⟩
theorem sd_21 {a1 a2 : Int32} : zfdec ⟨([42, 180, 0, 18, 42, 180, 0, 20, 42, 180, 0, 22, 27, 28, 182, 0, 30, 173] : List UInt8).toArray⟩ [18, 20, 22] [vI a1, vI a2] 14 (.invokevirtual 30) .lreturn := ⟨by decide +kernel, Or.inr ⟨a1, a2, rfl, by decide, by decide +kernel, by decide +kernel⟩, by decide +kernel, by decide +kernel⟩
def fl_Cell (r : Option Nat) (a1 a2 : Int32) (h : zH) : Option Int64 := r.bind fun b =>
  if zk h b = 71 then
    (zrv 3 (zr h b 0) h).bind fun v0 =>
    f_X3_lambda_transposed_9 (some v0) a1 a2 h
  else if zk h b = 73 then
    (zrv 3 (zr h b 0) h).bind fun v0 =>
    f_X3_lambda_times_17 (some v0) (zr h b 1) a1 a2 h
  else if zk h b = 75 then
    (zrv 3 (zr h b 0) h).bind fun v0 =>
    f_X3_lambda_with_1 (some v0) (zi h b 1) (zi h b 2) (zi h b 3) a1 a2 h
  else if zk h b = 77 then
    f_X3_lambda_unit_13 a1 a2 h
  else if zk h b = 79 then
    (zrv 3 (zr h b 0) h).bind fun v0 =>
    f_X3_lambda_scaled_11 (some v0) (zi h b 1) a1 a2 h
  else if zk h b = 81 then
    (zrv 3 (zr h b 0) h).bind fun v0 =>
    f_X3_lambda_joined_15 (some v0) (zr h b 1) (zr h b 2) a1 a2 h
  else if zk h b = 83 then
    (zrv 3 (zr h b 0) h).bind fun v0 =>
    f_X3_lambda_withoutZeros_5 (some v0) a1 a2 h
  else if zk h b = 88 then
    (zrv 3 (zr h b 0) h).bind fun v0 =>
    f_X3_lambda_without_3 (some v0) a1 a2 h
  else if zk h b = 91 then
    (zrv 3 (zr h b 0) h).bind fun v0 =>
    f_X3_lambda_withSwapped_7 (some v0) (zi h b 1) (zi h b 2) a1 a2 h
  else none
theorem zy_Cell {G : zG} {M : zM} {d : Nat} {h0 h9 h : zH} {o : zO} {pc : Nat} {lv : zL} {idx count : Nat} {r : Option Nat} {a1 a2 : Int32} {x : Int64} (rest : List zV) (hd : decode M.2.1 pc = .ok (.invokeinterface idx count, 5)) (hl : Cond.methodLink M.1.cls idx ⟨"CsrCalculator$Cell", "value", "(II)J"⟩ ∈ lw_all) (hdd : 7 ≤ d) (hw : (rest.map zc).sum ≤ 8) (e : fl_Cell r a1 a2 h = some x) (kk : zW G M d h0 o h9 (pc + 5) lv (vJ x :: rest) h) : zW G M d h0 o h9 pc lv (vI a2 :: vI a1 :: vR r :: rest) h := by
  obtain ⟨b, rfl, e⟩ := zbind e
  rcases zif e with ⟨c, e⟩ | ⟨_, e⟩
  · skip
    obtain ⟨v0, e1, e⟩ := zbind e
    obtain ⟨e2, e3⟩ := zrv_ok e1
    exact zw_lamCall (M' := M_X3_lambda_transposed_9) (d' := 4) (A := [vI a1, vI a2]) (V := [vR (some v0)]) rest 1 hd hl st_1 sd_1 rfl mf_X3_lambda_transposed_9.1 c (show [vR (some v0)] = [vR (zr h b 0)] from by rw [e2]) (Or.inr (Or.inr (Or.inl ⟨x, rfl, rfl, rfl⟩))) (w_X3_lambda_transposed_9 e) (fun _ hq => nomatch hq) (zfinvV (V' := []) (sd_1 (a1 := a1) (a2 := a2)).2.2.1 mf_X3_lambda_transposed_9 (by decide +kernel) st_1.2.2.2.1 (by decide +kernel) rfl rfl (zkq e3 rfl)) (Nat.le_trans (Nat.le_of_ble_eq_true rfl) hdd) rfl hw (zkv kk) zkn9
  rcases zif e with ⟨c, e⟩ | ⟨_, e⟩
  · skip
    obtain ⟨v0, e1, e⟩ := zbind e
    obtain ⟨e2, e3⟩ := zrv_ok e1
    exact zw_lamCall (M' := M_X3_lambda_times_17) (d' := 5) (A := [vI a1, vI a2]) (V := [vR (some v0), vR (zr h b 1)]) rest 3 hd hl st_3 sd_3 rfl mf_X3_lambda_times_17.1 c (show [vR (some v0), vR (zr h b 1)] = [vR (zr h b 0), vR (zr h b 1)] from by rw [e2]) (Or.inr (Or.inr (Or.inl ⟨x, rfl, rfl, rfl⟩))) (w_X3_lambda_times_17 e) (fun _ hq => nomatch hq) (zfinvV (V' := [vR (zr h b 1)]) (sd_3 (a1 := a1) (a2 := a2)).2.2.1 mf_X3_lambda_times_17 (by decide +kernel) st_3.2.2.2.1 (by decide +kernel) rfl rfl (zkq e3 rfl)) (Nat.le_trans (Nat.le_of_ble_eq_true rfl) hdd) rfl hw (zkv kk) zkn9
  rcases zif e with ⟨c, e⟩ | ⟨_, e⟩
  · skip
    obtain ⟨v0, e1, e⟩ := zbind e
    obtain ⟨e2, e3⟩ := zrv_ok e1
    exact zw_lamCall (M' := M_X3_lambda_with_1) (d' := 4) (A := [vI a1, vI a2]) (V := [vR (some v0), vI (zi h b 1), vI (zi h b 2), vI (zi h b 3)]) rest 5 hd hl st_5 sd_5 rfl mf_X3_lambda_with_1.1 c (show [vR (some v0), vI (zi h b 1), vI (zi h b 2), vI (zi h b 3)] = [vR (zr h b 0), vI (zi h b 1), vI (zi h b 2), vI (zi h b 3)] from by rw [e2]) (Or.inr (Or.inr (Or.inl ⟨x, rfl, rfl, rfl⟩))) (w_X3_lambda_with_1 e) (fun _ hq => nomatch hq) (zfinvV (V' := [vI (zi h b 1), vI (zi h b 2), vI (zi h b 3)]) (sd_5 (a1 := a1) (a2 := a2)).2.2.1 mf_X3_lambda_with_1 (by decide +kernel) st_5.2.2.2.1 (by decide +kernel) rfl rfl (zkq e3 rfl)) (Nat.le_trans (Nat.le_of_ble_eq_true rfl) hdd) rfl hw (zkv kk) zkn9
  rcases zif e with ⟨c, e⟩ | ⟨_, e⟩
  · skip
    exact zw_lamCall (M' := M_X3_lambda_unit_13) (d' := 2) (A := [vI a1, vI a2]) (V := []) rest 7 hd hl st_7 sd_7 rfl mf_X3_lambda_unit_13.1 c rfl (Or.inr (Or.inr (Or.inl ⟨x, rfl, rfl, rfl⟩))) (w_X3_lambda_unit_13 e) (fun _ hq => nomatch hq) (zfinvS (sd_7 (a1 := a1) (a2 := a2)).2.2.1 mf_X3_lambda_unit_13 st_7.2.2.2.1 rfl) (Nat.le_trans (Nat.le_of_ble_eq_true rfl) hdd) rfl hw (zkv kk) zkn9
  rcases zif e with ⟨c, e⟩ | ⟨_, e⟩
  · skip
    obtain ⟨v0, e1, e⟩ := zbind e
    obtain ⟨e2, e3⟩ := zrv_ok e1
    exact zw_lamCall (M' := M_X3_lambda_scaled_11) (d' := 4) (A := [vI a1, vI a2]) (V := [vR (some v0), vI (zi h b 1)]) rest 9 hd hl st_9 sd_9 rfl mf_X3_lambda_scaled_11.1 c (show [vR (some v0), vI (zi h b 1)] = [vR (zr h b 0), vI (zi h b 1)] from by rw [e2]) (Or.inr (Or.inr (Or.inl ⟨x, rfl, rfl, rfl⟩))) (w_X3_lambda_scaled_11 e) (fun _ hq => nomatch hq) (zfinvV (V' := [vI (zi h b 1)]) (sd_9 (a1 := a1) (a2 := a2)).2.2.1 mf_X3_lambda_scaled_11 (by decide +kernel) st_9.2.2.2.1 (by decide +kernel) rfl rfl (zkq e3 rfl)) (Nat.le_trans (Nat.le_of_ble_eq_true rfl) hdd) rfl hw (zkv kk) zkn9
  rcases zif e with ⟨c, e⟩ | ⟨_, e⟩
  · skip
    obtain ⟨v0, e1, e⟩ := zbind e
    obtain ⟨e2, e3⟩ := zrv_ok e1
    exact zw_lamCall (M' := M_X3_lambda_joined_15) (d' := 4) (A := [vI a1, vI a2]) (V := [vR (some v0), vR (zr h b 1), vR (zr h b 2)]) rest 11 hd hl st_11 sd_11 rfl mf_X3_lambda_joined_15.1 c (show [vR (some v0), vR (zr h b 1), vR (zr h b 2)] = [vR (zr h b 0), vR (zr h b 1), vR (zr h b 2)] from by rw [e2]) (Or.inr (Or.inr (Or.inl ⟨x, rfl, rfl, rfl⟩))) (w_X3_lambda_joined_15 e) (fun _ hq => nomatch hq) (zfinvV (V' := [vR (zr h b 1), vR (zr h b 2)]) (sd_11 (a1 := a1) (a2 := a2)).2.2.1 mf_X3_lambda_joined_15 (by decide +kernel) st_11.2.2.2.1 (by decide +kernel) rfl rfl (zkq e3 rfl)) (Nat.le_trans (Nat.le_of_ble_eq_true rfl) hdd) rfl hw (zkv kk) zkn9
  rcases zif e with ⟨c, e⟩ | ⟨_, e⟩
  · skip
    obtain ⟨v0, e1, e⟩ := zbind e
    obtain ⟨e2, e3⟩ := zrv_ok e1
    exact zw_lamCall (M' := M_X3_lambda_withoutZeros_5) (d' := 4) (A := [vI a1, vI a2]) (V := [vR (some v0)]) rest 13 hd hl st_13 sd_13 rfl mf_X3_lambda_withoutZeros_5.1 c (show [vR (some v0)] = [vR (zr h b 0)] from by rw [e2]) (Or.inr (Or.inr (Or.inl ⟨x, rfl, rfl, rfl⟩))) (w_X3_lambda_withoutZeros_5 e) (fun _ hq => nomatch hq) (zfinvV (V' := []) (sd_13 (a1 := a1) (a2 := a2)).2.2.1 mf_X3_lambda_withoutZeros_5 (by decide +kernel) st_13.2.2.2.1 (by decide +kernel) rfl rfl (zkq e3 rfl)) (Nat.le_trans (Nat.le_of_ble_eq_true rfl) hdd) rfl hw (zkv kk) zkn9
  rcases zif e with ⟨c, e⟩ | ⟨_, e⟩
  · skip
    obtain ⟨v0, e1, e⟩ := zbind e
    obtain ⟨e2, e3⟩ := zrv_ok e1
    exact zw_lamCall (M' := M_X3_lambda_without_3) (d' := 4) (A := [vI a1, vI a2]) (V := [vR (some v0)]) rest 18 hd hl st_18 sd_18 rfl mf_X3_lambda_without_3.1 c (show [vR (some v0)] = [vR (zr h b 0)] from by rw [e2]) (Or.inr (Or.inr (Or.inl ⟨x, rfl, rfl, rfl⟩))) (w_X3_lambda_without_3 e) (fun _ hq => nomatch hq) (zfinvV (V' := []) (sd_18 (a1 := a1) (a2 := a2)).2.2.1 mf_X3_lambda_without_3 (by decide +kernel) st_18.2.2.2.1 (by decide +kernel) rfl rfl (zkq e3 rfl)) (Nat.le_trans (Nat.le_of_ble_eq_true rfl) hdd) rfl hw (zkv kk) zkn9
  rcases zif e with ⟨c, e⟩ | ⟨_, e⟩
  · skip
    obtain ⟨v0, e1, e⟩ := zbind e
    obtain ⟨e2, e3⟩ := zrv_ok e1
    exact zw_lamCall (M' := M_X3_lambda_withSwapped_7) (d' := 4) (A := [vI a1, vI a2]) (V := [vR (some v0), vI (zi h b 1), vI (zi h b 2)]) rest 21 hd hl st_21 sd_21 rfl mf_X3_lambda_withSwapped_7.1 c (show [vR (some v0), vI (zi h b 1), vI (zi h b 2)] = [vR (zr h b 0), vI (zi h b 1), vI (zi h b 2)] from by rw [e2]) (Or.inr (Or.inr (Or.inl ⟨x, rfl, rfl, rfl⟩))) (w_X3_lambda_withSwapped_7 e) (fun _ hq => nomatch hq) (zfinvV (V' := [vI (zi h b 1), vI (zi h b 2)]) (sd_21 (a1 := a1) (a2 := a2)).2.2.1 mf_X3_lambda_withSwapped_7 (by decide +kernel) st_21.2.2.2.1 (by decide +kernel) rfl rfl (zkq e3 rfl)) (Nat.le_trans (Nat.le_of_ble_eq_true rfl) hdd) rfl hw (zkv kk) zkn9
  cases e
def M_X3_build : zM := (yX3_build, cX3_build, 12, (.some (.object "CsrCalculator$Csr")), [])
theorem mf_X3_build : zMs M_X3_build 4 := ⟨⟨q414, q182, ⟨by decide +kernel, by decide +kernel⟩, by decide +kernel, by decide⟩, q413⟩
def B_X3_build_131 (a0 : Int32) (a1 : Int32) (a2 : Option Nat) (a3 : Option Nat) (a4 : Option Nat) (a5 : Int32) (h : zH) : Option ((Option Nat ⊕ Nat) × zH) :=
  zb2 (znw 3 h) fun q1 h2 =>
  zb2 (f_X3_cut a3 a5 h2) fun x6 h5 =>
  zb2 (f_X3_cut a4 a5 h5) fun x9 h8 =>
  (some q1).bind fun b10 =>
  (f_X3_init_2 (some b10) a0 a1 a2 x6 x9 h8).bind fun h13 =>
  some (.inl (some q1), h13)
theorem wB_X3_build_131 {G : zG} {h0 h : zH} {vo : Option Nat ⊕ Nat} {vh : zH} {a0 : Int32} {a1 : Int32} {a2 : Option Nat} {a3 : Option Nat} {a4 : Option Nat} {a5 : Int32} (H : B_X3_build_131 a0 a1 a2 a3 a4 a5 h = some (vo, vh)) : zW G M_X3_build 7 h0 (zoR vo) vh 131 [(0, vI a0), (1, vI a1), (4, vR a2), (5, vR a3), (6, vR a4), (7, vI a5)] [] h := by
  unfold B_X3_build_131 at H
  obtain ⟨q1, h2, e3, H⟩ := zbind2 H
  refine zy_new (pc := 131) dX3_build_131 ln_X3_4 e3 ?_
  refine zw_dup (pc := 134) dX3_build_134 rfl ?_
  refine zw_iload_n (pc := 135) dX3_build_135 rfl 0 rfl ?_
  refine zw_iload_n (pc := 136) dX3_build_136 rfl 1 rfl ?_
  refine zw_aload (pc := 137) dX3_build_137 2 rfl ?_
  refine zw_aload (pc := 139) dX3_build_139 3 rfl ?_
  refine zw_iload (pc := 141) dX3_build_141 5 rfl ?_
  obtain ⟨x6, h5, e4, H⟩ := zbind2 H
  refine zw_invS (pc := 143) (M' := M_X3_cut) (A := [vR a3, vI a5]) [vR a2, vI a1, vI a0, vR (some q1), vR (some q1)] dX3_build_143 (Or.inl q494) mf_X3_cut (w_X3_cut e4) (Nat.le_of_ble_eq_true rfl) rfl rfl (Nat.le_of_ble_eq_true rfl) (zkv ?_) zkn9
  refine zw_aload (pc := 146) dX3_build_146 4 rfl ?_
  refine zw_iload (pc := 148) dX3_build_148 5 rfl ?_
  obtain ⟨x9, h8, e7, H⟩ := zbind2 H
  refine zw_invS (pc := 150) (M' := M_X3_cut) (A := [vR a4, vI a5]) [vR x6, vR a2, vI a1, vI a0, vR (some q1), vR (some q1)] dX3_build_150 (Or.inl q494) mf_X3_cut (w_X3_cut e7) (Nat.le_of_ble_eq_true rfl) rfl rfl (Nat.le_of_ble_eq_true rfl) (zkv ?_) zkn9
  obtain ⟨b10, e11, H⟩ := zbind H
  obtain ⟨h13, e12, H⟩ := zbind H
  refine zw_invI (pc := 153) (M' := M_X3_init_2) (A := [vI a0, vI a1, vR a2, vR x6, vR x9]) [vR (some q1)] dX3_build_153 (Or.inl q242) mf_X3_init_2 rfl rfl (w_X3_init_2 e12) (Nat.le_of_ble_eq_true rfl) rfl (by rw [← e11]; rfl) (Nat.le_of_ble_eq_true rfl) (zku ?_) zkn9
  obtain ⟨rfl, rfl⟩ := Prod.mk.inj (Option.some.inj H)
  exact zw_aret (pc := 156) dX3_build_156 rfl (Or.inl ⟨_, rfl⟩) rfl rfl
def B_X3_build_116 (k27 : Int32 → Int32 → Option Nat → Option Nat → Option Nat → Option Nat → Option Nat → Int32 → Int32 → zH → Option ((Option Nat ⊕ Nat) × zH)) (a0 : Int32) (a1 : Int32) (a2 : Option Nat) (a3 : Option Nat) (a4 : Option Nat) (a5 : Option Nat) (a6 : Option Nat) (a7 : Int32) (a8 : Int32) (h : zH) : Option ((Option Nat ⊕ Nat) × zH) :=
  (zsI a4 (a8 + (1 : Int32)) a7 h).bind fun h1 =>
  k27 a0 a1 a2 a3 a4 a5 a6 a7 (a8 + (1 : Int32)) h1
theorem wB_X3_build_116 {G : zG} {h0 h : zH} {vo : Option Nat ⊕ Nat} {vh : zH} {k27 : Int32 → Int32 → Option Nat → Option Nat → Option Nat → Option Nat → Option Nat → Int32 → Int32 → zH → Option ((Option Nat ⊕ Nat) × zH)} (hk27 : ∀ (b0 : Int32) (b1 : Int32) (b2 : Option Nat) (b3 : Option Nat) (b4 : Option Nat) (b5 : Option Nat) (b6 : Option Nat) (b7 : Int32) (b8 : Int32) (h' : zH), k27 b0 b1 b2 b3 b4 b5 b6 b7 b8 h' = some (vo, vh) → zW G M_X3_build 7 h0 (zoR vo) vh 27 [(0, vI b0), (1, vI b1), (2, vR b2), (3, vR b3), (4, vR b4), (5, vR b5), (6, vR b6), (7, vI b7), (8, vI b8)] [] h') {a0 : Int32} {a1 : Int32} {a2 : Option Nat} {a3 : Option Nat} {a4 : Option Nat} {a5 : Option Nat} {a6 : Option Nat} {a7 : Int32} {a8 : Int32} (H : B_X3_build_116 k27 a0 a1 a2 a3 a4 a5 a6 a7 a8 h = some (vo, vh)) : zW G M_X3_build 7 h0 (zoR vo) vh 116 [(0, vI a0), (1, vI a1), (2, vR a2), (3, vR a3), (4, vR a4), (5, vR a5), (6, vR a6), (7, vI a7), (8, vI a8)] [] h := by
  unfold B_X3_build_116 at H
  refine zw_aload (pc := 116) dX3_build_116 4 rfl ?_
  refine zw_iload (pc := 118) dX3_build_118 8 rfl ?_
  refine zw_iconst (pc := 120) (v := (1 : Int32)) dX3_build_120 (by decide) ?_
  refine zw_iadd (pc := 121) dX3_build_121 ?_
  refine zw_iload (pc := 122) dX3_build_122 7 rfl ?_
  obtain ⟨h1, e2, H⟩ := zbind H
  refine zy_iast (pc := 124) dX3_build_124 e2 ?_
  refine zw_iinc (pc := 125) (v := (a8 + (1 : Int32))) (lv' := [(8, vI (a8 + (1 : Int32))), (0, vI a0), (1, vI a1), (2, vR a2), (3, vR a3), (4, vR a4), (5, vR a5), (6, vR a6), (7, vI a7)]) dX3_build_125 8 rfl rfl (by decide) rfl ?_
  refine zw_goto (pc := 128) (tgt := 27) dX3_build_128 rfl ?_
  refine zW_pick (lv' := [(0, vI a0), (1, vI a1), (2, vR a2), (3, vR a3), (4, vR a4), (5, vR a5), (6, vR a6), (7, vI a7), (8, vI (a8 + (1 : Int32)))]) [1, 2, 3, 4, 5, 6, 7, 8, 0] rfl ?_
  exact hk27 _ _ _ _ _ _ _ _ _ _ H
def B_X3_build_36 (k27 : Int32 → Int32 → Option Nat → Option Nat → Option Nat → Option Nat → Option Nat → Int32 → Int32 → zH → Option ((Option Nat ⊕ Nat) × zH)) (k36 : Int32 → Int32 → Option Nat → Option Nat → Option Nat → Option Nat → Option Nat → Int32 → Int32 → Int32 → zH → Option ((Option Nat ⊕ Nat) × zH)) (a0 : Int32) (a1 : Int32) (a2 : Option Nat) (a3 : Option Nat) (a4 : Option Nat) (a5 : Option Nat) (a6 : Option Nat) (a7 : Int32) (a8 : Int32) (a9 : Int32) (h : zH) : Option ((Option Nat ⊕ Nat) × zH) :=
  if a1 ≤ a9 then
  B_X3_build_116 k27 a0 a1 a2 a3 a4 a5 a6 a7 a8 h
  else
  (fl_Mask a2 a8 a9 h).bind fun x3 =>
  if x3 = 0 then
  k36 a0 a1 a2 a3 a4 a5 a6 a7 a8 (a9 + (1 : Int32)) h
  else
  (fl_Cell a3 a8 a9 h).bind fun x6 =>
  (f_X1_isIn x6 (-999999 : Int64) (999999 : Int64) h).bind fun x8 =>
  if x8 = 0 then
  zb2 (znw 7 h) fun q14 h15 =>
  (some q14).bind fun b17 =>
  (f_X7_init (some b17) h15).bind fun h20 =>
  (some q14).bind fun q21 =>
  if zk h20 q21 = 7 then
  some (.inr q21, h20)
  else none
  else
  (zsI a5 a7 a9 h).bind fun h10 =>
  (zsI a6 a7 x6.toInt32 h10).bind fun h12 =>
  k36 a0 a1 a2 a3 a4 a5 a6 (a7 + (1 : Int32)) a8 (a9 + (1 : Int32)) h12
theorem wB_X3_build_36 {G : zG} {h0 h : zH} {vo : Option Nat ⊕ Nat} {vh : zH} {k27 : Int32 → Int32 → Option Nat → Option Nat → Option Nat → Option Nat → Option Nat → Int32 → Int32 → zH → Option ((Option Nat ⊕ Nat) × zH)} (hk27 : ∀ (b0 : Int32) (b1 : Int32) (b2 : Option Nat) (b3 : Option Nat) (b4 : Option Nat) (b5 : Option Nat) (b6 : Option Nat) (b7 : Int32) (b8 : Int32) (h' : zH), k27 b0 b1 b2 b3 b4 b5 b6 b7 b8 h' = some (vo, vh) → zW G M_X3_build 7 h0 (zoR vo) vh 27 [(0, vI b0), (1, vI b1), (2, vR b2), (3, vR b3), (4, vR b4), (5, vR b5), (6, vR b6), (7, vI b7), (8, vI b8)] [] h') {k36 : Int32 → Int32 → Option Nat → Option Nat → Option Nat → Option Nat → Option Nat → Int32 → Int32 → Int32 → zH → Option ((Option Nat ⊕ Nat) × zH)} (hk36 : ∀ (b0 : Int32) (b1 : Int32) (b2 : Option Nat) (b3 : Option Nat) (b4 : Option Nat) (b5 : Option Nat) (b6 : Option Nat) (b7 : Int32) (b8 : Int32) (b9 : Int32) (h' : zH), k36 b0 b1 b2 b3 b4 b5 b6 b7 b8 b9 h' = some (vo, vh) → zW G M_X3_build 7 h0 (zoR vo) vh 36 [(0, vI b0), (1, vI b1), (2, vR b2), (3, vR b3), (4, vR b4), (5, vR b5), (6, vR b6), (7, vI b7), (8, vI b8), (9, vI b9)] [] h') {a0 : Int32} {a1 : Int32} {a2 : Option Nat} {a3 : Option Nat} {a4 : Option Nat} {a5 : Option Nat} {a6 : Option Nat} {a7 : Int32} {a8 : Int32} {a9 : Int32} (H : B_X3_build_36 k27 k36 a0 a1 a2 a3 a4 a5 a6 a7 a8 a9 h = some (vo, vh)) : zW G M_X3_build 7 h0 (zoR vo) vh 36 [(0, vI a0), (1, vI a1), (2, vR a2), (3, vR a3), (4, vR a4), (5, vR a5), (6, vR a6), (7, vI a7), (8, vI a8), (9, vI a9)] [] h := by
  unfold B_X3_build_36 at H
  refine zw_iload (pc := 36) dX3_build_36 9 rfl ?_
  refine zw_iload_n (pc := 38) dX3_build_38 rfl 1 rfl ?_
  rcases zif H with ⟨c1, H⟩ | ⟨c1, H⟩
  · refine zw_icmp_ge (pc := 39) (tgt := 116) dX3_build_39 rfl (fun _ => ?_) (fun q => absurd c1 q)
    refine zW_pick (lv' := [(0, vI a0), (1, vI a1), (2, vR a2), (3, vR a3), (4, vR a4), (5, vR a5), (6, vR a6), (7, vI a7), (8, vI a8)]) [0, 1, 2, 3, 4, 5, 6, 7, 8] rfl ?_
    exact wB_X3_build_116 hk27 H
  · refine zw_icmp_ge (pc := 39) (tgt := 116) dX3_build_39 rfl (fun q => absurd q c1) (fun _ => ?_)
    refine zw_aload_n (pc := 42) dX3_build_42 rfl 2 rfl ?_
    refine zw_iload (pc := 43) dX3_build_43 8 rfl ?_
    refine zw_iload (pc := 45) dX3_build_45 9 rfl ?_
    obtain ⟨x3, e2, H⟩ := zbind H
    refine zy_Mask (pc := 47) [] dX3_build_47 q416 (Nat.le_of_ble_eq_true rfl) (Nat.le_of_ble_eq_true rfl) e2 ?_
    rcases zif H with ⟨c4, H⟩ | ⟨c4, H⟩
    · refine zw_if_ne (pc := 52) (tgt := 58) dX3_build_52 rfl (fun q => absurd c4 q) (fun _ => ?_)
      refine zw_goto (pc := 55) (tgt := 110) dX3_build_55 rfl ?_
      refine zw_iinc (pc := 110) (v := (a9 + (1 : Int32))) (lv' := [(9, vI (a9 + (1 : Int32))), (0, vI a0), (1, vI a1), (2, vR a2), (3, vR a3), (4, vR a4), (5, vR a5), (6, vR a6), (7, vI a7), (8, vI a8)]) dX3_build_110 9 rfl rfl (by decide) rfl ?_
      refine zw_goto (pc := 113) (tgt := 36) dX3_build_113 rfl ?_
      refine zW_pick (lv' := [(0, vI a0), (1, vI a1), (2, vR a2), (3, vR a3), (4, vR a4), (5, vR a5), (6, vR a6), (7, vI a7), (8, vI a8), (9, vI (a9 + (1 : Int32)))]) [1, 2, 3, 4, 5, 6, 7, 8, 9, 0] rfl ?_
      exact hk36 _ _ _ _ _ _ _ _ _ _ _ H
    · refine zw_if_ne (pc := 52) (tgt := 58) dX3_build_52 rfl (fun _ => ?_) (fun q => absurd q c4)
      refine zw_aload_n (pc := 58) dX3_build_58 rfl 3 rfl ?_
      refine zw_iload (pc := 59) dX3_build_59 8 rfl ?_
      refine zw_iload (pc := 61) dX3_build_61 9 rfl ?_
      obtain ⟨x6, e5, H⟩ := zbind H
      refine zy_Cell (pc := 63) [] dX3_build_63 q420 (Nat.le_of_ble_eq_true rfl) (Nat.le_of_ble_eq_true rfl) e5 ?_
      refine zw_lstore (pc := 68) (lv' := [(10, vJ x6), (0, vI a0), (1, vI a1), (2, vR a2), (3, vR a3), (4, vR a4), (5, vR a5), (6, vR a6), (7, vI a7), (8, vI a8), (9, vI a9)]) dX3_build_68 (by decide) rfl ?_
      refine zw_lload (pc := 70) dX3_build_70 0 rfl ?_
      refine zw_ldc2 (pc := 72) dX3_build_72 q423 ?_
      refine zw_ldc2 (pc := 75) dX3_build_75 q424 ?_
      obtain ⟨x8, e7, H⟩ := zbind H
      refine zw_invS (pc := 78) (M' := M_X1_isIn) (A := [vJ x6, vJ (-999999 : Int64), vJ (999999 : Int64)]) [] dX3_build_78 (Or.inr (by decide +kernel)) mf_X1_isIn (w_X1_isIn e7) (Nat.le_of_ble_eq_true rfl) rfl rfl (Nat.le_of_ble_eq_true rfl) (zkv ?_) zkn9
      rcases zif H with ⟨c9, H⟩ | ⟨c9, H⟩
      · refine zw_if_ne (pc := 81) (tgt := 92) dX3_build_81 rfl (fun q => absurd c9 q) (fun _ => ?_)
        obtain ⟨q14, h15, e16, H⟩ := zbind2 H
        refine zy_new (pc := 84) dX3_build_84 ln_X3_51 e16 ?_
        refine zw_dup (pc := 87) dX3_build_87 rfl ?_
        obtain ⟨b17, e18, H⟩ := zbind H
        obtain ⟨h20, e19, H⟩ := zbind H
        refine zw_invI (pc := 88) (M' := M_X7_init) (A := []) [vR (some q14)] dX3_build_88 (Or.inl q471) mf_X7_init rfl rfl (w_X7_init e19) (Nat.le_of_ble_eq_true rfl) rfl (by rw [← e18]; rfl) (Nat.le_of_ble_eq_true rfl) (zku ?_) zkn9
        obtain ⟨q21, e22, H⟩ := zbind H
        refine zy_athrow (pc := 91) dX3_build_91 e22 ?_
        rcases zif H with ⟨c23, H⟩ | ⟨c23, H⟩
        · have c23 := c23
          obtain ⟨rfl, rfl⟩ := Prod.mk.inj (Option.some.inj H)
          exact zx_out (zkq c23 rfl) (fun _ hz => nomatch hz) rfl rfl
        cases H
      · refine zw_if_ne (pc := 81) (tgt := 92) dX3_build_81 rfl (fun _ => ?_) (fun q => absurd q c9)
        refine zw_aload (pc := 92) dX3_build_92 6 rfl ?_
        refine zw_iload (pc := 94) dX3_build_94 8 rfl ?_
        refine zw_iload (pc := 96) dX3_build_96 10 rfl ?_
        obtain ⟨h10, e11, H⟩ := zbind H
        refine zy_iast (pc := 98) dX3_build_98 e11 ?_
        refine zw_aload (pc := 99) dX3_build_99 7 rfl ?_
        refine zw_iload (pc := 101) dX3_build_101 8 rfl ?_
        refine zw_lload (pc := 103) dX3_build_103 0 rfl ?_
        refine zw_l2i (pc := 105) dX3_build_105 ?_
        obtain ⟨h12, e13, H⟩ := zbind H
        refine zy_iast (pc := 106) dX3_build_106 e13 ?_
        refine zw_iinc (pc := 107) (v := (a7 + (1 : Int32))) (lv' := [(7, vI (a7 + (1 : Int32))), (10, vJ x6), (0, vI a0), (1, vI a1), (2, vR a2), (3, vR a3), (4, vR a4), (5, vR a5), (6, vR a6), (8, vI a8), (9, vI a9)]) dX3_build_107 8 rfl rfl (by decide) rfl ?_
        refine zw_iinc (pc := 110) (v := (a9 + (1 : Int32))) (lv' := [(9, vI (a9 + (1 : Int32))), (7, vI (a7 + (1 : Int32))), (10, vJ x6), (0, vI a0), (1, vI a1), (2, vR a2), (3, vR a3), (4, vR a4), (5, vR a5), (6, vR a6), (8, vI a8)]) dX3_build_110 10 rfl rfl (by decide) rfl ?_
        refine zw_goto (pc := 113) (tgt := 36) dX3_build_113 rfl ?_
        refine zW_pick (lv' := [(0, vI a0), (1, vI a1), (2, vR a2), (3, vR a3), (4, vR a4), (5, vR a5), (6, vR a6), (7, vI (a7 + (1 : Int32))), (8, vI a8), (9, vI (a9 + (1 : Int32)))]) [3, 4, 5, 6, 7, 8, 9, 1, 10, 0] rfl ?_
        exact hk36 _ _ _ _ _ _ _ _ _ _ _ H
def B_X3_build_27 (k27 : Int32 → Int32 → Option Nat → Option Nat → Option Nat → Option Nat → Option Nat → Int32 → Int32 → zH → Option ((Option Nat ⊕ Nat) × zH)) (a0 : Int32) (a1 : Int32) (a2 : Option Nat) (a3 : Option Nat) (a4 : Option Nat) (a5 : Option Nat) (a6 : Option Nat) (a7 : Int32) (a8 : Int32) (h : zH) : Option ((Option Nat ⊕ Nat) × zH) :=
  if a0 ≤ a8 then
  B_X3_build_131 a0 a1 a4 a5 a6 a7 h
  else
  zloop (B_X3_build_36 k27) (fun _ _ _ _ _ _ _ _ _ _ _ => none) zFU a0 a1 a2 a3 a4 a5 a6 a7 a8 (0 : Int32) h
theorem wB_X3_build_27 {G : zG} {h0 h : zH} {vo : Option Nat ⊕ Nat} {vh : zH} {k27 : Int32 → Int32 → Option Nat → Option Nat → Option Nat → Option Nat → Option Nat → Int32 → Int32 → zH → Option ((Option Nat ⊕ Nat) × zH)} (hk27 : ∀ (b0 : Int32) (b1 : Int32) (b2 : Option Nat) (b3 : Option Nat) (b4 : Option Nat) (b5 : Option Nat) (b6 : Option Nat) (b7 : Int32) (b8 : Int32) (h' : zH), k27 b0 b1 b2 b3 b4 b5 b6 b7 b8 h' = some (vo, vh) → zW G M_X3_build 7 h0 (zoR vo) vh 27 [(0, vI b0), (1, vI b1), (2, vR b2), (3, vR b3), (4, vR b4), (5, vR b5), (6, vR b6), (7, vI b7), (8, vI b8)] [] h') {a0 : Int32} {a1 : Int32} {a2 : Option Nat} {a3 : Option Nat} {a4 : Option Nat} {a5 : Option Nat} {a6 : Option Nat} {a7 : Int32} {a8 : Int32} (H : B_X3_build_27 k27 a0 a1 a2 a3 a4 a5 a6 a7 a8 h = some (vo, vh)) : zW G M_X3_build 7 h0 (zoR vo) vh 27 [(0, vI a0), (1, vI a1), (2, vR a2), (3, vR a3), (4, vR a4), (5, vR a5), (6, vR a6), (7, vI a7), (8, vI a8)] [] h := by
  unfold B_X3_build_27 at H
  refine zw_iload (pc := 27) dX3_build_27 8 rfl ?_
  refine zw_iload_n (pc := 29) dX3_build_29 rfl 0 rfl ?_
  rcases zif H with ⟨c1, H⟩ | ⟨c1, H⟩
  · refine zw_icmp_ge (pc := 30) (tgt := 131) dX3_build_30 rfl (fun _ => ?_) (fun q => absurd c1 q)
    refine zW_pick (lv' := [(0, vI a0), (1, vI a1), (4, vR a4), (5, vR a5), (6, vR a6), (7, vI a7)]) [0, 1, 4, 5, 6, 7] rfl ?_
    exact wB_X3_build_131 H
  · refine zw_icmp_ge (pc := 30) (tgt := 131) dX3_build_30 rfl (fun q => absurd q c1) (fun _ => ?_)
    refine zw_iconst (pc := 33) (v := (0 : Int32)) dX3_build_33 (by decide) ?_
    refine zw_istore (pc := 34) (lv' := [(9, vI (0 : Int32)), (0, vI a0), (1, vI a1), (2, vR a2), (3, vR a3), (4, vR a4), (5, vR a5), (6, vR a6), (7, vI a7), (8, vI a8)]) dX3_build_34 (by decide) rfl ?_
    refine zW_pick (lv' := [(0, vI a0), (1, vI a1), (2, vR a2), (3, vR a3), (4, vR a4), (5, vR a5), (6, vR a6), (7, vI a7), (8, vI a8), (9, vI (0 : Int32))]) [1, 2, 3, 4, 5, 6, 7, 8, 9, 0] rfl ?_
    exact zloop_ind (body := (B_X3_build_36 k27)) (bot := (fun _ _ _ _ _ _ _ _ _ _ _ => none)) (P := (fun (f : Int32 → Int32 → Option Nat → Option Nat → Option Nat → Option Nat → Option Nat → Int32 → Int32 → Int32 → zH → Option ((Option Nat ⊕ Nat) × zH)) => ∀ (b0 : Int32) (b1 : Int32) (b2 : Option Nat) (b3 : Option Nat) (b4 : Option Nat) (b5 : Option Nat) (b6 : Option Nat) (b7 : Int32) (b8 : Int32) (b9 : Int32) (h' : zH), f b0 b1 b2 b3 b4 b5 b6 b7 b8 b9 h' = some (vo, vh) → zW G M_X3_build 7 h0 (zoR vo) vh 36 [(0, vI b0), (1, vI b1), (2, vR b2), (3, vR b3), (4, vR b4), (5, vR b5), (6, vR b6), (7, vI b7), (8, vI b8), (9, vI b9)] [] h')) zFU (fun _ _ _ _ _ _ _ _ _ _ _ H => nomatch H) (fun f hf c0 c1 c2 c3 c4 c5 c6 c7 c8 c9 h' H => wB_X3_build_36 hk27 hf H) _ _ _ _ _ _ _ _ _ _ _ H
def f_X3_build (p0 : Int32) (p1 : Int32) (p2 : Option Nat) (p3 : Option Nat) (h : zH) : Option ((Option Nat ⊕ Nat) × zH) :=
  zb2 (zna 50 (p0 + (1 : Int32)) h) fun q1 h2 =>
  zb2 (zna 50 (p0 * p1) h2) fun q4 h5 =>
  zb2 (zna 50 (p0 * p1) h5) fun q7 h8 =>
  zloop (B_X3_build_27) (fun _ _ _ _ _ _ _ _ _ _ => none) zFU p0 p1 p2 p3 (some q1) (some q4) (some q7) (0 : Int32) (0 : Int32) h8
theorem w_X3_build {G : zG} {p0 : Int32} {p1 : Int32} {p2 : Option Nat} {p3 : Option Nat} {h : zH} {vo : Option Nat ⊕ Nat} {vh : zH} (H : f_X3_build p0 p1 p2 p3 h = some (vo, vh)) : zMet G M_X3_build 7 [vI p0, vI p1, vR p2, vR p3] h (zoR vo) vh := by
  refine zMet.of (by decide +kernel) (Nat.le_of_ble_eq_true rfl) ?_
  show zW G M_X3_build 7 h (zoR vo) vh 0 [(0, vI p0), (1, vI p1), (2, vR p2), (3, vR p3)] [] h
  unfold f_X3_build at H
  refine zw_iload_n (pc := 0) dX3_build_0 rfl 0 rfl ?_
  refine zw_iconst (pc := 1) (v := (1 : Int32)) dX3_build_1 (by decide) ?_
  refine zw_iadd (pc := 2) dX3_build_2 ?_
  obtain ⟨q1, h2, e3, H⟩ := zbind2 H
  refine zy_newa (pc := 3) (k := 50) dX3_build_3 (by decide) q270 e3 ?_
  refine zw_astore (pc := 5) (lv' := [(4, vR (some q1)), (0, vI p0), (1, vI p1), (2, vR p2), (3, vR p3)]) dX3_build_5 (by decide) rfl ?_
  refine zw_iload_n (pc := 7) dX3_build_7 rfl 1 rfl ?_
  refine zw_iload_n (pc := 8) dX3_build_8 rfl 2 rfl ?_
  refine zw_imul (pc := 9) dX3_build_9 ?_
  obtain ⟨q4, h5, e6, H⟩ := zbind2 H
  refine zy_newa (pc := 10) (k := 50) dX3_build_10 (by decide) q270 e6 ?_
  refine zw_astore (pc := 12) (lv' := [(5, vR (some q4)), (4, vR (some q1)), (0, vI p0), (1, vI p1), (2, vR p2), (3, vR p3)]) dX3_build_12 (by decide) rfl ?_
  refine zw_iload_n (pc := 14) dX3_build_14 rfl 2 rfl ?_
  refine zw_iload_n (pc := 15) dX3_build_15 rfl 3 rfl ?_
  refine zw_imul (pc := 16) dX3_build_16 ?_
  obtain ⟨q7, h8, e9, H⟩ := zbind2 H
  refine zy_newa (pc := 17) (k := 50) dX3_build_17 (by decide) q270 e9 ?_
  refine zw_astore (pc := 19) (lv' := [(6, vR (some q7)), (5, vR (some q4)), (4, vR (some q1)), (0, vI p0), (1, vI p1), (2, vR p2), (3, vR p3)]) dX3_build_19 (by decide) rfl ?_
  refine zw_iconst (pc := 21) (v := (0 : Int32)) dX3_build_21 (by decide) ?_
  refine zw_istore (pc := 22) (lv' := [(7, vI (0 : Int32)), (6, vR (some q7)), (5, vR (some q4)), (4, vR (some q1)), (0, vI p0), (1, vI p1), (2, vR p2), (3, vR p3)]) dX3_build_22 (by decide) rfl ?_
  refine zw_iconst (pc := 24) (v := (0 : Int32)) dX3_build_24 (by decide) ?_
  refine zw_istore (pc := 25) (lv' := [(8, vI (0 : Int32)), (7, vI (0 : Int32)), (6, vR (some q7)), (5, vR (some q4)), (4, vR (some q1)), (0, vI p0), (1, vI p1), (2, vR p2), (3, vR p3)]) dX3_build_25 (by decide) rfl ?_
  refine zW_pick (lv' := [(0, vI p0), (1, vI p1), (2, vR p2), (3, vR p3), (4, vR (some q1)), (5, vR (some q4)), (6, vR (some q7)), (7, vI (0 : Int32)), (8, vI (0 : Int32))]) [5, 6, 7, 8, 4, 3, 2, 1, 0] rfl ?_
  exact zloop_ind (body := (B_X3_build_27)) (bot := (fun _ _ _ _ _ _ _ _ _ _ => none)) (P := (fun (f : Int32 → Int32 → Option Nat → Option Nat → Option Nat → Option Nat → Option Nat → Int32 → Int32 → zH → Option ((Option Nat ⊕ Nat) × zH)) => ∀ (b0 : Int32) (b1 : Int32) (b2 : Option Nat) (b3 : Option Nat) (b4 : Option Nat) (b5 : Option Nat) (b6 : Option Nat) (b7 : Int32) (b8 : Int32) (h' : zH), f b0 b1 b2 b3 b4 b5 b6 b7 b8 h' = some (vo, vh) → zW G M_X3_build 7 h (zoR vo) vh 27 [(0, vI b0), (1, vI b1), (2, vR b2), (3, vR b3), (4, vR b4), (5, vR b5), (6, vR b6), (7, vI b7), (8, vI b8)] [] h')) zFU (fun _ _ _ _ _ _ _ _ _ _ H => nomatch H) (fun f hf c0 c1 c2 c3 c4 c5 c6 c7 c8 h' H => wB_X3_build_27 hf H) _ _ _ _ _ _ _ _ _ _ H
theorem lf_X3_18 : zFl "CsrCalculator$Csr" 18 3 1 := ⟨_, "CsrCalculator$Csr", by decide, rfl, by decide, Or.inl q249, Or.inl rfl⟩
theorem lm_0 : zLm yX3_transposed 9 100 0 := ⟨_, rfl, rfl, by decide, by decide +kernel⟩
theorem lm_1 : zLm yX3_transposed 15 101 1 := ⟨_, rfl, rfl, by decide, by decide +kernel⟩
def M_X3_transposed : zM := (yX3_transposed, cX3_transposed, 1, (.some (.object "CsrCalculator$Csr")), [])
theorem mf_X3_transposed : zMi M_X3_transposed 0 := ⟨⟨q393, q182, ⟨by decide +kernel, by decide +kernel⟩, by decide +kernel, by decide⟩, q391⟩
def f_X3_transposed (p0 : Option Nat) (h : zH) : Option ((Option Nat ⊕ Nat) × zH) :=
  (zgI 3 1 p0 h).bind fun x1 =>
  (zgI 3 0 p0 h).bind fun x3 =>
  zb2 (zlm 0 [vR p0] h) fun q5 h6 =>
  zb2 (zlm 1 [vR p0] h6) fun q8 h9 =>
  zb3 (f_X3_build x1 x3 (some q5) (some q8) h9) (fun x12 h13 =>
  some (.inl x12, h13))
  (fun q14 h15 =>
  if zk h15 q14 = 7 then
  some (.inr q14, h15)
  else none)
theorem w_X3_transposed {G : zG} {p0 : Option Nat} {h : zH} {vo : Option Nat ⊕ Nat} {vh : zH} (H : f_X3_transposed p0 h = some (vo, vh)) : zMet G M_X3_transposed 8 [vR p0] h (zoR vo) vh := by
  refine zMet.of (by decide +kernel) (Nat.le_of_ble_eq_true rfl) ?_
  show zW G M_X3_transposed 8 h (zoR vo) vh 0 [(0, vR p0)] [] h
  unfold f_X3_transposed at H
  refine zw_aload_n (pc := 0) dX3_transposed_0 rfl 0 rfl ?_
  obtain ⟨x1, e2, H⟩ := zbind H
  refine zy_getI (pc := 1) dX3_transposed_1 lf_X3_18 (fun _ _ => rfl) e2 ?_
  refine zw_aload_n (pc := 4) dX3_transposed_4 rfl 0 rfl ?_
  obtain ⟨x3, e4, H⟩ := zbind H
  refine zy_getI (pc := 5) dX3_transposed_5 lf_X3_14 (fun _ _ => rfl) e4 ?_
  refine zw_aload_n (pc := 8) dX3_transposed_8 rfl 0 rfl ?_
  obtain ⟨q5, h6, e7, H⟩ := zbind2 H
  refine zy_lam (pc := 9) (i := 0) (A := [vR p0]) [vI x3, vI x1] dX3_transposed_9 lm_0 (show zokL (zLc 0) [vR p0] from (zokL_ref zokL_nil)) rfl (Nat.le_of_ble_eq_true rfl) e7 ?_
  refine zw_aload_n (pc := 14) dX3_transposed_14 rfl 0 rfl ?_
  obtain ⟨q8, h9, e10, H⟩ := zbind2 H
  refine zy_lam (pc := 15) (i := 1) (A := [vR p0]) [vR (some q5), vI x3, vI x1] dX3_transposed_15 lm_1 (show zokL (zLc 1) [vR p0] from (zokL_ref zokL_nil)) rfl (Nat.le_of_ble_eq_true rfl) e10 ?_
  rcases zbind3 H with ⟨x12, h13, e11, H⟩ | ⟨q14, h15, e11, H⟩
  · refine zw_invS (pc := 20) (M' := M_X3_build) (A := [vI x1, vI x3, vR (some q5), vR (some q8)]) [] dX3_transposed_20 (Or.inl q412) mf_X3_build (w_X3_build e11) (Nat.le_of_ble_eq_true rfl) rfl rfl (Nat.le_of_ble_eq_true rfl) (zkv ?_) zkn9
    obtain ⟨rfl, rfl⟩ := Prod.mk.inj (Option.some.inj H)
    exact zw_aret (pc := 23) dX3_transposed_23 rfl (Or.inl ⟨_, rfl⟩) rfl rfl
  · refine zw_invS (pc := 20) (M' := M_X3_build) (A := [vI x1, vI x3, vR (some q5), vR (some q8)]) [] dX3_transposed_20 (Or.inl q412) mf_X3_build (w_X3_build e11) (Nat.le_of_ble_eq_true rfl) rfl rfl (Nat.le_of_ble_eq_true rfl) zkv0 (zkx ?_)
    rcases zif H with ⟨c16, H⟩ | ⟨c16, H⟩
    · have c16 := c16
      obtain ⟨rfl, rfl⟩ := Prod.mk.inj (Option.some.inj H)
      exact zx_out (zkq c16 rfl) (fun _ hz => nomatch hz) rfl rfl
    cases H
def M_X3_hasSameShape : zM := (yX3_hasSameShape, cX3_hasSameShape, 2, (.some .boolean), [])
theorem mf_X3_hasSameShape : zMi M_X3_hasSameShape 1 := ⟨⟨q507, q182, ⟨by decide +kernel, by decide +kernel⟩, by decide +kernel, by decide⟩, q505⟩
def f_X3_hasSameShape (p0 : Option Nat) (p1 : Option Nat) (h : zH) : Option Int32 :=
  (zgI 3 0 p0 h).bind fun x1 =>
  (zgI 3 0 p1 h).bind fun x3 =>
  if x1 = x3 then
  (zgI 3 1 p0 h).bind fun x6 =>
  (zgI 3 1 p1 h).bind fun x8 =>
  if x6 = x8 then
  some (1 : Int32)
  else
  some (0 : Int32)
  else
  some (0 : Int32)
theorem w_X3_hasSameShape {G : zG} {p0 : Option Nat} {p1 : Option Nat} {h : zH} {vx : Int32} (H : f_X3_hasSameShape p0 p1 h = some vx) : zMet G M_X3_hasSameShape 2 [vR p0, vR p1] h (.inl (some (vI vx))) h := by
  refine zMet.of (by decide +kernel) (Nat.le_of_ble_eq_true rfl) ?_
  show zW G M_X3_hasSameShape 2 h (.inl (some (vI vx))) h 0 [(0, vR p0), (1, vR p1)] [] h
  unfold f_X3_hasSameShape at H
  refine zw_aload_n (pc := 0) dX3_hasSameShape_0 rfl 0 rfl ?_
  obtain ⟨x1, e2, H⟩ := zbind H
  refine zy_getI (pc := 1) dX3_hasSameShape_1 lf_X3_14 (fun _ _ => rfl) e2 ?_
  refine zw_aload_n (pc := 4) dX3_hasSameShape_4 rfl 1 rfl ?_
  obtain ⟨x3, e4, H⟩ := zbind H
  refine zy_getI (pc := 5) dX3_hasSameShape_5 lf_X3_14 (fun _ _ => rfl) e4 ?_
  rcases zif H with ⟨c5, H⟩ | ⟨c5, H⟩
  · refine zw_icmp_ne (pc := 8) (tgt := 26) dX3_hasSameShape_8 rfl (fun q => absurd c5 q) (fun _ => ?_)
    refine zw_aload_n (pc := 11) dX3_hasSameShape_11 rfl 0 rfl ?_
    obtain ⟨x6, e7, H⟩ := zbind H
    refine zy_getI (pc := 12) dX3_hasSameShape_12 lf_X3_18 (fun _ _ => rfl) e7 ?_
    refine zw_aload_n (pc := 15) dX3_hasSameShape_15 rfl 1 rfl ?_
    obtain ⟨x8, e9, H⟩ := zbind H
    refine zy_getI (pc := 16) dX3_hasSameShape_16 lf_X3_18 (fun _ _ => rfl) e9 ?_
    rcases zif H with ⟨c10, H⟩ | ⟨c10, H⟩
    · refine zw_icmp_ne (pc := 19) (tgt := 26) dX3_hasSameShape_19 rfl (fun q => absurd c10 q) (fun _ => ?_)
      refine zw_iconst (pc := 22) (v := (1 : Int32)) dX3_hasSameShape_22 (by decide) ?_
      refine zw_goto (pc := 23) (tgt := 27) dX3_hasSameShape_23 rfl ?_
      obtain rfl := Option.some.inj H
      exact zw_zret (pc := 27) dX3_hasSameShape_27 rfl rfl rfl rfl
    · refine zw_icmp_ne (pc := 19) (tgt := 26) dX3_hasSameShape_19 rfl (fun _ => ?_) (fun q => absurd q c10)
      refine zw_iconst (pc := 26) (v := (0 : Int32)) dX3_hasSameShape_26 (by decide) ?_
      obtain rfl := Option.some.inj H
      exact zw_zret (pc := 27) dX3_hasSameShape_27 rfl rfl rfl rfl
  · refine zw_icmp_ne (pc := 8) (tgt := 26) dX3_hasSameShape_8 rfl (fun _ => ?_) (fun q => absurd q c5)
    refine zw_iconst (pc := 26) (v := (0 : Int32)) dX3_hasSameShape_26 (by decide) ?_
    obtain rfl := Option.some.inj H
    exact zw_zret (pc := 27) dX3_hasSameShape_27 rfl rfl rfl rfl
def M_X3_stored : zM := (yX3_stored, cX3_stored, 1, (.some .int), [])
theorem mf_X3_stored : zMi M_X3_stored 0 := ⟨⟨q511, q182, ⟨by decide +kernel, by decide +kernel⟩, by decide +kernel, by decide⟩, q509⟩
def f_X3_stored (p0 : Option Nat) (h : zH) : Option Int32 :=
  (zgR 3 3 p0 h).bind fun x1 =>
  (zaN x1 h).bind fun x3 =>
  some x3
theorem w_X3_stored {G : zG} {p0 : Option Nat} {h : zH} {vx : Int32} (H : f_X3_stored p0 h = some vx) : zMet G M_X3_stored 2 [vR p0] h (.inl (some (vI vx))) h := by
  refine zMet.of (by decide +kernel) (Nat.le_of_ble_eq_true rfl) ?_
  show zW G M_X3_stored 2 h (.inl (some (vI vx))) h 0 [(0, vR p0)] [] h
  unfold f_X3_stored at H
  refine zw_aload_n (pc := 0) dX3_stored_0 rfl 0 rfl ?_
  obtain ⟨x1, e2, H⟩ := zbind H
  refine zy_getR (pc := 1) dX3_stored_1 lf_X3_25 (fun _ _ => rfl) e2 ?_
  obtain ⟨x3, e4, H⟩ := zbind H
  refine zy_alen (pc := 4) dX3_stored_4 e4 ?_
  obtain rfl := Option.some.inj H
  exact zw_iret (pc := 5) dX3_stored_5 rfl rfl rfl
def M_X3_hasSameStructure : zM := (yX3_hasSameStructure, cX3_hasSameStructure, 4, (.some .boolean), [])
theorem mf_X3_hasSameStructure : zMi M_X3_hasSameStructure 1 := ⟨⟨q503, q182, ⟨by decide +kernel, by decide +kernel⟩, by decide +kernel, by decide⟩, q501⟩
def B_X3_hasSameStructure_68 (k68 : Option Nat → Option Nat → Int32 → Int32 → Option Int32) (a0 : Option Nat) (a1 : Option Nat) (a2 : Int32) (a3 : Int32) (h : zH) : Option Int32 :=
  (zgR 3 3 a0 h).bind fun x1 =>
  (zaN x1 h).bind fun x3 =>
  if x3 ≤ a3 then
  if a2 = 0 ∨ a2 = 1 then some a2 else none
  else
  if a2 = 0 then
  if a2 = 0 ∨ a2 = 1 then some a2 else none
  else
  (zgR 3 3 a0 h).bind fun x9 =>
  (zaI 50 x9 a3 h).bind fun x11 =>
  (zgR 3 3 a1 h).bind fun x13 =>
  (zaI 50 x13 a3 h).bind fun x15 =>
  if x11 = x15 then
  k68 a0 a1 (1 : Int32) (a3 + (1 : Int32))
  else
  k68 a0 a1 (0 : Int32) (a3 + (1 : Int32))
theorem wB_X3_hasSameStructure_68 {G : zG} {h0 h : zH} {vx : Int32} {k68 : Option Nat → Option Nat → Int32 → Int32 → Option Int32} (hk68 : ∀ (b0 : Option Nat) (b1 : Option Nat) (b2 : Int32) (b3 : Int32), k68 b0 b1 b2 b3 = some vx → zW G M_X3_hasSameStructure 3 h0 (.inl (some (vI vx))) h 68 [(0, vR b0), (1, vR b1), (2, vI b2), (3, vI b3)] [] h) {a0 : Option Nat} {a1 : Option Nat} {a2 : Int32} {a3 : Int32} (H : B_X3_hasSameStructure_68 k68 a0 a1 a2 a3 h = some vx) : zW G M_X3_hasSameStructure 3 h0 (.inl (some (vI vx))) h 68 [(0, vR a0), (1, vR a1), (2, vI a2), (3, vI a3)] [] h := by
  unfold B_X3_hasSameStructure_68 at H
  refine zw_iload_n (pc := 68) dX3_hasSameStructure_68 rfl 3 rfl ?_
  refine zw_aload_n (pc := 69) dX3_hasSameStructure_69 rfl 0 rfl ?_
  obtain ⟨x1, e2, H⟩ := zbind H
  refine zy_getR (pc := 70) dX3_hasSameStructure_70 lf_X3_25 (fun _ _ => rfl) e2 ?_
  obtain ⟨x3, e4, H⟩ := zbind H
  refine zy_alen (pc := 73) dX3_hasSameStructure_73 e4 ?_
  rcases zif H with ⟨c5, H⟩ | ⟨c5, H⟩
  · refine zw_icmp_ge (pc := 74) (tgt := 108) dX3_hasSameStructure_74 rfl (fun _ => ?_) (fun q => absurd c5 q)
    refine zw_iload_n (pc := 108) dX3_hasSameStructure_108 rfl 2 rfl ?_
    obtain ⟨c6, H⟩ := zgd H
    obtain rfl := Option.some.inj H
    exact zw_zret (pc := 109) dX3_hasSameStructure_109 rfl (znarZ c6) rfl rfl
  · refine zw_icmp_ge (pc := 74) (tgt := 108) dX3_hasSameStructure_74 rfl (fun q => absurd q c5) (fun _ => ?_)
    refine zw_iload_n (pc := 77) dX3_hasSameStructure_77 rfl 2 rfl ?_
    rcases zif H with ⟨c7, H⟩ | ⟨c7, H⟩
    · refine zw_if_eq (pc := 78) (tgt := 108) dX3_hasSameStructure_78 rfl (fun _ => ?_) (fun q => absurd c7 q)
      refine zw_iload_n (pc := 108) dX3_hasSameStructure_108 rfl 2 rfl ?_
      obtain ⟨c8, H⟩ := zgd H
      obtain rfl := Option.some.inj H
      exact zw_zret (pc := 109) dX3_hasSameStructure_109 rfl (znarZ c8) rfl rfl
    · refine zw_if_eq (pc := 78) (tgt := 108) dX3_hasSameStructure_78 rfl (fun q => absurd q c7) (fun _ => ?_)
      refine zw_aload_n (pc := 81) dX3_hasSameStructure_81 rfl 0 rfl ?_
      obtain ⟨x9, e10, H⟩ := zbind H
      refine zy_getR (pc := 82) dX3_hasSameStructure_82 lf_X3_25 (fun _ _ => rfl) e10 ?_
      refine zw_iload_n (pc := 85) dX3_hasSameStructure_85 rfl 3 rfl ?_
      obtain ⟨x11, e12, H⟩ := zbind H
      refine zy_iald (pc := 86) dX3_hasSameStructure_86 e12 ?_
      refine zw_aload_n (pc := 87) dX3_hasSameStructure_87 rfl 1 rfl ?_
      obtain ⟨x13, e14, H⟩ := zbind H
      refine zy_getR (pc := 88) dX3_hasSameStructure_88 lf_X3_25 (fun _ _ => rfl) e14 ?_
      refine zw_iload_n (pc := 91) dX3_hasSameStructure_91 rfl 3 rfl ?_
      obtain ⟨x15, e16, H⟩ := zbind H
      refine zy_iald (pc := 92) dX3_hasSameStructure_92 e16 ?_
      rcases zif H with ⟨c17, H⟩ | ⟨c17, H⟩
      · refine zw_icmp_ne (pc := 93) (tgt := 100) dX3_hasSameStructure_93 rfl (fun q => absurd c17 q) (fun _ => ?_)
        refine zw_iconst (pc := 96) (v := (1 : Int32)) dX3_hasSameStructure_96 (by decide) ?_
        refine zw_goto (pc := 97) (tgt := 101) dX3_hasSameStructure_97 rfl ?_
        refine zw_istore_n (pc := 101) (lv' := [(2, vI (1 : Int32)), (0, vR a0), (1, vR a1), (3, vI a3)]) dX3_hasSameStructure_101 rfl (by decide) rfl ?_
        refine zw_iinc (pc := 102) (v := (a3 + (1 : Int32))) (lv' := [(3, vI (a3 + (1 : Int32))), (2, vI (1 : Int32)), (0, vR a0), (1, vR a1)]) dX3_hasSameStructure_102 3 rfl rfl (by decide) rfl ?_
        refine zw_goto (pc := 105) (tgt := 68) dX3_hasSameStructure_105 rfl ?_
        refine zW_pick (lv' := [(0, vR a0), (1, vR a1), (2, vI (1 : Int32)), (3, vI (a3 + (1 : Int32)))]) [2, 3, 1, 0] rfl ?_
        exact hk68 _ _ _ _ H
      · refine zw_icmp_ne (pc := 93) (tgt := 100) dX3_hasSameStructure_93 rfl (fun _ => ?_) (fun q => absurd q c17)
        refine zw_iconst (pc := 100) (v := (0 : Int32)) dX3_hasSameStructure_100 (by decide) ?_
        refine zw_istore_n (pc := 101) (lv' := [(2, vI (0 : Int32)), (0, vR a0), (1, vR a1), (3, vI a3)]) dX3_hasSameStructure_101 rfl (by decide) rfl ?_
        refine zw_iinc (pc := 102) (v := (a3 + (1 : Int32))) (lv' := [(3, vI (a3 + (1 : Int32))), (2, vI (0 : Int32)), (0, vR a0), (1, vR a1)]) dX3_hasSameStructure_102 3 rfl rfl (by decide) rfl ?_
        refine zw_goto (pc := 105) (tgt := 68) dX3_hasSameStructure_105 rfl ?_
        refine zW_pick (lv' := [(0, vR a0), (1, vR a1), (2, vI (0 : Int32)), (3, vI (a3 + (1 : Int32)))]) [2, 3, 1, 0] rfl ?_
        exact hk68 _ _ _ _ H
def B_X3_hasSameStructure_27 (k27 : Option Nat → Option Nat → Int32 → Int32 → Option Int32) (a0 : Option Nat) (a1 : Option Nat) (a2 : Int32) (a3 : Int32) (h : zH) : Option Int32 :=
  (zgI 3 0 a0 h).bind fun x1 =>
  if x1 ≤ a3 then
  zloop (fun f c0 c1 c2 c3 => B_X3_hasSameStructure_68 f c0 c1 c2 c3 h) (fun _ _ _ _ => none) zFU a0 a1 a2 (0 : Int32)
  else
  if a2 = 0 then
  zloop (fun f c0 c1 c2 c3 => B_X3_hasSameStructure_68 f c0 c1 c2 c3 h) (fun _ _ _ _ => none) zFU a0 a1 a2 (0 : Int32)
  else
  (zgR 3 2 a0 h).bind fun x5 =>
  (zaI 50 x5 a3 h).bind fun x7 =>
  (zgR 3 2 a1 h).bind fun x9 =>
  (zaI 50 x9 a3 h).bind fun x11 =>
  if x7 = x11 then
  k27 a0 a1 (1 : Int32) (a3 + (1 : Int32))
  else
  k27 a0 a1 (0 : Int32) (a3 + (1 : Int32))
theorem wB_X3_hasSameStructure_27 {G : zG} {h0 h : zH} {vx : Int32} {k27 : Option Nat → Option Nat → Int32 → Int32 → Option Int32} (hk27 : ∀ (b0 : Option Nat) (b1 : Option Nat) (b2 : Int32) (b3 : Int32), k27 b0 b1 b2 b3 = some vx → zW G M_X3_hasSameStructure 3 h0 (.inl (some (vI vx))) h 27 [(0, vR b0), (1, vR b1), (2, vI b2), (3, vI b3)] [] h) {a0 : Option Nat} {a1 : Option Nat} {a2 : Int32} {a3 : Int32} (H : B_X3_hasSameStructure_27 k27 a0 a1 a2 a3 h = some vx) : zW G M_X3_hasSameStructure 3 h0 (.inl (some (vI vx))) h 27 [(0, vR a0), (1, vR a1), (2, vI a2), (3, vI a3)] [] h := by
  unfold B_X3_hasSameStructure_27 at H
  refine zw_iload_n (pc := 27) dX3_hasSameStructure_27 rfl 3 rfl ?_
  refine zw_aload_n (pc := 28) dX3_hasSameStructure_28 rfl 0 rfl ?_
  obtain ⟨x1, e2, H⟩ := zbind H
  refine zy_getI (pc := 29) dX3_hasSameStructure_29 lf_X3_14 (fun _ _ => rfl) e2 ?_
  rcases zif H with ⟨c3, H⟩ | ⟨c3, H⟩
  · refine zw_icmp_ge (pc := 32) (tgt := 66) dX3_hasSameStructure_32 rfl (fun _ => ?_) (fun q => absurd c3 q)
    refine zw_iconst (pc := 66) (v := (0 : Int32)) dX3_hasSameStructure_66 (by decide) ?_
    refine zw_istore_n (pc := 67) (lv' := [(3, vI (0 : Int32)), (0, vR a0), (1, vR a1), (2, vI a2)]) dX3_hasSameStructure_67 rfl (by decide) rfl ?_
    refine zW_pick (lv' := [(0, vR a0), (1, vR a1), (2, vI a2), (3, vI (0 : Int32))]) [1, 2, 3, 0] rfl ?_
    exact zloop_ind (body := (fun f c0 c1 c2 c3 => B_X3_hasSameStructure_68 f c0 c1 c2 c3 h)) (bot := (fun _ _ _ _ => none)) (P := (fun (f : Option Nat → Option Nat → Int32 → Int32 → Option Int32) => ∀ (b0 : Option Nat) (b1 : Option Nat) (b2 : Int32) (b3 : Int32), f b0 b1 b2 b3 = some vx → zW G M_X3_hasSameStructure 3 h0 (.inl (some (vI vx))) h 68 [(0, vR b0), (1, vR b1), (2, vI b2), (3, vI b3)] [] h)) zFU (fun _ _ _ _ H => nomatch H) (fun f hf c0 c1 c2 c3 H => wB_X3_hasSameStructure_68 hf H) _ _ _ _ H
  · refine zw_icmp_ge (pc := 32) (tgt := 66) dX3_hasSameStructure_32 rfl (fun q => absurd q c3) (fun _ => ?_)
    refine zw_iload_n (pc := 35) dX3_hasSameStructure_35 rfl 2 rfl ?_
    rcases zif H with ⟨c4, H⟩ | ⟨c4, H⟩
    · refine zw_if_eq (pc := 36) (tgt := 66) dX3_hasSameStructure_36 rfl (fun _ => ?_) (fun q => absurd c4 q)
      refine zw_iconst (pc := 66) (v := (0 : Int32)) dX3_hasSameStructure_66 (by decide) ?_
      refine zw_istore_n (pc := 67) (lv' := [(3, vI (0 : Int32)), (0, vR a0), (1, vR a1), (2, vI a2)]) dX3_hasSameStructure_67 rfl (by decide) rfl ?_
      refine zW_pick (lv' := [(0, vR a0), (1, vR a1), (2, vI a2), (3, vI (0 : Int32))]) [1, 2, 3, 0] rfl ?_
      exact zloop_ind (body := (fun f c0 c1 c2 c3 => B_X3_hasSameStructure_68 f c0 c1 c2 c3 h)) (bot := (fun _ _ _ _ => none)) (P := (fun (f : Option Nat → Option Nat → Int32 → Int32 → Option Int32) => ∀ (b0 : Option Nat) (b1 : Option Nat) (b2 : Int32) (b3 : Int32), f b0 b1 b2 b3 = some vx → zW G M_X3_hasSameStructure 3 h0 (.inl (some (vI vx))) h 68 [(0, vR b0), (1, vR b1), (2, vI b2), (3, vI b3)] [] h)) zFU (fun _ _ _ _ H => nomatch H) (fun f hf c0 c1 c2 c3 H => wB_X3_hasSameStructure_68 hf H) _ _ _ _ H
    · refine zw_if_eq (pc := 36) (tgt := 66) dX3_hasSameStructure_36 rfl (fun q => absurd q c4) (fun _ => ?_)
      refine zw_aload_n (pc := 39) dX3_hasSameStructure_39 rfl 0 rfl ?_
      obtain ⟨x5, e6, H⟩ := zbind H
      refine zy_getR (pc := 40) dX3_hasSameStructure_40 lf_X3_21 (fun _ _ => rfl) e6 ?_
      refine zw_iload_n (pc := 43) dX3_hasSameStructure_43 rfl 3 rfl ?_
      obtain ⟨x7, e8, H⟩ := zbind H
      refine zy_iald (pc := 44) dX3_hasSameStructure_44 e8 ?_
      refine zw_aload_n (pc := 45) dX3_hasSameStructure_45 rfl 1 rfl ?_
      obtain ⟨x9, e10, H⟩ := zbind H
      refine zy_getR (pc := 46) dX3_hasSameStructure_46 lf_X3_21 (fun _ _ => rfl) e10 ?_
      refine zw_iload_n (pc := 49) dX3_hasSameStructure_49 rfl 3 rfl ?_
      obtain ⟨x11, e12, H⟩ := zbind H
      refine zy_iald (pc := 50) dX3_hasSameStructure_50 e12 ?_
      rcases zif H with ⟨c13, H⟩ | ⟨c13, H⟩
      · refine zw_icmp_ne (pc := 51) (tgt := 58) dX3_hasSameStructure_51 rfl (fun q => absurd c13 q) (fun _ => ?_)
        refine zw_iconst (pc := 54) (v := (1 : Int32)) dX3_hasSameStructure_54 (by decide) ?_
        refine zw_goto (pc := 55) (tgt := 59) dX3_hasSameStructure_55 rfl ?_
        refine zw_istore_n (pc := 59) (lv' := [(2, vI (1 : Int32)), (0, vR a0), (1, vR a1), (3, vI a3)]) dX3_hasSameStructure_59 rfl (by decide) rfl ?_
        refine zw_iinc (pc := 60) (v := (a3 + (1 : Int32))) (lv' := [(3, vI (a3 + (1 : Int32))), (2, vI (1 : Int32)), (0, vR a0), (1, vR a1)]) dX3_hasSameStructure_60 3 rfl rfl (by decide) rfl ?_
        refine zw_goto (pc := 63) (tgt := 27) dX3_hasSameStructure_63 rfl ?_
        refine zW_pick (lv' := [(0, vR a0), (1, vR a1), (2, vI (1 : Int32)), (3, vI (a3 + (1 : Int32)))]) [2, 3, 1, 0] rfl ?_
        exact hk27 _ _ _ _ H
      · refine zw_icmp_ne (pc := 51) (tgt := 58) dX3_hasSameStructure_51 rfl (fun _ => ?_) (fun q => absurd q c13)
        refine zw_iconst (pc := 58) (v := (0 : Int32)) dX3_hasSameStructure_58 (by decide) ?_
        refine zw_istore_n (pc := 59) (lv' := [(2, vI (0 : Int32)), (0, vR a0), (1, vR a1), (3, vI a3)]) dX3_hasSameStructure_59 rfl (by decide) rfl ?_
        refine zw_iinc (pc := 60) (v := (a3 + (1 : Int32))) (lv' := [(3, vI (a3 + (1 : Int32))), (2, vI (0 : Int32)), (0, vR a0), (1, vR a1)]) dX3_hasSameStructure_60 3 rfl rfl (by decide) rfl ?_
        refine zw_goto (pc := 63) (tgt := 27) dX3_hasSameStructure_63 rfl ?_
        refine zW_pick (lv' := [(0, vR a0), (1, vR a1), (2, vI (0 : Int32)), (3, vI (a3 + (1 : Int32)))]) [2, 3, 1, 0] rfl ?_
        exact hk27 _ _ _ _ H
def f_X3_hasSameStructure (p0 : Option Nat) (p1 : Option Nat) (h : zH) : Option Int32 :=
  (zrv 3 p0 h).bind fun b1 =>
  (f_X3_hasSameShape (some b1) p1 h).bind fun x6 =>
  if x6 = 0 then
  zloop (fun f c0 c1 c2 c3 => B_X3_hasSameStructure_27 f c0 c1 c2 c3 h) (fun _ _ _ _ => none) zFU p0 p1 (0 : Int32) (0 : Int32)
  else
  (zrv 3 p0 h).bind fun b8 =>
  (f_X3_stored (some b8) h).bind fun x13 =>
  (zrv 3 p1 h).bind fun b14 =>
  (f_X3_stored (some b14) h).bind fun x19 =>
  if x13 = x19 then
  zloop (fun f c0 c1 c2 c3 => B_X3_hasSameStructure_27 f c0 c1 c2 c3 h) (fun _ _ _ _ => none) zFU p0 p1 (1 : Int32) (0 : Int32)
  else
  zloop (fun f c0 c1 c2 c3 => B_X3_hasSameStructure_27 f c0 c1 c2 c3 h) (fun _ _ _ _ => none) zFU p0 p1 (0 : Int32) (0 : Int32)
theorem w_X3_hasSameStructure {G : zG} {p0 : Option Nat} {p1 : Option Nat} {h : zH} {vx : Int32} (H : f_X3_hasSameStructure p0 p1 h = some vx) : zMet G M_X3_hasSameStructure 3 [vR p0, vR p1] h (.inl (some (vI vx))) h := by
  refine zMet.of (by decide +kernel) (Nat.le_of_ble_eq_true rfl) ?_
  show zW G M_X3_hasSameStructure 3 h (.inl (some (vI vx))) h 0 [(0, vR p0), (1, vR p1)] [] h
  unfold f_X3_hasSameStructure at H
  refine zw_aload_n (pc := 0) dX3_hasSameStructure_0 rfl 0 rfl ?_
  refine zw_aload_n (pc := 1) dX3_hasSameStructure_1 rfl 1 rfl ?_
  obtain ⟨b1, e3, H⟩ := zbind H
  obtain ⟨e2, e4⟩ := zrv_ok e3
  obtain ⟨x6, e5, H⟩ := zbind H
  refine zw_invV (pc := 2) (M' := M_X3_hasSameShape) (A := [vR p1]) [] dX3_hasSameStructure_2 (Or.inl q504) mf_X3_hasSameShape q506 (zkq e4 rfl) (w_X3_hasSameShape e5) (Nat.le_of_ble_eq_true rfl) rfl (by rw [← e2]; rfl) (Nat.le_of_ble_eq_true rfl) (zkv ?_) zkn9
  rcases zif H with ⟨c7, H⟩ | ⟨c7, H⟩
  · refine zw_if_eq (pc := 5) (tgt := 23) dX3_hasSameStructure_5 rfl (fun _ => ?_) (fun q => absurd c7 q)
    refine zw_iconst (pc := 23) (v := (0 : Int32)) dX3_hasSameStructure_23 (by decide) ?_
    refine zw_istore_n (pc := 24) (lv' := [(2, vI (0 : Int32)), (0, vR p0), (1, vR p1)]) dX3_hasSameStructure_24 rfl (by decide) rfl ?_
    refine zw_iconst (pc := 25) (v := (0 : Int32)) dX3_hasSameStructure_25 (by decide) ?_
    refine zw_istore_n (pc := 26) (lv' := [(3, vI (0 : Int32)), (2, vI (0 : Int32)), (0, vR p0), (1, vR p1)]) dX3_hasSameStructure_26 rfl (by decide) rfl ?_
    refine zW_pick (lv' := [(0, vR p0), (1, vR p1), (2, vI (0 : Int32)), (3, vI (0 : Int32))]) [2, 3, 1, 0] rfl ?_
    exact zloop_ind (body := (fun f c0 c1 c2 c3 => B_X3_hasSameStructure_27 f c0 c1 c2 c3 h)) (bot := (fun _ _ _ _ => none)) (P := (fun (f : Option Nat → Option Nat → Int32 → Int32 → Option Int32) => ∀ (b0 : Option Nat) (b1 : Option Nat) (b2 : Int32) (b3 : Int32), f b0 b1 b2 b3 = some vx → zW G M_X3_hasSameStructure 3 h (.inl (some (vI vx))) h 27 [(0, vR b0), (1, vR b1), (2, vI b2), (3, vI b3)] [] h)) zFU (fun _ _ _ _ H => nomatch H) (fun f hf c0 c1 c2 c3 H => wB_X3_hasSameStructure_27 hf H) _ _ _ _ H
  · refine zw_if_eq (pc := 5) (tgt := 23) dX3_hasSameStructure_5 rfl (fun q => absurd q c7) (fun _ => ?_)
    refine zw_aload_n (pc := 8) dX3_hasSameStructure_8 rfl 0 rfl ?_
    obtain ⟨b8, e10, H⟩ := zbind H
    obtain ⟨e9, e11⟩ := zrv_ok e10
    obtain ⟨x13, e12, H⟩ := zbind H
    refine zw_invV (pc := 9) (M' := M_X3_stored) (A := []) [] dX3_hasSameStructure_9 (Or.inl q508) mf_X3_stored q510 (zkq e11 rfl) (w_X3_stored e12) (Nat.le_of_ble_eq_true rfl) rfl (by rw [← e9]; rfl) (Nat.le_of_ble_eq_true rfl) (zkv ?_) zkn9
    refine zw_aload_n (pc := 12) dX3_hasSameStructure_12 rfl 1 rfl ?_
    obtain ⟨b14, e16, H⟩ := zbind H
    obtain ⟨e15, e17⟩ := zrv_ok e16
    obtain ⟨x19, e18, H⟩ := zbind H
    refine zw_invV (pc := 13) (M' := M_X3_stored) (A := []) [vI x13] dX3_hasSameStructure_13 (Or.inl q508) mf_X3_stored q510 (zkq e17 rfl) (w_X3_stored e18) (Nat.le_of_ble_eq_true rfl) rfl (by rw [← e15]; rfl) (Nat.le_of_ble_eq_true rfl) (zkv ?_) zkn9
    rcases zif H with ⟨c20, H⟩ | ⟨c20, H⟩
    · refine zw_icmp_ne (pc := 16) (tgt := 23) dX3_hasSameStructure_16 rfl (fun q => absurd c20 q) (fun _ => ?_)
      refine zw_iconst (pc := 19) (v := (1 : Int32)) dX3_hasSameStructure_19 (by decide) ?_
      refine zw_goto (pc := 20) (tgt := 24) dX3_hasSameStructure_20 rfl ?_
      refine zw_istore_n (pc := 24) (lv' := [(2, vI (1 : Int32)), (0, vR p0), (1, vR p1)]) dX3_hasSameStructure_24 rfl (by decide) rfl ?_
      refine zw_iconst (pc := 25) (v := (0 : Int32)) dX3_hasSameStructure_25 (by decide) ?_
      refine zw_istore_n (pc := 26) (lv' := [(3, vI (0 : Int32)), (2, vI (1 : Int32)), (0, vR p0), (1, vR p1)]) dX3_hasSameStructure_26 rfl (by decide) rfl ?_
      refine zW_pick (lv' := [(0, vR p0), (1, vR p1), (2, vI (1 : Int32)), (3, vI (0 : Int32))]) [2, 3, 1, 0] rfl ?_
      exact zloop_ind (body := (fun f c0 c1 c2 c3 => B_X3_hasSameStructure_27 f c0 c1 c2 c3 h)) (bot := (fun _ _ _ _ => none)) (P := (fun (f : Option Nat → Option Nat → Int32 → Int32 → Option Int32) => ∀ (b0 : Option Nat) (b1 : Option Nat) (b2 : Int32) (b3 : Int32), f b0 b1 b2 b3 = some vx → zW G M_X3_hasSameStructure 3 h (.inl (some (vI vx))) h 27 [(0, vR b0), (1, vR b1), (2, vI b2), (3, vI b3)] [] h)) zFU (fun _ _ _ _ H => nomatch H) (fun f hf c0 c1 c2 c3 H => wB_X3_hasSameStructure_27 hf H) _ _ _ _ H
    · refine zw_icmp_ne (pc := 16) (tgt := 23) dX3_hasSameStructure_16 rfl (fun _ => ?_) (fun q => absurd q c20)
      refine zw_iconst (pc := 23) (v := (0 : Int32)) dX3_hasSameStructure_23 (by decide) ?_
      refine zw_istore_n (pc := 24) (lv' := [(2, vI (0 : Int32)), (0, vR p0), (1, vR p1)]) dX3_hasSameStructure_24 rfl (by decide) rfl ?_
      refine zw_iconst (pc := 25) (v := (0 : Int32)) dX3_hasSameStructure_25 (by decide) ?_
      refine zw_istore_n (pc := 26) (lv' := [(3, vI (0 : Int32)), (2, vI (0 : Int32)), (0, vR p0), (1, vR p1)]) dX3_hasSameStructure_26 rfl (by decide) rfl ?_
      refine zW_pick (lv' := [(0, vR p0), (1, vR p1), (2, vI (0 : Int32)), (3, vI (0 : Int32))]) [2, 3, 1, 0] rfl ?_
      exact zloop_ind (body := (fun f c0 c1 c2 c3 => B_X3_hasSameStructure_27 f c0 c1 c2 c3 h)) (bot := (fun _ _ _ _ => none)) (P := (fun (f : Option Nat → Option Nat → Int32 → Int32 → Option Int32) => ∀ (b0 : Option Nat) (b1 : Option Nat) (b2 : Int32) (b3 : Int32), f b0 b1 b2 b3 = some vx → zW G M_X3_hasSameStructure 3 h (.inl (some (vI vx))) h 27 [(0, vR b0), (1, vR b1), (2, vI b2), (3, vI b3)] [] h)) zFU (fun _ _ _ _ H => nomatch H) (fun f hf c0 c1 c2 c3 H => wB_X3_hasSameStructure_27 hf H) _ _ _ _ H
def M_X3_hasSameValues : zM := (yX3_hasSameValues, cX3_hasSameValues, 5, (.some .boolean), [])
theorem mf_X3_hasSameValues : zMi M_X3_hasSameValues 1 := ⟨⟨q515, q182, ⟨by decide +kernel, by decide +kernel⟩, by decide +kernel, by decide⟩, q513⟩
def B_X3_hasSameValues_23 (k8 : Option Nat → Option Nat → Int32 → Int32 → Option Int32) (k23 : Option Nat → Option Nat → Int32 → Int32 → Int32 → Option Int32) (a0 : Option Nat) (a1 : Option Nat) (a2 : Int32) (a3 : Int32) (a4 : Int32) (h : zH) : Option Int32 :=
  (zgI 3 1 a0 h).bind fun x1 =>
  if x1 ≤ a4 then
  k8 a0 a1 a2 (a3 + (1 : Int32))
  else
  if a2 = 0 then
  k8 a0 a1 a2 (a3 + (1 : Int32))
  else
  (zrv 3 a0 h).bind fun b5 =>
  (f_X3_value (some b5) a3 a4 h).bind fun x10 =>
  (zrv 3 a1 h).bind fun b11 =>
  (f_X3_value (some b11) a3 a4 h).bind fun x16 =>
  if x10 = x16 then
  k23 a0 a1 (1 : Int32) a3 (a4 + (1 : Int32))
  else
  k23 a0 a1 (0 : Int32) a3 (a4 + (1 : Int32))
theorem wB_X3_hasSameValues_23 {G : zG} {h0 h : zH} {vx : Int32} {k8 : Option Nat → Option Nat → Int32 → Int32 → Option Int32} (hk8 : ∀ (b0 : Option Nat) (b1 : Option Nat) (b2 : Int32) (b3 : Int32), k8 b0 b1 b2 b3 = some vx → zW G M_X3_hasSameValues 4 h0 (.inl (some (vI vx))) h 8 [(0, vR b0), (1, vR b1), (2, vI b2), (3, vI b3)] [] h) {k23 : Option Nat → Option Nat → Int32 → Int32 → Int32 → Option Int32} (hk23 : ∀ (b0 : Option Nat) (b1 : Option Nat) (b2 : Int32) (b3 : Int32) (b4 : Int32), k23 b0 b1 b2 b3 b4 = some vx → zW G M_X3_hasSameValues 4 h0 (.inl (some (vI vx))) h 23 [(0, vR b0), (1, vR b1), (2, vI b2), (3, vI b3), (4, vI b4)] [] h) {a0 : Option Nat} {a1 : Option Nat} {a2 : Int32} {a3 : Int32} {a4 : Int32} (H : B_X3_hasSameValues_23 k8 k23 a0 a1 a2 a3 a4 h = some vx) : zW G M_X3_hasSameValues 4 h0 (.inl (some (vI vx))) h 23 [(0, vR a0), (1, vR a1), (2, vI a2), (3, vI a3), (4, vI a4)] [] h := by
  unfold B_X3_hasSameValues_23 at H
  refine zw_iload (pc := 23) dX3_hasSameValues_23 4 rfl ?_
  refine zw_aload_n (pc := 25) dX3_hasSameValues_25 rfl 0 rfl ?_
  obtain ⟨x1, e2, H⟩ := zbind H
  refine zy_getI (pc := 26) dX3_hasSameValues_26 lf_X3_18 (fun _ _ => rfl) e2 ?_
  rcases zif H with ⟨c3, H⟩ | ⟨c3, H⟩
  · refine zw_icmp_ge (pc := 29) (tgt := 65) dX3_hasSameValues_29 rfl (fun _ => ?_) (fun q => absurd c3 q)
    refine zw_iinc (pc := 65) (v := (a3 + (1 : Int32))) (lv' := [(3, vI (a3 + (1 : Int32))), (0, vR a0), (1, vR a1), (2, vI a2), (4, vI a4)]) dX3_hasSameValues_65 3 rfl rfl (by decide) rfl ?_
    refine zw_goto (pc := 68) (tgt := 8) dX3_hasSameValues_68 rfl ?_
    refine zW_pick (lv' := [(0, vR a0), (1, vR a1), (2, vI a2), (3, vI (a3 + (1 : Int32)))]) [1, 2, 3, 0] rfl ?_
    exact hk8 _ _ _ _ H
  · refine zw_icmp_ge (pc := 29) (tgt := 65) dX3_hasSameValues_29 rfl (fun q => absurd q c3) (fun _ => ?_)
    refine zw_iload_n (pc := 32) dX3_hasSameValues_32 rfl 2 rfl ?_
    rcases zif H with ⟨c4, H⟩ | ⟨c4, H⟩
    · refine zw_if_eq (pc := 33) (tgt := 65) dX3_hasSameValues_33 rfl (fun _ => ?_) (fun q => absurd c4 q)
      refine zw_iinc (pc := 65) (v := (a3 + (1 : Int32))) (lv' := [(3, vI (a3 + (1 : Int32))), (0, vR a0), (1, vR a1), (2, vI a2), (4, vI a4)]) dX3_hasSameValues_65 3 rfl rfl (by decide) rfl ?_
      refine zw_goto (pc := 68) (tgt := 8) dX3_hasSameValues_68 rfl ?_
      refine zW_pick (lv' := [(0, vR a0), (1, vR a1), (2, vI a2), (3, vI (a3 + (1 : Int32)))]) [1, 2, 3, 0] rfl ?_
      exact hk8 _ _ _ _ H
    · refine zw_if_eq (pc := 33) (tgt := 65) dX3_hasSameValues_33 rfl (fun q => absurd q c4) (fun _ => ?_)
      refine zw_aload_n (pc := 36) dX3_hasSameValues_36 rfl 0 rfl ?_
      refine zw_iload_n (pc := 37) dX3_hasSameValues_37 rfl 3 rfl ?_
      refine zw_iload (pc := 38) dX3_hasSameValues_38 4 rfl ?_
      obtain ⟨b5, e7, H⟩ := zbind H
      obtain ⟨e6, e8⟩ := zrv_ok e7
      obtain ⟨x10, e9, H⟩ := zbind H
      refine zw_invV (pc := 40) (M' := M_X3_value) (A := [vI a3, vI a4]) [] dX3_hasSameValues_40 (Or.inl q408) mf_X3_value q410 (zkq e8 rfl) (w_X3_value e9) (Nat.le_of_ble_eq_true rfl) rfl (by rw [← e6]; rfl) (Nat.le_of_ble_eq_true rfl) (zkv ?_) zkn9
      refine zw_aload_n (pc := 43) dX3_hasSameValues_43 rfl 1 rfl ?_
      refine zw_iload_n (pc := 44) dX3_hasSameValues_44 rfl 3 rfl ?_
      refine zw_iload (pc := 45) dX3_hasSameValues_45 4 rfl ?_
      obtain ⟨b11, e13, H⟩ := zbind H
      obtain ⟨e12, e14⟩ := zrv_ok e13
      obtain ⟨x16, e15, H⟩ := zbind H
      refine zw_invV (pc := 47) (M' := M_X3_value) (A := [vI a3, vI a4]) [vI x10] dX3_hasSameValues_47 (Or.inl q408) mf_X3_value q410 (zkq e14 rfl) (w_X3_value e15) (Nat.le_of_ble_eq_true rfl) rfl (by rw [← e12]; rfl) (Nat.le_of_ble_eq_true rfl) (zkv ?_) zkn9
      rcases zif H with ⟨c17, H⟩ | ⟨c17, H⟩
      · refine zw_icmp_ne (pc := 50) (tgt := 57) dX3_hasSameValues_50 rfl (fun q => absurd c17 q) (fun _ => ?_)
        refine zw_iconst (pc := 53) (v := (1 : Int32)) dX3_hasSameValues_53 (by decide) ?_
        refine zw_goto (pc := 54) (tgt := 58) dX3_hasSameValues_54 rfl ?_
        refine zw_istore_n (pc := 58) (lv' := [(2, vI (1 : Int32)), (0, vR a0), (1, vR a1), (3, vI a3), (4, vI a4)]) dX3_hasSameValues_58 rfl (by decide) rfl ?_
        refine zw_iinc (pc := 59) (v := (a4 + (1 : Int32))) (lv' := [(4, vI (a4 + (1 : Int32))), (2, vI (1 : Int32)), (0, vR a0), (1, vR a1), (3, vI a3)]) dX3_hasSameValues_59 4 rfl rfl (by decide) rfl ?_
        refine zw_goto (pc := 62) (tgt := 23) dX3_hasSameValues_62 rfl ?_
        refine zW_pick (lv' := [(0, vR a0), (1, vR a1), (2, vI (1 : Int32)), (3, vI a3), (4, vI (a4 + (1 : Int32)))]) [2, 3, 1, 4, 0] rfl ?_
        exact hk23 _ _ _ _ _ H
      · refine zw_icmp_ne (pc := 50) (tgt := 57) dX3_hasSameValues_50 rfl (fun _ => ?_) (fun q => absurd q c17)
        refine zw_iconst (pc := 57) (v := (0 : Int32)) dX3_hasSameValues_57 (by decide) ?_
        refine zw_istore_n (pc := 58) (lv' := [(2, vI (0 : Int32)), (0, vR a0), (1, vR a1), (3, vI a3), (4, vI a4)]) dX3_hasSameValues_58 rfl (by decide) rfl ?_
        refine zw_iinc (pc := 59) (v := (a4 + (1 : Int32))) (lv' := [(4, vI (a4 + (1 : Int32))), (2, vI (0 : Int32)), (0, vR a0), (1, vR a1), (3, vI a3)]) dX3_hasSameValues_59 4 rfl rfl (by decide) rfl ?_
        refine zw_goto (pc := 62) (tgt := 23) dX3_hasSameValues_62 rfl ?_
        refine zW_pick (lv' := [(0, vR a0), (1, vR a1), (2, vI (0 : Int32)), (3, vI a3), (4, vI (a4 + (1 : Int32)))]) [2, 3, 1, 4, 0] rfl ?_
        exact hk23 _ _ _ _ _ H
def B_X3_hasSameValues_8 (k8 : Option Nat → Option Nat → Int32 → Int32 → Option Int32) (a0 : Option Nat) (a1 : Option Nat) (a2 : Int32) (a3 : Int32) (h : zH) : Option Int32 :=
  (zgI 3 0 a0 h).bind fun x1 =>
  if x1 ≤ a3 then
  if a2 = 0 ∨ a2 = 1 then some a2 else none
  else
  if a2 = 0 then
  if a2 = 0 ∨ a2 = 1 then some a2 else none
  else
  zloop (fun f c0 c1 c2 c3 c4 => B_X3_hasSameValues_23 k8 f c0 c1 c2 c3 c4 h) (fun _ _ _ _ _ => none) zFU a0 a1 a2 a3 (0 : Int32)
theorem wB_X3_hasSameValues_8 {G : zG} {h0 h : zH} {vx : Int32} {k8 : Option Nat → Option Nat → Int32 → Int32 → Option Int32} (hk8 : ∀ (b0 : Option Nat) (b1 : Option Nat) (b2 : Int32) (b3 : Int32), k8 b0 b1 b2 b3 = some vx → zW G M_X3_hasSameValues 4 h0 (.inl (some (vI vx))) h 8 [(0, vR b0), (1, vR b1), (2, vI b2), (3, vI b3)] [] h) {a0 : Option Nat} {a1 : Option Nat} {a2 : Int32} {a3 : Int32} (H : B_X3_hasSameValues_8 k8 a0 a1 a2 a3 h = some vx) : zW G M_X3_hasSameValues 4 h0 (.inl (some (vI vx))) h 8 [(0, vR a0), (1, vR a1), (2, vI a2), (3, vI a3)] [] h := by
  unfold B_X3_hasSameValues_8 at H
  refine zw_iload_n (pc := 8) dX3_hasSameValues_8 rfl 3 rfl ?_
  refine zw_aload_n (pc := 9) dX3_hasSameValues_9 rfl 0 rfl ?_
  obtain ⟨x1, e2, H⟩ := zbind H
  refine zy_getI (pc := 10) dX3_hasSameValues_10 lf_X3_14 (fun _ _ => rfl) e2 ?_
  rcases zif H with ⟨c3, H⟩ | ⟨c3, H⟩
  · refine zw_icmp_ge (pc := 13) (tgt := 71) dX3_hasSameValues_13 rfl (fun _ => ?_) (fun q => absurd c3 q)
    refine zw_iload_n (pc := 71) dX3_hasSameValues_71 rfl 2 rfl ?_
    obtain ⟨c4, H⟩ := zgd H
    obtain rfl := Option.some.inj H
    exact zw_zret (pc := 72) dX3_hasSameValues_72 rfl (znarZ c4) rfl rfl
  · refine zw_icmp_ge (pc := 13) (tgt := 71) dX3_hasSameValues_13 rfl (fun q => absurd q c3) (fun _ => ?_)
    refine zw_iload_n (pc := 16) dX3_hasSameValues_16 rfl 2 rfl ?_
    rcases zif H with ⟨c5, H⟩ | ⟨c5, H⟩
    · refine zw_if_eq (pc := 17) (tgt := 71) dX3_hasSameValues_17 rfl (fun _ => ?_) (fun q => absurd c5 q)
      refine zw_iload_n (pc := 71) dX3_hasSameValues_71 rfl 2 rfl ?_
      obtain ⟨c6, H⟩ := zgd H
      obtain rfl := Option.some.inj H
      exact zw_zret (pc := 72) dX3_hasSameValues_72 rfl (znarZ c6) rfl rfl
    · refine zw_if_eq (pc := 17) (tgt := 71) dX3_hasSameValues_17 rfl (fun q => absurd q c5) (fun _ => ?_)
      refine zw_iconst (pc := 20) (v := (0 : Int32)) dX3_hasSameValues_20 (by decide) ?_
      refine zw_istore (pc := 21) (lv' := [(4, vI (0 : Int32)), (0, vR a0), (1, vR a1), (2, vI a2), (3, vI a3)]) dX3_hasSameValues_21 (by decide) rfl ?_
      refine zW_pick (lv' := [(0, vR a0), (1, vR a1), (2, vI a2), (3, vI a3), (4, vI (0 : Int32))]) [1, 2, 3, 4, 0] rfl ?_
      exact zloop_ind (body := (fun f c0 c1 c2 c3 c4 => B_X3_hasSameValues_23 k8 f c0 c1 c2 c3 c4 h)) (bot := (fun _ _ _ _ _ => none)) (P := (fun (f : Option Nat → Option Nat → Int32 → Int32 → Int32 → Option Int32) => ∀ (b0 : Option Nat) (b1 : Option Nat) (b2 : Int32) (b3 : Int32) (b4 : Int32), f b0 b1 b2 b3 b4 = some vx → zW G M_X3_hasSameValues 4 h0 (.inl (some (vI vx))) h 23 [(0, vR b0), (1, vR b1), (2, vI b2), (3, vI b3), (4, vI b4)] [] h)) zFU (fun _ _ _ _ _ H => nomatch H) (fun f hf c0 c1 c2 c3 c4 H => wB_X3_hasSameValues_23 hk8 hf H) _ _ _ _ _ H
def f_X3_hasSameValues (p0 : Option Nat) (p1 : Option Nat) (h : zH) : Option Int32 :=
  (zrv 3 p0 h).bind fun b1 =>
  (f_X3_hasSameShape (some b1) p1 h).bind fun x6 =>
  zloop (fun f c0 c1 c2 c3 => B_X3_hasSameValues_8 f c0 c1 c2 c3 h) (fun _ _ _ _ => none) zFU p0 p1 x6 (0 : Int32)
theorem w_X3_hasSameValues {G : zG} {p0 : Option Nat} {p1 : Option Nat} {h : zH} {vx : Int32} (H : f_X3_hasSameValues p0 p1 h = some vx) : zMet G M_X3_hasSameValues 4 [vR p0, vR p1] h (.inl (some (vI vx))) h := by
  refine zMet.of (by decide +kernel) (Nat.le_of_ble_eq_true rfl) ?_
  show zW G M_X3_hasSameValues 4 h (.inl (some (vI vx))) h 0 [(0, vR p0), (1, vR p1)] [] h
  unfold f_X3_hasSameValues at H
  refine zw_aload_n (pc := 0) dX3_hasSameValues_0 rfl 0 rfl ?_
  refine zw_aload_n (pc := 1) dX3_hasSameValues_1 rfl 1 rfl ?_
  obtain ⟨b1, e3, H⟩ := zbind H
  obtain ⟨e2, e4⟩ := zrv_ok e3
  obtain ⟨x6, e5, H⟩ := zbind H
  refine zw_invV (pc := 2) (M' := M_X3_hasSameShape) (A := [vR p1]) [] dX3_hasSameValues_2 (Or.inl q504) mf_X3_hasSameShape q506 (zkq e4 rfl) (w_X3_hasSameShape e5) (Nat.le_of_ble_eq_true rfl) rfl (by rw [← e2]; rfl) (Nat.le_of_ble_eq_true rfl) (zkv ?_) zkn9
  refine zw_istore_n (pc := 5) (lv' := [(2, vI x6), (0, vR p0), (1, vR p1)]) dX3_hasSameValues_5 rfl (by decide) rfl ?_
  refine zw_iconst (pc := 6) (v := (0 : Int32)) dX3_hasSameValues_6 (by decide) ?_
  refine zw_istore_n (pc := 7) (lv' := [(3, vI (0 : Int32)), (2, vI x6), (0, vR p0), (1, vR p1)]) dX3_hasSameValues_7 rfl (by decide) rfl ?_
  refine zW_pick (lv' := [(0, vR p0), (1, vR p1), (2, vI x6), (3, vI (0 : Int32))]) [2, 3, 1, 0] rfl ?_
  exact zloop_ind (body := (fun f c0 c1 c2 c3 => B_X3_hasSameValues_8 f c0 c1 c2 c3 h)) (bot := (fun _ _ _ _ => none)) (P := (fun (f : Option Nat → Option Nat → Int32 → Int32 → Option Int32) => ∀ (b0 : Option Nat) (b1 : Option Nat) (b2 : Int32) (b3 : Int32), f b0 b1 b2 b3 = some vx → zW G M_X3_hasSameValues 4 h (.inl (some (vI vx))) h 8 [(0, vR b0), (1, vR b1), (2, vI b2), (3, vI b3)] [] h)) zFU (fun _ _ _ _ H => nomatch H) (fun f hf c0 c1 c2 c3 H => wB_X3_hasSameValues_8 hf H) _ _ _ _ H
theorem lm_2 : zLm yX3_times 29 119 2 := ⟨_, rfl, rfl, by decide, by decide +kernel⟩
theorem lm_3 : zLm yX3_times 36 120 3 := ⟨_, rfl, rfl, by decide, by decide +kernel⟩
def M_X3_times : zM := (yX3_times, cX3_times, 2, (.some (.object "CsrCalculator$Csr")), [])
theorem mf_X3_times : zMi M_X3_times 1 := ⟨⟨q523, q182, ⟨by decide +kernel, by decide +kernel⟩, by decide +kernel, by decide⟩, q521⟩
def f_X3_times (p0 : Option Nat) (p1 : Option Nat) (h : zH) : Option ((Option Nat ⊕ Nat) × zH) :=
  (zgI 3 1 p0 h).bind fun x1 =>
  (zgI 3 0 p1 h).bind fun x3 =>
  if x1 = x3 then
  (zgI 3 0 p0 h).bind fun x6 =>
  (zgI 3 1 p1 h).bind fun x8 =>
  zb2 (zlm 2 [vR p0, vR p1] h) fun q10 h11 =>
  zb2 (zlm 3 [vR p0, vR p1] h11) fun q13 h14 =>
  zb3 (f_X3_build x6 x8 (some q10) (some q13) h14) (fun x17 h18 =>
  some (.inl x17, h18))
  (fun q19 h20 =>
  if zk h20 q19 = 7 then
  some (.inr q19, h20)
  else none)
  else
  zb2 (znw 7 h) fun q22 h23 =>
  (some q22).bind fun b25 =>
  (f_X7_init (some b25) h23).bind fun h28 =>
  (some q22).bind fun q29 =>
  if zk h28 q29 = 7 then
  some (.inr q29, h28)
  else none
theorem w_X3_times {G : zG} {p0 : Option Nat} {p1 : Option Nat} {h : zH} {vo : Option Nat ⊕ Nat} {vh : zH} (H : f_X3_times p0 p1 h = some (vo, vh)) : zMet G M_X3_times 8 [vR p0, vR p1] h (zoR vo) vh := by
  refine zMet.of (by decide +kernel) (Nat.le_of_ble_eq_true rfl) ?_
  show zW G M_X3_times 8 h (zoR vo) vh 0 [(0, vR p0), (1, vR p1)] [] h
  unfold f_X3_times at H
  refine zw_aload_n (pc := 0) dX3_times_0 rfl 0 rfl ?_
  obtain ⟨x1, e2, H⟩ := zbind H
  refine zy_getI (pc := 1) dX3_times_1 lf_X3_18 (fun _ _ => rfl) e2 ?_
  refine zw_aload_n (pc := 4) dX3_times_4 rfl 1 rfl ?_
  obtain ⟨x3, e4, H⟩ := zbind H
  refine zy_getI (pc := 5) dX3_times_5 lf_X3_14 (fun _ _ => rfl) e4 ?_
  rcases zif H with ⟨c5, H⟩ | ⟨c5, H⟩
  · refine zw_icmp_eq (pc := 8) (tgt := 19) dX3_times_8 rfl (fun _ => ?_) (fun q => absurd c5 q)
    refine zw_aload_n (pc := 19) dX3_times_19 rfl 0 rfl ?_
    obtain ⟨x6, e7, H⟩ := zbind H
    refine zy_getI (pc := 20) dX3_times_20 lf_X3_14 (fun _ _ => rfl) e7 ?_
    refine zw_aload_n (pc := 23) dX3_times_23 rfl 1 rfl ?_
    obtain ⟨x8, e9, H⟩ := zbind H
    refine zy_getI (pc := 24) dX3_times_24 lf_X3_18 (fun _ _ => rfl) e9 ?_
    refine zw_aload_n (pc := 27) dX3_times_27 rfl 0 rfl ?_
    refine zw_aload_n (pc := 28) dX3_times_28 rfl 1 rfl ?_
    obtain ⟨q10, h11, e12, H⟩ := zbind2 H
    refine zy_lam (pc := 29) (i := 2) (A := [vR p0, vR p1]) [vI x8, vI x6] dX3_times_29 lm_2 (show zokL (zLc 2) [vR p0, vR p1] from (zokL_ref (zokL_ref zokL_nil))) rfl (Nat.le_of_ble_eq_true rfl) e12 ?_
    refine zw_aload_n (pc := 34) dX3_times_34 rfl 0 rfl ?_
    refine zw_aload_n (pc := 35) dX3_times_35 rfl 1 rfl ?_
    obtain ⟨q13, h14, e15, H⟩ := zbind2 H
    refine zy_lam (pc := 36) (i := 3) (A := [vR p0, vR p1]) [vR (some q10), vI x8, vI x6] dX3_times_36 lm_3 (show zokL (zLc 3) [vR p0, vR p1] from (zokL_ref (zokL_ref zokL_nil))) rfl (Nat.le_of_ble_eq_true rfl) e15 ?_
    rcases zbind3 H with ⟨x17, h18, e16, H⟩ | ⟨q19, h20, e16, H⟩
    · refine zw_invS (pc := 41) (M' := M_X3_build) (A := [vI x6, vI x8, vR (some q10), vR (some q13)]) [] dX3_times_41 (Or.inl q412) mf_X3_build (w_X3_build e16) (Nat.le_of_ble_eq_true rfl) rfl rfl (Nat.le_of_ble_eq_true rfl) (zkv ?_) zkn9
      obtain ⟨rfl, rfl⟩ := Prod.mk.inj (Option.some.inj H)
      exact zw_aret (pc := 44) dX3_times_44 rfl (Or.inl ⟨_, rfl⟩) rfl rfl
    · refine zw_invS (pc := 41) (M' := M_X3_build) (A := [vI x6, vI x8, vR (some q10), vR (some q13)]) [] dX3_times_41 (Or.inl q412) mf_X3_build (w_X3_build e16) (Nat.le_of_ble_eq_true rfl) rfl rfl (Nat.le_of_ble_eq_true rfl) zkv0 (zkx ?_)
      rcases zif H with ⟨c21, H⟩ | ⟨c21, H⟩
      · have c21 := c21
        obtain ⟨rfl, rfl⟩ := Prod.mk.inj (Option.some.inj H)
        exact zx_out (zkq c21 rfl) (fun _ hz => nomatch hz) rfl rfl
      cases H
  · refine zw_icmp_eq (pc := 8) (tgt := 19) dX3_times_8 rfl (fun q => absurd q c5) (fun _ => ?_)
    obtain ⟨q22, h23, e24, H⟩ := zbind2 H
    refine zy_new (pc := 11) dX3_times_11 ln_X3_51 e24 ?_
    refine zw_dup (pc := 14) dX3_times_14 rfl ?_
    obtain ⟨b25, e26, H⟩ := zbind H
    obtain ⟨h28, e27, H⟩ := zbind H
    refine zw_invI (pc := 15) (M' := M_X7_init) (A := []) [vR (some q22)] dX3_times_15 (Or.inl q471) mf_X7_init rfl rfl (w_X7_init e27) (Nat.le_of_ble_eq_true rfl) rfl (by rw [← e26]; rfl) (Nat.le_of_ble_eq_true rfl) (zku ?_) zkn9
    obtain ⟨q29, e30, H⟩ := zbind H
    refine zy_athrow (pc := 18) dX3_times_18 e30 ?_
    rcases zif H with ⟨c31, H⟩ | ⟨c31, H⟩
    · have c31 := c31
      obtain ⟨rfl, rfl⟩ := Prod.mk.inj (Option.some.inj H)
      exact zx_out (zkq c31 rfl) (fun _ hz => nomatch hz) rfl rfl
    cases H
def M_X3_equalsDense : zM := (yX3_equalsDense, cX3_equalsDense, 8, (.some .boolean), [])
theorem mf_X3_equalsDense : zMi M_X3_equalsDense 2 := ⟨⟨q541, q182, ⟨by decide +kernel, by decide +kernel⟩, by decide +kernel, by decide⟩, q539⟩
def B_X3_equalsDense_66 (k13 : Option Nat → Option Nat → Option Nat → Int32 → Int32 → Option Int32) (a0 : Option Nat) (a1 : Option Nat) (a2 : Option Nat) (a3 : Int32) (a4 : Int32) (a5 : Int64) (h : zH) : Option Int32 :=
  (zrv 3 a0 h).bind fun b1 =>
  (f_X3_value (some b1) a3 a4 h).bind fun x6 =>
  if a5 = x6.toInt64 then
  k13 a0 a1 a2 a3 (a4 + (1 : Int32))
  else
  some (0 : Int32)
theorem wB_X3_equalsDense_66 {G : zG} {h0 h : zH} {vx : Int32} {k13 : Option Nat → Option Nat → Option Nat → Int32 → Int32 → Option Int32} (hk13 : ∀ (b0 : Option Nat) (b1 : Option Nat) (b2 : Option Nat) (b3 : Int32) (b4 : Int32), k13 b0 b1 b2 b3 b4 = some vx → zW G M_X3_equalsDense 4 h0 (.inl (some (vI vx))) h 13 [(0, vR b0), (1, vR b1), (2, vR b2), (3, vI b3), (4, vI b4)] [] h) {a0 : Option Nat} {a1 : Option Nat} {a2 : Option Nat} {a3 : Int32} {a4 : Int32} {a5 : Int64} (H : B_X3_equalsDense_66 k13 a0 a1 a2 a3 a4 a5 h = some vx) : zW G M_X3_equalsDense 4 h0 (.inl (some (vI vx))) h 66 [(0, vR a0), (1, vR a1), (2, vR a2), (3, vI a3), (4, vI a4), (5, vJ a5)] [] h := by
  unfold B_X3_equalsDense_66 at H
  refine zw_lload (pc := 66) dX3_equalsDense_66 5 rfl ?_
  refine zw_aload_n (pc := 68) dX3_equalsDense_68 rfl 0 rfl ?_
  refine zw_iload_n (pc := 69) dX3_equalsDense_69 rfl 3 rfl ?_
  refine zw_iload (pc := 70) dX3_equalsDense_70 4 rfl ?_
  obtain ⟨b1, e3, H⟩ := zbind H
  obtain ⟨e2, e4⟩ := zrv_ok e3
  obtain ⟨x6, e5, H⟩ := zbind H
  refine zw_invV (pc := 72) (M' := M_X3_value) (A := [vI a3, vI a4]) [vJ a5] dX3_equalsDense_72 (Or.inl q408) mf_X3_value q410 (zkq e4 rfl) (w_X3_value e5) (Nat.le_of_ble_eq_true rfl) rfl (by rw [← e2]; rfl) (Nat.le_of_ble_eq_true rfl) (zkv ?_) zkn9
  refine zw_i2l (pc := 75) dX3_equalsDense_75 ?_
  refine zw_lcmp (pc := 76) dX3_equalsDense_76 ?_
  rcases zif H with ⟨c7, H⟩ | ⟨c7, H⟩
  · refine zw_if_eq (pc := 77) (tgt := 82) dX3_equalsDense_77 rfl (fun _ => ?_) (fun q => absurd (lgc_eq.mpr c7) q)
    refine zw_iinc (pc := 82) (v := (a4 + (1 : Int32))) (lv' := [(4, vI (a4 + (1 : Int32))), (0, vR a0), (1, vR a1), (2, vR a2), (3, vI a3), (5, vJ a5)]) dX3_equalsDense_82 4 rfl rfl (by decide) rfl ?_
    refine zw_goto (pc := 85) (tgt := 13) dX3_equalsDense_85 rfl ?_
    refine zW_pick (lv' := [(0, vR a0), (1, vR a1), (2, vR a2), (3, vI a3), (4, vI (a4 + (1 : Int32)))]) [1, 2, 3, 4, 0] rfl ?_
    exact hk13 _ _ _ _ _ H
  · refine zw_if_eq (pc := 77) (tgt := 82) dX3_equalsDense_77 rfl (fun q => absurd q (fun q => c7 (lgc_eq.mp q))) (fun _ => ?_)
    refine zw_iconst (pc := 80) (v := (0 : Int32)) dX3_equalsDense_80 (by decide) ?_
    obtain rfl := Option.some.inj H
    exact zw_zret (pc := 81) dX3_equalsDense_81 rfl rfl rfl rfl
def B_X3_equalsDense_28 (k13 : Option Nat → Option Nat → Option Nat → Int32 → Int32 → Option Int32) (k28 : Option Nat → Option Nat → Option Nat → Int32 → Int32 → Int64 → Int32 → Option Int32) (a0 : Option Nat) (a1 : Option Nat) (a2 : Option Nat) (a3 : Int32) (a4 : Int32) (a5 : Int64) (a6 : Int32) (h : zH) : Option Int32 :=
  (zgI 3 1 a1 h).bind fun x1 =>
  if x1 ≤ a6 then
  B_X3_equalsDense_66 k13 a0 a1 a2 a3 a4 a5 h
  else
  (zrv 3 a1 h).bind fun b4 =>
  (f_X3_value (some b4) a3 a6 h).bind fun x9 =>
  (zrv 3 a2 h).bind fun b10 =>
  (f_X3_value (some b10) a6 a4 h).bind fun x15 =>
  k28 a0 a1 a2 a3 a4 (a5 + (x9.toInt64 * x15.toInt64)) (a6 + (1 : Int32))
theorem wB_X3_equalsDense_28 {G : zG} {h0 h : zH} {vx : Int32} {k13 : Option Nat → Option Nat → Option Nat → Int32 → Int32 → Option Int32} (hk13 : ∀ (b0 : Option Nat) (b1 : Option Nat) (b2 : Option Nat) (b3 : Int32) (b4 : Int32), k13 b0 b1 b2 b3 b4 = some vx → zW G M_X3_equalsDense 4 h0 (.inl (some (vI vx))) h 13 [(0, vR b0), (1, vR b1), (2, vR b2), (3, vI b3), (4, vI b4)] [] h) {k28 : Option Nat → Option Nat → Option Nat → Int32 → Int32 → Int64 → Int32 → Option Int32} (hk28 : ∀ (b0 : Option Nat) (b1 : Option Nat) (b2 : Option Nat) (b3 : Int32) (b4 : Int32) (b5 : Int64) (b6 : Int32), k28 b0 b1 b2 b3 b4 b5 b6 = some vx → zW G M_X3_equalsDense 4 h0 (.inl (some (vI vx))) h 28 [(0, vR b0), (1, vR b1), (2, vR b2), (3, vI b3), (4, vI b4), (5, vJ b5), (7, vI b6)] [] h) {a0 : Option Nat} {a1 : Option Nat} {a2 : Option Nat} {a3 : Int32} {a4 : Int32} {a5 : Int64} {a6 : Int32} (H : B_X3_equalsDense_28 k13 k28 a0 a1 a2 a3 a4 a5 a6 h = some vx) : zW G M_X3_equalsDense 4 h0 (.inl (some (vI vx))) h 28 [(0, vR a0), (1, vR a1), (2, vR a2), (3, vI a3), (4, vI a4), (5, vJ a5), (7, vI a6)] [] h := by
  unfold B_X3_equalsDense_28 at H
  refine zw_iload (pc := 28) dX3_equalsDense_28 6 rfl ?_
  refine zw_aload_n (pc := 30) dX3_equalsDense_30 rfl 1 rfl ?_
  obtain ⟨x1, e2, H⟩ := zbind H
  refine zy_getI (pc := 31) dX3_equalsDense_31 lf_X3_18 (fun _ _ => rfl) e2 ?_
  rcases zif H with ⟨c3, H⟩ | ⟨c3, H⟩
  · refine zw_icmp_ge (pc := 34) (tgt := 66) dX3_equalsDense_34 rfl (fun _ => ?_) (fun q => absurd c3 q)
    refine zW_pick (lv' := [(0, vR a0), (1, vR a1), (2, vR a2), (3, vI a3), (4, vI a4), (5, vJ a5)]) [0, 1, 2, 3, 4, 5] rfl ?_
    exact wB_X3_equalsDense_66 hk13 H
  · refine zw_icmp_ge (pc := 34) (tgt := 66) dX3_equalsDense_34 rfl (fun q => absurd q c3) (fun _ => ?_)
    refine zw_lload (pc := 37) dX3_equalsDense_37 5 rfl ?_
    refine zw_aload_n (pc := 39) dX3_equalsDense_39 rfl 1 rfl ?_
    refine zw_iload_n (pc := 40) dX3_equalsDense_40 rfl 3 rfl ?_
    refine zw_iload (pc := 41) dX3_equalsDense_41 6 rfl ?_
    obtain ⟨b4, e6, H⟩ := zbind H
    obtain ⟨e5, e7⟩ := zrv_ok e6
    obtain ⟨x9, e8, H⟩ := zbind H
    refine zw_invV (pc := 43) (M' := M_X3_value) (A := [vI a3, vI a6]) [vJ a5] dX3_equalsDense_43 (Or.inl q408) mf_X3_value q410 (zkq e7 rfl) (w_X3_value e8) (Nat.le_of_ble_eq_true rfl) rfl (by rw [← e5]; rfl) (Nat.le_of_ble_eq_true rfl) (zkv ?_) zkn9
    refine zw_i2l (pc := 46) dX3_equalsDense_46 ?_
    refine zw_aload_n (pc := 47) dX3_equalsDense_47 rfl 2 rfl ?_
    refine zw_iload (pc := 48) dX3_equalsDense_48 6 rfl ?_
    refine zw_iload (pc := 50) dX3_equalsDense_50 4 rfl ?_
    obtain ⟨b10, e12, H⟩ := zbind H
    obtain ⟨e11, e13⟩ := zrv_ok e12
    obtain ⟨x15, e14, H⟩ := zbind H
    refine zw_invV (pc := 52) (M' := M_X3_value) (A := [vI a6, vI a4]) [vJ x9.toInt64, vJ a5] dX3_equalsDense_52 (Or.inl q408) mf_X3_value q410 (zkq e13 rfl) (w_X3_value e14) (Nat.le_of_ble_eq_true rfl) rfl (by rw [← e11]; rfl) (Nat.le_of_ble_eq_true rfl) (zkv ?_) zkn9
    refine zw_i2l (pc := 55) dX3_equalsDense_55 ?_
    refine zw_lmul (pc := 56) dX3_equalsDense_56 ?_
    refine zw_ladd (pc := 57) dX3_equalsDense_57 ?_
    refine zw_lstore (pc := 58) (lv' := [(5, vJ (a5 + (x9.toInt64 * x15.toInt64))), (0, vR a0), (1, vR a1), (2, vR a2), (3, vI a3), (4, vI a4), (7, vI a6)]) dX3_equalsDense_58 (by decide) rfl ?_
    refine zw_iinc (pc := 60) (v := (a6 + (1 : Int32))) (lv' := [(7, vI (a6 + (1 : Int32))), (5, vJ (a5 + (x9.toInt64 * x15.toInt64))), (0, vR a0), (1, vR a1), (2, vR a2), (3, vI a3), (4, vI a4)]) dX3_equalsDense_60 6 rfl rfl (by decide) rfl ?_
    refine zw_goto (pc := 63) (tgt := 28) dX3_equalsDense_63 rfl ?_
    refine zW_pick (lv' := [(0, vR a0), (1, vR a1), (2, vR a2), (3, vI a3), (4, vI a4), (5, vJ (a5 + (x9.toInt64 * x15.toInt64))), (7, vI (a6 + (1 : Int32)))]) [2, 3, 4, 5, 6, 1, 0] rfl ?_
    exact hk28 _ _ _ _ _ _ _ H
def B_X3_equalsDense_13 (k2 : Option Nat → Option Nat → Option Nat → Int32 → Option Int32) (k13 : Option Nat → Option Nat → Option Nat → Int32 → Int32 → Option Int32) (a0 : Option Nat) (a1 : Option Nat) (a2 : Option Nat) (a3 : Int32) (a4 : Int32) (h : zH) : Option Int32 :=
  (zgI 3 1 a0 h).bind fun x1 =>
  if x1 ≤ a4 then
  k2 a0 a1 a2 (a3 + (1 : Int32))
  else
  zloop (fun f c0 c1 c2 c3 c4 c5 c6 => B_X3_equalsDense_28 k13 f c0 c1 c2 c3 c4 c5 c6 h) (fun _ _ _ _ _ _ _ => none) zFU a0 a1 a2 a3 a4 (0 : Int64) (0 : Int32)
theorem wB_X3_equalsDense_13 {G : zG} {h0 h : zH} {vx : Int32} {k2 : Option Nat → Option Nat → Option Nat → Int32 → Option Int32} (hk2 : ∀ (b0 : Option Nat) (b1 : Option Nat) (b2 : Option Nat) (b3 : Int32), k2 b0 b1 b2 b3 = some vx → zW G M_X3_equalsDense 4 h0 (.inl (some (vI vx))) h 2 [(0, vR b0), (1, vR b1), (2, vR b2), (3, vI b3)] [] h) {k13 : Option Nat → Option Nat → Option Nat → Int32 → Int32 → Option Int32} (hk13 : ∀ (b0 : Option Nat) (b1 : Option Nat) (b2 : Option Nat) (b3 : Int32) (b4 : Int32), k13 b0 b1 b2 b3 b4 = some vx → zW G M_X3_equalsDense 4 h0 (.inl (some (vI vx))) h 13 [(0, vR b0), (1, vR b1), (2, vR b2), (3, vI b3), (4, vI b4)] [] h) {a0 : Option Nat} {a1 : Option Nat} {a2 : Option Nat} {a3 : Int32} {a4 : Int32} (H : B_X3_equalsDense_13 k2 k13 a0 a1 a2 a3 a4 h = some vx) : zW G M_X3_equalsDense 4 h0 (.inl (some (vI vx))) h 13 [(0, vR a0), (1, vR a1), (2, vR a2), (3, vI a3), (4, vI a4)] [] h := by
  unfold B_X3_equalsDense_13 at H
  refine zw_iload (pc := 13) dX3_equalsDense_13 4 rfl ?_
  refine zw_aload_n (pc := 15) dX3_equalsDense_15 rfl 0 rfl ?_
  obtain ⟨x1, e2, H⟩ := zbind H
  refine zy_getI (pc := 16) dX3_equalsDense_16 lf_X3_18 (fun _ _ => rfl) e2 ?_
  rcases zif H with ⟨c3, H⟩ | ⟨c3, H⟩
  · refine zw_icmp_ge (pc := 19) (tgt := 88) dX3_equalsDense_19 rfl (fun _ => ?_) (fun q => absurd c3 q)
    refine zw_iinc (pc := 88) (v := (a3 + (1 : Int32))) (lv' := [(3, vI (a3 + (1 : Int32))), (0, vR a0), (1, vR a1), (2, vR a2), (4, vI a4)]) dX3_equalsDense_88 3 rfl rfl (by decide) rfl ?_
    refine zw_goto (pc := 91) (tgt := 2) dX3_equalsDense_91 rfl ?_
    refine zW_pick (lv' := [(0, vR a0), (1, vR a1), (2, vR a2), (3, vI (a3 + (1 : Int32)))]) [1, 2, 3, 0] rfl ?_
    exact hk2 _ _ _ _ H
  · refine zw_icmp_ge (pc := 19) (tgt := 88) dX3_equalsDense_19 rfl (fun q => absurd q c3) (fun _ => ?_)
    refine zw_lconst (pc := 22) (v := (0 : Int64)) dX3_equalsDense_22 (by decide) ?_
    refine zw_lstore (pc := 23) (lv' := [(5, vJ (0 : Int64)), (0, vR a0), (1, vR a1), (2, vR a2), (3, vI a3), (4, vI a4)]) dX3_equalsDense_23 (by decide) rfl ?_
    refine zw_iconst (pc := 25) (v := (0 : Int32)) dX3_equalsDense_25 (by decide) ?_
    refine zw_istore (pc := 26) (lv' := [(7, vI (0 : Int32)), (5, vJ (0 : Int64)), (0, vR a0), (1, vR a1), (2, vR a2), (3, vI a3), (4, vI a4)]) dX3_equalsDense_26 (by decide) rfl ?_
    refine zW_pick (lv' := [(0, vR a0), (1, vR a1), (2, vR a2), (3, vI a3), (4, vI a4), (5, vJ (0 : Int64)), (7, vI (0 : Int32))]) [2, 3, 4, 5, 6, 1, 0] rfl ?_
    exact zloop_ind (body := (fun f c0 c1 c2 c3 c4 c5 c6 => B_X3_equalsDense_28 k13 f c0 c1 c2 c3 c4 c5 c6 h)) (bot := (fun _ _ _ _ _ _ _ => none)) (P := (fun (f : Option Nat → Option Nat → Option Nat → Int32 → Int32 → Int64 → Int32 → Option Int32) => ∀ (b0 : Option Nat) (b1 : Option Nat) (b2 : Option Nat) (b3 : Int32) (b4 : Int32) (b5 : Int64) (b6 : Int32), f b0 b1 b2 b3 b4 b5 b6 = some vx → zW G M_X3_equalsDense 4 h0 (.inl (some (vI vx))) h 28 [(0, vR b0), (1, vR b1), (2, vR b2), (3, vI b3), (4, vI b4), (5, vJ b5), (7, vI b6)] [] h)) zFU (fun _ _ _ _ _ _ _ H => nomatch H) (fun f hf c0 c1 c2 c3 c4 c5 c6 H => wB_X3_equalsDense_28 hk13 hf H) _ _ _ _ _ _ _ H
def B_X3_equalsDense_2 (k2 : Option Nat → Option Nat → Option Nat → Int32 → Option Int32) (a0 : Option Nat) (a1 : Option Nat) (a2 : Option Nat) (a3 : Int32) (h : zH) : Option Int32 :=
  (zgI 3 0 a0 h).bind fun x1 =>
  if x1 ≤ a3 then
  some (1 : Int32)
  else
  zloop (fun f c0 c1 c2 c3 c4 => B_X3_equalsDense_13 k2 f c0 c1 c2 c3 c4 h) (fun _ _ _ _ _ => none) zFU a0 a1 a2 a3 (0 : Int32)
theorem wB_X3_equalsDense_2 {G : zG} {h0 h : zH} {vx : Int32} {k2 : Option Nat → Option Nat → Option Nat → Int32 → Option Int32} (hk2 : ∀ (b0 : Option Nat) (b1 : Option Nat) (b2 : Option Nat) (b3 : Int32), k2 b0 b1 b2 b3 = some vx → zW G M_X3_equalsDense 4 h0 (.inl (some (vI vx))) h 2 [(0, vR b0), (1, vR b1), (2, vR b2), (3, vI b3)] [] h) {a0 : Option Nat} {a1 : Option Nat} {a2 : Option Nat} {a3 : Int32} (H : B_X3_equalsDense_2 k2 a0 a1 a2 a3 h = some vx) : zW G M_X3_equalsDense 4 h0 (.inl (some (vI vx))) h 2 [(0, vR a0), (1, vR a1), (2, vR a2), (3, vI a3)] [] h := by
  unfold B_X3_equalsDense_2 at H
  refine zw_iload_n (pc := 2) dX3_equalsDense_2 rfl 3 rfl ?_
  refine zw_aload_n (pc := 3) dX3_equalsDense_3 rfl 0 rfl ?_
  obtain ⟨x1, e2, H⟩ := zbind H
  refine zy_getI (pc := 4) dX3_equalsDense_4 lf_X3_14 (fun _ _ => rfl) e2 ?_
  rcases zif H with ⟨c3, H⟩ | ⟨c3, H⟩
  · refine zw_icmp_ge (pc := 7) (tgt := 94) dX3_equalsDense_7 rfl (fun _ => ?_) (fun q => absurd c3 q)
    refine zw_iconst (pc := 94) (v := (1 : Int32)) dX3_equalsDense_94 (by decide) ?_
    obtain rfl := Option.some.inj H
    exact zw_zret (pc := 95) dX3_equalsDense_95 rfl rfl rfl rfl
  · refine zw_icmp_ge (pc := 7) (tgt := 94) dX3_equalsDense_7 rfl (fun q => absurd q c3) (fun _ => ?_)
    refine zw_iconst (pc := 10) (v := (0 : Int32)) dX3_equalsDense_10 (by decide) ?_
    refine zw_istore (pc := 11) (lv' := [(4, vI (0 : Int32)), (0, vR a0), (1, vR a1), (2, vR a2), (3, vI a3)]) dX3_equalsDense_11 (by decide) rfl ?_
    refine zW_pick (lv' := [(0, vR a0), (1, vR a1), (2, vR a2), (3, vI a3), (4, vI (0 : Int32))]) [1, 2, 3, 4, 0] rfl ?_
    exact zloop_ind (body := (fun f c0 c1 c2 c3 c4 => B_X3_equalsDense_13 k2 f c0 c1 c2 c3 c4 h)) (bot := (fun _ _ _ _ _ => none)) (P := (fun (f : Option Nat → Option Nat → Option Nat → Int32 → Int32 → Option Int32) => ∀ (b0 : Option Nat) (b1 : Option Nat) (b2 : Option Nat) (b3 : Int32) (b4 : Int32), f b0 b1 b2 b3 b4 = some vx → zW G M_X3_equalsDense 4 h0 (.inl (some (vI vx))) h 13 [(0, vR b0), (1, vR b1), (2, vR b2), (3, vI b3), (4, vI b4)] [] h)) zFU (fun _ _ _ _ _ H => nomatch H) (fun f hf c0 c1 c2 c3 c4 H => wB_X3_equalsDense_13 hk2 hf H) _ _ _ _ _ H
def f_X3_equalsDense (p0 : Option Nat) (p1 : Option Nat) (p2 : Option Nat) (h : zH) : Option Int32 :=
  zloop (fun f c0 c1 c2 c3 => B_X3_equalsDense_2 f c0 c1 c2 c3 h) (fun _ _ _ _ => none) zFU p0 p1 p2 (0 : Int32)
theorem w_X3_equalsDense {G : zG} {p0 : Option Nat} {p1 : Option Nat} {p2 : Option Nat} {h : zH} {vx : Int32} (H : f_X3_equalsDense p0 p1 p2 h = some vx) : zMet G M_X3_equalsDense 4 [vR p0, vR p1, vR p2] h (.inl (some (vI vx))) h := by
  refine zMet.of (by decide +kernel) (Nat.le_of_ble_eq_true rfl) ?_
  show zW G M_X3_equalsDense 4 h (.inl (some (vI vx))) h 0 [(0, vR p0), (1, vR p1), (2, vR p2)] [] h
  unfold f_X3_equalsDense at H
  refine zw_iconst (pc := 0) (v := (0 : Int32)) dX3_equalsDense_0 (by decide) ?_
  refine zw_istore_n (pc := 1) (lv' := [(3, vI (0 : Int32)), (0, vR p0), (1, vR p1), (2, vR p2)]) dX3_equalsDense_1 rfl (by decide) rfl ?_
  refine zW_pick (lv' := [(0, vR p0), (1, vR p1), (2, vR p2), (3, vI (0 : Int32))]) [1, 2, 3, 0] rfl ?_
  exact zloop_ind (body := (fun f c0 c1 c2 c3 => B_X3_equalsDense_2 f c0 c1 c2 c3 h)) (bot := (fun _ _ _ _ => none)) (P := (fun (f : Option Nat → Option Nat → Option Nat → Int32 → Option Int32) => ∀ (b0 : Option Nat) (b1 : Option Nat) (b2 : Option Nat) (b3 : Int32), f b0 b1 b2 b3 = some vx → zW G M_X3_equalsDense 4 h (.inl (some (vI vx))) h 2 [(0, vR b0), (1, vR b1), (2, vR b2), (3, vI b3)] [] h)) zFU (fun _ _ _ _ H => nomatch H) (fun f hf c0 c1 c2 c3 H => wB_X3_equalsDense_2 hf H) _ _ _ _ H
theorem lm_4 : zLm yX3_with 11 78 4 := ⟨_, rfl, rfl, by decide, by decide +kernel⟩
theorem lm_5 : zLm yX3_with 20 81 5 := ⟨_, rfl, rfl, by decide, by decide +kernel⟩
def M_X3_with : zM := (yX3_with, cX3_with, 4, (.some (.object "CsrCalculator$Csr")), [])
theorem mf_X3_with : zMi M_X3_with 3 := ⟨⟨q1105, q182, ⟨by decide +kernel, by decide +kernel⟩, by decide +kernel, by decide⟩, q1103⟩
def f_X3_with (p0 : Option Nat) (p1 : Int32) (p2 : Int32) (p3 : Int32) (h : zH) : Option ((Option Nat ⊕ Nat) × zH) :=
  (zgI 3 0 p0 h).bind fun x1 =>
  (zgI 3 1 p0 h).bind fun x3 =>
  zb2 (zlm 4 [vR p0, vI p1, vI p2] h) fun q5 h6 =>
  zb2 (zlm 5 [vR p0, vI p1, vI p2, vI p3] h6) fun q8 h9 =>
  zb3 (f_X3_build x1 x3 (some q5) (some q8) h9) (fun x12 h13 =>
  some (.inl x12, h13))
  (fun q14 h15 =>
  if zk h15 q14 = 7 then
  some (.inr q14, h15)
  else none)
theorem w_X3_with {G : zG} {p0 : Option Nat} {p1 : Int32} {p2 : Int32} {p3 : Int32} {h : zH} {vo : Option Nat ⊕ Nat} {vh : zH} (H : f_X3_with p0 p1 p2 p3 h = some (vo, vh)) : zMet G M_X3_with 8 [vR p0, vI p1, vI p2, vI p3] h (zoR vo) vh := by
  refine zMet.of (by decide +kernel) (Nat.le_of_ble_eq_true rfl) ?_
  show zW G M_X3_with 8 h (zoR vo) vh 0 [(0, vR p0), (1, vI p1), (2, vI p2), (3, vI p3)] [] h
  unfold f_X3_with at H
  refine zw_aload_n (pc := 0) dX3_with_0 rfl 0 rfl ?_
  obtain ⟨x1, e2, H⟩ := zbind H
  refine zy_getI (pc := 1) dX3_with_1 lf_X3_14 (fun _ _ => rfl) e2 ?_
  refine zw_aload_n (pc := 4) dX3_with_4 rfl 0 rfl ?_
  obtain ⟨x3, e4, H⟩ := zbind H
  refine zy_getI (pc := 5) dX3_with_5 lf_X3_18 (fun _ _ => rfl) e4 ?_
  refine zw_aload_n (pc := 8) dX3_with_8 rfl 0 rfl ?_
  refine zw_iload_n (pc := 9) dX3_with_9 rfl 1 rfl ?_
  refine zw_iload_n (pc := 10) dX3_with_10 rfl 2 rfl ?_
  obtain ⟨q5, h6, e7, H⟩ := zbind2 H
  refine zy_lam (pc := 11) (i := 4) (A := [vR p0, vI p1, vI p2]) [vI x3, vI x1] dX3_with_11 lm_4 (show zokL (zLc 4) [vR p0, vI p1, vI p2] from (zokL_ref (zokL_int (zokL_int zokL_nil)))) rfl (Nat.le_of_ble_eq_true rfl) e7 ?_
  refine zw_aload_n (pc := 16) dX3_with_16 rfl 0 rfl ?_
  refine zw_iload_n (pc := 17) dX3_with_17 rfl 1 rfl ?_
  refine zw_iload_n (pc := 18) dX3_with_18 rfl 2 rfl ?_
  refine zw_iload_n (pc := 19) dX3_with_19 rfl 3 rfl ?_
  obtain ⟨q8, h9, e10, H⟩ := zbind2 H
  refine zy_lam (pc := 20) (i := 5) (A := [vR p0, vI p1, vI p2, vI p3]) [vR (some q5), vI x3, vI x1] dX3_with_20 lm_5 (show zokL (zLc 5) [vR p0, vI p1, vI p2, vI p3] from (zokL_ref (zokL_int (zokL_int (zokL_int zokL_nil))))) rfl (Nat.le_of_ble_eq_true rfl) e10 ?_
  rcases zbind3 H with ⟨x12, h13, e11, H⟩ | ⟨q14, h15, e11, H⟩
  · refine zw_invS (pc := 25) (M' := M_X3_build) (A := [vI x1, vI x3, vR (some q5), vR (some q8)]) [] dX3_with_25 (Or.inl q412) mf_X3_build (w_X3_build e11) (Nat.le_of_ble_eq_true rfl) rfl rfl (Nat.le_of_ble_eq_true rfl) (zkv ?_) zkn9
    obtain ⟨rfl, rfl⟩ := Prod.mk.inj (Option.some.inj H)
    exact zw_aret (pc := 28) dX3_with_28 rfl (Or.inl ⟨_, rfl⟩) rfl rfl
  · refine zw_invS (pc := 25) (M' := M_X3_build) (A := [vI x1, vI x3, vR (some q5), vR (some q8)]) [] dX3_with_25 (Or.inl q412) mf_X3_build (w_X3_build e11) (Nat.le_of_ble_eq_true rfl) rfl rfl (Nat.le_of_ble_eq_true rfl) zkv0 (zkx ?_)
    rcases zif H with ⟨c16, H⟩ | ⟨c16, H⟩
    · have c16 := c16
      obtain ⟨rfl, rfl⟩ := Prod.mk.inj (Option.some.inj H)
      exact zx_out (zkq c16 rfl) (fun _ hz => nomatch hz) rfl rfl
    cases H
theorem lm_6 : zLk yX3_unit 2 106 6 := ⟨_, rfl, rfl⟩
theorem lm_7 : zLk yX3_unit 7 109 7 := ⟨_, rfl, rfl⟩
def M_X3_unit : zM := (yX3_unit, cX3_unit, 1, (.some (.object "CsrCalculator$Csr")), [])
theorem mf_X3_unit : zMs M_X3_unit 1 := ⟨⟨q1351, q182, ⟨by decide +kernel, by decide +kernel⟩, by decide +kernel, by decide⟩, q1350⟩
def f_X3_unit (p0 : Int32) (h : zH) : Option ((Option Nat ⊕ Nat) × zH) :=
  (zsv h 56).bind fun x1 =>
  (zsv h 57).bind fun x3 =>
  zb3 (f_X3_build p0 p0 (some x1) (some x3) h) (fun x6 h7 =>
  some (.inl x6, h7))
  (fun q8 h9 =>
  if zk h9 q8 = 7 then
  some (.inr q8, h9)
  else none)
theorem w_X3_unit {G : zG} {p0 : Int32} {h : zH} {vo : Option Nat ⊕ Nat} {vh : zH} (H : f_X3_unit p0 h = some (vo, vh)) : zMet G M_X3_unit 8 [vI p0] h (zoR vo) vh := by
  refine zMet.of (by decide +kernel) (Nat.le_of_ble_eq_true rfl) ?_
  show zW G M_X3_unit 8 h (zoR vo) vh 0 [(0, vI p0)] [] h
  unfold f_X3_unit at H
  refine zw_iload_n (pc := 0) dX3_unit_0 rfl 0 rfl ?_
  refine zw_iload_n (pc := 1) dX3_unit_1 rfl 0 rfl ?_
  obtain ⟨x1, e2, H⟩ := zbind H
  refine zy_lamC (pc := 2) (i := 6) dX3_unit_2 lm_6 (Nat.le_of_ble_eq_true rfl) e2 ?_
  obtain ⟨x3, e4, H⟩ := zbind H
  refine zy_lamC (pc := 7) (i := 7) dX3_unit_7 lm_7 (Nat.le_of_ble_eq_true rfl) e4 ?_
  rcases zbind3 H with ⟨x6, h7, e5, H⟩ | ⟨q8, h9, e5, H⟩
  · refine zw_invS (pc := 12) (M' := M_X3_build) (A := [vI p0, vI p0, vR (some x1), vR (some x3)]) [] dX3_unit_12 (Or.inl q412) mf_X3_build (w_X3_build e5) (Nat.le_of_ble_eq_true rfl) rfl rfl (Nat.le_of_ble_eq_true rfl) (zkv ?_) zkn9
    obtain ⟨rfl, rfl⟩ := Prod.mk.inj (Option.some.inj H)
    exact zw_aret (pc := 15) dX3_unit_15 rfl (Or.inl ⟨_, rfl⟩) rfl rfl
  · refine zw_invS (pc := 12) (M' := M_X3_build) (A := [vI p0, vI p0, vR (some x1), vR (some x3)]) [] dX3_unit_12 (Or.inl q412) mf_X3_build (w_X3_build e5) (Nat.le_of_ble_eq_true rfl) rfl rfl (Nat.le_of_ble_eq_true rfl) zkv0 (zkx ?_)
    rcases zif H with ⟨c10, H⟩ | ⟨c10, H⟩
    · have c10 := c10
      obtain ⟨rfl, rfl⟩ := Prod.mk.inj (Option.some.inj H)
      exact zx_out (zkq c10 rfl) (fun _ hz => nomatch hz) rfl rfl
    cases H
theorem lm_8 : zLm yX3_scaled 9 102 8 := ⟨_, rfl, rfl, by decide, by decide +kernel⟩
theorem lm_9 : zLm yX3_scaled 16 103 9 := ⟨_, rfl, rfl, by decide, by decide +kernel⟩
def M_X3_scaled : zM := (yX3_scaled, cX3_scaled, 2, (.some (.object "CsrCalculator$Csr")), [])
theorem mf_X3_scaled : zMi M_X3_scaled 1 := ⟨⟨q1367, q182, ⟨by decide +kernel, by decide +kernel⟩, by decide +kernel, by decide⟩, q1365⟩
def f_X3_scaled (p0 : Option Nat) (p1 : Int32) (h : zH) : Option ((Option Nat ⊕ Nat) × zH) :=
  (zgI 3 0 p0 h).bind fun x1 =>
  (zgI 3 1 p0 h).bind fun x3 =>
  zb2 (zlm 8 [vR p0] h) fun q5 h6 =>
  zb2 (zlm 9 [vR p0, vI p1] h6) fun q8 h9 =>
  zb3 (f_X3_build x1 x3 (some q5) (some q8) h9) (fun x12 h13 =>
  some (.inl x12, h13))
  (fun q14 h15 =>
  if zk h15 q14 = 7 then
  some (.inr q14, h15)
  else none)
theorem w_X3_scaled {G : zG} {p0 : Option Nat} {p1 : Int32} {h : zH} {vo : Option Nat ⊕ Nat} {vh : zH} (H : f_X3_scaled p0 p1 h = some (vo, vh)) : zMet G M_X3_scaled 8 [vR p0, vI p1] h (zoR vo) vh := by
  refine zMet.of (by decide +kernel) (Nat.le_of_ble_eq_true rfl) ?_
  show zW G M_X3_scaled 8 h (zoR vo) vh 0 [(0, vR p0), (1, vI p1)] [] h
  unfold f_X3_scaled at H
  refine zw_aload_n (pc := 0) dX3_scaled_0 rfl 0 rfl ?_
  obtain ⟨x1, e2, H⟩ := zbind H
  refine zy_getI (pc := 1) dX3_scaled_1 lf_X3_14 (fun _ _ => rfl) e2 ?_
  refine zw_aload_n (pc := 4) dX3_scaled_4 rfl 0 rfl ?_
  obtain ⟨x3, e4, H⟩ := zbind H
  refine zy_getI (pc := 5) dX3_scaled_5 lf_X3_18 (fun _ _ => rfl) e4 ?_
  refine zw_aload_n (pc := 8) dX3_scaled_8 rfl 0 rfl ?_
  obtain ⟨q5, h6, e7, H⟩ := zbind2 H
  refine zy_lam (pc := 9) (i := 8) (A := [vR p0]) [vI x3, vI x1] dX3_scaled_9 lm_8 (show zokL (zLc 8) [vR p0] from (zokL_ref zokL_nil)) rfl (Nat.le_of_ble_eq_true rfl) e7 ?_
  refine zw_aload_n (pc := 14) dX3_scaled_14 rfl 0 rfl ?_
  refine zw_iload_n (pc := 15) dX3_scaled_15 rfl 1 rfl ?_
  obtain ⟨q8, h9, e10, H⟩ := zbind2 H
  refine zy_lam (pc := 16) (i := 9) (A := [vR p0, vI p1]) [vR (some q5), vI x3, vI x1] dX3_scaled_16 lm_9 (show zokL (zLc 9) [vR p0, vI p1] from (zokL_ref (zokL_int zokL_nil))) rfl (Nat.le_of_ble_eq_true rfl) e10 ?_
  rcases zbind3 H with ⟨x12, h13, e11, H⟩ | ⟨q14, h15, e11, H⟩
  · refine zw_invS (pc := 21) (M' := M_X3_build) (A := [vI x1, vI x3, vR (some q5), vR (some q8)]) [] dX3_scaled_21 (Or.inl q412) mf_X3_build (w_X3_build e11) (Nat.le_of_ble_eq_true rfl) rfl rfl (Nat.le_of_ble_eq_true rfl) (zkv ?_) zkn9
    obtain ⟨rfl, rfl⟩ := Prod.mk.inj (Option.some.inj H)
    exact zw_aret (pc := 24) dX3_scaled_24 rfl (Or.inl ⟨_, rfl⟩) rfl rfl
  · refine zw_invS (pc := 21) (M' := M_X3_build) (A := [vI x1, vI x3, vR (some q5), vR (some q8)]) [] dX3_scaled_21 (Or.inl q412) mf_X3_build (w_X3_build e11) (Nat.le_of_ble_eq_true rfl) rfl rfl (Nat.le_of_ble_eq_true rfl) zkv0 (zkx ?_)
    rcases zif H with ⟨c16, H⟩ | ⟨c16, H⟩
    · have c16 := c16
      obtain ⟨rfl, rfl⟩ := Prod.mk.inj (Option.some.inj H)
      exact zx_out (zkq c16 rfl) (fun _ hz => nomatch hz) rfl rfl
    cases H
theorem lm_10 : zLm yX3_joined 26 112 10 := ⟨_, rfl, rfl, by decide, by decide +kernel⟩
theorem lm_11 : zLm yX3_joined 34 115 11 := ⟨_, rfl, rfl, by decide, by decide +kernel⟩
def M_X3_joined : zM := (yX3_joined, cX3_joined, 3, (.some (.object "CsrCalculator$Csr")), [])
theorem mf_X3_joined : zMi M_X3_joined 2 := ⟨⟨q1410, q182, ⟨by decide +kernel, by decide +kernel⟩, by decide +kernel, by decide⟩, q1408⟩
def f_X3_joined (p0 : Option Nat) (p1 : Option Nat) (p2 : Option Nat) (h : zH) : Option ((Option Nat ⊕ Nat) × zH) :=
  (zrv 3 p0 h).bind fun b1 =>
  (f_X3_hasSameShape (some b1) p2 h).bind fun x6 =>
  if x6 = 0 then
  zb2 (znw 7 h) fun q24 h25 =>
  (some q24).bind fun b27 =>
  (f_X7_init (some b27) h25).bind fun h30 =>
  (some q24).bind fun q31 =>
  if zk h30 q31 = 7 then
  some (.inr q31, h30)
  else none
  else
  (zgI 3 0 p0 h).bind fun x8 =>
  (zgI 3 1 p0 h).bind fun x10 =>
  zb2 (zlm 10 [vR p0, vR p2] h) fun q12 h13 =>
  zb2 (zlm 11 [vR p0, vR p1, vR p2] h13) fun q15 h16 =>
  zb3 (f_X3_build x8 x10 (some q12) (some q15) h16) (fun x19 h20 =>
  some (.inl x19, h20))
  (fun q21 h22 =>
  if zk h22 q21 = 7 then
  some (.inr q21, h22)
  else none)
theorem w_X3_joined {G : zG} {p0 : Option Nat} {p1 : Option Nat} {p2 : Option Nat} {h : zH} {vo : Option Nat ⊕ Nat} {vh : zH} (H : f_X3_joined p0 p1 p2 h = some (vo, vh)) : zMet G M_X3_joined 8 [vR p0, vR p1, vR p2] h (zoR vo) vh := by
  refine zMet.of (by decide +kernel) (Nat.le_of_ble_eq_true rfl) ?_
  show zW G M_X3_joined 8 h (zoR vo) vh 0 [(0, vR p0), (1, vR p1), (2, vR p2)] [] h
  unfold f_X3_joined at H
  refine zw_aload_n (pc := 0) dX3_joined_0 rfl 0 rfl ?_
  refine zw_aload_n (pc := 1) dX3_joined_1 rfl 2 rfl ?_
  obtain ⟨b1, e3, H⟩ := zbind H
  obtain ⟨e2, e4⟩ := zrv_ok e3
  obtain ⟨x6, e5, H⟩ := zbind H
  refine zw_invV (pc := 2) (M' := M_X3_hasSameShape) (A := [vR p2]) [] dX3_joined_2 (Or.inl q504) mf_X3_hasSameShape q506 (zkq e4 rfl) (w_X3_hasSameShape e5) (Nat.le_of_ble_eq_true rfl) rfl (by rw [← e2]; rfl) (Nat.le_of_ble_eq_true rfl) (zkv ?_) zkn9
  rcases zif H with ⟨c7, H⟩ | ⟨c7, H⟩
  · refine zw_if_ne (pc := 5) (tgt := 16) dX3_joined_5 rfl (fun q => absurd c7 q) (fun _ => ?_)
    obtain ⟨q24, h25, e26, H⟩ := zbind2 H
    refine zy_new (pc := 8) dX3_joined_8 ln_X3_51 e26 ?_
    refine zw_dup (pc := 11) dX3_joined_11 rfl ?_
    obtain ⟨b27, e28, H⟩ := zbind H
    obtain ⟨h30, e29, H⟩ := zbind H
    refine zw_invI (pc := 12) (M' := M_X7_init) (A := []) [vR (some q24)] dX3_joined_12 (Or.inl q471) mf_X7_init rfl rfl (w_X7_init e29) (Nat.le_of_ble_eq_true rfl) rfl (by rw [← e28]; rfl) (Nat.le_of_ble_eq_true rfl) (zku ?_) zkn9
    obtain ⟨q31, e32, H⟩ := zbind H
    refine zy_athrow (pc := 15) dX3_joined_15 e32 ?_
    rcases zif H with ⟨c33, H⟩ | ⟨c33, H⟩
    · have c33 := c33
      obtain ⟨rfl, rfl⟩ := Prod.mk.inj (Option.some.inj H)
      exact zx_out (zkq c33 rfl) (fun _ hz => nomatch hz) rfl rfl
    cases H
  · refine zw_if_ne (pc := 5) (tgt := 16) dX3_joined_5 rfl (fun _ => ?_) (fun q => absurd q c7)
    refine zw_aload_n (pc := 16) dX3_joined_16 rfl 0 rfl ?_
    obtain ⟨x8, e9, H⟩ := zbind H
    refine zy_getI (pc := 17) dX3_joined_17 lf_X3_14 (fun _ _ => rfl) e9 ?_
    refine zw_aload_n (pc := 20) dX3_joined_20 rfl 0 rfl ?_
    obtain ⟨x10, e11, H⟩ := zbind H
    refine zy_getI (pc := 21) dX3_joined_21 lf_X3_18 (fun _ _ => rfl) e11 ?_
    refine zw_aload_n (pc := 24) dX3_joined_24 rfl 0 rfl ?_
    refine zw_aload_n (pc := 25) dX3_joined_25 rfl 2 rfl ?_
    obtain ⟨q12, h13, e14, H⟩ := zbind2 H
    refine zy_lam (pc := 26) (i := 10) (A := [vR p0, vR p2]) [vI x10, vI x8] dX3_joined_26 lm_10 (show zokL (zLc 10) [vR p0, vR p2] from (zokL_ref (zokL_ref zokL_nil))) rfl (Nat.le_of_ble_eq_true rfl) e14 ?_
    refine zw_aload_n (pc := 31) dX3_joined_31 rfl 0 rfl ?_
    refine zw_aload_n (pc := 32) dX3_joined_32 rfl 1 rfl ?_
    refine zw_aload_n (pc := 33) dX3_joined_33 rfl 2 rfl ?_
    obtain ⟨q15, h16, e17, H⟩ := zbind2 H
    refine zy_lam (pc := 34) (i := 11) (A := [vR p0, vR p1, vR p2]) [vR (some q12), vI x10, vI x8] dX3_joined_34 lm_11 (show zokL (zLc 11) [vR p0, vR p1, vR p2] from (zokL_ref (zokL_ref (zokL_ref zokL_nil)))) rfl (Nat.le_of_ble_eq_true rfl) e17 ?_
    rcases zbind3 H with ⟨x19, h20, e18, H⟩ | ⟨q21, h22, e18, H⟩
    · refine zw_invS (pc := 39) (M' := M_X3_build) (A := [vI x8, vI x10, vR (some q12), vR (some q15)]) [] dX3_joined_39 (Or.inl q412) mf_X3_build (w_X3_build e18) (Nat.le_of_ble_eq_true rfl) rfl rfl (Nat.le_of_ble_eq_true rfl) (zkv ?_) zkn9
      obtain ⟨rfl, rfl⟩ := Prod.mk.inj (Option.some.inj H)
      exact zw_aret (pc := 42) dX3_joined_42 rfl (Or.inl ⟨_, rfl⟩) rfl rfl
    · refine zw_invS (pc := 39) (M' := M_X3_build) (A := [vI x8, vI x10, vR (some q12), vR (some q15)]) [] dX3_joined_39 (Or.inl q412) mf_X3_build (w_X3_build e18) (Nat.le_of_ble_eq_true rfl) rfl rfl (Nat.le_of_ble_eq_true rfl) zkv0 (zkx ?_)
      rcases zif H with ⟨c23, H⟩ | ⟨c23, H⟩
      · have c23 := c23
        obtain ⟨rfl, rfl⟩ := Prod.mk.inj (Option.some.inj H)
        exact zx_out (zkq c23 rfl) (fun _ hz => nomatch hz) rfl rfl
      cases H
def M_X3_rowLength : zM := (yX3_rowLength, cX3_rowLength, 2, (.some .int), [])
theorem mf_X3_rowLength : zMi M_X3_rowLength 1 := ⟨⟨q1439, q182, ⟨by decide +kernel, by decide +kernel⟩, by decide +kernel, by decide⟩, q1437⟩
def f_X3_rowLength (p0 : Option Nat) (p1 : Int32) (h : zH) : Option Int32 :=
  (zgR 3 2 p0 h).bind fun x1 =>
  (zaI 50 x1 (p1 + (1 : Int32)) h).bind fun x3 =>
  (zgR 3 2 p0 h).bind fun x5 =>
  (zaI 50 x5 p1 h).bind fun x7 =>
  some (x3 - x7)
theorem w_X3_rowLength {G : zG} {p0 : Option Nat} {p1 : Int32} {h : zH} {vx : Int32} (H : f_X3_rowLength p0 p1 h = some vx) : zMet G M_X3_rowLength 2 [vR p0, vI p1] h (.inl (some (vI vx))) h := by
  refine zMet.of (by decide +kernel) (Nat.le_of_ble_eq_true rfl) ?_
  show zW G M_X3_rowLength 2 h (.inl (some (vI vx))) h 0 [(0, vR p0), (1, vI p1)] [] h
  unfold f_X3_rowLength at H
  refine zw_aload_n (pc := 0) dX3_rowLength_0 rfl 0 rfl ?_
  obtain ⟨x1, e2, H⟩ := zbind H
  refine zy_getR (pc := 1) dX3_rowLength_1 lf_X3_21 (fun _ _ => rfl) e2 ?_
  refine zw_iload_n (pc := 4) dX3_rowLength_4 rfl 1 rfl ?_
  refine zw_iconst (pc := 5) (v := (1 : Int32)) dX3_rowLength_5 (by decide) ?_
  refine zw_iadd (pc := 6) dX3_rowLength_6 ?_
  obtain ⟨x3, e4, H⟩ := zbind H
  refine zy_iald (pc := 7) dX3_rowLength_7 e4 ?_
  refine zw_aload_n (pc := 8) dX3_rowLength_8 rfl 0 rfl ?_
  obtain ⟨x5, e6, H⟩ := zbind H
  refine zy_getR (pc := 9) dX3_rowLength_9 lf_X3_21 (fun _ _ => rfl) e6 ?_
  refine zw_iload_n (pc := 12) dX3_rowLength_12 rfl 1 rfl ?_
  obtain ⟨x7, e8, H⟩ := zbind H
  refine zy_iald (pc := 13) dX3_rowLength_13 e8 ?_
  refine zw_isub (pc := 14) dX3_rowLength_14 ?_
  obtain rfl := Option.some.inj H
  exact zw_iret (pc := 15) dX3_rowLength_15 rfl rfl rfl
def M_X3_workWith : zM := (yX3_workWith, cX3_workWith, 7, (.some .int), [])
theorem mf_X3_workWith : zMi M_X3_workWith 1 := ⟨⟨q1435, q182, ⟨by decide +kernel, by decide +kernel⟩, by decide +kernel, by decide⟩, q1433⟩
def B_X3_workWith_14 (k14 : Option Nat → Int32 → Option Nat → Int32 → Int32 → Option Int32) (a0 : Option Nat) (a1 : Int32) (a2 : Option Nat) (a3 : Int32) (a4 : Int32) (h : zH) : Option Int32 :=
  if a3 ≤ a4 then
  some a1
  else
  (zaI 50 a2 a4 h).bind fun x2 =>
  (zrv 3 a0 h).bind fun b4 =>
  (f_X3_rowLength (some b4) x2 h).bind fun x9 =>
  k14 a0 (a1 + x9) a2 a3 (a4 + (1 : Int32))
theorem wB_X3_workWith_14 {G : zG} {h0 h : zH} {vx : Int32} {k14 : Option Nat → Int32 → Option Nat → Int32 → Int32 → Option Int32} (hk14 : ∀ (b0 : Option Nat) (b1 : Int32) (b2 : Option Nat) (b3 : Int32) (b4 : Int32), k14 b0 b1 b2 b3 b4 = some vx → zW G M_X3_workWith 3 h0 (.inl (some (vI vx))) h 14 [(1, vR b0), (2, vI b1), (3, vR b2), (4, vI b3), (5, vI b4)] [] h) {a0 : Option Nat} {a1 : Int32} {a2 : Option Nat} {a3 : Int32} {a4 : Int32} (H : B_X3_workWith_14 k14 a0 a1 a2 a3 a4 h = some vx) : zW G M_X3_workWith 3 h0 (.inl (some (vI vx))) h 14 [(1, vR a0), (2, vI a1), (3, vR a2), (4, vI a3), (5, vI a4)] [] h := by
  unfold B_X3_workWith_14 at H
  refine zw_iload (pc := 14) dX3_workWith_14 4 rfl ?_
  refine zw_iload (pc := 16) dX3_workWith_16 3 rfl ?_
  rcases zif H with ⟨c1, H⟩ | ⟨c1, H⟩
  · refine zw_icmp_ge (pc := 18) (tgt := 42) dX3_workWith_18 rfl (fun _ => ?_) (fun q => absurd c1 q)
    refine zw_iload_n (pc := 42) dX3_workWith_42 rfl 1 rfl ?_
    obtain rfl := Option.some.inj H
    exact zw_iret (pc := 43) dX3_workWith_43 rfl rfl rfl
  · refine zw_icmp_ge (pc := 18) (tgt := 42) dX3_workWith_18 rfl (fun q => absurd q c1) (fun _ => ?_)
    refine zw_aload_n (pc := 21) dX3_workWith_21 rfl 2 rfl ?_
    refine zw_iload (pc := 22) dX3_workWith_22 4 rfl ?_
    obtain ⟨x2, e3, H⟩ := zbind H
    refine zy_iald (pc := 24) dX3_workWith_24 e3 ?_
    refine zw_istore (pc := 25) (lv' := [(6, vI x2), (1, vR a0), (2, vI a1), (3, vR a2), (4, vI a3), (5, vI a4)]) dX3_workWith_25 (by decide) rfl ?_
    refine zw_iload_n (pc := 27) dX3_workWith_27 rfl 2 rfl ?_
    refine zw_aload_n (pc := 28) dX3_workWith_28 rfl 1 rfl ?_
    refine zw_iload (pc := 29) dX3_workWith_29 0 rfl ?_
    obtain ⟨b4, e6, H⟩ := zbind H
    obtain ⟨e5, e7⟩ := zrv_ok e6
    obtain ⟨x9, e8, H⟩ := zbind H
    refine zw_invV (pc := 31) (M' := M_X3_rowLength) (A := [vI x2]) [vI a1] dX3_workWith_31 (Or.inl q1436) mf_X3_rowLength q1438 (zkq e7 rfl) (w_X3_rowLength e8) (Nat.le_of_ble_eq_true rfl) rfl (by rw [← e5]; rfl) (Nat.le_of_ble_eq_true rfl) (zkv ?_) zkn9
    refine zw_iadd (pc := 34) dX3_workWith_34 ?_
    refine zw_istore_n (pc := 35) (lv' := [(2, vI (a1 + x9)), (6, vI x2), (1, vR a0), (3, vR a2), (4, vI a3), (5, vI a4)]) dX3_workWith_35 rfl (by decide) rfl ?_
    refine zw_iinc (pc := 36) (v := (a4 + (1 : Int32))) (lv' := [(5, vI (a4 + (1 : Int32))), (2, vI (a1 + x9)), (6, vI x2), (1, vR a0), (3, vR a2), (4, vI a3)]) dX3_workWith_36 5 rfl rfl (by decide) rfl ?_
    refine zw_goto (pc := 39) (tgt := 14) dX3_workWith_39 rfl ?_
    refine zW_pick (lv' := [(1, vR a0), (2, vI (a1 + x9)), (3, vR a2), (4, vI a3), (5, vI (a4 + (1 : Int32)))]) [3, 1, 4, 5, 0] rfl ?_
    exact hk14 _ _ _ _ _ H
def f_X3_workWith (p0 : Option Nat) (p1 : Option Nat) (h : zH) : Option Int32 :=
  (zgR 3 3 p0 h).bind fun x1 =>
  (zaN x1 h).bind fun x3 =>
  zloop (fun f c0 c1 c2 c3 c4 => B_X3_workWith_14 f c0 c1 c2 c3 c4 h) (fun _ _ _ _ _ => none) zFU p1 (0 : Int32) x1 x3 (0 : Int32)
theorem w_X3_workWith {G : zG} {p0 : Option Nat} {p1 : Option Nat} {h : zH} {vx : Int32} (H : f_X3_workWith p0 p1 h = some vx) : zMet G M_X3_workWith 3 [vR p0, vR p1] h (.inl (some (vI vx))) h := by
  refine zMet.of (by decide +kernel) (Nat.le_of_ble_eq_true rfl) ?_
  show zW G M_X3_workWith 3 h (.inl (some (vI vx))) h 0 [(0, vR p0), (1, vR p1)] [] h
  unfold f_X3_workWith at H
  refine zw_iconst (pc := 0) (v := (0 : Int32)) dX3_workWith_0 (by decide) ?_
  refine zw_istore_n (pc := 1) (lv' := [(2, vI (0 : Int32)), (0, vR p0), (1, vR p1)]) dX3_workWith_1 rfl (by decide) rfl ?_
  refine zw_aload_n (pc := 2) dX3_workWith_2 rfl 1 rfl ?_
  obtain ⟨x1, e2, H⟩ := zbind H
  refine zy_getR (pc := 3) dX3_workWith_3 lf_X3_25 (fun _ _ => rfl) e2 ?_
  refine zw_astore_n (pc := 6) (lv' := [(3, vR x1), (2, vI (0 : Int32)), (0, vR p0), (1, vR p1)]) dX3_workWith_6 rfl (by decide) rfl ?_
  refine zw_aload_n (pc := 7) dX3_workWith_7 rfl 0 rfl ?_
  obtain ⟨x3, e4, H⟩ := zbind H
  refine zy_alen (pc := 8) dX3_workWith_8 e4 ?_
  refine zw_istore (pc := 9) (lv' := [(4, vI x3), (3, vR x1), (2, vI (0 : Int32)), (0, vR p0), (1, vR p1)]) dX3_workWith_9 (by decide) rfl ?_
  refine zw_iconst (pc := 11) (v := (0 : Int32)) dX3_workWith_11 (by decide) ?_
  refine zw_istore (pc := 12) (lv' := [(5, vI (0 : Int32)), (4, vI x3), (3, vR x1), (2, vI (0 : Int32)), (0, vR p0), (1, vR p1)]) dX3_workWith_12 (by decide) rfl ?_
  refine zW_pick (lv' := [(1, vR p1), (2, vI (0 : Int32)), (3, vR x1), (4, vI x3), (5, vI (0 : Int32))]) [5, 3, 2, 1, 0] rfl ?_
  exact zloop_ind (body := (fun f c0 c1 c2 c3 c4 => B_X3_workWith_14 f c0 c1 c2 c3 c4 h)) (bot := (fun _ _ _ _ _ => none)) (P := (fun (f : Option Nat → Int32 → Option Nat → Int32 → Int32 → Option Int32) => ∀ (b0 : Option Nat) (b1 : Int32) (b2 : Option Nat) (b3 : Int32) (b4 : Int32), f b0 b1 b2 b3 b4 = some vx → zW G M_X3_workWith 3 h (.inl (some (vI vx))) h 14 [(1, vR b0), (2, vI b1), (3, vR b2), (4, vI b3), (5, vI b4)] [] h)) zFU (fun _ _ _ _ _ H => nomatch H) (fun f hf c0 c1 c2 c3 c4 H => wB_X3_workWith_14 hf H) _ _ _ _ _ H
theorem lm_12 : zLm yX3_withoutZeros 9 92 12 := ⟨_, rfl, rfl, by decide, by decide +kernel⟩
theorem lm_13 : zLm yX3_withoutZeros 15 95 13 := ⟨_, rfl, rfl, by decide, by decide +kernel⟩
def M_X3_withoutZeros : zM := (yX3_withoutZeros, cX3_withoutZeros, 1, (.some (.object "CsrCalculator$Csr")), [])
theorem mf_X3_withoutZeros : zMi M_X3_withoutZeros 0 := ⟨⟨q1444, q182, ⟨by decide +kernel, by decide +kernel⟩, by decide +kernel, by decide⟩, q1442⟩
def f_X3_withoutZeros (p0 : Option Nat) (h : zH) : Option ((Option Nat ⊕ Nat) × zH) :=
  (zgI 3 0 p0 h).bind fun x1 =>
  (zgI 3 1 p0 h).bind fun x3 =>
  zb2 (zlm 12 [vR p0] h) fun q5 h6 =>
  zb2 (zlm 13 [vR p0] h6) fun q8 h9 =>
  zb3 (f_X3_build x1 x3 (some q5) (some q8) h9) (fun x12 h13 =>
  some (.inl x12, h13))
  (fun q14 h15 =>
  if zk h15 q14 = 7 then
  some (.inr q14, h15)
  else none)
theorem w_X3_withoutZeros {G : zG} {p0 : Option Nat} {h : zH} {vo : Option Nat ⊕ Nat} {vh : zH} (H : f_X3_withoutZeros p0 h = some (vo, vh)) : zMet G M_X3_withoutZeros 8 [vR p0] h (zoR vo) vh := by
  refine zMet.of (by decide +kernel) (Nat.le_of_ble_eq_true rfl) ?_
  show zW G M_X3_withoutZeros 8 h (zoR vo) vh 0 [(0, vR p0)] [] h
  unfold f_X3_withoutZeros at H
  refine zw_aload_n (pc := 0) dX3_withoutZeros_0 rfl 0 rfl ?_
  obtain ⟨x1, e2, H⟩ := zbind H
  refine zy_getI (pc := 1) dX3_withoutZeros_1 lf_X3_14 (fun _ _ => rfl) e2 ?_
  refine zw_aload_n (pc := 4) dX3_withoutZeros_4 rfl 0 rfl ?_
  obtain ⟨x3, e4, H⟩ := zbind H
  refine zy_getI (pc := 5) dX3_withoutZeros_5 lf_X3_18 (fun _ _ => rfl) e4 ?_
  refine zw_aload_n (pc := 8) dX3_withoutZeros_8 rfl 0 rfl ?_
  obtain ⟨q5, h6, e7, H⟩ := zbind2 H
  refine zy_lam (pc := 9) (i := 12) (A := [vR p0]) [vI x3, vI x1] dX3_withoutZeros_9 lm_12 (show zokL (zLc 12) [vR p0] from (zokL_ref zokL_nil)) rfl (Nat.le_of_ble_eq_true rfl) e7 ?_
  refine zw_aload_n (pc := 14) dX3_withoutZeros_14 rfl 0 rfl ?_
  obtain ⟨q8, h9, e10, H⟩ := zbind2 H
  refine zy_lam (pc := 15) (i := 13) (A := [vR p0]) [vR (some q5), vI x3, vI x1] dX3_withoutZeros_15 lm_13 (show zokL (zLc 13) [vR p0] from (zokL_ref zokL_nil)) rfl (Nat.le_of_ble_eq_true rfl) e10 ?_
  rcases zbind3 H with ⟨x12, h13, e11, H⟩ | ⟨q14, h15, e11, H⟩
  · refine zw_invS (pc := 20) (M' := M_X3_build) (A := [vI x1, vI x3, vR (some q5), vR (some q8)]) [] dX3_withoutZeros_20 (Or.inl q412) mf_X3_build (w_X3_build e11) (Nat.le_of_ble_eq_true rfl) rfl rfl (Nat.le_of_ble_eq_true rfl) (zkv ?_) zkn9
    obtain ⟨rfl, rfl⟩ := Prod.mk.inj (Option.some.inj H)
    exact zw_aret (pc := 23) dX3_withoutZeros_23 rfl (Or.inl ⟨_, rfl⟩) rfl rfl
  · refine zw_invS (pc := 20) (M' := M_X3_build) (A := [vI x1, vI x3, vR (some q5), vR (some q8)]) [] dX3_withoutZeros_20 (Or.inl q412) mf_X3_build (w_X3_build e11) (Nat.le_of_ble_eq_true rfl) rfl rfl (Nat.le_of_ble_eq_true rfl) zkv0 (zkx ?_)
    rcases zif H with ⟨c16, H⟩ | ⟨c16, H⟩
    · have c16 := c16
      obtain ⟨rfl, rfl⟩ := Prod.mk.inj (Option.some.inj H)
      exact zx_out (zkq c16 rfl) (fun _ hz => nomatch hz) rfl rfl
    cases H
theorem lm_17 : zLm yX3_without 11 88 17 := ⟨_, rfl, rfl, by decide, by decide +kernel⟩
theorem lm_18 : zLm yX3_without 17 89 18 := ⟨_, rfl, rfl, by decide, by decide +kernel⟩
def M_X3_without : zM := (yX3_without, cX3_without, 3, (.some (.object "CsrCalculator$Csr")), [])
theorem mf_X3_without : zMi M_X3_without 2 := ⟨⟨q1641, q182, ⟨by decide +kernel, by decide +kernel⟩, by decide +kernel, by decide⟩, q1639⟩
def f_X3_without (p0 : Option Nat) (p1 : Int32) (p2 : Int32) (h : zH) : Option ((Option Nat ⊕ Nat) × zH) :=
  (zgI 3 0 p0 h).bind fun x1 =>
  (zgI 3 1 p0 h).bind fun x3 =>
  zb2 (zlm 17 [vR p0, vI p1, vI p2] h) fun q5 h6 =>
  zb2 (zlm 18 [vR p0] h6) fun q8 h9 =>
  zb3 (f_X3_build x1 x3 (some q5) (some q8) h9) (fun x12 h13 =>
  some (.inl x12, h13))
  (fun q14 h15 =>
  if zk h15 q14 = 7 then
  some (.inr q14, h15)
  else none)
theorem w_X3_without {G : zG} {p0 : Option Nat} {p1 : Int32} {p2 : Int32} {h : zH} {vo : Option Nat ⊕ Nat} {vh : zH} (H : f_X3_without p0 p1 p2 h = some (vo, vh)) : zMet G M_X3_without 8 [vR p0, vI p1, vI p2] h (zoR vo) vh := by
  refine zMet.of (by decide +kernel) (Nat.le_of_ble_eq_true rfl) ?_
  show zW G M_X3_without 8 h (zoR vo) vh 0 [(0, vR p0), (1, vI p1), (2, vI p2)] [] h
  unfold f_X3_without at H
  refine zw_aload_n (pc := 0) dX3_without_0 rfl 0 rfl ?_
  obtain ⟨x1, e2, H⟩ := zbind H
  refine zy_getI (pc := 1) dX3_without_1 lf_X3_14 (fun _ _ => rfl) e2 ?_
  refine zw_aload_n (pc := 4) dX3_without_4 rfl 0 rfl ?_
  obtain ⟨x3, e4, H⟩ := zbind H
  refine zy_getI (pc := 5) dX3_without_5 lf_X3_18 (fun _ _ => rfl) e4 ?_
  refine zw_aload_n (pc := 8) dX3_without_8 rfl 0 rfl ?_
  refine zw_iload_n (pc := 9) dX3_without_9 rfl 1 rfl ?_
  refine zw_iload_n (pc := 10) dX3_without_10 rfl 2 rfl ?_
  obtain ⟨q5, h6, e7, H⟩ := zbind2 H
  refine zy_lam (pc := 11) (i := 17) (A := [vR p0, vI p1, vI p2]) [vI x3, vI x1] dX3_without_11 lm_17 (show zokL (zLc 17) [vR p0, vI p1, vI p2] from (zokL_ref (zokL_int (zokL_int zokL_nil)))) rfl (Nat.le_of_ble_eq_true rfl) e7 ?_
  refine zw_aload_n (pc := 16) dX3_without_16 rfl 0 rfl ?_
  obtain ⟨q8, h9, e10, H⟩ := zbind2 H
  refine zy_lam (pc := 17) (i := 18) (A := [vR p0]) [vR (some q5), vI x3, vI x1] dX3_without_17 lm_18 (show zokL (zLc 18) [vR p0] from (zokL_ref zokL_nil)) rfl (Nat.le_of_ble_eq_true rfl) e10 ?_
  rcases zbind3 H with ⟨x12, h13, e11, H⟩ | ⟨q14, h15, e11, H⟩
  · refine zw_invS (pc := 22) (M' := M_X3_build) (A := [vI x1, vI x3, vR (some q5), vR (some q8)]) [] dX3_without_22 (Or.inl q412) mf_X3_build (w_X3_build e11) (Nat.le_of_ble_eq_true rfl) rfl rfl (Nat.le_of_ble_eq_true rfl) (zkv ?_) zkn9
    obtain ⟨rfl, rfl⟩ := Prod.mk.inj (Option.some.inj H)
    exact zw_aret (pc := 25) dX3_without_25 rfl (Or.inl ⟨_, rfl⟩) rfl rfl
  · refine zw_invS (pc := 22) (M' := M_X3_build) (A := [vI x1, vI x3, vR (some q5), vR (some q8)]) [] dX3_without_22 (Or.inl q412) mf_X3_build (w_X3_build e11) (Nat.le_of_ble_eq_true rfl) rfl rfl (Nat.le_of_ble_eq_true rfl) zkv0 (zkx ?_)
    rcases zif H with ⟨c16, H⟩ | ⟨c16, H⟩
    · have c16 := c16
      obtain ⟨rfl, rfl⟩ := Prod.mk.inj (Option.some.inj H)
      exact zx_out (zkq c16 rfl) (fun _ hz => nomatch hz) rfl rfl
    cases H
theorem lm_20 : zLm yX3_withSwapped 11 96 20 := ⟨_, rfl, rfl, by decide, by decide +kernel⟩
theorem lm_21 : zLm yX3_withSwapped 19 97 21 := ⟨_, rfl, rfl, by decide, by decide +kernel⟩
def M_X3_withSwapped : zM := (yX3_withSwapped, cX3_withSwapped, 3, (.some (.object "CsrCalculator$Csr")), [])
theorem mf_X3_withSwapped : zMi M_X3_withSwapped 2 := ⟨⟨q1658, q182, ⟨by decide +kernel, by decide +kernel⟩, by decide +kernel, by decide⟩, q1656⟩
def f_X3_withSwapped (p0 : Option Nat) (p1 : Int32) (p2 : Int32) (h : zH) : Option ((Option Nat ⊕ Nat) × zH) :=
  (zgI 3 0 p0 h).bind fun x1 =>
  (zgI 3 1 p0 h).bind fun x3 =>
  zb2 (zlm 20 [vR p0, vI p1, vI p2] h) fun q5 h6 =>
  zb2 (zlm 21 [vR p0, vI p1, vI p2] h6) fun q8 h9 =>
  zb3 (f_X3_build x1 x3 (some q5) (some q8) h9) (fun x12 h13 =>
  some (.inl x12, h13))
  (fun q14 h15 =>
  if zk h15 q14 = 7 then
  some (.inr q14, h15)
  else none)
theorem w_X3_withSwapped {G : zG} {p0 : Option Nat} {p1 : Int32} {p2 : Int32} {h : zH} {vo : Option Nat ⊕ Nat} {vh : zH} (H : f_X3_withSwapped p0 p1 p2 h = some (vo, vh)) : zMet G M_X3_withSwapped 8 [vR p0, vI p1, vI p2] h (zoR vo) vh := by
  refine zMet.of (by decide +kernel) (Nat.le_of_ble_eq_true rfl) ?_
  show zW G M_X3_withSwapped 8 h (zoR vo) vh 0 [(0, vR p0), (1, vI p1), (2, vI p2)] [] h
  unfold f_X3_withSwapped at H
  refine zw_aload_n (pc := 0) dX3_withSwapped_0 rfl 0 rfl ?_
  obtain ⟨x1, e2, H⟩ := zbind H
  refine zy_getI (pc := 1) dX3_withSwapped_1 lf_X3_14 (fun _ _ => rfl) e2 ?_
  refine zw_aload_n (pc := 4) dX3_withSwapped_4 rfl 0 rfl ?_
  obtain ⟨x3, e4, H⟩ := zbind H
  refine zy_getI (pc := 5) dX3_withSwapped_5 lf_X3_18 (fun _ _ => rfl) e4 ?_
  refine zw_aload_n (pc := 8) dX3_withSwapped_8 rfl 0 rfl ?_
  refine zw_iload_n (pc := 9) dX3_withSwapped_9 rfl 1 rfl ?_
  refine zw_iload_n (pc := 10) dX3_withSwapped_10 rfl 2 rfl ?_
  obtain ⟨q5, h6, e7, H⟩ := zbind2 H
  refine zy_lam (pc := 11) (i := 20) (A := [vR p0, vI p1, vI p2]) [vI x3, vI x1] dX3_withSwapped_11 lm_20 (show zokL (zLc 20) [vR p0, vI p1, vI p2] from (zokL_ref (zokL_int (zokL_int zokL_nil)))) rfl (Nat.le_of_ble_eq_true rfl) e7 ?_
  refine zw_aload_n (pc := 16) dX3_withSwapped_16 rfl 0 rfl ?_
  refine zw_iload_n (pc := 17) dX3_withSwapped_17 rfl 1 rfl ?_
  refine zw_iload_n (pc := 18) dX3_withSwapped_18 rfl 2 rfl ?_
  obtain ⟨q8, h9, e10, H⟩ := zbind2 H
  refine zy_lam (pc := 19) (i := 21) (A := [vR p0, vI p1, vI p2]) [vR (some q5), vI x3, vI x1] dX3_withSwapped_19 lm_21 (show zokL (zLc 21) [vR p0, vI p1, vI p2] from (zokL_ref (zokL_int (zokL_int zokL_nil)))) rfl (Nat.le_of_ble_eq_true rfl) e10 ?_
  rcases zbind3 H with ⟨x12, h13, e11, H⟩ | ⟨q14, h15, e11, H⟩
  · refine zw_invS (pc := 24) (M' := M_X3_build) (A := [vI x1, vI x3, vR (some q5), vR (some q8)]) [] dX3_withSwapped_24 (Or.inl q412) mf_X3_build (w_X3_build e11) (Nat.le_of_ble_eq_true rfl) rfl rfl (Nat.le_of_ble_eq_true rfl) (zkv ?_) zkn9
    obtain ⟨rfl, rfl⟩ := Prod.mk.inj (Option.some.inj H)
    exact zw_aret (pc := 27) dX3_withSwapped_27 rfl (Or.inl ⟨_, rfl⟩) rfl rfl
  · refine zw_invS (pc := 24) (M' := M_X3_build) (A := [vI x1, vI x3, vR (some q5), vR (some q8)]) [] dX3_withSwapped_24 (Or.inl q412) mf_X3_build (w_X3_build e11) (Nat.le_of_ble_eq_true rfl) rfl rfl (Nat.le_of_ble_eq_true rfl) zkv0 (zkx ?_)
    rcases zif H with ⟨c16, H⟩ | ⟨c16, H⟩
    · have c16 := c16
      obtain ⟨rfl, rfl⟩ := Prod.mk.inj (Option.some.inj H)
      exact zx_out (zkq c16 rfl) (fun _ hz => nomatch hz) rfl rfl
    cases H
def M_X3_rowOf : zM := (yX3_rowOf, cX3_rowOf, 3, (.some .int), [])
theorem mf_X3_rowOf : zMi M_X3_rowOf 1 := ⟨⟨q1773, q182, ⟨by decide +kernel, by decide +kernel⟩, by decide +kernel, by decide⟩, q1771⟩
def B_X3_rowOf_2 (k2 : Option Nat → Int32 → Int32 → Option Int32) (a0 : Option Nat) (a1 : Int32) (a2 : Int32) (h : zH) : Option Int32 :=
  (zgR 3 2 a0 h).bind fun x1 =>
  (zaI 50 x1 (a2 + (1 : Int32)) h).bind fun x3 =>
  if a1 < x3 then
  some a2
  else
  k2 a0 a1 (a2 + (1 : Int32))
theorem wB_X3_rowOf_2 {G : zG} {h0 h : zH} {vx : Int32} {k2 : Option Nat → Int32 → Int32 → Option Int32} (hk2 : ∀ (b0 : Option Nat) (b1 : Int32) (b2 : Int32), k2 b0 b1 b2 = some vx → zW G M_X3_rowOf 2 h0 (.inl (some (vI vx))) h 2 [(0, vR b0), (1, vI b1), (2, vI b2)] [] h) {a0 : Option Nat} {a1 : Int32} {a2 : Int32} (H : B_X3_rowOf_2 k2 a0 a1 a2 h = some vx) : zW G M_X3_rowOf 2 h0 (.inl (some (vI vx))) h 2 [(0, vR a0), (1, vI a1), (2, vI a2)] [] h := by
  unfold B_X3_rowOf_2 at H
  refine zw_aload_n (pc := 2) dX3_rowOf_2 rfl 0 rfl ?_
  obtain ⟨x1, e2, H⟩ := zbind H
  refine zy_getR (pc := 3) dX3_rowOf_3 lf_X3_21 (fun _ _ => rfl) e2 ?_
  refine zw_iload_n (pc := 6) dX3_rowOf_6 rfl 2 rfl ?_
  refine zw_iconst (pc := 7) (v := (1 : Int32)) dX3_rowOf_7 (by decide) ?_
  refine zw_iadd (pc := 8) dX3_rowOf_8 ?_
  obtain ⟨x3, e4, H⟩ := zbind H
  refine zy_iald (pc := 9) dX3_rowOf_9 e4 ?_
  refine zw_iload_n (pc := 10) dX3_rowOf_10 rfl 1 rfl ?_
  rcases zif H with ⟨c5, H⟩ | ⟨c5, H⟩
  · refine zw_icmp_gt (pc := 11) (tgt := 20) dX3_rowOf_11 rfl (fun _ => ?_) (fun q => absurd c5 q)
    refine zw_iload_n (pc := 20) dX3_rowOf_20 rfl 2 rfl ?_
    obtain rfl := Option.some.inj H
    exact zw_iret (pc := 21) dX3_rowOf_21 rfl rfl rfl
  · refine zw_icmp_gt (pc := 11) (tgt := 20) dX3_rowOf_11 rfl (fun q => absurd q c5) (fun _ => ?_)
    refine zw_iinc (pc := 14) (v := (a2 + (1 : Int32))) (lv' := [(2, vI (a2 + (1 : Int32))), (0, vR a0), (1, vI a1)]) dX3_rowOf_14 2 rfl rfl (by decide) rfl ?_
    refine zw_goto (pc := 17) (tgt := 2) dX3_rowOf_17 rfl ?_
    refine zW_pick (lv' := [(0, vR a0), (1, vI a1), (2, vI (a2 + (1 : Int32)))]) [1, 2, 0] rfl ?_
    exact hk2 _ _ _ H
def f_X3_rowOf (p0 : Option Nat) (p1 : Int32) (h : zH) : Option Int32 :=
  zloop (fun f c0 c1 c2 => B_X3_rowOf_2 f c0 c1 c2 h) (fun _ _ _ => none) zFU p0 p1 (0 : Int32)
theorem w_X3_rowOf {G : zG} {p0 : Option Nat} {p1 : Int32} {h : zH} {vx : Int32} (H : f_X3_rowOf p0 p1 h = some vx) : zMet G M_X3_rowOf 2 [vR p0, vI p1] h (.inl (some (vI vx))) h := by
  refine zMet.of (by decide +kernel) (Nat.le_of_ble_eq_true rfl) ?_
  show zW G M_X3_rowOf 2 h (.inl (some (vI vx))) h 0 [(0, vR p0), (1, vI p1)] [] h
  unfold f_X3_rowOf at H
  refine zw_iconst (pc := 0) (v := (0 : Int32)) dX3_rowOf_0 (by decide) ?_
  refine zw_istore_n (pc := 1) (lv' := [(2, vI (0 : Int32)), (0, vR p0), (1, vI p1)]) dX3_rowOf_1 rfl (by decide) rfl ?_
  refine zW_pick (lv' := [(0, vR p0), (1, vI p1), (2, vI (0 : Int32))]) [1, 2, 0] rfl ?_
  exact zloop_ind (body := (fun f c0 c1 c2 => B_X3_rowOf_2 f c0 c1 c2 h)) (bot := (fun _ _ _ => none)) (P := (fun (f : Option Nat → Int32 → Int32 → Option Int32) => ∀ (b0 : Option Nat) (b1 : Int32) (b2 : Int32), f b0 b1 b2 = some vx → zW G M_X3_rowOf 2 h (.inl (some (vI vx))) h 2 [(0, vR b0), (1, vI b1), (2, vI b2)] [] h)) zFU (fun _ _ _ H => nomatch H) (fun f hf c0 c1 c2 H => wB_X3_rowOf_2 hf H) _ _ _ H
def M_X3_zeros : zM := (yX3_zeros, cX3_zeros, 6, (.some .int), [])
theorem mf_X3_zeros : zMi M_X3_zeros 0 := ⟨⟨q1798, q182, ⟨by decide +kernel, by decide +kernel⟩, by decide +kernel, by decide⟩, q1796⟩
def B_X3_zeros_13 (k13 : Int32 → Option Nat → Int32 → Int32 → Option Int32) (a0 : Int32) (a1 : Option Nat) (a2 : Int32) (a3 : Int32) (h : zH) : Option Int32 :=
  if a2 ≤ a3 then
  some a0
  else
  (zaI 50 a1 a3 h).bind fun x2 =>
  if x2 = 0 then
  k13 (a0 + (1 : Int32)) a1 a2 (a3 + (1 : Int32))
  else
  k13 a0 a1 a2 (a3 + (1 : Int32))
theorem wB_X3_zeros_13 {G : zG} {h0 h : zH} {vx : Int32} {k13 : Int32 → Option Nat → Int32 → Int32 → Option Int32} (hk13 : ∀ (b0 : Int32) (b1 : Option Nat) (b2 : Int32) (b3 : Int32), k13 b0 b1 b2 b3 = some vx → zW G M_X3_zeros 2 h0 (.inl (some (vI vx))) h 13 [(1, vI b0), (2, vR b1), (3, vI b2), (4, vI b3)] [] h) {a0 : Int32} {a1 : Option Nat} {a2 : Int32} {a3 : Int32} (H : B_X3_zeros_13 k13 a0 a1 a2 a3 h = some vx) : zW G M_X3_zeros 2 h0 (.inl (some (vI vx))) h 13 [(1, vI a0), (2, vR a1), (3, vI a2), (4, vI a3)] [] h := by
  unfold B_X3_zeros_13 at H
  refine zw_iload (pc := 13) dX3_zeros_13 3 rfl ?_
  refine zw_iload_n (pc := 15) dX3_zeros_15 rfl 2 rfl ?_
  rcases zif H with ⟨c1, H⟩ | ⟨c1, H⟩
  · refine zw_icmp_ge (pc := 16) (tgt := 39) dX3_zeros_16 rfl (fun _ => ?_) (fun q => absurd c1 q)
    refine zw_iload_n (pc := 39) dX3_zeros_39 rfl 0 rfl ?_
    obtain rfl := Option.some.inj H
    exact zw_iret (pc := 40) dX3_zeros_40 rfl rfl rfl
  · refine zw_icmp_ge (pc := 16) (tgt := 39) dX3_zeros_16 rfl (fun q => absurd q c1) (fun _ => ?_)
    refine zw_aload_n (pc := 19) dX3_zeros_19 rfl 1 rfl ?_
    refine zw_iload (pc := 20) dX3_zeros_20 3 rfl ?_
    obtain ⟨x2, e3, H⟩ := zbind H
    refine zy_iald (pc := 22) dX3_zeros_22 e3 ?_
    refine zw_istore (pc := 23) (lv' := [(5, vI x2), (1, vI a0), (2, vR a1), (3, vI a2), (4, vI a3)]) dX3_zeros_23 (by decide) rfl ?_
    refine zw_iload (pc := 25) dX3_zeros_25 0 rfl ?_
    rcases zif H with ⟨c4, H⟩ | ⟨c4, H⟩
    · refine zw_if_ne (pc := 27) (tgt := 33) dX3_zeros_27 rfl (fun q => absurd c4 q) (fun _ => ?_)
      refine zw_iinc (pc := 30) (v := (a0 + (1 : Int32))) (lv' := [(1, vI (a0 + (1 : Int32))), (5, vI x2), (2, vR a1), (3, vI a2), (4, vI a3)]) dX3_zeros_30 1 rfl rfl (by decide) rfl ?_
      refine zw_iinc (pc := 33) (v := (a3 + (1 : Int32))) (lv' := [(4, vI (a3 + (1 : Int32))), (1, vI (a0 + (1 : Int32))), (5, vI x2), (2, vR a1), (3, vI a2)]) dX3_zeros_33 4 rfl rfl (by decide) rfl ?_
      refine zw_goto (pc := 36) (tgt := 13) dX3_zeros_36 rfl ?_
      refine zW_pick (lv' := [(1, vI (a0 + (1 : Int32))), (2, vR a1), (3, vI a2), (4, vI (a3 + (1 : Int32)))]) [1, 3, 4, 0] rfl ?_
      exact hk13 _ _ _ _ H
    · refine zw_if_ne (pc := 27) (tgt := 33) dX3_zeros_27 rfl (fun _ => ?_) (fun q => absurd q c4)
      refine zw_iinc (pc := 33) (v := (a3 + (1 : Int32))) (lv' := [(4, vI (a3 + (1 : Int32))), (5, vI x2), (1, vI a0), (2, vR a1), (3, vI a2)]) dX3_zeros_33 4 rfl rfl (by decide) rfl ?_
      refine zw_goto (pc := 36) (tgt := 13) dX3_zeros_36 rfl ?_
      refine zW_pick (lv' := [(1, vI a0), (2, vR a1), (3, vI a2), (4, vI (a3 + (1 : Int32)))]) [2, 3, 4, 0] rfl ?_
      exact hk13 _ _ _ _ H
def f_X3_zeros (p0 : Option Nat) (h : zH) : Option Int32 :=
  (zgR 3 4 p0 h).bind fun x1 =>
  (zaN x1 h).bind fun x3 =>
  zloop (fun f c0 c1 c2 c3 => B_X3_zeros_13 f c0 c1 c2 c3 h) (fun _ _ _ _ => none) zFU (0 : Int32) x1 x3 (0 : Int32)
theorem w_X3_zeros {G : zG} {p0 : Option Nat} {h : zH} {vx : Int32} (H : f_X3_zeros p0 h = some vx) : zMet G M_X3_zeros 2 [vR p0] h (.inl (some (vI vx))) h := by
  refine zMet.of (by decide +kernel) (Nat.le_of_ble_eq_true rfl) ?_
  show zW G M_X3_zeros 2 h (.inl (some (vI vx))) h 0 [(0, vR p0)] [] h
  unfold f_X3_zeros at H
  refine zw_iconst (pc := 0) (v := (0 : Int32)) dX3_zeros_0 (by decide) ?_
  refine zw_istore_n (pc := 1) (lv' := [(1, vI (0 : Int32)), (0, vR p0)]) dX3_zeros_1 rfl (by decide) rfl ?_
  refine zw_aload_n (pc := 2) dX3_zeros_2 rfl 1 rfl ?_
  obtain ⟨x1, e2, H⟩ := zbind H
  refine zy_getR (pc := 3) dX3_zeros_3 lf_X3_28 (fun _ _ => rfl) e2 ?_
  refine zw_astore_n (pc := 6) (lv' := [(2, vR x1), (1, vI (0 : Int32)), (0, vR p0)]) dX3_zeros_6 rfl (by decide) rfl ?_
  refine zw_aload_n (pc := 7) dX3_zeros_7 rfl 0 rfl ?_
  obtain ⟨x3, e4, H⟩ := zbind H
  refine zy_alen (pc := 8) dX3_zeros_8 e4 ?_
  refine zw_istore_n (pc := 9) (lv' := [(3, vI x3), (2, vR x1), (1, vI (0 : Int32)), (0, vR p0)]) dX3_zeros_9 rfl (by decide) rfl ?_
  refine zw_iconst (pc := 10) (v := (0 : Int32)) dX3_zeros_10 (by decide) ?_
  refine zw_istore (pc := 11) (lv' := [(4, vI (0 : Int32)), (3, vI x3), (2, vR x1), (1, vI (0 : Int32)), (0, vR p0)]) dX3_zeros_11 (by decide) rfl ?_
  refine zW_pick (lv' := [(1, vI (0 : Int32)), (2, vR x1), (3, vI x3), (4, vI (0 : Int32))]) [3, 2, 1, 0] rfl ?_
  exact zloop_ind (body := (fun f c0 c1 c2 c3 => B_X3_zeros_13 f c0 c1 c2 c3 h)) (bot := (fun _ _ _ _ => none)) (P := (fun (f : Int32 → Option Nat → Int32 → Int32 → Option Int32) => ∀ (b0 : Int32) (b1 : Option Nat) (b2 : Int32) (b3 : Int32), f b0 b1 b2 b3 = some vx → zW G M_X3_zeros 2 h (.inl (some (vI vx))) h 13 [(1, vI b0), (2, vR b1), (3, vI b2), (4, vI b3)] [] h)) zFU (fun _ _ _ _ H => nomatch H) (fun f hf c0 c1 c2 c3 H => wB_X3_zeros_13 hf H) _ _ _ _ H
def M_X3_columnLength : zM := (yX3_columnLength, cX3_columnLength, 7, (.some .int), [])
theorem mf_X3_columnLength : zMi M_X3_columnLength 1 := ⟨⟨q1816, q182, ⟨by decide +kernel, by decide +kernel⟩, by decide +kernel, by decide⟩, q1814⟩
def B_X3_columnLength_14 (k14 : Int32 → Int32 → Option Nat → Int32 → Int32 → Option Int32) (a0 : Int32) (a1 : Int32) (a2 : Option Nat) (a3 : Int32) (a4 : Int32) (h : zH) : Option Int32 :=
  if a3 ≤ a4 then
  some a1
  else
  (zaI 50 a2 a4 h).bind fun x2 =>
  if x2 = a0 then
  k14 a0 (a1 + (1 : Int32)) a2 a3 (a4 + (1 : Int32))
  else
  k14 a0 a1 a2 a3 (a4 + (1 : Int32))
theorem wB_X3_columnLength_14 {G : zG} {h0 h : zH} {vx : Int32} {k14 : Int32 → Int32 → Option Nat → Int32 → Int32 → Option Int32} (hk14 : ∀ (b0 : Int32) (b1 : Int32) (b2 : Option Nat) (b3 : Int32) (b4 : Int32), k14 b0 b1 b2 b3 b4 = some vx → zW G M_X3_columnLength 2 h0 (.inl (some (vI vx))) h 14 [(1, vI b0), (2, vI b1), (3, vR b2), (4, vI b3), (5, vI b4)] [] h) {a0 : Int32} {a1 : Int32} {a2 : Option Nat} {a3 : Int32} {a4 : Int32} (H : B_X3_columnLength_14 k14 a0 a1 a2 a3 a4 h = some vx) : zW G M_X3_columnLength 2 h0 (.inl (some (vI vx))) h 14 [(1, vI a0), (2, vI a1), (3, vR a2), (4, vI a3), (5, vI a4)] [] h := by
  unfold B_X3_columnLength_14 at H
  refine zw_iload (pc := 14) dX3_columnLength_14 4 rfl ?_
  refine zw_iload (pc := 16) dX3_columnLength_16 3 rfl ?_
  rcases zif H with ⟨c1, H⟩ | ⟨c1, H⟩
  · refine zw_icmp_ge (pc := 18) (tgt := 42) dX3_columnLength_18 rfl (fun _ => ?_) (fun q => absurd c1 q)
    refine zw_iload_n (pc := 42) dX3_columnLength_42 rfl 1 rfl ?_
    obtain rfl := Option.some.inj H
    exact zw_iret (pc := 43) dX3_columnLength_43 rfl rfl rfl
  · refine zw_icmp_ge (pc := 18) (tgt := 42) dX3_columnLength_18 rfl (fun q => absurd q c1) (fun _ => ?_)
    refine zw_aload_n (pc := 21) dX3_columnLength_21 rfl 2 rfl ?_
    refine zw_iload (pc := 22) dX3_columnLength_22 4 rfl ?_
    obtain ⟨x2, e3, H⟩ := zbind H
    refine zy_iald (pc := 24) dX3_columnLength_24 e3 ?_
    refine zw_istore (pc := 25) (lv' := [(6, vI x2), (1, vI a0), (2, vI a1), (3, vR a2), (4, vI a3), (5, vI a4)]) dX3_columnLength_25 (by decide) rfl ?_
    refine zw_iload (pc := 27) dX3_columnLength_27 0 rfl ?_
    refine zw_iload_n (pc := 29) dX3_columnLength_29 rfl 1 rfl ?_
    rcases zif H with ⟨c4, H⟩ | ⟨c4, H⟩
    · refine zw_icmp_ne (pc := 30) (tgt := 36) dX3_columnLength_30 rfl (fun q => absurd c4 q) (fun _ => ?_)
      refine zw_iinc (pc := 33) (v := (a1 + (1 : Int32))) (lv' := [(2, vI (a1 + (1 : Int32))), (6, vI x2), (1, vI a0), (3, vR a2), (4, vI a3), (5, vI a4)]) dX3_columnLength_33 2 rfl rfl (by decide) rfl ?_
      refine zw_iinc (pc := 36) (v := (a4 + (1 : Int32))) (lv' := [(5, vI (a4 + (1 : Int32))), (2, vI (a1 + (1 : Int32))), (6, vI x2), (1, vI a0), (3, vR a2), (4, vI a3)]) dX3_columnLength_36 5 rfl rfl (by decide) rfl ?_
      refine zw_goto (pc := 39) (tgt := 14) dX3_columnLength_39 rfl ?_
      refine zW_pick (lv' := [(1, vI a0), (2, vI (a1 + (1 : Int32))), (3, vR a2), (4, vI a3), (5, vI (a4 + (1 : Int32)))]) [3, 1, 4, 5, 0] rfl ?_
      exact hk14 _ _ _ _ _ H
    · refine zw_icmp_ne (pc := 30) (tgt := 36) dX3_columnLength_30 rfl (fun _ => ?_) (fun q => absurd q c4)
      refine zw_iinc (pc := 36) (v := (a4 + (1 : Int32))) (lv' := [(5, vI (a4 + (1 : Int32))), (6, vI x2), (1, vI a0), (2, vI a1), (3, vR a2), (4, vI a3)]) dX3_columnLength_36 5 rfl rfl (by decide) rfl ?_
      refine zw_goto (pc := 39) (tgt := 14) dX3_columnLength_39 rfl ?_
      refine zW_pick (lv' := [(1, vI a0), (2, vI a1), (3, vR a2), (4, vI a3), (5, vI (a4 + (1 : Int32)))]) [2, 3, 4, 5, 0] rfl ?_
      exact hk14 _ _ _ _ _ H
def f_X3_columnLength (p0 : Option Nat) (p1 : Int32) (h : zH) : Option Int32 :=
  (zgR 3 3 p0 h).bind fun x1 =>
  (zaN x1 h).bind fun x3 =>
  zloop (fun f c0 c1 c2 c3 c4 => B_X3_columnLength_14 f c0 c1 c2 c3 c4 h) (fun _ _ _ _ _ => none) zFU p1 (0 : Int32) x1 x3 (0 : Int32)
theorem w_X3_columnLength {G : zG} {p0 : Option Nat} {p1 : Int32} {h : zH} {vx : Int32} (H : f_X3_columnLength p0 p1 h = some vx) : zMet G M_X3_columnLength 2 [vR p0, vI p1] h (.inl (some (vI vx))) h := by
  refine zMet.of (by decide +kernel) (Nat.le_of_ble_eq_true rfl) ?_
  show zW G M_X3_columnLength 2 h (.inl (some (vI vx))) h 0 [(0, vR p0), (1, vI p1)] [] h
  unfold f_X3_columnLength at H
  refine zw_iconst (pc := 0) (v := (0 : Int32)) dX3_columnLength_0 (by decide) ?_
  refine zw_istore_n (pc := 1) (lv' := [(2, vI (0 : Int32)), (0, vR p0), (1, vI p1)]) dX3_columnLength_1 rfl (by decide) rfl ?_
  refine zw_aload_n (pc := 2) dX3_columnLength_2 rfl 1 rfl ?_
  obtain ⟨x1, e2, H⟩ := zbind H
  refine zy_getR (pc := 3) dX3_columnLength_3 lf_X3_25 (fun _ _ => rfl) e2 ?_
  refine zw_astore_n (pc := 6) (lv' := [(3, vR x1), (2, vI (0 : Int32)), (0, vR p0), (1, vI p1)]) dX3_columnLength_6 rfl (by decide) rfl ?_
  refine zw_aload_n (pc := 7) dX3_columnLength_7 rfl 0 rfl ?_
  obtain ⟨x3, e4, H⟩ := zbind H
  refine zy_alen (pc := 8) dX3_columnLength_8 e4 ?_
  refine zw_istore (pc := 9) (lv' := [(4, vI x3), (3, vR x1), (2, vI (0 : Int32)), (0, vR p0), (1, vI p1)]) dX3_columnLength_9 (by decide) rfl ?_
  refine zw_iconst (pc := 11) (v := (0 : Int32)) dX3_columnLength_11 (by decide) ?_
  refine zw_istore (pc := 12) (lv' := [(5, vI (0 : Int32)), (4, vI x3), (3, vR x1), (2, vI (0 : Int32)), (0, vR p0), (1, vI p1)]) dX3_columnLength_12 (by decide) rfl ?_
  refine zW_pick (lv' := [(1, vI p1), (2, vI (0 : Int32)), (3, vR x1), (4, vI x3), (5, vI (0 : Int32))]) [5, 3, 2, 1, 0] rfl ?_
  exact zloop_ind (body := (fun f c0 c1 c2 c3 c4 => B_X3_columnLength_14 f c0 c1 c2 c3 c4 h)) (bot := (fun _ _ _ _ _ => none)) (P := (fun (f : Int32 → Int32 → Option Nat → Int32 → Int32 → Option Int32) => ∀ (b0 : Int32) (b1 : Int32) (b2 : Option Nat) (b3 : Int32) (b4 : Int32), f b0 b1 b2 b3 b4 = some vx → zW G M_X3_columnLength 2 h (.inl (some (vI vx))) h 14 [(1, vI b0), (2, vI b1), (3, vR b2), (4, vI b3), (5, vI b4)] [] h)) zFU (fun _ _ _ _ _ H => nomatch H) (fun f hf c0 c1 c2 c3 c4 H => wB_X3_columnLength_14 hf H) _ _ _ _ _ H
def M_J12_abs : zM := (yJ12_abs, cJ12_abs, 1, (.some .int), [])
theorem mf_J12_abs : zMs M_J12_abs 1 := ⟨⟨q1845, q197, ⟨by decide +kernel, by decide +kernel⟩, by decide +kernel, by decide⟩, q1844⟩
def f_J12_abs (p0 : Int32) (h : zH) : Option Int32 :=
  if 0 ≤ p0 then
  some p0
  else
  some (-p0)
theorem w_J12_abs {G : zG} {p0 : Int32} {h : zH} {vx : Int32} (H : f_J12_abs p0 h = some vx) : zMet G M_J12_abs 2 [vI p0] h (.inl (some (vI vx))) h := by
  refine zMet.of (by decide +kernel) (Nat.le_of_ble_eq_true rfl) ?_
  show zW G M_J12_abs 2 h (.inl (some (vI vx))) h 0 [(0, vI p0)] [] h
  unfold f_J12_abs at H
  refine zw_iload_n (pc := 0) dJ12_abs_0 rfl 0 rfl ?_
  rcases zif H with ⟨c1, H⟩ | ⟨c1, H⟩
  · refine zw_if_ge (pc := 1) (tgt := 9) dJ12_abs_1 rfl (fun _ => ?_) (fun q => absurd c1 q)
    refine zw_iload_n (pc := 9) dJ12_abs_9 rfl 0 rfl ?_
    obtain rfl := Option.some.inj H
    exact zw_iret (pc := 10) dJ12_abs_10 rfl rfl rfl
  · refine zw_if_ge (pc := 1) (tgt := 9) dJ12_abs_1 rfl (fun q => absurd q c1) (fun _ => ?_)
    refine zw_iload_n (pc := 4) dJ12_abs_4 rfl 0 rfl ?_
    refine zw_ineg (pc := 5) dJ12_abs_5 ?_
    refine zw_goto (pc := 6) (tgt := 10) dJ12_abs_6 rfl ?_
    obtain rfl := Option.some.inj H
    exact zw_iret (pc := 10) dJ12_abs_10 rfl rfl rfl
def M_J12_max : zM := (yJ12_max, cJ12_max, 2, (.some .int), [])
theorem mf_J12_max : zMs M_J12_max 2 := ⟨⟨q724, q197, ⟨by decide +kernel, by decide +kernel⟩, by decide +kernel, by decide⟩, q723⟩
def f_J12_max (p0 : Int32) (p1 : Int32) (h : zH) : Option Int32 :=
  if p0 < p1 then
  some p1
  else
  some p0
theorem w_J12_max {G : zG} {p0 : Int32} {p1 : Int32} {h : zH} {vx : Int32} (H : f_J12_max p0 p1 h = some vx) : zMet G M_J12_max 2 [vI p0, vI p1] h (.inl (some (vI vx))) h := by
  refine zMet.of (by decide +kernel) (Nat.le_of_ble_eq_true rfl) ?_
  show zW G M_J12_max 2 h (.inl (some (vI vx))) h 0 [(0, vI p0), (1, vI p1)] [] h
  unfold f_J12_max at H
  refine zw_iload_n (pc := 0) dJ12_max_0 rfl 0 rfl ?_
  refine zw_iload_n (pc := 1) dJ12_max_1 rfl 1 rfl ?_
  rcases zif H with ⟨c1, H⟩ | ⟨c1, H⟩
  · refine zw_icmp_lt (pc := 2) (tgt := 9) dJ12_max_2 rfl (fun _ => ?_) (fun q => absurd c1 q)
    refine zw_iload_n (pc := 9) dJ12_max_9 rfl 1 rfl ?_
    obtain rfl := Option.some.inj H
    exact zw_iret (pc := 10) dJ12_max_10 rfl rfl rfl
  · refine zw_icmp_lt (pc := 2) (tgt := 9) dJ12_max_2 rfl (fun q => absurd q c1) (fun _ => ?_)
    refine zw_iload_n (pc := 5) dJ12_max_5 rfl 0 rfl ?_
    refine zw_goto (pc := 6) (tgt := 10) dJ12_max_6 rfl ?_
    obtain rfl := Option.some.inj H
    exact zw_iret (pc := 10) dJ12_max_10 rfl rfl rfl
def M_X3_bandwidth : zM := (yX3_bandwidth, cX3_bandwidth, 3, (.some .int), [])
theorem mf_X3_bandwidth : zMi M_X3_bandwidth 0 := ⟨⟨q1841, q182, ⟨by decide +kernel, by decide +kernel⟩, by decide +kernel, by decide⟩, q1839⟩
def B_X3_bandwidth_4 (k4 : Option Nat → Int32 → Int32 → Option Int32) (a0 : Option Nat) (a1 : Int32) (a2 : Int32) (h : zH) : Option Int32 :=
  (zgR 3 3 a0 h).bind fun x1 =>
  (zaN x1 h).bind fun x3 =>
  if x3 ≤ a2 then
  some a1
  else
  (zrv 3 a0 h).bind fun b6 =>
  (f_X3_rowOf (some b6) a2 h).bind fun x11 =>
  (zgR 3 3 a0 h).bind fun x12 =>
  (zaI 50 x12 a2 h).bind fun x14 =>
  (f_J12_abs (x11 - x14) h).bind fun x17 =>
  (f_J12_max a1 x17 h).bind fun x19 =>
  k4 a0 x19 (a2 + (1 : Int32))
theorem wB_X3_bandwidth_4 {G : zG} {h0 h : zH} {vx : Int32} {k4 : Option Nat → Int32 → Int32 → Option Int32} (hk4 : ∀ (b0 : Option Nat) (b1 : Int32) (b2 : Int32), k4 b0 b1 b2 = some vx → zW G M_X3_bandwidth 3 h0 (.inl (some (vI vx))) h 4 [(0, vR b0), (1, vI b1), (2, vI b2)] [] h) {a0 : Option Nat} {a1 : Int32} {a2 : Int32} (H : B_X3_bandwidth_4 k4 a0 a1 a2 h = some vx) : zW G M_X3_bandwidth 3 h0 (.inl (some (vI vx))) h 4 [(0, vR a0), (1, vI a1), (2, vI a2)] [] h := by
  unfold B_X3_bandwidth_4 at H
  refine zw_iload_n (pc := 4) dX3_bandwidth_4 rfl 2 rfl ?_
  refine zw_aload_n (pc := 5) dX3_bandwidth_5 rfl 0 rfl ?_
  obtain ⟨x1, e2, H⟩ := zbind H
  refine zy_getR (pc := 6) dX3_bandwidth_6 lf_X3_25 (fun _ _ => rfl) e2 ?_
  obtain ⟨x3, e4, H⟩ := zbind H
  refine zy_alen (pc := 9) dX3_bandwidth_9 e4 ?_
  rcases zif H with ⟨c5, H⟩ | ⟨c5, H⟩
  · refine zw_icmp_ge (pc := 10) (tgt := 39) dX3_bandwidth_10 rfl (fun _ => ?_) (fun q => absurd c5 q)
    refine zw_iload_n (pc := 39) dX3_bandwidth_39 rfl 1 rfl ?_
    obtain rfl := Option.some.inj H
    exact zw_iret (pc := 40) dX3_bandwidth_40 rfl rfl rfl
  · refine zw_icmp_ge (pc := 10) (tgt := 39) dX3_bandwidth_10 rfl (fun q => absurd q c5) (fun _ => ?_)
    refine zw_iload_n (pc := 13) dX3_bandwidth_13 rfl 1 rfl ?_
    refine zw_aload_n (pc := 14) dX3_bandwidth_14 rfl 0 rfl ?_
    refine zw_iload_n (pc := 15) dX3_bandwidth_15 rfl 2 rfl ?_
    obtain ⟨b6, e8, H⟩ := zbind H
    obtain ⟨e7, e9⟩ := zrv_ok e8
    obtain ⟨x11, e10, H⟩ := zbind H
    refine zw_invV (pc := 16) (M' := M_X3_rowOf) (A := [vI a2]) [vI a1] dX3_bandwidth_16 (Or.inl q1842) mf_X3_rowOf q1772 (zkq e9 rfl) (w_X3_rowOf e10) (Nat.le_of_ble_eq_true rfl) rfl (by rw [← e7]; rfl) (Nat.le_of_ble_eq_true rfl) (zkv ?_) zkn9
    refine zw_aload_n (pc := 19) dX3_bandwidth_19 rfl 0 rfl ?_
    obtain ⟨x12, e13, H⟩ := zbind H
    refine zy_getR (pc := 20) dX3_bandwidth_20 lf_X3_25 (fun _ _ => rfl) e13 ?_
    refine zw_iload_n (pc := 23) dX3_bandwidth_23 rfl 2 rfl ?_
    obtain ⟨x14, e15, H⟩ := zbind H
    refine zy_iald (pc := 24) dX3_bandwidth_24 e15 ?_
    refine zw_isub (pc := 25) dX3_bandwidth_25 ?_
    obtain ⟨x17, e16, H⟩ := zbind H
    refine zw_invS (pc := 26) (M' := M_J12_abs) (A := [vI (x11 - x14)]) [vI a1] dX3_bandwidth_26 (Or.inl q1843) mf_J12_abs (w_J12_abs e16) (Nat.le_of_ble_eq_true rfl) rfl rfl (Nat.le_of_ble_eq_true rfl) (zkv ?_) zkn9
    obtain ⟨x19, e18, H⟩ := zbind H
    refine zw_invS (pc := 29) (M' := M_J12_max) (A := [vI a1, vI x17]) [] dX3_bandwidth_29 (Or.inl q1846) mf_J12_max (w_J12_max e18) (Nat.le_of_ble_eq_true rfl) rfl rfl (Nat.le_of_ble_eq_true rfl) (zkv ?_) zkn9
    refine zw_istore_n (pc := 32) (lv' := [(1, vI x19), (0, vR a0), (2, vI a2)]) dX3_bandwidth_32 rfl (by decide) rfl ?_
    refine zw_iinc (pc := 33) (v := (a2 + (1 : Int32))) (lv' := [(2, vI (a2 + (1 : Int32))), (1, vI x19), (0, vR a0)]) dX3_bandwidth_33 2 rfl rfl (by decide) rfl ?_
    refine zw_goto (pc := 36) (tgt := 4) dX3_bandwidth_36 rfl ?_
    refine zW_pick (lv' := [(0, vR a0), (1, vI x19), (2, vI (a2 + (1 : Int32)))]) [2, 1, 0] rfl ?_
    exact hk4 _ _ _ H
def f_X3_bandwidth (p0 : Option Nat) (h : zH) : Option Int32 :=
  zloop (fun f c0 c1 c2 => B_X3_bandwidth_4 f c0 c1 c2 h) (fun _ _ _ => none) zFU p0 (-1 : Int32) (0 : Int32)
theorem w_X3_bandwidth {G : zG} {p0 : Option Nat} {h : zH} {vx : Int32} (H : f_X3_bandwidth p0 h = some vx) : zMet G M_X3_bandwidth 3 [vR p0] h (.inl (some (vI vx))) h := by
  refine zMet.of (by decide +kernel) (Nat.le_of_ble_eq_true rfl) ?_
  show zW G M_X3_bandwidth 3 h (.inl (some (vI vx))) h 0 [(0, vR p0)] [] h
  unfold f_X3_bandwidth at H
  refine zw_iconst (pc := 0) (v := (-1 : Int32)) dX3_bandwidth_0 (by decide) ?_
  refine zw_istore_n (pc := 1) (lv' := [(1, vI (-1 : Int32)), (0, vR p0)]) dX3_bandwidth_1 rfl (by decide) rfl ?_
  refine zw_iconst (pc := 2) (v := (0 : Int32)) dX3_bandwidth_2 (by decide) ?_
  refine zw_istore_n (pc := 3) (lv' := [(2, vI (0 : Int32)), (1, vI (-1 : Int32)), (0, vR p0)]) dX3_bandwidth_3 rfl (by decide) rfl ?_
  refine zW_pick (lv' := [(0, vR p0), (1, vI (-1 : Int32)), (2, vI (0 : Int32))]) [2, 1, 0] rfl ?_
  exact zloop_ind (body := (fun f c0 c1 c2 => B_X3_bandwidth_4 f c0 c1 c2 h)) (bot := (fun _ _ _ => none)) (P := (fun (f : Option Nat → Int32 → Int32 → Option Int32) => ∀ (b0 : Option Nat) (b1 : Int32) (b2 : Int32), f b0 b1 b2 = some vx → zW G M_X3_bandwidth 3 h (.inl (some (vI vx))) h 4 [(0, vR b0), (1, vI b1), (2, vI b2)] [] h)) zFU (fun _ _ _ H => nomatch H) (fun f hf c0 c1 c2 H => wB_X3_bandwidth_4 hf H) _ _ _ H
