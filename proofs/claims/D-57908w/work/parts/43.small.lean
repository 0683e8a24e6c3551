/-! THE PURE PICTURE: X2 X5 X6 X7 X8 X9 X10 X11 X12 X13 X15 X16 X17 X18 (written by gen/main.py) -/
set_option maxRecDepth 100000
theorem ln_X2_9 : zCl "CsrCalculator$World" 9 3 := ⟨_, by decide, by decide, rfl, q236, q238, q182⟩
theorem lp_X2_14 {nm : String} : zFp "CsrCalculator$World" nm 14 2 0 := ⟨_, "CsrCalculator$World", by decide, rfl, by decide, Or.inl rfl, Or.inl ⟨Or.inl q271, rfl⟩⟩
def M_X2_init : zM := (yX2_init, cX2_init, 1, none, [])
theorem mf_X2_init : zMi M_X2_init 0 := ⟨⟨q234, q181, ⟨by decide +kernel, by decide +kernel⟩, by decide +kernel, by decide⟩, q233⟩
def f_X2_init (p0 : Option Nat) (h : zH) : Option zH :=
  p0.bind fun b1 =>
  zb2 (zna 61 (4 : Int32) h) fun q3 h4 =>
  zb2 (znw 3 h4) fun q6 h7 =>
  (some q6).bind fun b9 =>
  (f_X3_init (some b9) (3 : Int32) (3 : Int32) h7).bind fun h12 =>
  (zsR 61 (some q3) (0 : Int32) (some q6) h12).bind fun h13 =>
  zb2 (znw 3 h13) fun q15 h16 =>
  (some q15).bind fun b18 =>
  (f_X3_init (some b18) (3 : Int32) (3 : Int32) h16).bind fun h21 =>
  (zsR 61 (some q3) (1 : Int32) (some q15) h21).bind fun h22 =>
  zb2 (znw 3 h22) fun q24 h25 =>
  (some q24).bind fun b27 =>
  (f_X3_init (some b27) (3 : Int32) (3 : Int32) h25).bind fun h30 =>
  (zsR 61 (some q3) (2 : Int32) (some q24) h30).bind fun h31 =>
  zb2 (znw 3 h31) fun q33 h34 =>
  (some q33).bind fun b36 =>
  (f_X3_init (some b36) (3 : Int32) (3 : Int32) h34).bind fun h39 =>
  (zsR 61 (some q3) (3 : Int32) (some q33) h39).bind fun h40 =>
  (zpR 2 0 p0 (some q3) h40).bind fun h42 =>
  some h42
theorem w_X2_init {G : zG} {p0 : Option Nat} {h : zH} {vh : zH} (H : f_X2_init p0 h = some vh) : zMet G M_X2_init 4 [vR p0] h (.inl none) vh := by
  refine zMet.of (by decide +kernel) (Nat.le_of_ble_eq_true rfl) ?_
  show zW G M_X2_init 4 h (.inl none) vh 0 [(0, vR p0)] [] h
  unfold f_X2_init at H
  refine zw_aload_n (pc := 0) dX2_init_0 rfl 0 rfl ?_
  obtain ⟨b1, e2, H⟩ := zbind H
  refine zy_objInit (pc := 1) dX2_init_1 q235 e2 (Nat.le_of_ble_eq_true rfl) (Nat.le_of_ble_eq_true rfl) ?_
  refine zw_aload_n (pc := 4) dX2_init_4 rfl 0 rfl ?_
  refine zw_iconst (pc := 5) (v := (4 : Int32)) dX2_init_5 (by decide) ?_
  obtain ⟨q3, h4, e5, H⟩ := zbind2 H
  refine zy_anew (pc := 6) (k := 61) dX2_init_6 (by decide) rfl q236 (by decide +kernel) e5 ?_
  refine zw_dup (pc := 9) dX2_init_9 rfl ?_
  refine zw_iconst (pc := 10) (v := (0 : Int32)) dX2_init_10 (by decide) ?_
  obtain ⟨q6, h7, e8, H⟩ := zbind2 H
  refine zy_new (pc := 11) dX2_init_11 ln_X2_9 e8 ?_
  refine zw_dup (pc := 14) dX2_init_14 rfl ?_
  refine zw_iconst (pc := 15) (v := (3 : Int32)) dX2_init_15 (by decide) ?_
  refine zw_iconst (pc := 16) (v := (3 : Int32)) dX2_init_16 (by decide) ?_
  obtain ⟨b9, e10, H⟩ := zbind H
  obtain ⟨h12, e11, H⟩ := zbind H
  refine zw_invI (pc := 17) (M' := M_X3_init) (A := [vI (3 : Int32), vI (3 : Int32)]) [vR (some q6), vI (0 : Int32), vR (some q3), vR (some q3), vR p0] dX2_init_17 (Or.inl q239) mf_X3_init rfl rfl (w_X3_init e11) (Nat.le_of_ble_eq_true rfl) rfl (by rw [← e10]; rfl) (Nat.le_of_ble_eq_true rfl) (zku ?_) zkn9
  obtain ⟨h13, e14, H⟩ := zbind H
  refine zy_aast (pc := 20) dX2_init_20 (by decide) e14 ?_
  refine zw_dup (pc := 21) dX2_init_21 rfl ?_
  refine zw_iconst (pc := 22) (v := (1 : Int32)) dX2_init_22 (by decide) ?_
  obtain ⟨q15, h16, e17, H⟩ := zbind2 H
  refine zy_new (pc := 23) dX2_init_23 ln_X2_9 e17 ?_
  refine zw_dup (pc := 26) dX2_init_26 rfl ?_
  refine zw_iconst (pc := 27) (v := (3 : Int32)) dX2_init_27 (by decide) ?_
  refine zw_iconst (pc := 28) (v := (3 : Int32)) dX2_init_28 (by decide) ?_
  obtain ⟨b18, e19, H⟩ := zbind H
  obtain ⟨h21, e20, H⟩ := zbind H
  refine zw_invI (pc := 29) (M' := M_X3_init) (A := [vI (3 : Int32), vI (3 : Int32)]) [vR (some q15), vI (1 : Int32), vR (some q3), vR (some q3), vR p0] dX2_init_29 (Or.inl q239) mf_X3_init rfl rfl (w_X3_init e20) (Nat.le_of_ble_eq_true rfl) rfl (by rw [← e19]; rfl) (Nat.le_of_ble_eq_true rfl) (zku ?_) zkn9
  obtain ⟨h22, e23, H⟩ := zbind H
  refine zy_aast (pc := 32) dX2_init_32 (by decide) e23 ?_
  refine zw_dup (pc := 33) dX2_init_33 rfl ?_
  refine zw_iconst (pc := 34) (v := (2 : Int32)) dX2_init_34 (by decide) ?_
  obtain ⟨q24, h25, e26, H⟩ := zbind2 H
  refine zy_new (pc := 35) dX2_init_35 ln_X2_9 e26 ?_
  refine zw_dup (pc := 38) dX2_init_38 rfl ?_
  refine zw_iconst (pc := 39) (v := (3 : Int32)) dX2_init_39 (by decide) ?_
  refine zw_iconst (pc := 40) (v := (3 : Int32)) dX2_init_40 (by decide) ?_
  obtain ⟨b27, e28, H⟩ := zbind H
  obtain ⟨h30, e29, H⟩ := zbind H
  refine zw_invI (pc := 41) (M' := M_X3_init) (A := [vI (3 : Int32), vI (3 : Int32)]) [vR (some q24), vI (2 : Int32), vR (some q3), vR (some q3), vR p0] dX2_init_41 (Or.inl q239) mf_X3_init rfl rfl (w_X3_init e29) (Nat.le_of_ble_eq_true rfl) rfl (by rw [← e28]; rfl) (Nat.le_of_ble_eq_true rfl) (zku ?_) zkn9
  obtain ⟨h31, e32, H⟩ := zbind H
  refine zy_aast (pc := 44) dX2_init_44 (by decide) e32 ?_
  refine zw_dup (pc := 45) dX2_init_45 rfl ?_
  refine zw_iconst (pc := 46) (v := (3 : Int32)) dX2_init_46 (by decide) ?_
  obtain ⟨q33, h34, e35, H⟩ := zbind2 H
  refine zy_new (pc := 47) dX2_init_47 ln_X2_9 e35 ?_
  refine zw_dup (pc := 50) dX2_init_50 rfl ?_
  refine zw_iconst (pc := 51) (v := (3 : Int32)) dX2_init_51 (by decide) ?_
  refine zw_iconst (pc := 52) (v := (3 : Int32)) dX2_init_52 (by decide) ?_
  obtain ⟨b36, e37, H⟩ := zbind H
  obtain ⟨h39, e38, H⟩ := zbind H
  refine zw_invI (pc := 53) (M' := M_X3_init) (A := [vI (3 : Int32), vI (3 : Int32)]) [vR (some q33), vI (3 : Int32), vR (some q3), vR (some q3), vR p0] dX2_init_53 (Or.inl q239) mf_X3_init rfl rfl (w_X3_init e38) (Nat.le_of_ble_eq_true rfl) rfl (by rw [← e37]; rfl) (Nat.le_of_ble_eq_true rfl) (zku ?_) zkn9
  obtain ⟨h40, e41, H⟩ := zbind H
  refine zy_aast (pc := 56) dX2_init_56 (by decide) e41 ?_
  obtain ⟨h42, e43, H⟩ := zbind H
  refine zy_putR (pc := 57) dX2_init_57 lp_X2_14 rfl e43 ?_
  obtain rfl := Option.some.inj H
  exact zw_vret (pc := 60) dX2_init_60 rfl rfl rfl
theorem ln_X2_15 : zCl "CsrCalculator$World" 15 2 := ⟨_, by decide, by decide, rfl, q550, q231, q181⟩
theorem lf_X2_21 : zFl "CsrCalculator$World" 21 2 1 := ⟨_, "CsrCalculator$World", by decide, rfl, by decide, Or.inl q274, Or.inl rfl⟩
theorem lp_X2_21 {nm : String} : zFp "CsrCalculator$World" nm 21 2 1 := ⟨_, "CsrCalculator$World", by decide, rfl, by decide, Or.inl rfl, Or.inl ⟨Or.inl q274, rfl⟩⟩
theorem lf_X2_14 : zFl "CsrCalculator$World" 14 2 0 := ⟨_, "CsrCalculator$World", by decide, rfl, by decide, Or.inl q271, Or.inl rfl⟩
def M_X2_copy : zM := (yX2_copy, cX2_copy, 3, (.some (.object "CsrCalculator$World")), [])
theorem mf_X2_copy : zMi M_X2_copy 0 := ⟨⟨q549, q181, ⟨by decide +kernel, by decide +kernel⟩, by decide +kernel, by decide⟩, q547⟩
def B_X2_copy_10 (k10 : Option Nat → Option Nat → Int32 → zH → Option (Option Nat × zH)) (a0 : Option Nat) (a1 : Option Nat) (a2 : Int32) (h : zH) : Option (Option Nat × zH) :=
  if (4 : Int32) ≤ a2 then
  (zgI 2 1 a0 h).bind fun x2 =>
  (zpI 2 1 a1 x2 h).bind fun h4 =>
  some (a1, h4)
  else
  (zgR 2 0 a1 h).bind fun x6 =>
  (zgR 2 0 a0 h).bind fun x8 =>
  (zaR 61 x8 a2 h).bind fun x10 =>
  (zsR 61 x6 a2 x10 h).bind fun h12 =>
  k10 a0 a1 (a2 + (1 : Int32)) h12
theorem wB_X2_copy_10 {G : zG} {h0 h : zH} {vx : Option Nat} {vh : zH} {k10 : Option Nat → Option Nat → Int32 → zH → Option (Option Nat × zH)} (hk10 : ∀ (b0 : Option Nat) (b1 : Option Nat) (b2 : Int32) (h' : zH), k10 b0 b1 b2 h' = some (vx, vh) → zW G M_X2_copy 5 h0 (.inl (some (vR vx))) vh 10 [(0, vR b0), (1, vR b1), (2, vI b2)] [] h') {a0 : Option Nat} {a1 : Option Nat} {a2 : Int32} (H : B_X2_copy_10 k10 a0 a1 a2 h = some (vx, vh)) : zW G M_X2_copy 5 h0 (.inl (some (vR vx))) vh 10 [(0, vR a0), (1, vR a1), (2, vI a2)] [] h := by
  unfold B_X2_copy_10 at H
  refine zw_iload_n (pc := 10) dX2_copy_10 rfl 2 rfl ?_
  refine zw_iconst (pc := 11) (v := (4 : Int32)) dX2_copy_11 (by decide) ?_
  rcases zif H with ⟨c1, H⟩ | ⟨c1, H⟩
  · refine zw_icmp_ge (pc := 12) (tgt := 33) dX2_copy_12 rfl (fun _ => ?_) (fun q => absurd c1 q)
    refine zw_aload_n (pc := 33) dX2_copy_33 rfl 1 rfl ?_
    refine zw_aload_n (pc := 34) dX2_copy_34 rfl 0 rfl ?_
    obtain ⟨x2, e3, H⟩ := zbind H
    refine zy_getI (pc := 35) dX2_copy_35 lf_X2_21 (fun _ _ => rfl) e3 ?_
    obtain ⟨h4, e5, H⟩ := zbind H
    refine zy_putI (pc := 38) dX2_copy_38 lp_X2_21 rfl e5 ?_
    refine zw_aload_n (pc := 41) dX2_copy_41 rfl 1 rfl ?_
    obtain ⟨rfl, rfl⟩ := Prod.mk.inj (Option.some.inj H)
    exact zw_aret (pc := 42) dX2_copy_42 rfl (Or.inl ⟨_, rfl⟩) rfl rfl
  · refine zw_icmp_ge (pc := 12) (tgt := 33) dX2_copy_12 rfl (fun q => absurd q c1) (fun _ => ?_)
    refine zw_aload_n (pc := 15) dX2_copy_15 rfl 1 rfl ?_
    obtain ⟨x6, e7, H⟩ := zbind H
    refine zy_getR (pc := 16) dX2_copy_16 lf_X2_14 (fun _ _ => rfl) e7 ?_
    refine zw_iload_n (pc := 19) dX2_copy_19 rfl 2 rfl ?_
    refine zw_aload_n (pc := 20) dX2_copy_20 rfl 0 rfl ?_
    obtain ⟨x8, e9, H⟩ := zbind H
    refine zy_getR (pc := 21) dX2_copy_21 lf_X2_14 (fun _ _ => rfl) e9 ?_
    refine zw_iload_n (pc := 24) dX2_copy_24 rfl 2 rfl ?_
    obtain ⟨x10, e11, H⟩ := zbind H
    refine zy_aald (pc := 25) dX2_copy_25 (by decide) e11 ?_
    obtain ⟨h12, e13, H⟩ := zbind H
    refine zy_aast (pc := 26) dX2_copy_26 (by decide) e13 ?_
    refine zw_iinc (pc := 27) (v := (a2 + (1 : Int32))) (lv' := [(2, vI (a2 + (1 : Int32))), (0, vR a0), (1, vR a1)]) dX2_copy_27 2 rfl rfl (by decide) rfl ?_
    refine zw_goto (pc := 30) (tgt := 10) dX2_copy_30 rfl ?_
    refine zW_pick (lv' := [(0, vR a0), (1, vR a1), (2, vI (a2 + (1 : Int32)))]) [1, 2, 0] rfl ?_
    exact hk10 _ _ _ _ H
def f_X2_copy (p0 : Option Nat) (h : zH) : Option (Option Nat × zH) :=
  zb2 (znw 2 h) fun q1 h2 =>
  (some q1).bind fun b4 =>
  (f_X2_init (some b4) h2).bind fun h7 =>
  zloop (B_X2_copy_10) (fun _ _ _ _ => none) zFU p0 (some q1) (0 : Int32) h7
theorem w_X2_copy {G : zG} {p0 : Option Nat} {h : zH} {vx : Option Nat} {vh : zH} (H : f_X2_copy p0 h = some (vx, vh)) : zMet G M_X2_copy 5 [vR p0] h (.inl (some (vR vx))) vh := by
  refine zMet.of (by decide +kernel) (Nat.le_of_ble_eq_true rfl) ?_
  show zW G M_X2_copy 5 h (.inl (some (vR vx))) vh 0 [(0, vR p0)] [] h
  unfold f_X2_copy at H
  obtain ⟨q1, h2, e3, H⟩ := zbind2 H
  refine zy_new (pc := 0) dX2_copy_0 ln_X2_15 e3 ?_
  refine zw_dup (pc := 3) dX2_copy_3 rfl ?_
  obtain ⟨b4, e5, H⟩ := zbind H
  obtain ⟨h7, e6, H⟩ := zbind H
  refine zw_invI (pc := 4) (M' := M_X2_init) (A := []) [vR (some q1)] dX2_copy_4 (Or.inl q551) mf_X2_init rfl rfl (w_X2_init e6) (Nat.le_of_ble_eq_true rfl) rfl (by rw [← e5]; rfl) (Nat.le_of_ble_eq_true rfl) (zku ?_) zkn9
  refine zw_astore_n (pc := 7) (lv' := [(1, vR (some q1)), (0, vR p0)]) dX2_copy_7 rfl (by decide) rfl ?_
  refine zw_iconst (pc := 8) (v := (0 : Int32)) dX2_copy_8 (by decide) ?_
  refine zw_istore_n (pc := 9) (lv' := [(2, vI (0 : Int32)), (1, vR (some q1)), (0, vR p0)]) dX2_copy_9 rfl (by decide) rfl ?_
  refine zW_pick (lv' := [(0, vR p0), (1, vR (some q1)), (2, vI (0 : Int32))]) [2, 1, 0] rfl ?_
  exact zloop_ind (body := (B_X2_copy_10)) (bot := (fun _ _ _ _ => none)) (P := (fun (f : Option Nat → Option Nat → Int32 → zH → Option (Option Nat × zH)) => ∀ (b0 : Option Nat) (b1 : Option Nat) (b2 : Int32) (h' : zH), f b0 b1 b2 h' = some (vx, vh) → zW G M_X2_copy 5 h (.inl (some (vR vx))) vh 10 [(0, vR b0), (1, vR b1), (2, vI b2)] [] h')) zFU (fun _ _ _ _ H => nomatch H) (fun f hf c0 c1 c2 h' H => wB_X2_copy_10 hf H) _ _ _ _ H
def M_X2_stored : zM := (yX2_stored, cX2_stored, 6, (.some .int), [])
theorem mf_X2_stored : zMi M_X2_stored 0 := ⟨⟨q555, q181, ⟨by decide +kernel, by decide +kernel⟩, by decide +kernel, by decide⟩, q553⟩
def B_X2_stored_13 (k13 : Int32 → Option Nat → Int32 → Int32 → Option Int32) (a0 : Int32) (a1 : Option Nat) (a2 : Int32) (a3 : Int32) (h : zH) : Option Int32 :=
  if a2 ≤ a3 then
  some a0
  else
  (zaR 61 a1 a3 h).bind fun x2 =>
  (zrv 3 x2 h).bind fun b4 =>
  (f_X3_stored (some b4) h).bind fun x9 =>
  k13 (a0 + x9) a1 a2 (a3 + (1 : Int32))
theorem wB_X2_stored_13 {G : zG} {h0 h : zH} {vx : Int32} {k13 : Int32 → Option Nat → Int32 → Int32 → Option Int32} (hk13 : ∀ (b0 : Int32) (b1 : Option Nat) (b2 : Int32) (b3 : Int32), k13 b0 b1 b2 b3 = some vx → zW G M_X2_stored 3 h0 (.inl (some (vI vx))) h 13 [(1, vI b0), (2, vR b1), (3, vI b2), (4, vI b3)] [] h) {a0 : Int32} {a1 : Option Nat} {a2 : Int32} {a3 : Int32} (H : B_X2_stored_13 k13 a0 a1 a2 a3 h = some vx) : zW G M_X2_stored 3 h0 (.inl (some (vI vx))) h 13 [(1, vI a0), (2, vR a1), (3, vI a2), (4, vI a3)] [] h := by
  unfold B_X2_stored_13 at H
  refine zw_iload (pc := 13) dX2_stored_13 3 rfl ?_
  refine zw_iload_n (pc := 15) dX2_stored_15 rfl 2 rfl ?_
  rcases zif H with ⟨c1, H⟩ | ⟨c1, H⟩
  · refine zw_icmp_ge (pc := 16) (tgt := 39) dX2_stored_16 rfl (fun _ => ?_) (fun q => absurd c1 q)
    refine zw_iload_n (pc := 39) dX2_stored_39 rfl 0 rfl ?_
    obtain rfl := Option.some.inj H
    exact zw_iret (pc := 40) dX2_stored_40 rfl rfl rfl
  · refine zw_icmp_ge (pc := 16) (tgt := 39) dX2_stored_16 rfl (fun q => absurd q c1) (fun _ => ?_)
    refine zw_aload_n (pc := 19) dX2_stored_19 rfl 1 rfl ?_
    refine zw_iload (pc := 20) dX2_stored_20 3 rfl ?_
    obtain ⟨x2, e3, H⟩ := zbind H
    refine zy_aald (pc := 22) dX2_stored_22 (by decide) e3 ?_
    refine zw_astore (pc := 23) (lv' := [(5, vR x2), (1, vI a0), (2, vR a1), (3, vI a2), (4, vI a3)]) dX2_stored_23 (by decide) rfl ?_
    refine zw_iload_n (pc := 25) dX2_stored_25 rfl 1 rfl ?_
    refine zw_aload (pc := 26) dX2_stored_26 0 rfl ?_
    obtain ⟨b4, e6, H⟩ := zbind H
    obtain ⟨e5, e7⟩ := zrv_ok e6
    obtain ⟨x9, e8, H⟩ := zbind H
    refine zw_invV (pc := 28) (M' := M_X3_stored) (A := []) [vI a0] dX2_stored_28 (Or.inl q556) mf_X3_stored q510 (zkq e7 rfl) (w_X3_stored e8) (Nat.le_of_ble_eq_true rfl) rfl (by rw [← e5]; rfl) (Nat.le_of_ble_eq_true rfl) (zkv ?_) zkn9
    refine zw_iadd (pc := 31) dX2_stored_31 ?_
    refine zw_istore_n (pc := 32) (lv' := [(1, vI (a0 + x9)), (5, vR x2), (2, vR a1), (3, vI a2), (4, vI a3)]) dX2_stored_32 rfl (by decide) rfl ?_
    refine zw_iinc (pc := 33) (v := (a3 + (1 : Int32))) (lv' := [(4, vI (a3 + (1 : Int32))), (1, vI (a0 + x9)), (5, vR x2), (2, vR a1), (3, vI a2)]) dX2_stored_33 4 rfl rfl (by decide) rfl ?_
    refine zw_goto (pc := 36) (tgt := 13) dX2_stored_36 rfl ?_
    refine zW_pick (lv' := [(1, vI (a0 + x9)), (2, vR a1), (3, vI a2), (4, vI (a3 + (1 : Int32)))]) [1, 3, 4, 0] rfl ?_
    exact hk13 _ _ _ _ H
def f_X2_stored (p0 : Option Nat) (h : zH) : Option Int32 :=
  (zgR 2 0 p0 h).bind fun x1 =>
  (zaN x1 h).bind fun x3 =>
  zloop (fun f c0 c1 c2 c3 => B_X2_stored_13 f c0 c1 c2 c3 h) (fun _ _ _ _ => none) zFU (0 : Int32) x1 x3 (0 : Int32)
theorem w_X2_stored {G : zG} {p0 : Option Nat} {h : zH} {vx : Int32} (H : f_X2_stored p0 h = some vx) : zMet G M_X2_stored 3 [vR p0] h (.inl (some (vI vx))) h := by
  refine zMet.of (by decide +kernel) (Nat.le_of_ble_eq_true rfl) ?_
  show zW G M_X2_stored 3 h (.inl (some (vI vx))) h 0 [(0, vR p0)] [] h
  unfold f_X2_stored at H
  refine zw_iconst (pc := 0) (v := (0 : Int32)) dX2_stored_0 (by decide) ?_
  refine zw_istore_n (pc := 1) (lv' := [(1, vI (0 : Int32)), (0, vR p0)]) dX2_stored_1 rfl (by decide) rfl ?_
  refine zw_aload_n (pc := 2) dX2_stored_2 rfl 1 rfl ?_
  obtain ⟨x1, e2, H⟩ := zbind H
  refine zy_getR (pc := 3) dX2_stored_3 lf_X2_14 (fun _ _ => rfl) e2 ?_
  refine zw_astore_n (pc := 6) (lv' := [(2, vR x1), (1, vI (0 : Int32)), (0, vR p0)]) dX2_stored_6 rfl (by decide) rfl ?_
  refine zw_aload_n (pc := 7) dX2_stored_7 rfl 0 rfl ?_
  obtain ⟨x3, e4, H⟩ := zbind H
  refine zy_alen (pc := 8) dX2_stored_8 e4 ?_
  refine zw_istore_n (pc := 9) (lv' := [(3, vI x3), (2, vR x1), (1, vI (0 : Int32)), (0, vR p0)]) dX2_stored_9 rfl (by decide) rfl ?_
  refine zw_iconst (pc := 10) (v := (0 : Int32)) dX2_stored_10 (by decide) ?_
  refine zw_istore (pc := 11) (lv' := [(4, vI (0 : Int32)), (3, vI x3), (2, vR x1), (1, vI (0 : Int32)), (0, vR p0)]) dX2_stored_11 (by decide) rfl ?_
  refine zW_pick (lv' := [(1, vI (0 : Int32)), (2, vR x1), (3, vI x3), (4, vI (0 : Int32))]) [3, 2, 1, 0] rfl ?_
  exact zloop_ind (body := (fun f c0 c1 c2 c3 => B_X2_stored_13 f c0 c1 c2 c3 h)) (bot := (fun _ _ _ _ => none)) (P := (fun (f : Int32 → Option Nat → Int32 → Int32 → Option Int32) => ∀ (b0 : Int32) (b1 : Option Nat) (b2 : Int32) (b3 : Int32), f b0 b1 b2 b3 = some vx → zW G M_X2_stored 3 h (.inl (some (vI vx))) h 13 [(1, vI b0), (2, vR b1), (3, vI b2), (4, vI b3)] [] h)) zFU (fun _ _ _ _ H => nomatch H) (fun f hf c0 c1 c2 c3 H => wB_X2_stored_13 hf H) _ _ _ _ H
def M_X2_put : zM := (yX2_put, cX2_put, 3, (.some .int), [])
theorem mf_X2_put : zMi M_X2_put 2 := ⟨⟨q1096, q181, ⟨by decide +kernel, by decide +kernel⟩, by decide +kernel, by decide⟩, q1094⟩
def f_X2_put (p0 : Option Nat) (p1 : Int32) (p2 : Option Nat) (h : zH) : Option (Int32 × zH) :=
  (zgR 2 0 p0 h).bind fun x1 =>
  (zsR 61 x1 p1 p2 h).bind fun h3 =>
  (zrv 3 p2 h3).bind fun b5 =>
  (f_X3_stored (some b5) h3).bind fun x10 =>
  some (x10, h3)
theorem w_X2_put {G : zG} {p0 : Option Nat} {p1 : Int32} {p2 : Option Nat} {h : zH} {vx : Int32} {vh : zH} (H : f_X2_put p0 p1 p2 h = some (vx, vh)) : zMet G M_X2_put 3 [vR p0, vI p1, vR p2] h (.inl (some (vI vx))) vh := by
  refine zMet.of (by decide +kernel) (Nat.le_of_ble_eq_true rfl) ?_
  show zW G M_X2_put 3 h (.inl (some (vI vx))) vh 0 [(0, vR p0), (1, vI p1), (2, vR p2)] [] h
  unfold f_X2_put at H
  refine zw_aload_n (pc := 0) dX2_put_0 rfl 0 rfl ?_
  obtain ⟨x1, e2, H⟩ := zbind H
  refine zy_getR (pc := 1) dX2_put_1 lf_X2_14 (fun _ _ => rfl) e2 ?_
  refine zw_iload_n (pc := 4) dX2_put_4 rfl 1 rfl ?_
  refine zw_aload_n (pc := 5) dX2_put_5 rfl 2 rfl ?_
  obtain ⟨h3, e4, H⟩ := zbind H
  refine zy_aast (pc := 6) dX2_put_6 (by decide) e4 ?_
  refine zw_aload_n (pc := 7) dX2_put_7 rfl 2 rfl ?_
  obtain ⟨b5, e7, H⟩ := zbind H
  obtain ⟨e6, e8⟩ := zrv_ok e7
  obtain ⟨x10, e9, H⟩ := zbind H
  refine zw_invV (pc := 8) (M' := M_X3_stored) (A := []) [] dX2_put_8 (Or.inl q556) mf_X3_stored q510 (zkq e8 rfl) (w_X3_stored e9) (Nat.le_of_ble_eq_true rfl) rfl (by rw [← e6]; rfl) (Nat.le_of_ble_eq_true rfl) (zkv ?_) zkn9
  obtain ⟨rfl, rfl⟩ := Prod.mk.inj (Option.some.inj H)
  exact zw_iret (pc := 11) dX2_put_11 rfl rfl rfl
theorem lq_X15_9 : zFp "CsrCalculator$Evaluator" "<init>" 9 14 0 := ⟨_, "CsrCalculator$Evaluator", by decide, rfl, by decide, Or.inl rfl, Or.inr ⟨q1327, rfl, rfl, rfl⟩⟩
def M_X15_init : zM := (yX15_init, cX15_init, 2, none, [])
theorem mf_X15_init : zMi M_X15_init 1 := ⟨⟨q1325, q216, ⟨by decide +kernel, by decide +kernel⟩, by decide +kernel, by decide⟩, q1324⟩
def f_X15_init (p0 : Option Nat) (p1 : Option Nat) (h : zH) : Option zH :=
  p0.bind fun b1 =>
  (zpR 14 0 p0 p1 h).bind fun h3 =>
  some h3
theorem w_X15_init {G : zG} {p0 : Option Nat} {p1 : Option Nat} {h : zH} {vh : zH} (H : f_X15_init p0 p1 h = some vh) : zMet G M_X15_init 2 [vR p0, vR p1] h (.inl none) vh := by
  refine zMet.of (by decide +kernel) (Nat.le_of_ble_eq_true rfl) ?_
  show zW G M_X15_init 2 h (.inl none) vh 0 [(0, vR p0), (1, vR p1)] [] h
  unfold f_X15_init at H
  refine zw_aload_n (pc := 0) dX15_init_0 rfl 0 rfl ?_
  obtain ⟨b1, e2, H⟩ := zbind H
  refine zy_objInit (pc := 1) dX15_init_1 q1326 e2 (Nat.le_of_ble_eq_true rfl) (Nat.le_of_ble_eq_true rfl) ?_
  refine zw_aload_n (pc := 4) dX15_init_4 rfl 0 rfl ?_
  refine zw_aload_n (pc := 5) dX15_init_5 rfl 1 rfl ?_
  obtain ⟨h3, e4, H⟩ := zbind H
  refine zy_putR (pc := 6) dX15_init_6 lq_X15_9 rfl e4 ?_
  obtain rfl := Option.some.inj H
  exact zw_vret (pc := 9) dX15_init_9 rfl rfl rfl
theorem ln_X15_64 : zCl "CsrCalculator$Evaluator" 64 7 := ⟨_, by decide, by decide, rfl, q1347, q429, q205⟩
def M_X15_unit : zM := (yX15_unit, cX15_unit, 2, (.some (.object "CsrCalculator$Csr")), [])
theorem mf_X15_unit : zMi M_X15_unit 1 := ⟨⟨q1344, q216, ⟨by decide +kernel, by decide +kernel⟩, by decide +kernel, by decide⟩, q1343⟩
def f_X15_unit (p0 : Option Nat) (p1 : Int32) (h : zH) : Option ((Option Nat ⊕ Nat) × zH) :=
  (f_X1_isIn p1.toInt64 (1 : Int64) (12 : Int64) h).bind fun x2 =>
  if x2 = 0 then
  zb2 (znw 7 h) fun q10 h11 =>
  (some q10).bind fun b13 =>
  (f_X7_init (some b13) h11).bind fun h16 =>
  (some q10).bind fun q17 =>
  if zk h16 q17 = 7 then
  some (.inr q17, h16)
  else none
  else
  zb3 (f_X3_unit p1 h) (fun x5 h6 =>
  some (.inl x5, h6))
  (fun q7 h8 =>
  if zk h8 q7 = 7 then
  some (.inr q7, h8)
  else none)
theorem w_X15_unit {G : zG} {p0 : Option Nat} {p1 : Int32} {h : zH} {vo : Option Nat ⊕ Nat} {vh : zH} (H : f_X15_unit p0 p1 h = some (vo, vh)) : zMet G M_X15_unit 9 [vR p0, vI p1] h (zoR vo) vh := by
  refine zMet.of (by decide +kernel) (Nat.le_of_ble_eq_true rfl) ?_
  show zW G M_X15_unit 9 h (zoR vo) vh 0 [(0, vR p0), (1, vI p1)] [] h
  unfold f_X15_unit at H
  refine zw_iload_n (pc := 0) dX15_unit_0 rfl 1 rfl ?_
  refine zw_i2l (pc := 1) dX15_unit_1 ?_
  refine zw_lconst (pc := 2) (v := (1 : Int64)) dX15_unit_2 (by decide) ?_
  refine zw_ldc2 (pc := 3) dX15_unit_3 q1345 ?_
  obtain ⟨x2, e1, H⟩ := zbind H
  refine zw_invS (pc := 6) (M' := M_X1_isIn) (A := [vJ p1.toInt64, vJ (1 : Int64), vJ (12 : Int64)]) [] dX15_unit_6 (Or.inr (by decide +kernel)) mf_X1_isIn (w_X1_isIn e1) (Nat.le_of_ble_eq_true rfl) rfl rfl (Nat.le_of_ble_eq_true rfl) (zkv ?_) zkn9
  rcases zif H with ⟨c3, H⟩ | ⟨c3, H⟩
  · refine zw_if_ne (pc := 9) (tgt := 20) dX15_unit_9 rfl (fun q => absurd c3 q) (fun _ => ?_)
    obtain ⟨q10, h11, e12, H⟩ := zbind2 H
    refine zy_new (pc := 12) dX15_unit_12 ln_X15_64 e12 ?_
    refine zw_dup (pc := 15) dX15_unit_15 rfl ?_
    obtain ⟨b13, e14, H⟩ := zbind H
    obtain ⟨h16, e15, H⟩ := zbind H
    refine zw_invI (pc := 16) (M' := M_X7_init) (A := []) [vR (some q10)] dX15_unit_16 (Or.inl q1348) mf_X7_init rfl rfl (w_X7_init e15) (Nat.le_of_ble_eq_true rfl) rfl (by rw [← e14]; rfl) (Nat.le_of_ble_eq_true rfl) (zku ?_) zkn9
    obtain ⟨q17, e18, H⟩ := zbind H
    refine zy_athrow (pc := 19) dX15_unit_19 e18 ?_
    rcases zif H with ⟨c19, H⟩ | ⟨c19, H⟩
    · have c19 := c19
      obtain ⟨rfl, rfl⟩ := Prod.mk.inj (Option.some.inj H)
      exact zx_out (zkq c19 rfl) (fun _ hz => nomatch hz) rfl rfl
    cases H
  · refine zw_if_ne (pc := 9) (tgt := 20) dX15_unit_9 rfl (fun _ => ?_) (fun q => absurd q c3)
    refine zw_iload_n (pc := 20) dX15_unit_20 rfl 1 rfl ?_
    rcases zbind3 H with ⟨x5, h6, e4, H⟩ | ⟨q7, h8, e4, H⟩
    · refine zw_invS (pc := 21) (M' := M_X3_unit) (A := [vI p1]) [] dX15_unit_21 (Or.inl q1349) mf_X3_unit (w_X3_unit e4) (Nat.le_of_ble_eq_true rfl) rfl rfl (Nat.le_of_ble_eq_true rfl) (zkv ?_) zkn9
      obtain ⟨rfl, rfl⟩ := Prod.mk.inj (Option.some.inj H)
      exact zw_aret (pc := 24) dX15_unit_24 rfl (Or.inl ⟨_, rfl⟩) rfl rfl
    · refine zw_invS (pc := 21) (M' := M_X3_unit) (A := [vI p1]) [] dX15_unit_21 (Or.inl q1349) mf_X3_unit (w_X3_unit e4) (Nat.le_of_ble_eq_true rfl) rfl rfl (Nat.le_of_ble_eq_true rfl) zkv0 (zkx ?_)
      rcases zif H with ⟨c9, H⟩ | ⟨c9, H⟩
      · have c9 := c9
        obtain ⟨rfl, rfl⟩ := Prod.mk.inj (Option.some.inj H)
        exact zx_out (zkq c9 rfl) (fun _ hz => nomatch hz) rfl rfl
      cases H
def M_X15_multiple : zM := (yX15_multiple, cX15_multiple, 2, (.some (.object "CsrCalculator$Csr")), [])
theorem mf_X15_multiple : zMi M_X15_multiple 1 := ⟨⟨q1363, q216, ⟨by decide +kernel, by decide +kernel⟩, by decide +kernel, by decide⟩, q1362⟩
def M_X15_sum : zM := (yX15_sum, cX15_sum, 4, (.some (.object "CsrCalculator$Csr")), [])
theorem mf_X15_sum : zMi M_X15_sum 1 := ⟨⟨q1378, q216, ⟨by decide +kernel, by decide +kernel⟩, by decide +kernel, by decide⟩, q1377⟩
def M_X15_product : zM := (yX15_product, cX15_product, 6, (.some (.object "CsrCalculator$Csr")), [])
theorem mf_X15_product : zMi M_X15_product 1 := ⟨⟨q1430, q216, ⟨by decide +kernel, by decide +kernel⟩, by decide +kernel, by decide⟩, q1429⟩
def M_X15_valueOf : zM := (yX15_valueOf, cX15_valueOf, 3, (.some (.object "CsrCalculator$Csr")), [])
theorem mf_X15_valueOf : zMi M_X15_valueOf 1 := ⟨⟨q1338, q216, ⟨by decide +kernel, by decide +kernel⟩, by decide +kernel, by decide⟩, q1336⟩
theorem lf_X15_74 : zFl "CsrCalculator$Evaluator" 74 13 0 := ⟨_, "CsrCalculator$Multiple", by decide, rfl, by decide, Or.inr (by decide +kernel), Or.inl rfl⟩
theorem lf_X15_77 : zFl "CsrCalculator$Evaluator" 77 13 1 := ⟨_, "CsrCalculator$Multiple", by decide, rfl, by decide, Or.inr (by decide +kernel), Or.inl rfl⟩
def g_X15_multiple (r : Option Nat → Option Nat → zH → Option ((Option Nat ⊕ Nat) × zH)) (p0 : Option Nat) (p1 : Option Nat) (h : zH) : Option ((Option Nat ⊕ Nat) × zH) :=
  (zgI 13 0 p1 h).bind fun x1 =>
  if x1 ≤ (99 : Int32) then
  (zgR 13 1 p1 h).bind fun x4 =>
  (zrv 14 p0 h).bind fun b6 =>
  zb3 (r (some b6) x4 h) (fun x11 h12 =>
  (zgI 13 0 p1 h12).bind fun x15 =>
  (zrv 3 x11 h12).bind fun b17 =>
  zb3 (f_X3_scaled (some b17) x15 h12) (fun x22 h23 =>
  some (.inl x22, h23))
  (fun q24 h25 =>
  if zk h25 q24 = 7 then
  some (.inr q24, h25)
  else none))
  (fun q13 h14 =>
  if zk h14 q13 = 7 then
  some (.inr q13, h14)
  else none)
  else
  zb2 (znw 7 h) fun q28 h29 =>
  (some q28).bind fun b31 =>
  (f_X7_init (some b31) h29).bind fun h34 =>
  (some q28).bind fun q35 =>
  if zk h34 q35 = 7 then
  some (.inr q35, h34)
  else none
theorem w_g_X15_multiple {G : zG} {r : Option Nat → Option Nat → zH → Option ((Option Nat ⊕ Nat) × zH)} {dd : Nat} (hdd : 10 ≤ dd) (hr : ∀ (b0 : Option Nat) (b1 : Option Nat) (h : zH) (vo : Option Nat ⊕ Nat) (vh : zH), r b0 b1 h = some (vo, vh) → zMet G M_X15_valueOf dd [vR b0, vR b1] h (zoR vo) vh) {p0 : Option Nat} {p1 : Option Nat} {h : zH} {vo : Option Nat ⊕ Nat} {vh : zH} (H : g_X15_multiple r p0 p1 h = some (vo, vh)) : zMet G M_X15_multiple (dd + 1) [vR p0, vR p1] h (zoR vo) vh := by
  refine zMet.of (by decide +kernel) (Nat.le_of_ble_eq_true rfl) ?_
  show zW G M_X15_multiple (dd + 1) h (zoR vo) vh 0 [(0, vR p0), (1, vR p1)] [] h
  unfold g_X15_multiple at H
  refine zw_aload_n (pc := 0) dX15_multiple_0 rfl 1 rfl ?_
  obtain ⟨x1, e2, H⟩ := zbind H
  refine zy_getI (pc := 1) dX15_multiple_1 lf_X15_74 (fun _ _ => rfl) e2 ?_
  refine zw_bipush (pc := 4) (v := (99 : Int32)) dX15_multiple_4 (by decide) ?_
  rcases zif H with ⟨c3, H⟩ | ⟨c3, H⟩
  · refine zw_icmp_le (pc := 6) (tgt := 17) dX15_multiple_6 rfl (fun _ => ?_) (fun q => absurd c3 q)
    refine zw_aload_n (pc := 17) dX15_multiple_17 rfl 0 rfl ?_
    refine zw_aload_n (pc := 18) dX15_multiple_18 rfl 1 rfl ?_
    obtain ⟨x4, e5, H⟩ := zbind H
    refine zy_getR (pc := 19) dX15_multiple_19 lf_X15_77 (fun _ _ => rfl) e5 ?_
    obtain ⟨b6, e8, H⟩ := zbind H
    obtain ⟨e7, e9⟩ := zrv_ok e8
    rcases zbind3 H with ⟨x11, h12, e10, H⟩ | ⟨q13, h14, e10, H⟩
    · refine zw_invV (pc := 22) (M' := M_X15_valueOf) (A := [vR x4]) [] dX15_multiple_22 (Or.inl q1357) mf_X15_valueOf q1337 (zkq e9 rfl) (hr _ _ _ _ _ e10) (Nat.add_le_add_left (Nat.le_of_ble_eq_true rfl) dd) rfl (by rw [← e7]; rfl) (Nat.le_of_ble_eq_true rfl) (zkv ?_) zkn9
      refine zw_aload_n (pc := 25) dX15_multiple_25 rfl 1 rfl ?_
      obtain ⟨x15, e16, H⟩ := zbind H
      refine zy_getI (pc := 26) dX15_multiple_26 lf_X15_74 (fun _ _ => rfl) e16 ?_
      obtain ⟨b17, e19, H⟩ := zbind H
      obtain ⟨e18, e20⟩ := zrv_ok e19
      rcases zbind3 H with ⟨x22, h23, e21, H⟩ | ⟨q24, h25, e21, H⟩
      · refine zw_invV (pc := 29) (M' := M_X3_scaled) (A := [vI x15]) [] dX15_multiple_29 (Or.inl q1364) mf_X3_scaled q1366 (zkq e20 rfl) (w_X3_scaled e21) (Nat.le_trans (show 9 ≤ 10 from Nat.le_of_ble_eq_true rfl) (Nat.le_trans hdd (Nat.le_add_right _ _))) rfl (by rw [← e18]; rfl) (Nat.le_of_ble_eq_true rfl) (zkv ?_) zkn9
        obtain ⟨rfl, rfl⟩ := Prod.mk.inj (Option.some.inj H)
        exact zw_aret (pc := 32) dX15_multiple_32 rfl (Or.inl ⟨_, rfl⟩) rfl rfl
      · refine zw_invV (pc := 29) (M' := M_X3_scaled) (A := [vI x15]) [] dX15_multiple_29 (Or.inl q1364) mf_X3_scaled q1366 (zkq e20 rfl) (w_X3_scaled e21) (Nat.le_trans (show 9 ≤ 10 from Nat.le_of_ble_eq_true rfl) (Nat.le_trans hdd (Nat.le_add_right _ _))) rfl (by rw [← e18]; rfl) (Nat.le_of_ble_eq_true rfl) zkv0 (zkx ?_)
        rcases zif H with ⟨c26, H⟩ | ⟨c26, H⟩
        · have c26 := c26
          obtain ⟨rfl, rfl⟩ := Prod.mk.inj (Option.some.inj H)
          exact zx_out (zkq c26 rfl) (fun _ hz => nomatch hz) rfl rfl
        cases H
    · refine zw_invV (pc := 22) (M' := M_X15_valueOf) (A := [vR x4]) [] dX15_multiple_22 (Or.inl q1357) mf_X15_valueOf q1337 (zkq e9 rfl) (hr _ _ _ _ _ e10) (Nat.add_le_add_left (Nat.le_of_ble_eq_true rfl) dd) rfl (by rw [← e7]; rfl) (Nat.le_of_ble_eq_true rfl) zkv0 (zkx ?_)
      rcases zif H with ⟨c27, H⟩ | ⟨c27, H⟩
      · have c27 := c27
        obtain ⟨rfl, rfl⟩ := Prod.mk.inj (Option.some.inj H)
        exact zx_out (zkq c27 rfl) (fun _ hz => nomatch hz) rfl rfl
      cases H
  · refine zw_icmp_le (pc := 6) (tgt := 17) dX15_multiple_6 rfl (fun q => absurd q c3) (fun _ => ?_)
    obtain ⟨q28, h29, e30, H⟩ := zbind2 H
    refine zy_new (pc := 9) dX15_multiple_9 ln_X15_64 e30 ?_
    refine zw_dup (pc := 12) dX15_multiple_12 rfl ?_
    obtain ⟨b31, e32, H⟩ := zbind H
    obtain ⟨h34, e33, H⟩ := zbind H
    refine zw_invI (pc := 13) (M' := M_X7_init) (A := []) [vR (some q28)] dX15_multiple_13 (Or.inl q1348) mf_X7_init rfl rfl (w_X7_init e33) (Nat.le_trans (show 5 ≤ 10 from Nat.le_of_ble_eq_true rfl) (Nat.le_trans hdd (Nat.le_add_right _ _))) rfl (by rw [← e32]; rfl) (Nat.le_of_ble_eq_true rfl) (zku ?_) zkn9
    obtain ⟨q35, e36, H⟩ := zbind H
    refine zy_athrow (pc := 16) dX15_multiple_16 e36 ?_
    rcases zif H with ⟨c37, H⟩ | ⟨c37, H⟩
    · have c37 := c37
      obtain ⟨rfl, rfl⟩ := Prod.mk.inj (Option.some.inj H)
      exact zx_out (zkq c37 rfl) (fun _ hz => nomatch hz) rfl rfl
    cases H
theorem lf_X15_81 : zFl "CsrCalculator$Evaluator" 81 8 0 := ⟨_, "CsrCalculator$Sum", by decide, rfl, by decide, Or.inr (by decide +kernel), Or.inl rfl⟩
theorem lc_X15_91 : zCt "CsrCalculator$Evaluator" 91 [8, 9, 10, 11, 12, 13] := ⟨_, q1396, by
  intro k hk
  simp only [List.mem_cons, List.not_mem_nil, or_false] at hk
  rcases hk with rfl | rfl | rfl | rfl | rfl | rfl <;> first | exact Or.inl ⟨by decide, by decide +kernel⟩ | exact Or.inr ⟨_, rfl, Or.inl rfl⟩ | exact Or.inr ⟨_, rfl, Or.inr (by decide +kernel)⟩⟩
theorem lf_X15_96 : zFl "CsrCalculator$Evaluator" 96 8 1 := ⟨_, "CsrCalculator$Sum", by decide, rfl, by decide, Or.inr (by decide +kernel), Or.inl rfl⟩
theorem lc_X15_99 : zCt "CsrCalculator$Evaluator" 99 [23, 24] := ⟨_, q1406, by
  intro k hk
  simp only [List.mem_cons, List.not_mem_nil, or_false] at hk
  rcases hk with rfl | rfl <;> first | exact Or.inl ⟨by decide, by decide +kernel⟩ | exact Or.inr ⟨_, rfl, Or.inl rfl⟩ | exact Or.inr ⟨_, rfl, Or.inr (by decide +kernel)⟩⟩
def B_X15_sum_20 (r : Option Nat → Option Nat → zH → Option ((Option Nat ⊕ Nat) × zH)) (k20 : Option Nat → Option Nat → Option Nat → Int32 → zH → Option ((Option Nat ⊕ Nat) × zH)) (a0 : Option Nat) (a1 : Option Nat) (a2 : Option Nat) (a3 : Int32) (h : zH) : Option ((Option Nat ⊕ Nat) × zH) :=
  (zgR 8 0 a1 h).bind fun x1 =>
  (zrv 16 x1 h).bind fun b3 =>
  (f_J18_size (some b3) h).bind fun x8 =>
  if x8 ≤ a3 then
  some (.inl a2, h)
  else
  (zgR 8 1 a1 h).bind fun x10 =>
  (zrv 16 x10 h).bind fun b12 =>
  (f_J18_get (some b12) (a3 - (1 : Int32)) h).bind fun x17 =>
  if zct [23, 24] x17 h = true then
  (zgR 8 0 a1 h).bind fun x19 =>
  (zrv 16 x19 h).bind fun b21 =>
  (f_J18_get (some b21) a3 h).bind fun x26 =>
  if zct [8, 9, 10, 11, 12, 13] x26 h = true then
  (zrv 14 a0 h).bind fun b28 =>
  zb3 (r (some b28) x26 h) (fun x33 h34 =>
  (zrv 3 a2 h34).bind fun b37 =>
  zb3 (f_X3_joined (some b37) x17 x33 h34) (fun x42 h43 =>
  k20 a0 a1 x42 (a3 + (1 : Int32)) h43)
  (fun q44 h45 =>
  if zk h45 q44 = 7 then
  some (.inr q44, h45)
  else none))
  (fun q35 h36 =>
  if zk h36 q35 = 7 then
  some (.inr q35, h36)
  else none)
  else none
  else none
theorem wB_X15_sum_20 {G : zG} {h0 h : zH} {vo : Option Nat ⊕ Nat} {vh : zH} {r : Option Nat → Option Nat → zH → Option ((Option Nat ⊕ Nat) × zH)} {dd : Nat} (hdd : 10 ≤ dd) (hr : ∀ (b0 : Option Nat) (b1 : Option Nat) (h : zH) (vo : Option Nat ⊕ Nat) (vh : zH), r b0 b1 h = some (vo, vh) → zMet G M_X15_valueOf dd [vR b0, vR b1] h (zoR vo) vh) {k20 : Option Nat → Option Nat → Option Nat → Int32 → zH → Option ((Option Nat ⊕ Nat) × zH)} (hk20 : ∀ (b0 : Option Nat) (b1 : Option Nat) (b2 : Option Nat) (b3 : Int32) (h' : zH), k20 b0 b1 b2 b3 h' = some (vo, vh) → zW G M_X15_sum (dd + 1) h0 (zoR vo) vh 20 [(0, vR b0), (1, vR b1), (2, vR b2), (3, vI b3)] [] h') {a0 : Option Nat} {a1 : Option Nat} {a2 : Option Nat} {a3 : Int32} (H : B_X15_sum_20 r k20 a0 a1 a2 a3 h = some (vo, vh)) : zW G M_X15_sum (dd + 1) h0 (zoR vo) vh 20 [(0, vR a0), (1, vR a1), (2, vR a2), (3, vI a3)] [] h := by
  unfold B_X15_sum_20 at H
  refine zw_iload_n (pc := 20) dX15_sum_20 rfl 3 rfl ?_
  refine zw_aload_n (pc := 21) dX15_sum_21 rfl 1 rfl ?_
  obtain ⟨x1, e2, H⟩ := zbind H
  refine zy_getR (pc := 22) dX15_sum_22 lf_X15_81 (fun _ _ => rfl) e2 ?_
  obtain ⟨b3, e5, H⟩ := zbind H
  obtain ⟨e4, e6⟩ := zrv_ok e5
  obtain ⟨x8, e7, H⟩ := zbind H
  refine zw_invF (pc := 25) (M' := M_J18_size) (A := []) [vI a3] dX15_sum_25 q1398 (by decide +kernel) mf_J18_size rfl q1401 (zkq e6 rfl) (w_J18_size e7) (Nat.le_trans (show 3 ≤ 10 from Nat.le_of_ble_eq_true rfl) (Nat.le_trans hdd (Nat.le_add_right _ _))) rfl (by rw [← e4]; rfl) (Nat.le_of_ble_eq_true rfl) (zkv ?_) zkn9
  rcases zif H with ⟨c9, H⟩ | ⟨c9, H⟩
  · refine zw_icmp_ge (pc := 30) (tgt := 76) dX15_sum_30 rfl (fun _ => ?_) (fun q => absurd c9 q)
    refine zw_aload_n (pc := 76) dX15_sum_76 rfl 2 rfl ?_
    obtain ⟨rfl, rfl⟩ := Prod.mk.inj (Option.some.inj H)
    exact zw_aret (pc := 77) dX15_sum_77 rfl (Or.inl ⟨_, rfl⟩) rfl rfl
  · refine zw_icmp_ge (pc := 30) (tgt := 76) dX15_sum_30 rfl (fun q => absurd q c9) (fun _ => ?_)
    refine zw_aload_n (pc := 33) dX15_sum_33 rfl 2 rfl ?_
    refine zw_aload_n (pc := 34) dX15_sum_34 rfl 1 rfl ?_
    obtain ⟨x10, e11, H⟩ := zbind H
    refine zy_getR (pc := 35) dX15_sum_35 lf_X15_96 (fun _ _ => rfl) e11 ?_
    refine zw_iload_n (pc := 38) dX15_sum_38 rfl 3 rfl ?_
    refine zw_iconst (pc := 39) (v := (1 : Int32)) dX15_sum_39 (by decide) ?_
    refine zw_isub (pc := 40) dX15_sum_40 ?_
    obtain ⟨b12, e14, H⟩ := zbind H
    obtain ⟨e13, e15⟩ := zrv_ok e14
    obtain ⟨x17, e16, H⟩ := zbind H
    refine zw_invF (pc := 41) (M' := M_J18_get) (A := [vI (a3 - (1 : Int32))]) [vR a2] dX15_sum_41 q1380 (by decide +kernel) mf_J18_get rfl q1383 (zkq e15 rfl) (w_J18_get e16) (Nat.le_trans (show 5 ≤ 10 from Nat.le_of_ble_eq_true rfl) (Nat.le_trans hdd (Nat.le_add_right _ _))) rfl (by rw [← e13]; rfl) (Nat.le_of_ble_eq_true rfl) (zkv ?_) zkn9
    obtain ⟨c18, H⟩ := zgd H
    refine zy_cast (pc := 46) [23, 24] dX15_sum_46 lc_X15_99 c18 ?_
    refine zw_aload_n (pc := 49) dX15_sum_49 rfl 0 rfl ?_
    refine zw_aload_n (pc := 50) dX15_sum_50 rfl 1 rfl ?_
    obtain ⟨x19, e20, H⟩ := zbind H
    refine zy_getR (pc := 51) dX15_sum_51 lf_X15_81 (fun _ _ => rfl) e20 ?_
    refine zw_iload_n (pc := 54) dX15_sum_54 rfl 3 rfl ?_
    obtain ⟨b21, e23, H⟩ := zbind H
    obtain ⟨e22, e24⟩ := zrv_ok e23
    obtain ⟨x26, e25, H⟩ := zbind H
    refine zw_invF (pc := 55) (M' := M_J18_get) (A := [vI a3]) [vR a0, vR x17, vR a2] dX15_sum_55 q1380 (by decide +kernel) mf_J18_get rfl q1383 (zkq e24 rfl) (w_J18_get e25) (Nat.le_trans (show 5 ≤ 10 from Nat.le_of_ble_eq_true rfl) (Nat.le_trans hdd (Nat.le_add_right _ _))) rfl (by rw [← e22]; rfl) (Nat.le_of_ble_eq_true rfl) (zkv ?_) zkn9
    obtain ⟨c27, H⟩ := zgd H
    refine zy_cast (pc := 60) [8, 9, 10, 11, 12, 13] dX15_sum_60 lc_X15_91 c27 ?_
    obtain ⟨b28, e30, H⟩ := zbind H
    obtain ⟨e29, e31⟩ := zrv_ok e30
    rcases zbind3 H with ⟨x33, h34, e32, H⟩ | ⟨q35, h36, e32, H⟩
    · refine zw_invV (pc := 63) (M' := M_X15_valueOf) (A := [vR x26]) [vR x17, vR a2] dX15_sum_63 (Or.inl q1357) mf_X15_valueOf q1337 (zkq e31 rfl) (hr _ _ _ _ _ e32) (Nat.add_le_add_left (Nat.le_of_ble_eq_true rfl) dd) rfl (by rw [← e29]; rfl) (Nat.le_of_ble_eq_true rfl) (zkv ?_) zkn9
      obtain ⟨b37, e39, H⟩ := zbind H
      obtain ⟨e38, e40⟩ := zrv_ok e39
      rcases zbind3 H with ⟨x42, h43, e41, H⟩ | ⟨q44, h45, e41, H⟩
      · refine zw_invV (pc := 66) (M' := M_X3_joined) (A := [vR x17, vR x33]) [] dX15_sum_66 (Or.inl q1407) mf_X3_joined q1409 (zkq e40 rfl) (w_X3_joined e41) (Nat.le_trans (show 9 ≤ 10 from Nat.le_of_ble_eq_true rfl) (Nat.le_trans hdd (Nat.le_add_right _ _))) rfl (by rw [← e38]; rfl) (Nat.le_of_ble_eq_true rfl) (zkv ?_) zkn9
        refine zw_astore_n (pc := 69) (lv' := [(2, vR x42), (0, vR a0), (1, vR a1), (3, vI a3)]) dX15_sum_69 rfl (by decide) rfl ?_
        refine zw_iinc (pc := 70) (v := (a3 + (1 : Int32))) (lv' := [(3, vI (a3 + (1 : Int32))), (2, vR x42), (0, vR a0), (1, vR a1)]) dX15_sum_70 3 rfl rfl (by decide) rfl ?_
        refine zw_goto (pc := 73) (tgt := 20) dX15_sum_73 rfl ?_
        refine zW_pick (lv' := [(0, vR a0), (1, vR a1), (2, vR x42), (3, vI (a3 + (1 : Int32)))]) [2, 3, 1, 0] rfl ?_
        exact hk20 _ _ _ _ _ H
      · refine zw_invV (pc := 66) (M' := M_X3_joined) (A := [vR x17, vR x33]) [] dX15_sum_66 (Or.inl q1407) mf_X3_joined q1409 (zkq e40 rfl) (w_X3_joined e41) (Nat.le_trans (show 9 ≤ 10 from Nat.le_of_ble_eq_true rfl) (Nat.le_trans hdd (Nat.le_add_right _ _))) rfl (by rw [← e38]; rfl) (Nat.le_of_ble_eq_true rfl) zkv0 (zkx ?_)
        rcases zif H with ⟨c46, H⟩ | ⟨c46, H⟩
        · have c46 := c46
          obtain ⟨rfl, rfl⟩ := Prod.mk.inj (Option.some.inj H)
          exact zx_out (zkq c46 rfl) (fun _ hz => nomatch hz) rfl rfl
        cases H
    · refine zw_invV (pc := 63) (M' := M_X15_valueOf) (A := [vR x26]) [vR x17, vR a2] dX15_sum_63 (Or.inl q1357) mf_X15_valueOf q1337 (zkq e31 rfl) (hr _ _ _ _ _ e32) (Nat.add_le_add_left (Nat.le_of_ble_eq_true rfl) dd) rfl (by rw [← e29]; rfl) (Nat.le_of_ble_eq_true rfl) zkv0 (zkx ?_)
      rcases zif H with ⟨c47, H⟩ | ⟨c47, H⟩
      · have c47 := c47
        obtain ⟨rfl, rfl⟩ := Prod.mk.inj (Option.some.inj H)
        exact zx_out (zkq c47 rfl) (fun _ hz => nomatch hz) rfl rfl
      cases H
def g_X15_sum (r : Option Nat → Option Nat → zH → Option ((Option Nat ⊕ Nat) × zH)) (p0 : Option Nat) (p1 : Option Nat) (h : zH) : Option ((Option Nat ⊕ Nat) × zH) :=
  (zgR 8 0 p1 h).bind fun x1 =>
  (zrv 16 x1 h).bind fun b3 =>
  (f_J18_get (some b3) (0 : Int32) h).bind fun x8 =>
  if zct [8, 9, 10, 11, 12, 13] x8 h = true then
  (zrv 14 p0 h).bind fun b10 =>
  zb3 (r (some b10) x8 h) (fun x15 h16 =>
  zloop (B_X15_sum_20 r) (fun _ _ _ _ _ => none) zFU p0 p1 x15 (1 : Int32) h16)
  (fun q17 h18 =>
  if zk h18 q17 = 7 then
  some (.inr q17, h18)
  else none)
  else none
theorem w_g_X15_sum {G : zG} {r : Option Nat → Option Nat → zH → Option ((Option Nat ⊕ Nat) × zH)} {dd : Nat} (hdd : 10 ≤ dd) (hr : ∀ (b0 : Option Nat) (b1 : Option Nat) (h : zH) (vo : Option Nat ⊕ Nat) (vh : zH), r b0 b1 h = some (vo, vh) → zMet G M_X15_valueOf dd [vR b0, vR b1] h (zoR vo) vh) {p0 : Option Nat} {p1 : Option Nat} {h : zH} {vo : Option Nat ⊕ Nat} {vh : zH} (H : g_X15_sum r p0 p1 h = some (vo, vh)) : zMet G M_X15_sum (dd + 1) [vR p0, vR p1] h (zoR vo) vh := by
  refine zMet.of (by decide +kernel) (Nat.le_of_ble_eq_true rfl) ?_
  show zW G M_X15_sum (dd + 1) h (zoR vo) vh 0 [(0, vR p0), (1, vR p1)] [] h
  unfold g_X15_sum at H
  refine zw_aload_n (pc := 0) dX15_sum_0 rfl 0 rfl ?_
  refine zw_aload_n (pc := 1) dX15_sum_1 rfl 1 rfl ?_
  obtain ⟨x1, e2, H⟩ := zbind H
  refine zy_getR (pc := 2) dX15_sum_2 lf_X15_81 (fun _ _ => rfl) e2 ?_
  refine zw_iconst (pc := 5) (v := (0 : Int32)) dX15_sum_5 (by decide) ?_
  obtain ⟨b3, e5, H⟩ := zbind H
  obtain ⟨e4, e6⟩ := zrv_ok e5
  obtain ⟨x8, e7, H⟩ := zbind H
  refine zw_invF (pc := 6) (M' := M_J18_get) (A := [vI (0 : Int32)]) [vR p0] dX15_sum_6 q1380 (by decide +kernel) mf_J18_get rfl q1383 (zkq e6 rfl) (w_J18_get e7) (Nat.le_trans (show 5 ≤ 10 from Nat.le_of_ble_eq_true rfl) (Nat.le_trans hdd (Nat.le_add_right _ _))) rfl (by rw [← e4]; rfl) (Nat.le_of_ble_eq_true rfl) (zkv ?_) zkn9
  obtain ⟨c9, H⟩ := zgd H
  refine zy_cast (pc := 11) [8, 9, 10, 11, 12, 13] dX15_sum_11 lc_X15_91 c9 ?_
  obtain ⟨b10, e12, H⟩ := zbind H
  obtain ⟨e11, e13⟩ := zrv_ok e12
  rcases zbind3 H with ⟨x15, h16, e14, H⟩ | ⟨q17, h18, e14, H⟩
  · refine zw_invV (pc := 14) (M' := M_X15_valueOf) (A := [vR x8]) [] dX15_sum_14 (Or.inl q1357) mf_X15_valueOf q1337 (zkq e13 rfl) (hr _ _ _ _ _ e14) (Nat.add_le_add_left (Nat.le_of_ble_eq_true rfl) dd) rfl (by rw [← e11]; rfl) (Nat.le_of_ble_eq_true rfl) (zkv ?_) zkn9
    refine zw_astore_n (pc := 17) (lv' := [(2, vR x15), (0, vR p0), (1, vR p1)]) dX15_sum_17 rfl (by decide) rfl ?_
    refine zw_iconst (pc := 18) (v := (1 : Int32)) dX15_sum_18 (by decide) ?_
    refine zw_istore_n (pc := 19) (lv' := [(3, vI (1 : Int32)), (2, vR x15), (0, vR p0), (1, vR p1)]) dX15_sum_19 rfl (by decide) rfl ?_
    refine zW_pick (lv' := [(0, vR p0), (1, vR p1), (2, vR x15), (3, vI (1 : Int32))]) [2, 3, 1, 0] rfl ?_
    exact zloop_ind (body := (B_X15_sum_20 r)) (bot := (fun _ _ _ _ _ => none)) (P := (fun (f : Option Nat → Option Nat → Option Nat → Int32 → zH → Option ((Option Nat ⊕ Nat) × zH)) => ∀ (b0 : Option Nat) (b1 : Option Nat) (b2 : Option Nat) (b3 : Int32) (h' : zH), f b0 b1 b2 b3 h' = some (vo, vh) → zW G M_X15_sum (dd + 1) h (zoR vo) vh 20 [(0, vR b0), (1, vR b1), (2, vR b2), (3, vI b3)] [] h')) zFU (fun _ _ _ _ _ H => nomatch H) (fun f hf c0 c1 c2 c3 h' H => wB_X15_sum_20 hdd hr hf H) _ _ _ _ _ H
  · refine zw_invV (pc := 14) (M' := M_X15_valueOf) (A := [vR x8]) [] dX15_sum_14 (Or.inl q1357) mf_X15_valueOf q1337 (zkq e13 rfl) (hr _ _ _ _ _ e14) (Nat.add_le_add_left (Nat.le_of_ble_eq_true rfl) dd) rfl (by rw [← e11]; rfl) (Nat.le_of_ble_eq_true rfl) zkv0 (zkx ?_)
    rcases zif H with ⟨c19, H⟩ | ⟨c19, H⟩
    · have c19 := c19
      obtain ⟨rfl, rfl⟩ := Prod.mk.inj (Option.some.inj H)
      exact zx_out (zkq c19 rfl) (fun _ hz => nomatch hz) rfl rfl
    cases H
theorem lf_X15_105 : zFl "CsrCalculator$Evaluator" 105 9 0 := ⟨_, "CsrCalculator$Product", by decide, rfl, by decide, Or.inr (by decide +kernel), Or.inl rfl⟩
theorem lf_X15_112 : zFl "CsrCalculator$Evaluator" 112 14 1 := ⟨_, "CsrCalculator$Evaluator", by decide, rfl, by decide, Or.inl q1329, Or.inl rfl⟩
theorem lp_X15_112 {nm : String} : zFp "CsrCalculator$Evaluator" nm 112 14 1 := ⟨_, "CsrCalculator$Evaluator", by decide, rfl, by decide, Or.inl rfl, Or.inl ⟨Or.inl q1329, rfl⟩⟩
def B_X15_product_20 (r : Option Nat → Option Nat → zH → Option ((Option Nat ⊕ Nat) × zH)) (k20 : Option Nat → Option Nat → Option Nat → Int32 → zH → Option ((Option Nat ⊕ Nat) × zH)) (a0 : Option Nat) (a1 : Option Nat) (a2 : Option Nat) (a3 : Int32) (h : zH) : Option ((Option Nat ⊕ Nat) × zH) :=
  (zgR 9 0 a1 h).bind fun x1 =>
  (zrv 16 x1 h).bind fun b3 =>
  (f_J18_size (some b3) h).bind fun x8 =>
  if x8 ≤ a3 then
  some (.inl a2, h)
  else
  (zgR 9 0 a1 h).bind fun x10 =>
  (zrv 16 x10 h).bind fun b12 =>
  (f_J18_get (some b12) a3 h).bind fun x17 =>
  if zct [8, 9, 10, 11, 12, 13] x17 h = true then
  (zrv 14 a0 h).bind fun b19 =>
  zb3 (r (some b19) x17 h) (fun x24 h25 =>
  (zrv 3 a2 h25).bind fun b28 =>
  zb3 (f_X3_times (some b28) x24 h25) (fun x33 h34 =>
  (zgI 14 1 a0 h34).bind fun x37 =>
  (zrv 3 a2 h34).bind fun b39 =>
  (f_X3_workWith (some b39) x24 h34).bind fun x44 =>
  (zpI 14 1 a0 (x37 + x44) h34).bind fun h45 =>
  k20 a0 a1 x33 (a3 + (1 : Int32)) h45)
  (fun q35 h36 =>
  if zk h36 q35 = 7 then
  some (.inr q35, h36)
  else none))
  (fun q26 h27 =>
  if zk h27 q26 = 7 then
  some (.inr q26, h27)
  else none)
  else none
theorem wB_X15_product_20 {G : zG} {h0 h : zH} {vo : Option Nat ⊕ Nat} {vh : zH} {r : Option Nat → Option Nat → zH → Option ((Option Nat ⊕ Nat) × zH)} {dd : Nat} (hdd : 10 ≤ dd) (hr : ∀ (b0 : Option Nat) (b1 : Option Nat) (h : zH) (vo : Option Nat ⊕ Nat) (vh : zH), r b0 b1 h = some (vo, vh) → zMet G M_X15_valueOf dd [vR b0, vR b1] h (zoR vo) vh) {k20 : Option Nat → Option Nat → Option Nat → Int32 → zH → Option ((Option Nat ⊕ Nat) × zH)} (hk20 : ∀ (b0 : Option Nat) (b1 : Option Nat) (b2 : Option Nat) (b3 : Int32) (h' : zH), k20 b0 b1 b2 b3 h' = some (vo, vh) → zW G M_X15_product (dd + 1) h0 (zoR vo) vh 20 [(0, vR b0), (1, vR b1), (2, vR b2), (3, vI b3)] [] h') {a0 : Option Nat} {a1 : Option Nat} {a2 : Option Nat} {a3 : Int32} (H : B_X15_product_20 r k20 a0 a1 a2 a3 h = some (vo, vh)) : zW G M_X15_product (dd + 1) h0 (zoR vo) vh 20 [(0, vR a0), (1, vR a1), (2, vR a2), (3, vI a3)] [] h := by
  unfold B_X15_product_20 at H
  refine zw_iload_n (pc := 20) dX15_product_20 rfl 3 rfl ?_
  refine zw_aload_n (pc := 21) dX15_product_21 rfl 1 rfl ?_
  obtain ⟨x1, e2, H⟩ := zbind H
  refine zy_getR (pc := 22) dX15_product_22 lf_X15_105 (fun _ _ => rfl) e2 ?_
  obtain ⟨b3, e5, H⟩ := zbind H
  obtain ⟨e4, e6⟩ := zrv_ok e5
  obtain ⟨x8, e7, H⟩ := zbind H
  refine zw_invF (pc := 25) (M' := M_J18_size) (A := []) [vI a3] dX15_product_25 q1398 (by decide +kernel) mf_J18_size rfl q1401 (zkq e6 rfl) (w_J18_size e7) (Nat.le_trans (show 3 ≤ 10 from Nat.le_of_ble_eq_true rfl) (Nat.le_trans hdd (Nat.le_add_right _ _))) rfl (by rw [← e4]; rfl) (Nat.le_of_ble_eq_true rfl) (zkv ?_) zkn9
  rcases zif H with ⟨c9, H⟩ | ⟨c9, H⟩
  · refine zw_icmp_ge (pc := 30) (tgt := 84) dX15_product_30 rfl (fun _ => ?_) (fun q => absurd c9 q)
    refine zw_aload_n (pc := 84) dX15_product_84 rfl 2 rfl ?_
    obtain ⟨rfl, rfl⟩ := Prod.mk.inj (Option.some.inj H)
    exact zw_aret (pc := 85) dX15_product_85 rfl (Or.inl ⟨_, rfl⟩) rfl rfl
  · refine zw_icmp_ge (pc := 30) (tgt := 84) dX15_product_30 rfl (fun q => absurd q c9) (fun _ => ?_)
    refine zw_aload_n (pc := 33) dX15_product_33 rfl 0 rfl ?_
    refine zw_aload_n (pc := 34) dX15_product_34 rfl 1 rfl ?_
    obtain ⟨x10, e11, H⟩ := zbind H
    refine zy_getR (pc := 35) dX15_product_35 lf_X15_105 (fun _ _ => rfl) e11 ?_
    refine zw_iload_n (pc := 38) dX15_product_38 rfl 3 rfl ?_
    obtain ⟨b12, e14, H⟩ := zbind H
    obtain ⟨e13, e15⟩ := zrv_ok e14
    obtain ⟨x17, e16, H⟩ := zbind H
    refine zw_invF (pc := 39) (M' := M_J18_get) (A := [vI a3]) [vR a0] dX15_product_39 q1380 (by decide +kernel) mf_J18_get rfl q1383 (zkq e15 rfl) (w_J18_get e16) (Nat.le_trans (show 5 ≤ 10 from Nat.le_of_ble_eq_true rfl) (Nat.le_trans hdd (Nat.le_add_right _ _))) rfl (by rw [← e13]; rfl) (Nat.le_of_ble_eq_true rfl) (zkv ?_) zkn9
    obtain ⟨c18, H⟩ := zgd H
    refine zy_cast (pc := 44) [8, 9, 10, 11, 12, 13] dX15_product_44 lc_X15_91 c18 ?_
    obtain ⟨b19, e21, H⟩ := zbind H
    obtain ⟨e20, e22⟩ := zrv_ok e21
    rcases zbind3 H with ⟨x24, h25, e23, H⟩ | ⟨q26, h27, e23, H⟩
    · refine zw_invV (pc := 47) (M' := M_X15_valueOf) (A := [vR x17]) [] dX15_product_47 (Or.inl q1357) mf_X15_valueOf q1337 (zkq e22 rfl) (hr _ _ _ _ _ e23) (Nat.add_le_add_left (Nat.le_of_ble_eq_true rfl) dd) rfl (by rw [← e20]; rfl) (Nat.le_of_ble_eq_true rfl) (zkv ?_) zkn9
      refine zw_astore (pc := 50) (lv' := [(4, vR x24), (0, vR a0), (1, vR a1), (2, vR a2), (3, vI a3)]) dX15_product_50 (by decide) rfl ?_
      refine zw_aload_n (pc := 52) dX15_product_52 rfl 3 rfl ?_
      refine zw_aload (pc := 53) dX15_product_53 0 rfl ?_
      obtain ⟨b28, e30, H⟩ := zbind H
      obtain ⟨e29, e31⟩ := zrv_ok e30
      rcases zbind3 H with ⟨x33, h34, e32, H⟩ | ⟨q35, h36, e32, H⟩
      · refine zw_invV (pc := 55) (M' := M_X3_times) (A := [vR x24]) [] dX15_product_55 (Or.inl q1431) mf_X3_times q522 (zkq e31 rfl) (w_X3_times e32) (Nat.le_trans (show 9 ≤ 10 from Nat.le_of_ble_eq_true rfl) (Nat.le_trans hdd (Nat.le_add_right _ _))) rfl (by rw [← e29]; rfl) (Nat.le_of_ble_eq_true rfl) (zkv ?_) zkn9
        refine zw_astore (pc := 58) (lv' := [(5, vR x33), (4, vR x24), (0, vR a0), (1, vR a1), (2, vR a2), (3, vI a3)]) dX15_product_58 (by decide) rfl ?_
        refine zw_aload_n (pc := 60) dX15_product_60 rfl 2 rfl ?_
        refine zw_dup (pc := 61) dX15_product_61 rfl ?_
        obtain ⟨x37, e38, H⟩ := zbind H
        refine zy_getI (pc := 62) dX15_product_62 lf_X15_112 (fun _ _ => rfl) e38 ?_
        refine zw_aload_n (pc := 65) dX15_product_65 rfl 4 rfl ?_
        refine zw_aload (pc := 66) dX15_product_66 1 rfl ?_
        obtain ⟨b39, e41, H⟩ := zbind H
        obtain ⟨e40, e42⟩ := zrv_ok e41
        obtain ⟨x44, e43, H⟩ := zbind H
        refine zw_invV (pc := 68) (M' := M_X3_workWith) (A := [vR x24]) [vI x37, vR a0] dX15_product_68 (Or.inl q1432) mf_X3_workWith q1434 (zkq e42 rfl) (w_X3_workWith e43) (Nat.le_trans (show 4 ≤ 10 from Nat.le_of_ble_eq_true rfl) (Nat.le_trans hdd (Nat.le_add_right _ _))) rfl (by rw [← e40]; rfl) (Nat.le_of_ble_eq_true rfl) (zkv ?_) zkn9
        refine zw_iadd (pc := 71) dX15_product_71 ?_
        obtain ⟨h45, e46, H⟩ := zbind H
        refine zy_putI (pc := 72) dX15_product_72 lp_X15_112 rfl e46 ?_
        refine zw_aload (pc := 75) dX15_product_75 0 rfl ?_
        refine zw_astore_n (pc := 77) (lv' := [(2, vR x33), (5, vR x33), (4, vR x24), (0, vR a0), (1, vR a1), (3, vI a3)]) dX15_product_77 rfl (by decide) rfl ?_
        refine zw_iinc (pc := 78) (v := (a3 + (1 : Int32))) (lv' := [(3, vI (a3 + (1 : Int32))), (2, vR x33), (5, vR x33), (4, vR x24), (0, vR a0), (1, vR a1)]) dX15_product_78 5 rfl rfl (by decide) rfl ?_
        refine zw_goto (pc := 81) (tgt := 20) dX15_product_81 rfl ?_
        refine zW_pick (lv' := [(0, vR a0), (1, vR a1), (2, vR x33), (3, vI (a3 + (1 : Int32)))]) [4, 5, 1, 0] rfl ?_
        exact hk20 _ _ _ _ _ H
      · refine zw_invV (pc := 55) (M' := M_X3_times) (A := [vR x24]) [] dX15_product_55 (Or.inl q1431) mf_X3_times q522 (zkq e31 rfl) (w_X3_times e32) (Nat.le_trans (show 9 ≤ 10 from Nat.le_of_ble_eq_true rfl) (Nat.le_trans hdd (Nat.le_add_right _ _))) rfl (by rw [← e29]; rfl) (Nat.le_of_ble_eq_true rfl) zkv0 (zkx ?_)
        rcases zif H with ⟨c47, H⟩ | ⟨c47, H⟩
        · have c47 := c47
          obtain ⟨rfl, rfl⟩ := Prod.mk.inj (Option.some.inj H)
          exact zx_out (zkq c47 rfl) (fun _ hz => nomatch hz) rfl rfl
        cases H
    · refine zw_invV (pc := 47) (M' := M_X15_valueOf) (A := [vR x17]) [] dX15_product_47 (Or.inl q1357) mf_X15_valueOf q1337 (zkq e22 rfl) (hr _ _ _ _ _ e23) (Nat.add_le_add_left (Nat.le_of_ble_eq_true rfl) dd) rfl (by rw [← e20]; rfl) (Nat.le_of_ble_eq_true rfl) zkv0 (zkx ?_)
      rcases zif H with ⟨c48, H⟩ | ⟨c48, H⟩
      · have c48 := c48
        obtain ⟨rfl, rfl⟩ := Prod.mk.inj (Option.some.inj H)
        exact zx_out (zkq c48 rfl) (fun _ hz => nomatch hz) rfl rfl
      cases H
def g_X15_product (r : Option Nat → Option Nat → zH → Option ((Option Nat ⊕ Nat) × zH)) (p0 : Option Nat) (p1 : Option Nat) (h : zH) : Option ((Option Nat ⊕ Nat) × zH) :=
  (zgR 9 0 p1 h).bind fun x1 =>
  (zrv 16 x1 h).bind fun b3 =>
  (f_J18_get (some b3) (0 : Int32) h).bind fun x8 =>
  if zct [8, 9, 10, 11, 12, 13] x8 h = true then
  (zrv 14 p0 h).bind fun b10 =>
  zb3 (r (some b10) x8 h) (fun x15 h16 =>
  zloop (B_X15_product_20 r) (fun _ _ _ _ _ => none) zFU p0 p1 x15 (1 : Int32) h16)
  (fun q17 h18 =>
  if zk h18 q17 = 7 then
  some (.inr q17, h18)
  else none)
  else none
theorem w_g_X15_product {G : zG} {r : Option Nat → Option Nat → zH → Option ((Option Nat ⊕ Nat) × zH)} {dd : Nat} (hdd : 10 ≤ dd) (hr : ∀ (b0 : Option Nat) (b1 : Option Nat) (h : zH) (vo : Option Nat ⊕ Nat) (vh : zH), r b0 b1 h = some (vo, vh) → zMet G M_X15_valueOf dd [vR b0, vR b1] h (zoR vo) vh) {p0 : Option Nat} {p1 : Option Nat} {h : zH} {vo : Option Nat ⊕ Nat} {vh : zH} (H : g_X15_product r p0 p1 h = some (vo, vh)) : zMet G M_X15_product (dd + 1) [vR p0, vR p1] h (zoR vo) vh := by
  refine zMet.of (by decide +kernel) (Nat.le_of_ble_eq_true rfl) ?_
  show zW G M_X15_product (dd + 1) h (zoR vo) vh 0 [(0, vR p0), (1, vR p1)] [] h
  unfold g_X15_product at H
  refine zw_aload_n (pc := 0) dX15_product_0 rfl 0 rfl ?_
  refine zw_aload_n (pc := 1) dX15_product_1 rfl 1 rfl ?_
  obtain ⟨x1, e2, H⟩ := zbind H
  refine zy_getR (pc := 2) dX15_product_2 lf_X15_105 (fun _ _ => rfl) e2 ?_
  refine zw_iconst (pc := 5) (v := (0 : Int32)) dX15_product_5 (by decide) ?_
  obtain ⟨b3, e5, H⟩ := zbind H
  obtain ⟨e4, e6⟩ := zrv_ok e5
  obtain ⟨x8, e7, H⟩ := zbind H
  refine zw_invF (pc := 6) (M' := M_J18_get) (A := [vI (0 : Int32)]) [vR p0] dX15_product_6 q1380 (by decide +kernel) mf_J18_get rfl q1383 (zkq e6 rfl) (w_J18_get e7) (Nat.le_trans (show 5 ≤ 10 from Nat.le_of_ble_eq_true rfl) (Nat.le_trans hdd (Nat.le_add_right _ _))) rfl (by rw [← e4]; rfl) (Nat.le_of_ble_eq_true rfl) (zkv ?_) zkn9
  obtain ⟨c9, H⟩ := zgd H
  refine zy_cast (pc := 11) [8, 9, 10, 11, 12, 13] dX15_product_11 lc_X15_91 c9 ?_
  obtain ⟨b10, e12, H⟩ := zbind H
  obtain ⟨e11, e13⟩ := zrv_ok e12
  rcases zbind3 H with ⟨x15, h16, e14, H⟩ | ⟨q17, h18, e14, H⟩
  · refine zw_invV (pc := 14) (M' := M_X15_valueOf) (A := [vR x8]) [] dX15_product_14 (Or.inl q1357) mf_X15_valueOf q1337 (zkq e13 rfl) (hr _ _ _ _ _ e14) (Nat.add_le_add_left (Nat.le_of_ble_eq_true rfl) dd) rfl (by rw [← e11]; rfl) (Nat.le_of_ble_eq_true rfl) (zkv ?_) zkn9
    refine zw_astore_n (pc := 17) (lv' := [(2, vR x15), (0, vR p0), (1, vR p1)]) dX15_product_17 rfl (by decide) rfl ?_
    refine zw_iconst (pc := 18) (v := (1 : Int32)) dX15_product_18 (by decide) ?_
    refine zw_istore_n (pc := 19) (lv' := [(3, vI (1 : Int32)), (2, vR x15), (0, vR p0), (1, vR p1)]) dX15_product_19 rfl (by decide) rfl ?_
    refine zW_pick (lv' := [(0, vR p0), (1, vR p1), (2, vR x15), (3, vI (1 : Int32))]) [2, 3, 1, 0] rfl ?_
    exact zloop_ind (body := (B_X15_product_20 r)) (bot := (fun _ _ _ _ _ => none)) (P := (fun (f : Option Nat → Option Nat → Option Nat → Int32 → zH → Option ((Option Nat ⊕ Nat) × zH)) => ∀ (b0 : Option Nat) (b1 : Option Nat) (b2 : Option Nat) (b3 : Int32) (h' : zH), f b0 b1 b2 b3 h' = some (vo, vh) → zW G M_X15_product (dd + 1) h (zoR vo) vh 20 [(0, vR b0), (1, vR b1), (2, vR b2), (3, vI b3)] [] h')) zFU (fun _ _ _ _ _ H => nomatch H) (fun f hf c0 c1 c2 c3 h' H => wB_X15_product_20 hdd hr hf H) _ _ _ _ _ H
  · refine zw_invV (pc := 14) (M' := M_X15_valueOf) (A := [vR x8]) [] dX15_product_14 (Or.inl q1357) mf_X15_valueOf q1337 (zkq e13 rfl) (hr _ _ _ _ _ e14) (Nat.add_le_add_left (Nat.le_of_ble_eq_true rfl) dd) rfl (by rw [← e11]; rfl) (Nat.le_of_ble_eq_true rfl) zkv0 (zkx ?_)
    rcases zif H with ⟨c19, H⟩ | ⟨c19, H⟩
    · have c19 := c19
      obtain ⟨rfl, rfl⟩ := Prod.mk.inj (Option.some.inj H)
      exact zx_out (zkq c19 rfl) (fun _ hz => nomatch hz) rfl rfl
    cases H
theorem li_X15_15 : zIs "CsrCalculator$Evaluator" 15 10 [6, 7, 8, 9, 11, 12, 13, 20, 21, 22] := ⟨_, q1339, rfl, by
  intro k hk
  simp only [List.mem_cons, List.not_mem_nil, or_false] at hk
  rcases hk with rfl | rfl | rfl | rfl | rfl | rfl | rfl | rfl | rfl | rfl <;> exact ⟨_, rfl, by decide +kernel⟩⟩
theorem li_X15_21 : zIs "CsrCalculator$Evaluator" 21 11 [6, 7, 8, 9, 10, 12, 13, 20, 21, 22] := ⟨_, q1340, rfl, by
  intro k hk
  simp only [List.mem_cons, List.not_mem_nil, or_false] at hk
  rcases hk with rfl | rfl | rfl | rfl | rfl | rfl | rfl | rfl | rfl | rfl <;> exact ⟨_, rfl, by decide +kernel⟩⟩
theorem li_X15_30 : zIs "CsrCalculator$Evaluator" 30 12 [6, 7, 8, 9, 10, 11, 13, 20, 21, 22] := ⟨_, q1356, rfl, by
  intro k hk
  simp only [List.mem_cons, List.not_mem_nil, or_false] at hk
  rcases hk with rfl | rfl | rfl | rfl | rfl | rfl | rfl | rfl | rfl | rfl <;> exact ⟨_, rfl, by decide +kernel⟩⟩
theorem li_X15_46 : zIs "CsrCalculator$Evaluator" 46 13 [6, 7, 8, 9, 10, 11, 12, 20, 21, 22] := ⟨_, q1359, rfl, by
  intro k hk
  simp only [List.mem_cons, List.not_mem_nil, or_false] at hk
  rcases hk with rfl | rfl | rfl | rfl | rfl | rfl | rfl | rfl | rfl | rfl <;> exact ⟨_, rfl, by decide +kernel⟩⟩
theorem li_X15_52 : zIs "CsrCalculator$Evaluator" 52 8 [6, 7, 9, 10, 11, 12, 13, 20, 21, 22] := ⟨_, q1374, rfl, by
  intro k hk
  simp only [List.mem_cons, List.not_mem_nil, or_false] at hk
  rcases hk with rfl | rfl | rfl | rfl | rfl | rfl | rfl | rfl | rfl | rfl <;> exact ⟨_, rfl, by decide +kernel⟩⟩
theorem li_X15_58 : zIs "CsrCalculator$Evaluator" 58 9 [6, 7, 8, 10, 11, 12, 13, 20, 21, 22] := ⟨_, q1426, rfl, by
  intro k hk
  simp only [List.mem_cons, List.not_mem_nil, or_false] at hk
  rcases hk with rfl | rfl | rfl | rfl | rfl | rfl | rfl | rfl | rfl | rfl <;> exact ⟨_, rfl, by decide +kernel⟩⟩
theorem lc_X15_58 : zCt "CsrCalculator$Evaluator" 58 [9] := ⟨_, q1426, by
  intro k hk
  simp only [List.mem_cons, List.not_mem_nil, or_false] at hk
  rcases hk with rfl <;> first | exact Or.inl ⟨by decide, by decide +kernel⟩ | exact Or.inr ⟨_, rfl, Or.inl rfl⟩ | exact Or.inr ⟨_, rfl, Or.inr (by decide +kernel)⟩⟩
theorem ls_X15_product : Cond.selects yX15_product.cls yX15_product yX15_product ∈ lw_all := lw_g (lw_ms _ (List.mem_of_getElem? (i := 37) rfl)) rfl
theorem lc_X15_52 : zCt "CsrCalculator$Evaluator" 52 [8] := ⟨_, q1374, by
  intro k hk
  simp only [List.mem_cons, List.not_mem_nil, or_false] at hk
  rcases hk with rfl <;> first | exact Or.inl ⟨by decide, by decide +kernel⟩ | exact Or.inr ⟨_, rfl, Or.inl rfl⟩ | exact Or.inr ⟨_, rfl, Or.inr (by decide +kernel)⟩⟩
theorem ls_X15_sum : Cond.selects yX15_sum.cls yX15_sum yX15_sum ∈ lw_all := lw_g (lw_ms _ (List.mem_of_getElem? (i := 34) rfl)) rfl
theorem lc_X15_46 : zCt "CsrCalculator$Evaluator" 46 [13] := ⟨_, q1359, by
  intro k hk
  simp only [List.mem_cons, List.not_mem_nil, or_false] at hk
  rcases hk with rfl <;> first | exact Or.inl ⟨by decide, by decide +kernel⟩ | exact Or.inr ⟨_, rfl, Or.inl rfl⟩ | exact Or.inr ⟨_, rfl, Or.inr (by decide +kernel)⟩⟩
theorem ls_X15_multiple : Cond.selects yX15_multiple.cls yX15_multiple yX15_multiple ∈ lw_all := lw_g (lw_ms _ (List.mem_of_getElem? (i := 31) rfl)) rfl
theorem lc_X15_30 : zCt "CsrCalculator$Evaluator" 30 [12] := ⟨_, q1356, by
  intro k hk
  simp only [List.mem_cons, List.not_mem_nil, or_false] at hk
  rcases hk with rfl <;> first | exact Or.inl ⟨by decide, by decide +kernel⟩ | exact Or.inr ⟨_, rfl, Or.inl rfl⟩ | exact Or.inr ⟨_, rfl, Or.inr (by decide +kernel)⟩⟩
theorem lf_X15_32 : zFl "CsrCalculator$Evaluator" 32 12 0 := ⟨_, "CsrCalculator$Transpose", by decide, rfl, by decide, Or.inr (by decide +kernel), Or.inl rfl⟩
theorem lc_X15_21 : zCt "CsrCalculator$Evaluator" 21 [11] := ⟨_, q1340, by
  intro k hk
  simp only [List.mem_cons, List.not_mem_nil, or_false] at hk
  rcases hk with rfl <;> first | exact Or.inl ⟨by decide, by decide +kernel⟩ | exact Or.inr ⟨_, rfl, Or.inl rfl⟩ | exact Or.inr ⟨_, rfl, Or.inr (by decide +kernel)⟩⟩
theorem lf_X15_23 : zFl "CsrCalculator$Evaluator" 23 11 0 := ⟨_, "CsrCalculator$Unit", by decide, rfl, by decide, Or.inr (by decide +kernel), Or.inl rfl⟩
theorem ls_X15_unit : Cond.selects yX15_unit.cls yX15_unit yX15_unit ∈ lw_all := lw_g (lw_ms _ (List.mem_of_getElem? (i := 30) rfl)) rfl
theorem lc_X15_15 : zCt "CsrCalculator$Evaluator" 15 [10] := ⟨_, q1339, by
  intro k hk
  simp only [List.mem_cons, List.not_mem_nil, or_false] at hk
  rcases hk with rfl <;> first | exact Or.inl ⟨by decide, by decide +kernel⟩ | exact Or.inr ⟨_, rfl, Or.inl rfl⟩ | exact Or.inr ⟨_, rfl, Or.inr (by decide +kernel)⟩⟩
theorem lf_X15_9 : zFl "CsrCalculator$Evaluator" 9 14 0 := ⟨_, "CsrCalculator$Evaluator", by decide, rfl, by decide, Or.inl q1327, Or.inl rfl⟩
theorem lf_X15_17 : zFl "CsrCalculator$Evaluator" 17 10 0 := ⟨_, "CsrCalculator$Register", by decide, rfl, by decide, Or.inr (by decide +kernel), Or.inl rfl⟩
def g_X15_valueOf (r : Option Nat → Option Nat → zH → Option ((Option Nat ⊕ Nat) × zH)) (p0 : Option Nat) (p1 : Option Nat) (h : zH) : Option ((Option Nat ⊕ Nat) × zH) :=
  (zis 10 [6, 7, 8, 9, 11, 12, 13, 20, 21, 22] p1 h).bind fun x1 =>
  if x1 = 0 then
  (zis 11 [6, 7, 8, 9, 10, 12, 13, 20, 21, 22] p1 h).bind fun x4 =>
  if x4 = 0 then
  (zis 12 [6, 7, 8, 9, 10, 11, 13, 20, 21, 22] p1 h).bind fun x7 =>
  if x7 = 0 then
  (zis 13 [6, 7, 8, 9, 10, 11, 12, 20, 21, 22] p1 h).bind fun x10 =>
  if x10 = 0 then
  (zis 8 [6, 7, 9, 10, 11, 12, 13, 20, 21, 22] p1 h).bind fun x13 =>
  if x13 = 0 then
  (zis 9 [6, 7, 8, 10, 11, 12, 13, 20, 21, 22] p1 h).bind fun x16 =>
  if x16 = 0 then
  zb2 (znw 7 h) fun q19 h20 =>
  (some q19).bind fun b22 =>
  (f_X7_init (some b22) h20).bind fun h25 =>
  (some q19).bind fun q26 =>
  if zk h25 q26 = 7 then
  some (.inr q26, h25)
  else none
  else
  if zct [9] p1 h = true then
  (zrv 14 p0 h).bind fun b30 =>
  zb3 (g_X15_product r (some b30) p1 h) (fun x35 h36 =>
  some (.inl x35, h36))
  (fun q37 h38 =>
  if zk h38 q37 = 7 then
  some (.inr q37, h38)
  else none)
  else none
  else
  if zct [8] p1 h = true then
  (zrv 14 p0 h).bind fun b41 =>
  zb3 (g_X15_sum r (some b41) p1 h) (fun x46 h47 =>
  some (.inl x46, h47))
  (fun q48 h49 =>
  if zk h49 q48 = 7 then
  some (.inr q48, h49)
  else none)
  else none
  else
  if zct [13] p1 h = true then
  (zrv 14 p0 h).bind fun b52 =>
  zb3 (g_X15_multiple r (some b52) p1 h) (fun x57 h58 =>
  some (.inl x57, h58))
  (fun q59 h60 =>
  if zk h60 q59 = 7 then
  some (.inr q59, h60)
  else none)
  else none
  else
  if zct [12] p1 h = true then
  (zgR 12 0 p1 h).bind fun x63 =>
  (zrv 14 p0 h).bind fun b65 =>
  zb3 (r (some b65) x63 h) (fun x70 h71 =>
  (zrv 3 x70 h71).bind fun b74 =>
  zb3 (f_X3_transposed (some b74) h71) (fun x79 h80 =>
  some (.inl x79, h80))
  (fun q81 h82 =>
  if zk h82 q81 = 7 then
  some (.inr q81, h82)
  else none))
  (fun q72 h73 =>
  if zk h73 q72 = 7 then
  some (.inr q72, h73)
  else none)
  else none
  else
  if zct [11] p1 h = true then
  (zgI 11 0 p1 h).bind fun x86 =>
  (zrv 14 p0 h).bind fun b88 =>
  zb3 (f_X15_unit (some b88) x86 h) (fun x93 h94 =>
  some (.inl x93, h94))
  (fun q95 h96 =>
  if zk h96 q95 = 7 then
  some (.inr q95, h96)
  else none)
  else none
  else
  if zct [10] p1 h = true then
  (zgR 14 0 p0 h).bind fun x99 =>
  (zgI 10 0 p1 h).bind fun x101 =>
  (zaR 61 x99 x101 h).bind fun x103 =>
  some (.inl x103, h)
  else none
theorem w_g_X15_valueOf {G : zG} {r : Option Nat → Option Nat → zH → Option ((Option Nat ⊕ Nat) × zH)} {dd : Nat} (hdd : 10 ≤ dd) (hr : ∀ (b0 : Option Nat) (b1 : Option Nat) (h : zH) (vo : Option Nat ⊕ Nat) (vh : zH), r b0 b1 h = some (vo, vh) → zMet G M_X15_valueOf dd [vR b0, vR b1] h (zoR vo) vh) {p0 : Option Nat} {p1 : Option Nat} {h : zH} {vo : Option Nat ⊕ Nat} {vh : zH} (H : g_X15_valueOf r p0 p1 h = some (vo, vh)) : zMet G M_X15_valueOf (dd + 2) [vR p0, vR p1] h (zoR vo) vh := by
  refine zMet.of (by decide +kernel) (Nat.le_of_ble_eq_true rfl) ?_
  show zW G M_X15_valueOf (dd + 2) h (zoR vo) vh 0 [(0, vR p0), (1, vR p1)] [] h
  unfold g_X15_valueOf at H
  refine zw_aload_n (pc := 0) dX15_valueOf_0 rfl 1 rfl ?_
  obtain ⟨x1, e2, H⟩ := zbind H
  refine zy_inst (pc := 1) [6, 7, 8, 9, 11, 12, 13, 20, 21, 22] dX15_valueOf_1 li_X15_15 e2 ?_
  rcases zif H with ⟨c3, H⟩ | ⟨c3, H⟩
  · refine zw_if_eq (pc := 4) (tgt := 22) dX15_valueOf_4 rfl (fun _ => ?_) (fun q => absurd c3 q)
    refine zw_aload_n (pc := 22) dX15_valueOf_22 rfl 1 rfl ?_
    obtain ⟨x4, e5, H⟩ := zbind H
    refine zy_inst (pc := 23) [6, 7, 8, 9, 10, 12, 13, 20, 21, 22] dX15_valueOf_23 li_X15_21 e5 ?_
    rcases zif H with ⟨c6, H⟩ | ⟨c6, H⟩
    · refine zw_if_eq (pc := 26) (tgt := 43) dX15_valueOf_26 rfl (fun _ => ?_) (fun q => absurd c6 q)
      refine zw_aload_n (pc := 43) dX15_valueOf_43 rfl 1 rfl ?_
      obtain ⟨x7, e8, H⟩ := zbind H
      refine zy_inst (pc := 44) [6, 7, 8, 9, 10, 11, 13, 20, 21, 22] dX15_valueOf_44 li_X15_30 e8 ?_
      rcases zif H with ⟨c9, H⟩ | ⟨c9, H⟩
      · refine zw_if_eq (pc := 47) (tgt := 67) dX15_valueOf_47 rfl (fun _ => ?_) (fun q => absurd c9 q)
        refine zw_aload_n (pc := 67) dX15_valueOf_67 rfl 1 rfl ?_
        obtain ⟨x10, e11, H⟩ := zbind H
        refine zy_inst (pc := 68) [6, 7, 8, 9, 10, 11, 12, 20, 21, 22] dX15_valueOf_68 li_X15_46 e11 ?_
        rcases zif H with ⟨c12, H⟩ | ⟨c12, H⟩
        · refine zw_if_eq (pc := 71) (tgt := 85) dX15_valueOf_71 rfl (fun _ => ?_) (fun q => absurd c12 q)
          refine zw_aload_n (pc := 85) dX15_valueOf_85 rfl 1 rfl ?_
          obtain ⟨x13, e14, H⟩ := zbind H
          refine zy_inst (pc := 86) [6, 7, 9, 10, 11, 12, 13, 20, 21, 22] dX15_valueOf_86 li_X15_52 e14 ?_
          rcases zif H with ⟨c15, H⟩ | ⟨c15, H⟩
          · refine zw_if_eq (pc := 89) (tgt := 103) dX15_valueOf_89 rfl (fun _ => ?_) (fun q => absurd c15 q)
            refine zw_aload_n (pc := 103) dX15_valueOf_103 rfl 1 rfl ?_
            obtain ⟨x16, e17, H⟩ := zbind H
            refine zy_inst (pc := 104) [6, 7, 8, 10, 11, 12, 13, 20, 21, 22] dX15_valueOf_104 li_X15_58 e17 ?_
            rcases zif H with ⟨c18, H⟩ | ⟨c18, H⟩
            · refine zw_if_eq (pc := 107) (tgt := 121) dX15_valueOf_107 rfl (fun _ => ?_) (fun q => absurd c18 q)
              obtain ⟨q19, h20, e21, H⟩ := zbind2 H
              refine zy_new (pc := 121) dX15_valueOf_121 ln_X15_64 e21 ?_
              refine zw_dup (pc := 124) dX15_valueOf_124 rfl ?_
              obtain ⟨b22, e23, H⟩ := zbind H
              obtain ⟨h25, e24, H⟩ := zbind H
              refine zw_invI (pc := 125) (M' := M_X7_init) (A := []) [vR (some q19)] dX15_valueOf_125 (Or.inl q1348) mf_X7_init rfl rfl (w_X7_init e24) (Nat.le_trans (show 5 ≤ 10 from Nat.le_of_ble_eq_true rfl) (Nat.le_trans hdd (Nat.le_add_right _ _))) rfl (by rw [← e23]; rfl) (Nat.le_of_ble_eq_true rfl) (zku ?_) zkn9
              obtain ⟨q26, e27, H⟩ := zbind H
              refine zy_athrow (pc := 128) dX15_valueOf_128 e27 ?_
              rcases zif H with ⟨c28, H⟩ | ⟨c28, H⟩
              · have c28 := c28
                obtain ⟨rfl, rfl⟩ := Prod.mk.inj (Option.some.inj H)
                exact zx_out (zkq c28 rfl) (fun _ hz => nomatch hz) rfl rfl
              cases H
            · refine zw_if_eq (pc := 107) (tgt := 121) dX15_valueOf_107 rfl (fun q => absurd q c18) (fun _ => ?_)
              refine zw_aload_n (pc := 110) dX15_valueOf_110 rfl 1 rfl ?_
              obtain ⟨c29, H⟩ := zgd H
              refine zy_cast (pc := 111) [9] dX15_valueOf_111 lc_X15_58 c29 ?_
              refine zw_astore_n (pc := 114) (lv' := [(2, vR p1), (0, vR p0), (1, vR p1)]) dX15_valueOf_114 rfl (by decide) rfl ?_
              refine zw_aload_n (pc := 115) dX15_valueOf_115 rfl 1 rfl ?_
              refine zw_aload_n (pc := 116) dX15_valueOf_116 rfl 0 rfl ?_
              obtain ⟨b30, e32, H⟩ := zbind H
              obtain ⟨e31, e33⟩ := zrv_ok e32
              rcases zbind3 H with ⟨x35, h36, e34, H⟩ | ⟨q37, h38, e34, H⟩
              · refine zw_invV (pc := 117) (M' := M_X15_product) (A := [vR p1]) [] dX15_valueOf_117 (Or.inl q1427) mf_X15_product ls_X15_product (zkq e33 rfl) (w_g_X15_product hdd hr e34) (show dd + 2 ≤ dd + 2 from Nat.add_le_add_left (Nat.le_of_ble_eq_true rfl) dd) rfl (by rw [← e31]; rfl) (Nat.le_of_ble_eq_true rfl) (zkv ?_) zkn9
                obtain ⟨rfl, rfl⟩ := Prod.mk.inj (Option.some.inj H)
                exact zw_aret (pc := 120) dX15_valueOf_120 rfl (Or.inl ⟨_, rfl⟩) rfl rfl
              · refine zw_invV (pc := 117) (M' := M_X15_product) (A := [vR p1]) [] dX15_valueOf_117 (Or.inl q1427) mf_X15_product ls_X15_product (zkq e33 rfl) (w_g_X15_product hdd hr e34) (show dd + 2 ≤ dd + 2 from Nat.add_le_add_left (Nat.le_of_ble_eq_true rfl) dd) rfl (by rw [← e31]; rfl) (Nat.le_of_ble_eq_true rfl) zkv0 (zkx ?_)
                rcases zif H with ⟨c39, H⟩ | ⟨c39, H⟩
                · have c39 := c39
                  obtain ⟨rfl, rfl⟩ := Prod.mk.inj (Option.some.inj H)
                  exact zx_out (zkq c39 rfl) (fun _ hz => nomatch hz) rfl rfl
                cases H
          · refine zw_if_eq (pc := 89) (tgt := 103) dX15_valueOf_89 rfl (fun q => absurd q c15) (fun _ => ?_)
            refine zw_aload_n (pc := 92) dX15_valueOf_92 rfl 1 rfl ?_
            obtain ⟨c40, H⟩ := zgd H
            refine zy_cast (pc := 93) [8] dX15_valueOf_93 lc_X15_52 c40 ?_
            refine zw_astore_n (pc := 96) (lv' := [(2, vR p1), (0, vR p0), (1, vR p1)]) dX15_valueOf_96 rfl (by decide) rfl ?_
            refine zw_aload_n (pc := 97) dX15_valueOf_97 rfl 1 rfl ?_
            refine zw_aload_n (pc := 98) dX15_valueOf_98 rfl 0 rfl ?_
            obtain ⟨b41, e43, H⟩ := zbind H
            obtain ⟨e42, e44⟩ := zrv_ok e43
            rcases zbind3 H with ⟨x46, h47, e45, H⟩ | ⟨q48, h49, e45, H⟩
            · refine zw_invV (pc := 99) (M' := M_X15_sum) (A := [vR p1]) [] dX15_valueOf_99 (Or.inl q1375) mf_X15_sum ls_X15_sum (zkq e44 rfl) (w_g_X15_sum hdd hr e45) (show dd + 2 ≤ dd + 2 from Nat.add_le_add_left (Nat.le_of_ble_eq_true rfl) dd) rfl (by rw [← e42]; rfl) (Nat.le_of_ble_eq_true rfl) (zkv ?_) zkn9
              obtain ⟨rfl, rfl⟩ := Prod.mk.inj (Option.some.inj H)
              exact zw_aret (pc := 102) dX15_valueOf_102 rfl (Or.inl ⟨_, rfl⟩) rfl rfl
            · refine zw_invV (pc := 99) (M' := M_X15_sum) (A := [vR p1]) [] dX15_valueOf_99 (Or.inl q1375) mf_X15_sum ls_X15_sum (zkq e44 rfl) (w_g_X15_sum hdd hr e45) (show dd + 2 ≤ dd + 2 from Nat.add_le_add_left (Nat.le_of_ble_eq_true rfl) dd) rfl (by rw [← e42]; rfl) (Nat.le_of_ble_eq_true rfl) zkv0 (zkx ?_)
              rcases zif H with ⟨c50, H⟩ | ⟨c50, H⟩
              · have c50 := c50
                obtain ⟨rfl, rfl⟩ := Prod.mk.inj (Option.some.inj H)
                exact zx_out (zkq c50 rfl) (fun _ hz => nomatch hz) rfl rfl
              cases H
        · refine zw_if_eq (pc := 71) (tgt := 85) dX15_valueOf_71 rfl (fun q => absurd q c12) (fun _ => ?_)
          refine zw_aload_n (pc := 74) dX15_valueOf_74 rfl 1 rfl ?_
          obtain ⟨c51, H⟩ := zgd H
          refine zy_cast (pc := 75) [13] dX15_valueOf_75 lc_X15_46 c51 ?_
          refine zw_astore_n (pc := 78) (lv' := [(2, vR p1), (0, vR p0), (1, vR p1)]) dX15_valueOf_78 rfl (by decide) rfl ?_
          refine zw_aload_n (pc := 79) dX15_valueOf_79 rfl 1 rfl ?_
          refine zw_aload_n (pc := 80) dX15_valueOf_80 rfl 0 rfl ?_
          obtain ⟨b52, e54, H⟩ := zbind H
          obtain ⟨e53, e55⟩ := zrv_ok e54
          rcases zbind3 H with ⟨x57, h58, e56, H⟩ | ⟨q59, h60, e56, H⟩
          · refine zw_invV (pc := 81) (M' := M_X15_multiple) (A := [vR p1]) [] dX15_valueOf_81 (Or.inl q1360) mf_X15_multiple ls_X15_multiple (zkq e55 rfl) (w_g_X15_multiple hdd hr e56) (show dd + 2 ≤ dd + 2 from Nat.add_le_add_left (Nat.le_of_ble_eq_true rfl) dd) rfl (by rw [← e53]; rfl) (Nat.le_of_ble_eq_true rfl) (zkv ?_) zkn9
            obtain ⟨rfl, rfl⟩ := Prod.mk.inj (Option.some.inj H)
            exact zw_aret (pc := 84) dX15_valueOf_84 rfl (Or.inl ⟨_, rfl⟩) rfl rfl
          · refine zw_invV (pc := 81) (M' := M_X15_multiple) (A := [vR p1]) [] dX15_valueOf_81 (Or.inl q1360) mf_X15_multiple ls_X15_multiple (zkq e55 rfl) (w_g_X15_multiple hdd hr e56) (show dd + 2 ≤ dd + 2 from Nat.add_le_add_left (Nat.le_of_ble_eq_true rfl) dd) rfl (by rw [← e53]; rfl) (Nat.le_of_ble_eq_true rfl) zkv0 (zkx ?_)
            rcases zif H with ⟨c61, H⟩ | ⟨c61, H⟩
            · have c61 := c61
              obtain ⟨rfl, rfl⟩ := Prod.mk.inj (Option.some.inj H)
              exact zx_out (zkq c61 rfl) (fun _ hz => nomatch hz) rfl rfl
            cases H
      · refine zw_if_eq (pc := 47) (tgt := 67) dX15_valueOf_47 rfl (fun q => absurd q c9) (fun _ => ?_)
        refine zw_aload_n (pc := 50) dX15_valueOf_50 rfl 1 rfl ?_
        obtain ⟨c62, H⟩ := zgd H
        refine zy_cast (pc := 51) [12] dX15_valueOf_51 lc_X15_30 c62 ?_
        refine zw_astore_n (pc := 54) (lv' := [(2, vR p1), (0, vR p0), (1, vR p1)]) dX15_valueOf_54 rfl (by decide) rfl ?_
        refine zw_aload_n (pc := 55) dX15_valueOf_55 rfl 1 rfl ?_
        refine zw_aload_n (pc := 56) dX15_valueOf_56 rfl 0 rfl ?_
        obtain ⟨x63, e64, H⟩ := zbind H
        refine zy_getR (pc := 57) dX15_valueOf_57 lf_X15_32 (fun _ _ => rfl) e64 ?_
        obtain ⟨b65, e67, H⟩ := zbind H
        obtain ⟨e66, e68⟩ := zrv_ok e67
        rcases zbind3 H with ⟨x70, h71, e69, H⟩ | ⟨q72, h73, e69, H⟩
        · refine zw_invV (pc := 60) (M' := M_X15_valueOf) (A := [vR x63]) [] dX15_valueOf_60 (Or.inl q1357) mf_X15_valueOf q1337 (zkq e68 rfl) (hr _ _ _ _ _ e69) (Nat.add_le_add_left (Nat.le_of_ble_eq_true rfl) dd) rfl (by rw [← e66]; rfl) (Nat.le_of_ble_eq_true rfl) (zkv ?_) zkn9
          obtain ⟨b74, e76, H⟩ := zbind H
          obtain ⟨e75, e77⟩ := zrv_ok e76
          rcases zbind3 H with ⟨x79, h80, e78, H⟩ | ⟨q81, h82, e78, H⟩
          · refine zw_invV (pc := 63) (M' := M_X3_transposed) (A := []) [] dX15_valueOf_63 (Or.inl q1358) mf_X3_transposed q392 (zkq e77 rfl) (w_X3_transposed e78) (Nat.le_trans (show 9 ≤ 10 from Nat.le_of_ble_eq_true rfl) (Nat.le_trans hdd (Nat.le_add_right _ _))) rfl (by rw [← e75]; rfl) (Nat.le_of_ble_eq_true rfl) (zkv ?_) zkn9
            obtain ⟨rfl, rfl⟩ := Prod.mk.inj (Option.some.inj H)
            exact zw_aret (pc := 66) dX15_valueOf_66 rfl (Or.inl ⟨_, rfl⟩) rfl rfl
          · refine zw_invV (pc := 63) (M' := M_X3_transposed) (A := []) [] dX15_valueOf_63 (Or.inl q1358) mf_X3_transposed q392 (zkq e77 rfl) (w_X3_transposed e78) (Nat.le_trans (show 9 ≤ 10 from Nat.le_of_ble_eq_true rfl) (Nat.le_trans hdd (Nat.le_add_right _ _))) rfl (by rw [← e75]; rfl) (Nat.le_of_ble_eq_true rfl) zkv0 (zkx ?_)
            rcases zif H with ⟨c83, H⟩ | ⟨c83, H⟩
            · have c83 := c83
              obtain ⟨rfl, rfl⟩ := Prod.mk.inj (Option.some.inj H)
              exact zx_out (zkq c83 rfl) (fun _ hz => nomatch hz) rfl rfl
            cases H
        · refine zw_invV (pc := 60) (M' := M_X15_valueOf) (A := [vR x63]) [] dX15_valueOf_60 (Or.inl q1357) mf_X15_valueOf q1337 (zkq e68 rfl) (hr _ _ _ _ _ e69) (Nat.add_le_add_left (Nat.le_of_ble_eq_true rfl) dd) rfl (by rw [← e66]; rfl) (Nat.le_of_ble_eq_true rfl) zkv0 (zkx ?_)
          rcases zif H with ⟨c84, H⟩ | ⟨c84, H⟩
          · have c84 := c84
            obtain ⟨rfl, rfl⟩ := Prod.mk.inj (Option.some.inj H)
            exact zx_out (zkq c84 rfl) (fun _ hz => nomatch hz) rfl rfl
          cases H
    · refine zw_if_eq (pc := 26) (tgt := 43) dX15_valueOf_26 rfl (fun q => absurd q c6) (fun _ => ?_)
      refine zw_aload_n (pc := 29) dX15_valueOf_29 rfl 1 rfl ?_
      obtain ⟨c85, H⟩ := zgd H
      refine zy_cast (pc := 30) [11] dX15_valueOf_30 lc_X15_21 c85 ?_
      refine zw_astore_n (pc := 33) (lv' := [(2, vR p1), (0, vR p0), (1, vR p1)]) dX15_valueOf_33 rfl (by decide) rfl ?_
      refine zw_aload_n (pc := 34) dX15_valueOf_34 rfl 1 rfl ?_
      refine zw_aload_n (pc := 35) dX15_valueOf_35 rfl 0 rfl ?_
      obtain ⟨x86, e87, H⟩ := zbind H
      refine zy_getI (pc := 36) dX15_valueOf_36 lf_X15_23 (fun _ _ => rfl) e87 ?_
      obtain ⟨b88, e90, H⟩ := zbind H
      obtain ⟨e89, e91⟩ := zrv_ok e90
      rcases zbind3 H with ⟨x93, h94, e92, H⟩ | ⟨q95, h96, e92, H⟩
      · refine zw_invV (pc := 39) (M' := M_X15_unit) (A := [vI x86]) [] dX15_valueOf_39 (Or.inl q1341) mf_X15_unit ls_X15_unit (zkq e91 rfl) (w_X15_unit e92) (Nat.le_trans (show 10 ≤ 10 from Nat.le_of_ble_eq_true rfl) (Nat.le_trans hdd (Nat.le_add_right _ _))) rfl (by rw [← e89]; rfl) (Nat.le_of_ble_eq_true rfl) (zkv ?_) zkn9
        obtain ⟨rfl, rfl⟩ := Prod.mk.inj (Option.some.inj H)
        exact zw_aret (pc := 42) dX15_valueOf_42 rfl (Or.inl ⟨_, rfl⟩) rfl rfl
      · refine zw_invV (pc := 39) (M' := M_X15_unit) (A := [vI x86]) [] dX15_valueOf_39 (Or.inl q1341) mf_X15_unit ls_X15_unit (zkq e91 rfl) (w_X15_unit e92) (Nat.le_trans (show 10 ≤ 10 from Nat.le_of_ble_eq_true rfl) (Nat.le_trans hdd (Nat.le_add_right _ _))) rfl (by rw [← e89]; rfl) (Nat.le_of_ble_eq_true rfl) zkv0 (zkx ?_)
        rcases zif H with ⟨c97, H⟩ | ⟨c97, H⟩
        · have c97 := c97
          obtain ⟨rfl, rfl⟩ := Prod.mk.inj (Option.some.inj H)
          exact zx_out (zkq c97 rfl) (fun _ hz => nomatch hz) rfl rfl
        cases H
  · refine zw_if_eq (pc := 4) (tgt := 22) dX15_valueOf_4 rfl (fun q => absurd q c3) (fun _ => ?_)
    refine zw_aload_n (pc := 7) dX15_valueOf_7 rfl 1 rfl ?_
    obtain ⟨c98, H⟩ := zgd H
    refine zy_cast (pc := 8) [10] dX15_valueOf_8 lc_X15_15 c98 ?_
    refine zw_astore_n (pc := 11) (lv' := [(2, vR p1), (0, vR p0), (1, vR p1)]) dX15_valueOf_11 rfl (by decide) rfl ?_
    refine zw_aload_n (pc := 12) dX15_valueOf_12 rfl 1 rfl ?_
    obtain ⟨x99, e100, H⟩ := zbind H
    refine zy_getR (pc := 13) dX15_valueOf_13 lf_X15_9 (fun _ _ => rfl) e100 ?_
    refine zw_aload_n (pc := 16) dX15_valueOf_16 rfl 0 rfl ?_
    obtain ⟨x101, e102, H⟩ := zbind H
    refine zy_getI (pc := 17) dX15_valueOf_17 lf_X15_17 (fun _ _ => rfl) e102 ?_
    obtain ⟨x103, e104, H⟩ := zbind H
    refine zy_aald (pc := 20) dX15_valueOf_20 (by decide) e104 ?_
    obtain ⟨rfl, rfl⟩ := Prod.mk.inj (Option.some.inj H)
    exact zw_aret (pc := 21) dX15_valueOf_21 rfl (Or.inl ⟨_, rfl⟩) rfl rfl
def f_X15_valueOf (p0 : Option Nat) (p1 : Option Nat) (h : zH) : Option ((Option Nat ⊕ Nat) × zH) := zloop g_X15_valueOf (fun _ _ _ => none) zFR p0 p1 h
theorem w_X15_valueOf {G : zG} {p0 : Option Nat} {p1 : Option Nat} {h : zH} {vo : Option Nat ⊕ Nat} {vh : zH} (H : f_X15_valueOf p0 p1 h = some (vo, vh)) : zMet G M_X15_valueOf 138 [vR p0, vR p1] h (zoR vo) vh :=
  zloopD (body := g_X15_valueOf) (bot := fun _ _ _ => none) (P := fun n f => ∀ (b0 : Option Nat) (b1 : Option Nat) (h : zH) (vo : Option Nat ⊕ Nat) (vh : zH), f b0 b1 h = some (vo, vh) → zMet G M_X15_valueOf (10 + 2 * n) [vR b0, vR b1] h (zoR vo) vh) zFR (fun _ _ _ _ _ H => nomatch H) (fun n f hf c0 c1 c2 c3 c4 H => (w_g_X15_valueOf (dd := 10 + 2 * n) (Nat.le_add_right _ _) hf H)) _ _ _ _ _ H
def f_X15_multiple (p0 : Option Nat) (p1 : Option Nat) (h : zH) : Option ((Option Nat ⊕ Nat) × zH) := g_X15_multiple f_X15_valueOf p0 p1 h
theorem w_X15_multiple {G : zG} {p0 : Option Nat} {p1 : Option Nat} {h : zH} {vo : Option Nat ⊕ Nat} {vh : zH} (H : f_X15_multiple p0 p1 h = some (vo, vh)) : zMet G M_X15_multiple 139 [vR p0, vR p1] h (zoR vo) vh := w_g_X15_multiple (dd := 138) (Nat.le_of_ble_eq_true rfl) (fun _ _ _ _ _ H => w_X15_valueOf H) H
def f_X15_sum (p0 : Option Nat) (p1 : Option Nat) (h : zH) : Option ((Option Nat ⊕ Nat) × zH) := g_X15_sum f_X15_valueOf p0 p1 h
theorem w_X15_sum {G : zG} {p0 : Option Nat} {p1 : Option Nat} {h : zH} {vo : Option Nat ⊕ Nat} {vh : zH} (H : f_X15_sum p0 p1 h = some (vo, vh)) : zMet G M_X15_sum 139 [vR p0, vR p1] h (zoR vo) vh := w_g_X15_sum (dd := 138) (Nat.le_of_ble_eq_true rfl) (fun _ _ _ _ _ H => w_X15_valueOf H) H
def f_X15_product (p0 : Option Nat) (p1 : Option Nat) (h : zH) : Option ((Option Nat ⊕ Nat) × zH) := g_X15_product f_X15_valueOf p0 p1 h
theorem w_X15_product {G : zG} {p0 : Option Nat} {p1 : Option Nat} {h : zH} {vo : Option Nat ⊕ Nat} {vh : zH} (H : f_X15_product p0 p1 h = some (vo, vh)) : zMet G M_X15_product 139 [vR p0, vR p1] h (zoR vo) vh := w_g_X15_product (dd := 138) (Nat.le_of_ble_eq_true rfl) (fun _ _ _ _ _ H => w_X15_valueOf H) H
theorem ln_X2_29 : zCl "CsrCalculator$World" 29 14 := ⟨_, by decide, by decide, rfl, q1321, q1322, q216⟩
theorem lf_X2_42 : zFl "CsrCalculator$World" 42 14 1 := ⟨_, "CsrCalculator$Evaluator", by decide, rfl, by decide, Or.inr (by decide +kernel), Or.inl rfl⟩
def M_X2_let : zM := (yX2_let, cX2_let, 6, none, [])
theorem mf_X2_let : zMi M_X2_let 2 := ⟨⟨q1320, q181, ⟨by decide +kernel, by decide +kernel⟩, by decide +kernel, by decide⟩, q1318⟩
def f_X2_let (p0 : Option Nat) (p1 : Int32) (p2 : Option Nat) (h : zH) : Option ((Unit ⊕ Nat) × zH) :=
  zb2 (znw 14 h) fun q1 h2 =>
  (zgR 2 0 p0 h2).bind fun x4 =>
  (some q1).bind fun b6 =>
  (f_X15_init (some b6) x4 h2).bind fun h9 =>
  (zrv 14 (some q1) h9).bind fun b10 =>
  zb3 (f_X15_valueOf (some b10) p2 h9) (fun x15 h16 =>
  (zrv 2 p0 h16).bind fun b19 =>
  zb2 (f_X2_put (some b19) p1 x15 h16) fun x25 h24 =>
  (zgI 2 1 p0 h24).bind fun x26 =>
  (zgI 14 1 (some q1) h24).bind fun x28 =>
  (zpI 2 1 p0 (x26 + x28) h24).bind fun h30 =>
  some (.inl (), h30))
  (fun q17 h18 =>
  if zk h18 q17 = 7 then
  some (.inr q17, h18)
  else none)
theorem w_X2_let {G : zG} {p0 : Option Nat} {p1 : Int32} {p2 : Option Nat} {h : zH} {vo : Unit ⊕ Nat} {vh : zH} (H : f_X2_let p0 p1 p2 h = some (vo, vh)) : zMet G M_X2_let 139 [vR p0, vI p1, vR p2] h (zoU vo) vh := by
  refine zMet.of (by decide +kernel) (Nat.le_of_ble_eq_true rfl) ?_
  show zW G M_X2_let 139 h (zoU vo) vh 0 [(0, vR p0), (1, vI p1), (2, vR p2)] [] h
  unfold f_X2_let at H
  obtain ⟨q1, h2, e3, H⟩ := zbind2 H
  refine zy_new (pc := 0) dX2_let_0 ln_X2_29 e3 ?_
  refine zw_dup (pc := 3) dX2_let_3 rfl ?_
  refine zw_aload_n (pc := 4) dX2_let_4 rfl 0 rfl ?_
  obtain ⟨x4, e5, H⟩ := zbind H
  refine zy_getR (pc := 5) dX2_let_5 lf_X2_14 (fun _ _ => rfl) e5 ?_
  obtain ⟨b6, e7, H⟩ := zbind H
  obtain ⟨h9, e8, H⟩ := zbind H
  refine zw_invI (pc := 8) (M' := M_X15_init) (A := [vR x4]) [vR (some q1)] dX2_let_8 (Or.inl q1323) mf_X15_init rfl rfl (w_X15_init e8) (Nat.le_of_ble_eq_true rfl) rfl (by rw [← e7]; rfl) (Nat.le_of_ble_eq_true rfl) (zku ?_) zkn9
  refine zw_astore_n (pc := 11) (lv' := [(3, vR (some q1)), (0, vR p0), (1, vI p1), (2, vR p2)]) dX2_let_11 rfl (by decide) rfl ?_
  refine zw_aload_n (pc := 12) dX2_let_12 rfl 0 rfl ?_
  refine zw_aload_n (pc := 13) dX2_let_13 rfl 3 rfl ?_
  obtain ⟨b10, e12, H⟩ := zbind H
  obtain ⟨e11, e13⟩ := zrv_ok e12
  rcases zbind3 H with ⟨x15, h16, e14, H⟩ | ⟨q17, h18, e14, H⟩
  · refine zw_invV (pc := 14) (M' := M_X15_valueOf) (A := [vR p2]) [] dX2_let_14 (Or.inl q1335) mf_X15_valueOf q1337 (zkq e13 rfl) (w_X15_valueOf e14) (Nat.le_of_ble_eq_true rfl) rfl (by rw [← e11]; rfl) (Nat.le_of_ble_eq_true rfl) (zkv ?_) zkn9
    refine zw_astore (pc := 17) (lv' := [(4, vR x15), (3, vR (some q1)), (0, vR p0), (1, vI p1), (2, vR p2)]) dX2_let_17 (by decide) rfl ?_
    refine zw_aload_n (pc := 19) dX2_let_19 rfl 2 rfl ?_
    refine zw_iload_n (pc := 20) dX2_let_20 rfl 3 rfl ?_
    refine zw_aload (pc := 21) dX2_let_21 0 rfl ?_
    obtain ⟨b19, e21, H⟩ := zbind H
    obtain ⟨e20, e22⟩ := zrv_ok e21
    obtain ⟨x25, h24, e23, H⟩ := zbind2 H
    refine zw_invV (pc := 23) (M' := M_X2_put) (A := [vI p1, vR x15]) [] dX2_let_23 (Or.inl q1440) mf_X2_put q1095 (zkq e22 rfl) (w_X2_put e23) (Nat.le_of_ble_eq_true rfl) rfl (by rw [← e20]; rfl) (Nat.le_of_ble_eq_true rfl) (zkv ?_) zkn9
    refine zw_istore (pc := 26) (lv' := [(5, vI x25), (4, vR x15), (3, vR (some q1)), (0, vR p0), (1, vI p1), (2, vR p2)]) dX2_let_26 (by decide) rfl ?_
    refine zw_aload_n (pc := 28) dX2_let_28 rfl 3 rfl ?_
    refine zw_dup (pc := 29) dX2_let_29 rfl ?_
    obtain ⟨x26, e27, H⟩ := zbind H
    refine zy_getI (pc := 30) dX2_let_30 lf_X2_21 (fun _ _ => rfl) e27 ?_
    refine zw_aload_n (pc := 33) dX2_let_33 rfl 2 rfl ?_
    obtain ⟨x28, e29, H⟩ := zbind H
    refine zy_getI (pc := 34) dX2_let_34 lf_X2_42 (fun _ _ => rfl) e29 ?_
    refine zw_iadd (pc := 37) dX2_let_37 ?_
    obtain ⟨h30, e31, H⟩ := zbind H
    refine zy_putI (pc := 38) dX2_let_38 lp_X2_21 rfl e31 ?_
    obtain ⟨rfl, rfl⟩ := Prod.mk.inj (Option.some.inj H)
    exact zw_vret (pc := 41) dX2_let_41 rfl rfl rfl
  · refine zw_invV (pc := 14) (M' := M_X15_valueOf) (A := [vR p2]) [] dX2_let_14 (Or.inl q1335) mf_X15_valueOf q1337 (zkq e13 rfl) (w_X15_valueOf e14) (Nat.le_of_ble_eq_true rfl) rfl (by rw [← e11]; rfl) (Nat.le_of_ble_eq_true rfl) zkv0 (zkx ?_)
    rcases zif H with ⟨c32, H⟩ | ⟨c32, H⟩
    · have c32 := c32
      obtain ⟨rfl, rfl⟩ := Prod.mk.inj (Option.some.inj H)
      exact zx_out (zkq c32 rfl) (fun _ hz => nomatch hz) rfl rfl
    cases H
theorem lq_X5_3 : zFp "CsrCalculator$Reader" "<init>" 3 5 11 := ⟨_, "CsrCalculator$Reader", by decide, rfl, by decide, Or.inl rfl, Or.inr ⟨q648, rfl, rfl, rfl⟩⟩
theorem lf_X5_3 : zFl "CsrCalculator$Reader" 3 5 11 := ⟨_, "CsrCalculator$Reader", by decide, rfl, by decide, Or.inl q648, Or.inl rfl⟩
theorem lf_X5_15 : zFl "CsrCalculator$Reader" 15 1 2 := ⟨_, "CsrCalculator", by decide, rfl, by decide, Or.inr (by decide +kernel), Or.inl rfl⟩
theorem lq_X5_19 : zFp "CsrCalculator$Reader" "<init>" 19 5 0 := ⟨_, "CsrCalculator$Reader", by decide, rfl, by decide, Or.inl rfl, Or.inr ⟨q637, rfl, rfl, rfl⟩⟩
theorem lf_X5_22 : zFl "CsrCalculator$Reader" 22 1 5 := ⟨_, "CsrCalculator", by decide, rfl, by decide, Or.inr (by decide +kernel), Or.inl rfl⟩
theorem lp_X5_26 {nm : String} : zFp "CsrCalculator$Reader" nm 26 5 1 := ⟨_, "CsrCalculator$Reader", by decide, rfl, by decide, Or.inl rfl, Or.inl ⟨Or.inl q638, rfl⟩⟩
theorem lp_X5_31 {nm : String} : zFp "CsrCalculator$Reader" nm 31 5 9 := ⟨_, "CsrCalculator$Reader", by decide, rfl, by decide, Or.inl rfl, Or.inl ⟨Or.inl q646, rfl⟩⟩
def M_X5_init : zM := (yX5_init, cX5_init, 2, none, [])
theorem mf_X5_init : zMi M_X5_init 1 := ⟨⟨q634, q195, ⟨by decide +kernel, by decide +kernel⟩, by decide +kernel, by decide⟩, q633⟩
def f_X5_init (p0 : Option Nat) (p1 : Option Nat) (h : zH) : Option zH :=
  (zpR 5 11 p0 p1 h).bind fun h1 =>
  p0.bind fun b3 =>
  (zgR 5 11 p0 h1).bind fun x5 =>
  (zgI 1 2 x5 h1).bind fun x7 =>
  (zpI 5 0 p0 x7 h1).bind fun h9 =>
  (zgR 5 11 p0 h9).bind fun x11 =>
  (zgR 1 5 x11 h9).bind fun x13 =>
  (zpR 5 1 p0 x13 h9).bind fun h15 =>
  (zpR 5 9 p0 (some (zst h15 9)) h15).bind fun h17 =>
  some h17
theorem w_X5_init {G : zG} {p0 : Option Nat} {p1 : Option Nat} {h : zH} {vh : zH} (H : f_X5_init p0 p1 h = some vh) : zMet G M_X5_init 2 [vR p0, vR p1] h (.inl none) vh := by
  refine zMet.of (by decide +kernel) (Nat.le_of_ble_eq_true rfl) ?_
  show zW G M_X5_init 2 h (.inl none) vh 0 [(0, vR p0), (1, vR p1)] [] h
  unfold f_X5_init at H
  refine zw_aload_n (pc := 0) dX5_init_0 rfl 0 rfl ?_
  refine zw_aload_n (pc := 1) dX5_init_1 rfl 1 rfl ?_
  obtain ⟨h1, e2, H⟩ := zbind H
  refine zy_putR (pc := 2) dX5_init_2 lq_X5_3 rfl e2 ?_
  refine zw_aload_n (pc := 5) dX5_init_5 rfl 0 rfl ?_
  obtain ⟨b3, e4, H⟩ := zbind H
  refine zy_objInit (pc := 6) dX5_init_6 q635 e4 (Nat.le_of_ble_eq_true rfl) (Nat.le_of_ble_eq_true rfl) ?_
  refine zw_aload_n (pc := 9) dX5_init_9 rfl 0 rfl ?_
  refine zw_aload_n (pc := 10) dX5_init_10 rfl 0 rfl ?_
  obtain ⟨x5, e6, H⟩ := zbind H
  refine zy_getR (pc := 11) dX5_init_11 lf_X5_3 (fun _ _ => rfl) e6 ?_
  obtain ⟨x7, e8, H⟩ := zbind H
  refine zy_getI (pc := 14) dX5_init_14 lf_X5_15 (fun _ _ => rfl) e8 ?_
  obtain ⟨h9, e10, H⟩ := zbind H
  refine zy_putI (pc := 17) dX5_init_17 lq_X5_19 rfl e10 ?_
  refine zw_aload_n (pc := 20) dX5_init_20 rfl 0 rfl ?_
  refine zw_aload_n (pc := 21) dX5_init_21 rfl 0 rfl ?_
  obtain ⟨x11, e12, H⟩ := zbind H
  refine zy_getR (pc := 22) dX5_init_22 lf_X5_3 (fun _ _ => rfl) e12 ?_
  obtain ⟨x13, e14, H⟩ := zbind H
  refine zy_getR (pc := 25) dX5_init_25 lf_X5_22 (fun _ _ => rfl) e14 ?_
  obtain ⟨h15, e16, H⟩ := zbind H
  refine zy_putR (pc := 28) dX5_init_28 lp_X5_26 rfl e16 ?_
  refine zw_aload_n (pc := 31) dX5_init_31 rfl 0 rfl ?_
  refine zw_ldcS (pc := 32) 9 dX5_init_32 rfl ?_
  obtain ⟨h17, e18, H⟩ := zbind H
  refine zy_putR (pc := 34) dX5_init_34 lp_X5_31 rfl e18 ?_
  obtain rfl := Option.some.inj H
  exact zw_vret (pc := 37) dX5_init_37 rfl rfl rfl
def M_X1_isStatement : zM := (yX1_isStatement, cX1_isStatement, 3, (.some .boolean), [])
theorem mf_X1_isStatement : zMs M_X1_isStatement 1 := ⟨⟨q991, q180, ⟨by decide +kernel, by decide +kernel⟩, by decide +kernel, by decide⟩, q990⟩
def f_X1_isStatement (p0 : Option Nat) (h : zH) : Option (Int32 × zH) :=
  (zrv 19 p0 h).bind fun b1 =>
  zb2 (f_J4_hashCode (some b1) h) fun x7 h6 =>
  if x7 = (-1081239615 : Int32) then
  (zrv 19 p0 h6).bind fun b9 =>
  (f_J4_equals (some b9) (some (zst h6 0)) h6).bind fun x14 =>
  if x14 = 0 then
  if (-1 : Int32) = (0 : Int32) then
  some ((1 : Int32), h6)
  else
  if (-1 : Int32) = (1 : Int32) then
  some ((1 : Int32), h6)
  else
  if (-1 : Int32) = (2 : Int32) then
  some ((1 : Int32), h6)
  else
  if (-1 : Int32) = (3 : Int32) then
  some ((1 : Int32), h6)
  else
  some ((0 : Int32), h6)
  else
  if (0 : Int32) = (0 : Int32) then
  some ((1 : Int32), h6)
  else
  if (0 : Int32) = (1 : Int32) then
  some ((1 : Int32), h6)
  else
  if (0 : Int32) = (2 : Int32) then
  some ((1 : Int32), h6)
  else
  if (0 : Int32) = (3 : Int32) then
  some ((1 : Int32), h6)
  else
  some ((0 : Int32), h6)
  else
  if x7 = (107035 : Int32) then
  (zrv 19 p0 h6).bind fun b25 =>
  (f_J4_equals (some b25) (some (zst h6 2)) h6).bind fun x30 =>
  if x30 = 0 then
  if (-1 : Int32) = (0 : Int32) then
  some ((1 : Int32), h6)
  else
  if (-1 : Int32) = (1 : Int32) then
  some ((1 : Int32), h6)
  else
  if (-1 : Int32) = (2 : Int32) then
  some ((1 : Int32), h6)
  else
  if (-1 : Int32) = (3 : Int32) then
  some ((1 : Int32), h6)
  else
  some ((0 : Int32), h6)
  else
  if (2 : Int32) = (0 : Int32) then
  some ((1 : Int32), h6)
  else
  if (2 : Int32) = (1 : Int32) then
  some ((1 : Int32), h6)
  else
  if (2 : Int32) = (2 : Int32) then
  some ((1 : Int32), h6)
  else
  if (2 : Int32) = (3 : Int32) then
  some ((1 : Int32), h6)
  else
  some ((0 : Int32), h6)
  else
  if x7 = (3092207 : Int32) then
  (zrv 19 p0 h6).bind fun b41 =>
  (f_J4_equals (some b41) (some (zst h6 3)) h6).bind fun x46 =>
  if x46 = 0 then
  if (-1 : Int32) = (0 : Int32) then
  some ((1 : Int32), h6)
  else
  if (-1 : Int32) = (1 : Int32) then
  some ((1 : Int32), h6)
  else
  if (-1 : Int32) = (2 : Int32) then
  some ((1 : Int32), h6)
  else
  if (-1 : Int32) = (3 : Int32) then
  some ((1 : Int32), h6)
  else
  some ((0 : Int32), h6)
  else
  if (3 : Int32) = (0 : Int32) then
  some ((1 : Int32), h6)
  else
  if (3 : Int32) = (1 : Int32) then
  some ((1 : Int32), h6)
  else
  if (3 : Int32) = (2 : Int32) then
  some ((1 : Int32), h6)
  else
  if (3 : Int32) = (3 : Int32) then
  some ((1 : Int32), h6)
  else
  some ((0 : Int32), h6)
  else
  if x7 = (96667762 : Int32) then
  (zrv 19 p0 h6).bind fun b57 =>
  (f_J4_equals (some b57) (some (zst h6 1)) h6).bind fun x62 =>
  if x62 = 0 then
  if (-1 : Int32) = (0 : Int32) then
  some ((1 : Int32), h6)
  else
  if (-1 : Int32) = (1 : Int32) then
  some ((1 : Int32), h6)
  else
  if (-1 : Int32) = (2 : Int32) then
  some ((1 : Int32), h6)
  else
  if (-1 : Int32) = (3 : Int32) then
  some ((1 : Int32), h6)
  else
  some ((0 : Int32), h6)
  else
  if (1 : Int32) = (0 : Int32) then
  some ((1 : Int32), h6)
  else
  if (1 : Int32) = (1 : Int32) then
  some ((1 : Int32), h6)
  else
  if (1 : Int32) = (2 : Int32) then
  some ((1 : Int32), h6)
  else
  if (1 : Int32) = (3 : Int32) then
  some ((1 : Int32), h6)
  else
  some ((0 : Int32), h6)
  else
  if (-1 : Int32) = (0 : Int32) then
  some ((1 : Int32), h6)
  else
  if (-1 : Int32) = (1 : Int32) then
  some ((1 : Int32), h6)
  else
  if (-1 : Int32) = (2 : Int32) then
  some ((1 : Int32), h6)
  else
  if (-1 : Int32) = (3 : Int32) then
  some ((1 : Int32), h6)
  else
  some ((0 : Int32), h6)
theorem w_X1_isStatement {G : zG} {p0 : Option Nat} {h : zH} {vx : Int32} {vh : zH} (H : f_X1_isStatement p0 h = some (vx, vh)) : zMet G M_X1_isStatement 8 [vR p0] h (.inl (some (vI vx))) vh := by
  refine zMet.of (by decide +kernel) (Nat.le_of_ble_eq_true rfl) ?_
  show zW G M_X1_isStatement 8 h (.inl (some (vI vx))) vh 0 [(0, vR p0)] [] h
  unfold f_X1_isStatement at H
  refine zw_aload_n (pc := 0) dX1_isStatement_0 rfl 0 rfl ?_
  refine zw_astore_n (pc := 1) (lv' := [(1, vR p0), (0, vR p0)]) dX1_isStatement_1 rfl (by decide) rfl ?_
  refine zw_iconst (pc := 2) (v := (-1 : Int32)) dX1_isStatement_2 (by decide) ?_
  refine zw_istore_n (pc := 3) (lv' := [(2, vI (-1 : Int32)), (1, vR p0), (0, vR p0)]) dX1_isStatement_3 rfl (by decide) rfl ?_
  refine zw_aload_n (pc := 4) dX1_isStatement_4 rfl 1 rfl ?_
  obtain ⟨b1, e3, H⟩ := zbind H
  obtain ⟨e2, e4⟩ := zrv_ok e3
  obtain ⟨x7, h6, e5, H⟩ := zbind2 H
  refine zw_invV (pc := 5) (M' := M_J4_hashCode) (A := []) [] dX1_isStatement_5 (Or.inl q992) mf_J4_hashCode q994 (zkq e4 rfl) (w_J4_hashCode e5) (Nat.le_of_ble_eq_true rfl) rfl (by rw [← e2]; rfl) (Nat.le_of_ble_eq_true rfl) (zkv ?_) zkn9
  rcases zif H with ⟨c8, H⟩ | ⟨c8, H⟩
  · refine zw_lookup (pc := 8) (44) 52 dX1_isStatement_8 (by decide) (by rw [c8]; decide) rfl ?_
    refine zw_aload_n (pc := 52) dX1_isStatement_52 rfl 1 rfl ?_
    refine zw_ldcS (pc := 53) 0 dX1_isStatement_53 rfl ?_
    obtain ⟨b9, e11, H⟩ := zbind H
    obtain ⟨e10, e12⟩ := zrv_ok e11
    obtain ⟨x14, e13, H⟩ := zbind H
    refine zw_invV (pc := 55) (M' := M_J4_equals) (A := [vR (some (zst h6 0))]) [] dX1_isStatement_55 (Or.inl q1054) mf_J4_equals q948 (zkq e12 rfl) (w_J4_equals e13) (Nat.le_of_ble_eq_true rfl) rfl (by rw [← e10]; rfl) (Nat.le_of_ble_eq_true rfl) (zkv ?_) zkn9
    rcases zif H with ⟨c15, H⟩ | ⟨c15, H⟩
    · refine zw_if_eq (pc := 58) (tgt := 105) dX1_isStatement_58 rfl (fun _ => ?_) (fun q => absurd c15 q)
      refine zw_iload_n (pc := 105) dX1_isStatement_105 rfl 0 rfl ?_
      rcases zif H with ⟨c16, H⟩ | ⟨c16, H⟩
      · refine zw_tableIn (pc := 106) (30) 136 dX1_isStatement_106 (by rw [c16]; decide) (by rw [c16]; decide) (by rw [c16]; decide) rfl ?_
        refine zw_iconst (pc := 136) (v := (1 : Int32)) dX1_isStatement_136 (by decide) ?_
        refine zw_goto (pc := 137) (tgt := 141) dX1_isStatement_137 rfl ?_
        obtain ⟨rfl, rfl⟩ := Prod.mk.inj (Option.some.inj H)
        exact zw_zret (pc := 141) dX1_isStatement_141 rfl rfl rfl rfl
      rcases zif H with ⟨c17, H⟩ | ⟨c17, H⟩
      · refine zw_tableIn (pc := 106) (30) 136 dX1_isStatement_106 (by rw [c17]; decide) (by rw [c17]; decide) (by rw [c17]; decide) rfl ?_
        refine zw_iconst (pc := 136) (v := (1 : Int32)) dX1_isStatement_136 (by decide) ?_
        refine zw_goto (pc := 137) (tgt := 141) dX1_isStatement_137 rfl ?_
        obtain ⟨rfl, rfl⟩ := Prod.mk.inj (Option.some.inj H)
        exact zw_zret (pc := 141) dX1_isStatement_141 rfl rfl rfl rfl
      rcases zif H with ⟨c18, H⟩ | ⟨c18, H⟩
      · refine zw_tableIn (pc := 106) (30) 136 dX1_isStatement_106 (by rw [c18]; decide) (by rw [c18]; decide) (by rw [c18]; decide) rfl ?_
        refine zw_iconst (pc := 136) (v := (1 : Int32)) dX1_isStatement_136 (by decide) ?_
        refine zw_goto (pc := 137) (tgt := 141) dX1_isStatement_137 rfl ?_
        obtain ⟨rfl, rfl⟩ := Prod.mk.inj (Option.some.inj H)
        exact zw_zret (pc := 141) dX1_isStatement_141 rfl rfl rfl rfl
      rcases zif H with ⟨c19, H⟩ | ⟨c19, H⟩
      · refine zw_tableIn (pc := 106) (30) 136 dX1_isStatement_106 (by rw [c19]; decide) (by rw [c19]; decide) (by rw [c19]; decide) rfl ?_
        refine zw_iconst (pc := 136) (v := (1 : Int32)) dX1_isStatement_136 (by decide) ?_
        refine zw_goto (pc := 137) (tgt := 141) dX1_isStatement_137 rfl ?_
        obtain ⟨rfl, rfl⟩ := Prod.mk.inj (Option.some.inj H)
        exact zw_zret (pc := 141) dX1_isStatement_141 rfl rfl rfl rfl
      refine zw_tableOut (pc := 106) 140 dX1_isStatement_106 (ztb (0) 4 rfl (by intro j hj; match j, hj with | 0, _ => exact zne c16 | 1, _ => exact zne c17 | 2, _ => exact zne c18 | 3, _ => exact zne c19)) rfl ?_
      refine zw_iconst (pc := 140) (v := (0 : Int32)) dX1_isStatement_140 (by decide) ?_
      obtain ⟨rfl, rfl⟩ := Prod.mk.inj (Option.some.inj H)
      exact zw_zret (pc := 141) dX1_isStatement_141 rfl rfl rfl rfl
    · refine zw_if_eq (pc := 58) (tgt := 105) dX1_isStatement_58 rfl (fun q => absurd q c15) (fun _ => ?_)
      refine zw_iconst (pc := 61) (v := (0 : Int32)) dX1_isStatement_61 (by decide) ?_
      refine zw_istore_n (pc := 62) (lv' := [(2, vI (0 : Int32)), (1, vR p0), (0, vR p0)]) dX1_isStatement_62 rfl (by decide) rfl ?_
      refine zw_goto (pc := 63) (tgt := 105) dX1_isStatement_63 rfl ?_
      refine zw_iload_n (pc := 105) dX1_isStatement_105 rfl 0 rfl ?_
      rcases zif H with ⟨c20, H⟩ | ⟨c20, H⟩
      · refine zw_tableIn (pc := 106) (30) 136 dX1_isStatement_106 (by rw [c20]; decide) (by rw [c20]; decide) (by rw [c20]; decide) rfl ?_
        refine zw_iconst (pc := 136) (v := (1 : Int32)) dX1_isStatement_136 (by decide) ?_
        refine zw_goto (pc := 137) (tgt := 141) dX1_isStatement_137 rfl ?_
        obtain ⟨rfl, rfl⟩ := Prod.mk.inj (Option.some.inj H)
        exact zw_zret (pc := 141) dX1_isStatement_141 rfl rfl rfl rfl
      rcases zif H with ⟨c21, H⟩ | ⟨c21, H⟩
      · refine zw_tableIn (pc := 106) (30) 136 dX1_isStatement_106 (by rw [c21]; decide) (by rw [c21]; decide) (by rw [c21]; decide) rfl ?_
        refine zw_iconst (pc := 136) (v := (1 : Int32)) dX1_isStatement_136 (by decide) ?_
        refine zw_goto (pc := 137) (tgt := 141) dX1_isStatement_137 rfl ?_
        obtain ⟨rfl, rfl⟩ := Prod.mk.inj (Option.some.inj H)
        exact zw_zret (pc := 141) dX1_isStatement_141 rfl rfl rfl rfl
      rcases zif H with ⟨c22, H⟩ | ⟨c22, H⟩
      · refine zw_tableIn (pc := 106) (30) 136 dX1_isStatement_106 (by rw [c22]; decide) (by rw [c22]; decide) (by rw [c22]; decide) rfl ?_
        refine zw_iconst (pc := 136) (v := (1 : Int32)) dX1_isStatement_136 (by decide) ?_
        refine zw_goto (pc := 137) (tgt := 141) dX1_isStatement_137 rfl ?_
        obtain ⟨rfl, rfl⟩ := Prod.mk.inj (Option.some.inj H)
        exact zw_zret (pc := 141) dX1_isStatement_141 rfl rfl rfl rfl
      rcases zif H with ⟨c23, H⟩ | ⟨c23, H⟩
      · refine zw_tableIn (pc := 106) (30) 136 dX1_isStatement_106 (by rw [c23]; decide) (by rw [c23]; decide) (by rw [c23]; decide) rfl ?_
        refine zw_iconst (pc := 136) (v := (1 : Int32)) dX1_isStatement_136 (by decide) ?_
        refine zw_goto (pc := 137) (tgt := 141) dX1_isStatement_137 rfl ?_
        obtain ⟨rfl, rfl⟩ := Prod.mk.inj (Option.some.inj H)
        exact zw_zret (pc := 141) dX1_isStatement_141 rfl rfl rfl rfl
      refine zw_tableOut (pc := 106) 140 dX1_isStatement_106 (ztb (0) 4 rfl (by intro j hj; match j, hj with | 0, _ => exact zne c20 | 1, _ => exact zne c21 | 2, _ => exact zne c22 | 3, _ => exact zne c23)) rfl ?_
      refine zw_iconst (pc := 140) (v := (0 : Int32)) dX1_isStatement_140 (by decide) ?_
      obtain ⟨rfl, rfl⟩ := Prod.mk.inj (Option.some.inj H)
      exact zw_zret (pc := 141) dX1_isStatement_141 rfl rfl rfl rfl
  rcases zif H with ⟨c24, H⟩ | ⟨c24, H⟩
  · refine zw_lookup (pc := 8) (72) 80 dX1_isStatement_8 (by decide) (by rw [c24]; decide) rfl ?_
    refine zw_aload_n (pc := 80) dX1_isStatement_80 rfl 1 rfl ?_
    refine zw_ldcS (pc := 81) 2 dX1_isStatement_81 rfl ?_
    obtain ⟨b25, e27, H⟩ := zbind H
    obtain ⟨e26, e28⟩ := zrv_ok e27
    obtain ⟨x30, e29, H⟩ := zbind H
    refine zw_invV (pc := 83) (M' := M_J4_equals) (A := [vR (some (zst h6 2))]) [] dX1_isStatement_83 (Or.inl q1054) mf_J4_equals q948 (zkq e28 rfl) (w_J4_equals e29) (Nat.le_of_ble_eq_true rfl) rfl (by rw [← e26]; rfl) (Nat.le_of_ble_eq_true rfl) (zkv ?_) zkn9
    rcases zif H with ⟨c31, H⟩ | ⟨c31, H⟩
    · refine zw_if_eq (pc := 86) (tgt := 105) dX1_isStatement_86 rfl (fun _ => ?_) (fun q => absurd c31 q)
      refine zw_iload_n (pc := 105) dX1_isStatement_105 rfl 0 rfl ?_
      rcases zif H with ⟨c32, H⟩ | ⟨c32, H⟩
      · refine zw_tableIn (pc := 106) (30) 136 dX1_isStatement_106 (by rw [c32]; decide) (by rw [c32]; decide) (by rw [c32]; decide) rfl ?_
        refine zw_iconst (pc := 136) (v := (1 : Int32)) dX1_isStatement_136 (by decide) ?_
        refine zw_goto (pc := 137) (tgt := 141) dX1_isStatement_137 rfl ?_
        obtain ⟨rfl, rfl⟩ := Prod.mk.inj (Option.some.inj H)
        exact zw_zret (pc := 141) dX1_isStatement_141 rfl rfl rfl rfl
      rcases zif H with ⟨c33, H⟩ | ⟨c33, H⟩
      · refine zw_tableIn (pc := 106) (30) 136 dX1_isStatement_106 (by rw [c33]; decide) (by rw [c33]; decide) (by rw [c33]; decide) rfl ?_
        refine zw_iconst (pc := 136) (v := (1 : Int32)) dX1_isStatement_136 (by decide) ?_
        refine zw_goto (pc := 137) (tgt := 141) dX1_isStatement_137 rfl ?_
        obtain ⟨rfl, rfl⟩ := Prod.mk.inj (Option.some.inj H)
        exact zw_zret (pc := 141) dX1_isStatement_141 rfl rfl rfl rfl
      rcases zif H with ⟨c34, H⟩ | ⟨c34, H⟩
      · refine zw_tableIn (pc := 106) (30) 136 dX1_isStatement_106 (by rw [c34]; decide) (by rw [c34]; decide) (by rw [c34]; decide) rfl ?_
        refine zw_iconst (pc := 136) (v := (1 : Int32)) dX1_isStatement_136 (by decide) ?_
        refine zw_goto (pc := 137) (tgt := 141) dX1_isStatement_137 rfl ?_
        obtain ⟨rfl, rfl⟩ := Prod.mk.inj (Option.some.inj H)
        exact zw_zret (pc := 141) dX1_isStatement_141 rfl rfl rfl rfl
      rcases zif H with ⟨c35, H⟩ | ⟨c35, H⟩
      · refine zw_tableIn (pc := 106) (30) 136 dX1_isStatement_106 (by rw [c35]; decide) (by rw [c35]; decide) (by rw [c35]; decide) rfl ?_
        refine zw_iconst (pc := 136) (v := (1 : Int32)) dX1_isStatement_136 (by decide) ?_
        refine zw_goto (pc := 137) (tgt := 141) dX1_isStatement_137 rfl ?_
        obtain ⟨rfl, rfl⟩ := Prod.mk.inj (Option.some.inj H)
        exact zw_zret (pc := 141) dX1_isStatement_141 rfl rfl rfl rfl
      refine zw_tableOut (pc := 106) 140 dX1_isStatement_106 (ztb (0) 4 rfl (by intro j hj; match j, hj with | 0, _ => exact zne c32 | 1, _ => exact zne c33 | 2, _ => exact zne c34 | 3, _ => exact zne c35)) rfl ?_
      refine zw_iconst (pc := 140) (v := (0 : Int32)) dX1_isStatement_140 (by decide) ?_
      obtain ⟨rfl, rfl⟩ := Prod.mk.inj (Option.some.inj H)
      exact zw_zret (pc := 141) dX1_isStatement_141 rfl rfl rfl rfl
    · refine zw_if_eq (pc := 86) (tgt := 105) dX1_isStatement_86 rfl (fun q => absurd q c31) (fun _ => ?_)
      refine zw_iconst (pc := 89) (v := (2 : Int32)) dX1_isStatement_89 (by decide) ?_
      refine zw_istore_n (pc := 90) (lv' := [(2, vI (2 : Int32)), (1, vR p0), (0, vR p0)]) dX1_isStatement_90 rfl (by decide) rfl ?_
      refine zw_goto (pc := 91) (tgt := 105) dX1_isStatement_91 rfl ?_
      refine zw_iload_n (pc := 105) dX1_isStatement_105 rfl 0 rfl ?_
      rcases zif H with ⟨c36, H⟩ | ⟨c36, H⟩
      · refine zw_tableIn (pc := 106) (30) 136 dX1_isStatement_106 (by rw [c36]; decide) (by rw [c36]; decide) (by rw [c36]; decide) rfl ?_
        refine zw_iconst (pc := 136) (v := (1 : Int32)) dX1_isStatement_136 (by decide) ?_
        refine zw_goto (pc := 137) (tgt := 141) dX1_isStatement_137 rfl ?_
        obtain ⟨rfl, rfl⟩ := Prod.mk.inj (Option.some.inj H)
        exact zw_zret (pc := 141) dX1_isStatement_141 rfl rfl rfl rfl
      rcases zif H with ⟨c37, H⟩ | ⟨c37, H⟩
      · refine zw_tableIn (pc := 106) (30) 136 dX1_isStatement_106 (by rw [c37]; decide) (by rw [c37]; decide) (by rw [c37]; decide) rfl ?_
        refine zw_iconst (pc := 136) (v := (1 : Int32)) dX1_isStatement_136 (by decide) ?_
        refine zw_goto (pc := 137) (tgt := 141) dX1_isStatement_137 rfl ?_
        obtain ⟨rfl, rfl⟩ := Prod.mk.inj (Option.some.inj H)
        exact zw_zret (pc := 141) dX1_isStatement_141 rfl rfl rfl rfl
      rcases zif H with ⟨c38, H⟩ | ⟨c38, H⟩
      · refine zw_tableIn (pc := 106) (30) 136 dX1_isStatement_106 (by rw [c38]; decide) (by rw [c38]; decide) (by rw [c38]; decide) rfl ?_
        refine zw_iconst (pc := 136) (v := (1 : Int32)) dX1_isStatement_136 (by decide) ?_
        refine zw_goto (pc := 137) (tgt := 141) dX1_isStatement_137 rfl ?_
        obtain ⟨rfl, rfl⟩ := Prod.mk.inj (Option.some.inj H)
        exact zw_zret (pc := 141) dX1_isStatement_141 rfl rfl rfl rfl
      rcases zif H with ⟨c39, H⟩ | ⟨c39, H⟩
      · refine zw_tableIn (pc := 106) (30) 136 dX1_isStatement_106 (by rw [c39]; decide) (by rw [c39]; decide) (by rw [c39]; decide) rfl ?_
        refine zw_iconst (pc := 136) (v := (1 : Int32)) dX1_isStatement_136 (by decide) ?_
        refine zw_goto (pc := 137) (tgt := 141) dX1_isStatement_137 rfl ?_
        obtain ⟨rfl, rfl⟩ := Prod.mk.inj (Option.some.inj H)
        exact zw_zret (pc := 141) dX1_isStatement_141 rfl rfl rfl rfl
      refine zw_tableOut (pc := 106) 140 dX1_isStatement_106 (ztb (0) 4 rfl (by intro j hj; match j, hj with | 0, _ => exact zne c36 | 1, _ => exact zne c37 | 2, _ => exact zne c38 | 3, _ => exact zne c39)) rfl ?_
      refine zw_iconst (pc := 140) (v := (0 : Int32)) dX1_isStatement_140 (by decide) ?_
      obtain ⟨rfl, rfl⟩ := Prod.mk.inj (Option.some.inj H)
      exact zw_zret (pc := 141) dX1_isStatement_141 rfl rfl rfl rfl
  rcases zif H with ⟨c40, H⟩ | ⟨c40, H⟩
  · refine zw_lookup (pc := 8) (86) 94 dX1_isStatement_8 (by decide) (by rw [c40]; decide) rfl ?_
    refine zw_aload_n (pc := 94) dX1_isStatement_94 rfl 1 rfl ?_
    refine zw_ldcS (pc := 95) 3 dX1_isStatement_95 rfl ?_
    obtain ⟨b41, e43, H⟩ := zbind H
    obtain ⟨e42, e44⟩ := zrv_ok e43
    obtain ⟨x46, e45, H⟩ := zbind H
    refine zw_invV (pc := 97) (M' := M_J4_equals) (A := [vR (some (zst h6 3))]) [] dX1_isStatement_97 (Or.inl q1054) mf_J4_equals q948 (zkq e44 rfl) (w_J4_equals e45) (Nat.le_of_ble_eq_true rfl) rfl (by rw [← e42]; rfl) (Nat.le_of_ble_eq_true rfl) (zkv ?_) zkn9
    rcases zif H with ⟨c47, H⟩ | ⟨c47, H⟩
    · refine zw_if_eq (pc := 100) (tgt := 105) dX1_isStatement_100 rfl (fun _ => ?_) (fun q => absurd c47 q)
      refine zw_iload_n (pc := 105) dX1_isStatement_105 rfl 0 rfl ?_
      rcases zif H with ⟨c48, H⟩ | ⟨c48, H⟩
      · refine zw_tableIn (pc := 106) (30) 136 dX1_isStatement_106 (by rw [c48]; decide) (by rw [c48]; decide) (by rw [c48]; decide) rfl ?_
        refine zw_iconst (pc := 136) (v := (1 : Int32)) dX1_isStatement_136 (by decide) ?_
        refine zw_goto (pc := 137) (tgt := 141) dX1_isStatement_137 rfl ?_
        obtain ⟨rfl, rfl⟩ := Prod.mk.inj (Option.some.inj H)
        exact zw_zret (pc := 141) dX1_isStatement_141 rfl rfl rfl rfl
      rcases zif H with ⟨c49, H⟩ | ⟨c49, H⟩
      · refine zw_tableIn (pc := 106) (30) 136 dX1_isStatement_106 (by rw [c49]; decide) (by rw [c49]; decide) (by rw [c49]; decide) rfl ?_
        refine zw_iconst (pc := 136) (v := (1 : Int32)) dX1_isStatement_136 (by decide) ?_
        refine zw_goto (pc := 137) (tgt := 141) dX1_isStatement_137 rfl ?_
        obtain ⟨rfl, rfl⟩ := Prod.mk.inj (Option.some.inj H)
        exact zw_zret (pc := 141) dX1_isStatement_141 rfl rfl rfl rfl
      rcases zif H with ⟨c50, H⟩ | ⟨c50, H⟩
      · refine zw_tableIn (pc := 106) (30) 136 dX1_isStatement_106 (by rw [c50]; decide) (by rw [c50]; decide) (by rw [c50]; decide) rfl ?_
        refine zw_iconst (pc := 136) (v := (1 : Int32)) dX1_isStatement_136 (by decide) ?_
        refine zw_goto (pc := 137) (tgt := 141) dX1_isStatement_137 rfl ?_
        obtain ⟨rfl, rfl⟩ := Prod.mk.inj (Option.some.inj H)
        exact zw_zret (pc := 141) dX1_isStatement_141 rfl rfl rfl rfl
      rcases zif H with ⟨c51, H⟩ | ⟨c51, H⟩
      · refine zw_tableIn (pc := 106) (30) 136 dX1_isStatement_106 (by rw [c51]; decide) (by rw [c51]; decide) (by rw [c51]; decide) rfl ?_
        refine zw_iconst (pc := 136) (v := (1 : Int32)) dX1_isStatement_136 (by decide) ?_
        refine zw_goto (pc := 137) (tgt := 141) dX1_isStatement_137 rfl ?_
        obtain ⟨rfl, rfl⟩ := Prod.mk.inj (Option.some.inj H)
        exact zw_zret (pc := 141) dX1_isStatement_141 rfl rfl rfl rfl
      refine zw_tableOut (pc := 106) 140 dX1_isStatement_106 (ztb (0) 4 rfl (by intro j hj; match j, hj with | 0, _ => exact zne c48 | 1, _ => exact zne c49 | 2, _ => exact zne c50 | 3, _ => exact zne c51)) rfl ?_
      refine zw_iconst (pc := 140) (v := (0 : Int32)) dX1_isStatement_140 (by decide) ?_
      obtain ⟨rfl, rfl⟩ := Prod.mk.inj (Option.some.inj H)
      exact zw_zret (pc := 141) dX1_isStatement_141 rfl rfl rfl rfl
    · refine zw_if_eq (pc := 100) (tgt := 105) dX1_isStatement_100 rfl (fun q => absurd q c47) (fun _ => ?_)
      refine zw_iconst (pc := 103) (v := (3 : Int32)) dX1_isStatement_103 (by decide) ?_
      refine zw_istore_n (pc := 104) (lv' := [(2, vI (3 : Int32)), (1, vR p0), (0, vR p0)]) dX1_isStatement_104 rfl (by decide) rfl ?_
      refine zw_iload_n (pc := 105) dX1_isStatement_105 rfl 0 rfl ?_
      rcases zif H with ⟨c52, H⟩ | ⟨c52, H⟩
      · refine zw_tableIn (pc := 106) (30) 136 dX1_isStatement_106 (by rw [c52]; decide) (by rw [c52]; decide) (by rw [c52]; decide) rfl ?_
        refine zw_iconst (pc := 136) (v := (1 : Int32)) dX1_isStatement_136 (by decide) ?_
        refine zw_goto (pc := 137) (tgt := 141) dX1_isStatement_137 rfl ?_
        obtain ⟨rfl, rfl⟩ := Prod.mk.inj (Option.some.inj H)
        exact zw_zret (pc := 141) dX1_isStatement_141 rfl rfl rfl rfl
      rcases zif H with ⟨c53, H⟩ | ⟨c53, H⟩
      · refine zw_tableIn (pc := 106) (30) 136 dX1_isStatement_106 (by rw [c53]; decide) (by rw [c53]; decide) (by rw [c53]; decide) rfl ?_
        refine zw_iconst (pc := 136) (v := (1 : Int32)) dX1_isStatement_136 (by decide) ?_
        refine zw_goto (pc := 137) (tgt := 141) dX1_isStatement_137 rfl ?_
        obtain ⟨rfl, rfl⟩ := Prod.mk.inj (Option.some.inj H)
        exact zw_zret (pc := 141) dX1_isStatement_141 rfl rfl rfl rfl
      rcases zif H with ⟨c54, H⟩ | ⟨c54, H⟩
      · refine zw_tableIn (pc := 106) (30) 136 dX1_isStatement_106 (by rw [c54]; decide) (by rw [c54]; decide) (by rw [c54]; decide) rfl ?_
        refine zw_iconst (pc := 136) (v := (1 : Int32)) dX1_isStatement_136 (by decide) ?_
        refine zw_goto (pc := 137) (tgt := 141) dX1_isStatement_137 rfl ?_
        obtain ⟨rfl, rfl⟩ := Prod.mk.inj (Option.some.inj H)
        exact zw_zret (pc := 141) dX1_isStatement_141 rfl rfl rfl rfl
      rcases zif H with ⟨c55, H⟩ | ⟨c55, H⟩
      · refine zw_tableIn (pc := 106) (30) 136 dX1_isStatement_106 (by rw [c55]; decide) (by rw [c55]; decide) (by rw [c55]; decide) rfl ?_
        refine zw_iconst (pc := 136) (v := (1 : Int32)) dX1_isStatement_136 (by decide) ?_
        refine zw_goto (pc := 137) (tgt := 141) dX1_isStatement_137 rfl ?_
        obtain ⟨rfl, rfl⟩ := Prod.mk.inj (Option.some.inj H)
        exact zw_zret (pc := 141) dX1_isStatement_141 rfl rfl rfl rfl
      refine zw_tableOut (pc := 106) 140 dX1_isStatement_106 (ztb (0) 4 rfl (by intro j hj; match j, hj with | 0, _ => exact zne c52 | 1, _ => exact zne c53 | 2, _ => exact zne c54 | 3, _ => exact zne c55)) rfl ?_
      refine zw_iconst (pc := 140) (v := (0 : Int32)) dX1_isStatement_140 (by decide) ?_
      obtain ⟨rfl, rfl⟩ := Prod.mk.inj (Option.some.inj H)
      exact zw_zret (pc := 141) dX1_isStatement_141 rfl rfl rfl rfl
  rcases zif H with ⟨c56, H⟩ | ⟨c56, H⟩
  · refine zw_lookup (pc := 8) (58) 66 dX1_isStatement_8 (by decide) (by rw [c56]; decide) rfl ?_
    refine zw_aload_n (pc := 66) dX1_isStatement_66 rfl 1 rfl ?_
    refine zw_ldcS (pc := 67) 1 dX1_isStatement_67 rfl ?_
    obtain ⟨b57, e59, H⟩ := zbind H
    obtain ⟨e58, e60⟩ := zrv_ok e59
    obtain ⟨x62, e61, H⟩ := zbind H
    refine zw_invV (pc := 69) (M' := M_J4_equals) (A := [vR (some (zst h6 1))]) [] dX1_isStatement_69 (Or.inl q1054) mf_J4_equals q948 (zkq e60 rfl) (w_J4_equals e61) (Nat.le_of_ble_eq_true rfl) rfl (by rw [← e58]; rfl) (Nat.le_of_ble_eq_true rfl) (zkv ?_) zkn9
    rcases zif H with ⟨c63, H⟩ | ⟨c63, H⟩
    · refine zw_if_eq (pc := 72) (tgt := 105) dX1_isStatement_72 rfl (fun _ => ?_) (fun q => absurd c63 q)
      refine zw_iload_n (pc := 105) dX1_isStatement_105 rfl 0 rfl ?_
      rcases zif H with ⟨c64, H⟩ | ⟨c64, H⟩
      · refine zw_tableIn (pc := 106) (30) 136 dX1_isStatement_106 (by rw [c64]; decide) (by rw [c64]; decide) (by rw [c64]; decide) rfl ?_
        refine zw_iconst (pc := 136) (v := (1 : Int32)) dX1_isStatement_136 (by decide) ?_
        refine zw_goto (pc := 137) (tgt := 141) dX1_isStatement_137 rfl ?_
        obtain ⟨rfl, rfl⟩ := Prod.mk.inj (Option.some.inj H)
        exact zw_zret (pc := 141) dX1_isStatement_141 rfl rfl rfl rfl
      rcases zif H with ⟨c65, H⟩ | ⟨c65, H⟩
      · refine zw_tableIn (pc := 106) (30) 136 dX1_isStatement_106 (by rw [c65]; decide) (by rw [c65]; decide) (by rw [c65]; decide) rfl ?_
        refine zw_iconst (pc := 136) (v := (1 : Int32)) dX1_isStatement_136 (by decide) ?_
        refine zw_goto (pc := 137) (tgt := 141) dX1_isStatement_137 rfl ?_
        obtain ⟨rfl, rfl⟩ := Prod.mk.inj (Option.some.inj H)
        exact zw_zret (pc := 141) dX1_isStatement_141 rfl rfl rfl rfl
      rcases zif H with ⟨c66, H⟩ | ⟨c66, H⟩
      · refine zw_tableIn (pc := 106) (30) 136 dX1_isStatement_106 (by rw [c66]; decide) (by rw [c66]; decide) (by rw [c66]; decide) rfl ?_
        refine zw_iconst (pc := 136) (v := (1 : Int32)) dX1_isStatement_136 (by decide) ?_
        refine zw_goto (pc := 137) (tgt := 141) dX1_isStatement_137 rfl ?_
        obtain ⟨rfl, rfl⟩ := Prod.mk.inj (Option.some.inj H)
        exact zw_zret (pc := 141) dX1_isStatement_141 rfl rfl rfl rfl
      rcases zif H with ⟨c67, H⟩ | ⟨c67, H⟩
      · refine zw_tableIn (pc := 106) (30) 136 dX1_isStatement_106 (by rw [c67]; decide) (by rw [c67]; decide) (by rw [c67]; decide) rfl ?_
        refine zw_iconst (pc := 136) (v := (1 : Int32)) dX1_isStatement_136 (by decide) ?_
        refine zw_goto (pc := 137) (tgt := 141) dX1_isStatement_137 rfl ?_
        obtain ⟨rfl, rfl⟩ := Prod.mk.inj (Option.some.inj H)
        exact zw_zret (pc := 141) dX1_isStatement_141 rfl rfl rfl rfl
      refine zw_tableOut (pc := 106) 140 dX1_isStatement_106 (ztb (0) 4 rfl (by intro j hj; match j, hj with | 0, _ => exact zne c64 | 1, _ => exact zne c65 | 2, _ => exact zne c66 | 3, _ => exact zne c67)) rfl ?_
      refine zw_iconst (pc := 140) (v := (0 : Int32)) dX1_isStatement_140 (by decide) ?_
      obtain ⟨rfl, rfl⟩ := Prod.mk.inj (Option.some.inj H)
      exact zw_zret (pc := 141) dX1_isStatement_141 rfl rfl rfl rfl
    · refine zw_if_eq (pc := 72) (tgt := 105) dX1_isStatement_72 rfl (fun q => absurd q c63) (fun _ => ?_)
      refine zw_iconst (pc := 75) (v := (1 : Int32)) dX1_isStatement_75 (by decide) ?_
      refine zw_istore_n (pc := 76) (lv' := [(2, vI (1 : Int32)), (1, vR p0), (0, vR p0)]) dX1_isStatement_76 rfl (by decide) rfl ?_
      refine zw_goto (pc := 77) (tgt := 105) dX1_isStatement_77 rfl ?_
      refine zw_iload_n (pc := 105) dX1_isStatement_105 rfl 0 rfl ?_
      rcases zif H with ⟨c68, H⟩ | ⟨c68, H⟩
      · refine zw_tableIn (pc := 106) (30) 136 dX1_isStatement_106 (by rw [c68]; decide) (by rw [c68]; decide) (by rw [c68]; decide) rfl ?_
        refine zw_iconst (pc := 136) (v := (1 : Int32)) dX1_isStatement_136 (by decide) ?_
        refine zw_goto (pc := 137) (tgt := 141) dX1_isStatement_137 rfl ?_
        obtain ⟨rfl, rfl⟩ := Prod.mk.inj (Option.some.inj H)
        exact zw_zret (pc := 141) dX1_isStatement_141 rfl rfl rfl rfl
      rcases zif H with ⟨c69, H⟩ | ⟨c69, H⟩
      · refine zw_tableIn (pc := 106) (30) 136 dX1_isStatement_106 (by rw [c69]; decide) (by rw [c69]; decide) (by rw [c69]; decide) rfl ?_
        refine zw_iconst (pc := 136) (v := (1 : Int32)) dX1_isStatement_136 (by decide) ?_
        refine zw_goto (pc := 137) (tgt := 141) dX1_isStatement_137 rfl ?_
        obtain ⟨rfl, rfl⟩ := Prod.mk.inj (Option.some.inj H)
        exact zw_zret (pc := 141) dX1_isStatement_141 rfl rfl rfl rfl
      rcases zif H with ⟨c70, H⟩ | ⟨c70, H⟩
      · refine zw_tableIn (pc := 106) (30) 136 dX1_isStatement_106 (by rw [c70]; decide) (by rw [c70]; decide) (by rw [c70]; decide) rfl ?_
        refine zw_iconst (pc := 136) (v := (1 : Int32)) dX1_isStatement_136 (by decide) ?_
        refine zw_goto (pc := 137) (tgt := 141) dX1_isStatement_137 rfl ?_
        obtain ⟨rfl, rfl⟩ := Prod.mk.inj (Option.some.inj H)
        exact zw_zret (pc := 141) dX1_isStatement_141 rfl rfl rfl rfl
      rcases zif H with ⟨c71, H⟩ | ⟨c71, H⟩
      · refine zw_tableIn (pc := 106) (30) 136 dX1_isStatement_106 (by rw [c71]; decide) (by rw [c71]; decide) (by rw [c71]; decide) rfl ?_
        refine zw_iconst (pc := 136) (v := (1 : Int32)) dX1_isStatement_136 (by decide) ?_
        refine zw_goto (pc := 137) (tgt := 141) dX1_isStatement_137 rfl ?_
        obtain ⟨rfl, rfl⟩ := Prod.mk.inj (Option.some.inj H)
        exact zw_zret (pc := 141) dX1_isStatement_141 rfl rfl rfl rfl
      refine zw_tableOut (pc := 106) 140 dX1_isStatement_106 (ztb (0) 4 rfl (by intro j hj; match j, hj with | 0, _ => exact zne c68 | 1, _ => exact zne c69 | 2, _ => exact zne c70 | 3, _ => exact zne c71)) rfl ?_
      refine zw_iconst (pc := 140) (v := (0 : Int32)) dX1_isStatement_140 (by decide) ?_
      obtain ⟨rfl, rfl⟩ := Prod.mk.inj (Option.some.inj H)
      exact zw_zret (pc := 141) dX1_isStatement_141 rfl rfl rfl rfl
  refine zw_lookup (pc := 8) (97) 105 dX1_isStatement_8 (by decide) (zlkD (List.forall_mem_cons.mpr ⟨zne c8, List.forall_mem_cons.mpr ⟨zne c24, List.forall_mem_cons.mpr ⟨zne c40, List.forall_mem_cons.mpr ⟨zne c56, fun _ hp => nomatch hp⟩⟩⟩⟩)) rfl ?_
  refine zw_iload_n (pc := 105) dX1_isStatement_105 rfl 0 rfl ?_
  rcases zif H with ⟨c72, H⟩ | ⟨c72, H⟩
  · refine zw_tableIn (pc := 106) (30) 136 dX1_isStatement_106 (by rw [c72]; decide) (by rw [c72]; decide) (by rw [c72]; decide) rfl ?_
    refine zw_iconst (pc := 136) (v := (1 : Int32)) dX1_isStatement_136 (by decide) ?_
    refine zw_goto (pc := 137) (tgt := 141) dX1_isStatement_137 rfl ?_
    obtain ⟨rfl, rfl⟩ := Prod.mk.inj (Option.some.inj H)
    exact zw_zret (pc := 141) dX1_isStatement_141 rfl rfl rfl rfl
  rcases zif H with ⟨c73, H⟩ | ⟨c73, H⟩
  · refine zw_tableIn (pc := 106) (30) 136 dX1_isStatement_106 (by rw [c73]; decide) (by rw [c73]; decide) (by rw [c73]; decide) rfl ?_
    refine zw_iconst (pc := 136) (v := (1 : Int32)) dX1_isStatement_136 (by decide) ?_
    refine zw_goto (pc := 137) (tgt := 141) dX1_isStatement_137 rfl ?_
    obtain ⟨rfl, rfl⟩ := Prod.mk.inj (Option.some.inj H)
    exact zw_zret (pc := 141) dX1_isStatement_141 rfl rfl rfl rfl
  rcases zif H with ⟨c74, H⟩ | ⟨c74, H⟩
  · refine zw_tableIn (pc := 106) (30) 136 dX1_isStatement_106 (by rw [c74]; decide) (by rw [c74]; decide) (by rw [c74]; decide) rfl ?_
    refine zw_iconst (pc := 136) (v := (1 : Int32)) dX1_isStatement_136 (by decide) ?_
    refine zw_goto (pc := 137) (tgt := 141) dX1_isStatement_137 rfl ?_
    obtain ⟨rfl, rfl⟩ := Prod.mk.inj (Option.some.inj H)
    exact zw_zret (pc := 141) dX1_isStatement_141 rfl rfl rfl rfl
  rcases zif H with ⟨c75, H⟩ | ⟨c75, H⟩
  · refine zw_tableIn (pc := 106) (30) 136 dX1_isStatement_106 (by rw [c75]; decide) (by rw [c75]; decide) (by rw [c75]; decide) rfl ?_
    refine zw_iconst (pc := 136) (v := (1 : Int32)) dX1_isStatement_136 (by decide) ?_
    refine zw_goto (pc := 137) (tgt := 141) dX1_isStatement_137 rfl ?_
    obtain ⟨rfl, rfl⟩ := Prod.mk.inj (Option.some.inj H)
    exact zw_zret (pc := 141) dX1_isStatement_141 rfl rfl rfl rfl
  refine zw_tableOut (pc := 106) 140 dX1_isStatement_106 (ztb (0) 4 rfl (by intro j hj; match j, hj with | 0, _ => exact zne c72 | 1, _ => exact zne c73 | 2, _ => exact zne c74 | 3, _ => exact zne c75)) rfl ?_
  refine zw_iconst (pc := 140) (v := (0 : Int32)) dX1_isStatement_140 (by decide) ?_
  obtain ⟨rfl, rfl⟩ := Prod.mk.inj (Option.some.inj H)
  exact zw_zret (pc := 141) dX1_isStatement_141 rfl rfl rfl rfl
theorem lf_X5_19 : zFl "CsrCalculator$Reader" 19 5 0 := ⟨_, "CsrCalculator$Reader", by decide, rfl, by decide, Or.inl q637, Or.inl rfl⟩
theorem lf_X5_35 : zFl "CsrCalculator$Reader" 35 1 1 := ⟨_, "CsrCalculator", by decide, rfl, by decide, Or.inr (by decide +kernel), Or.inl rfl⟩
def M_X5_byteAt : zM := (yX5_byteAt, cX5_byteAt, 2, (.some .int), [])
theorem mf_X5_byteAt : zMi M_X5_byteAt 1 := ⟨⟨q687, q195, ⟨by decide +kernel, by decide +kernel⟩, by decide +kernel, by decide⟩, q686⟩
def f_X5_byteAt (p0 : Option Nat) (p1 : Int32) (h : zH) : Option Int32 :=
  (zgI 5 0 p0 h).bind fun x1 =>
  if x1 ≤ p1 then
  some (-1 : Int32)
  else
  (zgR 5 11 p0 h).bind fun x4 =>
  (zgR 1 1 x4 h).bind fun x6 =>
  (zaI 53 x6 p1 h).bind fun x8 =>
  some (x8 &&& (255 : Int32))
theorem w_X5_byteAt {G : zG} {p0 : Option Nat} {p1 : Int32} {h : zH} {vx : Int32} (H : f_X5_byteAt p0 p1 h = some vx) : zMet G M_X5_byteAt 2 [vR p0, vI p1] h (.inl (some (vI vx))) h := by
  refine zMet.of (by decide +kernel) (Nat.le_of_ble_eq_true rfl) ?_
  show zW G M_X5_byteAt 2 h (.inl (some (vI vx))) h 0 [(0, vR p0), (1, vI p1)] [] h
  unfold f_X5_byteAt at H
  refine zw_iload_n (pc := 0) dX5_byteAt_0 rfl 1 rfl ?_
  refine zw_aload_n (pc := 1) dX5_byteAt_1 rfl 0 rfl ?_
  obtain ⟨x1, e2, H⟩ := zbind H
  refine zy_getI (pc := 2) dX5_byteAt_2 lf_X5_19 (fun _ _ => rfl) e2 ?_
  rcases zif H with ⟨c3, H⟩ | ⟨c3, H⟩
  · refine zw_icmp_ge (pc := 5) (tgt := 24) dX5_byteAt_5 rfl (fun _ => ?_) (fun q => absurd c3 q)
    refine zw_iconst (pc := 24) (v := (-1 : Int32)) dX5_byteAt_24 (by decide) ?_
    obtain rfl := Option.some.inj H
    exact zw_iret (pc := 25) dX5_byteAt_25 rfl rfl rfl
  · refine zw_icmp_ge (pc := 5) (tgt := 24) dX5_byteAt_5 rfl (fun q => absurd q c3) (fun _ => ?_)
    refine zw_aload_n (pc := 8) dX5_byteAt_8 rfl 0 rfl ?_
    obtain ⟨x4, e5, H⟩ := zbind H
    refine zy_getR (pc := 9) dX5_byteAt_9 lf_X5_3 (fun _ _ => rfl) e5 ?_
    obtain ⟨x6, e7, H⟩ := zbind H
    refine zy_getR (pc := 12) dX5_byteAt_12 lf_X5_35 (fun _ _ => rfl) e7 ?_
    refine zw_iload_n (pc := 15) dX5_byteAt_15 rfl 1 rfl ?_
    obtain ⟨x8, e9, H⟩ := zbind H
    refine zy_bald (pc := 16) dX5_byteAt_16 e9 ?_
    refine zw_sipush (pc := 17) (v := (255 : Int32)) dX5_byteAt_17 (by decide) ?_
    refine zw_iand (pc := 20) dX5_byteAt_20 ?_
    refine zw_goto (pc := 21) (tgt := 25) dX5_byteAt_21 rfl ?_
    obtain rfl := Option.some.inj H
    exact zw_iret (pc := 25) dX5_byteAt_25 rfl rfl rfl
theorem ln_X5_77 : zCl "CsrCalculator$Reader" 77 18 := ⟨_, by decide, by decide, rfl, q695, q303, q186⟩
theorem lf_X5_39 : zFl "CsrCalculator$Reader" 39 5 3 := ⟨_, "CsrCalculator$Reader", by decide, rfl, by decide, Or.inl q640, Or.inl rfl⟩
theorem ls_X5_byteAt : Cond.selects yX5_byteAt.cls yX5_byteAt yX5_byteAt ∈ lw_all := lw_g (lw_ms _ (List.mem_of_getElem? (i := 10) rfl)) rfl
theorem lf_X5_46 : zFl "CsrCalculator$Reader" 46 5 2 := ⟨_, "CsrCalculator$Reader", by decide, rfl, by decide, Or.inl q639, Or.inl rfl⟩
theorem lp_X5_49 {nm : String} : zFp "CsrCalculator$Reader" nm 49 5 4 := ⟨_, "CsrCalculator$Reader", by decide, rfl, by decide, Or.inl rfl, Or.inl ⟨Or.inl q641, rfl⟩⟩
theorem lf_X5_49 : zFl "CsrCalculator$Reader" 49 5 4 := ⟨_, "CsrCalculator$Reader", by decide, rfl, by decide, Or.inl q641, Or.inl rfl⟩
theorem lp_X5_39 {nm : String} : zFp "CsrCalculator$Reader" nm 39 5 3 := ⟨_, "CsrCalculator$Reader", by decide, rfl, by decide, Or.inl rfl, Or.inl ⟨Or.inl q640, rfl⟩⟩
def M_X5_readWord : zM := (yX5_readWord, cX5_readWord, 2, none, [])
theorem mf_X5_readWord : zMi M_X5_readWord 0 := ⟨⟨q694, q195, ⟨by decide +kernel, by decide +kernel⟩, by decide +kernel, by decide⟩, q693⟩
def B_X5_readWord_89 (a0 : Option Nat) (a1 : Option Nat) (a2 : Option Nat) (a3 : Int32) (h : zH) : Option zH :=
  (zpI 5 4 a2 a3 h).bind fun h1 =>
  (zgI 5 4 a0 h1).bind fun x3 =>
  if x3 = (1 : Int32) then
  (zrv 18 a1 h1).bind fun b8 =>
  zb2 (f_J3_toString (some b8) h1) fun x14 h13 =>
  (zpR 5 9 a0 x14 h13).bind fun h15 =>
  some h15
  else
  (zpR 5 9 a0 (some (zst h1 9)) h1).bind fun h6 =>
  some h6
theorem wB_X5_readWord_89 {G : zG} {h0 h : zH} {vh : zH} {a0 : Option Nat} {a1 : Option Nat} {a2 : Option Nat} {a3 : Int32} (H : B_X5_readWord_89 a0 a1 a2 a3 h = some vh) : zW G M_X5_readWord 11 h0 (.inl none) vh 89 [(0, vR a0), (1, vR a1)] [vI a3, vR a2] h := by
  unfold B_X5_readWord_89 at H
  obtain ⟨h1, e2, H⟩ := zbind H
  refine zy_putI (pc := 89) dX5_readWord_89 lp_X5_49 rfl e2 ?_
  refine zw_aload_n (pc := 92) dX5_readWord_92 rfl 0 rfl ?_
  refine zw_aload_n (pc := 93) dX5_readWord_93 rfl 0 rfl ?_
  obtain ⟨x3, e4, H⟩ := zbind H
  refine zy_getI (pc := 94) dX5_readWord_94 lf_X5_49 (fun _ _ => rfl) e4 ?_
  refine zw_iconst (pc := 97) (v := (1 : Int32)) dX5_readWord_97 (by decide) ?_
  rcases zif H with ⟨c5, H⟩ | ⟨c5, H⟩
  · refine zw_icmp_ne (pc := 98) (tgt := 108) dX5_readWord_98 rfl (fun q => absurd c5 q) (fun _ => ?_)
    refine zw_aload_n (pc := 101) dX5_readWord_101 rfl 1 rfl ?_
    obtain ⟨b8, e10, H⟩ := zbind H
    obtain ⟨e9, e11⟩ := zrv_ok e10
    obtain ⟨x14, h13, e12, H⟩ := zbind2 H
    refine zw_invV (pc := 102) (M' := M_J3_toString) (A := []) [vR a0] dX5_readWord_102 (Or.inl q797) mf_J3_toString q799 (zkq e11 rfl) (w_J3_toString e12) (Nat.le_of_ble_eq_true rfl) rfl (by rw [← e9]; rfl) (Nat.le_of_ble_eq_true rfl) (zkv ?_) zkn9
    refine zw_goto (pc := 105) (tgt := 110) dX5_readWord_105 rfl ?_
    obtain ⟨h15, e16, H⟩ := zbind H
    refine zy_putR (pc := 110) dX5_readWord_110 lp_X5_31 rfl e16 ?_
    obtain rfl := Option.some.inj H
    exact zw_vret (pc := 113) dX5_readWord_113 rfl rfl rfl
  · refine zw_icmp_ne (pc := 98) (tgt := 108) dX5_readWord_98 rfl (fun _ => ?_) (fun q => absurd q c5)
    refine zw_ldcS (pc := 108) 9 dX5_readWord_108 rfl ?_
    obtain ⟨h6, e7, H⟩ := zbind H
    refine zy_putR (pc := 110) dX5_readWord_110 lp_X5_31 rfl e7 ?_
    obtain rfl := Option.some.inj H
    exact zw_vret (pc := 113) dX5_readWord_113 rfl rfl rfl
def B_X5_readWord_69 (a0 : Option Nat) (a1 : Option Nat) (h : zH) : Option zH :=
  (zgI 5 3 a0 h).bind fun x1 =>
  (zgI 5 2 a0 h).bind fun x3 =>
  if (x1 - x3) ≤ (8 : Int32) then
  B_X5_readWord_89 a0 a1 a0 (1 : Int32) h
  else
  B_X5_readWord_89 a0 a1 a0 (4 : Int32) h
theorem wB_X5_readWord_69 {G : zG} {h0 h : zH} {vh : zH} {a0 : Option Nat} {a1 : Option Nat} (H : B_X5_readWord_69 a0 a1 h = some vh) : zW G M_X5_readWord 11 h0 (.inl none) vh 69 [(0, vR a0), (1, vR a1)] [] h := by
  unfold B_X5_readWord_69 at H
  refine zw_aload_n (pc := 69) dX5_readWord_69 rfl 0 rfl ?_
  refine zw_aload_n (pc := 70) dX5_readWord_70 rfl 0 rfl ?_
  obtain ⟨x1, e2, H⟩ := zbind H
  refine zy_getI (pc := 71) dX5_readWord_71 lf_X5_39 (fun _ _ => rfl) e2 ?_
  refine zw_aload_n (pc := 74) dX5_readWord_74 rfl 0 rfl ?_
  obtain ⟨x3, e4, H⟩ := zbind H
  refine zy_getI (pc := 75) dX5_readWord_75 lf_X5_46 (fun _ _ => rfl) e4 ?_
  refine zw_isub (pc := 78) dX5_readWord_78 ?_
  refine zw_bipush (pc := 79) (v := (8 : Int32)) dX5_readWord_79 (by decide) ?_
  rcases zif H with ⟨c5, H⟩ | ⟨c5, H⟩
  · refine zw_icmp_le (pc := 81) (tgt := 88) dX5_readWord_81 rfl (fun _ => ?_) (fun q => absurd c5 q)
    refine zw_iconst (pc := 88) (v := (1 : Int32)) dX5_readWord_88 (by decide) ?_
    refine zW_pick (lv' := [(0, vR a0), (1, vR a1)]) [0, 1] rfl ?_
    exact wB_X5_readWord_89 H
  · refine zw_icmp_le (pc := 81) (tgt := 88) dX5_readWord_81 rfl (fun q => absurd q c5) (fun _ => ?_)
    refine zw_iconst (pc := 84) (v := (4 : Int32)) dX5_readWord_84 (by decide) ?_
    refine zw_goto (pc := 85) (tgt := 89) dX5_readWord_85 rfl ?_
    refine zW_pick (lv' := [(0, vR a0), (1, vR a1)]) [0, 1] rfl ?_
    exact wB_X5_readWord_89 H
def B_X5_readWord_8 (k8 : Option Nat → Option Nat → zH → Option zH) (a0 : Option Nat) (a1 : Option Nat) (h : zH) : Option zH :=
  (zgI 5 3 a0 h).bind fun x1 =>
  (zrv 5 a0 h).bind fun b3 =>
  (f_X5_byteAt (some b3) x1 h).bind fun x8 =>
  (f_X1_isIn x8.toInt64 (97 : Int64) (122 : Int64) h).bind fun x10 =>
  if x10 = 0 then
  B_X5_readWord_69 a0 a1 h
  else
  (zrv 18 a1 h).bind fun b12 =>
  (f_J3_length (some b12) h).bind fun x17 =>
  if (8 : Int32) ≤ x17 then
  (zgI 5 3 a0 h).bind fun x19 =>
  (zpI 5 3 a0 (x19 + (1 : Int32)) h).bind fun h21 =>
  k8 a0 a1 h21
  else
  (zgR 5 11 a0 h).bind fun x23 =>
  (zgR 1 1 x23 h).bind fun x25 =>
  (zgI 5 3 a0 h).bind fun x27 =>
  (zaI 53 x25 x27 h).bind fun x29 =>
  (zrv 18 a1 h).bind fun b31 =>
  zb2 (f_J3_append (some b31) (x29.toUInt32 % 65536).toInt32 h) fun x37 h36 =>
  (zgI 5 3 a0 h36).bind fun x38 =>
  (zpI 5 3 a0 (x38 + (1 : Int32)) h36).bind fun h40 =>
  k8 a0 a1 h40
theorem wB_X5_readWord_8 {G : zG} {h0 h : zH} {vh : zH} {k8 : Option Nat → Option Nat → zH → Option zH} (hk8 : ∀ (b0 : Option Nat) (b1 : Option Nat) (h' : zH), k8 b0 b1 h' = some vh → zW G M_X5_readWord 11 h0 (.inl none) vh 8 [(0, vR b0), (1, vR b1)] [] h') {a0 : Option Nat} {a1 : Option Nat} (H : B_X5_readWord_8 k8 a0 a1 h = some vh) : zW G M_X5_readWord 11 h0 (.inl none) vh 8 [(0, vR a0), (1, vR a1)] [] h := by
  unfold B_X5_readWord_8 at H
  refine zw_aload_n (pc := 8) dX5_readWord_8 rfl 0 rfl ?_
  refine zw_aload_n (pc := 9) dX5_readWord_9 rfl 0 rfl ?_
  obtain ⟨x1, e2, H⟩ := zbind H
  refine zy_getI (pc := 10) dX5_readWord_10 lf_X5_39 (fun _ _ => rfl) e2 ?_
  obtain ⟨b3, e5, H⟩ := zbind H
  obtain ⟨e4, e6⟩ := zrv_ok e5
  obtain ⟨x8, e7, H⟩ := zbind H
  refine zw_invV (pc := 13) (M' := M_X5_byteAt) (A := [vI x1]) [] dX5_readWord_13 (Or.inl q684) mf_X5_byteAt ls_X5_byteAt (zkq e6 rfl) (w_X5_byteAt e7) (Nat.le_of_ble_eq_true rfl) rfl (by rw [← e4]; rfl) (Nat.le_of_ble_eq_true rfl) (zkv ?_) zkn9
  refine zw_i2l (pc := 16) dX5_readWord_16 ?_
  refine zw_ldc2 (pc := 17) dX5_readWord_17 q688 ?_
  refine zw_ldc2 (pc := 20) dX5_readWord_20 q689 ?_
  obtain ⟨x10, e9, H⟩ := zbind H
  refine zw_invS (pc := 23) (M' := M_X1_isIn) (A := [vJ x8.toInt64, vJ (97 : Int64), vJ (122 : Int64)]) [] dX5_readWord_23 (Or.inr (by decide +kernel)) mf_X1_isIn (w_X1_isIn e9) (Nat.le_of_ble_eq_true rfl) rfl rfl (Nat.le_of_ble_eq_true rfl) (zkv ?_) zkn9
  rcases zif H with ⟨c11, H⟩ | ⟨c11, H⟩
  · refine zw_if_eq (pc := 26) (tgt := 69) dX5_readWord_26 rfl (fun _ => ?_) (fun q => absurd c11 q)
    refine zW_pick (lv' := [(0, vR a0), (1, vR a1)]) [0, 1] rfl ?_
    exact wB_X5_readWord_69 H
  · refine zw_if_eq (pc := 26) (tgt := 69) dX5_readWord_26 rfl (fun q => absurd q c11) (fun _ => ?_)
    refine zw_aload_n (pc := 29) dX5_readWord_29 rfl 1 rfl ?_
    obtain ⟨b12, e14, H⟩ := zbind H
    obtain ⟨e13, e15⟩ := zrv_ok e14
    obtain ⟨x17, e16, H⟩ := zbind H
    refine zw_invV (pc := 30) (M' := M_J3_length) (A := []) [] dX5_readWord_30 (Or.inl q697) mf_J3_length q699 (zkq e15 rfl) (w_J3_length e16) (Nat.le_of_ble_eq_true rfl) rfl (by rw [← e13]; rfl) (Nat.le_of_ble_eq_true rfl) (zkv ?_) zkn9
    refine zw_bipush (pc := 33) (v := (8 : Int32)) dX5_readWord_33 (by decide) ?_
    rcases zif H with ⟨c18, H⟩ | ⟨c18, H⟩
    · refine zw_icmp_ge (pc := 35) (tgt := 56) dX5_readWord_35 rfl (fun _ => ?_) (fun q => absurd c18 q)
      refine zw_aload_n (pc := 56) dX5_readWord_56 rfl 0 rfl ?_
      refine zw_dup (pc := 57) dX5_readWord_57 rfl ?_
      obtain ⟨x19, e20, H⟩ := zbind H
      refine zy_getI (pc := 58) dX5_readWord_58 lf_X5_39 (fun _ _ => rfl) e20 ?_
      refine zw_iconst (pc := 61) (v := (1 : Int32)) dX5_readWord_61 (by decide) ?_
      refine zw_iadd (pc := 62) dX5_readWord_62 ?_
      obtain ⟨h21, e22, H⟩ := zbind H
      refine zy_putI (pc := 63) dX5_readWord_63 lp_X5_39 rfl e22 ?_
      refine zw_goto (pc := 66) (tgt := 8) dX5_readWord_66 rfl ?_
      refine zW_pick (lv' := [(0, vR a0), (1, vR a1)]) [0, 1] rfl ?_
      exact hk8 _ _ _ H
    · refine zw_icmp_ge (pc := 35) (tgt := 56) dX5_readWord_35 rfl (fun q => absurd q c18) (fun _ => ?_)
      refine zw_aload_n (pc := 38) dX5_readWord_38 rfl 1 rfl ?_
      refine zw_aload_n (pc := 39) dX5_readWord_39 rfl 0 rfl ?_
      obtain ⟨x23, e24, H⟩ := zbind H
      refine zy_getR (pc := 40) dX5_readWord_40 lf_X5_3 (fun _ _ => rfl) e24 ?_
      obtain ⟨x25, e26, H⟩ := zbind H
      refine zy_getR (pc := 43) dX5_readWord_43 lf_X5_35 (fun _ _ => rfl) e26 ?_
      refine zw_aload_n (pc := 46) dX5_readWord_46 rfl 0 rfl ?_
      obtain ⟨x27, e28, H⟩ := zbind H
      refine zy_getI (pc := 47) dX5_readWord_47 lf_X5_39 (fun _ _ => rfl) e28 ?_
      obtain ⟨x29, e30, H⟩ := zbind H
      refine zy_bald (pc := 50) dX5_readWord_50 e30 ?_
      refine zw_i2c (pc := 51) dX5_readWord_51 ?_
      obtain ⟨b31, e33, H⟩ := zbind H
      obtain ⟨e32, e34⟩ := zrv_ok e33
      obtain ⟨x37, h36, e35, H⟩ := zbind2 H
      refine zw_invV (pc := 52) (M' := M_J3_append) (A := [vI (x29.toUInt32 % 65536).toInt32]) [] dX5_readWord_52 (Or.inl q704) mf_J3_append q706 (zkq e34 rfl) (w_J3_append e35) (Nat.le_of_ble_eq_true rfl) rfl (by rw [← e32]; rfl) (Nat.le_of_ble_eq_true rfl) (zkv ?_) zkn9
      refine zw_pop (pc := 55) dX5_readWord_55 rfl ?_
      refine zw_aload_n (pc := 56) dX5_readWord_56 rfl 0 rfl ?_
      refine zw_dup (pc := 57) dX5_readWord_57 rfl ?_
      obtain ⟨x38, e39, H⟩ := zbind H
      refine zy_getI (pc := 58) dX5_readWord_58 lf_X5_39 (fun _ _ => rfl) e39 ?_
      refine zw_iconst (pc := 61) (v := (1 : Int32)) dX5_readWord_61 (by decide) ?_
      refine zw_iadd (pc := 62) dX5_readWord_62 ?_
      obtain ⟨h40, e41, H⟩ := zbind H
      refine zy_putI (pc := 63) dX5_readWord_63 lp_X5_39 rfl e41 ?_
      refine zw_goto (pc := 66) (tgt := 8) dX5_readWord_66 rfl ?_
      refine zW_pick (lv' := [(0, vR a0), (1, vR a1)]) [0, 1] rfl ?_
      exact hk8 _ _ _ H
def f_X5_readWord (p0 : Option Nat) (h : zH) : Option zH :=
  zb2 (znw 18 h) fun q1 h2 =>
  (some q1).bind fun b4 =>
  (f_J3_init (some b4) h2).bind fun h7 =>
  zloop (B_X5_readWord_8) (fun _ _ _ => none) zFU p0 (some q1) h7
theorem w_X5_readWord {G : zG} {p0 : Option Nat} {h : zH} {vh : zH} (H : f_X5_readWord p0 h = some vh) : zMet G M_X5_readWord 11 [vR p0] h (.inl none) vh := by
  refine zMet.of (by decide +kernel) (Nat.le_of_ble_eq_true rfl) ?_
  show zW G M_X5_readWord 11 h (.inl none) vh 0 [(0, vR p0)] [] h
  unfold f_X5_readWord at H
  obtain ⟨q1, h2, e3, H⟩ := zbind2 H
  refine zy_new (pc := 0) dX5_readWord_0 ln_X5_77 e3 ?_
  refine zw_dup (pc := 3) dX5_readWord_3 rfl ?_
  obtain ⟨b4, e5, H⟩ := zbind H
  obtain ⟨h7, e6, H⟩ := zbind H
  refine zw_invI (pc := 4) (M' := M_J3_init) (A := []) [vR (some q1)] dX5_readWord_4 (Or.inl q696) mf_J3_init rfl rfl (w_J3_init e6) (Nat.le_of_ble_eq_true rfl) rfl (by rw [← e5]; rfl) (Nat.le_of_ble_eq_true rfl) (zku ?_) zkn9
  refine zw_astore_n (pc := 7) (lv' := [(1, vR (some q1)), (0, vR p0)]) dX5_readWord_7 rfl (by decide) rfl ?_
  refine zW_pick (lv' := [(0, vR p0), (1, vR (some q1))]) [1, 0] rfl ?_
  exact zloop_ind (body := (B_X5_readWord_8)) (bot := (fun _ _ _ => none)) (P := (fun (f : Option Nat → Option Nat → zH → Option zH) => ∀ (b0 : Option Nat) (b1 : Option Nat) (h' : zH), f b0 b1 h' = some vh → zW G M_X5_readWord 11 h (.inl none) vh 8 [(0, vR b0), (1, vR b1)] [] h')) zFU (fun _ _ _ H => nomatch H) (fun f hf c0 c1 h' H => wB_X5_readWord_8 hf H) _ _ _ H
theorem lp_X5_46 {nm : String} : zFp "CsrCalculator$Reader" nm 46 5 2 := ⟨_, "CsrCalculator$Reader", by decide, rfl, by decide, Or.inl rfl, Or.inl ⟨Or.inl q639, rfl⟩⟩
theorem lp_X5_67 {nm : String} : zFp "CsrCalculator$Reader" nm 67 5 5 := ⟨_, "CsrCalculator$Reader", by decide, rfl, by decide, Or.inl rfl, Or.inl ⟨Or.inl q642, rfl⟩⟩
theorem lf_X5_67 : zFl "CsrCalculator$Reader" 67 5 5 := ⟨_, "CsrCalculator$Reader", by decide, rfl, by decide, Or.inl q642, Or.inl rfl⟩
theorem ls_X5_readWord : Cond.selects yX5_readWord.cls yX5_readWord yX5_readWord ∈ lw_all := lw_g (lw_ms _ (List.mem_of_getElem? (i := 11) rfl)) rfl
def M_X5_advance : zM := (yX5_advance, cX5_advance, 2, none, [])
theorem mf_X5_advance : zMi M_X5_advance 0 := ⟨⟨q683, q195, ⟨by decide +kernel, by decide +kernel⟩, by decide +kernel, by decide⟩, q682⟩
def B_X5_advance_177 (a0 : Option Nat) (h : zH) : Option zH :=
  (zgI 5 3 a0 h).bind fun x1 =>
  (zgI 5 2 a0 h).bind fun x3 =>
  if (x1 - x3) ≤ (4 : Int32) then
  (zpI 5 4 a0 (2 : Int32) h).bind fun h6 =>
  some h6
  else
  (zpI 5 4 a0 (4 : Int32) h).bind fun h8 =>
  some h8
theorem wB_X5_advance_177 {G : zG} {h0 h : zH} {vh : zH} {a0 : Option Nat} (H : B_X5_advance_177 a0 h = some vh) : zW G M_X5_advance 12 h0 (.inl none) vh 177 [(0, vR a0)] [] h := by
  unfold B_X5_advance_177 at H
  refine zw_aload_n (pc := 177) dX5_advance_177 rfl 0 rfl ?_
  refine zw_aload_n (pc := 178) dX5_advance_178 rfl 0 rfl ?_
  obtain ⟨x1, e2, H⟩ := zbind H
  refine zy_getI (pc := 179) dX5_advance_179 lf_X5_39 (fun _ _ => rfl) e2 ?_
  refine zw_aload_n (pc := 182) dX5_advance_182 rfl 0 rfl ?_
  obtain ⟨x3, e4, H⟩ := zbind H
  refine zy_getI (pc := 183) dX5_advance_183 lf_X5_46 (fun _ _ => rfl) e4 ?_
  refine zw_isub (pc := 186) dX5_advance_186 ?_
  refine zw_iconst (pc := 187) (v := (4 : Int32)) dX5_advance_187 (by decide) ?_
  rcases zif H with ⟨c5, H⟩ | ⟨c5, H⟩
  · refine zw_icmp_le (pc := 188) (tgt := 195) dX5_advance_188 rfl (fun _ => ?_) (fun q => absurd c5 q)
    refine zw_iconst (pc := 195) (v := (2 : Int32)) dX5_advance_195 (by decide) ?_
    obtain ⟨h6, e7, H⟩ := zbind H
    refine zy_putI (pc := 196) dX5_advance_196 lp_X5_49 rfl e7 ?_
    refine zw_goto (pc := 199) (tgt := 239) dX5_advance_199 rfl ?_
    obtain rfl := Option.some.inj H
    exact zw_vret (pc := 239) dX5_advance_239 rfl rfl rfl
  · refine zw_icmp_le (pc := 188) (tgt := 195) dX5_advance_188 rfl (fun q => absurd q c5) (fun _ => ?_)
    refine zw_iconst (pc := 191) (v := (4 : Int32)) dX5_advance_191 (by decide) ?_
    refine zw_goto (pc := 192) (tgt := 196) dX5_advance_192 rfl ?_
    obtain ⟨h8, e9, H⟩ := zbind H
    refine zy_putI (pc := 196) dX5_advance_196 lp_X5_49 rfl e9 ?_
    refine zw_goto (pc := 199) (tgt := 239) dX5_advance_199 rfl ?_
    obtain rfl := Option.some.inj H
    exact zw_vret (pc := 239) dX5_advance_239 rfl rfl rfl
def B_X5_advance_115 (k115 : Option Nat → zH → Option zH) (a0 : Option Nat) (h : zH) : Option zH :=
  (zgI 5 3 a0 h).bind fun x1 =>
  (zrv 5 a0 h).bind fun b3 =>
  (f_X5_byteAt (some b3) x1 h).bind fun x8 =>
  (f_X1_isIn x8.toInt64 (48 : Int64) (57 : Int64) h).bind fun x10 =>
  if x10 = 0 then
  B_X5_advance_177 a0 h
  else
  (zgI 5 5 a0 h).bind fun x12 =>
  (zgI 5 3 a0 h).bind fun x14 =>
  (zrv 5 a0 h).bind fun b16 =>
  (f_X5_byteAt (some b16) x14 h).bind fun x21 =>
  (f_J12_min (99999 : Int32) ((((10 : Int32) * x12) + x21) - (48 : Int32)) h).bind fun x23 =>
  (zpI 5 5 a0 x23 h).bind fun h24 =>
  (zgI 5 3 a0 h24).bind fun x26 =>
  (zpI 5 3 a0 (x26 + (1 : Int32)) h24).bind fun h28 =>
  k115 a0 h28
theorem wB_X5_advance_115 {G : zG} {h0 h : zH} {vh : zH} {k115 : Option Nat → zH → Option zH} (hk115 : ∀ (b0 : Option Nat) (h' : zH), k115 b0 h' = some vh → zW G M_X5_advance 12 h0 (.inl none) vh 115 [(0, vR b0)] [] h') {a0 : Option Nat} (H : B_X5_advance_115 k115 a0 h = some vh) : zW G M_X5_advance 12 h0 (.inl none) vh 115 [(0, vR a0)] [] h := by
  unfold B_X5_advance_115 at H
  refine zw_aload_n (pc := 115) dX5_advance_115 rfl 0 rfl ?_
  refine zw_aload_n (pc := 116) dX5_advance_116 rfl 0 rfl ?_
  obtain ⟨x1, e2, H⟩ := zbind H
  refine zy_getI (pc := 117) dX5_advance_117 lf_X5_39 (fun _ _ => rfl) e2 ?_
  obtain ⟨b3, e5, H⟩ := zbind H
  obtain ⟨e4, e6⟩ := zrv_ok e5
  obtain ⟨x8, e7, H⟩ := zbind H
  refine zw_invV (pc := 120) (M' := M_X5_byteAt) (A := [vI x1]) [] dX5_advance_120 (Or.inl q684) mf_X5_byteAt ls_X5_byteAt (zkq e6 rfl) (w_X5_byteAt e7) (Nat.le_of_ble_eq_true rfl) rfl (by rw [← e4]; rfl) (Nat.le_of_ble_eq_true rfl) (zkv ?_) zkn9
  refine zw_i2l (pc := 123) dX5_advance_123 ?_
  refine zw_ldc2 (pc := 124) dX5_advance_124 q941 ?_
  refine zw_ldc2 (pc := 127) dX5_advance_127 q942 ?_
  obtain ⟨x10, e9, H⟩ := zbind H
  refine zw_invS (pc := 130) (M' := M_X1_isIn) (A := [vJ x8.toInt64, vJ (48 : Int64), vJ (57 : Int64)]) [] dX5_advance_130 (Or.inr (by decide +kernel)) mf_X1_isIn (w_X1_isIn e9) (Nat.le_of_ble_eq_true rfl) rfl rfl (Nat.le_of_ble_eq_true rfl) (zkv ?_) zkn9
  rcases zif H with ⟨c11, H⟩ | ⟨c11, H⟩
  · refine zw_if_eq (pc := 133) (tgt := 177) dX5_advance_133 rfl (fun _ => ?_) (fun q => absurd c11 q)
    refine zW_pick (lv' := [(0, vR a0)]) [0] rfl ?_
    exact wB_X5_advance_177 H
  · refine zw_if_eq (pc := 133) (tgt := 177) dX5_advance_133 rfl (fun q => absurd q c11) (fun _ => ?_)
    refine zw_aload_n (pc := 136) dX5_advance_136 rfl 0 rfl ?_
    refine zw_ldcI (pc := 137) dX5_advance_137 q943 ?_
    refine zw_bipush (pc := 139) (v := (10 : Int32)) dX5_advance_139 (by decide) ?_
    refine zw_aload_n (pc := 141) dX5_advance_141 rfl 0 rfl ?_
    obtain ⟨x12, e13, H⟩ := zbind H
    refine zy_getI (pc := 142) dX5_advance_142 lf_X5_67 (fun _ _ => rfl) e13 ?_
    refine zw_imul (pc := 145) dX5_advance_145 ?_
    refine zw_aload_n (pc := 146) dX5_advance_146 rfl 0 rfl ?_
    refine zw_aload_n (pc := 147) dX5_advance_147 rfl 0 rfl ?_
    obtain ⟨x14, e15, H⟩ := zbind H
    refine zy_getI (pc := 148) dX5_advance_148 lf_X5_39 (fun _ _ => rfl) e15 ?_
    obtain ⟨b16, e18, H⟩ := zbind H
    obtain ⟨e17, e19⟩ := zrv_ok e18
    obtain ⟨x21, e20, H⟩ := zbind H
    refine zw_invV (pc := 151) (M' := M_X5_byteAt) (A := [vI x14]) [vI ((10 : Int32) * x12), vI (99999 : Int32), vR a0] dX5_advance_151 (Or.inl q684) mf_X5_byteAt ls_X5_byteAt (zkq e19 rfl) (w_X5_byteAt e20) (Nat.le_of_ble_eq_true rfl) rfl (by rw [← e17]; rfl) (Nat.le_of_ble_eq_true rfl) (zkv ?_) zkn9
    refine zw_iadd (pc := 154) dX5_advance_154 ?_
    refine zw_bipush (pc := 155) (v := (48 : Int32)) dX5_advance_155 (by decide) ?_
    refine zw_isub (pc := 157) dX5_advance_157 ?_
    obtain ⟨x23, e22, H⟩ := zbind H
    refine zw_invS (pc := 158) (M' := M_J12_min) (A := [vI (99999 : Int32), vI ((((10 : Int32) * x12) + x21) - (48 : Int32))]) [vR a0] dX5_advance_158 (Or.inl q944) mf_J12_min (w_J12_min e22) (Nat.le_of_ble_eq_true rfl) rfl rfl (Nat.le_of_ble_eq_true rfl) (zkv ?_) zkn9
    obtain ⟨h24, e25, H⟩ := zbind H
    refine zy_putI (pc := 161) dX5_advance_161 lp_X5_67 rfl e25 ?_
    refine zw_aload_n (pc := 164) dX5_advance_164 rfl 0 rfl ?_
    refine zw_dup (pc := 165) dX5_advance_165 rfl ?_
    obtain ⟨x26, e27, H⟩ := zbind H
    refine zy_getI (pc := 166) dX5_advance_166 lf_X5_39 (fun _ _ => rfl) e27 ?_
    refine zw_iconst (pc := 169) (v := (1 : Int32)) dX5_advance_169 (by decide) ?_
    refine zw_iadd (pc := 170) dX5_advance_170 ?_
    obtain ⟨h28, e29, H⟩ := zbind H
    refine zy_putI (pc := 171) dX5_advance_171 lp_X5_39 rfl e29 ?_
    refine zw_goto (pc := 174) (tgt := 115) dX5_advance_174 rfl ?_
    refine zW_pick (lv' := [(0, vR a0)]) [0] rfl ?_
    exact hk115 _ _ H
def B_X5_advance_39 (a0 : Option Nat) (h : zH) : Option zH :=
  (zgI 5 3 a0 h).bind fun x1 =>
  (zpI 5 2 a0 x1 h).bind fun h3 =>
  (zpR 5 9 a0 (some (zst h3 9)) h3).bind fun h5 =>
  (zgI 5 2 a0 h5).bind fun x7 =>
  (zrv 5 a0 h5).bind fun b9 =>
  (f_X5_byteAt (some b9) x7 h5).bind fun x14 =>
  if x14 = (-1 : Int32) then
  (zpI 5 4 a0 (0 : Int32) h5).bind fun h45 =>
  some h45
  else
  (f_X1_isIn x14.toInt64 (97 : Int64) (122 : Int64) h5).bind fun x17 =>
  if x17 = 0 then
  (f_X1_isIn x14.toInt64 (48 : Int64) (57 : Int64) h5).bind fun x20 =>
  if x20 = 0 then
  (zgI 5 3 a0 h5).bind fun x22 =>
  (zpI 5 3 a0 (x22 + (1 : Int32)) h5).bind fun h24 =>
  if x14 = (59 : Int32) then
  (zpI 5 4 a0 (3 : Int32) h24).bind fun h27 =>
  some h27
  else
  if x14 = (40 : Int32) then
  (zpI 5 4 a0 (3 : Int32) h24).bind fun h30 =>
  some h30
  else
  if x14 = (41 : Int32) then
  (zpI 5 4 a0 (3 : Int32) h24).bind fun h35 =>
  some h35
  else
  (zpI 5 4 a0 (4 : Int32) h24).bind fun h33 =>
  some h33
  else
  (zpI 5 5 a0 (0 : Int32) h5).bind fun h37 =>
  zloop (B_X5_advance_115) (fun _ _ => none) zFU a0 h37
  else
  (zrv 5 a0 h5).bind fun b39 =>
  (f_X5_readWord (some b39) h5).bind fun h44 =>
  some h44
theorem wB_X5_advance_39 {G : zG} {h0 h : zH} {vh : zH} {a0 : Option Nat} (H : B_X5_advance_39 a0 h = some vh) : zW G M_X5_advance 12 h0 (.inl none) vh 39 [(0, vR a0)] [] h := by
  unfold B_X5_advance_39 at H
  refine zw_aload_n (pc := 39) dX5_advance_39 rfl 0 rfl ?_
  refine zw_aload_n (pc := 40) dX5_advance_40 rfl 0 rfl ?_
  obtain ⟨x1, e2, H⟩ := zbind H
  refine zy_getI (pc := 41) dX5_advance_41 lf_X5_39 (fun _ _ => rfl) e2 ?_
  obtain ⟨h3, e4, H⟩ := zbind H
  refine zy_putI (pc := 44) dX5_advance_44 lp_X5_46 rfl e4 ?_
  refine zw_aload_n (pc := 47) dX5_advance_47 rfl 0 rfl ?_
  refine zw_ldcS (pc := 48) 9 dX5_advance_48 rfl ?_
  obtain ⟨h5, e6, H⟩ := zbind H
  refine zy_putR (pc := 50) dX5_advance_50 lp_X5_31 rfl e6 ?_
  refine zw_aload_n (pc := 53) dX5_advance_53 rfl 0 rfl ?_
  refine zw_aload_n (pc := 54) dX5_advance_54 rfl 0 rfl ?_
  obtain ⟨x7, e8, H⟩ := zbind H
  refine zy_getI (pc := 55) dX5_advance_55 lf_X5_46 (fun _ _ => rfl) e8 ?_
  obtain ⟨b9, e11, H⟩ := zbind H
  obtain ⟨e10, e12⟩ := zrv_ok e11
  obtain ⟨x14, e13, H⟩ := zbind H
  refine zw_invV (pc := 58) (M' := M_X5_byteAt) (A := [vI x7]) [] dX5_advance_58 (Or.inl q684) mf_X5_byteAt ls_X5_byteAt (zkq e12 rfl) (w_X5_byteAt e13) (Nat.le_of_ble_eq_true rfl) rfl (by rw [← e10]; rfl) (Nat.le_of_ble_eq_true rfl) (zkv ?_) zkn9
  refine zw_istore_n (pc := 61) (lv' := [(1, vI x14), (0, vR a0)]) dX5_advance_61 rfl (by decide) rfl ?_
  refine zw_iload_n (pc := 62) dX5_advance_62 rfl 0 rfl ?_
  refine zw_iconst (pc := 63) (v := (-1 : Int32)) dX5_advance_63 (by decide) ?_
  rcases zif H with ⟨c15, H⟩ | ⟨c15, H⟩
  · refine zw_icmp_ne (pc := 64) (tgt := 75) dX5_advance_64 rfl (fun q => absurd c15 q) (fun _ => ?_)
    refine zw_aload_n (pc := 67) dX5_advance_67 rfl 1 rfl ?_
    refine zw_iconst (pc := 68) (v := (0 : Int32)) dX5_advance_68 (by decide) ?_
    obtain ⟨h45, e46, H⟩ := zbind H
    refine zy_putI (pc := 69) dX5_advance_69 lp_X5_49 rfl e46 ?_
    refine zw_goto (pc := 72) (tgt := 239) dX5_advance_72 rfl ?_
    obtain rfl := Option.some.inj H
    exact zw_vret (pc := 239) dX5_advance_239 rfl rfl rfl
  · refine zw_icmp_ne (pc := 64) (tgt := 75) dX5_advance_64 rfl (fun _ => ?_) (fun q => absurd q c15)
    refine zw_iload_n (pc := 75) dX5_advance_75 rfl 0 rfl ?_
    refine zw_i2l (pc := 76) dX5_advance_76 ?_
    refine zw_ldc2 (pc := 77) dX5_advance_77 q688 ?_
    refine zw_ldc2 (pc := 80) dX5_advance_80 q689 ?_
    obtain ⟨x17, e16, H⟩ := zbind H
    refine zw_invS (pc := 83) (M' := M_X1_isIn) (A := [vJ x14.toInt64, vJ (97 : Int64), vJ (122 : Int64)]) [] dX5_advance_83 (Or.inr (by decide +kernel)) mf_X1_isIn (w_X1_isIn e16) (Nat.le_of_ble_eq_true rfl) rfl rfl (Nat.le_of_ble_eq_true rfl) (zkv ?_) zkn9
    rcases zif H with ⟨c18, H⟩ | ⟨c18, H⟩
    · refine zw_if_eq (pc := 86) (tgt := 96) dX5_advance_86 rfl (fun _ => ?_) (fun q => absurd c18 q)
      refine zw_iload_n (pc := 96) dX5_advance_96 rfl 0 rfl ?_
      refine zw_i2l (pc := 97) dX5_advance_97 ?_
      refine zw_ldc2 (pc := 98) dX5_advance_98 q941 ?_
      refine zw_ldc2 (pc := 101) dX5_advance_101 q942 ?_
      obtain ⟨x20, e19, H⟩ := zbind H
      refine zw_invS (pc := 104) (M' := M_X1_isIn) (A := [vJ x14.toInt64, vJ (48 : Int64), vJ (57 : Int64)]) [] dX5_advance_104 (Or.inr (by decide +kernel)) mf_X1_isIn (w_X1_isIn e19) (Nat.le_of_ble_eq_true rfl) rfl rfl (Nat.le_of_ble_eq_true rfl) (zkv ?_) zkn9
      rcases zif H with ⟨c21, H⟩ | ⟨c21, H⟩
      · refine zw_if_eq (pc := 107) (tgt := 202) dX5_advance_107 rfl (fun _ => ?_) (fun q => absurd c21 q)
        refine zw_aload_n (pc := 202) dX5_advance_202 rfl 1 rfl ?_
        refine zw_dup (pc := 203) dX5_advance_203 rfl ?_
        obtain ⟨x22, e23, H⟩ := zbind H
        refine zy_getI (pc := 204) dX5_advance_204 lf_X5_39 (fun _ _ => rfl) e23 ?_
        refine zw_iconst (pc := 207) (v := (1 : Int32)) dX5_advance_207 (by decide) ?_
        refine zw_iadd (pc := 208) dX5_advance_208 ?_
        obtain ⟨h24, e25, H⟩ := zbind H
        refine zy_putI (pc := 209) dX5_advance_209 lp_X5_39 rfl e25 ?_
        refine zw_aload_n (pc := 212) dX5_advance_212 rfl 1 rfl ?_
        refine zw_iload_n (pc := 213) dX5_advance_213 rfl 0 rfl ?_
        refine zw_bipush (pc := 214) (v := (59 : Int32)) dX5_advance_214 (by decide) ?_
        rcases zif H with ⟨c26, H⟩ | ⟨c26, H⟩
        · refine zw_icmp_eq (pc := 216) (tgt := 231) dX5_advance_216 rfl (fun _ => ?_) (fun q => absurd c26 q)
          refine zw_iconst (pc := 231) (v := (3 : Int32)) dX5_advance_231 (by decide) ?_
          refine zw_goto (pc := 232) (tgt := 236) dX5_advance_232 rfl ?_
          obtain ⟨h27, e28, H⟩ := zbind H
          refine zy_putI (pc := 236) dX5_advance_236 lp_X5_49 rfl e28 ?_
          obtain rfl := Option.some.inj H
          exact zw_vret (pc := 239) dX5_advance_239 rfl rfl rfl
        · refine zw_icmp_eq (pc := 216) (tgt := 231) dX5_advance_216 rfl (fun q => absurd q c26) (fun _ => ?_)
          refine zw_iload_n (pc := 219) dX5_advance_219 rfl 0 rfl ?_
          refine zw_bipush (pc := 220) (v := (40 : Int32)) dX5_advance_220 (by decide) ?_
          rcases zif H with ⟨c29, H⟩ | ⟨c29, H⟩
          · refine zw_icmp_eq (pc := 222) (tgt := 231) dX5_advance_222 rfl (fun _ => ?_) (fun q => absurd c29 q)
            refine zw_iconst (pc := 231) (v := (3 : Int32)) dX5_advance_231 (by decide) ?_
            refine zw_goto (pc := 232) (tgt := 236) dX5_advance_232 rfl ?_
            obtain ⟨h30, e31, H⟩ := zbind H
            refine zy_putI (pc := 236) dX5_advance_236 lp_X5_49 rfl e31 ?_
            obtain rfl := Option.some.inj H
            exact zw_vret (pc := 239) dX5_advance_239 rfl rfl rfl
          · refine zw_icmp_eq (pc := 222) (tgt := 231) dX5_advance_222 rfl (fun q => absurd q c29) (fun _ => ?_)
            refine zw_iload_n (pc := 225) dX5_advance_225 rfl 0 rfl ?_
            refine zw_bipush (pc := 226) (v := (41 : Int32)) dX5_advance_226 (by decide) ?_
            rcases zif H with ⟨c32, H⟩ | ⟨c32, H⟩
            · refine zw_icmp_ne (pc := 228) (tgt := 235) dX5_advance_228 rfl (fun q => absurd c32 q) (fun _ => ?_)
              refine zw_iconst (pc := 231) (v := (3 : Int32)) dX5_advance_231 (by decide) ?_
              refine zw_goto (pc := 232) (tgt := 236) dX5_advance_232 rfl ?_
              obtain ⟨h35, e36, H⟩ := zbind H
              refine zy_putI (pc := 236) dX5_advance_236 lp_X5_49 rfl e36 ?_
              obtain rfl := Option.some.inj H
              exact zw_vret (pc := 239) dX5_advance_239 rfl rfl rfl
            · refine zw_icmp_ne (pc := 228) (tgt := 235) dX5_advance_228 rfl (fun _ => ?_) (fun q => absurd q c32)
              refine zw_iconst (pc := 235) (v := (4 : Int32)) dX5_advance_235 (by decide) ?_
              obtain ⟨h33, e34, H⟩ := zbind H
              refine zy_putI (pc := 236) dX5_advance_236 lp_X5_49 rfl e34 ?_
              obtain rfl := Option.some.inj H
              exact zw_vret (pc := 239) dX5_advance_239 rfl rfl rfl
      · refine zw_if_eq (pc := 107) (tgt := 202) dX5_advance_107 rfl (fun q => absurd q c21) (fun _ => ?_)
        refine zw_aload_n (pc := 110) dX5_advance_110 rfl 1 rfl ?_
        refine zw_iconst (pc := 111) (v := (0 : Int32)) dX5_advance_111 (by decide) ?_
        obtain ⟨h37, e38, H⟩ := zbind H
        refine zy_putI (pc := 112) dX5_advance_112 lp_X5_67 rfl e38 ?_
        refine zW_pick (lv' := [(0, vR a0)]) [1] rfl ?_
        exact zloop_ind (body := (B_X5_advance_115)) (bot := (fun _ _ => none)) (P := (fun (f : Option Nat → zH → Option zH) => ∀ (b0 : Option Nat) (h' : zH), f b0 h' = some vh → zW G M_X5_advance 12 h0 (.inl none) vh 115 [(0, vR b0)] [] h')) zFU (fun _ _ H => nomatch H) (fun f hf c0 h' H => wB_X5_advance_115 hf H) _ _ H
    · refine zw_if_eq (pc := 86) (tgt := 96) dX5_advance_86 rfl (fun q => absurd q c18) (fun _ => ?_)
      refine zw_aload_n (pc := 89) dX5_advance_89 rfl 1 rfl ?_
      obtain ⟨b39, e41, H⟩ := zbind H
      obtain ⟨e40, e42⟩ := zrv_ok e41
      obtain ⟨h44, e43, H⟩ := zbind H
      refine zw_invV (pc := 90) (M' := M_X5_readWord) (A := []) [] dX5_advance_90 (Or.inl q691) mf_X5_readWord ls_X5_readWord (zkq e42 rfl) (w_X5_readWord e43) (Nat.le_of_ble_eq_true rfl) rfl (by rw [← e40]; rfl) (Nat.le_of_ble_eq_true rfl) (zku ?_) zkn9
      refine zw_goto (pc := 93) (tgt := 239) dX5_advance_93 rfl ?_
      obtain rfl := Option.some.inj H
      exact zw_vret (pc := 239) dX5_advance_239 rfl rfl rfl
def B_X5_advance_0 (k0 : Option Nat → zH → Option zH) (a0 : Option Nat) (h : zH) : Option zH :=
  (zgI 5 3 a0 h).bind fun x1 =>
  (zrv 5 a0 h).bind fun b3 =>
  (f_X5_byteAt (some b3) x1 h).bind fun x8 =>
  if x8 = (32 : Int32) then
  (zgI 5 3 a0 h).bind fun x10 =>
  (zpI 5 3 a0 (x10 + (1 : Int32)) h).bind fun h12 =>
  k0 a0 h12
  else
  (zgI 5 3 a0 h).bind fun x14 =>
  (zrv 5 a0 h).bind fun b16 =>
  (f_X5_byteAt (some b16) x14 h).bind fun x21 =>
  if x21 = (10 : Int32) then
  (zgI 5 3 a0 h).bind fun x23 =>
  (zpI 5 3 a0 (x23 + (1 : Int32)) h).bind fun h25 =>
  k0 a0 h25
  else
  B_X5_advance_39 a0 h
theorem wB_X5_advance_0 {G : zG} {h0 h : zH} {vh : zH} {k0 : Option Nat → zH → Option zH} (hk0 : ∀ (b0 : Option Nat) (h' : zH), k0 b0 h' = some vh → zW G M_X5_advance 12 h0 (.inl none) vh 0 [(0, vR b0)] [] h') {a0 : Option Nat} (H : B_X5_advance_0 k0 a0 h = some vh) : zW G M_X5_advance 12 h0 (.inl none) vh 0 [(0, vR a0)] [] h := by
  unfold B_X5_advance_0 at H
  refine zw_aload_n (pc := 0) dX5_advance_0 rfl 0 rfl ?_
  refine zw_aload_n (pc := 1) dX5_advance_1 rfl 0 rfl ?_
  obtain ⟨x1, e2, H⟩ := zbind H
  refine zy_getI (pc := 2) dX5_advance_2 lf_X5_39 (fun _ _ => rfl) e2 ?_
  obtain ⟨b3, e5, H⟩ := zbind H
  obtain ⟨e4, e6⟩ := zrv_ok e5
  obtain ⟨x8, e7, H⟩ := zbind H
  refine zw_invV (pc := 5) (M' := M_X5_byteAt) (A := [vI x1]) [] dX5_advance_5 (Or.inl q684) mf_X5_byteAt ls_X5_byteAt (zkq e6 rfl) (w_X5_byteAt e7) (Nat.le_of_ble_eq_true rfl) rfl (by rw [← e4]; rfl) (Nat.le_of_ble_eq_true rfl) (zkv ?_) zkn9
  refine zw_bipush (pc := 8) (v := (32 : Int32)) dX5_advance_8 (by decide) ?_
  rcases zif H with ⟨c9, H⟩ | ⟨c9, H⟩
  · refine zw_icmp_eq (pc := 10) (tgt := 26) dX5_advance_10 rfl (fun _ => ?_) (fun q => absurd c9 q)
    refine zw_aload_n (pc := 26) dX5_advance_26 rfl 0 rfl ?_
    refine zw_dup (pc := 27) dX5_advance_27 rfl ?_
    obtain ⟨x10, e11, H⟩ := zbind H
    refine zy_getI (pc := 28) dX5_advance_28 lf_X5_39 (fun _ _ => rfl) e11 ?_
    refine zw_iconst (pc := 31) (v := (1 : Int32)) dX5_advance_31 (by decide) ?_
    refine zw_iadd (pc := 32) dX5_advance_32 ?_
    obtain ⟨h12, e13, H⟩ := zbind H
    refine zy_putI (pc := 33) dX5_advance_33 lp_X5_39 rfl e13 ?_
    refine zw_goto (pc := 36) (tgt := 0) dX5_advance_36 rfl ?_
    refine zW_pick (lv' := [(0, vR a0)]) [0] rfl ?_
    exact hk0 _ _ H
  · refine zw_icmp_eq (pc := 10) (tgt := 26) dX5_advance_10 rfl (fun q => absurd q c9) (fun _ => ?_)
    refine zw_aload_n (pc := 13) dX5_advance_13 rfl 0 rfl ?_
    refine zw_aload_n (pc := 14) dX5_advance_14 rfl 0 rfl ?_
    obtain ⟨x14, e15, H⟩ := zbind H
    refine zy_getI (pc := 15) dX5_advance_15 lf_X5_39 (fun _ _ => rfl) e15 ?_
    obtain ⟨b16, e18, H⟩ := zbind H
    obtain ⟨e17, e19⟩ := zrv_ok e18
    obtain ⟨x21, e20, H⟩ := zbind H
    refine zw_invV (pc := 18) (M' := M_X5_byteAt) (A := [vI x14]) [] dX5_advance_18 (Or.inl q684) mf_X5_byteAt ls_X5_byteAt (zkq e19 rfl) (w_X5_byteAt e20) (Nat.le_of_ble_eq_true rfl) rfl (by rw [← e17]; rfl) (Nat.le_of_ble_eq_true rfl) (zkv ?_) zkn9
    refine zw_bipush (pc := 21) (v := (10 : Int32)) dX5_advance_21 (by decide) ?_
    rcases zif H with ⟨c22, H⟩ | ⟨c22, H⟩
    · refine zw_icmp_ne (pc := 23) (tgt := 39) dX5_advance_23 rfl (fun q => absurd c22 q) (fun _ => ?_)
      refine zw_aload_n (pc := 26) dX5_advance_26 rfl 0 rfl ?_
      refine zw_dup (pc := 27) dX5_advance_27 rfl ?_
      obtain ⟨x23, e24, H⟩ := zbind H
      refine zy_getI (pc := 28) dX5_advance_28 lf_X5_39 (fun _ _ => rfl) e24 ?_
      refine zw_iconst (pc := 31) (v := (1 : Int32)) dX5_advance_31 (by decide) ?_
      refine zw_iadd (pc := 32) dX5_advance_32 ?_
      obtain ⟨h25, e26, H⟩ := zbind H
      refine zy_putI (pc := 33) dX5_advance_33 lp_X5_39 rfl e26 ?_
      refine zw_goto (pc := 36) (tgt := 0) dX5_advance_36 rfl ?_
      refine zW_pick (lv' := [(0, vR a0)]) [0] rfl ?_
      exact hk0 _ _ H
    · refine zw_icmp_ne (pc := 23) (tgt := 39) dX5_advance_23 rfl (fun _ => ?_) (fun q => absurd q c22)
      refine zW_pick (lv' := [(0, vR a0)]) [0] rfl ?_
      exact wB_X5_advance_39 H
def f_X5_advance (p0 : Option Nat) (h : zH) : Option zH :=
  zloop (B_X5_advance_0) (fun _ _ => none) zFU p0 h
theorem w_X5_advance {G : zG} {p0 : Option Nat} {h : zH} {vh : zH} (H : f_X5_advance p0 h = some vh) : zMet G M_X5_advance 12 [vR p0] h (.inl none) vh := by
  refine zMet.of (by decide +kernel) (Nat.le_of_ble_eq_true rfl) ?_
  show zW G M_X5_advance 12 h (.inl none) vh 0 [(0, vR p0)] [] h
  unfold f_X5_advance at H
  refine zW_pick (lv' := [(0, vR p0)]) [0] rfl ?_
  exact zloop_ind (body := (B_X5_advance_0)) (bot := (fun _ _ => none)) (P := (fun (f : Option Nat → zH → Option zH) => ∀ (b0 : Option Nat) (h' : zH), f b0 h' = some vh → zW G M_X5_advance 12 h (.inl none) vh 0 [(0, vR b0)] [] h')) zFU (fun _ _ H => nomatch H) (fun f hf c0 h' H => wB_X5_advance_0 hf H) _ _ H
theorem lq_X6_7 : zFp "CsrCalculator$Wrong" "<init>" 7 6 6 := ⟨_, "CsrCalculator$Wrong", by decide, rfl, by decide, Or.inl rfl, Or.inr ⟨q971, rfl, rfl, rfl⟩⟩
theorem lq_X6_13 : zFp "CsrCalculator$Wrong" "<init>" 13 6 7 := ⟨_, "CsrCalculator$Wrong", by decide, rfl, by decide, Or.inl rfl, Or.inr ⟨q973, rfl, rfl, rfl⟩⟩
def M_X6_init : zM := (yX6_init, cX6_init, 3, none, [])
theorem mf_X6_init : zMi M_X6_init 2 := ⟨⟨q969, q204, ⟨by decide +kernel, by decide +kernel⟩, by decide +kernel, by decide⟩, q968⟩
def f_X6_init (p0 : Option Nat) (p1 : Int32) (p2 : Int32) (h : zH) : Option zH :=
  p0.bind fun b1 =>
  (f_J7_init_k6 (some b1) none none (0 : Int32) (0 : Int32) h).bind fun h4 =>
  (zpI 6 6 p0 p1 h4).bind fun h5 =>
  (zpI 6 7 p0 p2 h5).bind fun h7 =>
  some h7
theorem w_X6_init {G : zG} {p0 : Option Nat} {p1 : Int32} {p2 : Int32} {h : zH} {vh : zH} (H : f_X6_init p0 p1 p2 h = some vh) : zMet G M_X6_init 4 [vR p0, vI p1, vI p2] h (.inl none) vh := by
  refine zMet.of (by decide +kernel) (Nat.le_of_ble_eq_true rfl) ?_
  show zW G M_X6_init 4 h (.inl none) vh 0 [(0, vR p0), (1, vI p1), (2, vI p2)] [] h
  unfold f_X6_init at H
  refine zw_aload_n (pc := 0) dX6_init_0 rfl 0 rfl ?_
  refine zw_null (pc := 1) dX6_init_1 ?_
  refine zw_null (pc := 2) dX6_init_2 ?_
  refine zw_iconst (pc := 3) (v := (0 : Int32)) dX6_init_3 (by decide) ?_
  refine zw_iconst (pc := 4) (v := (0 : Int32)) dX6_init_4 (by decide) ?_
  obtain ⟨b1, e2, H⟩ := zbind H
  obtain ⟨h4, e3, H⟩ := zbind H
  refine zw_invI (pc := 5) (M' := M_J7_init) (A := [vR none, vR none, vI (0 : Int32), vI (0 : Int32)]) [] dX6_init_5 (Or.inl q970) mf_J7_init rfl rfl (w_J7_init_k6 e3) (Nat.le_of_ble_eq_true rfl) rfl (by rw [← e2]; rfl) (Nat.le_of_ble_eq_true rfl) (zku ?_) zkn9
  refine zw_aload_n (pc := 8) dX6_init_8 rfl 0 rfl ?_
  refine zw_iload_n (pc := 9) dX6_init_9 rfl 1 rfl ?_
  obtain ⟨h5, e6, H⟩ := zbind H
  refine zy_putI (pc := 10) dX6_init_10 lq_X6_7 rfl e6 ?_
  refine zw_aload_n (pc := 13) dX6_init_13 rfl 0 rfl ?_
  refine zw_iload_n (pc := 14) dX6_init_14 rfl 2 rfl ?_
  obtain ⟨h7, e8, H⟩ := zbind H
  refine zy_putI (pc := 15) dX6_init_15 lq_X6_13 rfl e8 ?_
  obtain rfl := Option.some.inj H
  exact zw_vret (pc := 18) dX6_init_18 rfl rfl rfl
theorem ln_X5_91 : zCl "CsrCalculator$Reader" 91 6 := ⟨_, by decide, by decide, rfl, q958, q959, q204⟩
def M_X5_check : zM := (yX5_check, cX5_check, 3, none, [])
theorem mf_X5_check : zMi M_X5_check 2 := ⟨⟨q957, q195, ⟨by decide +kernel, by decide +kernel⟩, by decide +kernel, by decide⟩, q956⟩
def f_X5_check (p0 : Option Nat) (p1 : Int32) (p2 : Int32) (h : zH) : Option ((Unit ⊕ Nat) × zH) :=
  if p1 = 0 then
  zb2 (znw 6 h) fun q2 h3 =>
  (zgI 5 2 p0 h3).bind fun x5 =>
  (some q2).bind fun b7 =>
  (f_X6_init (some b7) p2 x5 h3).bind fun h10 =>
  (some q2).bind fun q11 =>
  if zk h10 q11 = 6 then
  some (.inr q11, h10)
  else none
  else
  some (.inl (), h)
theorem w_X5_check {G : zG} {p0 : Option Nat} {p1 : Int32} {p2 : Int32} {h : zH} {vo : Unit ⊕ Nat} {vh : zH} (H : f_X5_check p0 p1 p2 h = some (vo, vh)) : zMet G M_X5_check 5 [vR p0, vI p1, vI p2] h (zoU vo) vh := by
  refine zMet.of (by decide +kernel) (Nat.le_of_ble_eq_true rfl) ?_
  show zW G M_X5_check 5 h (zoU vo) vh 0 [(0, vR p0), (1, vI p1), (2, vI p2)] [] h
  unfold f_X5_check at H
  refine zw_iload_n (pc := 0) dX5_check_0 rfl 1 rfl ?_
  rcases zif H with ⟨c1, H⟩ | ⟨c1, H⟩
  · refine zw_if_ne (pc := 1) (tgt := 17) dX5_check_1 rfl (fun q => absurd c1 q) (fun _ => ?_)
    obtain ⟨q2, h3, e4, H⟩ := zbind2 H
    refine zy_new (pc := 4) dX5_check_4 ln_X5_91 e4 ?_
    refine zw_dup (pc := 7) dX5_check_7 rfl ?_
    refine zw_iload_n (pc := 8) dX5_check_8 rfl 2 rfl ?_
    refine zw_aload_n (pc := 9) dX5_check_9 rfl 0 rfl ?_
    obtain ⟨x5, e6, H⟩ := zbind H
    refine zy_getI (pc := 10) dX5_check_10 lf_X5_46 (fun _ _ => rfl) e6 ?_
    obtain ⟨b7, e8, H⟩ := zbind H
    obtain ⟨h10, e9, H⟩ := zbind H
    refine zw_invI (pc := 13) (M' := M_X6_init) (A := [vI p2, vI x5]) [vR (some q2)] dX5_check_13 (Or.inl q967) mf_X6_init rfl rfl (w_X6_init e9) (Nat.le_of_ble_eq_true rfl) rfl (by rw [← e8]; rfl) (Nat.le_of_ble_eq_true rfl) (zku ?_) zkn9
    obtain ⟨q11, e12, H⟩ := zbind H
    refine zy_athrow (pc := 16) dX5_check_16 e12 ?_
    rcases zif H with ⟨c13, H⟩ | ⟨c13, H⟩
    · have c13 := c13
      obtain ⟨rfl, rfl⟩ := Prod.mk.inj (Option.some.inj H)
      exact zx_out (zkq c13 rfl) (fun _ hz => nomatch hz) rfl rfl
    cases H
  · refine zw_if_ne (pc := 1) (tgt := 17) dX5_check_1 rfl (fun _ => ?_) (fun q => absurd q c1)
    obtain ⟨rfl, rfl⟩ := Prod.mk.inj (Option.some.inj H)
    exact zw_vret (pc := 17) dX5_check_17 rfl rfl rfl
def M_X5_isSign : zM := (yX5_isSign, cX5_isSign, 2, (.some .boolean), [])
theorem mf_X5_isSign : zMi M_X5_isSign 1 := ⟨⟨q988, q195, ⟨by decide +kernel, by decide +kernel⟩, by decide +kernel, by decide⟩, q987⟩
def f_X5_isSign (p0 : Option Nat) (p1 : Int32) (h : zH) : Option Int32 :=
  (zgI 5 4 p0 h).bind fun x1 =>
  if x1 = (3 : Int32) then
  (zgR 5 11 p0 h).bind fun x4 =>
  (zgR 1 1 x4 h).bind fun x6 =>
  (zgI 5 2 p0 h).bind fun x8 =>
  (zaI 53 x6 x8 h).bind fun x10 =>
  if x10 = p1 then
  some (1 : Int32)
  else
  some (0 : Int32)
  else
  some (0 : Int32)
theorem w_X5_isSign {G : zG} {p0 : Option Nat} {p1 : Int32} {h : zH} {vx : Int32} (H : f_X5_isSign p0 p1 h = some vx) : zMet G M_X5_isSign 2 [vR p0, vI p1] h (.inl (some (vI vx))) h := by
  refine zMet.of (by decide +kernel) (Nat.le_of_ble_eq_true rfl) ?_
  show zW G M_X5_isSign 2 h (.inl (some (vI vx))) h 0 [(0, vR p0), (1, vI p1)] [] h
  unfold f_X5_isSign at H
  refine zw_aload_n (pc := 0) dX5_isSign_0 rfl 0 rfl ?_
  obtain ⟨x1, e2, H⟩ := zbind H
  refine zy_getI (pc := 1) dX5_isSign_1 lf_X5_49 (fun _ _ => rfl) e2 ?_
  refine zw_iconst (pc := 4) (v := (3 : Int32)) dX5_isSign_4 (by decide) ?_
  rcases zif H with ⟨c3, H⟩ | ⟨c3, H⟩
  · refine zw_icmp_ne (pc := 5) (tgt := 28) dX5_isSign_5 rfl (fun q => absurd c3 q) (fun _ => ?_)
    refine zw_aload_n (pc := 8) dX5_isSign_8 rfl 0 rfl ?_
    obtain ⟨x4, e5, H⟩ := zbind H
    refine zy_getR (pc := 9) dX5_isSign_9 lf_X5_3 (fun _ _ => rfl) e5 ?_
    obtain ⟨x6, e7, H⟩ := zbind H
    refine zy_getR (pc := 12) dX5_isSign_12 lf_X5_35 (fun _ _ => rfl) e7 ?_
    refine zw_aload_n (pc := 15) dX5_isSign_15 rfl 0 rfl ?_
    obtain ⟨x8, e9, H⟩ := zbind H
    refine zy_getI (pc := 16) dX5_isSign_16 lf_X5_46 (fun _ _ => rfl) e9 ?_
    obtain ⟨x10, e11, H⟩ := zbind H
    refine zy_bald (pc := 19) dX5_isSign_19 e11 ?_
    refine zw_iload_n (pc := 20) dX5_isSign_20 rfl 1 rfl ?_
    rcases zif H with ⟨c12, H⟩ | ⟨c12, H⟩
    · refine zw_icmp_ne (pc := 21) (tgt := 28) dX5_isSign_21 rfl (fun q => absurd c12 q) (fun _ => ?_)
      refine zw_iconst (pc := 24) (v := (1 : Int32)) dX5_isSign_24 (by decide) ?_
      refine zw_goto (pc := 25) (tgt := 29) dX5_isSign_25 rfl ?_
      obtain rfl := Option.some.inj H
      exact zw_zret (pc := 29) dX5_isSign_29 rfl rfl rfl rfl
    · refine zw_icmp_ne (pc := 21) (tgt := 28) dX5_isSign_21 rfl (fun _ => ?_) (fun q => absurd q c12)
      refine zw_iconst (pc := 28) (v := (0 : Int32)) dX5_isSign_28 (by decide) ?_
      obtain rfl := Option.some.inj H
      exact zw_zret (pc := 29) dX5_isSign_29 rfl rfl rfl rfl
  · refine zw_icmp_ne (pc := 5) (tgt := 28) dX5_isSign_5 rfl (fun _ => ?_) (fun q => absurd q c3)
    refine zw_iconst (pc := 28) (v := (0 : Int32)) dX5_isSign_28 (by decide) ?_
    obtain rfl := Option.some.inj H
    exact zw_zret (pc := 29) dX5_isSign_29 rfl rfl rfl rfl
theorem ls_X5_isSign : Cond.selects yX5_isSign.cls yX5_isSign yX5_isSign ∈ lw_all := lw_g (lw_ms _ (List.mem_of_getElem? (i := 14) rfl)) rfl
theorem ls_X5_check : Cond.selects yX5_check.cls yX5_check yX5_check ∈ lw_all := lw_g (lw_ms _ (List.mem_of_getElem? (i := 12) rfl)) rfl
theorem ls_X5_advance : Cond.selects yX5_advance.cls yX5_advance yX5_advance ∈ lw_all := lw_g (lw_ms _ (List.mem_of_getElem? (i := 9) rfl)) rfl
def M_X5_sign : zM := (yX5_sign, cX5_sign, 2, none, [])
theorem mf_X5_sign : zMi M_X5_sign 1 := ⟨⟨q984, q195, ⟨by decide +kernel, by decide +kernel⟩, by decide +kernel, by decide⟩, q983⟩
def f_X5_sign (p0 : Option Nat) (p1 : Int32) (h : zH) : Option ((Unit ⊕ Nat) × zH) :=
  (zrv 5 p0 h).bind fun b1 =>
  (f_X5_isSign (some b1) p1 h).bind fun x6 =>
  (zrv 5 p0 h).bind fun b7 =>
  zb3 (f_X5_check (some b7) x6 (1 : Int32) h) (fun _ h13 =>
  (zrv 5 p0 h13).bind fun b16 =>
  (f_X5_advance (some b16) h13).bind fun h21 =>
  some (.inl (), h21))
  (fun q14 h15 =>
  if zk h15 q14 = 6 then
  some (.inr q14, h15)
  else none)
theorem w_X5_sign {G : zG} {p0 : Option Nat} {p1 : Int32} {h : zH} {vo : Unit ⊕ Nat} {vh : zH} (H : f_X5_sign p0 p1 h = some (vo, vh)) : zMet G M_X5_sign 13 [vR p0, vI p1] h (zoU vo) vh := by
  refine zMet.of (by decide +kernel) (Nat.le_of_ble_eq_true rfl) ?_
  show zW G M_X5_sign 13 h (zoU vo) vh 0 [(0, vR p0), (1, vI p1)] [] h
  unfold f_X5_sign at H
  refine zw_aload_n (pc := 0) dX5_sign_0 rfl 0 rfl ?_
  refine zw_aload_n (pc := 1) dX5_sign_1 rfl 0 rfl ?_
  refine zw_iload_n (pc := 2) dX5_sign_2 rfl 1 rfl ?_
  obtain ⟨b1, e3, H⟩ := zbind H
  obtain ⟨e2, e4⟩ := zrv_ok e3
  obtain ⟨x6, e5, H⟩ := zbind H
  refine zw_invV (pc := 3) (M' := M_X5_isSign) (A := [vI p1]) [vR p0] dX5_sign_3 (Or.inl q985) mf_X5_isSign ls_X5_isSign (zkq e4 rfl) (w_X5_isSign e5) (Nat.le_of_ble_eq_true rfl) rfl (by rw [← e2]; rfl) (Nat.le_of_ble_eq_true rfl) (zkv ?_) zkn9
  refine zw_iconst (pc := 6) (v := (1 : Int32)) dX5_sign_6 (by decide) ?_
  obtain ⟨b7, e9, H⟩ := zbind H
  obtain ⟨e8, e10⟩ := zrv_ok e9
  rcases zbind3 H with ⟨x12, h13, e11, H⟩ | ⟨q14, h15, e11, H⟩
  · refine zw_invV (pc := 7) (M' := M_X5_check) (A := [vI x6, vI (1 : Int32)]) [] dX5_sign_7 (Or.inl q954) mf_X5_check ls_X5_check (zkq e10 rfl) (w_X5_check e11) (Nat.le_of_ble_eq_true rfl) rfl (by rw [← e8]; rfl) (Nat.le_of_ble_eq_true rfl) (zku ?_) zkn9
    refine zw_aload_n (pc := 10) dX5_sign_10 rfl 0 rfl ?_
    obtain ⟨b16, e18, H⟩ := zbind H
    obtain ⟨e17, e19⟩ := zrv_ok e18
    obtain ⟨h21, e20, H⟩ := zbind H
    refine zw_invV (pc := 11) (M' := M_X5_advance) (A := []) [] dX5_sign_11 (Or.inl q680) mf_X5_advance ls_X5_advance (zkq e19 rfl) (w_X5_advance e20) (Nat.le_of_ble_eq_true rfl) rfl (by rw [← e17]; rfl) (Nat.le_of_ble_eq_true rfl) (zku ?_) zkn9
    obtain ⟨rfl, rfl⟩ := Prod.mk.inj (Option.some.inj H)
    exact zw_vret (pc := 14) dX5_sign_14 rfl rfl rfl
  · refine zw_invV (pc := 7) (M' := M_X5_check) (A := [vI x6, vI (1 : Int32)]) [] dX5_sign_7 (Or.inl q954) mf_X5_check ls_X5_check (zkq e10 rfl) (w_X5_check e11) (Nat.le_of_ble_eq_true rfl) rfl (by rw [← e8]; rfl) (Nat.le_of_ble_eq_true rfl) zkv0 (zkx ?_)
    rcases zif H with ⟨c22, H⟩ | ⟨c22, H⟩
    · have c22 := c22
      obtain ⟨rfl, rfl⟩ := Prod.mk.inj (Option.some.inj H)
      exact zx_out (zkq c22 rfl) (fun _ hz => nomatch hz) rfl rfl
    cases H
theorem lf_X5_31 : zFl "CsrCalculator$Reader" 31 5 9 := ⟨_, "CsrCalculator$Reader", by decide, rfl, by decide, Or.inl q646, Or.inl rfl⟩
def M_X5_skips : zM := (yX5_skips, cX5_skips, 3, (.some .boolean), [])
theorem mf_X5_skips : zMi M_X5_skips 1 := ⟨⟨q1101, q195, ⟨by decide +kernel, by decide +kernel⟩, by decide +kernel, by decide⟩, q1100⟩
def f_X5_skips (p0 : Option Nat) (p1 : Option Nat) (h : zH) : Option (Int32 × zH) :=
  (zgR 5 9 p0 h).bind fun x1 =>
  (zrv 19 x1 h).bind fun b3 =>
  (f_J4_equals (some b3) p1 h).bind fun x8 =>
  if x8 = 0 then
  if x8 = 0 ∨ x8 = 1 then some (x8, h) else none
  else
  (zrv 5 p0 h).bind fun b11 =>
  (f_X5_advance (some b11) h).bind fun h16 =>
  if x8 = 0 ∨ x8 = 1 then some (x8, h16) else none
theorem w_X5_skips {G : zG} {p0 : Option Nat} {p1 : Option Nat} {h : zH} {vx : Int32} {vh : zH} (H : f_X5_skips p0 p1 h = some (vx, vh)) : zMet G M_X5_skips 13 [vR p0, vR p1] h (.inl (some (vI vx))) vh := by
  refine zMet.of (by decide +kernel) (Nat.le_of_ble_eq_true rfl) ?_
  show zW G M_X5_skips 13 h (.inl (some (vI vx))) vh 0 [(0, vR p0), (1, vR p1)] [] h
  unfold f_X5_skips at H
  refine zw_aload_n (pc := 0) dX5_skips_0 rfl 0 rfl ?_
  obtain ⟨x1, e2, H⟩ := zbind H
  refine zy_getR (pc := 1) dX5_skips_1 lf_X5_31 (fun _ _ => rfl) e2 ?_
  refine zw_aload_n (pc := 4) dX5_skips_4 rfl 1 rfl ?_
  obtain ⟨b3, e5, H⟩ := zbind H
  obtain ⟨e4, e6⟩ := zrv_ok e5
  obtain ⟨x8, e7, H⟩ := zbind H
  refine zw_invV (pc := 5) (M' := M_J4_equals) (A := [vR p1]) [] dX5_skips_5 (Or.inl q946) mf_J4_equals q948 (zkq e6 rfl) (w_J4_equals e7) (Nat.le_of_ble_eq_true rfl) rfl (by rw [← e4]; rfl) (Nat.le_of_ble_eq_true rfl) (zkv ?_) zkn9
  refine zw_istore_n (pc := 8) (lv' := [(2, vI x8), (0, vR p0), (1, vR p1)]) dX5_skips_8 rfl (by decide) rfl ?_
  refine zw_iload_n (pc := 9) dX5_skips_9 rfl 0 rfl ?_
  rcases zif H with ⟨c9, H⟩ | ⟨c9, H⟩
  · refine zw_if_eq (pc := 10) (tgt := 17) dX5_skips_10 rfl (fun _ => ?_) (fun q => absurd c9 q)
    refine zw_iload_n (pc := 17) dX5_skips_17 rfl 0 rfl ?_
    obtain ⟨c10, H⟩ := zgd H
    obtain ⟨rfl, rfl⟩ := Prod.mk.inj (Option.some.inj H)
    exact zw_zret (pc := 18) dX5_skips_18 rfl (znarZ c10) rfl rfl
  · refine zw_if_eq (pc := 10) (tgt := 17) dX5_skips_10 rfl (fun q => absurd q c9) (fun _ => ?_)
    refine zw_aload_n (pc := 13) dX5_skips_13 rfl 1 rfl ?_
    obtain ⟨b11, e13, H⟩ := zbind H
    obtain ⟨e12, e14⟩ := zrv_ok e13
    obtain ⟨h16, e15, H⟩ := zbind H
    refine zw_invV (pc := 14) (M' := M_X5_advance) (A := []) [] dX5_skips_14 (Or.inl q680) mf_X5_advance ls_X5_advance (zkq e14 rfl) (w_X5_advance e15) (Nat.le_of_ble_eq_true rfl) rfl (by rw [← e12]; rfl) (Nat.le_of_ble_eq_true rfl) (zku ?_) zkn9
    refine zw_iload_n (pc := 17) dX5_skips_17 rfl 0 rfl ?_
    obtain ⟨c17, H⟩ := zgd H
    obtain ⟨rfl, rfl⟩ := Prod.mk.inj (Option.some.inj H)
    exact zw_zret (pc := 18) dX5_skips_18 rfl (znarZ c17) rfl rfl
theorem ln_X9_7 : zCl "CsrCalculator$Product" 7 16 := ⟨_, by decide, by decide, rfl, q1166, q1123, q208⟩
theorem lq_X9_10 : zFp "CsrCalculator$Product" "<init>" 10 9 0 := ⟨_, "CsrCalculator$Product", by decide, rfl, by decide, Or.inl rfl, Or.inr ⟨q1168, rfl, rfl, rfl⟩⟩
def M_X9_init : zM := (yX9_init, cX9_init, 1, none, [])
theorem mf_X9_init : zMi M_X9_init 0 := ⟨⟨q1164, q209, ⟨by decide +kernel, by decide +kernel⟩, by decide +kernel, by decide⟩, q1163⟩
def f_X9_init (p0 : Option Nat) (h : zH) : Option zH :=
  p0.bind fun b1 =>
  zb2 (znw 16 h) fun q3 h4 =>
  (some q3).bind fun b6 =>
  (f_J18_init (some b6) h4).bind fun h9 =>
  (zpR 9 0 p0 (some q3) h9).bind fun h10 =>
  some h10
theorem w_X9_init {G : zG} {p0 : Option Nat} {h : zH} {vh : zH} (H : f_X9_init p0 h = some vh) : zMet G M_X9_init 5 [vR p0] h (.inl none) vh := by
  refine zMet.of (by decide +kernel) (Nat.le_of_ble_eq_true rfl) ?_
  show zW G M_X9_init 5 h (.inl none) vh 0 [(0, vR p0)] [] h
  unfold f_X9_init at H
  refine zw_aload_n (pc := 0) dX9_init_0 rfl 0 rfl ?_
  obtain ⟨b1, e2, H⟩ := zbind H
  refine zy_objInit (pc := 1) dX9_init_1 q1165 e2 (Nat.le_of_ble_eq_true rfl) (Nat.le_of_ble_eq_true rfl) ?_
  refine zw_aload_n (pc := 4) dX9_init_4 rfl 0 rfl ?_
  obtain ⟨q3, h4, e5, H⟩ := zbind2 H
  refine zy_new (pc := 5) dX9_init_5 ln_X9_7 e5 ?_
  refine zw_dup (pc := 8) dX9_init_8 rfl ?_
  obtain ⟨b6, e7, H⟩ := zbind H
  obtain ⟨h9, e8, H⟩ := zbind H
  refine zw_invI (pc := 9) (M' := M_J18_init) (A := []) [vR (some q3), vR p0] dX9_init_9 (Or.inl q1167) mf_J18_init rfl rfl (w_J18_init e8) (Nat.le_of_ble_eq_true rfl) rfl (by rw [← e7]; rfl) (Nat.le_of_ble_eq_true rfl) (zku ?_) zkn9
  obtain ⟨h10, e11, H⟩ := zbind H
  refine zy_putR (pc := 12) dX9_init_12 lq_X9_10 rfl e11 ?_
  obtain rfl := Option.some.inj H
  exact zw_vret (pc := 15) dX9_init_15 rfl rfl rfl
theorem lc_X14_15 : zCt "CsrCalculator$Join" 15 [62] := ⟨_, q1315, by
  intro k hk
  simp only [List.mem_cons, List.not_mem_nil, or_false] at hk
  rcases hk with rfl <;> first | exact Or.inl ⟨by decide, by decide +kernel⟩ | exact Or.inr ⟨_, rfl, Or.inl rfl⟩ | exact Or.inr ⟨_, rfl, Or.inr (by decide +kernel)⟩⟩
def M_X14_values : zM := (yX14_values, cX14_values, 0, (.some (.array (.object "CsrCalculator$Join"))), [])
theorem mf_X14_values : zMs M_X14_values 0 := ⟨⟨q1307, q215, ⟨by decide +kernel, by decide +kernel⟩, by decide +kernel, by decide⟩, q1306⟩
def f_X14_values (h : zH) : Option (Option Nat × zH) :=
  zb2 (zcJ (zsv h 6) h) fun q1 h2 =>
  if zct [62] (some q1) h2 = true then
  some ((some q1), h2)
  else none
theorem w_X14_values {G : zG} {h : zH} {vx : Option Nat} {vh : zH} (H : f_X14_values h = some (vx, vh)) : zMet G M_X14_values 2 [] h (.inl (some (vR vx))) vh := by
  refine zMet.of (by decide +kernel) (Nat.le_of_ble_eq_true rfl) ?_
  show zW G M_X14_values 2 h (.inl (some (vR vx))) vh 0 [] [] h
  unfold f_X14_values at H
  refine zw_gets (pc := 0) 6 dX14_values_0 rfl q1308 rfl (show zstv _ 6 = vR (zsv h 6) from rfl) ?_
  obtain ⟨q1, h2, e3, H⟩ := zbind2 H
  refine zy_cloneJ (pc := 3) dX14_values_3 q1310 (Nat.le_of_ble_eq_true rfl) e3 (Nat.le_of_ble_eq_true rfl) ?_
  obtain ⟨c4, H⟩ := zgd H
  refine zy_cast (pc := 6) [62] dX14_values_6 lc_X14_15 c4 ?_
  obtain ⟨rfl, rfl⟩ := Prod.mk.inj (Option.some.inj H)
  exact zw_aret (pc := 9) dX14_values_9 rfl (Or.inr ⟨_, rfl⟩) rfl rfl
def M_X14_named : zM := (yX14_named, cX14_named, 5, (.some (.object "CsrCalculator$Join")), [])
theorem mf_X14_named : zMs M_X14_named 1 := ⟨⟨q1304, q215, ⟨by decide +kernel, by decide +kernel⟩, by decide +kernel, by decide⟩, q1303⟩
def B_X14_named_9 (k9 : Option Nat → Option Nat → Int32 → Int32 → zH → Option (Option Nat × zH)) (a0 : Option Nat) (a1 : Option Nat) (a2 : Int32) (a3 : Int32) (h : zH) : Option (Option Nat × zH) :=
  if a2 ≤ a3 then
  some (none, h)
  else
  (zaR 62 a1 a3 h).bind fun x2 =>
  (zgW x2 h).bind fun x4 =>
  (zrv 19 x4 h).bind fun b6 =>
  (f_J4_equals (some b6) a0 h).bind fun x11 =>
  if x11 = 0 then
  k9 a0 a1 a2 (a3 + (1 : Int32)) h
  else
  some (x2, h)
theorem wB_X14_named_9 {G : zG} {h0 h : zH} {vx : Option Nat} {vh : zH} {k9 : Option Nat → Option Nat → Int32 → Int32 → zH → Option (Option Nat × zH)} (hk9 : ∀ (b0 : Option Nat) (b1 : Option Nat) (b2 : Int32) (b3 : Int32) (h' : zH), k9 b0 b1 b2 b3 h' = some (vx, vh) → zW G M_X14_named 4 h0 (.inl (some (vR vx))) vh 9 [(0, vR b0), (1, vR b1), (2, vI b2), (3, vI b3)] [] h') {a0 : Option Nat} {a1 : Option Nat} {a2 : Int32} {a3 : Int32} (H : B_X14_named_9 k9 a0 a1 a2 a3 h = some (vx, vh)) : zW G M_X14_named 4 h0 (.inl (some (vR vx))) vh 9 [(0, vR a0), (1, vR a1), (2, vI a2), (3, vI a3)] [] h := by
  unfold B_X14_named_9 at H
  refine zw_iload_n (pc := 9) dX14_named_9 rfl 3 rfl ?_
  refine zw_iload_n (pc := 10) dX14_named_10 rfl 2 rfl ?_
  rcases zif H with ⟨c1, H⟩ | ⟨c1, H⟩
  · refine zw_icmp_ge (pc := 11) (tgt := 40) dX14_named_11 rfl (fun _ => ?_) (fun q => absurd c1 q)
    refine zw_null (pc := 40) dX14_named_40 ?_
    obtain ⟨rfl, rfl⟩ := Prod.mk.inj (Option.some.inj H)
    exact zw_aret (pc := 41) dX14_named_41 rfl (Or.inl ⟨_, rfl⟩) rfl rfl
  · refine zw_icmp_ge (pc := 11) (tgt := 40) dX14_named_11 rfl (fun q => absurd q c1) (fun _ => ?_)
    refine zw_aload_n (pc := 14) dX14_named_14 rfl 1 rfl ?_
    refine zw_iload_n (pc := 15) dX14_named_15 rfl 3 rfl ?_
    obtain ⟨x2, e3, H⟩ := zbind H
    refine zy_aald (pc := 16) dX14_named_16 (by decide) e3 ?_
    refine zw_astore (pc := 17) (lv' := [(4, vR x2), (0, vR a0), (1, vR a1), (2, vI a2), (3, vI a3)]) dX14_named_17 (by decide) rfl ?_
    refine zw_aload (pc := 19) dX14_named_19 0 rfl ?_
    obtain ⟨x4, e5, H⟩ := zbind H
    refine zy_getW (pc := 21) dX14_named_21 q3084 e5 ?_
    refine zw_aload_n (pc := 24) dX14_named_24 rfl 1 rfl ?_
    obtain ⟨b6, e8, H⟩ := zbind H
    obtain ⟨e7, e9⟩ := zrv_ok e8
    obtain ⟨x11, e10, H⟩ := zbind H
    refine zw_invV (pc := 25) (M' := M_J4_equals) (A := [vR a0]) [] dX14_named_25 (Or.inl q1316) mf_J4_equals q948 (zkq e9 rfl) (w_J4_equals e10) (Nat.le_of_ble_eq_true rfl) rfl (by rw [← e7]; rfl) (Nat.le_of_ble_eq_true rfl) (zkv ?_) zkn9
    rcases zif H with ⟨c12, H⟩ | ⟨c12, H⟩
    · refine zw_if_eq (pc := 28) (tgt := 34) dX14_named_28 rfl (fun _ => ?_) (fun q => absurd c12 q)
      refine zw_iinc (pc := 34) (v := (a3 + (1 : Int32))) (lv' := [(3, vI (a3 + (1 : Int32))), (4, vR x2), (0, vR a0), (1, vR a1), (2, vI a2)]) dX14_named_34 4 rfl rfl (by decide) rfl ?_
      refine zw_goto (pc := 37) (tgt := 9) dX14_named_37 rfl ?_
      refine zW_pick (lv' := [(0, vR a0), (1, vR a1), (2, vI a2), (3, vI (a3 + (1 : Int32)))]) [2, 3, 4, 0] rfl ?_
      exact hk9 _ _ _ _ _ H
    · refine zw_if_eq (pc := 28) (tgt := 34) dX14_named_28 rfl (fun q => absurd q c12) (fun _ => ?_)
      refine zw_aload (pc := 31) dX14_named_31 0 rfl ?_
      obtain ⟨rfl, rfl⟩ := Prod.mk.inj (Option.some.inj H)
      exact zw_aret (pc := 33) dX14_named_33 rfl (Or.inl ⟨_, rfl⟩) rfl rfl
def f_X14_named (p0 : Option Nat) (h : zH) : Option (Option Nat × zH) :=
  zb2 (f_X14_values h) fun x3 h2 =>
  (zaN x3 h2).bind fun x4 =>
  zloop (B_X14_named_9) (fun _ _ _ _ _ => none) zFU p0 x3 x4 (0 : Int32) h2
theorem w_X14_named {G : zG} {p0 : Option Nat} {h : zH} {vx : Option Nat} {vh : zH} (H : f_X14_named p0 h = some (vx, vh)) : zMet G M_X14_named 4 [vR p0] h (.inl (some (vR vx))) vh := by
  refine zMet.of (by decide +kernel) (Nat.le_of_ble_eq_true rfl) ?_
  show zW G M_X14_named 4 h (.inl (some (vR vx))) vh 0 [(0, vR p0)] [] h
  unfold f_X14_named at H
  obtain ⟨x3, h2, e1, H⟩ := zbind2 H
  refine zw_invS (pc := 0) (M' := M_X14_values) (A := []) [] dX14_named_0 (Or.inl q1305) mf_X14_values (w_X14_values e1) (Nat.le_of_ble_eq_true rfl) rfl rfl (Nat.le_of_ble_eq_true rfl) (zkv ?_) zkn9
  refine zw_astore_n (pc := 3) (lv' := [(1, vR x3), (0, vR p0)]) dX14_named_3 rfl (by decide) rfl ?_
  refine zw_aload_n (pc := 4) dX14_named_4 rfl 0 rfl ?_
  obtain ⟨x4, e5, H⟩ := zbind H
  refine zy_alen (pc := 5) dX14_named_5 e5 ?_
  refine zw_istore_n (pc := 6) (lv' := [(2, vI x4), (1, vR x3), (0, vR p0)]) dX14_named_6 rfl (by decide) rfl ?_
  refine zw_iconst (pc := 7) (v := (0 : Int32)) dX14_named_7 (by decide) ?_
  refine zw_istore_n (pc := 8) (lv' := [(3, vI (0 : Int32)), (2, vI x4), (1, vR x3), (0, vR p0)]) dX14_named_8 rfl (by decide) rfl ?_
  refine zW_pick (lv' := [(0, vR p0), (1, vR x3), (2, vI x4), (3, vI (0 : Int32))]) [3, 2, 1, 0] rfl ?_
  exact zloop_ind (body := (B_X14_named_9)) (bot := (fun _ _ _ _ _ => none)) (P := (fun (f : Option Nat → Option Nat → Int32 → Int32 → zH → Option (Option Nat × zH)) => ∀ (b0 : Option Nat) (b1 : Option Nat) (b2 : Int32) (b3 : Int32) (h' : zH), f b0 b1 b2 b3 h' = some (vx, vh) → zW G M_X14_named 4 h (.inl (some (vR vx))) vh 9 [(0, vR b0), (1, vR b1), (2, vI b2), (3, vI b3)] [] h')) zFU (fun _ _ _ _ _ H => nomatch H) (fun f hf c0 c1 c2 c3 h' H => wB_X14_named_9 hf H) _ _ _ _ _ H
theorem ln_X8_7 : zCl "CsrCalculator$Sum" 7 16 := ⟨_, by decide, by decide, rfl, q1122, q1123, q208⟩
theorem lq_X8_10 : zFp "CsrCalculator$Sum" "<init>" 10 8 0 := ⟨_, "CsrCalculator$Sum", by decide, rfl, by decide, Or.inl rfl, Or.inr ⟨q1145, rfl, rfl, rfl⟩⟩
theorem lq_X8_16 : zFp "CsrCalculator$Sum" "<init>" 16 8 1 := ⟨_, "CsrCalculator$Sum", by decide, rfl, by decide, Or.inl rfl, Or.inr ⟨q1148, rfl, rfl, rfl⟩⟩
def M_X8_init : zM := (yX8_init, cX8_init, 1, none, [])
theorem mf_X8_init : zMi M_X8_init 0 := ⟨⟨q1120, q206, ⟨by decide +kernel, by decide +kernel⟩, by decide +kernel, by decide⟩, q1119⟩
def f_X8_init (p0 : Option Nat) (h : zH) : Option zH :=
  p0.bind fun b1 =>
  zb2 (znw 16 h) fun q3 h4 =>
  (some q3).bind fun b6 =>
  (f_J18_init (some b6) h4).bind fun h9 =>
  (zpR 8 0 p0 (some q3) h9).bind fun h10 =>
  zb2 (znw 16 h10) fun q12 h13 =>
  (some q12).bind fun b15 =>
  (f_J18_init (some b15) h13).bind fun h18 =>
  (zpR 8 1 p0 (some q12) h18).bind fun h19 =>
  some h19
theorem w_X8_init {G : zG} {p0 : Option Nat} {h : zH} {vh : zH} (H : f_X8_init p0 h = some vh) : zMet G M_X8_init 5 [vR p0] h (.inl none) vh := by
  refine zMet.of (by decide +kernel) (Nat.le_of_ble_eq_true rfl) ?_
  show zW G M_X8_init 5 h (.inl none) vh 0 [(0, vR p0)] [] h
  unfold f_X8_init at H
  refine zw_aload_n (pc := 0) dX8_init_0 rfl 0 rfl ?_
  obtain ⟨b1, e2, H⟩ := zbind H
  refine zy_objInit (pc := 1) dX8_init_1 q1121 e2 (Nat.le_of_ble_eq_true rfl) (Nat.le_of_ble_eq_true rfl) ?_
  refine zw_aload_n (pc := 4) dX8_init_4 rfl 0 rfl ?_
  obtain ⟨q3, h4, e5, H⟩ := zbind2 H
  refine zy_new (pc := 5) dX8_init_5 ln_X8_7 e5 ?_
  refine zw_dup (pc := 8) dX8_init_8 rfl ?_
  obtain ⟨b6, e7, H⟩ := zbind H
  obtain ⟨h9, e8, H⟩ := zbind H
  refine zw_invI (pc := 9) (M' := M_J18_init) (A := []) [vR (some q3), vR p0] dX8_init_9 (Or.inl q1124) mf_J18_init rfl rfl (w_J18_init e8) (Nat.le_of_ble_eq_true rfl) rfl (by rw [← e7]; rfl) (Nat.le_of_ble_eq_true rfl) (zku ?_) zkn9
  obtain ⟨h10, e11, H⟩ := zbind H
  refine zy_putR (pc := 12) dX8_init_12 lq_X8_10 rfl e11 ?_
  refine zw_aload_n (pc := 15) dX8_init_15 rfl 0 rfl ?_
  obtain ⟨q12, h13, e14, H⟩ := zbind2 H
  refine zy_new (pc := 16) dX8_init_16 ln_X8_7 e14 ?_
  refine zw_dup (pc := 19) dX8_init_19 rfl ?_
  obtain ⟨b15, e16, H⟩ := zbind H
  obtain ⟨h18, e17, H⟩ := zbind H
  refine zw_invI (pc := 20) (M' := M_J18_init) (A := []) [vR (some q12), vR p0] dX8_init_20 (Or.inl q1124) mf_J18_init rfl rfl (w_J18_init e17) (Nat.le_of_ble_eq_true rfl) rfl (by rw [← e16]; rfl) (Nat.le_of_ble_eq_true rfl) (zku ?_) zkn9
  obtain ⟨h19, e20, H⟩ := zbind H
  refine zy_putR (pc := 23) dX8_init_23 lq_X8_16 rfl e20 ?_
  obtain rfl := Option.some.inj H
  exact zw_vret (pc := 26) dX8_init_26 rfl rfl rfl
theorem lq_X10_7 : zFp "CsrCalculator$Register" "<init>" 7 10 0 := ⟨_, "CsrCalculator$Register", by decide, rfl, by decide, Or.inl rfl, Or.inr ⟨q1184, rfl, rfl, rfl⟩⟩
def M_X10_init : zM := (yX10_init, cX10_init, 2, none, [])
theorem mf_X10_init : zMi M_X10_init 1 := ⟨⟨q1182, q210, ⟨by decide +kernel, by decide +kernel⟩, by decide +kernel, by decide⟩, q1181⟩
def f_X10_init (p0 : Option Nat) (p1 : Int32) (h : zH) : Option zH :=
  p0.bind fun b1 =>
  (zpI 10 0 p0 p1 h).bind fun h3 =>
  some h3
theorem w_X10_init {G : zG} {p0 : Option Nat} {p1 : Int32} {h : zH} {vh : zH} (H : f_X10_init p0 p1 h = some vh) : zMet G M_X10_init 2 [vR p0, vI p1] h (.inl none) vh := by
  refine zMet.of (by decide +kernel) (Nat.le_of_ble_eq_true rfl) ?_
  show zW G M_X10_init 2 h (.inl none) vh 0 [(0, vR p0), (1, vI p1)] [] h
  unfold f_X10_init at H
  refine zw_aload_n (pc := 0) dX10_init_0 rfl 0 rfl ?_
  obtain ⟨b1, e2, H⟩ := zbind H
  refine zy_objInit (pc := 1) dX10_init_1 q1183 e2 (Nat.le_of_ble_eq_true rfl) (Nat.le_of_ble_eq_true rfl) ?_
  refine zw_aload_n (pc := 4) dX10_init_4 rfl 0 rfl ?_
  refine zw_iload_n (pc := 5) dX10_init_5 rfl 1 rfl ?_
  obtain ⟨h3, e4, H⟩ := zbind H
  refine zy_putI (pc := 6) dX10_init_6 lq_X10_7 rfl e4 ?_
  obtain rfl := Option.some.inj H
  exact zw_vret (pc := 9) dX10_init_9 rfl rfl rfl
theorem lq_X11_7 : zFp "CsrCalculator$Unit" "<init>" 7 11 0 := ⟨_, "CsrCalculator$Unit", by decide, rfl, by decide, Or.inl rfl, Or.inr ⟨q1200, rfl, rfl, rfl⟩⟩
def M_X11_init : zM := (yX11_init, cX11_init, 2, none, [])
theorem mf_X11_init : zMi M_X11_init 1 := ⟨⟨q1198, q211, ⟨by decide +kernel, by decide +kernel⟩, by decide +kernel, by decide⟩, q1197⟩
def f_X11_init (p0 : Option Nat) (p1 : Int32) (h : zH) : Option zH :=
  p0.bind fun b1 =>
  (zpI 11 0 p0 p1 h).bind fun h3 =>
  some h3
theorem w_X11_init {G : zG} {p0 : Option Nat} {p1 : Int32} {h : zH} {vh : zH} (H : f_X11_init p0 p1 h = some vh) : zMet G M_X11_init 2 [vR p0, vI p1] h (.inl none) vh := by
  refine zMet.of (by decide +kernel) (Nat.le_of_ble_eq_true rfl) ?_
  show zW G M_X11_init 2 h (.inl none) vh 0 [(0, vR p0), (1, vI p1)] [] h
  unfold f_X11_init at H
  refine zw_aload_n (pc := 0) dX11_init_0 rfl 0 rfl ?_
  obtain ⟨b1, e2, H⟩ := zbind H
  refine zy_objInit (pc := 1) dX11_init_1 q1199 e2 (Nat.le_of_ble_eq_true rfl) (Nat.le_of_ble_eq_true rfl) ?_
  refine zw_aload_n (pc := 4) dX11_init_4 rfl 0 rfl ?_
  refine zw_iload_n (pc := 5) dX11_init_5 rfl 1 rfl ?_
  obtain ⟨h3, e4, H⟩ := zbind H
  refine zy_putI (pc := 6) dX11_init_6 lq_X11_7 rfl e4 ?_
  obtain rfl := Option.some.inj H
  exact zw_vret (pc := 9) dX11_init_9 rfl rfl rfl
theorem lq_X12_7 : zFp "CsrCalculator$Transpose" "<init>" 7 12 0 := ⟨_, "CsrCalculator$Transpose", by decide, rfl, by decide, Or.inl rfl, Or.inr ⟨q1217, rfl, rfl, rfl⟩⟩
def M_X12_init : zM := (yX12_init, cX12_init, 2, none, [])
theorem mf_X12_init : zMi M_X12_init 1 := ⟨⟨q1215, q212, ⟨by decide +kernel, by decide +kernel⟩, by decide +kernel, by decide⟩, q1214⟩
def f_X12_init (p0 : Option Nat) (p1 : Option Nat) (h : zH) : Option zH :=
  p0.bind fun b1 =>
  (zpR 12 0 p0 p1 h).bind fun h3 =>
  some h3
theorem w_X12_init {G : zG} {p0 : Option Nat} {p1 : Option Nat} {h : zH} {vh : zH} (H : f_X12_init p0 p1 h = some vh) : zMet G M_X12_init 2 [vR p0, vR p1] h (.inl none) vh := by
  refine zMet.of (by decide +kernel) (Nat.le_of_ble_eq_true rfl) ?_
  show zW G M_X12_init 2 h (.inl none) vh 0 [(0, vR p0), (1, vR p1)] [] h
  unfold f_X12_init at H
  refine zw_aload_n (pc := 0) dX12_init_0 rfl 0 rfl ?_
  obtain ⟨b1, e2, H⟩ := zbind H
  refine zy_objInit (pc := 1) dX12_init_1 q1216 e2 (Nat.le_of_ble_eq_true rfl) (Nat.le_of_ble_eq_true rfl) ?_
  refine zw_aload_n (pc := 4) dX12_init_4 rfl 0 rfl ?_
  refine zw_aload_n (pc := 5) dX12_init_5 rfl 1 rfl ?_
  obtain ⟨h3, e4, H⟩ := zbind H
  refine zy_putR (pc := 6) dX12_init_6 lq_X12_7 rfl e4 ?_
  obtain rfl := Option.some.inj H
  exact zw_vret (pc := 9) dX12_init_9 rfl rfl rfl
theorem lq_X13_7 : zFp "CsrCalculator$Multiple" "<init>" 7 13 0 := ⟨_, "CsrCalculator$Multiple", by decide, rfl, by decide, Or.inl rfl, Or.inr ⟨q1228, rfl, rfl, rfl⟩⟩
theorem lq_X13_13 : zFp "CsrCalculator$Multiple" "<init>" 13 13 1 := ⟨_, "CsrCalculator$Multiple", by decide, rfl, by decide, Or.inl rfl, Or.inr ⟨q1230, rfl, rfl, rfl⟩⟩
def M_X13_init : zM := (yX13_init, cX13_init, 3, none, [])
theorem mf_X13_init : zMi M_X13_init 2 := ⟨⟨q1226, q213, ⟨by decide +kernel, by decide +kernel⟩, by decide +kernel, by decide⟩, q1225⟩
def f_X13_init (p0 : Option Nat) (p1 : Int32) (p2 : Option Nat) (h : zH) : Option zH :=
  p0.bind fun b1 =>
  (zpI 13 0 p0 p1 h).bind fun h3 =>
  (zpR 13 1 p0 p2 h3).bind fun h5 =>
  some h5
theorem w_X13_init {G : zG} {p0 : Option Nat} {p1 : Int32} {p2 : Option Nat} {h : zH} {vh : zH} (H : f_X13_init p0 p1 p2 h = some vh) : zMet G M_X13_init 2 [vR p0, vI p1, vR p2] h (.inl none) vh := by
  refine zMet.of (by decide +kernel) (Nat.le_of_ble_eq_true rfl) ?_
  show zW G M_X13_init 2 h (.inl none) vh 0 [(0, vR p0), (1, vI p1), (2, vR p2)] [] h
  unfold f_X13_init at H
  refine zw_aload_n (pc := 0) dX13_init_0 rfl 0 rfl ?_
  obtain ⟨b1, e2, H⟩ := zbind H
  refine zy_objInit (pc := 1) dX13_init_1 q1227 e2 (Nat.le_of_ble_eq_true rfl) (Nat.le_of_ble_eq_true rfl) ?_
  refine zw_aload_n (pc := 4) dX13_init_4 rfl 0 rfl ?_
  refine zw_iload_n (pc := 5) dX13_init_5 rfl 1 rfl ?_
  obtain ⟨h3, e4, H⟩ := zbind H
  refine zy_putI (pc := 6) dX13_init_6 lq_X13_7 rfl e4 ?_
  refine zw_aload_n (pc := 9) dX13_init_9 rfl 0 rfl ?_
  refine zw_aload_n (pc := 10) dX13_init_10 rfl 2 rfl ?_
  obtain ⟨h5, e6, H⟩ := zbind H
  refine zy_putR (pc := 11) dX13_init_11 lq_X13_13 rfl e6 ?_
  obtain rfl := Option.some.inj H
  exact zw_vret (pc := 14) dX13_init_14 rfl rfl rfl
theorem lf_X5_167 : zFl "CsrCalculator$Reader" 167 5 8 := ⟨_, "CsrCalculator$Reader", by decide, rfl, by decide, Or.inl q645, Or.inl rfl⟩
theorem lp_X5_167 {nm : String} : zFp "CsrCalculator$Reader" nm 167 5 8 := ⟨_, "CsrCalculator$Reader", by decide, rfl, by decide, Or.inl rfl, Or.inl ⟨Or.inl q645, rfl⟩⟩
def M_X5_open : zM := (yX5_open, cX5_open, 1, none, [])
theorem mf_X5_open : zMi M_X5_open 0 := ⟨⟨q1210, q195, ⟨by decide +kernel, by decide +kernel⟩, by decide +kernel, by decide⟩, q1209⟩
def B_X5_open_15 (a0 : Option Nat) (a1 : Option Nat) (a2 : Int32) (h : zH) : Option ((Unit ⊕ Nat) × zH) :=
  (zrv 5 a1 h).bind fun b1 =>
  zb3 (f_X5_check (some b1) a2 (3 : Int32) h) (fun _ h7 =>
  (zgI 5 8 a0 h7).bind fun x10 =>
  (zpI 5 8 a0 (x10 + (1 : Int32)) h7).bind fun h12 =>
  (zrv 5 a0 h12).bind fun b14 =>
  (f_X5_advance (some b14) h12).bind fun h19 =>
  some (.inl (), h19))
  (fun q8 h9 =>
  if zk h9 q8 = 6 then
  some (.inr q8, h9)
  else none)
theorem wB_X5_open_15 {G : zG} {h0 h : zH} {vo : Unit ⊕ Nat} {vh : zH} {a0 : Option Nat} {a1 : Option Nat} {a2 : Int32} (H : B_X5_open_15 a0 a1 a2 h = some (vo, vh)) : zW G M_X5_open 13 h0 (zoU vo) vh 15 [(0, vR a0)] [vI a2, vR a1] h := by
  unfold B_X5_open_15 at H
  refine zw_iconst (pc := 15) (v := (3 : Int32)) dX5_open_15 (by decide) ?_
  obtain ⟨b1, e3, H⟩ := zbind H
  obtain ⟨e2, e4⟩ := zrv_ok e3
  rcases zbind3 H with ⟨x6, h7, e5, H⟩ | ⟨q8, h9, e5, H⟩
  · refine zw_invV (pc := 16) (M' := M_X5_check) (A := [vI a2, vI (3 : Int32)]) [] dX5_open_16 (Or.inl q954) mf_X5_check ls_X5_check (zkq e4 rfl) (w_X5_check e5) (Nat.le_of_ble_eq_true rfl) rfl (by rw [← e2]; rfl) (Nat.le_of_ble_eq_true rfl) (zku ?_) zkn9
    refine zw_aload_n (pc := 19) dX5_open_19 rfl 0 rfl ?_
    refine zw_dup (pc := 20) dX5_open_20 rfl ?_
    obtain ⟨x10, e11, H⟩ := zbind H
    refine zy_getI (pc := 21) dX5_open_21 lf_X5_167 (fun _ _ => rfl) e11 ?_
    refine zw_iconst (pc := 24) (v := (1 : Int32)) dX5_open_24 (by decide) ?_
    refine zw_iadd (pc := 25) dX5_open_25 ?_
    obtain ⟨h12, e13, H⟩ := zbind H
    refine zy_putI (pc := 26) dX5_open_26 lp_X5_167 rfl e13 ?_
    refine zw_aload_n (pc := 29) dX5_open_29 rfl 0 rfl ?_
    obtain ⟨b14, e16, H⟩ := zbind H
    obtain ⟨e15, e17⟩ := zrv_ok e16
    obtain ⟨h19, e18, H⟩ := zbind H
    refine zw_invV (pc := 30) (M' := M_X5_advance) (A := []) [] dX5_open_30 (Or.inl q680) mf_X5_advance ls_X5_advance (zkq e17 rfl) (w_X5_advance e18) (Nat.le_of_ble_eq_true rfl) rfl (by rw [← e15]; rfl) (Nat.le_of_ble_eq_true rfl) (zku ?_) zkn9
    obtain ⟨rfl, rfl⟩ := Prod.mk.inj (Option.some.inj H)
    exact zw_vret (pc := 33) dX5_open_33 rfl rfl rfl
  · refine zw_invV (pc := 16) (M' := M_X5_check) (A := [vI a2, vI (3 : Int32)]) [] dX5_open_16 (Or.inl q954) mf_X5_check ls_X5_check (zkq e4 rfl) (w_X5_check e5) (Nat.le_of_ble_eq_true rfl) rfl (by rw [← e2]; rfl) (Nat.le_of_ble_eq_true rfl) zkv0 (zkx ?_)
    rcases zif H with ⟨c20, H⟩ | ⟨c20, H⟩
    · have c20 := c20
      obtain ⟨rfl, rfl⟩ := Prod.mk.inj (Option.some.inj H)
      exact zx_out (zkq c20 rfl) (fun _ hz => nomatch hz) rfl rfl
    cases H
def f_X5_open (p0 : Option Nat) (h : zH) : Option ((Unit ⊕ Nat) × zH) :=
  (zgI 5 8 p0 h).bind fun x1 =>
  if (8 : Int32) ≤ x1 then
  B_X5_open_15 p0 p0 (0 : Int32) h
  else
  B_X5_open_15 p0 p0 (1 : Int32) h
theorem w_X5_open {G : zG} {p0 : Option Nat} {h : zH} {vo : Unit ⊕ Nat} {vh : zH} (H : f_X5_open p0 h = some (vo, vh)) : zMet G M_X5_open 13 [vR p0] h (zoU vo) vh := by
  refine zMet.of (by decide +kernel) (Nat.le_of_ble_eq_true rfl) ?_
  show zW G M_X5_open 13 h (zoU vo) vh 0 [(0, vR p0)] [] h
  unfold f_X5_open at H
  refine zw_aload_n (pc := 0) dX5_open_0 rfl 0 rfl ?_
  refine zw_aload_n (pc := 1) dX5_open_1 rfl 0 rfl ?_
  obtain ⟨x1, e2, H⟩ := zbind H
  refine zy_getI (pc := 2) dX5_open_2 lf_X5_167 (fun _ _ => rfl) e2 ?_
  refine zw_bipush (pc := 5) (v := (8 : Int32)) dX5_open_5 (by decide) ?_
  rcases zif H with ⟨c3, H⟩ | ⟨c3, H⟩
  · refine zw_icmp_ge (pc := 7) (tgt := 14) dX5_open_7 rfl (fun _ => ?_) (fun q => absurd c3 q)
    refine zw_iconst (pc := 14) (v := (0 : Int32)) dX5_open_14 (by decide) ?_
    refine zW_pick (lv' := [(0, vR p0)]) [0] rfl ?_
    exact wB_X5_open_15 H
  · refine zw_icmp_ge (pc := 7) (tgt := 14) dX5_open_7 rfl (fun q => absurd q c3) (fun _ => ?_)
    refine zw_iconst (pc := 10) (v := (1 : Int32)) dX5_open_10 (by decide) ?_
    refine zw_goto (pc := 11) (tgt := 15) dX5_open_11 rfl ?_
    refine zW_pick (lv' := [(0, vR p0)]) [0] rfl ?_
    exact wB_X5_open_15 H
def M_X5_number : zM := (yX5_number, cX5_number, 4, (.some .int), [])
theorem mf_X5_number : zMi M_X5_number 2 := ⟨⟨q1090, q195, ⟨by decide +kernel, by decide +kernel⟩, by decide +kernel, by decide⟩, q1089⟩
def B_X5_number_14 (a0 : Option Nat) (a1 : Int32) (a2 : Int32) (a3 : Option Nat) (a4 : Int32) (h : zH) : Option ((Int32 ⊕ Nat) × zH) :=
  (zrv 5 a3 h).bind fun b1 =>
  zb3 (f_X5_check (some b1) a4 (1 : Int32) h) (fun _ h7 =>
  (zgI 5 5 a0 h7).bind fun x10 =>
  (f_X1_isIn x10.toInt64 a1.toInt64 a2.toInt64 h7).bind fun x13 =>
  (zrv 5 a0 h7).bind fun b14 =>
  zb3 (f_X5_check (some b14) x13 (2 : Int32) h7) (fun _ h20 =>
  (zgI 5 5 a0 h20).bind fun x23 =>
  (zrv 5 a0 h20).bind fun b25 =>
  (f_X5_advance (some b25) h20).bind fun h30 =>
  some (.inl x23, h30))
  (fun q21 h22 =>
  if zk h22 q21 = 6 then
  some (.inr q21, h22)
  else none))
  (fun q8 h9 =>
  if zk h9 q8 = 6 then
  some (.inr q8, h9)
  else none)
theorem wB_X5_number_14 {G : zG} {h0 h : zH} {vo : Int32 ⊕ Nat} {vh : zH} {a0 : Option Nat} {a1 : Int32} {a2 : Int32} {a3 : Option Nat} {a4 : Int32} (H : B_X5_number_14 a0 a1 a2 a3 a4 h = some (vo, vh)) : zW G M_X5_number 13 h0 (zoI vo) vh 14 [(0, vR a0), (1, vI a1), (2, vI a2)] [vI a4, vR a3] h := by
  unfold B_X5_number_14 at H
  refine zw_iconst (pc := 14) (v := (1 : Int32)) dX5_number_14 (by decide) ?_
  obtain ⟨b1, e3, H⟩ := zbind H
  obtain ⟨e2, e4⟩ := zrv_ok e3
  rcases zbind3 H with ⟨x6, h7, e5, H⟩ | ⟨q8, h9, e5, H⟩
  · refine zw_invV (pc := 15) (M' := M_X5_check) (A := [vI a4, vI (1 : Int32)]) [] dX5_number_15 (Or.inl q954) mf_X5_check ls_X5_check (zkq e4 rfl) (w_X5_check e5) (Nat.le_of_ble_eq_true rfl) rfl (by rw [← e2]; rfl) (Nat.le_of_ble_eq_true rfl) (zku ?_) zkn9
    refine zw_aload_n (pc := 18) dX5_number_18 rfl 0 rfl ?_
    refine zw_aload_n (pc := 19) dX5_number_19 rfl 0 rfl ?_
    obtain ⟨x10, e11, H⟩ := zbind H
    refine zy_getI (pc := 20) dX5_number_20 lf_X5_67 (fun _ _ => rfl) e11 ?_
    refine zw_i2l (pc := 23) dX5_number_23 ?_
    refine zw_iload_n (pc := 24) dX5_number_24 rfl 1 rfl ?_
    refine zw_i2l (pc := 25) dX5_number_25 ?_
    refine zw_iload_n (pc := 26) dX5_number_26 rfl 2 rfl ?_
    refine zw_i2l (pc := 27) dX5_number_27 ?_
    obtain ⟨x13, e12, H⟩ := zbind H
    refine zw_invS (pc := 28) (M' := M_X1_isIn) (A := [vJ x10.toInt64, vJ a1.toInt64, vJ a2.toInt64]) [vR a0] dX5_number_28 (Or.inr (by decide +kernel)) mf_X1_isIn (w_X1_isIn e12) (Nat.le_of_ble_eq_true rfl) rfl rfl (Nat.le_of_ble_eq_true rfl) (zkv ?_) zkn9
    refine zw_iconst (pc := 31) (v := (2 : Int32)) dX5_number_31 (by decide) ?_
    obtain ⟨b14, e16, H⟩ := zbind H
    obtain ⟨e15, e17⟩ := zrv_ok e16
    rcases zbind3 H with ⟨x19, h20, e18, H⟩ | ⟨q21, h22, e18, H⟩
    · refine zw_invV (pc := 32) (M' := M_X5_check) (A := [vI x13, vI (2 : Int32)]) [] dX5_number_32 (Or.inl q954) mf_X5_check ls_X5_check (zkq e17 rfl) (w_X5_check e18) (Nat.le_of_ble_eq_true rfl) rfl (by rw [← e15]; rfl) (Nat.le_of_ble_eq_true rfl) (zku ?_) zkn9
      refine zw_aload_n (pc := 35) dX5_number_35 rfl 0 rfl ?_
      obtain ⟨x23, e24, H⟩ := zbind H
      refine zy_getI (pc := 36) dX5_number_36 lf_X5_67 (fun _ _ => rfl) e24 ?_
      refine zw_istore_n (pc := 39) (lv' := [(3, vI x23), (0, vR a0), (1, vI a1), (2, vI a2)]) dX5_number_39 rfl (by decide) rfl ?_
      refine zw_aload_n (pc := 40) dX5_number_40 rfl 1 rfl ?_
      obtain ⟨b25, e27, H⟩ := zbind H
      obtain ⟨e26, e28⟩ := zrv_ok e27
      obtain ⟨h30, e29, H⟩ := zbind H
      refine zw_invV (pc := 41) (M' := M_X5_advance) (A := []) [] dX5_number_41 (Or.inl q680) mf_X5_advance ls_X5_advance (zkq e28 rfl) (w_X5_advance e29) (Nat.le_of_ble_eq_true rfl) rfl (by rw [← e26]; rfl) (Nat.le_of_ble_eq_true rfl) (zku ?_) zkn9
      refine zw_iload_n (pc := 44) dX5_number_44 rfl 0 rfl ?_
      obtain ⟨rfl, rfl⟩ := Prod.mk.inj (Option.some.inj H)
      exact zw_iret (pc := 45) dX5_number_45 rfl rfl rfl
    · refine zw_invV (pc := 32) (M' := M_X5_check) (A := [vI x13, vI (2 : Int32)]) [] dX5_number_32 (Or.inl q954) mf_X5_check ls_X5_check (zkq e17 rfl) (w_X5_check e18) (Nat.le_of_ble_eq_true rfl) rfl (by rw [← e15]; rfl) (Nat.le_of_ble_eq_true rfl) zkv0 (zkx ?_)
      rcases zif H with ⟨c31, H⟩ | ⟨c31, H⟩
      · have c31 := c31
        obtain ⟨rfl, rfl⟩ := Prod.mk.inj (Option.some.inj H)
        exact zx_out (zkq c31 rfl) (fun _ hz => nomatch hz) rfl rfl
      cases H
  · refine zw_invV (pc := 15) (M' := M_X5_check) (A := [vI a4, vI (1 : Int32)]) [] dX5_number_15 (Or.inl q954) mf_X5_check ls_X5_check (zkq e4 rfl) (w_X5_check e5) (Nat.le_of_ble_eq_true rfl) rfl (by rw [← e2]; rfl) (Nat.le_of_ble_eq_true rfl) zkv0 (zkx ?_)
    rcases zif H with ⟨c32, H⟩ | ⟨c32, H⟩
    · have c32 := c32
      obtain ⟨rfl, rfl⟩ := Prod.mk.inj (Option.some.inj H)
      exact zx_out (zkq c32 rfl) (fun _ hz => nomatch hz) rfl rfl
    cases H
def f_X5_number (p0 : Option Nat) (p1 : Int32) (p2 : Int32) (h : zH) : Option ((Int32 ⊕ Nat) × zH) :=
  (zgI 5 4 p0 h).bind fun x1 =>
  if x1 = (2 : Int32) then
  B_X5_number_14 p0 p1 p2 p0 (1 : Int32) h
  else
  B_X5_number_14 p0 p1 p2 p0 (0 : Int32) h
theorem w_X5_number {G : zG} {p0 : Option Nat} {p1 : Int32} {p2 : Int32} {h : zH} {vo : Int32 ⊕ Nat} {vh : zH} (H : f_X5_number p0 p1 p2 h = some (vo, vh)) : zMet G M_X5_number 13 [vR p0, vI p1, vI p2] h (zoI vo) vh := by
  refine zMet.of (by decide +kernel) (Nat.le_of_ble_eq_true rfl) ?_
  show zW G M_X5_number 13 h (zoI vo) vh 0 [(0, vR p0), (1, vI p1), (2, vI p2)] [] h
  unfold f_X5_number at H
  refine zw_aload_n (pc := 0) dX5_number_0 rfl 0 rfl ?_
  refine zw_aload_n (pc := 1) dX5_number_1 rfl 0 rfl ?_
  obtain ⟨x1, e2, H⟩ := zbind H
  refine zy_getI (pc := 2) dX5_number_2 lf_X5_49 (fun _ _ => rfl) e2 ?_
  refine zw_iconst (pc := 5) (v := (2 : Int32)) dX5_number_5 (by decide) ?_
  rcases zif H with ⟨c3, H⟩ | ⟨c3, H⟩
  · refine zw_icmp_ne (pc := 6) (tgt := 13) dX5_number_6 rfl (fun q => absurd c3 q) (fun _ => ?_)
    refine zw_iconst (pc := 9) (v := (1 : Int32)) dX5_number_9 (by decide) ?_
    refine zw_goto (pc := 10) (tgt := 14) dX5_number_10 rfl ?_
    refine zW_pick (lv' := [(0, vR p0), (1, vI p1), (2, vI p2)]) [0, 1, 2] rfl ?_
    exact wB_X5_number_14 H
  · refine zw_icmp_ne (pc := 6) (tgt := 13) dX5_number_6 rfl (fun _ => ?_) (fun q => absurd q c3)
    refine zw_iconst (pc := 13) (v := (0 : Int32)) dX5_number_13 (by decide) ?_
    refine zW_pick (lv' := [(0, vR p0), (1, vI p1), (2, vI p2)]) [0, 1, 2] rfl ?_
    exact wB_X5_number_14 H
theorem lf_X5_113 : zFl "CsrCalculator$Reader" 113 5 10 := ⟨_, "CsrCalculator$Reader", by decide, rfl, by decide, Or.inl q647, Or.inl rfl⟩
theorem ls_X5_number : Cond.selects yX5_number.cls yX5_number yX5_number ∈ lw_all := lw_g (lw_ms _ (List.mem_of_getElem? (i := 18) rfl)) rfl
def M_X5_ranged : zM := (yX5_ranged, cX5_ranged, 3, (.some .int), [])
theorem mf_X5_ranged : zMi M_X5_ranged 2 := ⟨⟨q1195, q195, ⟨by decide +kernel, by decide +kernel⟩, by decide +kernel, by decide⟩, q1194⟩
def f_X5_ranged (p0 : Option Nat) (p1 : Int32) (p2 : Int32) (h : zH) : Option ((Int32 ⊕ Nat) × zH) :=
  (zgI 5 10 p0 h).bind fun x1 =>
  if x1 = 0 then
  (zrv 5 p0 h).bind fun b4 =>
  zb3 (f_X5_number (some b4) p1 p2 h) (fun x9 h10 =>
  some (.inl x9, h10))
  (fun q11 h12 =>
  if zk h12 q11 = 6 then
  some (.inr q11, h12)
  else none)
  else
  (zrv 5 p0 h).bind fun b14 =>
  zb3 (f_X5_number (some b14) (0 : Int32) (9999 : Int32) h) (fun x19 h20 =>
  some (.inl x19, h20))
  (fun q21 h22 =>
  if zk h22 q21 = 6 then
  some (.inr q21, h22)
  else none)
theorem w_X5_ranged {G : zG} {p0 : Option Nat} {p1 : Int32} {p2 : Int32} {h : zH} {vo : Int32 ⊕ Nat} {vh : zH} (H : f_X5_ranged p0 p1 p2 h = some (vo, vh)) : zMet G M_X5_ranged 14 [vR p0, vI p1, vI p2] h (zoI vo) vh := by
  refine zMet.of (by decide +kernel) (Nat.le_of_ble_eq_true rfl) ?_
  show zW G M_X5_ranged 14 h (zoI vo) vh 0 [(0, vR p0), (1, vI p1), (2, vI p2)] [] h
  unfold f_X5_ranged at H
  refine zw_aload_n (pc := 0) dX5_ranged_0 rfl 0 rfl ?_
  obtain ⟨x1, e2, H⟩ := zbind H
  refine zy_getI (pc := 1) dX5_ranged_1 lf_X5_113 (fun _ _ => rfl) e2 ?_
  rcases zif H with ⟨c3, H⟩ | ⟨c3, H⟩
  · refine zw_if_eq (pc := 4) (tgt := 18) dX5_ranged_4 rfl (fun _ => ?_) (fun q => absurd c3 q)
    refine zw_aload_n (pc := 18) dX5_ranged_18 rfl 0 rfl ?_
    refine zw_iload_n (pc := 19) dX5_ranged_19 rfl 1 rfl ?_
    refine zw_iload_n (pc := 20) dX5_ranged_20 rfl 2 rfl ?_
    obtain ⟨b4, e6, H⟩ := zbind H
    obtain ⟨e5, e7⟩ := zrv_ok e6
    rcases zbind3 H with ⟨x9, h10, e8, H⟩ | ⟨q11, h12, e8, H⟩
    · refine zw_invV (pc := 21) (M' := M_X5_number) (A := [vI p1, vI p2]) [] dX5_ranged_21 (Or.inl q1087) mf_X5_number ls_X5_number (zkq e7 rfl) (w_X5_number e8) (Nat.le_of_ble_eq_true rfl) rfl (by rw [← e5]; rfl) (Nat.le_of_ble_eq_true rfl) (zkv ?_) zkn9
      obtain ⟨rfl, rfl⟩ := Prod.mk.inj (Option.some.inj H)
      exact zw_iret (pc := 24) dX5_ranged_24 rfl rfl rfl
    · refine zw_invV (pc := 21) (M' := M_X5_number) (A := [vI p1, vI p2]) [] dX5_ranged_21 (Or.inl q1087) mf_X5_number ls_X5_number (zkq e7 rfl) (w_X5_number e8) (Nat.le_of_ble_eq_true rfl) rfl (by rw [← e5]; rfl) (Nat.le_of_ble_eq_true rfl) zkv0 (zkx ?_)
      rcases zif H with ⟨c13, H⟩ | ⟨c13, H⟩
      · have c13 := c13
        obtain ⟨rfl, rfl⟩ := Prod.mk.inj (Option.some.inj H)
        exact zx_out (zkq c13 rfl) (fun _ hz => nomatch hz) rfl rfl
      cases H
  · refine zw_if_eq (pc := 4) (tgt := 18) dX5_ranged_4 rfl (fun q => absurd q c3) (fun _ => ?_)
    refine zw_aload_n (pc := 7) dX5_ranged_7 rfl 0 rfl ?_
    refine zw_iconst (pc := 8) (v := (0 : Int32)) dX5_ranged_8 (by decide) ?_
    refine zw_sipush (pc := 9) (v := (9999 : Int32)) dX5_ranged_9 (by decide) ?_
    obtain ⟨b14, e16, H⟩ := zbind H
    obtain ⟨e15, e17⟩ := zrv_ok e16
    rcases zbind3 H with ⟨x19, h20, e18, H⟩ | ⟨q21, h22, e18, H⟩
    · refine zw_invV (pc := 12) (M' := M_X5_number) (A := [vI (0 : Int32), vI (9999 : Int32)]) [] dX5_ranged_12 (Or.inl q1087) mf_X5_number ls_X5_number (zkq e17 rfl) (w_X5_number e18) (Nat.le_of_ble_eq_true rfl) rfl (by rw [← e15]; rfl) (Nat.le_of_ble_eq_true rfl) (zkv ?_) zkn9
      refine zw_goto (pc := 15) (tgt := 24) dX5_ranged_15 rfl ?_
      obtain ⟨rfl, rfl⟩ := Prod.mk.inj (Option.some.inj H)
      exact zw_iret (pc := 24) dX5_ranged_24 rfl rfl rfl
    · refine zw_invV (pc := 12) (M' := M_X5_number) (A := [vI (0 : Int32), vI (9999 : Int32)]) [] dX5_ranged_12 (Or.inl q1087) mf_X5_number ls_X5_number (zkq e17 rfl) (w_X5_number e18) (Nat.le_of_ble_eq_true rfl) rfl (by rw [← e15]; rfl) (Nat.le_of_ble_eq_true rfl) zkv0 (zkx ?_)
      rcases zif H with ⟨c23, H⟩ | ⟨c23, H⟩
      · have c23 := c23
        obtain ⟨rfl, rfl⟩ := Prod.mk.inj (Option.some.inj H)
        exact zx_out (zkq c23 rfl) (fun _ hz => nomatch hz) rfl rfl
      cases H
def M_X5_registerHere : zM := (yX5_registerHere, cX5_registerHere, 1, (.some .int), [])
theorem mf_X5_registerHere : zMi M_X5_registerHere 0 := ⟨⟨q1070, q195, ⟨by decide +kernel, by decide +kernel⟩, by decide +kernel, by decide⟩, q1069⟩
def f_X5_registerHere (p0 : Option Nat) (h : zH) : Option Int32 :=
  (zgI 5 4 p0 h).bind fun x1 =>
  if x1 = (1 : Int32) then
  (zgR 5 9 p0 h).bind fun x4 =>
  (zrv 19 x4 h).bind fun b6 =>
  (f_J4_length (some b6) h).bind fun x11 =>
  if x11 = (1 : Int32) then
  (zgR 5 9 p0 h).bind fun x13 =>
  (zrv 19 x13 h).bind fun b15 =>
  (f_J4_charAt (some b15) (0 : Int32) h).bind fun x20 =>
  if (100 : Int32) < x20 then
  some (-1 : Int32)
  else
  (zgR 5 9 p0 h).bind fun x22 =>
  (zrv 19 x22 h).bind fun b24 =>
  (f_J4_charAt (some b24) (0 : Int32) h).bind fun x29 =>
  some (x29 - (97 : Int32))
  else
  some (-1 : Int32)
  else
  some (-1 : Int32)
theorem w_X5_registerHere {G : zG} {p0 : Option Nat} {h : zH} {vx : Int32} (H : f_X5_registerHere p0 h = some vx) : zMet G M_X5_registerHere 6 [vR p0] h (.inl (some (vI vx))) h := by
  refine zMet.of (by decide +kernel) (Nat.le_of_ble_eq_true rfl) ?_
  show zW G M_X5_registerHere 6 h (.inl (some (vI vx))) h 0 [(0, vR p0)] [] h
  unfold f_X5_registerHere at H
  refine zw_aload_n (pc := 0) dX5_registerHere_0 rfl 0 rfl ?_
  obtain ⟨x1, e2, H⟩ := zbind H
  refine zy_getI (pc := 1) dX5_registerHere_1 lf_X5_49 (fun _ _ => rfl) e2 ?_
  refine zw_iconst (pc := 4) (v := (1 : Int32)) dX5_registerHere_4 (by decide) ?_
  rcases zif H with ⟨c3, H⟩ | ⟨c3, H⟩
  · refine zw_icmp_ne (pc := 5) (tgt := 46) dX5_registerHere_5 rfl (fun q => absurd c3 q) (fun _ => ?_)
    refine zw_aload_n (pc := 8) dX5_registerHere_8 rfl 0 rfl ?_
    obtain ⟨x4, e5, H⟩ := zbind H
    refine zy_getR (pc := 9) dX5_registerHere_9 lf_X5_31 (fun _ _ => rfl) e5 ?_
    obtain ⟨b6, e8, H⟩ := zbind H
    obtain ⟨e7, e9⟩ := zrv_ok e8
    obtain ⟨x11, e10, H⟩ := zbind H
    refine zw_invV (pc := 12) (M' := M_J4_length) (A := []) [] dX5_registerHere_12 (Or.inl q1071) mf_J4_length q880 (zkq e9 rfl) (w_J4_length e10) (Nat.le_of_ble_eq_true rfl) rfl (by rw [← e7]; rfl) (Nat.le_of_ble_eq_true rfl) (zkv ?_) zkn9
    refine zw_iconst (pc := 15) (v := (1 : Int32)) dX5_registerHere_15 (by decide) ?_
    rcases zif H with ⟨c12, H⟩ | ⟨c12, H⟩
    · refine zw_icmp_ne (pc := 16) (tgt := 46) dX5_registerHere_16 rfl (fun q => absurd c12 q) (fun _ => ?_)
      refine zw_aload_n (pc := 19) dX5_registerHere_19 rfl 0 rfl ?_
      obtain ⟨x13, e14, H⟩ := zbind H
      refine zy_getR (pc := 20) dX5_registerHere_20 lf_X5_31 (fun _ _ => rfl) e14 ?_
      refine zw_iconst (pc := 23) (v := (0 : Int32)) dX5_registerHere_23 (by decide) ?_
      obtain ⟨b15, e17, H⟩ := zbind H
      obtain ⟨e16, e18⟩ := zrv_ok e17
      obtain ⟨x20, e19, H⟩ := zbind H
      refine zw_invV (pc := 24) (M' := M_J4_charAt) (A := [vI (0 : Int32)]) [] dX5_registerHere_24 (Or.inl q1072) mf_J4_charAt q1074 (zkq e18 rfl) (w_J4_charAt e19) (Nat.le_of_ble_eq_true rfl) rfl (by rw [← e16]; rfl) (Nat.le_of_ble_eq_true rfl) (zkv ?_) zkn9
      refine zw_bipush (pc := 27) (v := (100 : Int32)) dX5_registerHere_27 (by decide) ?_
      rcases zif H with ⟨c21, H⟩ | ⟨c21, H⟩
      · refine zw_icmp_gt (pc := 29) (tgt := 46) dX5_registerHere_29 rfl (fun _ => ?_) (fun q => absurd c21 q)
        refine zw_iconst (pc := 46) (v := (-1 : Int32)) dX5_registerHere_46 (by decide) ?_
        obtain rfl := Option.some.inj H
        exact zw_iret (pc := 47) dX5_registerHere_47 rfl rfl rfl
      · refine zw_icmp_gt (pc := 29) (tgt := 46) dX5_registerHere_29 rfl (fun q => absurd q c21) (fun _ => ?_)
        refine zw_aload_n (pc := 32) dX5_registerHere_32 rfl 0 rfl ?_
        obtain ⟨x22, e23, H⟩ := zbind H
        refine zy_getR (pc := 33) dX5_registerHere_33 lf_X5_31 (fun _ _ => rfl) e23 ?_
        refine zw_iconst (pc := 36) (v := (0 : Int32)) dX5_registerHere_36 (by decide) ?_
        obtain ⟨b24, e26, H⟩ := zbind H
        obtain ⟨e25, e27⟩ := zrv_ok e26
        obtain ⟨x29, e28, H⟩ := zbind H
        refine zw_invV (pc := 37) (M' := M_J4_charAt) (A := [vI (0 : Int32)]) [] dX5_registerHere_37 (Or.inl q1072) mf_J4_charAt q1074 (zkq e27 rfl) (w_J4_charAt e28) (Nat.le_of_ble_eq_true rfl) rfl (by rw [← e25]; rfl) (Nat.le_of_ble_eq_true rfl) (zkv ?_) zkn9
        refine zw_bipush (pc := 40) (v := (97 : Int32)) dX5_registerHere_40 (by decide) ?_
        refine zw_isub (pc := 42) dX5_registerHere_42 ?_
        refine zw_goto (pc := 43) (tgt := 47) dX5_registerHere_43 rfl ?_
        obtain rfl := Option.some.inj H
        exact zw_iret (pc := 47) dX5_registerHere_47 rfl rfl rfl
    · refine zw_icmp_ne (pc := 16) (tgt := 46) dX5_registerHere_16 rfl (fun _ => ?_) (fun q => absurd q c12)
      refine zw_iconst (pc := 46) (v := (-1 : Int32)) dX5_registerHere_46 (by decide) ?_
      obtain rfl := Option.some.inj H
      exact zw_iret (pc := 47) dX5_registerHere_47 rfl rfl rfl
  · refine zw_icmp_ne (pc := 5) (tgt := 46) dX5_registerHere_5 rfl (fun _ => ?_) (fun q => absurd q c3)
    refine zw_iconst (pc := 46) (v := (-1 : Int32)) dX5_registerHere_46 (by decide) ?_
    obtain rfl := Option.some.inj H
    exact zw_iret (pc := 47) dX5_registerHere_47 rfl rfl rfl
theorem ls_X5_registerHere : Cond.selects yX5_registerHere.cls yX5_registerHere yX5_registerHere ∈ lw_all := lw_g (lw_ms _ (List.mem_of_getElem? (i := 17) rfl)) rfl
def M_X5_register : zM := (yX5_register, cX5_register, 2, (.some .int), [])
theorem mf_X5_register : zMi M_X5_register 0 := ⟨⟨q1066, q195, ⟨by decide +kernel, by decide +kernel⟩, by decide +kernel, by decide⟩, q1065⟩
def f_X5_register (p0 : Option Nat) (h : zH) : Option ((Int32 ⊕ Nat) × zH) :=
  (zrv 5 p0 h).bind fun b1 =>
  (f_X5_registerHere (some b1) h).bind fun x6 =>
  if x6 = (-1 : Int32) then
  (zrv 5 p0 h).bind fun b8 =>
  zb3 (f_X5_check (some b8) (0 : Int32) (1 : Int32) h) (fun _ h14 =>
  (zrv 5 p0 h14).bind fun b17 =>
  (f_X5_advance (some b17) h14).bind fun h22 =>
  some (.inl x6, h22))
  (fun q15 h16 =>
  if zk h16 q15 = 6 then
  some (.inr q15, h16)
  else none)
  else
  (zrv 5 p0 h).bind fun b24 =>
  zb3 (f_X5_check (some b24) (1 : Int32) (1 : Int32) h) (fun _ h30 =>
  (zrv 5 p0 h30).bind fun b33 =>
  (f_X5_advance (some b33) h30).bind fun h38 =>
  some (.inl x6, h38))
  (fun q31 h32 =>
  if zk h32 q31 = 6 then
  some (.inr q31, h32)
  else none)
theorem w_X5_register {G : zG} {p0 : Option Nat} {h : zH} {vo : Int32 ⊕ Nat} {vh : zH} (H : f_X5_register p0 h = some (vo, vh)) : zMet G M_X5_register 13 [vR p0] h (zoI vo) vh := by
  refine zMet.of (by decide +kernel) (Nat.le_of_ble_eq_true rfl) ?_
  show zW G M_X5_register 13 h (zoI vo) vh 0 [(0, vR p0)] [] h
  unfold f_X5_register at H
  refine zw_aload_n (pc := 0) dX5_register_0 rfl 0 rfl ?_
  obtain ⟨b1, e3, H⟩ := zbind H
  obtain ⟨e2, e4⟩ := zrv_ok e3
  obtain ⟨x6, e5, H⟩ := zbind H
  refine zw_invV (pc := 1) (M' := M_X5_registerHere) (A := []) [] dX5_register_1 (Or.inl q1067) mf_X5_registerHere ls_X5_registerHere (zkq e4 rfl) (w_X5_registerHere e5) (Nat.le_of_ble_eq_true rfl) rfl (by rw [← e2]; rfl) (Nat.le_of_ble_eq_true rfl) (zkv ?_) zkn9
  refine zw_istore_n (pc := 4) (lv' := [(1, vI x6), (0, vR p0)]) dX5_register_4 rfl (by decide) rfl ?_
  refine zw_aload_n (pc := 5) dX5_register_5 rfl 1 rfl ?_
  refine zw_iload_n (pc := 6) dX5_register_6 rfl 0 rfl ?_
  refine zw_iconst (pc := 7) (v := (-1 : Int32)) dX5_register_7 (by decide) ?_
  rcases zif H with ⟨c7, H⟩ | ⟨c7, H⟩
  · refine zw_icmp_eq (pc := 8) (tgt := 15) dX5_register_8 rfl (fun _ => ?_) (fun q => absurd c7 q)
    refine zw_iconst (pc := 15) (v := (0 : Int32)) dX5_register_15 (by decide) ?_
    refine zw_iconst (pc := 16) (v := (1 : Int32)) dX5_register_16 (by decide) ?_
    obtain ⟨b8, e10, H⟩ := zbind H
    obtain ⟨e9, e11⟩ := zrv_ok e10
    rcases zbind3 H with ⟨x13, h14, e12, H⟩ | ⟨q15, h16, e12, H⟩
    · refine zw_invV (pc := 17) (M' := M_X5_check) (A := [vI (0 : Int32), vI (1 : Int32)]) [] dX5_register_17 (Or.inl q954) mf_X5_check ls_X5_check (zkq e11 rfl) (w_X5_check e12) (Nat.le_of_ble_eq_true rfl) rfl (by rw [← e9]; rfl) (Nat.le_of_ble_eq_true rfl) (zku ?_) zkn9
      refine zw_aload_n (pc := 20) dX5_register_20 rfl 1 rfl ?_
      obtain ⟨b17, e19, H⟩ := zbind H
      obtain ⟨e18, e20⟩ := zrv_ok e19
      obtain ⟨h22, e21, H⟩ := zbind H
      refine zw_invV (pc := 21) (M' := M_X5_advance) (A := []) [] dX5_register_21 (Or.inl q680) mf_X5_advance ls_X5_advance (zkq e20 rfl) (w_X5_advance e21) (Nat.le_of_ble_eq_true rfl) rfl (by rw [← e18]; rfl) (Nat.le_of_ble_eq_true rfl) (zku ?_) zkn9
      refine zw_iload_n (pc := 24) dX5_register_24 rfl 0 rfl ?_
      obtain ⟨rfl, rfl⟩ := Prod.mk.inj (Option.some.inj H)
      exact zw_iret (pc := 25) dX5_register_25 rfl rfl rfl
    · refine zw_invV (pc := 17) (M' := M_X5_check) (A := [vI (0 : Int32), vI (1 : Int32)]) [] dX5_register_17 (Or.inl q954) mf_X5_check ls_X5_check (zkq e11 rfl) (w_X5_check e12) (Nat.le_of_ble_eq_true rfl) rfl (by rw [← e9]; rfl) (Nat.le_of_ble_eq_true rfl) zkv0 (zkx ?_)
      rcases zif H with ⟨c23, H⟩ | ⟨c23, H⟩
      · have c23 := c23
        obtain ⟨rfl, rfl⟩ := Prod.mk.inj (Option.some.inj H)
        exact zx_out (zkq c23 rfl) (fun _ hz => nomatch hz) rfl rfl
      cases H
  · refine zw_icmp_eq (pc := 8) (tgt := 15) dX5_register_8 rfl (fun q => absurd q c7) (fun _ => ?_)
    refine zw_iconst (pc := 11) (v := (1 : Int32)) dX5_register_11 (by decide) ?_
    refine zw_goto (pc := 12) (tgt := 16) dX5_register_12 rfl ?_
    refine zw_iconst (pc := 16) (v := (1 : Int32)) dX5_register_16 (by decide) ?_
    obtain ⟨b24, e26, H⟩ := zbind H
    obtain ⟨e25, e27⟩ := zrv_ok e26
    rcases zbind3 H with ⟨x29, h30, e28, H⟩ | ⟨q31, h32, e28, H⟩
    · refine zw_invV (pc := 17) (M' := M_X5_check) (A := [vI (1 : Int32), vI (1 : Int32)]) [] dX5_register_17 (Or.inl q954) mf_X5_check ls_X5_check (zkq e27 rfl) (w_X5_check e28) (Nat.le_of_ble_eq_true rfl) rfl (by rw [← e25]; rfl) (Nat.le_of_ble_eq_true rfl) (zku ?_) zkn9
      refine zw_aload_n (pc := 20) dX5_register_20 rfl 1 rfl ?_
      obtain ⟨b33, e35, H⟩ := zbind H
      obtain ⟨e34, e36⟩ := zrv_ok e35
      obtain ⟨h38, e37, H⟩ := zbind H
      refine zw_invV (pc := 21) (M' := M_X5_advance) (A := []) [] dX5_register_21 (Or.inl q680) mf_X5_advance ls_X5_advance (zkq e36 rfl) (w_X5_advance e37) (Nat.le_of_ble_eq_true rfl) rfl (by rw [← e34]; rfl) (Nat.le_of_ble_eq_true rfl) (zku ?_) zkn9
      refine zw_iload_n (pc := 24) dX5_register_24 rfl 0 rfl ?_
      obtain ⟨rfl, rfl⟩ := Prod.mk.inj (Option.some.inj H)
      exact zw_iret (pc := 25) dX5_register_25 rfl rfl rfl
    · refine zw_invV (pc := 17) (M' := M_X5_check) (A := [vI (1 : Int32), vI (1 : Int32)]) [] dX5_register_17 (Or.inl q954) mf_X5_check ls_X5_check (zkq e27 rfl) (w_X5_check e28) (Nat.le_of_ble_eq_true rfl) rfl (by rw [← e25]; rfl) (Nat.le_of_ble_eq_true rfl) zkv0 (zkx ?_)
      rcases zif H with ⟨c39, H⟩ | ⟨c39, H⟩
      · have c39 := c39
        obtain ⟨rfl, rfl⟩ := Prod.mk.inj (Option.some.inj H)
        exact zx_out (zkq c39 rfl) (fun _ hz => nomatch hz) rfl rfl
      cases H
def M_X5_term : zM := (yX5_term, cX5_term, 2, (.some (.object "CsrCalculator$Expr")), [])
theorem mf_X5_term : zMi M_X5_term 0 := ⟨⟨q1159, q195, ⟨by decide +kernel, by decide +kernel⟩, by decide +kernel, by decide⟩, q1158⟩
def M_X5_expression : zM := (yX5_expression, cX5_expression, 3, (.some (.object "CsrCalculator$Expr")), [])
theorem mf_X5_expression : zMi M_X5_expression 0 := ⟨⟨q1115, q195, ⟨by decide +kernel, by decide +kernel⟩, by decide +kernel, by decide⟩, q1114⟩
def M_X5_factor : zM := (yX5_factor, cX5_factor, 5, (.some (.object "CsrCalculator$Expr")), [])
theorem mf_X5_factor : zMi M_X5_factor 0 := ⟨⟨q1177, q195, ⟨by decide +kernel, by decide +kernel⟩, by decide +kernel, by decide⟩, q1176⟩
theorem ln_X5_152 : zCl "CsrCalculator$Reader" 152 9 := ⟨_, by decide, by decide, rfl, q1160, q1161, q209⟩
theorem lf_X5_155 : zFl "CsrCalculator$Reader" 155 9 0 := ⟨_, "CsrCalculator$Product", by decide, rfl, by decide, Or.inr (by decide +kernel), Or.inl rfl⟩
theorem ls_X5_factor : Cond.selects yX5_factor.cls yX5_factor yX5_factor ∈ lw_all := lw_g (lw_ms _ (List.mem_of_getElem? (i := 24) rfl)) rfl
theorem ls_X5_skips : Cond.selects yX5_skips.cls yX5_skips yX5_skips ∈ lw_all := lw_g (lw_ms _ (List.mem_of_getElem? (i := 19) rfl)) rfl
def B_X5_term_22 (r : Option Nat → zH → Option ((Option Nat ⊕ Nat) × zH)) (k22 : Option Nat → Option Nat → zH → Option ((Option Nat ⊕ Nat) × zH)) (a0 : Option Nat) (a1 : Option Nat) (h : zH) : Option ((Option Nat ⊕ Nat) × zH) :=
  (zrv 5 a0 h).bind fun b1 =>
  zb2 (f_X5_skips (some b1) (some (zst h 18)) h) fun x7 h6 =>
  if x7 = 0 then
  some (.inl a1, h6)
  else
  (zgR 9 0 a1 h6).bind fun x9 =>
  (zrv 5 a0 h6).bind fun b11 =>
  zb3 (r (some b11) h6) (fun x16 h17 =>
  (zrv 16 x9 h17).bind fun b20 =>
  zb2 (f_J18_add (some b20) x16 h17) fun x26 h25 =>
  k22 a0 a1 h25)
  (fun q18 h19 =>
  if zk h19 q18 = 6 then
  some (.inr q18, h19)
  else none)
theorem wB_X5_term_22 {G : zG} {h0 h : zH} {vo : Option Nat ⊕ Nat} {vh : zH} {r : Option Nat → zH → Option ((Option Nat ⊕ Nat) × zH)} {dd : Nat} (hdd : 15 ≤ dd) (hr : ∀ (b0 : Option Nat) (h : zH) (vo : Option Nat ⊕ Nat) (vh : zH), r b0 h = some (vo, vh) → zMet G M_X5_factor dd [vR b0] h (zoR vo) vh) {k22 : Option Nat → Option Nat → zH → Option ((Option Nat ⊕ Nat) × zH)} (hk22 : ∀ (b0 : Option Nat) (b1 : Option Nat) (h' : zH), k22 b0 b1 h' = some (vo, vh) → zW G M_X5_term (dd + 1) h0 (zoR vo) vh 22 [(0, vR b0), (1, vR b1)] [] h') {a0 : Option Nat} {a1 : Option Nat} (H : B_X5_term_22 r k22 a0 a1 h = some (vo, vh)) : zW G M_X5_term (dd + 1) h0 (zoR vo) vh 22 [(0, vR a0), (1, vR a1)] [] h := by
  unfold B_X5_term_22 at H
  refine zw_aload_n (pc := 22) dX5_term_22 rfl 0 rfl ?_
  refine zw_ldcS (pc := 23) 18 dX5_term_23 rfl ?_
  obtain ⟨b1, e3, H⟩ := zbind H
  obtain ⟨e2, e4⟩ := zrv_ok e3
  obtain ⟨x7, h6, e5, H⟩ := zbind2 H
  refine zw_invV (pc := 25) (M' := M_X5_skips) (A := [vR (some (zst h 18))]) [] dX5_term_25 (Or.inl q1098) mf_X5_skips ls_X5_skips (zkq e4 rfl) (w_X5_skips e5) (Nat.le_trans (show 14 ≤ 15 from Nat.le_of_ble_eq_true rfl) (Nat.le_trans hdd (Nat.le_add_right _ _))) rfl (by rw [← e2]; rfl) (Nat.le_of_ble_eq_true rfl) (zkv ?_) zkn9
  rcases zif H with ⟨c8, H⟩ | ⟨c8, H⟩
  · refine zw_if_eq (pc := 28) (tgt := 48) dX5_term_28 rfl (fun _ => ?_) (fun q => absurd c8 q)
    refine zw_aload_n (pc := 48) dX5_term_48 rfl 1 rfl ?_
    obtain ⟨rfl, rfl⟩ := Prod.mk.inj (Option.some.inj H)
    exact zw_aret (pc := 49) dX5_term_49 rfl (Or.inl ⟨_, rfl⟩) rfl rfl
  · refine zw_if_eq (pc := 28) (tgt := 48) dX5_term_28 rfl (fun q => absurd q c8) (fun _ => ?_)
    refine zw_aload_n (pc := 31) dX5_term_31 rfl 1 rfl ?_
    obtain ⟨x9, e10, H⟩ := zbind H
    refine zy_getR (pc := 32) dX5_term_32 lf_X5_155 (fun _ _ => rfl) e10 ?_
    refine zw_aload_n (pc := 35) dX5_term_35 rfl 0 rfl ?_
    obtain ⟨b11, e13, H⟩ := zbind H
    obtain ⟨e12, e14⟩ := zrv_ok e13
    rcases zbind3 H with ⟨x16, h17, e15, H⟩ | ⟨q18, h19, e15, H⟩
    · refine zw_invV (pc := 36) (M' := M_X5_factor) (A := []) [vR x9] dX5_term_36 (Or.inl q1174) mf_X5_factor ls_X5_factor (zkq e14 rfl) (hr _ _ _ _ e15) (Nat.add_le_add_left (Nat.le_of_ble_eq_true rfl) dd) rfl (by rw [← e12]; rfl) (Nat.le_of_ble_eq_true rfl) (zkv ?_) zkn9
      obtain ⟨b20, e22, H⟩ := zbind H
      obtain ⟨e21, e23⟩ := zrv_ok e22
      obtain ⟨x26, h25, e24, H⟩ := zbind2 H
      refine zw_invF (pc := 39) (M' := M_J18_add) (A := [vR x16]) [] dX5_term_39 q1238 (by decide +kernel) mf_J18_add rfl q1242 (zkq e23 rfl) (w_J18_add e24) (Nat.le_trans (show 9 ≤ 15 from Nat.le_of_ble_eq_true rfl) (Nat.le_trans hdd (Nat.le_add_right _ _))) rfl (by rw [← e21]; rfl) (Nat.le_of_ble_eq_true rfl) (zkv ?_) zkn9
      refine zw_pop (pc := 44) dX5_term_44 rfl ?_
      refine zw_goto (pc := 45) (tgt := 22) dX5_term_45 rfl ?_
      refine zW_pick (lv' := [(0, vR a0), (1, vR a1)]) [0, 1] rfl ?_
      exact hk22 _ _ _ H
    · refine zw_invV (pc := 36) (M' := M_X5_factor) (A := []) [vR x9] dX5_term_36 (Or.inl q1174) mf_X5_factor ls_X5_factor (zkq e14 rfl) (hr _ _ _ _ e15) (Nat.add_le_add_left (Nat.le_of_ble_eq_true rfl) dd) rfl (by rw [← e12]; rfl) (Nat.le_of_ble_eq_true rfl) zkv0 (zkx ?_)
      rcases zif H with ⟨c27, H⟩ | ⟨c27, H⟩
      · have c27 := c27
        obtain ⟨rfl, rfl⟩ := Prod.mk.inj (Option.some.inj H)
        exact zx_out (zkq c27 rfl) (fun _ hz => nomatch hz) rfl rfl
      cases H
def g_X5_term (r : Option Nat → zH → Option ((Option Nat ⊕ Nat) × zH)) (p0 : Option Nat) (h : zH) : Option ((Option Nat ⊕ Nat) × zH) :=
  zb2 (znw 9 h) fun q1 h2 =>
  (some q1).bind fun b4 =>
  (f_X9_init (some b4) h2).bind fun h7 =>
  (zgR 9 0 (some q1) h7).bind fun x8 =>
  (zrv 5 p0 h7).bind fun b10 =>
  zb3 (r (some b10) h7) (fun x15 h16 =>
  (zrv 16 x8 h16).bind fun b19 =>
  zb2 (f_J18_add (some b19) x15 h16) fun x25 h24 =>
  zloop (B_X5_term_22 r) (fun _ _ _ => none) zFU p0 (some q1) h24)
  (fun q17 h18 =>
  if zk h18 q17 = 6 then
  some (.inr q17, h18)
  else none)
theorem w_g_X5_term {G : zG} {r : Option Nat → zH → Option ((Option Nat ⊕ Nat) × zH)} {dd : Nat} (hdd : 15 ≤ dd) (hr : ∀ (b0 : Option Nat) (h : zH) (vo : Option Nat ⊕ Nat) (vh : zH), r b0 h = some (vo, vh) → zMet G M_X5_factor dd [vR b0] h (zoR vo) vh) {p0 : Option Nat} {h : zH} {vo : Option Nat ⊕ Nat} {vh : zH} (H : g_X5_term r p0 h = some (vo, vh)) : zMet G M_X5_term (dd + 1) [vR p0] h (zoR vo) vh := by
  refine zMet.of (by decide +kernel) (Nat.le_of_ble_eq_true rfl) ?_
  show zW G M_X5_term (dd + 1) h (zoR vo) vh 0 [(0, vR p0)] [] h
  unfold g_X5_term at H
  obtain ⟨q1, h2, e3, H⟩ := zbind2 H
  refine zy_new (pc := 0) dX5_term_0 ln_X5_152 e3 ?_
  refine zw_dup (pc := 3) dX5_term_3 rfl ?_
  obtain ⟨b4, e5, H⟩ := zbind H
  obtain ⟨h7, e6, H⟩ := zbind H
  refine zw_invI (pc := 4) (M' := M_X9_init) (A := []) [vR (some q1)] dX5_term_4 (Or.inr (by decide +kernel)) mf_X9_init rfl rfl (w_X9_init e6) (Nat.le_trans (show 6 ≤ 15 from Nat.le_of_ble_eq_true rfl) (Nat.le_trans hdd (Nat.le_add_right _ _))) rfl (by rw [← e5]; rfl) (Nat.le_of_ble_eq_true rfl) (zku ?_) zkn9
  refine zw_astore_n (pc := 7) (lv' := [(1, vR (some q1)), (0, vR p0)]) dX5_term_7 rfl (by decide) rfl ?_
  refine zw_aload_n (pc := 8) dX5_term_8 rfl 0 rfl ?_
  obtain ⟨x8, e9, H⟩ := zbind H
  refine zy_getR (pc := 9) dX5_term_9 lf_X5_155 (fun _ _ => rfl) e9 ?_
  refine zw_aload_n (pc := 12) dX5_term_12 rfl 1 rfl ?_
  obtain ⟨b10, e12, H⟩ := zbind H
  obtain ⟨e11, e13⟩ := zrv_ok e12
  rcases zbind3 H with ⟨x15, h16, e14, H⟩ | ⟨q17, h18, e14, H⟩
  · refine zw_invV (pc := 13) (M' := M_X5_factor) (A := []) [vR x8] dX5_term_13 (Or.inl q1174) mf_X5_factor ls_X5_factor (zkq e13 rfl) (hr _ _ _ _ e14) (Nat.add_le_add_left (Nat.le_of_ble_eq_true rfl) dd) rfl (by rw [← e11]; rfl) (Nat.le_of_ble_eq_true rfl) (zkv ?_) zkn9
    obtain ⟨b19, e21, H⟩ := zbind H
    obtain ⟨e20, e22⟩ := zrv_ok e21
    obtain ⟨x25, h24, e23, H⟩ := zbind2 H
    refine zw_invF (pc := 16) (M' := M_J18_add) (A := [vR x15]) [] dX5_term_16 q1238 (by decide +kernel) mf_J18_add rfl q1242 (zkq e22 rfl) (w_J18_add e23) (Nat.le_trans (show 9 ≤ 15 from Nat.le_of_ble_eq_true rfl) (Nat.le_trans hdd (Nat.le_add_right _ _))) rfl (by rw [← e20]; rfl) (Nat.le_of_ble_eq_true rfl) (zkv ?_) zkn9
    refine zw_pop (pc := 21) dX5_term_21 rfl ?_
    refine zW_pick (lv' := [(0, vR p0), (1, vR (some q1))]) [1, 0] rfl ?_
    exact zloop_ind (body := (B_X5_term_22 r)) (bot := (fun _ _ _ => none)) (P := (fun (f : Option Nat → Option Nat → zH → Option ((Option Nat ⊕ Nat) × zH)) => ∀ (b0 : Option Nat) (b1 : Option Nat) (h' : zH), f b0 b1 h' = some (vo, vh) → zW G M_X5_term (dd + 1) h (zoR vo) vh 22 [(0, vR b0), (1, vR b1)] [] h')) zFU (fun _ _ _ H => nomatch H) (fun f hf c0 c1 h' H => wB_X5_term_22 hdd hr hf H) _ _ _ H
  · refine zw_invV (pc := 13) (M' := M_X5_factor) (A := []) [vR x8] dX5_term_13 (Or.inl q1174) mf_X5_factor ls_X5_factor (zkq e13 rfl) (hr _ _ _ _ e14) (Nat.add_le_add_left (Nat.le_of_ble_eq_true rfl) dd) rfl (by rw [← e11]; rfl) (Nat.le_of_ble_eq_true rfl) zkv0 (zkx ?_)
    rcases zif H with ⟨c26, H⟩ | ⟨c26, H⟩
    · have c26 := c26
      obtain ⟨rfl, rfl⟩ := Prod.mk.inj (Option.some.inj H)
      exact zx_out (zkq c26 rfl) (fun _ hz => nomatch hz) rfl rfl
    cases H
theorem ln_X5_127 : zCl "CsrCalculator$Reader" 127 8 := ⟨_, by decide, by decide, rfl, q1116, q1117, q206⟩
theorem lf_X5_130 : zFl "CsrCalculator$Reader" 130 8 0 := ⟨_, "CsrCalculator$Sum", by decide, rfl, by decide, Or.inr (by decide +kernel), Or.inl rfl⟩
theorem ls_X5_term : Cond.selects yX5_term.cls yX5_term yX5_term ∈ lw_all := lw_g (lw_ms _ (List.mem_of_getElem? (i := 23) rfl)) rfl
theorem lf_X5_149 : zFl "CsrCalculator$Reader" 149 8 1 := ⟨_, "CsrCalculator$Sum", by decide, rfl, by decide, Or.inr (by decide +kernel), Or.inl rfl⟩
def B_X5_expression_30 (r : Option Nat → zH → Option ((Option Nat ⊕ Nat) × zH)) (k30 : Option Nat → Option Nat → Option Nat → zH → Option ((Option Nat ⊕ Nat) × zH)) (a0 : Option Nat) (a1 : Option Nat) (a2 : Option Nat) (h : zH) : Option ((Option Nat ⊕ Nat) × zH) :=
  if a2 = none then
  some (.inl a1, h)
  else
  (zrv 5 a0 h).bind fun b2 =>
  (f_X5_advance (some b2) h).bind fun h7 =>
  (zgR 8 1 a1 h7).bind fun x8 =>
  (zrv 16 x8 h7).bind fun b10 =>
  zb2 (f_J18_add (some b10) a2 h7) fun x16 h15 =>
  (zgR 8 0 a1 h15).bind fun x17 =>
  (zrv 5 a0 h15).bind fun b19 =>
  zb3 (g_X5_term r (some b19) h15) (fun x24 h25 =>
  (zrv 16 x17 h25).bind fun b28 =>
  zb2 (f_J18_add (some b28) x24 h25) fun x34 h33 =>
  (zgR 5 9 a0 h33).bind fun x35 =>
  zb2 (f_X14_named x35 h33) fun x39 h38 =>
  k30 a0 a1 x39 h38)
  (fun q26 h27 =>
  if zk h27 q26 = 6 then
  some (.inr q26, h27)
  else none)
theorem wB_X5_expression_30 {G : zG} {h0 h : zH} {vo : Option Nat ⊕ Nat} {vh : zH} {r : Option Nat → zH → Option ((Option Nat ⊕ Nat) × zH)} {dd : Nat} (hdd : 15 ≤ dd) (hr : ∀ (b0 : Option Nat) (h : zH) (vo : Option Nat ⊕ Nat) (vh : zH), r b0 h = some (vo, vh) → zMet G M_X5_factor dd [vR b0] h (zoR vo) vh) {k30 : Option Nat → Option Nat → Option Nat → zH → Option ((Option Nat ⊕ Nat) × zH)} (hk30 : ∀ (b0 : Option Nat) (b1 : Option Nat) (b2 : Option Nat) (h' : zH), k30 b0 b1 b2 h' = some (vo, vh) → zW G M_X5_expression (dd + 2) h0 (zoR vo) vh 30 [(0, vR b0), (1, vR b1), (2, vR b2)] [] h') {a0 : Option Nat} {a1 : Option Nat} {a2 : Option Nat} (H : B_X5_expression_30 r k30 a0 a1 a2 h = some (vo, vh)) : zW G M_X5_expression (dd + 2) h0 (zoR vo) vh 30 [(0, vR a0), (1, vR a1), (2, vR a2)] [] h := by
  unfold B_X5_expression_30 at H
  refine zw_aload_n (pc := 30) dX5_expression_30 rfl 2 rfl ?_
  rcases zif H with ⟨c1, H⟩ | ⟨c1, H⟩
  · refine zw_ifnull (pc := 31) (tgt := 74) dX5_expression_31 rfl (fun _ => ?_) (fun q => absurd c1 q)
    refine zw_aload_n (pc := 74) dX5_expression_74 rfl 1 rfl ?_
    obtain ⟨rfl, rfl⟩ := Prod.mk.inj (Option.some.inj H)
    exact zw_aret (pc := 75) dX5_expression_75 rfl (Or.inl ⟨_, rfl⟩) rfl rfl
  · refine zw_ifnull (pc := 31) (tgt := 74) dX5_expression_31 rfl (fun q => absurd q c1) (fun _ => ?_)
    refine zw_aload_n (pc := 34) dX5_expression_34 rfl 0 rfl ?_
    obtain ⟨b2, e4, H⟩ := zbind H
    obtain ⟨e3, e5⟩ := zrv_ok e4
    obtain ⟨h7, e6, H⟩ := zbind H
    refine zw_invV (pc := 35) (M' := M_X5_advance) (A := []) [] dX5_expression_35 (Or.inl q680) mf_X5_advance ls_X5_advance (zkq e5 rfl) (w_X5_advance e6) (Nat.le_trans (show 13 ≤ 15 from Nat.le_of_ble_eq_true rfl) (Nat.le_trans hdd (Nat.le_add_right _ _))) rfl (by rw [← e3]; rfl) (Nat.le_of_ble_eq_true rfl) (zku ?_) zkn9
    refine zw_aload_n (pc := 38) dX5_expression_38 rfl 1 rfl ?_
    obtain ⟨x8, e9, H⟩ := zbind H
    refine zy_getR (pc := 39) dX5_expression_39 lf_X5_149 (fun _ _ => rfl) e9 ?_
    refine zw_aload_n (pc := 42) dX5_expression_42 rfl 2 rfl ?_
    obtain ⟨b10, e12, H⟩ := zbind H
    obtain ⟨e11, e13⟩ := zrv_ok e12
    obtain ⟨x16, h15, e14, H⟩ := zbind2 H
    refine zw_invF (pc := 43) (M' := M_J18_add) (A := [vR a2]) [] dX5_expression_43 q1238 (by decide +kernel) mf_J18_add rfl q1242 (zkq e13 rfl) (w_J18_add e14) (Nat.le_trans (show 9 ≤ 15 from Nat.le_of_ble_eq_true rfl) (Nat.le_trans hdd (Nat.le_add_right _ _))) rfl (by rw [← e11]; rfl) (Nat.le_of_ble_eq_true rfl) (zkv ?_) zkn9
    refine zw_pop (pc := 48) dX5_expression_48 rfl ?_
    refine zw_aload_n (pc := 49) dX5_expression_49 rfl 1 rfl ?_
    obtain ⟨x17, e18, H⟩ := zbind H
    refine zy_getR (pc := 50) dX5_expression_50 lf_X5_130 (fun _ _ => rfl) e18 ?_
    refine zw_aload_n (pc := 53) dX5_expression_53 rfl 0 rfl ?_
    obtain ⟨b19, e21, H⟩ := zbind H
    obtain ⟨e20, e22⟩ := zrv_ok e21
    rcases zbind3 H with ⟨x24, h25, e23, H⟩ | ⟨q26, h27, e23, H⟩
    · refine zw_invV (pc := 54) (M' := M_X5_term) (A := []) [vR x17] dX5_expression_54 (Or.inl q1156) mf_X5_term ls_X5_term (zkq e22 rfl) (w_g_X5_term hdd hr e23) (show dd + 2 ≤ dd + 2 from Nat.add_le_add_left (Nat.le_of_ble_eq_true rfl) dd) rfl (by rw [← e20]; rfl) (Nat.le_of_ble_eq_true rfl) (zkv ?_) zkn9
      obtain ⟨b28, e30, H⟩ := zbind H
      obtain ⟨e29, e31⟩ := zrv_ok e30
      obtain ⟨x34, h33, e32, H⟩ := zbind2 H
      refine zw_invF (pc := 57) (M' := M_J18_add) (A := [vR x24]) [] dX5_expression_57 q1238 (by decide +kernel) mf_J18_add rfl q1242 (zkq e31 rfl) (w_J18_add e32) (Nat.le_trans (show 9 ≤ 15 from Nat.le_of_ble_eq_true rfl) (Nat.le_trans hdd (Nat.le_add_right _ _))) rfl (by rw [← e29]; rfl) (Nat.le_of_ble_eq_true rfl) (zkv ?_) zkn9
      refine zw_pop (pc := 62) dX5_expression_62 rfl ?_
      refine zw_aload_n (pc := 63) dX5_expression_63 rfl 0 rfl ?_
      obtain ⟨x35, e36, H⟩ := zbind H
      refine zy_getR (pc := 64) dX5_expression_64 lf_X5_31 (fun _ _ => rfl) e36 ?_
      obtain ⟨x39, h38, e37, H⟩ := zbind2 H
      refine zw_invS (pc := 67) (M' := M_X14_named) (A := [vR x35]) [] dX5_expression_67 (Or.inl q1302) mf_X14_named (w_X14_named e37) (Nat.le_trans (show 5 ≤ 15 from Nat.le_of_ble_eq_true rfl) (Nat.le_trans hdd (Nat.le_add_right _ _))) rfl rfl (Nat.le_of_ble_eq_true rfl) (zkv ?_) zkn9
      refine zw_astore_n (pc := 70) (lv' := [(2, vR x39), (0, vR a0), (1, vR a1)]) dX5_expression_70 rfl (by decide) rfl ?_
      refine zw_goto (pc := 71) (tgt := 30) dX5_expression_71 rfl ?_
      refine zW_pick (lv' := [(0, vR a0), (1, vR a1), (2, vR x39)]) [1, 2, 0] rfl ?_
      exact hk30 _ _ _ _ H
    · refine zw_invV (pc := 54) (M' := M_X5_term) (A := []) [vR x17] dX5_expression_54 (Or.inl q1156) mf_X5_term ls_X5_term (zkq e22 rfl) (w_g_X5_term hdd hr e23) (show dd + 2 ≤ dd + 2 from Nat.add_le_add_left (Nat.le_of_ble_eq_true rfl) dd) rfl (by rw [← e20]; rfl) (Nat.le_of_ble_eq_true rfl) zkv0 (zkx ?_)
      rcases zif H with ⟨c40, H⟩ | ⟨c40, H⟩
      · have c40 := c40
        obtain ⟨rfl, rfl⟩ := Prod.mk.inj (Option.some.inj H)
        exact zx_out (zkq c40 rfl) (fun _ hz => nomatch hz) rfl rfl
      cases H
def g_X5_expression (r : Option Nat → zH → Option ((Option Nat ⊕ Nat) × zH)) (p0 : Option Nat) (h : zH) : Option ((Option Nat ⊕ Nat) × zH) :=
  zb2 (znw 8 h) fun q1 h2 =>
  (some q1).bind fun b4 =>
  (f_X8_init (some b4) h2).bind fun h7 =>
  (zgR 8 0 (some q1) h7).bind fun x8 =>
  (zrv 5 p0 h7).bind fun b10 =>
  zb3 (g_X5_term r (some b10) h7) (fun x15 h16 =>
  (zrv 16 x8 h16).bind fun b19 =>
  zb2 (f_J18_add (some b19) x15 h16) fun x25 h24 =>
  (zgR 5 9 p0 h24).bind fun x26 =>
  zb2 (f_X14_named x26 h24) fun x30 h29 =>
  zloop (B_X5_expression_30 r) (fun _ _ _ _ => none) zFU p0 (some q1) x30 h29)
  (fun q17 h18 =>
  if zk h18 q17 = 6 then
  some (.inr q17, h18)
  else none)
theorem w_g_X5_expression {G : zG} {r : Option Nat → zH → Option ((Option Nat ⊕ Nat) × zH)} {dd : Nat} (hdd : 15 ≤ dd) (hr : ∀ (b0 : Option Nat) (h : zH) (vo : Option Nat ⊕ Nat) (vh : zH), r b0 h = some (vo, vh) → zMet G M_X5_factor dd [vR b0] h (zoR vo) vh) {p0 : Option Nat} {h : zH} {vo : Option Nat ⊕ Nat} {vh : zH} (H : g_X5_expression r p0 h = some (vo, vh)) : zMet G M_X5_expression (dd + 2) [vR p0] h (zoR vo) vh := by
  refine zMet.of (by decide +kernel) (Nat.le_of_ble_eq_true rfl) ?_
  show zW G M_X5_expression (dd + 2) h (zoR vo) vh 0 [(0, vR p0)] [] h
  unfold g_X5_expression at H
  obtain ⟨q1, h2, e3, H⟩ := zbind2 H
  refine zy_new (pc := 0) dX5_expression_0 ln_X5_127 e3 ?_
  refine zw_dup (pc := 3) dX5_expression_3 rfl ?_
  obtain ⟨b4, e5, H⟩ := zbind H
  obtain ⟨h7, e6, H⟩ := zbind H
  refine zw_invI (pc := 4) (M' := M_X8_init) (A := []) [vR (some q1)] dX5_expression_4 (Or.inr (by decide +kernel)) mf_X8_init rfl rfl (w_X8_init e6) (Nat.le_trans (show 6 ≤ 15 from Nat.le_of_ble_eq_true rfl) (Nat.le_trans hdd (Nat.le_add_right _ _))) rfl (by rw [← e5]; rfl) (Nat.le_of_ble_eq_true rfl) (zku ?_) zkn9
  refine zw_astore_n (pc := 7) (lv' := [(1, vR (some q1)), (0, vR p0)]) dX5_expression_7 rfl (by decide) rfl ?_
  refine zw_aload_n (pc := 8) dX5_expression_8 rfl 0 rfl ?_
  obtain ⟨x8, e9, H⟩ := zbind H
  refine zy_getR (pc := 9) dX5_expression_9 lf_X5_130 (fun _ _ => rfl) e9 ?_
  refine zw_aload_n (pc := 12) dX5_expression_12 rfl 1 rfl ?_
  obtain ⟨b10, e12, H⟩ := zbind H
  obtain ⟨e11, e13⟩ := zrv_ok e12
  rcases zbind3 H with ⟨x15, h16, e14, H⟩ | ⟨q17, h18, e14, H⟩
  · refine zw_invV (pc := 13) (M' := M_X5_term) (A := []) [vR x8] dX5_expression_13 (Or.inl q1156) mf_X5_term ls_X5_term (zkq e13 rfl) (w_g_X5_term hdd hr e14) (show dd + 2 ≤ dd + 2 from Nat.add_le_add_left (Nat.le_of_ble_eq_true rfl) dd) rfl (by rw [← e11]; rfl) (Nat.le_of_ble_eq_true rfl) (zkv ?_) zkn9
    obtain ⟨b19, e21, H⟩ := zbind H
    obtain ⟨e20, e22⟩ := zrv_ok e21
    obtain ⟨x25, h24, e23, H⟩ := zbind2 H
    refine zw_invF (pc := 16) (M' := M_J18_add) (A := [vR x15]) [] dX5_expression_16 q1238 (by decide +kernel) mf_J18_add rfl q1242 (zkq e22 rfl) (w_J18_add e23) (Nat.le_trans (show 9 ≤ 15 from Nat.le_of_ble_eq_true rfl) (Nat.le_trans hdd (Nat.le_add_right _ _))) rfl (by rw [← e20]; rfl) (Nat.le_of_ble_eq_true rfl) (zkv ?_) zkn9
    refine zw_pop (pc := 21) dX5_expression_21 rfl ?_
    refine zw_aload_n (pc := 22) dX5_expression_22 rfl 1 rfl ?_
    obtain ⟨x26, e27, H⟩ := zbind H
    refine zy_getR (pc := 23) dX5_expression_23 lf_X5_31 (fun _ _ => rfl) e27 ?_
    obtain ⟨x30, h29, e28, H⟩ := zbind2 H
    refine zw_invS (pc := 26) (M' := M_X14_named) (A := [vR x26]) [] dX5_expression_26 (Or.inl q1302) mf_X14_named (w_X14_named e28) (Nat.le_trans (show 5 ≤ 15 from Nat.le_of_ble_eq_true rfl) (Nat.le_trans hdd (Nat.le_add_right _ _))) rfl rfl (Nat.le_of_ble_eq_true rfl) (zkv ?_) zkn9
    refine zw_astore_n (pc := 29) (lv' := [(2, vR x30), (1, vR (some q1)), (0, vR p0)]) dX5_expression_29 rfl (by decide) rfl ?_
    refine zW_pick (lv' := [(0, vR p0), (1, vR (some q1)), (2, vR x30)]) [2, 1, 0] rfl ?_
    exact zloop_ind (body := (B_X5_expression_30 r)) (bot := (fun _ _ _ _ => none)) (P := (fun (f : Option Nat → Option Nat → Option Nat → zH → Option ((Option Nat ⊕ Nat) × zH)) => ∀ (b0 : Option Nat) (b1 : Option Nat) (b2 : Option Nat) (h' : zH), f b0 b1 b2 h' = some (vo, vh) → zW G M_X5_expression (dd + 2) h (zoR vo) vh 30 [(0, vR b0), (1, vR b1), (2, vR b2)] [] h')) zFU (fun _ _ _ _ H => nomatch H) (fun f hf c0 c1 c2 h' H => wB_X5_expression_30 hdd hr hf H) _ _ _ _ H
  · refine zw_invV (pc := 13) (M' := M_X5_term) (A := []) [vR x8] dX5_expression_13 (Or.inl q1156) mf_X5_term ls_X5_term (zkq e13 rfl) (w_g_X5_term hdd hr e14) (show dd + 2 ≤ dd + 2 from Nat.add_le_add_left (Nat.le_of_ble_eq_true rfl) dd) rfl (by rw [← e11]; rfl) (Nat.le_of_ble_eq_true rfl) zkv0 (zkx ?_)
    rcases zif H with ⟨c31, H⟩ | ⟨c31, H⟩
    · have c31 := c31
      obtain ⟨rfl, rfl⟩ := Prod.mk.inj (Option.some.inj H)
      exact zx_out (zkq c31 rfl) (fun _ hz => nomatch hz) rfl rfl
    cases H
theorem ls_X5_open : Cond.selects yX5_open.cls yX5_open yX5_open ∈ lw_all := lw_g (lw_ms _ (List.mem_of_getElem? (i := 26) rfl)) rfl
theorem ls_X5_expression : Cond.selects yX5_expression.cls yX5_expression yX5_expression ∈ lw_all := lw_g (lw_ms _ (List.mem_of_getElem? (i := 22) rfl)) rfl
theorem ln_X5_204 : zCl "CsrCalculator$Reader" 204 13 := ⟨_, by decide, by decide, rfl, q1222, q1223, q213⟩
theorem ln_X5_199 : zCl "CsrCalculator$Reader" 199 12 := ⟨_, by decide, by decide, rfl, q1211, q1212, q212⟩
theorem ls_X5_sign : Cond.selects yX5_sign.cls yX5_sign yX5_sign ∈ lw_all := lw_g (lw_ms _ (List.mem_of_getElem? (i := 13) rfl)) rfl
theorem ln_X5_180 : zCl "CsrCalculator$Reader" 180 11 := ⟨_, by decide, by decide, rfl, q1190, q1191, q211⟩
theorem ls_X5_ranged : Cond.selects yX5_ranged.cls yX5_ranged yX5_ranged ∈ lw_all := lw_g (lw_ms _ (List.mem_of_getElem? (i := 25) rfl)) rfl
theorem ln_X5_170 : zCl "CsrCalculator$Reader" 170 10 := ⟨_, by decide, by decide, rfl, q1178, q1179, q210⟩
theorem ls_X5_register : Cond.selects yX5_register.cls yX5_register yX5_register ∈ lw_all := lw_g (lw_ms _ (List.mem_of_getElem? (i := 16) rfl)) rfl
def B_X5_factor_207 (r : Option Nat → zH → Option ((Option Nat ⊕ Nat) × zH)) (a0 : Int32) (a1 : Int32) (a2 : Int32) (a3 : Option Nat) (h : zH) : Option ((Option Nat ⊕ Nat) × zH) :=
  if a0 = 0 then
  some (.inl a3, h)
  else
  if a1 = 0 then
  zb2 (znw 13 h) fun q3 h4 =>
  (some q3).bind fun b6 =>
  (f_X13_init (some b6) a2 a3 h4).bind fun h9 =>
  some (.inl (some q3), h9)
  else
  zb2 (znw 12 h) fun q10 h11 =>
  (some q10).bind fun b13 =>
  (f_X12_init (some b13) a3 h11).bind fun h16 =>
  some (.inl (some q10), h16)
theorem wB_X5_factor_207 {G : zG} {h0 h : zH} {vo : Option Nat ⊕ Nat} {vh : zH} {r : Option Nat → zH → Option ((Option Nat ⊕ Nat) × zH)} {dd : Nat} (hdd : 15 ≤ dd) (hr : ∀ (b0 : Option Nat) (h : zH) (vo : Option Nat ⊕ Nat) (vh : zH), r b0 h = some (vo, vh) → zMet G M_X5_factor dd [vR b0] h (zoR vo) vh) {a0 : Int32} {a1 : Int32} {a2 : Int32} {a3 : Option Nat} (H : B_X5_factor_207 r a0 a1 a2 a3 h = some (vo, vh)) : zW G M_X5_factor (dd + 3) h0 (zoR vo) vh 207 [(1, vI a0), (2, vI a1), (3, vI a2), (4, vR a3)] [] h := by
  unfold B_X5_factor_207 at H
  refine zw_iload_n (pc := 207) dX5_factor_207 rfl 0 rfl ?_
  rcases zif H with ⟨c1, H⟩ | ⟨c1, H⟩
  · refine zw_if_ne (pc := 208) (tgt := 216) dX5_factor_208 rfl (fun q => absurd c1 q) (fun _ => ?_)
    refine zw_aload (pc := 211) dX5_factor_211 3 rfl ?_
    refine zw_goto (pc := 213) (tgt := 242) dX5_factor_213 rfl ?_
    obtain ⟨rfl, rfl⟩ := Prod.mk.inj (Option.some.inj H)
    exact zw_aret (pc := 242) dX5_factor_242 rfl (Or.inl ⟨_, rfl⟩) rfl rfl
  · refine zw_if_ne (pc := 208) (tgt := 216) dX5_factor_208 rfl (fun _ => ?_) (fun q => absurd q c1)
    refine zw_iload_n (pc := 216) dX5_factor_216 rfl 1 rfl ?_
    rcases zif H with ⟨c2, H⟩ | ⟨c2, H⟩
    · refine zw_if_eq (pc := 217) (tgt := 232) dX5_factor_217 rfl (fun _ => ?_) (fun q => absurd c2 q)
      obtain ⟨q3, h4, e5, H⟩ := zbind2 H
      refine zy_new (pc := 232) dX5_factor_232 ln_X5_204 e5 ?_
      refine zw_dup (pc := 235) dX5_factor_235 rfl ?_
      refine zw_iload_n (pc := 236) dX5_factor_236 rfl 2 rfl ?_
      refine zw_aload (pc := 237) dX5_factor_237 3 rfl ?_
      obtain ⟨b6, e7, H⟩ := zbind H
      obtain ⟨h9, e8, H⟩ := zbind H
      refine zw_invI (pc := 239) (M' := M_X13_init) (A := [vI a2, vR a3]) [vR (some q3)] dX5_factor_239 (Or.inl q1224) mf_X13_init rfl rfl (w_X13_init e8) (Nat.le_trans (show 3 ≤ 15 from Nat.le_of_ble_eq_true rfl) (Nat.le_trans hdd (Nat.le_add_right _ _))) rfl (by rw [← e7]; rfl) (Nat.le_of_ble_eq_true rfl) (zku ?_) zkn9
      obtain ⟨rfl, rfl⟩ := Prod.mk.inj (Option.some.inj H)
      exact zw_aret (pc := 242) dX5_factor_242 rfl (Or.inl ⟨_, rfl⟩) rfl rfl
    · refine zw_if_eq (pc := 217) (tgt := 232) dX5_factor_217 rfl (fun q => absurd q c2) (fun _ => ?_)
      obtain ⟨q10, h11, e12, H⟩ := zbind2 H
      refine zy_new (pc := 220) dX5_factor_220 ln_X5_199 e12 ?_
      refine zw_dup (pc := 223) dX5_factor_223 rfl ?_
      refine zw_aload (pc := 224) dX5_factor_224 3 rfl ?_
      obtain ⟨b13, e14, H⟩ := zbind H
      obtain ⟨h16, e15, H⟩ := zbind H
      refine zw_invI (pc := 226) (M' := M_X12_init) (A := [vR a3]) [vR (some q10)] dX5_factor_226 (Or.inl q1213) mf_X12_init rfl rfl (w_X12_init e15) (Nat.le_trans (show 3 ≤ 15 from Nat.le_of_ble_eq_true rfl) (Nat.le_trans hdd (Nat.le_add_right _ _))) rfl (by rw [← e14]; rfl) (Nat.le_of_ble_eq_true rfl) (zku ?_) zkn9
      refine zw_goto (pc := 229) (tgt := 242) dX5_factor_229 rfl ?_
      obtain ⟨rfl, rfl⟩ := Prod.mk.inj (Option.some.inj H)
      exact zw_aret (pc := 242) dX5_factor_242 rfl (Or.inl ⟨_, rfl⟩) rfl rfl
def B_X5_factor_185 (r : Option Nat → zH → Option ((Option Nat ⊕ Nat) × zH)) (a0 : Option Nat) (a1 : Int32) (a2 : Int32) (a3 : Int32) (a4 : Option Nat) (h : zH) : Option ((Option Nat ⊕ Nat) × zH) :=
  (zgI 5 8 a0 h).bind fun x1 =>
  (zpI 5 8 a0 (x1 - (1 : Int32)) h).bind fun h3 =>
  if a1 = 0 then
  (zrv 5 a0 h3).bind fun b6 =>
  zb3 (f_X5_sign (some b6) (41 : Int32) h3) (fun _ h12 =>
  B_X5_factor_207 r a1 a2 a3 a4 h12)
  (fun q13 h14 =>
  if zk h14 q13 = 6 then
  some (.inr q13, h14)
  else none)
  else
  B_X5_factor_207 r a1 a2 a3 a4 h3
theorem wB_X5_factor_185 {G : zG} {h0 h : zH} {vo : Option Nat ⊕ Nat} {vh : zH} {r : Option Nat → zH → Option ((Option Nat ⊕ Nat) × zH)} {dd : Nat} (hdd : 15 ≤ dd) (hr : ∀ (b0 : Option Nat) (h : zH) (vo : Option Nat ⊕ Nat) (vh : zH), r b0 h = some (vo, vh) → zMet G M_X5_factor dd [vR b0] h (zoR vo) vh) {a0 : Option Nat} {a1 : Int32} {a2 : Int32} {a3 : Int32} {a4 : Option Nat} (H : B_X5_factor_185 r a0 a1 a2 a3 a4 h = some (vo, vh)) : zW G M_X5_factor (dd + 3) h0 (zoR vo) vh 185 [(0, vR a0), (1, vI a1), (2, vI a2), (3, vI a3)] [vR a4] h := by
  unfold B_X5_factor_185 at H
  refine zw_astore (pc := 185) (lv' := [(4, vR a4), (0, vR a0), (1, vI a1), (2, vI a2), (3, vI a3)]) dX5_factor_185 (by decide) rfl ?_
  refine zw_aload_n (pc := 187) dX5_factor_187 rfl 1 rfl ?_
  refine zw_dup (pc := 188) dX5_factor_188 rfl ?_
  obtain ⟨x1, e2, H⟩ := zbind H
  refine zy_getI (pc := 189) dX5_factor_189 lf_X5_167 (fun _ _ => rfl) e2 ?_
  refine zw_iconst (pc := 192) (v := (1 : Int32)) dX5_factor_192 (by decide) ?_
  refine zw_isub (pc := 193) dX5_factor_193 ?_
  obtain ⟨h3, e4, H⟩ := zbind H
  refine zy_putI (pc := 194) dX5_factor_194 lp_X5_167 rfl e4 ?_
  refine zw_iload_n (pc := 197) dX5_factor_197 rfl 2 rfl ?_
  rcases zif H with ⟨c5, H⟩ | ⟨c5, H⟩
  · refine zw_if_ne (pc := 198) (tgt := 207) dX5_factor_198 rfl (fun q => absurd c5 q) (fun _ => ?_)
    refine zw_aload_n (pc := 201) dX5_factor_201 rfl 1 rfl ?_
    refine zw_bipush (pc := 202) (v := (41 : Int32)) dX5_factor_202 (by decide) ?_
    obtain ⟨b6, e8, H⟩ := zbind H
    obtain ⟨e7, e9⟩ := zrv_ok e8
    rcases zbind3 H with ⟨x11, h12, e10, H⟩ | ⟨q13, h14, e10, H⟩
    · refine zw_invV (pc := 204) (M' := M_X5_sign) (A := [vI (41 : Int32)]) [] dX5_factor_204 (Or.inl q981) mf_X5_sign ls_X5_sign (zkq e9 rfl) (w_X5_sign e10) (Nat.le_trans (show 14 ≤ 15 from Nat.le_of_ble_eq_true rfl) (Nat.le_trans hdd (Nat.le_add_right _ _))) rfl (by rw [← e7]; rfl) (Nat.le_of_ble_eq_true rfl) (zku ?_) zkn9
      refine zW_pick (lv' := [(1, vI a1), (2, vI a2), (3, vI a3), (4, vR a4)]) [2, 3, 4, 0] rfl ?_
      exact wB_X5_factor_207 hdd hr H
    · refine zw_invV (pc := 204) (M' := M_X5_sign) (A := [vI (41 : Int32)]) [] dX5_factor_204 (Or.inl q981) mf_X5_sign ls_X5_sign (zkq e9 rfl) (w_X5_sign e10) (Nat.le_trans (show 14 ≤ 15 from Nat.le_of_ble_eq_true rfl) (Nat.le_trans hdd (Nat.le_add_right _ _))) rfl (by rw [← e7]; rfl) (Nat.le_of_ble_eq_true rfl) zkv0 (zkx ?_)
      rcases zif H with ⟨c15, H⟩ | ⟨c15, H⟩
      · have c15 := c15
        obtain ⟨rfl, rfl⟩ := Prod.mk.inj (Option.some.inj H)
        exact zx_out (zkq c15 rfl) (fun _ hz => nomatch hz) rfl rfl
      cases H
  · refine zw_if_ne (pc := 198) (tgt := 207) dX5_factor_198 rfl (fun _ => ?_) (fun q => absurd q c5)
    refine zW_pick (lv' := [(1, vI a1), (2, vI a2), (3, vI a3), (4, vR a4)]) [2, 3, 4, 0] rfl ?_
    exact wB_X5_factor_207 hdd hr H
def B_X5_factor_165 (r : Option Nat → zH → Option ((Option Nat ⊕ Nat) × zH)) (a0 : Option Nat) (a1 : Int32) (a2 : Int32) (a3 : Int32) (h : zH) : Option ((Option Nat ⊕ Nat) × zH) :=
  (zrv 5 a0 h).bind fun b1 =>
  zb3 (f_X5_open (some b1) h) (fun _ h7 =>
  if a1 = 0 then
  (zrv 5 a0 h7).bind fun b11 =>
  zb3 (g_X5_expression r (some b11) h7) (fun x16 h17 =>
  B_X5_factor_185 r a0 a1 a2 a3 x16 h17)
  (fun q18 h19 =>
  if zk h19 q18 = 6 then
  some (.inr q18, h19)
  else none)
  else
  (zrv 5 a0 h7).bind fun b21 =>
  zb3 (r (some b21) h7) (fun x26 h27 =>
  B_X5_factor_185 r a0 a1 a2 a3 x26 h27)
  (fun q28 h29 =>
  if zk h29 q28 = 6 then
  some (.inr q28, h29)
  else none))
  (fun q8 h9 =>
  if zk h9 q8 = 6 then
  some (.inr q8, h9)
  else none)
theorem wB_X5_factor_165 {G : zG} {h0 h : zH} {vo : Option Nat ⊕ Nat} {vh : zH} {r : Option Nat → zH → Option ((Option Nat ⊕ Nat) × zH)} {dd : Nat} (hdd : 15 ≤ dd) (hr : ∀ (b0 : Option Nat) (h : zH) (vo : Option Nat ⊕ Nat) (vh : zH), r b0 h = some (vo, vh) → zMet G M_X5_factor dd [vR b0] h (zoR vo) vh) {a0 : Option Nat} {a1 : Int32} {a2 : Int32} {a3 : Int32} (H : B_X5_factor_165 r a0 a1 a2 a3 h = some (vo, vh)) : zW G M_X5_factor (dd + 3) h0 (zoR vo) vh 165 [(0, vR a0), (1, vI a1), (2, vI a2)] [vI a3] h := by
  unfold B_X5_factor_165 at H
  refine zw_istore_n (pc := 165) (lv' := [(3, vI a3), (0, vR a0), (1, vI a1), (2, vI a2)]) dX5_factor_165 rfl (by decide) rfl ?_
  refine zw_aload_n (pc := 166) dX5_factor_166 rfl 1 rfl ?_
  obtain ⟨b1, e3, H⟩ := zbind H
  obtain ⟨e2, e4⟩ := zrv_ok e3
  rcases zbind3 H with ⟨x6, h7, e5, H⟩ | ⟨q8, h9, e5, H⟩
  · refine zw_invV (pc := 167) (M' := M_X5_open) (A := []) [] dX5_factor_167 (Or.inl q1207) mf_X5_open ls_X5_open (zkq e4 rfl) (w_X5_open e5) (Nat.le_trans (show 14 ≤ 15 from Nat.le_of_ble_eq_true rfl) (Nat.le_trans hdd (Nat.le_add_right _ _))) rfl (by rw [← e2]; rfl) (Nat.le_of_ble_eq_true rfl) (zku ?_) zkn9
    refine zw_iload_n (pc := 170) dX5_factor_170 rfl 2 rfl ?_
    rcases zif H with ⟨c10, H⟩ | ⟨c10, H⟩
    · refine zw_if_eq (pc := 171) (tgt := 181) dX5_factor_171 rfl (fun _ => ?_) (fun q => absurd c10 q)
      refine zw_aload_n (pc := 181) dX5_factor_181 rfl 1 rfl ?_
      obtain ⟨b11, e13, H⟩ := zbind H
      obtain ⟨e12, e14⟩ := zrv_ok e13
      rcases zbind3 H with ⟨x16, h17, e15, H⟩ | ⟨q18, h19, e15, H⟩
      · refine zw_invV (pc := 182) (M' := M_X5_expression) (A := []) [] dX5_factor_182 (Or.inl q1112) mf_X5_expression ls_X5_expression (zkq e14 rfl) (w_g_X5_expression hdd hr e15) (show dd + 3 ≤ dd + 3 from Nat.add_le_add_left (Nat.le_of_ble_eq_true rfl) dd) rfl (by rw [← e12]; rfl) (Nat.le_of_ble_eq_true rfl) (zkv ?_) zkn9
        refine zW_pick (lv' := [(0, vR a0), (1, vI a1), (2, vI a2), (3, vI a3)]) [1, 2, 3, 0] rfl ?_
        exact wB_X5_factor_185 hdd hr H
      · refine zw_invV (pc := 182) (M' := M_X5_expression) (A := []) [] dX5_factor_182 (Or.inl q1112) mf_X5_expression ls_X5_expression (zkq e14 rfl) (w_g_X5_expression hdd hr e15) (show dd + 3 ≤ dd + 3 from Nat.add_le_add_left (Nat.le_of_ble_eq_true rfl) dd) rfl (by rw [← e12]; rfl) (Nat.le_of_ble_eq_true rfl) zkv0 (zkx ?_)
        rcases zif H with ⟨c20, H⟩ | ⟨c20, H⟩
        · have c20 := c20
          obtain ⟨rfl, rfl⟩ := Prod.mk.inj (Option.some.inj H)
          exact zx_out (zkq c20 rfl) (fun _ hz => nomatch hz) rfl rfl
        cases H
    · refine zw_if_eq (pc := 171) (tgt := 181) dX5_factor_171 rfl (fun q => absurd q c10) (fun _ => ?_)
      refine zw_aload_n (pc := 174) dX5_factor_174 rfl 1 rfl ?_
      obtain ⟨b21, e23, H⟩ := zbind H
      obtain ⟨e22, e24⟩ := zrv_ok e23
      rcases zbind3 H with ⟨x26, h27, e25, H⟩ | ⟨q28, h29, e25, H⟩
      · refine zw_invV (pc := 175) (M' := M_X5_factor) (A := []) [] dX5_factor_175 (Or.inl q1174) mf_X5_factor ls_X5_factor (zkq e24 rfl) (hr _ _ _ _ e25) (Nat.add_le_add_left (Nat.le_of_ble_eq_true rfl) dd) rfl (by rw [← e22]; rfl) (Nat.le_of_ble_eq_true rfl) (zkv ?_) zkn9
        refine zw_goto (pc := 178) (tgt := 185) dX5_factor_178 rfl ?_
        refine zW_pick (lv' := [(0, vR a0), (1, vI a1), (2, vI a2), (3, vI a3)]) [1, 2, 3, 0] rfl ?_
        exact wB_X5_factor_185 hdd hr H
      · refine zw_invV (pc := 175) (M' := M_X5_factor) (A := []) [] dX5_factor_175 (Or.inl q1174) mf_X5_factor ls_X5_factor (zkq e24 rfl) (hr _ _ _ _ e25) (Nat.add_le_add_left (Nat.le_of_ble_eq_true rfl) dd) rfl (by rw [← e22]; rfl) (Nat.le_of_ble_eq_true rfl) zkv0 (zkx ?_)
        rcases zif H with ⟨c30, H⟩ | ⟨c30, H⟩
        · have c30 := c30
          obtain ⟨rfl, rfl⟩ := Prod.mk.inj (Option.some.inj H)
          exact zx_out (zkq c30 rfl) (fun _ hz => nomatch hz) rfl rfl
        cases H
  · refine zw_invV (pc := 167) (M' := M_X5_open) (A := []) [] dX5_factor_167 (Or.inl q1207) mf_X5_open ls_X5_open (zkq e4 rfl) (w_X5_open e5) (Nat.le_trans (show 14 ≤ 15 from Nat.le_of_ble_eq_true rfl) (Nat.le_trans hdd (Nat.le_add_right _ _))) rfl (by rw [← e2]; rfl) (Nat.le_of_ble_eq_true rfl) zkv0 (zkx ?_)
    rcases zif H with ⟨c31, H⟩ | ⟨c31, H⟩
    · have c31 := c31
      obtain ⟨rfl, rfl⟩ := Prod.mk.inj (Option.some.inj H)
      exact zx_out (zkq c31 rfl) (fun _ hz => nomatch hz) rfl rfl
    cases H
def B_X5_factor_135 (r : Option Nat → zH → Option ((Option Nat ⊕ Nat) × zH)) (a0 : Option Nat) (a1 : Int32) (a2 : Option Nat) (a3 : Int32) (h : zH) : Option ((Option Nat ⊕ Nat) × zH) :=
  (zrv 5 a2 h).bind fun b1 =>
  zb3 (f_X5_check (some b1) a3 (2 : Int32) h) (fun _ h7 =>
  (zgR 5 9 a0 h7).bind fun x10 =>
  (zrv 19 x10 h7).bind fun b12 =>
  (f_J4_equals (some b12) (some (zst h7 16)) h7).bind fun x17 =>
  (zgI 5 4 a0 h7).bind fun x18 =>
  if x18 = (2 : Int32) then
  (zgI 5 5 a0 h7).bind fun x21 =>
  B_X5_factor_165 r a0 a1 x17 x21 h7
  else
  B_X5_factor_165 r a0 a1 x17 (-1 : Int32) h7)
  (fun q8 h9 =>
  if zk h9 q8 = 6 then
  some (.inr q8, h9)
  else none)
theorem wB_X5_factor_135 {G : zG} {h0 h : zH} {vo : Option Nat ⊕ Nat} {vh : zH} {r : Option Nat → zH → Option ((Option Nat ⊕ Nat) × zH)} {dd : Nat} (hdd : 15 ≤ dd) (hr : ∀ (b0 : Option Nat) (h : zH) (vo : Option Nat ⊕ Nat) (vh : zH), r b0 h = some (vo, vh) → zMet G M_X5_factor dd [vR b0] h (zoR vo) vh) {a0 : Option Nat} {a1 : Int32} {a2 : Option Nat} {a3 : Int32} (H : B_X5_factor_135 r a0 a1 a2 a3 h = some (vo, vh)) : zW G M_X5_factor (dd + 3) h0 (zoR vo) vh 135 [(0, vR a0), (1, vI a1)] [vI a3, vR a2] h := by
  unfold B_X5_factor_135 at H
  refine zw_iconst (pc := 135) (v := (2 : Int32)) dX5_factor_135 (by decide) ?_
  obtain ⟨b1, e3, H⟩ := zbind H
  obtain ⟨e2, e4⟩ := zrv_ok e3
  rcases zbind3 H with ⟨x6, h7, e5, H⟩ | ⟨q8, h9, e5, H⟩
  · refine zw_invV (pc := 136) (M' := M_X5_check) (A := [vI a3, vI (2 : Int32)]) [] dX5_factor_136 (Or.inl q954) mf_X5_check ls_X5_check (zkq e4 rfl) (w_X5_check e5) (Nat.le_trans (show 6 ≤ 15 from Nat.le_of_ble_eq_true rfl) (Nat.le_trans hdd (Nat.le_add_right _ _))) rfl (by rw [← e2]; rfl) (Nat.le_of_ble_eq_true rfl) (zku ?_) zkn9
    refine zw_aload_n (pc := 139) dX5_factor_139 rfl 0 rfl ?_
    obtain ⟨x10, e11, H⟩ := zbind H
    refine zy_getR (pc := 140) dX5_factor_140 lf_X5_31 (fun _ _ => rfl) e11 ?_
    refine zw_ldcS (pc := 143) 16 dX5_factor_143 rfl ?_
    obtain ⟨b12, e14, H⟩ := zbind H
    obtain ⟨e13, e15⟩ := zrv_ok e14
    obtain ⟨x17, e16, H⟩ := zbind H
    refine zw_invV (pc := 145) (M' := M_J4_equals) (A := [vR (some (zst h7 16))]) [] dX5_factor_145 (Or.inl q946) mf_J4_equals q948 (zkq e15 rfl) (w_J4_equals e16) (Nat.le_trans (show 4 ≤ 15 from Nat.le_of_ble_eq_true rfl) (Nat.le_trans hdd (Nat.le_add_right _ _))) rfl (by rw [← e13]; rfl) (Nat.le_of_ble_eq_true rfl) (zkv ?_) zkn9
    refine zw_istore_n (pc := 148) (lv' := [(2, vI x17), (0, vR a0), (1, vI a1)]) dX5_factor_148 rfl (by decide) rfl ?_
    refine zw_aload_n (pc := 149) dX5_factor_149 rfl 1 rfl ?_
    obtain ⟨x18, e19, H⟩ := zbind H
    refine zy_getI (pc := 150) dX5_factor_150 lf_X5_49 (fun _ _ => rfl) e19 ?_
    refine zw_iconst (pc := 153) (v := (2 : Int32)) dX5_factor_153 (by decide) ?_
    rcases zif H with ⟨c20, H⟩ | ⟨c20, H⟩
    · refine zw_icmp_ne (pc := 154) (tgt := 164) dX5_factor_154 rfl (fun q => absurd c20 q) (fun _ => ?_)
      refine zw_aload_n (pc := 157) dX5_factor_157 rfl 1 rfl ?_
      obtain ⟨x21, e22, H⟩ := zbind H
      refine zy_getI (pc := 158) dX5_factor_158 lf_X5_67 (fun _ _ => rfl) e22 ?_
      refine zw_goto (pc := 161) (tgt := 165) dX5_factor_161 rfl ?_
      refine zW_pick (lv' := [(0, vR a0), (1, vI a1), (2, vI x17)]) [1, 2, 0] rfl ?_
      exact wB_X5_factor_165 hdd hr H
    · refine zw_icmp_ne (pc := 154) (tgt := 164) dX5_factor_154 rfl (fun _ => ?_) (fun q => absurd q c20)
      refine zw_iconst (pc := 164) (v := (-1 : Int32)) dX5_factor_164 (by decide) ?_
      refine zW_pick (lv' := [(0, vR a0), (1, vI a1), (2, vI x17)]) [1, 2, 0] rfl ?_
      exact wB_X5_factor_165 hdd hr H
  · refine zw_invV (pc := 136) (M' := M_X5_check) (A := [vI a3, vI (2 : Int32)]) [] dX5_factor_136 (Or.inl q954) mf_X5_check ls_X5_check (zkq e4 rfl) (w_X5_check e5) (Nat.le_trans (show 6 ≤ 15 from Nat.le_of_ble_eq_true rfl) (Nat.le_trans hdd (Nat.le_add_right _ _))) rfl (by rw [← e2]; rfl) (Nat.le_of_ble_eq_true rfl) zkv0 (zkx ?_)
    rcases zif H with ⟨c23, H⟩ | ⟨c23, H⟩
    · have c23 := c23
      obtain ⟨rfl, rfl⟩ := Prod.mk.inj (Option.some.inj H)
      exact zx_out (zkq c23 rfl) (fun _ hz => nomatch hz) rfl rfl
    cases H
def B_X5_factor_101 (r : Option Nat → zH → Option ((Option Nat ⊕ Nat) × zH)) (a0 : Option Nat) (a1 : Int32) (a2 : Option Nat) (a3 : Int32) (h : zH) : Option ((Option Nat ⊕ Nat) × zH) :=
  (zrv 5 a2 h).bind fun b1 =>
  zb3 (f_X5_check (some b1) a3 (1 : Int32) h) (fun _ h7 =>
  (zgI 5 4 a0 h7).bind fun x10 =>
  if x10 = (2 : Int32) then
  (zgI 5 10 a0 h7).bind fun x13 =>
  if x13 = 0 then
  (zgI 5 5 a0 h7).bind fun x16 =>
  if (99 : Int32) < x16 then
  B_X5_factor_135 r a0 a1 a0 (0 : Int32) h7
  else
  B_X5_factor_135 r a0 a1 a0 (1 : Int32) h7
  else
  B_X5_factor_135 r a0 a1 a0 (1 : Int32) h7
  else
  B_X5_factor_135 r a0 a1 a0 (1 : Int32) h7)
  (fun q8 h9 =>
  if zk h9 q8 = 6 then
  some (.inr q8, h9)
  else none)
theorem wB_X5_factor_101 {G : zG} {h0 h : zH} {vo : Option Nat ⊕ Nat} {vh : zH} {r : Option Nat → zH → Option ((Option Nat ⊕ Nat) × zH)} {dd : Nat} (hdd : 15 ≤ dd) (hr : ∀ (b0 : Option Nat) (h : zH) (vo : Option Nat ⊕ Nat) (vh : zH), r b0 h = some (vo, vh) → zMet G M_X5_factor dd [vR b0] h (zoR vo) vh) {a0 : Option Nat} {a1 : Int32} {a2 : Option Nat} {a3 : Int32} (H : B_X5_factor_101 r a0 a1 a2 a3 h = some (vo, vh)) : zW G M_X5_factor (dd + 3) h0 (zoR vo) vh 101 [(0, vR a0), (1, vI a1)] [vI a3, vR a2] h := by
  unfold B_X5_factor_101 at H
  refine zw_iconst (pc := 101) (v := (1 : Int32)) dX5_factor_101 (by decide) ?_
  obtain ⟨b1, e3, H⟩ := zbind H
  obtain ⟨e2, e4⟩ := zrv_ok e3
  rcases zbind3 H with ⟨x6, h7, e5, H⟩ | ⟨q8, h9, e5, H⟩
  · refine zw_invV (pc := 102) (M' := M_X5_check) (A := [vI a3, vI (1 : Int32)]) [] dX5_factor_102 (Or.inl q954) mf_X5_check ls_X5_check (zkq e4 rfl) (w_X5_check e5) (Nat.le_trans (show 6 ≤ 15 from Nat.le_of_ble_eq_true rfl) (Nat.le_trans hdd (Nat.le_add_right _ _))) rfl (by rw [← e2]; rfl) (Nat.le_of_ble_eq_true rfl) (zku ?_) zkn9
    refine zw_aload_n (pc := 105) dX5_factor_105 rfl 0 rfl ?_
    refine zw_aload_n (pc := 106) dX5_factor_106 rfl 0 rfl ?_
    obtain ⟨x10, e11, H⟩ := zbind H
    refine zy_getI (pc := 107) dX5_factor_107 lf_X5_49 (fun _ _ => rfl) e11 ?_
    refine zw_iconst (pc := 110) (v := (2 : Int32)) dX5_factor_110 (by decide) ?_
    rcases zif H with ⟨c12, H⟩ | ⟨c12, H⟩
    · refine zw_icmp_ne (pc := 111) (tgt := 130) dX5_factor_111 rfl (fun q => absurd c12 q) (fun _ => ?_)
      refine zw_aload_n (pc := 114) dX5_factor_114 rfl 0 rfl ?_
      obtain ⟨x13, e14, H⟩ := zbind H
      refine zy_getI (pc := 115) dX5_factor_115 lf_X5_113 (fun _ _ => rfl) e14 ?_
      rcases zif H with ⟨c15, H⟩ | ⟨c15, H⟩
      · refine zw_if_ne (pc := 118) (tgt := 130) dX5_factor_118 rfl (fun q => absurd c15 q) (fun _ => ?_)
        refine zw_aload_n (pc := 121) dX5_factor_121 rfl 0 rfl ?_
        obtain ⟨x16, e17, H⟩ := zbind H
        refine zy_getI (pc := 122) dX5_factor_122 lf_X5_67 (fun _ _ => rfl) e17 ?_
        refine zw_bipush (pc := 125) (v := (99 : Int32)) dX5_factor_125 (by decide) ?_
        rcases zif H with ⟨c18, H⟩ | ⟨c18, H⟩
        · refine zw_icmp_gt (pc := 127) (tgt := 134) dX5_factor_127 rfl (fun _ => ?_) (fun q => absurd c18 q)
          refine zw_iconst (pc := 134) (v := (0 : Int32)) dX5_factor_134 (by decide) ?_
          refine zW_pick (lv' := [(0, vR a0), (1, vI a1)]) [0, 1] rfl ?_
          exact wB_X5_factor_135 hdd hr H
        · refine zw_icmp_gt (pc := 127) (tgt := 134) dX5_factor_127 rfl (fun q => absurd q c18) (fun _ => ?_)
          refine zw_iconst (pc := 130) (v := (1 : Int32)) dX5_factor_130 (by decide) ?_
          refine zw_goto (pc := 131) (tgt := 135) dX5_factor_131 rfl ?_
          refine zW_pick (lv' := [(0, vR a0), (1, vI a1)]) [0, 1] rfl ?_
          exact wB_X5_factor_135 hdd hr H
      · refine zw_if_ne (pc := 118) (tgt := 130) dX5_factor_118 rfl (fun _ => ?_) (fun q => absurd q c15)
        refine zw_iconst (pc := 130) (v := (1 : Int32)) dX5_factor_130 (by decide) ?_
        refine zw_goto (pc := 131) (tgt := 135) dX5_factor_131 rfl ?_
        refine zW_pick (lv' := [(0, vR a0), (1, vI a1)]) [0, 1] rfl ?_
        exact wB_X5_factor_135 hdd hr H
    · refine zw_icmp_ne (pc := 111) (tgt := 130) dX5_factor_111 rfl (fun _ => ?_) (fun q => absurd q c12)
      refine zw_iconst (pc := 130) (v := (1 : Int32)) dX5_factor_130 (by decide) ?_
      refine zw_goto (pc := 131) (tgt := 135) dX5_factor_131 rfl ?_
      refine zW_pick (lv' := [(0, vR a0), (1, vI a1)]) [0, 1] rfl ?_
      exact wB_X5_factor_135 hdd hr H
  · refine zw_invV (pc := 102) (M' := M_X5_check) (A := [vI a3, vI (1 : Int32)]) [] dX5_factor_102 (Or.inl q954) mf_X5_check ls_X5_check (zkq e4 rfl) (w_X5_check e5) (Nat.le_trans (show 6 ≤ 15 from Nat.le_of_ble_eq_true rfl) (Nat.le_trans hdd (Nat.le_add_right _ _))) rfl (by rw [← e2]; rfl) (Nat.le_of_ble_eq_true rfl) zkv0 (zkx ?_)
    rcases zif H with ⟨c19, H⟩ | ⟨c19, H⟩
    · have c19 := c19
      obtain ⟨rfl, rfl⟩ := Prod.mk.inj (Option.some.inj H)
      exact zx_out (zkq c19 rfl) (fun _ hz => nomatch hz) rfl rfl
    cases H
def B_X5_factor_81 (r : Option Nat → zH → Option ((Option Nat ⊕ Nat) × zH)) (a0 : Option Nat) (a1 : Int32) (h : zH) : Option ((Option Nat ⊕ Nat) × zH) :=
  if a1 = 0 then
  (zrv 5 a0 h).bind fun b2 =>
  (f_X5_isSign (some b2) (40 : Int32) h).bind fun x7 =>
  if x7 = 0 then
  B_X5_factor_101 r a0 a1 a0 (0 : Int32) h
  else
  B_X5_factor_101 r a0 a1 a0 (1 : Int32) h
  else
  B_X5_factor_101 r a0 a1 a0 (1 : Int32) h
theorem wB_X5_factor_81 {G : zG} {h0 h : zH} {vo : Option Nat ⊕ Nat} {vh : zH} {r : Option Nat → zH → Option ((Option Nat ⊕ Nat) × zH)} {dd : Nat} (hdd : 15 ≤ dd) (hr : ∀ (b0 : Option Nat) (h : zH) (vo : Option Nat ⊕ Nat) (vh : zH), r b0 h = some (vo, vh) → zMet G M_X5_factor dd [vR b0] h (zoR vo) vh) {a0 : Option Nat} {a1 : Int32} (H : B_X5_factor_81 r a0 a1 h = some (vo, vh)) : zW G M_X5_factor (dd + 3) h0 (zoR vo) vh 81 [(0, vR a0)] [vI a1] h := by
  unfold B_X5_factor_81 at H
  refine zw_istore_n (pc := 81) (lv' := [(1, vI a1), (0, vR a0)]) dX5_factor_81 rfl (by decide) rfl ?_
  refine zw_aload_n (pc := 82) dX5_factor_82 rfl 1 rfl ?_
  refine zw_iload_n (pc := 83) dX5_factor_83 rfl 0 rfl ?_
  rcases zif H with ⟨c1, H⟩ | ⟨c1, H⟩
  · refine zw_if_ne (pc := 84) (tgt := 96) dX5_factor_84 rfl (fun q => absurd c1 q) (fun _ => ?_)
    refine zw_aload_n (pc := 87) dX5_factor_87 rfl 1 rfl ?_
    refine zw_bipush (pc := 88) (v := (40 : Int32)) dX5_factor_88 (by decide) ?_
    obtain ⟨b2, e4, H⟩ := zbind H
    obtain ⟨e3, e5⟩ := zrv_ok e4
    obtain ⟨x7, e6, H⟩ := zbind H
    refine zw_invV (pc := 90) (M' := M_X5_isSign) (A := [vI (40 : Int32)]) [vR a0] dX5_factor_90 (Or.inl q985) mf_X5_isSign ls_X5_isSign (zkq e5 rfl) (w_X5_isSign e6) (Nat.le_trans (show 3 ≤ 15 from Nat.le_of_ble_eq_true rfl) (Nat.le_trans hdd (Nat.le_add_right _ _))) rfl (by rw [← e3]; rfl) (Nat.le_of_ble_eq_true rfl) (zkv ?_) zkn9
    rcases zif H with ⟨c8, H⟩ | ⟨c8, H⟩
    · refine zw_if_eq (pc := 93) (tgt := 100) dX5_factor_93 rfl (fun _ => ?_) (fun q => absurd c8 q)
      refine zw_iconst (pc := 100) (v := (0 : Int32)) dX5_factor_100 (by decide) ?_
      refine zW_pick (lv' := [(0, vR a0), (1, vI a1)]) [1, 0] rfl ?_
      exact wB_X5_factor_101 hdd hr H
    · refine zw_if_eq (pc := 93) (tgt := 100) dX5_factor_93 rfl (fun q => absurd q c8) (fun _ => ?_)
      refine zw_iconst (pc := 96) (v := (1 : Int32)) dX5_factor_96 (by decide) ?_
      refine zw_goto (pc := 97) (tgt := 101) dX5_factor_97 rfl ?_
      refine zW_pick (lv' := [(0, vR a0), (1, vI a1)]) [1, 0] rfl ?_
      exact wB_X5_factor_101 hdd hr H
  · refine zw_if_ne (pc := 84) (tgt := 96) dX5_factor_84 rfl (fun _ => ?_) (fun q => absurd q c1)
    refine zw_iconst (pc := 96) (v := (1 : Int32)) dX5_factor_96 (by decide) ?_
    refine zw_goto (pc := 97) (tgt := 101) dX5_factor_97 rfl ?_
    refine zW_pick (lv' := [(0, vR a0), (1, vI a1)]) [1, 0] rfl ?_
    exact wB_X5_factor_101 hdd hr H
def g_X5_factor (r : Option Nat → zH → Option ((Option Nat ⊕ Nat) × zH)) (p0 : Option Nat) (h : zH) : Option ((Option Nat ⊕ Nat) × zH) :=
  (zrv 5 p0 h).bind fun b1 =>
  (f_X5_registerHere (some b1) h).bind fun x6 =>
  if x6 = (-1 : Int32) then
  (zrv 5 p0 h).bind fun b8 =>
  zb2 (f_X5_skips (some b8) (some (zst h 15)) h) fun x14 h13 =>
  if x14 = 0 then
  (zgI 5 4 p0 h13).bind fun x16 =>
  if x16 = (2 : Int32) then
  B_X5_factor_81 r p0 (1 : Int32) h13
  else
  (zgR 5 9 p0 h13).bind fun x19 =>
  (zrv 19 x19 h13).bind fun b21 =>
  (f_J4_equals (some b21) (some (zst h13 16)) h13).bind fun x26 =>
  if x26 = 0 then
  (zgR 5 9 p0 h13).bind fun x28 =>
  (zrv 19 x28 h13).bind fun b30 =>
  (f_J4_equals (some b30) (some (zst h13 17)) h13).bind fun x35 =>
  if x35 = 0 then
  B_X5_factor_81 r p0 (0 : Int32) h13
  else
  B_X5_factor_81 r p0 (1 : Int32) h13
  else
  B_X5_factor_81 r p0 (1 : Int32) h13
  else
  zb2 (znw 11 h13) fun q37 h38 =>
  (zrv 5 p0 h38).bind fun b40 =>
  zb3 (f_X5_ranged (some b40) (1 : Int32) (12 : Int32) h38) (fun x45 h46 =>
  (some q37).bind fun b49 =>
  (f_X11_init (some b49) x45 h46).bind fun h52 =>
  some (.inl (some q37), h52))
  (fun q47 h48 =>
  if zk h48 q47 = 6 then
  some (.inr q47, h48)
  else none)
  else
  zb2 (znw 10 h) fun q54 h55 =>
  (zrv 5 p0 h55).bind fun b57 =>
  zb3 (f_X5_register (some b57) h55) (fun x62 h63 =>
  (some q54).bind fun b66 =>
  (f_X10_init (some b66) x62 h63).bind fun h69 =>
  some (.inl (some q54), h69))
  (fun q64 h65 =>
  if zk h65 q64 = 6 then
  some (.inr q64, h65)
  else none)
theorem w_g_X5_factor {G : zG} {r : Option Nat → zH → Option ((Option Nat ⊕ Nat) × zH)} {dd : Nat} (hdd : 15 ≤ dd) (hr : ∀ (b0 : Option Nat) (h : zH) (vo : Option Nat ⊕ Nat) (vh : zH), r b0 h = some (vo, vh) → zMet G M_X5_factor dd [vR b0] h (zoR vo) vh) {p0 : Option Nat} {h : zH} {vo : Option Nat ⊕ Nat} {vh : zH} (H : g_X5_factor r p0 h = some (vo, vh)) : zMet G M_X5_factor (dd + 3) [vR p0] h (zoR vo) vh := by
  refine zMet.of (by decide +kernel) (Nat.le_of_ble_eq_true rfl) ?_
  show zW G M_X5_factor (dd + 3) h (zoR vo) vh 0 [(0, vR p0)] [] h
  unfold g_X5_factor at H
  refine zw_aload_n (pc := 0) dX5_factor_0 rfl 0 rfl ?_
  obtain ⟨b1, e3, H⟩ := zbind H
  obtain ⟨e2, e4⟩ := zrv_ok e3
  obtain ⟨x6, e5, H⟩ := zbind H
  refine zw_invV (pc := 1) (M' := M_X5_registerHere) (A := []) [] dX5_factor_1 (Or.inl q1067) mf_X5_registerHere ls_X5_registerHere (zkq e4 rfl) (w_X5_registerHere e5) (Nat.le_trans (show 7 ≤ 15 from Nat.le_of_ble_eq_true rfl) (Nat.le_trans hdd (Nat.le_add_right _ _))) rfl (by rw [← e2]; rfl) (Nat.le_of_ble_eq_true rfl) (zkv ?_) zkn9
  refine zw_iconst (pc := 4) (v := (-1 : Int32)) dX5_factor_4 (by decide) ?_
  rcases zif H with ⟨c7, H⟩ | ⟨c7, H⟩
  · refine zw_icmp_eq (pc := 5) (tgt := 20) dX5_factor_5 rfl (fun _ => ?_) (fun q => absurd c7 q)
    refine zw_aload_n (pc := 20) dX5_factor_20 rfl 0 rfl ?_
    refine zw_ldcS (pc := 21) 15 dX5_factor_21 rfl ?_
    obtain ⟨b8, e10, H⟩ := zbind H
    obtain ⟨e9, e11⟩ := zrv_ok e10
    obtain ⟨x14, h13, e12, H⟩ := zbind2 H
    refine zw_invV (pc := 23) (M' := M_X5_skips) (A := [vR (some (zst h 15))]) [] dX5_factor_23 (Or.inl q1098) mf_X5_skips ls_X5_skips (zkq e11 rfl) (w_X5_skips e12) (Nat.le_trans (show 14 ≤ 15 from Nat.le_of_ble_eq_true rfl) (Nat.le_trans hdd (Nat.le_add_right _ _))) rfl (by rw [← e9]; rfl) (Nat.le_of_ble_eq_true rfl) (zkv ?_) zkn9
    rcases zif H with ⟨c15, H⟩ | ⟨c15, H⟩
    · refine zw_if_eq (pc := 26) (tgt := 44) dX5_factor_26 rfl (fun _ => ?_) (fun q => absurd c15 q)
      refine zw_aload_n (pc := 44) dX5_factor_44 rfl 0 rfl ?_
      obtain ⟨x16, e17, H⟩ := zbind H
      refine zy_getI (pc := 45) dX5_factor_45 lf_X5_49 (fun _ _ => rfl) e17 ?_
      refine zw_iconst (pc := 48) (v := (2 : Int32)) dX5_factor_48 (by decide) ?_
      rcases zif H with ⟨c18, H⟩ | ⟨c18, H⟩
      · refine zw_icmp_eq (pc := 49) (tgt := 76) dX5_factor_49 rfl (fun _ => ?_) (fun q => absurd c18 q)
        refine zw_iconst (pc := 76) (v := (1 : Int32)) dX5_factor_76 (by decide) ?_
        refine zw_goto (pc := 77) (tgt := 81) dX5_factor_77 rfl ?_
        refine zW_pick (lv' := [(0, vR p0)]) [0] rfl ?_
        exact wB_X5_factor_81 hdd hr H
      · refine zw_icmp_eq (pc := 49) (tgt := 76) dX5_factor_49 rfl (fun q => absurd q c18) (fun _ => ?_)
        refine zw_aload_n (pc := 52) dX5_factor_52 rfl 0 rfl ?_
        obtain ⟨x19, e20, H⟩ := zbind H
        refine zy_getR (pc := 53) dX5_factor_53 lf_X5_31 (fun _ _ => rfl) e20 ?_
        refine zw_ldcS (pc := 56) 16 dX5_factor_56 rfl ?_
        obtain ⟨b21, e23, H⟩ := zbind H
        obtain ⟨e22, e24⟩ := zrv_ok e23
        obtain ⟨x26, e25, H⟩ := zbind H
        refine zw_invV (pc := 58) (M' := M_J4_equals) (A := [vR (some (zst h13 16))]) [] dX5_factor_58 (Or.inl q946) mf_J4_equals q948 (zkq e24 rfl) (w_J4_equals e25) (Nat.le_trans (show 4 ≤ 15 from Nat.le_of_ble_eq_true rfl) (Nat.le_trans hdd (Nat.le_add_right _ _))) rfl (by rw [← e22]; rfl) (Nat.le_of_ble_eq_true rfl) (zkv ?_) zkn9
        rcases zif H with ⟨c27, H⟩ | ⟨c27, H⟩
        · refine zw_if_ne (pc := 61) (tgt := 76) dX5_factor_61 rfl (fun q => absurd c27 q) (fun _ => ?_)
          refine zw_aload_n (pc := 64) dX5_factor_64 rfl 0 rfl ?_
          obtain ⟨x28, e29, H⟩ := zbind H
          refine zy_getR (pc := 65) dX5_factor_65 lf_X5_31 (fun _ _ => rfl) e29 ?_
          refine zw_ldcS (pc := 68) 17 dX5_factor_68 rfl ?_
          obtain ⟨b30, e32, H⟩ := zbind H
          obtain ⟨e31, e33⟩ := zrv_ok e32
          obtain ⟨x35, e34, H⟩ := zbind H
          refine zw_invV (pc := 70) (M' := M_J4_equals) (A := [vR (some (zst h13 17))]) [] dX5_factor_70 (Or.inl q946) mf_J4_equals q948 (zkq e33 rfl) (w_J4_equals e34) (Nat.le_trans (show 4 ≤ 15 from Nat.le_of_ble_eq_true rfl) (Nat.le_trans hdd (Nat.le_add_right _ _))) rfl (by rw [← e31]; rfl) (Nat.le_of_ble_eq_true rfl) (zkv ?_) zkn9
          rcases zif H with ⟨c36, H⟩ | ⟨c36, H⟩
          · refine zw_if_eq (pc := 73) (tgt := 80) dX5_factor_73 rfl (fun _ => ?_) (fun q => absurd c36 q)
            refine zw_iconst (pc := 80) (v := (0 : Int32)) dX5_factor_80 (by decide) ?_
            refine zW_pick (lv' := [(0, vR p0)]) [0] rfl ?_
            exact wB_X5_factor_81 hdd hr H
          · refine zw_if_eq (pc := 73) (tgt := 80) dX5_factor_73 rfl (fun q => absurd q c36) (fun _ => ?_)
            refine zw_iconst (pc := 76) (v := (1 : Int32)) dX5_factor_76 (by decide) ?_
            refine zw_goto (pc := 77) (tgt := 81) dX5_factor_77 rfl ?_
            refine zW_pick (lv' := [(0, vR p0)]) [0] rfl ?_
            exact wB_X5_factor_81 hdd hr H
        · refine zw_if_ne (pc := 61) (tgt := 76) dX5_factor_61 rfl (fun _ => ?_) (fun q => absurd q c27)
          refine zw_iconst (pc := 76) (v := (1 : Int32)) dX5_factor_76 (by decide) ?_
          refine zw_goto (pc := 77) (tgt := 81) dX5_factor_77 rfl ?_
          refine zW_pick (lv' := [(0, vR p0)]) [0] rfl ?_
          exact wB_X5_factor_81 hdd hr H
    · refine zw_if_eq (pc := 26) (tgt := 44) dX5_factor_26 rfl (fun q => absurd q c15) (fun _ => ?_)
      obtain ⟨q37, h38, e39, H⟩ := zbind2 H
      refine zy_new (pc := 29) dX5_factor_29 ln_X5_180 e39 ?_
      refine zw_dup (pc := 32) dX5_factor_32 rfl ?_
      refine zw_aload_n (pc := 33) dX5_factor_33 rfl 0 rfl ?_
      refine zw_iconst (pc := 34) (v := (1 : Int32)) dX5_factor_34 (by decide) ?_
      refine zw_bipush (pc := 35) (v := (12 : Int32)) dX5_factor_35 (by decide) ?_
      obtain ⟨b40, e42, H⟩ := zbind H
      obtain ⟨e41, e43⟩ := zrv_ok e42
      rcases zbind3 H with ⟨x45, h46, e44, H⟩ | ⟨q47, h48, e44, H⟩
      · refine zw_invV (pc := 37) (M' := M_X5_ranged) (A := [vI (1 : Int32), vI (12 : Int32)]) [vR (some q37), vR (some q37)] dX5_factor_37 (Or.inl q1192) mf_X5_ranged ls_X5_ranged (zkq e43 rfl) (w_X5_ranged e44) (Nat.le_trans (show 15 ≤ 15 from Nat.le_of_ble_eq_true rfl) (Nat.le_trans hdd (Nat.le_add_right _ _))) rfl (by rw [← e41]; rfl) (Nat.le_of_ble_eq_true rfl) (zkv ?_) zkn9
        obtain ⟨b49, e50, H⟩ := zbind H
        obtain ⟨h52, e51, H⟩ := zbind H
        refine zw_invI (pc := 40) (M' := M_X11_init) (A := [vI x45]) [vR (some q37)] dX5_factor_40 (Or.inl q1196) mf_X11_init rfl rfl (w_X11_init e51) (Nat.le_trans (show 3 ≤ 15 from Nat.le_of_ble_eq_true rfl) (Nat.le_trans hdd (Nat.le_add_right _ _))) rfl (by rw [← e50]; rfl) (Nat.le_of_ble_eq_true rfl) (zku ?_) zkn9
        obtain ⟨rfl, rfl⟩ := Prod.mk.inj (Option.some.inj H)
        exact zw_aret (pc := 43) dX5_factor_43 rfl (Or.inl ⟨_, rfl⟩) rfl rfl
      · refine zw_invV (pc := 37) (M' := M_X5_ranged) (A := [vI (1 : Int32), vI (12 : Int32)]) [vR (some q37), vR (some q37)] dX5_factor_37 (Or.inl q1192) mf_X5_ranged ls_X5_ranged (zkq e43 rfl) (w_X5_ranged e44) (Nat.le_trans (show 15 ≤ 15 from Nat.le_of_ble_eq_true rfl) (Nat.le_trans hdd (Nat.le_add_right _ _))) rfl (by rw [← e41]; rfl) (Nat.le_of_ble_eq_true rfl) zkv0 (zkx ?_)
        rcases zif H with ⟨c53, H⟩ | ⟨c53, H⟩
        · have c53 := c53
          obtain ⟨rfl, rfl⟩ := Prod.mk.inj (Option.some.inj H)
          exact zx_out (zkq c53 rfl) (fun _ hz => nomatch hz) rfl rfl
        cases H
  · refine zw_icmp_eq (pc := 5) (tgt := 20) dX5_factor_5 rfl (fun q => absurd q c7) (fun _ => ?_)
    obtain ⟨q54, h55, e56, H⟩ := zbind2 H
    refine zy_new (pc := 8) dX5_factor_8 ln_X5_170 e56 ?_
    refine zw_dup (pc := 11) dX5_factor_11 rfl ?_
    refine zw_aload_n (pc := 12) dX5_factor_12 rfl 0 rfl ?_
    obtain ⟨b57, e59, H⟩ := zbind H
    obtain ⟨e58, e60⟩ := zrv_ok e59
    rcases zbind3 H with ⟨x62, h63, e61, H⟩ | ⟨q64, h65, e61, H⟩
    · refine zw_invV (pc := 13) (M' := M_X5_register) (A := []) [vR (some q54), vR (some q54)] dX5_factor_13 (Or.inl q1063) mf_X5_register ls_X5_register (zkq e60 rfl) (w_X5_register e61) (Nat.le_trans (show 14 ≤ 15 from Nat.le_of_ble_eq_true rfl) (Nat.le_trans hdd (Nat.le_add_right _ _))) rfl (by rw [← e58]; rfl) (Nat.le_of_ble_eq_true rfl) (zkv ?_) zkn9
      obtain ⟨b66, e67, H⟩ := zbind H
      obtain ⟨h69, e68, H⟩ := zbind H
      refine zw_invI (pc := 16) (M' := M_X10_init) (A := [vI x62]) [vR (some q54)] dX5_factor_16 (Or.inl q1180) mf_X10_init rfl rfl (w_X10_init e68) (Nat.le_trans (show 3 ≤ 15 from Nat.le_of_ble_eq_true rfl) (Nat.le_trans hdd (Nat.le_add_right _ _))) rfl (by rw [← e67]; rfl) (Nat.le_of_ble_eq_true rfl) (zku ?_) zkn9
      obtain ⟨rfl, rfl⟩ := Prod.mk.inj (Option.some.inj H)
      exact zw_aret (pc := 19) dX5_factor_19 rfl (Or.inl ⟨_, rfl⟩) rfl rfl
    · refine zw_invV (pc := 13) (M' := M_X5_register) (A := []) [vR (some q54), vR (some q54)] dX5_factor_13 (Or.inl q1063) mf_X5_register ls_X5_register (zkq e60 rfl) (w_X5_register e61) (Nat.le_trans (show 14 ≤ 15 from Nat.le_of_ble_eq_true rfl) (Nat.le_trans hdd (Nat.le_add_right _ _))) rfl (by rw [← e58]; rfl) (Nat.le_of_ble_eq_true rfl) zkv0 (zkx ?_)
      rcases zif H with ⟨c70, H⟩ | ⟨c70, H⟩
      · have c70 := c70
        obtain ⟨rfl, rfl⟩ := Prod.mk.inj (Option.some.inj H)
        exact zx_out (zkq c70 rfl) (fun _ hz => nomatch hz) rfl rfl
      cases H
def f_X5_factor (p0 : Option Nat) (h : zH) : Option ((Option Nat ⊕ Nat) × zH) := zloop g_X5_factor (fun _ _ => none) zFR p0 h
theorem w_X5_factor {G : zG} {p0 : Option Nat} {h : zH} {vo : Option Nat ⊕ Nat} {vh : zH} (H : f_X5_factor p0 h = some (vo, vh)) : zMet G M_X5_factor 207 [vR p0] h (zoR vo) vh :=
  zloopD (body := g_X5_factor) (bot := fun _ _ => none) (P := fun n f => ∀ (b0 : Option Nat) (h : zH) (vo : Option Nat ⊕ Nat) (vh : zH), f b0 h = some (vo, vh) → zMet G M_X5_factor (15 + 3 * n) [vR b0] h (zoR vo) vh) zFR (fun _ _ _ _ H => nomatch H) (fun n f hf c0 c1 c2 c3 H => (w_g_X5_factor (dd := 15 + 3 * n) (Nat.le_add_right _ _) hf H)) _ _ _ _ H
def f_X5_term (p0 : Option Nat) (h : zH) : Option ((Option Nat ⊕ Nat) × zH) := g_X5_term f_X5_factor p0 h
theorem w_X5_term {G : zG} {p0 : Option Nat} {h : zH} {vo : Option Nat ⊕ Nat} {vh : zH} (H : f_X5_term p0 h = some (vo, vh)) : zMet G M_X5_term 208 [vR p0] h (zoR vo) vh := w_g_X5_term (dd := 207) (Nat.le_of_ble_eq_true rfl) (fun _ _ _ _ H => w_X5_factor H) H
def f_X5_expression (p0 : Option Nat) (h : zH) : Option ((Option Nat ⊕ Nat) × zH) := g_X5_expression f_X5_factor p0 h
theorem w_X5_expression {G : zG} {p0 : Option Nat} {h : zH} {vo : Option Nat ⊕ Nat} {vh : zH} (H : f_X5_expression p0 h = some (vo, vh)) : zMet G M_X5_expression 209 [vR p0] h (zoR vo) vh := w_g_X5_expression (dd := 207) (Nat.le_of_ble_eq_true rfl) (fun _ _ _ _ H => w_X5_factor H) H
theorem lf_X5_26 : zFl "CsrCalculator$Reader" 26 5 1 := ⟨_, "CsrCalculator$Reader", by decide, rfl, by decide, Or.inl q638, Or.inl rfl⟩
theorem lf_X5_221 : zFl "CsrCalculator$Reader" 221 2 0 := ⟨_, "CsrCalculator$World", by decide, rfl, by decide, Or.inr (by decide +kernel), Or.inl rfl⟩
theorem ln_X5_234 : zCl "CsrCalculator$Reader" 234 3 := ⟨_, by decide, by decide, rfl, q1091, q238, q182⟩
theorem lf_X5_241 : zFl "CsrCalculator$Reader" 241 3 0 := ⟨_, "CsrCalculator$Csr", by decide, rfl, by decide, Or.inr (by decide +kernel), Or.inl rfl⟩
theorem lf_X5_244 : zFl "CsrCalculator$Reader" 244 3 1 := ⟨_, "CsrCalculator$Csr", by decide, rfl, by decide, Or.inr (by decide +kernel), Or.inl rfl⟩
def M_X5_statement : zM := (yX5_statement, cX5_statement, 11, none, [(19, 296, 299, 259)])
theorem mf_X5_statement : zMi M_X5_statement 1 := ⟨⟨q1061, q195, ⟨by decide +kernel, by decide +kernel⟩, by decide +kernel, by decide⟩, q1060⟩
def B_X5_statement_241 (a0 : Option Nat) (a1 : Option Nat) (a2 : Int32) (a3 : Option Nat) (a4 : Int32) (a5 : Int32) (a6 : Int32) (h : zH) : Option ((Unit ⊕ Nat) × zH) :=
  (zrv 3 a3 h).bind fun b1 =>
  zb3 (f_X3_with (some b1) a4 a5 a6 h) (fun x6 h7 =>
  (zrv 2 a1 h7).bind fun b10 =>
  zb2 (f_X2_put (some b10) a2 x6 h7) fun x16 h15 =>
  some (.inl (), h15))
  (fun q8 h9 =>
  if zk h9 q8 = 7 then
  zb2 (znw 6 h9) fun q18 h19 =>
  (zgI 5 2 a0 h19).bind fun x21 =>
  (some q18).bind fun b23 =>
  (f_X6_init (some b23) (5 : Int32) x21 h19).bind fun h26 =>
  (some q18).bind fun q27 =>
  if zk h26 q27 = 6 then
  some (.inr q27, h26)
  else none
  else none)
theorem wB_X5_statement_241 {G : zG} {h0 h : zH} {vo : Unit ⊕ Nat} {vh : zH} {a0 : Option Nat} {a1 : Option Nat} {a2 : Int32} {a3 : Option Nat} {a4 : Int32} {a5 : Int32} {a6 : Int32} (H : B_X5_statement_241 a0 a1 a2 a3 a4 a5 a6 h = some (vo, vh)) : zW G M_X5_statement 210 h0 (zoU vo) vh 241 [(0, vR a0)] [vI a6, vI a5, vI a4, vR a3, vI a2, vR a1] h := by
  unfold B_X5_statement_241 at H
  obtain ⟨b1, e3, H⟩ := zbind H
  obtain ⟨e2, e4⟩ := zrv_ok e3
  rcases zbind3 H with ⟨x6, h7, e5, H⟩ | ⟨q8, h9, e5, H⟩
  · refine zw_invV (pc := 241) (M' := M_X3_with) (A := [vI a4, vI a5, vI a6]) [vI a2, vR a1] dX5_statement_241 (Or.inl q1102) mf_X3_with q1104 (zkq e4 rfl) (w_X3_with e5) (Nat.le_of_ble_eq_true rfl) rfl (by rw [← e2]; rfl) (Nat.le_of_ble_eq_true rfl) (zkv ?_) zkn9
    obtain ⟨b10, e12, H⟩ := zbind H
    obtain ⟨e11, e13⟩ := zrv_ok e12
    obtain ⟨x16, h15, e14, H⟩ := zbind2 H
    refine zw_invV (pc := 244) (M' := M_X2_put) (A := [vI a2, vR x6]) [] dX5_statement_244 (Or.inl q1093) mf_X2_put q1095 (zkq e13 rfl) (w_X2_put e14) (Nat.le_of_ble_eq_true rfl) rfl (by rw [← e11]; rfl) (Nat.le_of_ble_eq_true rfl) (zkv ?_) zkn9
    refine zw_istore (pc := 247) (lv' := [(10, vI x16), (0, vR a0)]) dX5_statement_247 (by decide) rfl ?_
    refine zw_goto (pc := 249) (tgt := 296) dX5_statement_249 rfl ?_
    refine zw_goto (pc := 296) (tgt := 314) dX5_statement_296 rfl ?_
    obtain ⟨rfl, rfl⟩ := Prod.mk.inj (Option.some.inj H)
    exact zw_vret (pc := 314) dX5_statement_314 rfl rfl rfl
  · refine zw_invV (pc := 241) (M' := M_X3_with) (A := [vI a4, vI a5, vI a6]) [vI a2, vR a1] dX5_statement_241 (Or.inl q1102) mf_X3_with q1104 (zkq e4 rfl) (w_X3_with e5) (Nat.le_of_ble_eq_true rfl) rfl (by rw [← e2]; rfl) (Nat.le_of_ble_eq_true rfl) zkv0 (zkx ?_)
    rcases zif H with ⟨c17, H⟩ | ⟨c17, H⟩
    · have c17 := c17
      refine zx_catch [] ⟨19, 296, 299, 259⟩ [] (zkq c17 rfl) rfl (fun _ hz => nomatch hz) rfl (by decide) q1062 (by decide +kernel) ?_
      refine zw_astore (pc := 299) (lv' := [(4, vR (some q8)), (0, vR a0)]) dX5_statement_299 (by decide) rfl ?_
      obtain ⟨q18, h19, e20, H⟩ := zbind2 H
      refine zy_new (pc := 301) dX5_statement_301 ln_X5_91 e20 ?_
      refine zw_dup (pc := 304) dX5_statement_304 rfl ?_
      refine zw_iconst (pc := 305) (v := (5 : Int32)) dX5_statement_305 (by decide) ?_
      refine zw_aload_n (pc := 306) dX5_statement_306 rfl 1 rfl ?_
      obtain ⟨x21, e22, H⟩ := zbind H
      refine zy_getI (pc := 307) dX5_statement_307 lf_X5_46 (fun _ _ => rfl) e22 ?_
      obtain ⟨b23, e24, H⟩ := zbind H
      obtain ⟨h26, e25, H⟩ := zbind H
      refine zw_invI (pc := 310) (M' := M_X6_init) (A := [vI (5 : Int32), vI x21]) [vR (some q18)] dX5_statement_310 (Or.inl q967) mf_X6_init rfl rfl (w_X6_init e25) (Nat.le_of_ble_eq_true rfl) rfl (by rw [← e24]; rfl) (Nat.le_of_ble_eq_true rfl) (zku ?_) zkn9
      obtain ⟨q27, e28, H⟩ := zbind H
      refine zy_athrow (pc := 313) dX5_statement_313 e28 ?_
      rcases zif H with ⟨c29, H⟩ | ⟨c29, H⟩
      · have c29 := c29
        obtain ⟨rfl, rfl⟩ := Prod.mk.inj (Option.some.inj H)
        exact zx_out (zkq c29 rfl) (List.forall_mem_cons.mpr ⟨Or.inl rfl, (fun _ hz => nomatch hz)⟩) rfl rfl
      cases H
    cases H
def B_X5_statement_109 (a0 : Option Nat) (a1 : Int32) (a2 : Option Nat) (a3 : Int32) (h : zH) : Option ((Unit ⊕ Nat) × zH) :=
  if a3 = (0 : Int32) then
  (zrv 5 a0 h).bind fun b2 =>
  zb3 (f_X5_number (some b2) (1 : Int32) (12 : Int32) h) (fun x7 h8 =>
  (zgR 5 1 a0 h8).bind fun x11 =>
  zb2 (znw 3 h8) fun q13 h14 =>
  (zrv 5 a0 h14).bind fun b16 =>
  zb3 (f_X5_number (some b16) (1 : Int32) (12 : Int32) h14) (fun x21 h22 =>
  (some q13).bind fun b25 =>
  (f_X3_init (some b25) x7 x21 h22).bind fun h28 =>
  (zrv 2 x11 h28).bind fun b29 =>
  zb2 (f_X2_put (some b29) a1 (some q13) h28) fun x35 h34 =>
  some (.inl (), h34))
  (fun q23 h24 =>
  if zk h24 q23 = 6 then
  some (.inr q23, h24)
  else none))
  (fun q9 h10 =>
  if zk h10 q9 = 6 then
  some (.inr q9, h10)
  else none)
  else
  if a3 = (1 : Int32) then
  (zgI 3 0 a2 h).bind fun x39 =>
  (zrv 5 a0 h).bind fun b41 =>
  zb3 (f_X5_number (some b41) (0 : Int32) (x39 - (1 : Int32)) h) (fun x46 h47 =>
  (zgI 3 1 a2 h47).bind fun x50 =>
  (zrv 5 a0 h47).bind fun b52 =>
  zb3 (f_X5_number (some b52) (0 : Int32) (x50 - (1 : Int32)) h47) (fun x57 h58 =>
  (zrv 5 a0 h58).bind fun b61 =>
  zb2 (f_X5_skips (some b61) (some (zst h58 14)) h58) fun x67 h66 =>
  (zrv 5 a0 h66).bind fun b68 =>
  zb3 (f_X5_number (some b68) (0 : Int32) (9999 : Int32) h66) (fun x73 h74 =>
  (zgR 5 1 a0 h74).bind fun x77 =>
  if x67 = 0 then
  B_X5_statement_241 a0 x77 a1 a2 x46 x57 x73 h74
  else
  B_X5_statement_241 a0 x77 a1 a2 x46 x57 (-x73) h74)
  (fun q75 h76 =>
  if zk h76 q75 = 6 then
  some (.inr q75, h76)
  else none))
  (fun q59 h60 =>
  if zk h60 q59 = 6 then
  some (.inr q59, h60)
  else none))
  (fun q48 h49 =>
  if zk h49 q48 = 6 then
  some (.inr q48, h49)
  else none)
  else
  if a3 = (2 : Int32) then
  (zrv 5 a0 h).bind fun b84 =>
  zb3 (f_X5_expression (some b84) h) (fun x89 h90 =>
  (zrv 5 a0 h90).bind fun b93 =>
  (f_X5_isSign (some b93) (59 : Int32) h90).bind fun x98 =>
  (zrv 5 a0 h90).bind fun b99 =>
  zb3 (f_X5_check (some b99) x98 (1 : Int32) h90) (fun _ h105 =>
  (zgR 5 1 a0 h105).bind fun x108 =>
  (zrv 2 x108 h105).bind fun b110 =>
  zb3 (f_X2_let (some b110) a1 x89 h105) (fun _ h116 =>
  some (.inl (), h116))
  (fun q117 h118 =>
  if zk h118 q117 = 7 then
  zb2 (znw 6 h118) fun q120 h121 =>
  (zgI 5 2 a0 h121).bind fun x123 =>
  (some q120).bind fun b125 =>
  (f_X6_init (some b125) (5 : Int32) x123 h121).bind fun h128 =>
  (some q120).bind fun q129 =>
  if zk h128 q129 = 6 then
  some (.inr q129, h128)
  else none
  else none))
  (fun q106 h107 =>
  if zk h107 q106 = 6 then
  some (.inr q106, h107)
  else none))
  (fun q91 h92 =>
  if zk h92 q91 = 6 then
  some (.inr q91, h92)
  else none)
  else
  (zgR 5 1 a0 h).bind fun x134 =>
  (zrv 3 a2 h).bind fun b136 =>
  zb3 (f_X3_withoutZeros (some b136) h) (fun x141 h142 =>
  (zrv 2 x134 h142).bind fun b145 =>
  zb2 (f_X2_put (some b145) a1 x141 h142) fun x151 h150 =>
  some (.inl (), h150))
  (fun q143 h144 =>
  if zk h144 q143 = 7 then
  zb2 (znw 6 h144) fun q153 h154 =>
  (zgI 5 2 a0 h154).bind fun x156 =>
  (some q153).bind fun b158 =>
  (f_X6_init (some b158) (5 : Int32) x156 h154).bind fun h161 =>
  (some q153).bind fun q162 =>
  if zk h161 q162 = 6 then
  some (.inr q162, h161)
  else none
  else none)
theorem wB_X5_statement_109 {G : zG} {h0 h : zH} {vo : Unit ⊕ Nat} {vh : zH} {a0 : Option Nat} {a1 : Int32} {a2 : Option Nat} {a3 : Int32} (H : B_X5_statement_109 a0 a1 a2 a3 h = some (vo, vh)) : zW G M_X5_statement 210 h0 (zoU vo) vh 109 [(0, vR a0), (2, vI a1), (3, vR a2), (5, vI a3)] [] h := by
  unfold B_X5_statement_109 at H
  refine zw_iload (pc := 109) dX5_statement_109 3 rfl ?_
  rcases zif H with ⟨c1, H⟩ | ⟨c1, H⟩
  · refine zw_tableIn (pc := 111) (25) 136 dX5_statement_111 (by rw [c1]; decide) (by rw [c1]; decide) (by rw [c1]; decide) rfl ?_
    refine zw_aload_n (pc := 136) dX5_statement_136 rfl 0 rfl ?_
    refine zw_iconst (pc := 137) (v := (1 : Int32)) dX5_statement_137 (by decide) ?_
    refine zw_bipush (pc := 138) (v := (12 : Int32)) dX5_statement_138 (by decide) ?_
    obtain ⟨b2, e4, H⟩ := zbind H
    obtain ⟨e3, e5⟩ := zrv_ok e4
    rcases zbind3 H with ⟨x7, h8, e6, H⟩ | ⟨q9, h10, e6, H⟩
    · refine zw_invV (pc := 140) (M' := M_X5_number) (A := [vI (1 : Int32), vI (12 : Int32)]) [] dX5_statement_140 (Or.inl q1087) mf_X5_number ls_X5_number (zkq e5 rfl) (w_X5_number e6) (Nat.le_of_ble_eq_true rfl) rfl (by rw [← e3]; rfl) (Nat.le_of_ble_eq_true rfl) (zkv ?_) zkn9
      refine zw_istore (pc := 143) (lv' := [(6, vI x7), (0, vR a0), (2, vI a1), (3, vR a2), (5, vI a3)]) dX5_statement_143 (by decide) rfl ?_
      refine zw_aload_n (pc := 145) dX5_statement_145 rfl 1 rfl ?_
      obtain ⟨x11, e12, H⟩ := zbind H
      refine zy_getR (pc := 146) dX5_statement_146 lf_X5_26 (fun _ _ => rfl) e12 ?_
      refine zw_iload_n (pc := 149) dX5_statement_149 rfl 2 rfl ?_
      obtain ⟨q13, h14, e15, H⟩ := zbind2 H
      refine zy_new (pc := 150) dX5_statement_150 ln_X5_234 e15 ?_
      refine zw_dup (pc := 153) dX5_statement_153 rfl ?_
      refine zw_iload (pc := 154) dX5_statement_154 0 rfl ?_
      refine zw_aload_n (pc := 156) dX5_statement_156 rfl 1 rfl ?_
      refine zw_iconst (pc := 157) (v := (1 : Int32)) dX5_statement_157 (by decide) ?_
      refine zw_bipush (pc := 158) (v := (12 : Int32)) dX5_statement_158 (by decide) ?_
      obtain ⟨b16, e18, H⟩ := zbind H
      obtain ⟨e17, e19⟩ := zrv_ok e18
      rcases zbind3 H with ⟨x21, h22, e20, H⟩ | ⟨q23, h24, e20, H⟩
      · refine zw_invV (pc := 160) (M' := M_X5_number) (A := [vI (1 : Int32), vI (12 : Int32)]) [vI x7, vR (some q13), vR (some q13), vI a1, vR x11] dX5_statement_160 (Or.inl q1087) mf_X5_number ls_X5_number (zkq e19 rfl) (w_X5_number e20) (Nat.le_of_ble_eq_true rfl) rfl (by rw [← e17]; rfl) (Nat.le_of_ble_eq_true rfl) (zkv ?_) zkn9
        obtain ⟨b25, e26, H⟩ := zbind H
        obtain ⟨h28, e27, H⟩ := zbind H
        refine zw_invI (pc := 163) (M' := M_X3_init) (A := [vI x7, vI x21]) [vR (some q13), vI a1, vR x11] dX5_statement_163 (Or.inl q1092) mf_X3_init rfl rfl (w_X3_init e27) (Nat.le_of_ble_eq_true rfl) rfl (by rw [← e26]; rfl) (Nat.le_of_ble_eq_true rfl) (zku ?_) zkn9
        obtain ⟨b29, e31, H⟩ := zbind H
        obtain ⟨e30, e32⟩ := zrv_ok e31
        obtain ⟨x35, h34, e33, H⟩ := zbind2 H
        refine zw_invV (pc := 166) (M' := M_X2_put) (A := [vI a1, vR (some q13)]) [] dX5_statement_166 (Or.inl q1093) mf_X2_put q1095 (zkq e32 rfl) (w_X2_put e33) (Nat.le_of_ble_eq_true rfl) rfl (by rw [← e30]; rfl) (Nat.le_of_ble_eq_true rfl) (zkv ?_) zkn9
        refine zw_istore (pc := 169) (lv' := [(7, vI x35), (6, vI x7), (0, vR a0), (2, vI a1), (3, vR a2), (5, vI a3)]) dX5_statement_169 (by decide) rfl ?_
        refine zw_goto (pc := 171) (tgt := 296) dX5_statement_171 rfl ?_
        refine zw_goto (pc := 296) (tgt := 314) dX5_statement_296 rfl ?_
        obtain ⟨rfl, rfl⟩ := Prod.mk.inj (Option.some.inj H)
        exact zw_vret (pc := 314) dX5_statement_314 rfl rfl rfl
      · refine zw_invV (pc := 160) (M' := M_X5_number) (A := [vI (1 : Int32), vI (12 : Int32)]) [vI x7, vR (some q13), vR (some q13), vI a1, vR x11] dX5_statement_160 (Or.inl q1087) mf_X5_number ls_X5_number (zkq e19 rfl) (w_X5_number e20) (Nat.le_of_ble_eq_true rfl) rfl (by rw [← e17]; rfl) (Nat.le_of_ble_eq_true rfl) zkv0 (zkx ?_)
        rcases zif H with ⟨c36, H⟩ | ⟨c36, H⟩
        · have c36 := c36
          obtain ⟨rfl, rfl⟩ := Prod.mk.inj (Option.some.inj H)
          exact zx_out (zkq c36 rfl) (List.forall_mem_cons.mpr ⟨Or.inr ⟨by decide, "CsrCalculator$Failure", q1062, by decide +kernel⟩, (fun _ hz => nomatch hz)⟩) rfl rfl
        cases H
    · refine zw_invV (pc := 140) (M' := M_X5_number) (A := [vI (1 : Int32), vI (12 : Int32)]) [] dX5_statement_140 (Or.inl q1087) mf_X5_number ls_X5_number (zkq e5 rfl) (w_X5_number e6) (Nat.le_of_ble_eq_true rfl) rfl (by rw [← e3]; rfl) (Nat.le_of_ble_eq_true rfl) zkv0 (zkx ?_)
      rcases zif H with ⟨c37, H⟩ | ⟨c37, H⟩
      · have c37 := c37
        obtain ⟨rfl, rfl⟩ := Prod.mk.inj (Option.some.inj H)
        exact zx_out (zkq c37 rfl) (List.forall_mem_cons.mpr ⟨Or.inr ⟨by decide, "CsrCalculator$Failure", q1062, by decide +kernel⟩, (fun _ hz => nomatch hz)⟩) rfl rfl
      cases H
  rcases zif H with ⟨c38, H⟩ | ⟨c38, H⟩
  · refine zw_tableIn (pc := 111) (63) 174 dX5_statement_111 (by rw [c38]; decide) (by rw [c38]; decide) (by rw [c38]; decide) rfl ?_
    refine zw_aload_n (pc := 174) dX5_statement_174 rfl 0 rfl ?_
    refine zw_iconst (pc := 175) (v := (0 : Int32)) dX5_statement_175 (by decide) ?_
    refine zw_aload_n (pc := 176) dX5_statement_176 rfl 2 rfl ?_
    obtain ⟨x39, e40, H⟩ := zbind H
    refine zy_getI (pc := 177) dX5_statement_177 lf_X5_241 (fun _ _ => rfl) e40 ?_
    refine zw_iconst (pc := 180) (v := (1 : Int32)) dX5_statement_180 (by decide) ?_
    refine zw_isub (pc := 181) dX5_statement_181 ?_
    obtain ⟨b41, e43, H⟩ := zbind H
    obtain ⟨e42, e44⟩ := zrv_ok e43
    rcases zbind3 H with ⟨x46, h47, e45, H⟩ | ⟨q48, h49, e45, H⟩
    · refine zw_invV (pc := 182) (M' := M_X5_number) (A := [vI (0 : Int32), vI (x39 - (1 : Int32))]) [] dX5_statement_182 (Or.inl q1087) mf_X5_number ls_X5_number (zkq e44 rfl) (w_X5_number e45) (Nat.le_of_ble_eq_true rfl) rfl (by rw [← e42]; rfl) (Nat.le_of_ble_eq_true rfl) (zkv ?_) zkn9
      refine zw_istore (pc := 185) (lv' := [(6, vI x46), (0, vR a0), (2, vI a1), (3, vR a2), (5, vI a3)]) dX5_statement_185 (by decide) rfl ?_
      refine zw_aload_n (pc := 187) dX5_statement_187 rfl 1 rfl ?_
      refine zw_iconst (pc := 188) (v := (0 : Int32)) dX5_statement_188 (by decide) ?_
      refine zw_aload_n (pc := 189) dX5_statement_189 rfl 3 rfl ?_
      obtain ⟨x50, e51, H⟩ := zbind H
      refine zy_getI (pc := 190) dX5_statement_190 lf_X5_244 (fun _ _ => rfl) e51 ?_
      refine zw_iconst (pc := 193) (v := (1 : Int32)) dX5_statement_193 (by decide) ?_
      refine zw_isub (pc := 194) dX5_statement_194 ?_
      obtain ⟨b52, e54, H⟩ := zbind H
      obtain ⟨e53, e55⟩ := zrv_ok e54
      rcases zbind3 H with ⟨x57, h58, e56, H⟩ | ⟨q59, h60, e56, H⟩
      · refine zw_invV (pc := 195) (M' := M_X5_number) (A := [vI (0 : Int32), vI (x50 - (1 : Int32))]) [] dX5_statement_195 (Or.inl q1087) mf_X5_number ls_X5_number (zkq e55 rfl) (w_X5_number e56) (Nat.le_of_ble_eq_true rfl) rfl (by rw [← e53]; rfl) (Nat.le_of_ble_eq_true rfl) (zkv ?_) zkn9
        refine zw_istore (pc := 198) (lv' := [(7, vI x57), (6, vI x46), (0, vR a0), (2, vI a1), (3, vR a2), (5, vI a3)]) dX5_statement_198 (by decide) rfl ?_
        refine zw_aload_n (pc := 200) dX5_statement_200 rfl 2 rfl ?_
        refine zw_ldcS (pc := 201) 14 dX5_statement_201 rfl ?_
        obtain ⟨b61, e63, H⟩ := zbind H
        obtain ⟨e62, e64⟩ := zrv_ok e63
        obtain ⟨x67, h66, e65, H⟩ := zbind2 H
        refine zw_invV (pc := 203) (M' := M_X5_skips) (A := [vR (some (zst h58 14))]) [] dX5_statement_203 (Or.inl q1098) mf_X5_skips ls_X5_skips (zkq e64 rfl) (w_X5_skips e65) (Nat.le_of_ble_eq_true rfl) rfl (by rw [← e62]; rfl) (Nat.le_of_ble_eq_true rfl) (zkv ?_) zkn9
        refine zw_istore (pc := 206) (lv' := [(8, vI x67), (7, vI x57), (6, vI x46), (0, vR a0), (2, vI a1), (3, vR a2), (5, vI a3)]) dX5_statement_206 (by decide) rfl ?_
        refine zw_aload_n (pc := 208) dX5_statement_208 rfl 3 rfl ?_
        refine zw_iconst (pc := 209) (v := (0 : Int32)) dX5_statement_209 (by decide) ?_
        refine zw_sipush (pc := 210) (v := (9999 : Int32)) dX5_statement_210 (by decide) ?_
        obtain ⟨b68, e70, H⟩ := zbind H
        obtain ⟨e69, e71⟩ := zrv_ok e70
        rcases zbind3 H with ⟨x73, h74, e72, H⟩ | ⟨q75, h76, e72, H⟩
        · refine zw_invV (pc := 213) (M' := M_X5_number) (A := [vI (0 : Int32), vI (9999 : Int32)]) [] dX5_statement_213 (Or.inl q1087) mf_X5_number ls_X5_number (zkq e71 rfl) (w_X5_number e72) (Nat.le_of_ble_eq_true rfl) rfl (by rw [← e69]; rfl) (Nat.le_of_ble_eq_true rfl) (zkv ?_) zkn9
          refine zw_istore (pc := 216) (lv' := [(9, vI x73), (8, vI x67), (7, vI x57), (6, vI x46), (0, vR a0), (2, vI a1), (3, vR a2), (5, vI a3)]) dX5_statement_216 (by decide) rfl ?_
          refine zw_aload_n (pc := 218) dX5_statement_218 rfl 4 rfl ?_
          obtain ⟨x77, e78, H⟩ := zbind H
          refine zy_getR (pc := 219) dX5_statement_219 lf_X5_26 (fun _ _ => rfl) e78 ?_
          refine zw_iload_n (pc := 222) dX5_statement_222 rfl 5 rfl ?_
          refine zw_aload_n (pc := 223) dX5_statement_223 rfl 6 rfl ?_
          refine zw_iload (pc := 224) dX5_statement_224 3 rfl ?_
          refine zw_iload (pc := 226) dX5_statement_226 2 rfl ?_
          refine zw_iload (pc := 228) dX5_statement_228 1 rfl ?_
          rcases zif H with ⟨c79, H⟩ | ⟨c79, H⟩
          · refine zw_if_eq (pc := 230) (tgt := 239) dX5_statement_230 rfl (fun _ => ?_) (fun q => absurd c79 q)
            refine zw_iload (pc := 239) dX5_statement_239 0 rfl ?_
            refine zW_pick (lv' := [(0, vR a0)]) [4] rfl ?_
            exact wB_X5_statement_241 H
          · refine zw_if_eq (pc := 230) (tgt := 239) dX5_statement_230 rfl (fun q => absurd q c79) (fun _ => ?_)
            refine zw_iload (pc := 233) dX5_statement_233 0 rfl ?_
            refine zw_ineg (pc := 235) dX5_statement_235 ?_
            refine zw_goto (pc := 236) (tgt := 241) dX5_statement_236 rfl ?_
            refine zW_pick (lv' := [(0, vR a0)]) [4] rfl ?_
            exact wB_X5_statement_241 H
        · refine zw_invV (pc := 213) (M' := M_X5_number) (A := [vI (0 : Int32), vI (9999 : Int32)]) [] dX5_statement_213 (Or.inl q1087) mf_X5_number ls_X5_number (zkq e71 rfl) (w_X5_number e72) (Nat.le_of_ble_eq_true rfl) rfl (by rw [← e69]; rfl) (Nat.le_of_ble_eq_true rfl) zkv0 (zkx ?_)
          rcases zif H with ⟨c80, H⟩ | ⟨c80, H⟩
          · have c80 := c80
            obtain ⟨rfl, rfl⟩ := Prod.mk.inj (Option.some.inj H)
            exact zx_out (zkq c80 rfl) (List.forall_mem_cons.mpr ⟨Or.inr ⟨by decide, "CsrCalculator$Failure", q1062, by decide +kernel⟩, (fun _ hz => nomatch hz)⟩) rfl rfl
          cases H
      · refine zw_invV (pc := 195) (M' := M_X5_number) (A := [vI (0 : Int32), vI (x50 - (1 : Int32))]) [] dX5_statement_195 (Or.inl q1087) mf_X5_number ls_X5_number (zkq e55 rfl) (w_X5_number e56) (Nat.le_of_ble_eq_true rfl) rfl (by rw [← e53]; rfl) (Nat.le_of_ble_eq_true rfl) zkv0 (zkx ?_)
        rcases zif H with ⟨c81, H⟩ | ⟨c81, H⟩
        · have c81 := c81
          obtain ⟨rfl, rfl⟩ := Prod.mk.inj (Option.some.inj H)
          exact zx_out (zkq c81 rfl) (List.forall_mem_cons.mpr ⟨Or.inr ⟨by decide, "CsrCalculator$Failure", q1062, by decide +kernel⟩, (fun _ hz => nomatch hz)⟩) rfl rfl
        cases H
    · refine zw_invV (pc := 182) (M' := M_X5_number) (A := [vI (0 : Int32), vI (x39 - (1 : Int32))]) [] dX5_statement_182 (Or.inl q1087) mf_X5_number ls_X5_number (zkq e44 rfl) (w_X5_number e45) (Nat.le_of_ble_eq_true rfl) rfl (by rw [← e42]; rfl) (Nat.le_of_ble_eq_true rfl) zkv0 (zkx ?_)
      rcases zif H with ⟨c82, H⟩ | ⟨c82, H⟩
      · have c82 := c82
        obtain ⟨rfl, rfl⟩ := Prod.mk.inj (Option.some.inj H)
        exact zx_out (zkq c82 rfl) (List.forall_mem_cons.mpr ⟨Or.inr ⟨by decide, "CsrCalculator$Failure", q1062, by decide +kernel⟩, (fun _ hz => nomatch hz)⟩) rfl rfl
      cases H
  rcases zif H with ⟨c83, H⟩ | ⟨c83, H⟩
  · refine zw_tableIn (pc := 111) (141) 252 dX5_statement_111 (by rw [c83]; decide) (by rw [c83]; decide) (by rw [c83]; decide) rfl ?_
    refine zw_aload_n (pc := 252) dX5_statement_252 rfl 0 rfl ?_
    obtain ⟨b84, e86, H⟩ := zbind H
    obtain ⟨e85, e87⟩ := zrv_ok e86
    rcases zbind3 H with ⟨x89, h90, e88, H⟩ | ⟨q91, h92, e88, H⟩
    · refine zw_invV (pc := 253) (M' := M_X5_expression) (A := []) [] dX5_statement_253 (Or.inl q1112) mf_X5_expression ls_X5_expression (zkq e87 rfl) (w_X5_expression e88) (Nat.le_of_ble_eq_true rfl) rfl (by rw [← e85]; rfl) (Nat.le_of_ble_eq_true rfl) (zkv ?_) zkn9
      refine zw_astore (pc := 256) (lv' := [(6, vR x89), (0, vR a0), (2, vI a1), (3, vR a2), (5, vI a3)]) dX5_statement_256 (by decide) rfl ?_
      refine zw_aload_n (pc := 258) dX5_statement_258 rfl 1 rfl ?_
      refine zw_aload_n (pc := 259) dX5_statement_259 rfl 1 rfl ?_
      refine zw_bipush (pc := 260) (v := (59 : Int32)) dX5_statement_260 (by decide) ?_
      obtain ⟨b93, e95, H⟩ := zbind H
      obtain ⟨e94, e96⟩ := zrv_ok e95
      obtain ⟨x98, e97, H⟩ := zbind H
      refine zw_invV (pc := 262) (M' := M_X5_isSign) (A := [vI (59 : Int32)]) [vR a0] dX5_statement_262 (Or.inl q985) mf_X5_isSign ls_X5_isSign (zkq e96 rfl) (w_X5_isSign e97) (Nat.le_of_ble_eq_true rfl) rfl (by rw [← e94]; rfl) (Nat.le_of_ble_eq_true rfl) (zkv ?_) zkn9
      refine zw_iconst (pc := 265) (v := (1 : Int32)) dX5_statement_265 (by decide) ?_
      obtain ⟨b99, e101, H⟩ := zbind H
      obtain ⟨e100, e102⟩ := zrv_ok e101
      rcases zbind3 H with ⟨x104, h105, e103, H⟩ | ⟨q106, h107, e103, H⟩
      · refine zw_invV (pc := 266) (M' := M_X5_check) (A := [vI x98, vI (1 : Int32)]) [] dX5_statement_266 (Or.inl q954) mf_X5_check ls_X5_check (zkq e102 rfl) (w_X5_check e103) (Nat.le_of_ble_eq_true rfl) rfl (by rw [← e100]; rfl) (Nat.le_of_ble_eq_true rfl) (zku ?_) zkn9
        refine zw_aload_n (pc := 269) dX5_statement_269 rfl 1 rfl ?_
        obtain ⟨x108, e109, H⟩ := zbind H
        refine zy_getR (pc := 270) dX5_statement_270 lf_X5_26 (fun _ _ => rfl) e109 ?_
        refine zw_iload_n (pc := 273) dX5_statement_273 rfl 2 rfl ?_
        refine zw_aload (pc := 274) dX5_statement_274 0 rfl ?_
        obtain ⟨b110, e112, H⟩ := zbind H
        obtain ⟨e111, e113⟩ := zrv_ok e112
        rcases zbind3 H with ⟨x115, h116, e114, H⟩ | ⟨q117, h118, e114, H⟩
        · refine zw_invV (pc := 276) (M' := M_X2_let) (A := [vI a1, vR x89]) [] dX5_statement_276 (Or.inl q1317) mf_X2_let q1319 (zkq e113 rfl) (w_X2_let e114) (Nat.le_of_ble_eq_true rfl) rfl (by rw [← e111]; rfl) (Nat.le_of_ble_eq_true rfl) (zku ?_) zkn9
          refine zw_goto (pc := 279) (tgt := 296) dX5_statement_279 rfl ?_
          refine zw_goto (pc := 296) (tgt := 314) dX5_statement_296 rfl ?_
          obtain ⟨rfl, rfl⟩ := Prod.mk.inj (Option.some.inj H)
          exact zw_vret (pc := 314) dX5_statement_314 rfl rfl rfl
        · refine zw_invV (pc := 276) (M' := M_X2_let) (A := [vI a1, vR x89]) [] dX5_statement_276 (Or.inl q1317) mf_X2_let q1319 (zkq e113 rfl) (w_X2_let e114) (Nat.le_of_ble_eq_true rfl) rfl (by rw [← e111]; rfl) (Nat.le_of_ble_eq_true rfl) zkv0 (zkx ?_)
          rcases zif H with ⟨c119, H⟩ | ⟨c119, H⟩
          · have c119 := c119
            refine zx_catch [] ⟨19, 296, 299, 259⟩ [] (zkq c119 rfl) rfl (fun _ hz => nomatch hz) rfl (by decide) q1062 (by decide +kernel) ?_
            refine zw_astore (pc := 299) (lv' := [(4, vR (some q117)), (6, vR x89), (0, vR a0), (2, vI a1), (3, vR a2), (5, vI a3)]) dX5_statement_299 (by decide) rfl ?_
            obtain ⟨q120, h121, e122, H⟩ := zbind2 H
            refine zy_new (pc := 301) dX5_statement_301 ln_X5_91 e122 ?_
            refine zw_dup (pc := 304) dX5_statement_304 rfl ?_
            refine zw_iconst (pc := 305) (v := (5 : Int32)) dX5_statement_305 (by decide) ?_
            refine zw_aload_n (pc := 306) dX5_statement_306 rfl 2 rfl ?_
            obtain ⟨x123, e124, H⟩ := zbind H
            refine zy_getI (pc := 307) dX5_statement_307 lf_X5_46 (fun _ _ => rfl) e124 ?_
            obtain ⟨b125, e126, H⟩ := zbind H
            obtain ⟨h128, e127, H⟩ := zbind H
            refine zw_invI (pc := 310) (M' := M_X6_init) (A := [vI (5 : Int32), vI x123]) [vR (some q120)] dX5_statement_310 (Or.inl q967) mf_X6_init rfl rfl (w_X6_init e127) (Nat.le_of_ble_eq_true rfl) rfl (by rw [← e126]; rfl) (Nat.le_of_ble_eq_true rfl) (zku ?_) zkn9
            obtain ⟨q129, e130, H⟩ := zbind H
            refine zy_athrow (pc := 313) dX5_statement_313 e130 ?_
            rcases zif H with ⟨c131, H⟩ | ⟨c131, H⟩
            · have c131 := c131
              obtain ⟨rfl, rfl⟩ := Prod.mk.inj (Option.some.inj H)
              exact zx_out (zkq c131 rfl) (List.forall_mem_cons.mpr ⟨Or.inl rfl, (fun _ hz => nomatch hz)⟩) rfl rfl
            cases H
          cases H
      · refine zw_invV (pc := 266) (M' := M_X5_check) (A := [vI x98, vI (1 : Int32)]) [] dX5_statement_266 (Or.inl q954) mf_X5_check ls_X5_check (zkq e102 rfl) (w_X5_check e103) (Nat.le_of_ble_eq_true rfl) rfl (by rw [← e100]; rfl) (Nat.le_of_ble_eq_true rfl) zkv0 (zkx ?_)
        rcases zif H with ⟨c132, H⟩ | ⟨c132, H⟩
        · have c132 := c132
          obtain ⟨rfl, rfl⟩ := Prod.mk.inj (Option.some.inj H)
          exact zx_out (zkq c132 rfl) (List.forall_mem_cons.mpr ⟨Or.inr ⟨by decide, "CsrCalculator$Failure", q1062, by decide +kernel⟩, (fun _ hz => nomatch hz)⟩) rfl rfl
        cases H
    · refine zw_invV (pc := 253) (M' := M_X5_expression) (A := []) [] dX5_statement_253 (Or.inl q1112) mf_X5_expression ls_X5_expression (zkq e87 rfl) (w_X5_expression e88) (Nat.le_of_ble_eq_true rfl) rfl (by rw [← e85]; rfl) (Nat.le_of_ble_eq_true rfl) zkv0 (zkx ?_)
      rcases zif H with ⟨c133, H⟩ | ⟨c133, H⟩
      · have c133 := c133
        obtain ⟨rfl, rfl⟩ := Prod.mk.inj (Option.some.inj H)
        exact zx_out (zkq c133 rfl) (List.forall_mem_cons.mpr ⟨Or.inr ⟨by decide, "CsrCalculator$Failure", q1062, by decide +kernel⟩, (fun _ hz => nomatch hz)⟩) rfl rfl
      cases H
  refine zw_tableOut (pc := 111) 282 dX5_statement_111 (ztb (0) 3 rfl (by intro j hj; match j, hj with | 0, _ => exact zne c1 | 1, _ => exact zne c38 | 2, _ => exact zne c83)) rfl ?_
  refine zw_aload_n (pc := 282) dX5_statement_282 rfl 0 rfl ?_
  obtain ⟨x134, e135, H⟩ := zbind H
  refine zy_getR (pc := 283) dX5_statement_283 lf_X5_26 (fun _ _ => rfl) e135 ?_
  refine zw_iload_n (pc := 286) dX5_statement_286 rfl 1 rfl ?_
  refine zw_aload_n (pc := 287) dX5_statement_287 rfl 2 rfl ?_
  obtain ⟨b136, e138, H⟩ := zbind H
  obtain ⟨e137, e139⟩ := zrv_ok e138
  rcases zbind3 H with ⟨x141, h142, e140, H⟩ | ⟨q143, h144, e140, H⟩
  · refine zw_invV (pc := 288) (M' := M_X3_withoutZeros) (A := []) [vI a1, vR x134] dX5_statement_288 (Or.inl q1441) mf_X3_withoutZeros q1443 (zkq e139 rfl) (w_X3_withoutZeros e140) (Nat.le_of_ble_eq_true rfl) rfl (by rw [← e137]; rfl) (Nat.le_of_ble_eq_true rfl) (zkv ?_) zkn9
    obtain ⟨b145, e147, H⟩ := zbind H
    obtain ⟨e146, e148⟩ := zrv_ok e147
    obtain ⟨x151, h150, e149, H⟩ := zbind2 H
    refine zw_invV (pc := 291) (M' := M_X2_put) (A := [vI a1, vR x141]) [] dX5_statement_291 (Or.inl q1093) mf_X2_put q1095 (zkq e148 rfl) (w_X2_put e149) (Nat.le_of_ble_eq_true rfl) rfl (by rw [← e146]; rfl) (Nat.le_of_ble_eq_true rfl) (zkv ?_) zkn9
    refine zw_istore (pc := 294) (lv' := [(6, vI x151), (0, vR a0), (2, vI a1), (3, vR a2), (5, vI a3)]) dX5_statement_294 (by decide) rfl ?_
    refine zw_goto (pc := 296) (tgt := 314) dX5_statement_296 rfl ?_
    obtain ⟨rfl, rfl⟩ := Prod.mk.inj (Option.some.inj H)
    exact zw_vret (pc := 314) dX5_statement_314 rfl rfl rfl
  · refine zw_invV (pc := 288) (M' := M_X3_withoutZeros) (A := []) [vI a1, vR x134] dX5_statement_288 (Or.inl q1441) mf_X3_withoutZeros q1443 (zkq e139 rfl) (w_X3_withoutZeros e140) (Nat.le_of_ble_eq_true rfl) rfl (by rw [← e137]; rfl) (Nat.le_of_ble_eq_true rfl) zkv0 (zkx ?_)
    rcases zif H with ⟨c152, H⟩ | ⟨c152, H⟩
    · have c152 := c152
      refine zx_catch [] ⟨19, 296, 299, 259⟩ [] (zkq c152 rfl) rfl (fun _ hz => nomatch hz) rfl (by decide) q1062 (by decide +kernel) ?_
      refine zw_astore (pc := 299) (lv' := [(4, vR (some q143)), (0, vR a0), (2, vI a1), (3, vR a2), (5, vI a3)]) dX5_statement_299 (by decide) rfl ?_
      obtain ⟨q153, h154, e155, H⟩ := zbind2 H
      refine zy_new (pc := 301) dX5_statement_301 ln_X5_91 e155 ?_
      refine zw_dup (pc := 304) dX5_statement_304 rfl ?_
      refine zw_iconst (pc := 305) (v := (5 : Int32)) dX5_statement_305 (by decide) ?_
      refine zw_aload_n (pc := 306) dX5_statement_306 rfl 1 rfl ?_
      obtain ⟨x156, e157, H⟩ := zbind H
      refine zy_getI (pc := 307) dX5_statement_307 lf_X5_46 (fun _ _ => rfl) e157 ?_
      obtain ⟨b158, e159, H⟩ := zbind H
      obtain ⟨h161, e160, H⟩ := zbind H
      refine zw_invI (pc := 310) (M' := M_X6_init) (A := [vI (5 : Int32), vI x156]) [vR (some q153)] dX5_statement_310 (Or.inl q967) mf_X6_init rfl rfl (w_X6_init e160) (Nat.le_of_ble_eq_true rfl) rfl (by rw [← e159]; rfl) (Nat.le_of_ble_eq_true rfl) (zku ?_) zkn9
      obtain ⟨q162, e163, H⟩ := zbind H
      refine zy_athrow (pc := 313) dX5_statement_313 e163 ?_
      rcases zif H with ⟨c164, H⟩ | ⟨c164, H⟩
      · have c164 := c164
        obtain ⟨rfl, rfl⟩ := Prod.mk.inj (Option.some.inj H)
        exact zx_out (zkq c164 rfl) (List.forall_mem_cons.mpr ⟨Or.inl rfl, (fun _ hz => nomatch hz)⟩) rfl rfl
      cases H
    cases H
def f_X5_statement (p0 : Option Nat) (p1 : Option Nat) (h : zH) : Option ((Unit ⊕ Nat) × zH) :=
  (zrv 5 p0 h).bind fun b1 =>
  (f_X5_advance (some b1) h).bind fun h6 =>
  (zrv 5 p0 h6).bind fun b7 =>
  zb3 (f_X5_register (some b7) h6) (fun x12 h13 =>
  (zgR 5 1 p0 h13).bind fun x16 =>
  (zgR 2 0 x16 h13).bind fun x18 =>
  (zaR 61 x18 x12 h13).bind fun x20 =>
  (zrv 19 p1 h13).bind fun b22 =>
  zb2 (f_J4_hashCode (some b22) h13) fun x28 h27 =>
  if x28 = (-1081239615 : Int32) then
  (zrv 19 p1 h27).bind fun b30 =>
  (f_J4_equals (some b30) (some (zst h27 11)) h27).bind fun x35 =>
  if x35 = 0 then
  B_X5_statement_109 p0 x12 x20 (-1 : Int32) h27
  else
  B_X5_statement_109 p0 x12 x20 (0 : Int32) h27
  else
  if x28 = (107035 : Int32) then
  (zrv 19 p1 h27).bind fun b38 =>
  (f_J4_equals (some b38) (some (zst h27 13)) h27).bind fun x43 =>
  if x43 = 0 then
  B_X5_statement_109 p0 x12 x20 (-1 : Int32) h27
  else
  B_X5_statement_109 p0 x12 x20 (2 : Int32) h27
  else
  if x28 = (96667762 : Int32) then
  (zrv 19 p1 h27).bind fun b46 =>
  (f_J4_equals (some b46) (some (zst h27 12)) h27).bind fun x51 =>
  if x51 = 0 then
  B_X5_statement_109 p0 x12 x20 (-1 : Int32) h27
  else
  B_X5_statement_109 p0 x12 x20 (1 : Int32) h27
  else
  B_X5_statement_109 p0 x12 x20 (-1 : Int32) h27)
  (fun q14 h15 =>
  if zk h15 q14 = 6 then
  some (.inr q14, h15)
  else none)
theorem w_X5_statement {G : zG} {p0 : Option Nat} {p1 : Option Nat} {h : zH} {vo : Unit ⊕ Nat} {vh : zH} (H : f_X5_statement p0 p1 h = some (vo, vh)) : zMet G M_X5_statement 210 [vR p0, vR p1] h (zoU vo) vh := by
  refine zMet.of (by decide +kernel) (Nat.le_of_ble_eq_true rfl) ?_
  show zW G M_X5_statement 210 h (zoU vo) vh 0 [(0, vR p0), (1, vR p1)] [] h
  unfold f_X5_statement at H
  refine zw_aload_n (pc := 0) dX5_statement_0 rfl 0 rfl ?_
  obtain ⟨b1, e3, H⟩ := zbind H
  obtain ⟨e2, e4⟩ := zrv_ok e3
  obtain ⟨h6, e5, H⟩ := zbind H
  refine zw_invV (pc := 1) (M' := M_X5_advance) (A := []) [] dX5_statement_1 (Or.inl q680) mf_X5_advance ls_X5_advance (zkq e4 rfl) (w_X5_advance e5) (Nat.le_of_ble_eq_true rfl) rfl (by rw [← e2]; rfl) (Nat.le_of_ble_eq_true rfl) (zku ?_) zkn9
  refine zw_aload_n (pc := 4) dX5_statement_4 rfl 0 rfl ?_
  obtain ⟨b7, e9, H⟩ := zbind H
  obtain ⟨e8, e10⟩ := zrv_ok e9
  rcases zbind3 H with ⟨x12, h13, e11, H⟩ | ⟨q14, h15, e11, H⟩
  · refine zw_invV (pc := 5) (M' := M_X5_register) (A := []) [] dX5_statement_5 (Or.inl q1063) mf_X5_register ls_X5_register (zkq e10 rfl) (w_X5_register e11) (Nat.le_of_ble_eq_true rfl) rfl (by rw [← e8]; rfl) (Nat.le_of_ble_eq_true rfl) (zkv ?_) zkn9
    refine zw_istore_n (pc := 8) (lv' := [(2, vI x12), (0, vR p0), (1, vR p1)]) dX5_statement_8 rfl (by decide) rfl ?_
    refine zw_aload_n (pc := 9) dX5_statement_9 rfl 1 rfl ?_
    obtain ⟨x16, e17, H⟩ := zbind H
    refine zy_getR (pc := 10) dX5_statement_10 lf_X5_26 (fun _ _ => rfl) e17 ?_
    obtain ⟨x18, e19, H⟩ := zbind H
    refine zy_getR (pc := 13) dX5_statement_13 lf_X5_221 (fun _ _ => rfl) e19 ?_
    refine zw_iload_n (pc := 16) dX5_statement_16 rfl 0 rfl ?_
    obtain ⟨x20, e21, H⟩ := zbind H
    refine zy_aald (pc := 17) dX5_statement_17 (by decide) e21 ?_
    refine zw_astore_n (pc := 18) (lv' := [(3, vR x20), (2, vI x12), (0, vR p0), (1, vR p1)]) dX5_statement_18 rfl (by decide) rfl ?_
    refine zw_aload_n (pc := 19) dX5_statement_19 rfl 3 rfl ?_
    refine zw_astore (pc := 20) (lv' := [(4, vR p1), (3, vR x20), (2, vI x12), (0, vR p0), (1, vR p1)]) dX5_statement_20 (by decide) rfl ?_
    refine zw_iconst (pc := 22) (v := (-1 : Int32)) dX5_statement_22 (by decide) ?_
    refine zw_istore (pc := 23) (lv' := [(5, vI (-1 : Int32)), (4, vR p1), (3, vR x20), (2, vI x12), (0, vR p0), (1, vR p1)]) dX5_statement_23 (by decide) rfl ?_
    refine zw_aload (pc := 25) dX5_statement_25 1 rfl ?_
    obtain ⟨b22, e24, H⟩ := zbind H
    obtain ⟨e23, e25⟩ := zrv_ok e24
    obtain ⟨x28, h27, e26, H⟩ := zbind2 H
    refine zw_invV (pc := 27) (M' := M_J4_hashCode) (A := []) [] dX5_statement_27 (Or.inl q1083) mf_J4_hashCode q994 (zkq e25 rfl) (w_J4_hashCode e26) (Nat.le_of_ble_eq_true rfl) rfl (by rw [← e23]; rfl) (Nat.le_of_ble_eq_true rfl) (zkv ?_) zkn9
    rcases zif H with ⟨c29, H⟩ | ⟨c29, H⟩
    · refine zw_lookup (pc := 30) (34) 64 dX5_statement_30 (by decide) (by rw [c29]; decide) rfl ?_
      refine zw_aload (pc := 64) dX5_statement_64 1 rfl ?_
      refine zw_ldcS (pc := 66) 11 dX5_statement_66 rfl ?_
      obtain ⟨b30, e32, H⟩ := zbind H
      obtain ⟨e31, e33⟩ := zrv_ok e32
      obtain ⟨x35, e34, H⟩ := zbind H
      refine zw_invV (pc := 68) (M' := M_J4_equals) (A := [vR (some (zst h27 11))]) [] dX5_statement_68 (Or.inl q946) mf_J4_equals q948 (zkq e33 rfl) (w_J4_equals e34) (Nat.le_of_ble_eq_true rfl) rfl (by rw [← e31]; rfl) (Nat.le_of_ble_eq_true rfl) (zkv ?_) zkn9
      rcases zif H with ⟨c36, H⟩ | ⟨c36, H⟩
      · refine zw_if_eq (pc := 71) (tgt := 109) dX5_statement_71 rfl (fun _ => ?_) (fun q => absurd c36 q)
        refine zW_pick (lv' := [(0, vR p0), (2, vI x12), (3, vR x20), (5, vI (-1 : Int32))]) [4, 3, 2, 0] rfl ?_
        exact wB_X5_statement_109 H
      · refine zw_if_eq (pc := 71) (tgt := 109) dX5_statement_71 rfl (fun q => absurd q c36) (fun _ => ?_)
        refine zw_iconst (pc := 74) (v := (0 : Int32)) dX5_statement_74 (by decide) ?_
        refine zw_istore (pc := 75) (lv' := [(5, vI (0 : Int32)), (4, vR p1), (3, vR x20), (2, vI x12), (0, vR p0), (1, vR p1)]) dX5_statement_75 (by decide) rfl ?_
        refine zw_goto (pc := 77) (tgt := 109) dX5_statement_77 rfl ?_
        refine zW_pick (lv' := [(0, vR p0), (2, vI x12), (3, vR x20), (5, vI (0 : Int32))]) [4, 3, 2, 0] rfl ?_
        exact wB_X5_statement_109 H
    rcases zif H with ⟨c37, H⟩ | ⟨c37, H⟩
    · refine zw_lookup (pc := 30) (66) 96 dX5_statement_30 (by decide) (by rw [c37]; decide) rfl ?_
      refine zw_aload (pc := 96) dX5_statement_96 1 rfl ?_
      refine zw_ldcS (pc := 98) 13 dX5_statement_98 rfl ?_
      obtain ⟨b38, e40, H⟩ := zbind H
      obtain ⟨e39, e41⟩ := zrv_ok e40
      obtain ⟨x43, e42, H⟩ := zbind H
      refine zw_invV (pc := 100) (M' := M_J4_equals) (A := [vR (some (zst h27 13))]) [] dX5_statement_100 (Or.inl q946) mf_J4_equals q948 (zkq e41 rfl) (w_J4_equals e42) (Nat.le_of_ble_eq_true rfl) rfl (by rw [← e39]; rfl) (Nat.le_of_ble_eq_true rfl) (zkv ?_) zkn9
      rcases zif H with ⟨c44, H⟩ | ⟨c44, H⟩
      · refine zw_if_eq (pc := 103) (tgt := 109) dX5_statement_103 rfl (fun _ => ?_) (fun q => absurd c44 q)
        refine zW_pick (lv' := [(0, vR p0), (2, vI x12), (3, vR x20), (5, vI (-1 : Int32))]) [4, 3, 2, 0] rfl ?_
        exact wB_X5_statement_109 H
      · refine zw_if_eq (pc := 103) (tgt := 109) dX5_statement_103 rfl (fun q => absurd q c44) (fun _ => ?_)
        refine zw_iconst (pc := 106) (v := (2 : Int32)) dX5_statement_106 (by decide) ?_
        refine zw_istore (pc := 107) (lv' := [(5, vI (2 : Int32)), (4, vR p1), (3, vR x20), (2, vI x12), (0, vR p0), (1, vR p1)]) dX5_statement_107 (by decide) rfl ?_
        refine zW_pick (lv' := [(0, vR p0), (2, vI x12), (3, vR x20), (5, vI (2 : Int32))]) [4, 3, 2, 0] rfl ?_
        exact wB_X5_statement_109 H
    rcases zif H with ⟨c45, H⟩ | ⟨c45, H⟩
    · refine zw_lookup (pc := 30) (50) 80 dX5_statement_30 (by decide) (by rw [c45]; decide) rfl ?_
      refine zw_aload (pc := 80) dX5_statement_80 1 rfl ?_
      refine zw_ldcS (pc := 82) 12 dX5_statement_82 rfl ?_
      obtain ⟨b46, e48, H⟩ := zbind H
      obtain ⟨e47, e49⟩ := zrv_ok e48
      obtain ⟨x51, e50, H⟩ := zbind H
      refine zw_invV (pc := 84) (M' := M_J4_equals) (A := [vR (some (zst h27 12))]) [] dX5_statement_84 (Or.inl q946) mf_J4_equals q948 (zkq e49 rfl) (w_J4_equals e50) (Nat.le_of_ble_eq_true rfl) rfl (by rw [← e47]; rfl) (Nat.le_of_ble_eq_true rfl) (zkv ?_) zkn9
      rcases zif H with ⟨c52, H⟩ | ⟨c52, H⟩
      · refine zw_if_eq (pc := 87) (tgt := 109) dX5_statement_87 rfl (fun _ => ?_) (fun q => absurd c52 q)
        refine zW_pick (lv' := [(0, vR p0), (2, vI x12), (3, vR x20), (5, vI (-1 : Int32))]) [4, 3, 2, 0] rfl ?_
        exact wB_X5_statement_109 H
      · refine zw_if_eq (pc := 87) (tgt := 109) dX5_statement_87 rfl (fun q => absurd q c52) (fun _ => ?_)
        refine zw_iconst (pc := 90) (v := (1 : Int32)) dX5_statement_90 (by decide) ?_
        refine zw_istore (pc := 91) (lv' := [(5, vI (1 : Int32)), (4, vR p1), (3, vR x20), (2, vI x12), (0, vR p0), (1, vR p1)]) dX5_statement_91 (by decide) rfl ?_
        refine zw_goto (pc := 93) (tgt := 109) dX5_statement_93 rfl ?_
        refine zW_pick (lv' := [(0, vR p0), (2, vI x12), (3, vR x20), (5, vI (1 : Int32))]) [4, 3, 2, 0] rfl ?_
        exact wB_X5_statement_109 H
    refine zw_lookup (pc := 30) (79) 109 dX5_statement_30 (by decide) (zlkD (List.forall_mem_cons.mpr ⟨zne c29, List.forall_mem_cons.mpr ⟨zne c37, List.forall_mem_cons.mpr ⟨zne c45, fun _ hp => nomatch hp⟩⟩⟩)) rfl ?_
    refine zW_pick (lv' := [(0, vR p0), (2, vI x12), (3, vR x20), (5, vI (-1 : Int32))]) [4, 3, 2, 0] rfl ?_
    exact wB_X5_statement_109 H
  · refine zw_invV (pc := 5) (M' := M_X5_register) (A := []) [] dX5_statement_5 (Or.inl q1063) mf_X5_register ls_X5_register (zkq e10 rfl) (w_X5_register e11) (Nat.le_of_ble_eq_true rfl) rfl (by rw [← e8]; rfl) (Nat.le_of_ble_eq_true rfl) zkv0 (zkx ?_)
    rcases zif H with ⟨c53, H⟩ | ⟨c53, H⟩
    · have c53 := c53
      obtain ⟨rfl, rfl⟩ := Prod.mk.inj (Option.some.inj H)
      exact zx_out (zkq c53 rfl) (List.forall_mem_cons.mpr ⟨Or.inl rfl, (fun _ hz => nomatch hz)⟩) rfl rfl
    cases H
theorem ln_X5_209 : zCl "CsrCalculator$Reader" 209 2 := ⟨_, by decide, by decide, rfl, q678, q231, q181⟩
theorem ls_X5_statement : Cond.selects yX5_statement.cls yX5_statement yX5_statement ∈ lw_all := lw_g (lw_ms _ (List.mem_of_getElem? (i := 15) rfl)) rfl
def M_X5_description : zM := (yX5_description, cX5_description, 1, (.some (.object "CsrCalculator$World")), [])
theorem mf_X5_description : zMi M_X5_description 0 := ⟨⟨q677, q195, ⟨by decide +kernel, by decide +kernel⟩, by decide +kernel, by decide⟩, q675⟩
def B_X5_description_39 (k39 : Option Nat → zH → Option ((Option Nat ⊕ Nat) × zH)) (a0 : Option Nat) (h : zH) : Option ((Option Nat ⊕ Nat) × zH) :=
  (zgI 5 4 a0 h).bind fun x1 =>
  if x1 = 0 then
  (zgR 5 1 a0 h).bind fun x4 =>
  some (.inl x4, h)
  else
  (zgR 5 9 a0 h).bind fun x6 =>
  zb2 (f_X1_isStatement x6 h) fun x10 h9 =>
  (zrv 5 a0 h9).bind fun b11 =>
  zb3 (f_X5_check (some b11) x10 (1 : Int32) h9) (fun _ h17 =>
  (zgR 5 9 a0 h17).bind fun x20 =>
  (zrv 5 a0 h17).bind fun b22 =>
  zb3 (f_X5_statement (some b22) x20 h17) (fun _ h28 =>
  (zrv 5 a0 h28).bind fun b31 =>
  zb3 (f_X5_sign (some b31) (59 : Int32) h28) (fun _ h37 =>
  k39 a0 h37)
  (fun q38 h39 =>
  if zk h39 q38 = 6 then
  some (.inr q38, h39)
  else none))
  (fun q29 h30 =>
  if zk h30 q29 = 6 then
  some (.inr q29, h30)
  else none))
  (fun q18 h19 =>
  if zk h19 q18 = 6 then
  some (.inr q18, h19)
  else none)
theorem wB_X5_description_39 {G : zG} {h0 h : zH} {vo : Option Nat ⊕ Nat} {vh : zH} {k39 : Option Nat → zH → Option ((Option Nat ⊕ Nat) × zH)} (hk39 : ∀ (b0 : Option Nat) (h' : zH), k39 b0 h' = some (vo, vh) → zW G M_X5_description 211 h0 (zoR vo) vh 39 [(0, vR b0)] [] h') {a0 : Option Nat} (H : B_X5_description_39 k39 a0 h = some (vo, vh)) : zW G M_X5_description 211 h0 (zoR vo) vh 39 [(0, vR a0)] [] h := by
  unfold B_X5_description_39 at H
  refine zw_aload_n (pc := 39) dX5_description_39 rfl 0 rfl ?_
  obtain ⟨x1, e2, H⟩ := zbind H
  refine zy_getI (pc := 40) dX5_description_40 lf_X5_49 (fun _ _ => rfl) e2 ?_
  rcases zif H with ⟨c3, H⟩ | ⟨c3, H⟩
  · refine zw_if_eq (pc := 43) (tgt := 75) dX5_description_43 rfl (fun _ => ?_) (fun q => absurd c3 q)
    refine zw_aload_n (pc := 75) dX5_description_75 rfl 0 rfl ?_
    obtain ⟨x4, e5, H⟩ := zbind H
    refine zy_getR (pc := 76) dX5_description_76 lf_X5_26 (fun _ _ => rfl) e5 ?_
    obtain ⟨rfl, rfl⟩ := Prod.mk.inj (Option.some.inj H)
    exact zw_aret (pc := 79) dX5_description_79 rfl (Or.inl ⟨_, rfl⟩) rfl rfl
  · refine zw_if_eq (pc := 43) (tgt := 75) dX5_description_43 rfl (fun q => absurd q c3) (fun _ => ?_)
    refine zw_aload_n (pc := 46) dX5_description_46 rfl 0 rfl ?_
    refine zw_aload_n (pc := 47) dX5_description_47 rfl 0 rfl ?_
    obtain ⟨x6, e7, H⟩ := zbind H
    refine zy_getR (pc := 48) dX5_description_48 lf_X5_31 (fun _ _ => rfl) e7 ?_
    obtain ⟨x10, h9, e8, H⟩ := zbind2 H
    refine zw_invS (pc := 51) (M' := M_X1_isStatement) (A := [vR x6]) [vR a0] dX5_description_51 (Or.inr (by decide +kernel)) mf_X1_isStatement (w_X1_isStatement e8) (Nat.le_of_ble_eq_true rfl) rfl rfl (Nat.le_of_ble_eq_true rfl) (zkv ?_) zkn9
    refine zw_iconst (pc := 54) (v := (1 : Int32)) dX5_description_54 (by decide) ?_
    obtain ⟨b11, e13, H⟩ := zbind H
    obtain ⟨e12, e14⟩ := zrv_ok e13
    rcases zbind3 H with ⟨x16, h17, e15, H⟩ | ⟨q18, h19, e15, H⟩
    · refine zw_invV (pc := 55) (M' := M_X5_check) (A := [vI x10, vI (1 : Int32)]) [] dX5_description_55 (Or.inl q954) mf_X5_check ls_X5_check (zkq e14 rfl) (w_X5_check e15) (Nat.le_of_ble_eq_true rfl) rfl (by rw [← e12]; rfl) (Nat.le_of_ble_eq_true rfl) (zku ?_) zkn9
      refine zw_aload_n (pc := 58) dX5_description_58 rfl 0 rfl ?_
      refine zw_aload_n (pc := 59) dX5_description_59 rfl 0 rfl ?_
      obtain ⟨x20, e21, H⟩ := zbind H
      refine zy_getR (pc := 60) dX5_description_60 lf_X5_31 (fun _ _ => rfl) e21 ?_
      obtain ⟨b22, e24, H⟩ := zbind H
      obtain ⟨e23, e25⟩ := zrv_ok e24
      rcases zbind3 H with ⟨x27, h28, e26, H⟩ | ⟨q29, h30, e26, H⟩
      · refine zw_invV (pc := 63) (M' := M_X5_statement) (A := [vR x20]) [] dX5_description_63 (Or.inl q1058) mf_X5_statement ls_X5_statement (zkq e25 rfl) (w_X5_statement e26) (Nat.le_of_ble_eq_true rfl) rfl (by rw [← e23]; rfl) (Nat.le_of_ble_eq_true rfl) (zku ?_) zkn9
        refine zw_aload_n (pc := 66) dX5_description_66 rfl 0 rfl ?_
        refine zw_bipush (pc := 67) (v := (59 : Int32)) dX5_description_67 (by decide) ?_
        obtain ⟨b31, e33, H⟩ := zbind H
        obtain ⟨e32, e34⟩ := zrv_ok e33
        rcases zbind3 H with ⟨x36, h37, e35, H⟩ | ⟨q38, h39, e35, H⟩
        · refine zw_invV (pc := 69) (M' := M_X5_sign) (A := [vI (59 : Int32)]) [] dX5_description_69 (Or.inl q981) mf_X5_sign ls_X5_sign (zkq e34 rfl) (w_X5_sign e35) (Nat.le_of_ble_eq_true rfl) rfl (by rw [← e32]; rfl) (Nat.le_of_ble_eq_true rfl) (zku ?_) zkn9
          refine zw_goto (pc := 72) (tgt := 39) dX5_description_72 rfl ?_
          refine zW_pick (lv' := [(0, vR a0)]) [0] rfl ?_
          exact hk39 _ _ H
        · refine zw_invV (pc := 69) (M' := M_X5_sign) (A := [vI (59 : Int32)]) [] dX5_description_69 (Or.inl q981) mf_X5_sign ls_X5_sign (zkq e34 rfl) (w_X5_sign e35) (Nat.le_of_ble_eq_true rfl) rfl (by rw [← e32]; rfl) (Nat.le_of_ble_eq_true rfl) zkv0 (zkx ?_)
          rcases zif H with ⟨c40, H⟩ | ⟨c40, H⟩
          · have c40 := c40
            obtain ⟨rfl, rfl⟩ := Prod.mk.inj (Option.some.inj H)
            exact zx_out (zkq c40 rfl) (fun _ hz => nomatch hz) rfl rfl
          cases H
      · refine zw_invV (pc := 63) (M' := M_X5_statement) (A := [vR x20]) [] dX5_description_63 (Or.inl q1058) mf_X5_statement ls_X5_statement (zkq e25 rfl) (w_X5_statement e26) (Nat.le_of_ble_eq_true rfl) rfl (by rw [← e23]; rfl) (Nat.le_of_ble_eq_true rfl) zkv0 (zkx ?_)
        rcases zif H with ⟨c41, H⟩ | ⟨c41, H⟩
        · have c41 := c41
          obtain ⟨rfl, rfl⟩ := Prod.mk.inj (Option.some.inj H)
          exact zx_out (zkq c41 rfl) (fun _ hz => nomatch hz) rfl rfl
        cases H
    · refine zw_invV (pc := 55) (M' := M_X5_check) (A := [vI x10, vI (1 : Int32)]) [] dX5_description_55 (Or.inl q954) mf_X5_check ls_X5_check (zkq e14 rfl) (w_X5_check e15) (Nat.le_of_ble_eq_true rfl) rfl (by rw [← e12]; rfl) (Nat.le_of_ble_eq_true rfl) zkv0 (zkx ?_)
      rcases zif H with ⟨c42, H⟩ | ⟨c42, H⟩
      · have c42 := c42
        obtain ⟨rfl, rfl⟩ := Prod.mk.inj (Option.some.inj H)
        exact zx_out (zkq c42 rfl) (fun _ hz => nomatch hz) rfl rfl
      cases H
def f_X5_description (p0 : Option Nat) (h : zH) : Option ((Option Nat ⊕ Nat) × zH) :=
  zb2 (znw 2 h) fun q1 h2 =>
  (some q1).bind fun b4 =>
  (f_X2_init (some b4) h2).bind fun h7 =>
  (zpR 5 1 p0 (some q1) h7).bind fun h8 =>
  (zrv 5 p0 h8).bind fun b10 =>
  (f_X5_advance (some b10) h8).bind fun h15 =>
  (zgR 5 9 p0 h15).bind fun x16 =>
  (zrv 19 x16 h15).bind fun b18 =>
  (f_J4_equals (some b18) (some (zst h15 10)) h15).bind fun x23 =>
  (zrv 5 p0 h15).bind fun b24 =>
  zb3 (f_X5_check (some b24) x23 (1 : Int32) h15) (fun _ h30 =>
  (zrv 5 p0 h30).bind fun b33 =>
  (f_X5_advance (some b33) h30).bind fun h38 =>
  (zrv 5 p0 h38).bind fun b39 =>
  zb3 (f_X5_sign (some b39) (59 : Int32) h38) (fun _ h45 =>
  zloop (B_X5_description_39) (fun _ _ => none) zFU p0 h45)
  (fun q46 h47 =>
  if zk h47 q46 = 6 then
  some (.inr q46, h47)
  else none))
  (fun q31 h32 =>
  if zk h32 q31 = 6 then
  some (.inr q31, h32)
  else none)
theorem w_X5_description {G : zG} {p0 : Option Nat} {h : zH} {vo : Option Nat ⊕ Nat} {vh : zH} (H : f_X5_description p0 h = some (vo, vh)) : zMet G M_X5_description 211 [vR p0] h (zoR vo) vh := by
  refine zMet.of (by decide +kernel) (Nat.le_of_ble_eq_true rfl) ?_
  show zW G M_X5_description 211 h (zoR vo) vh 0 [(0, vR p0)] [] h
  unfold f_X5_description at H
  refine zw_aload_n (pc := 0) dX5_description_0 rfl 0 rfl ?_
  obtain ⟨q1, h2, e3, H⟩ := zbind2 H
  refine zy_new (pc := 1) dX5_description_1 ln_X5_209 e3 ?_
  refine zw_dup (pc := 4) dX5_description_4 rfl ?_
  obtain ⟨b4, e5, H⟩ := zbind H
  obtain ⟨h7, e6, H⟩ := zbind H
  refine zw_invI (pc := 5) (M' := M_X2_init) (A := []) [vR (some q1), vR p0] dX5_description_5 (Or.inr (by decide +kernel)) mf_X2_init rfl rfl (w_X2_init e6) (Nat.le_of_ble_eq_true rfl) rfl (by rw [← e5]; rfl) (Nat.le_of_ble_eq_true rfl) (zku ?_) zkn9
  obtain ⟨h8, e9, H⟩ := zbind H
  refine zy_putR (pc := 8) dX5_description_8 lp_X5_26 rfl e9 ?_
  refine zw_aload_n (pc := 11) dX5_description_11 rfl 0 rfl ?_
  obtain ⟨b10, e12, H⟩ := zbind H
  obtain ⟨e11, e13⟩ := zrv_ok e12
  obtain ⟨h15, e14, H⟩ := zbind H
  refine zw_invV (pc := 12) (M' := M_X5_advance) (A := []) [] dX5_description_12 (Or.inl q680) mf_X5_advance ls_X5_advance (zkq e13 rfl) (w_X5_advance e14) (Nat.le_of_ble_eq_true rfl) rfl (by rw [← e11]; rfl) (Nat.le_of_ble_eq_true rfl) (zku ?_) zkn9
  refine zw_aload_n (pc := 15) dX5_description_15 rfl 0 rfl ?_
  refine zw_aload_n (pc := 16) dX5_description_16 rfl 0 rfl ?_
  obtain ⟨x16, e17, H⟩ := zbind H
  refine zy_getR (pc := 17) dX5_description_17 lf_X5_31 (fun _ _ => rfl) e17 ?_
  refine zw_ldcS (pc := 20) 10 dX5_description_20 rfl ?_
  obtain ⟨b18, e20, H⟩ := zbind H
  obtain ⟨e19, e21⟩ := zrv_ok e20
  obtain ⟨x23, e22, H⟩ := zbind H
  refine zw_invV (pc := 22) (M' := M_J4_equals) (A := [vR (some (zst h15 10))]) [vR p0] dX5_description_22 (Or.inl q946) mf_J4_equals q948 (zkq e21 rfl) (w_J4_equals e22) (Nat.le_of_ble_eq_true rfl) rfl (by rw [← e19]; rfl) (Nat.le_of_ble_eq_true rfl) (zkv ?_) zkn9
  refine zw_iconst (pc := 25) (v := (1 : Int32)) dX5_description_25 (by decide) ?_
  obtain ⟨b24, e26, H⟩ := zbind H
  obtain ⟨e25, e27⟩ := zrv_ok e26
  rcases zbind3 H with ⟨x29, h30, e28, H⟩ | ⟨q31, h32, e28, H⟩
  · refine zw_invV (pc := 26) (M' := M_X5_check) (A := [vI x23, vI (1 : Int32)]) [] dX5_description_26 (Or.inl q954) mf_X5_check ls_X5_check (zkq e27 rfl) (w_X5_check e28) (Nat.le_of_ble_eq_true rfl) rfl (by rw [← e25]; rfl) (Nat.le_of_ble_eq_true rfl) (zku ?_) zkn9
    refine zw_aload_n (pc := 29) dX5_description_29 rfl 0 rfl ?_
    obtain ⟨b33, e35, H⟩ := zbind H
    obtain ⟨e34, e36⟩ := zrv_ok e35
    obtain ⟨h38, e37, H⟩ := zbind H
    refine zw_invV (pc := 30) (M' := M_X5_advance) (A := []) [] dX5_description_30 (Or.inl q680) mf_X5_advance ls_X5_advance (zkq e36 rfl) (w_X5_advance e37) (Nat.le_of_ble_eq_true rfl) rfl (by rw [← e34]; rfl) (Nat.le_of_ble_eq_true rfl) (zku ?_) zkn9
    refine zw_aload_n (pc := 33) dX5_description_33 rfl 0 rfl ?_
    refine zw_bipush (pc := 34) (v := (59 : Int32)) dX5_description_34 (by decide) ?_
    obtain ⟨b39, e41, H⟩ := zbind H
    obtain ⟨e40, e42⟩ := zrv_ok e41
    rcases zbind3 H with ⟨x44, h45, e43, H⟩ | ⟨q46, h47, e43, H⟩
    · refine zw_invV (pc := 36) (M' := M_X5_sign) (A := [vI (59 : Int32)]) [] dX5_description_36 (Or.inl q981) mf_X5_sign ls_X5_sign (zkq e42 rfl) (w_X5_sign e43) (Nat.le_of_ble_eq_true rfl) rfl (by rw [← e40]; rfl) (Nat.le_of_ble_eq_true rfl) (zku ?_) zkn9
      refine zW_pick (lv' := [(0, vR p0)]) [0] rfl ?_
      exact zloop_ind (body := (B_X5_description_39)) (bot := (fun _ _ => none)) (P := (fun (f : Option Nat → zH → Option ((Option Nat ⊕ Nat) × zH)) => ∀ (b0 : Option Nat) (h' : zH), f b0 h' = some (vo, vh) → zW G M_X5_description 211 h (zoR vo) vh 39 [(0, vR b0)] [] h')) zFU (fun _ _ H => nomatch H) (fun f hf c0 h' H => wB_X5_description_39 hf H) _ _ H
    · refine zw_invV (pc := 36) (M' := M_X5_sign) (A := [vI (59 : Int32)]) [] dX5_description_36 (Or.inl q981) mf_X5_sign ls_X5_sign (zkq e42 rfl) (w_X5_sign e43) (Nat.le_of_ble_eq_true rfl) rfl (by rw [← e40]; rfl) (Nat.le_of_ble_eq_true rfl) zkv0 (zkx ?_)
      rcases zif H with ⟨c48, H⟩ | ⟨c48, H⟩
      · have c48 := c48
        obtain ⟨rfl, rfl⟩ := Prod.mk.inj (Option.some.inj H)
        exact zx_out (zkq c48 rfl) (fun _ hz => nomatch hz) rfl rfl
      cases H
  · refine zw_invV (pc := 26) (M' := M_X5_check) (A := [vI x23, vI (1 : Int32)]) [] dX5_description_26 (Or.inl q954) mf_X5_check ls_X5_check (zkq e27 rfl) (w_X5_check e28) (Nat.le_of_ble_eq_true rfl) rfl (by rw [← e25]; rfl) (Nat.le_of_ble_eq_true rfl) zkv0 (zkx ?_)
    rcases zif H with ⟨c49, H⟩ | ⟨c49, H⟩
    · have c49 := c49
      obtain ⟨rfl, rfl⟩ := Prod.mk.inj (Option.some.inj H)
      exact zx_out (zkq c49 rfl) (fun _ hz => nomatch hz) rfl rfl
    cases H
theorem ln_X16_7 : zCl "CsrCalculator$Command" 7 16 := ⟨_, by decide, by decide, rfl, q1480, q1123, q208⟩
theorem lq_X16_10 : zFp "CsrCalculator$Command" "<init>" 10 15 2 := ⟨_, "CsrCalculator$Command", by decide, rfl, by decide, Or.inl rfl, Or.inr ⟨q1486, rfl, rfl, rfl⟩⟩
theorem lq_X16_16 : zFp "CsrCalculator$Command" "<init>" 16 15 0 := ⟨_, "CsrCalculator$Command", by decide, rfl, by decide, Or.inl rfl, Or.inr ⟨q1482, rfl, rfl, rfl⟩⟩
theorem lq_X16_20 : zFp "CsrCalculator$Command" "<init>" 20 15 1 := ⟨_, "CsrCalculator$Command", by decide, rfl, by decide, Or.inl rfl, Or.inr ⟨q1484, rfl, rfl, rfl⟩⟩
def M_X16_init : zM := (yX16_init, cX16_init, 3, none, [])
theorem mf_X16_init : zMi M_X16_init 2 := ⟨⟨q1478, q218, ⟨by decide +kernel, by decide +kernel⟩, by decide +kernel, by decide⟩, q1477⟩
def f_X16_init (p0 : Option Nat) (p1 : Option Nat) (p2 : Option Nat) (h : zH) : Option zH :=
  p0.bind fun b1 =>
  zb2 (znw 16 h) fun q3 h4 =>
  (some q3).bind fun b6 =>
  (f_J18_init (some b6) h4).bind fun h9 =>
  (zpR 15 2 p0 (some q3) h9).bind fun h10 =>
  (zpR 15 0 p0 p1 h10).bind fun h12 =>
  (zpR 15 1 p0 p2 h12).bind fun h14 =>
  some h14
theorem w_X16_init {G : zG} {p0 : Option Nat} {p1 : Option Nat} {p2 : Option Nat} {h : zH} {vh : zH} (H : f_X16_init p0 p1 p2 h = some vh) : zMet G M_X16_init 5 [vR p0, vR p1, vR p2] h (.inl none) vh := by
  refine zMet.of (by decide +kernel) (Nat.le_of_ble_eq_true rfl) ?_
  show zW G M_X16_init 5 h (.inl none) vh 0 [(0, vR p0), (1, vR p1), (2, vR p2)] [] h
  unfold f_X16_init at H
  refine zw_aload_n (pc := 0) dX16_init_0 rfl 0 rfl ?_
  obtain ⟨b1, e2, H⟩ := zbind H
  refine zy_objInit (pc := 1) dX16_init_1 q1479 e2 (Nat.le_of_ble_eq_true rfl) (Nat.le_of_ble_eq_true rfl) ?_
  refine zw_aload_n (pc := 4) dX16_init_4 rfl 0 rfl ?_
  obtain ⟨q3, h4, e5, H⟩ := zbind2 H
  refine zy_new (pc := 5) dX16_init_5 ln_X16_7 e5 ?_
  refine zw_dup (pc := 8) dX16_init_8 rfl ?_
  obtain ⟨b6, e7, H⟩ := zbind H
  obtain ⟨h9, e8, H⟩ := zbind H
  refine zw_invI (pc := 9) (M' := M_J18_init) (A := []) [vR (some q3), vR p0] dX16_init_9 (Or.inl q1481) mf_J18_init rfl rfl (w_J18_init e8) (Nat.le_of_ble_eq_true rfl) rfl (by rw [← e7]; rfl) (Nat.le_of_ble_eq_true rfl) (zku ?_) zkn9
  obtain ⟨h10, e11, H⟩ := zbind H
  refine zy_putR (pc := 12) dX16_init_12 lq_X16_10 rfl e11 ?_
  refine zw_aload_n (pc := 15) dX16_init_15 rfl 0 rfl ?_
  refine zw_aload_n (pc := 16) dX16_init_16 rfl 1 rfl ?_
  obtain ⟨h12, e13, H⟩ := zbind H
  refine zy_putR (pc := 17) dX16_init_17 lq_X16_16 rfl e13 ?_
  refine zw_aload_n (pc := 20) dX16_init_20 rfl 0 rfl ?_
  refine zw_aload_n (pc := 21) dX16_init_21 rfl 2 rfl ?_
  obtain ⟨h14, e15, H⟩ := zbind H
  refine zy_putR (pc := 22) dX16_init_22 lq_X16_20 rfl e15 ?_
  obtain rfl := Option.some.inj H
  exact zw_vret (pc := 25) dX16_init_25 rfl rfl rfl
def M_X1_isCommand : zM := (yX1_isCommand, cX1_isCommand, 3, (.some .boolean), [])
theorem mf_X1_isCommand : zMs M_X1_isCommand 1 := ⟨⟨q1506, q180, ⟨by decide +kernel, by decide +kernel⟩, by decide +kernel, by decide⟩, q1505⟩
def f_X1_isCommand (p0 : Option Nat) (h : zH) : Option (Int32 × zH) :=
  (zrv 19 p0 h).bind fun b1 =>
  zb2 (f_J4_hashCode (some b1) h) fun x7 h6 =>
  if x7 = (-934531685 : Int32) then
  (zrv 19 p0 h6).bind fun b9 =>
  (f_J4_equals (some b9) (some (zst h6 6)) h6).bind fun x14 =>
  if x14 = 0 then
  if (-1 : Int32) = (0 : Int32) then
  some ((1 : Int32), h6)
  else
  if (-1 : Int32) = (1 : Int32) then
  some ((1 : Int32), h6)
  else
  if (-1 : Int32) = (2 : Int32) then
  some ((1 : Int32), h6)
  else
  zb2 (f_X1_isStatement p0 h6) fun x21 h20 =>
  if x21 = 0 ∨ x21 = 1 then some (x21, h20) else none
  else
  if (2 : Int32) = (0 : Int32) then
  some ((1 : Int32), h6)
  else
  if (2 : Int32) = (1 : Int32) then
  some ((1 : Int32), h6)
  else
  if (2 : Int32) = (2 : Int32) then
  some ((1 : Int32), h6)
  else
  zb2 (f_X1_isStatement p0 h6) fun x28 h27 =>
  if x28 = 0 ∨ x28 = 1 then some (x28, h27) else none
  else
  if x7 = (3543443 : Int32) then
  (zrv 19 p0 h6).bind fun b31 =>
  (f_J4_equals (some b31) (some (zst h6 5)) h6).bind fun x36 =>
  if x36 = 0 then
  if (-1 : Int32) = (0 : Int32) then
  some ((1 : Int32), h6)
  else
  if (-1 : Int32) = (1 : Int32) then
  some ((1 : Int32), h6)
  else
  if (-1 : Int32) = (2 : Int32) then
  some ((1 : Int32), h6)
  else
  zb2 (f_X1_isStatement p0 h6) fun x43 h42 =>
  if x43 = 0 ∨ x43 = 1 then some (x43, h42) else none
  else
  if (1 : Int32) = (0 : Int32) then
  some ((1 : Int32), h6)
  else
  if (1 : Int32) = (1 : Int32) then
  some ((1 : Int32), h6)
  else
  if (1 : Int32) = (2 : Int32) then
  some ((1 : Int32), h6)
  else
  zb2 (f_X1_isStatement p0 h6) fun x50 h49 =>
  if x50 = 0 ∨ x50 = 1 then some (x50, h49) else none
  else
  if x7 = (96768678 : Int32) then
  (zrv 19 p0 h6).bind fun b53 =>
  (f_J4_equals (some b53) (some (zst h6 4)) h6).bind fun x58 =>
  if x58 = 0 then
  if (-1 : Int32) = (0 : Int32) then
  some ((1 : Int32), h6)
  else
  if (-1 : Int32) = (1 : Int32) then
  some ((1 : Int32), h6)
  else
  if (-1 : Int32) = (2 : Int32) then
  some ((1 : Int32), h6)
  else
  zb2 (f_X1_isStatement p0 h6) fun x65 h64 =>
  if x65 = 0 ∨ x65 = 1 then some (x65, h64) else none
  else
  if (0 : Int32) = (0 : Int32) then
  some ((1 : Int32), h6)
  else
  if (0 : Int32) = (1 : Int32) then
  some ((1 : Int32), h6)
  else
  if (0 : Int32) = (2 : Int32) then
  some ((1 : Int32), h6)
  else
  zb2 (f_X1_isStatement p0 h6) fun x72 h71 =>
  if x72 = 0 ∨ x72 = 1 then some (x72, h71) else none
  else
  if (-1 : Int32) = (0 : Int32) then
  some ((1 : Int32), h6)
  else
  if (-1 : Int32) = (1 : Int32) then
  some ((1 : Int32), h6)
  else
  if (-1 : Int32) = (2 : Int32) then
  some ((1 : Int32), h6)
  else
  zb2 (f_X1_isStatement p0 h6) fun x79 h78 =>
  if x79 = 0 ∨ x79 = 1 then some (x79, h78) else none
theorem w_X1_isCommand {G : zG} {p0 : Option Nat} {h : zH} {vx : Int32} {vh : zH} (H : f_X1_isCommand p0 h = some (vx, vh)) : zMet G M_X1_isCommand 9 [vR p0] h (.inl (some (vI vx))) vh := by
  refine zMet.of (by decide +kernel) (Nat.le_of_ble_eq_true rfl) ?_
  show zW G M_X1_isCommand 9 h (.inl (some (vI vx))) vh 0 [(0, vR p0)] [] h
  unfold f_X1_isCommand at H
  refine zw_aload_n (pc := 0) dX1_isCommand_0 rfl 0 rfl ?_
  refine zw_astore_n (pc := 1) (lv' := [(1, vR p0), (0, vR p0)]) dX1_isCommand_1 rfl (by decide) rfl ?_
  refine zw_iconst (pc := 2) (v := (-1 : Int32)) dX1_isCommand_2 (by decide) ?_
  refine zw_istore_n (pc := 3) (lv' := [(2, vI (-1 : Int32)), (1, vR p0), (0, vR p0)]) dX1_isCommand_3 rfl (by decide) rfl ?_
  refine zw_aload_n (pc := 4) dX1_isCommand_4 rfl 1 rfl ?_
  obtain ⟨b1, e3, H⟩ := zbind H
  obtain ⟨e2, e4⟩ := zrv_ok e3
  obtain ⟨x7, h6, e5, H⟩ := zbind2 H
  refine zw_invV (pc := 5) (M' := M_J4_hashCode) (A := []) [] dX1_isCommand_5 (Or.inl q992) mf_J4_hashCode q994 (zkq e4 rfl) (w_J4_hashCode e5) (Nat.le_of_ble_eq_true rfl) rfl (by rw [← e2]; rfl) (Nat.le_of_ble_eq_true rfl) (zkv ?_) zkn9
  rcases zif H with ⟨c8, H⟩ | ⟨c8, H⟩
  · refine zw_lookup (pc := 8) (64) 72 dX1_isCommand_8 (by decide) (by rw [c8]; decide) rfl ?_
    refine zw_aload_n (pc := 72) dX1_isCommand_72 rfl 1 rfl ?_
    refine zw_ldcS (pc := 73) 6 dX1_isCommand_73 rfl ?_
    obtain ⟨b9, e11, H⟩ := zbind H
    obtain ⟨e10, e12⟩ := zrv_ok e11
    obtain ⟨x14, e13, H⟩ := zbind H
    refine zw_invV (pc := 75) (M' := M_J4_equals) (A := [vR (some (zst h6 6))]) [] dX1_isCommand_75 (Or.inl q1054) mf_J4_equals q948 (zkq e12 rfl) (w_J4_equals e13) (Nat.le_of_ble_eq_true rfl) rfl (by rw [← e10]; rfl) (Nat.le_of_ble_eq_true rfl) (zkv ?_) zkn9
    rcases zif H with ⟨c15, H⟩ | ⟨c15, H⟩
    · refine zw_if_eq (pc := 78) (tgt := 83) dX1_isCommand_78 rfl (fun _ => ?_) (fun q => absurd c15 q)
      refine zw_iload_n (pc := 83) dX1_isCommand_83 rfl 0 rfl ?_
      rcases zif H with ⟨c16, H⟩ | ⟨c16, H⟩
      · refine zw_tableIn (pc := 84) (28) 112 dX1_isCommand_84 (by rw [c16]; decide) (by rw [c16]; decide) (by rw [c16]; decide) rfl ?_
        refine zw_iconst (pc := 112) (v := (1 : Int32)) dX1_isCommand_112 (by decide) ?_
        refine zw_goto (pc := 113) (tgt := 120) dX1_isCommand_113 rfl ?_
        obtain ⟨rfl, rfl⟩ := Prod.mk.inj (Option.some.inj H)
        exact zw_zret (pc := 120) dX1_isCommand_120 rfl rfl rfl rfl
      rcases zif H with ⟨c17, H⟩ | ⟨c17, H⟩
      · refine zw_tableIn (pc := 84) (28) 112 dX1_isCommand_84 (by rw [c17]; decide) (by rw [c17]; decide) (by rw [c17]; decide) rfl ?_
        refine zw_iconst (pc := 112) (v := (1 : Int32)) dX1_isCommand_112 (by decide) ?_
        refine zw_goto (pc := 113) (tgt := 120) dX1_isCommand_113 rfl ?_
        obtain ⟨rfl, rfl⟩ := Prod.mk.inj (Option.some.inj H)
        exact zw_zret (pc := 120) dX1_isCommand_120 rfl rfl rfl rfl
      rcases zif H with ⟨c18, H⟩ | ⟨c18, H⟩
      · refine zw_tableIn (pc := 84) (28) 112 dX1_isCommand_84 (by rw [c18]; decide) (by rw [c18]; decide) (by rw [c18]; decide) rfl ?_
        refine zw_iconst (pc := 112) (v := (1 : Int32)) dX1_isCommand_112 (by decide) ?_
        refine zw_goto (pc := 113) (tgt := 120) dX1_isCommand_113 rfl ?_
        obtain ⟨rfl, rfl⟩ := Prod.mk.inj (Option.some.inj H)
        exact zw_zret (pc := 120) dX1_isCommand_120 rfl rfl rfl rfl
      refine zw_tableOut (pc := 84) 116 dX1_isCommand_84 (ztb (0) 3 rfl (by intro j hj; match j, hj with | 0, _ => exact zne c16 | 1, _ => exact zne c17 | 2, _ => exact zne c18)) rfl ?_
      refine zw_aload_n (pc := 116) dX1_isCommand_116 rfl 2 rfl ?_
      obtain ⟨x21, h20, e19, H⟩ := zbind2 H
      refine zw_invS (pc := 117) (M' := M_X1_isStatement) (A := [vR p0]) [] dX1_isCommand_117 (Or.inl q1510) mf_X1_isStatement (w_X1_isStatement e19) (Nat.le_of_ble_eq_true rfl) rfl rfl (Nat.le_of_ble_eq_true rfl) (zkv ?_) zkn9
      obtain ⟨c22, H⟩ := zgd H
      obtain ⟨rfl, rfl⟩ := Prod.mk.inj (Option.some.inj H)
      exact zw_zret (pc := 120) dX1_isCommand_120 rfl (znarZ c22) rfl rfl
    · refine zw_if_eq (pc := 78) (tgt := 83) dX1_isCommand_78 rfl (fun q => absurd q c15) (fun _ => ?_)
      refine zw_iconst (pc := 81) (v := (2 : Int32)) dX1_isCommand_81 (by decide) ?_
      refine zw_istore_n (pc := 82) (lv' := [(2, vI (2 : Int32)), (1, vR p0), (0, vR p0)]) dX1_isCommand_82 rfl (by decide) rfl ?_
      refine zw_iload_n (pc := 83) dX1_isCommand_83 rfl 0 rfl ?_
      rcases zif H with ⟨c23, H⟩ | ⟨c23, H⟩
      · refine zw_tableIn (pc := 84) (28) 112 dX1_isCommand_84 (by rw [c23]; decide) (by rw [c23]; decide) (by rw [c23]; decide) rfl ?_
        refine zw_iconst (pc := 112) (v := (1 : Int32)) dX1_isCommand_112 (by decide) ?_
        refine zw_goto (pc := 113) (tgt := 120) dX1_isCommand_113 rfl ?_
        obtain ⟨rfl, rfl⟩ := Prod.mk.inj (Option.some.inj H)
        exact zw_zret (pc := 120) dX1_isCommand_120 rfl rfl rfl rfl
      rcases zif H with ⟨c24, H⟩ | ⟨c24, H⟩
      · refine zw_tableIn (pc := 84) (28) 112 dX1_isCommand_84 (by rw [c24]; decide) (by rw [c24]; decide) (by rw [c24]; decide) rfl ?_
        refine zw_iconst (pc := 112) (v := (1 : Int32)) dX1_isCommand_112 (by decide) ?_
        refine zw_goto (pc := 113) (tgt := 120) dX1_isCommand_113 rfl ?_
        obtain ⟨rfl, rfl⟩ := Prod.mk.inj (Option.some.inj H)
        exact zw_zret (pc := 120) dX1_isCommand_120 rfl rfl rfl rfl
      rcases zif H with ⟨c25, H⟩ | ⟨c25, H⟩
      · refine zw_tableIn (pc := 84) (28) 112 dX1_isCommand_84 (by rw [c25]; decide) (by rw [c25]; decide) (by rw [c25]; decide) rfl ?_
        refine zw_iconst (pc := 112) (v := (1 : Int32)) dX1_isCommand_112 (by decide) ?_
        refine zw_goto (pc := 113) (tgt := 120) dX1_isCommand_113 rfl ?_
        obtain ⟨rfl, rfl⟩ := Prod.mk.inj (Option.some.inj H)
        exact zw_zret (pc := 120) dX1_isCommand_120 rfl rfl rfl rfl
      refine zw_tableOut (pc := 84) 116 dX1_isCommand_84 (ztb (0) 3 rfl (by intro j hj; match j, hj with | 0, _ => exact zne c23 | 1, _ => exact zne c24 | 2, _ => exact zne c25)) rfl ?_
      refine zw_aload_n (pc := 116) dX1_isCommand_116 rfl 2 rfl ?_
      obtain ⟨x28, h27, e26, H⟩ := zbind2 H
      refine zw_invS (pc := 117) (M' := M_X1_isStatement) (A := [vR p0]) [] dX1_isCommand_117 (Or.inl q1510) mf_X1_isStatement (w_X1_isStatement e26) (Nat.le_of_ble_eq_true rfl) rfl rfl (Nat.le_of_ble_eq_true rfl) (zkv ?_) zkn9
      obtain ⟨c29, H⟩ := zgd H
      obtain ⟨rfl, rfl⟩ := Prod.mk.inj (Option.some.inj H)
      exact zw_zret (pc := 120) dX1_isCommand_120 rfl (znarZ c29) rfl rfl
  rcases zif H with ⟨c30, H⟩ | ⟨c30, H⟩
  · refine zw_lookup (pc := 8) (50) 58 dX1_isCommand_8 (by decide) (by rw [c30]; decide) rfl ?_
    refine zw_aload_n (pc := 58) dX1_isCommand_58 rfl 1 rfl ?_
    refine zw_ldcS (pc := 59) 5 dX1_isCommand_59 rfl ?_
    obtain ⟨b31, e33, H⟩ := zbind H
    obtain ⟨e32, e34⟩ := zrv_ok e33
    obtain ⟨x36, e35, H⟩ := zbind H
    refine zw_invV (pc := 61) (M' := M_J4_equals) (A := [vR (some (zst h6 5))]) [] dX1_isCommand_61 (Or.inl q1054) mf_J4_equals q948 (zkq e34 rfl) (w_J4_equals e35) (Nat.le_of_ble_eq_true rfl) rfl (by rw [← e32]; rfl) (Nat.le_of_ble_eq_true rfl) (zkv ?_) zkn9
    rcases zif H with ⟨c37, H⟩ | ⟨c37, H⟩
    · refine zw_if_eq (pc := 64) (tgt := 83) dX1_isCommand_64 rfl (fun _ => ?_) (fun q => absurd c37 q)
      refine zw_iload_n (pc := 83) dX1_isCommand_83 rfl 0 rfl ?_
      rcases zif H with ⟨c38, H⟩ | ⟨c38, H⟩
      · refine zw_tableIn (pc := 84) (28) 112 dX1_isCommand_84 (by rw [c38]; decide) (by rw [c38]; decide) (by rw [c38]; decide) rfl ?_
        refine zw_iconst (pc := 112) (v := (1 : Int32)) dX1_isCommand_112 (by decide) ?_
        refine zw_goto (pc := 113) (tgt := 120) dX1_isCommand_113 rfl ?_
        obtain ⟨rfl, rfl⟩ := Prod.mk.inj (Option.some.inj H)
        exact zw_zret (pc := 120) dX1_isCommand_120 rfl rfl rfl rfl
      rcases zif H with ⟨c39, H⟩ | ⟨c39, H⟩
      · refine zw_tableIn (pc := 84) (28) 112 dX1_isCommand_84 (by rw [c39]; decide) (by rw [c39]; decide) (by rw [c39]; decide) rfl ?_
        refine zw_iconst (pc := 112) (v := (1 : Int32)) dX1_isCommand_112 (by decide) ?_
        refine zw_goto (pc := 113) (tgt := 120) dX1_isCommand_113 rfl ?_
        obtain ⟨rfl, rfl⟩ := Prod.mk.inj (Option.some.inj H)
        exact zw_zret (pc := 120) dX1_isCommand_120 rfl rfl rfl rfl
      rcases zif H with ⟨c40, H⟩ | ⟨c40, H⟩
      · refine zw_tableIn (pc := 84) (28) 112 dX1_isCommand_84 (by rw [c40]; decide) (by rw [c40]; decide) (by rw [c40]; decide) rfl ?_
        refine zw_iconst (pc := 112) (v := (1 : Int32)) dX1_isCommand_112 (by decide) ?_
        refine zw_goto (pc := 113) (tgt := 120) dX1_isCommand_113 rfl ?_
        obtain ⟨rfl, rfl⟩ := Prod.mk.inj (Option.some.inj H)
        exact zw_zret (pc := 120) dX1_isCommand_120 rfl rfl rfl rfl
      refine zw_tableOut (pc := 84) 116 dX1_isCommand_84 (ztb (0) 3 rfl (by intro j hj; match j, hj with | 0, _ => exact zne c38 | 1, _ => exact zne c39 | 2, _ => exact zne c40)) rfl ?_
      refine zw_aload_n (pc := 116) dX1_isCommand_116 rfl 2 rfl ?_
      obtain ⟨x43, h42, e41, H⟩ := zbind2 H
      refine zw_invS (pc := 117) (M' := M_X1_isStatement) (A := [vR p0]) [] dX1_isCommand_117 (Or.inl q1510) mf_X1_isStatement (w_X1_isStatement e41) (Nat.le_of_ble_eq_true rfl) rfl rfl (Nat.le_of_ble_eq_true rfl) (zkv ?_) zkn9
      obtain ⟨c44, H⟩ := zgd H
      obtain ⟨rfl, rfl⟩ := Prod.mk.inj (Option.some.inj H)
      exact zw_zret (pc := 120) dX1_isCommand_120 rfl (znarZ c44) rfl rfl
    · refine zw_if_eq (pc := 64) (tgt := 83) dX1_isCommand_64 rfl (fun q => absurd q c37) (fun _ => ?_)
      refine zw_iconst (pc := 67) (v := (1 : Int32)) dX1_isCommand_67 (by decide) ?_
      refine zw_istore_n (pc := 68) (lv' := [(2, vI (1 : Int32)), (1, vR p0), (0, vR p0)]) dX1_isCommand_68 rfl (by decide) rfl ?_
      refine zw_goto (pc := 69) (tgt := 83) dX1_isCommand_69 rfl ?_
      refine zw_iload_n (pc := 83) dX1_isCommand_83 rfl 0 rfl ?_
      rcases zif H with ⟨c45, H⟩ | ⟨c45, H⟩
      · refine zw_tableIn (pc := 84) (28) 112 dX1_isCommand_84 (by rw [c45]; decide) (by rw [c45]; decide) (by rw [c45]; decide) rfl ?_
        refine zw_iconst (pc := 112) (v := (1 : Int32)) dX1_isCommand_112 (by decide) ?_
        refine zw_goto (pc := 113) (tgt := 120) dX1_isCommand_113 rfl ?_
        obtain ⟨rfl, rfl⟩ := Prod.mk.inj (Option.some.inj H)
        exact zw_zret (pc := 120) dX1_isCommand_120 rfl rfl rfl rfl
      rcases zif H with ⟨c46, H⟩ | ⟨c46, H⟩
      · refine zw_tableIn (pc := 84) (28) 112 dX1_isCommand_84 (by rw [c46]; decide) (by rw [c46]; decide) (by rw [c46]; decide) rfl ?_
        refine zw_iconst (pc := 112) (v := (1 : Int32)) dX1_isCommand_112 (by decide) ?_
        refine zw_goto (pc := 113) (tgt := 120) dX1_isCommand_113 rfl ?_
        obtain ⟨rfl, rfl⟩ := Prod.mk.inj (Option.some.inj H)
        exact zw_zret (pc := 120) dX1_isCommand_120 rfl rfl rfl rfl
      rcases zif H with ⟨c47, H⟩ | ⟨c47, H⟩
      · refine zw_tableIn (pc := 84) (28) 112 dX1_isCommand_84 (by rw [c47]; decide) (by rw [c47]; decide) (by rw [c47]; decide) rfl ?_
        refine zw_iconst (pc := 112) (v := (1 : Int32)) dX1_isCommand_112 (by decide) ?_
        refine zw_goto (pc := 113) (tgt := 120) dX1_isCommand_113 rfl ?_
        obtain ⟨rfl, rfl⟩ := Prod.mk.inj (Option.some.inj H)
        exact zw_zret (pc := 120) dX1_isCommand_120 rfl rfl rfl rfl
      refine zw_tableOut (pc := 84) 116 dX1_isCommand_84 (ztb (0) 3 rfl (by intro j hj; match j, hj with | 0, _ => exact zne c45 | 1, _ => exact zne c46 | 2, _ => exact zne c47)) rfl ?_
      refine zw_aload_n (pc := 116) dX1_isCommand_116 rfl 2 rfl ?_
      obtain ⟨x50, h49, e48, H⟩ := zbind2 H
      refine zw_invS (pc := 117) (M' := M_X1_isStatement) (A := [vR p0]) [] dX1_isCommand_117 (Or.inl q1510) mf_X1_isStatement (w_X1_isStatement e48) (Nat.le_of_ble_eq_true rfl) rfl rfl (Nat.le_of_ble_eq_true rfl) (zkv ?_) zkn9
      obtain ⟨c51, H⟩ := zgd H
      obtain ⟨rfl, rfl⟩ := Prod.mk.inj (Option.some.inj H)
      exact zw_zret (pc := 120) dX1_isCommand_120 rfl (znarZ c51) rfl rfl
  rcases zif H with ⟨c52, H⟩ | ⟨c52, H⟩
  · refine zw_lookup (pc := 8) (36) 44 dX1_isCommand_8 (by decide) (by rw [c52]; decide) rfl ?_
    refine zw_aload_n (pc := 44) dX1_isCommand_44 rfl 1 rfl ?_
    refine zw_ldcS (pc := 45) 4 dX1_isCommand_45 rfl ?_
    obtain ⟨b53, e55, H⟩ := zbind H
    obtain ⟨e54, e56⟩ := zrv_ok e55
    obtain ⟨x58, e57, H⟩ := zbind H
    refine zw_invV (pc := 47) (M' := M_J4_equals) (A := [vR (some (zst h6 4))]) [] dX1_isCommand_47 (Or.inl q1054) mf_J4_equals q948 (zkq e56 rfl) (w_J4_equals e57) (Nat.le_of_ble_eq_true rfl) rfl (by rw [← e54]; rfl) (Nat.le_of_ble_eq_true rfl) (zkv ?_) zkn9
    rcases zif H with ⟨c59, H⟩ | ⟨c59, H⟩
    · refine zw_if_eq (pc := 50) (tgt := 83) dX1_isCommand_50 rfl (fun _ => ?_) (fun q => absurd c59 q)
      refine zw_iload_n (pc := 83) dX1_isCommand_83 rfl 0 rfl ?_
      rcases zif H with ⟨c60, H⟩ | ⟨c60, H⟩
      · refine zw_tableIn (pc := 84) (28) 112 dX1_isCommand_84 (by rw [c60]; decide) (by rw [c60]; decide) (by rw [c60]; decide) rfl ?_
        refine zw_iconst (pc := 112) (v := (1 : Int32)) dX1_isCommand_112 (by decide) ?_
        refine zw_goto (pc := 113) (tgt := 120) dX1_isCommand_113 rfl ?_
        obtain ⟨rfl, rfl⟩ := Prod.mk.inj (Option.some.inj H)
        exact zw_zret (pc := 120) dX1_isCommand_120 rfl rfl rfl rfl
      rcases zif H with ⟨c61, H⟩ | ⟨c61, H⟩
      · refine zw_tableIn (pc := 84) (28) 112 dX1_isCommand_84 (by rw [c61]; decide) (by rw [c61]; decide) (by rw [c61]; decide) rfl ?_
        refine zw_iconst (pc := 112) (v := (1 : Int32)) dX1_isCommand_112 (by decide) ?_
        refine zw_goto (pc := 113) (tgt := 120) dX1_isCommand_113 rfl ?_
        obtain ⟨rfl, rfl⟩ := Prod.mk.inj (Option.some.inj H)
        exact zw_zret (pc := 120) dX1_isCommand_120 rfl rfl rfl rfl
      rcases zif H with ⟨c62, H⟩ | ⟨c62, H⟩
      · refine zw_tableIn (pc := 84) (28) 112 dX1_isCommand_84 (by rw [c62]; decide) (by rw [c62]; decide) (by rw [c62]; decide) rfl ?_
        refine zw_iconst (pc := 112) (v := (1 : Int32)) dX1_isCommand_112 (by decide) ?_
        refine zw_goto (pc := 113) (tgt := 120) dX1_isCommand_113 rfl ?_
        obtain ⟨rfl, rfl⟩ := Prod.mk.inj (Option.some.inj H)
        exact zw_zret (pc := 120) dX1_isCommand_120 rfl rfl rfl rfl
      refine zw_tableOut (pc := 84) 116 dX1_isCommand_84 (ztb (0) 3 rfl (by intro j hj; match j, hj with | 0, _ => exact zne c60 | 1, _ => exact zne c61 | 2, _ => exact zne c62)) rfl ?_
      refine zw_aload_n (pc := 116) dX1_isCommand_116 rfl 2 rfl ?_
      obtain ⟨x65, h64, e63, H⟩ := zbind2 H
      refine zw_invS (pc := 117) (M' := M_X1_isStatement) (A := [vR p0]) [] dX1_isCommand_117 (Or.inl q1510) mf_X1_isStatement (w_X1_isStatement e63) (Nat.le_of_ble_eq_true rfl) rfl rfl (Nat.le_of_ble_eq_true rfl) (zkv ?_) zkn9
      obtain ⟨c66, H⟩ := zgd H
      obtain ⟨rfl, rfl⟩ := Prod.mk.inj (Option.some.inj H)
      exact zw_zret (pc := 120) dX1_isCommand_120 rfl (znarZ c66) rfl rfl
    · refine zw_if_eq (pc := 50) (tgt := 83) dX1_isCommand_50 rfl (fun q => absurd q c59) (fun _ => ?_)
      refine zw_iconst (pc := 53) (v := (0 : Int32)) dX1_isCommand_53 (by decide) ?_
      refine zw_istore_n (pc := 54) (lv' := [(2, vI (0 : Int32)), (1, vR p0), (0, vR p0)]) dX1_isCommand_54 rfl (by decide) rfl ?_
      refine zw_goto (pc := 55) (tgt := 83) dX1_isCommand_55 rfl ?_
      refine zw_iload_n (pc := 83) dX1_isCommand_83 rfl 0 rfl ?_
      rcases zif H with ⟨c67, H⟩ | ⟨c67, H⟩
      · refine zw_tableIn (pc := 84) (28) 112 dX1_isCommand_84 (by rw [c67]; decide) (by rw [c67]; decide) (by rw [c67]; decide) rfl ?_
        refine zw_iconst (pc := 112) (v := (1 : Int32)) dX1_isCommand_112 (by decide) ?_
        refine zw_goto (pc := 113) (tgt := 120) dX1_isCommand_113 rfl ?_
        obtain ⟨rfl, rfl⟩ := Prod.mk.inj (Option.some.inj H)
        exact zw_zret (pc := 120) dX1_isCommand_120 rfl rfl rfl rfl
      rcases zif H with ⟨c68, H⟩ | ⟨c68, H⟩
      · refine zw_tableIn (pc := 84) (28) 112 dX1_isCommand_84 (by rw [c68]; decide) (by rw [c68]; decide) (by rw [c68]; decide) rfl ?_
        refine zw_iconst (pc := 112) (v := (1 : Int32)) dX1_isCommand_112 (by decide) ?_
        refine zw_goto (pc := 113) (tgt := 120) dX1_isCommand_113 rfl ?_
        obtain ⟨rfl, rfl⟩ := Prod.mk.inj (Option.some.inj H)
        exact zw_zret (pc := 120) dX1_isCommand_120 rfl rfl rfl rfl
      rcases zif H with ⟨c69, H⟩ | ⟨c69, H⟩
      · refine zw_tableIn (pc := 84) (28) 112 dX1_isCommand_84 (by rw [c69]; decide) (by rw [c69]; decide) (by rw [c69]; decide) rfl ?_
        refine zw_iconst (pc := 112) (v := (1 : Int32)) dX1_isCommand_112 (by decide) ?_
        refine zw_goto (pc := 113) (tgt := 120) dX1_isCommand_113 rfl ?_
        obtain ⟨rfl, rfl⟩ := Prod.mk.inj (Option.some.inj H)
        exact zw_zret (pc := 120) dX1_isCommand_120 rfl rfl rfl rfl
      refine zw_tableOut (pc := 84) 116 dX1_isCommand_84 (ztb (0) 3 rfl (by intro j hj; match j, hj with | 0, _ => exact zne c67 | 1, _ => exact zne c68 | 2, _ => exact zne c69)) rfl ?_
      refine zw_aload_n (pc := 116) dX1_isCommand_116 rfl 2 rfl ?_
      obtain ⟨x72, h71, e70, H⟩ := zbind2 H
      refine zw_invS (pc := 117) (M' := M_X1_isStatement) (A := [vR p0]) [] dX1_isCommand_117 (Or.inl q1510) mf_X1_isStatement (w_X1_isStatement e70) (Nat.le_of_ble_eq_true rfl) rfl rfl (Nat.le_of_ble_eq_true rfl) (zkv ?_) zkn9
      obtain ⟨c73, H⟩ := zgd H
      obtain ⟨rfl, rfl⟩ := Prod.mk.inj (Option.some.inj H)
      exact zw_zret (pc := 120) dX1_isCommand_120 rfl (znarZ c73) rfl rfl
  refine zw_lookup (pc := 8) (75) 83 dX1_isCommand_8 (by decide) (zlkD (List.forall_mem_cons.mpr ⟨zne c8, List.forall_mem_cons.mpr ⟨zne c30, List.forall_mem_cons.mpr ⟨zne c52, fun _ hp => nomatch hp⟩⟩⟩)) rfl ?_
  refine zw_iload_n (pc := 83) dX1_isCommand_83 rfl 0 rfl ?_
  rcases zif H with ⟨c74, H⟩ | ⟨c74, H⟩
  · refine zw_tableIn (pc := 84) (28) 112 dX1_isCommand_84 (by rw [c74]; decide) (by rw [c74]; decide) (by rw [c74]; decide) rfl ?_
    refine zw_iconst (pc := 112) (v := (1 : Int32)) dX1_isCommand_112 (by decide) ?_
    refine zw_goto (pc := 113) (tgt := 120) dX1_isCommand_113 rfl ?_
    obtain ⟨rfl, rfl⟩ := Prod.mk.inj (Option.some.inj H)
    exact zw_zret (pc := 120) dX1_isCommand_120 rfl rfl rfl rfl
  rcases zif H with ⟨c75, H⟩ | ⟨c75, H⟩
  · refine zw_tableIn (pc := 84) (28) 112 dX1_isCommand_84 (by rw [c75]; decide) (by rw [c75]; decide) (by rw [c75]; decide) rfl ?_
    refine zw_iconst (pc := 112) (v := (1 : Int32)) dX1_isCommand_112 (by decide) ?_
    refine zw_goto (pc := 113) (tgt := 120) dX1_isCommand_113 rfl ?_
    obtain ⟨rfl, rfl⟩ := Prod.mk.inj (Option.some.inj H)
    exact zw_zret (pc := 120) dX1_isCommand_120 rfl rfl rfl rfl
  rcases zif H with ⟨c76, H⟩ | ⟨c76, H⟩
  · refine zw_tableIn (pc := 84) (28) 112 dX1_isCommand_84 (by rw [c76]; decide) (by rw [c76]; decide) (by rw [c76]; decide) rfl ?_
    refine zw_iconst (pc := 112) (v := (1 : Int32)) dX1_isCommand_112 (by decide) ?_
    refine zw_goto (pc := 113) (tgt := 120) dX1_isCommand_113 rfl ?_
    obtain ⟨rfl, rfl⟩ := Prod.mk.inj (Option.some.inj H)
    exact zw_zret (pc := 120) dX1_isCommand_120 rfl rfl rfl rfl
  refine zw_tableOut (pc := 84) 116 dX1_isCommand_84 (ztb (0) 3 rfl (by intro j hj; match j, hj with | 0, _ => exact zne c74 | 1, _ => exact zne c75 | 2, _ => exact zne c76)) rfl ?_
  refine zw_aload_n (pc := 116) dX1_isCommand_116 rfl 2 rfl ?_
  obtain ⟨x79, h78, e77, H⟩ := zbind2 H
  refine zw_invS (pc := 117) (M' := M_X1_isStatement) (A := [vR p0]) [] dX1_isCommand_117 (Or.inl q1510) mf_X1_isStatement (w_X1_isStatement e77) (Nat.le_of_ble_eq_true rfl) rfl rfl (Nat.le_of_ble_eq_true rfl) (zkv ?_) zkn9
  obtain ⟨c80, H⟩ := zgd H
  obtain ⟨rfl, rfl⟩ := Prod.mk.inj (Option.some.inj H)
  exact zw_zret (pc := 120) dX1_isCommand_120 rfl (znarZ c80) rfl rfl
theorem ln_X5_261 : zCl "CsrCalculator$Reader" 261 15 := ⟨_, by decide, by decide, rfl, q1473, q1474, q218⟩
def M_X5_numbered : zM := (yX5_numbered, cX5_numbered, 7, (.some (.object "CsrCalculator$Command")), [])
theorem mf_X5_numbered : zMi M_X5_numbered 2 := ⟨⟨q1519, q195, ⟨by decide +kernel, by decide +kernel⟩, by decide +kernel, by decide⟩, q1518⟩
def f_X5_numbered (p0 : Option Nat) (p1 : Option Nat) (p2 : Int32) (h : zH) : Option ((Option Nat ⊕ Nat) × zH) :=
  (zrv 5 p0 h).bind fun b1 =>
  zb3 (f_X5_number (some b1) (0 : Int32) (9999 : Int32) h) (fun x6 h7 =>
  (zrv 5 p0 h7).bind fun b10 =>
  zb3 (f_X5_number (some b10) (0 : Int32) (9999 : Int32) h7) (fun x15 h16 =>
  (zrv 19 p1 h16).bind fun b19 =>
  (f_J4_equals (some b19) (some (zst h16 12)) h16).bind fun x24 =>
  if x24 = 0 then
  zb2 (znw 15 h16) fun q68 h69 =>
  zb2 (zna 50 (3 : Int32) h69) fun q71 h72 =>
  (zsI (some q71) (0 : Int32) p2 h72).bind fun h74 =>
  (zsI (some q71) (1 : Int32) x6 h74).bind fun h76 =>
  (zsI (some q71) (2 : Int32) x15 h76).bind fun h78 =>
  (some q68).bind fun b80 =>
  (f_X16_init (some b80) p1 (some q71) h78).bind fun h83 =>
  some (.inl (some q68), h83)
  else
  (zrv 5 p0 h16).bind fun b26 =>
  zb2 (f_X5_skips (some b26) (some (zst h16 14)) h16) fun x32 h31 =>
  (zrv 5 p0 h31).bind fun b33 =>
  zb3 (f_X5_number (some b33) (0 : Int32) (9999 : Int32) h31) (fun x38 h39 =>
  zb2 (znw 15 h39) fun q42 h43 =>
  zb2 (zna 50 (4 : Int32) h43) fun q45 h46 =>
  (zsI (some q45) (0 : Int32) p2 h46).bind fun h48 =>
  (zsI (some q45) (1 : Int32) x6 h48).bind fun h50 =>
  (zsI (some q45) (2 : Int32) x15 h50).bind fun h52 =>
  if x32 = 0 then
  (zsI (some q45) (3 : Int32) x38 h52).bind fun h55 =>
  (some q42).bind fun b57 =>
  (f_X16_init (some b57) p1 (some q45) h55).bind fun h60 =>
  some (.inl (some q42), h60)
  else
  (zsI (some q45) (3 : Int32) (-x38) h52).bind fun h61 =>
  (some q42).bind fun b63 =>
  (f_X16_init (some b63) p1 (some q45) h61).bind fun h66 =>
  some (.inl (some q42), h66))
  (fun q40 h41 =>
  if zk h41 q40 = 6 then
  some (.inr q40, h41)
  else none))
  (fun q17 h18 =>
  if zk h18 q17 = 6 then
  some (.inr q17, h18)
  else none))
  (fun q8 h9 =>
  if zk h9 q8 = 6 then
  some (.inr q8, h9)
  else none)
theorem w_X5_numbered {G : zG} {p0 : Option Nat} {p1 : Option Nat} {p2 : Int32} {h : zH} {vo : Option Nat ⊕ Nat} {vh : zH} (H : f_X5_numbered p0 p1 p2 h = some (vo, vh)) : zMet G M_X5_numbered 14 [vR p0, vR p1, vI p2] h (zoR vo) vh := by
  refine zMet.of (by decide +kernel) (Nat.le_of_ble_eq_true rfl) ?_
  show zW G M_X5_numbered 14 h (zoR vo) vh 0 [(0, vR p0), (1, vR p1), (2, vI p2)] [] h
  unfold f_X5_numbered at H
  refine zw_aload_n (pc := 0) dX5_numbered_0 rfl 0 rfl ?_
  refine zw_iconst (pc := 1) (v := (0 : Int32)) dX5_numbered_1 (by decide) ?_
  refine zw_sipush (pc := 2) (v := (9999 : Int32)) dX5_numbered_2 (by decide) ?_
  obtain ⟨b1, e3, H⟩ := zbind H
  obtain ⟨e2, e4⟩ := zrv_ok e3
  rcases zbind3 H with ⟨x6, h7, e5, H⟩ | ⟨q8, h9, e5, H⟩
  · refine zw_invV (pc := 5) (M' := M_X5_number) (A := [vI (0 : Int32), vI (9999 : Int32)]) [] dX5_numbered_5 (Or.inl q1087) mf_X5_number ls_X5_number (zkq e4 rfl) (w_X5_number e5) (Nat.le_of_ble_eq_true rfl) rfl (by rw [← e2]; rfl) (Nat.le_of_ble_eq_true rfl) (zkv ?_) zkn9
    refine zw_istore_n (pc := 8) (lv' := [(3, vI x6), (0, vR p0), (1, vR p1), (2, vI p2)]) dX5_numbered_8 rfl (by decide) rfl ?_
    refine zw_aload_n (pc := 9) dX5_numbered_9 rfl 1 rfl ?_
    refine zw_iconst (pc := 10) (v := (0 : Int32)) dX5_numbered_10 (by decide) ?_
    refine zw_sipush (pc := 11) (v := (9999 : Int32)) dX5_numbered_11 (by decide) ?_
    obtain ⟨b10, e12, H⟩ := zbind H
    obtain ⟨e11, e13⟩ := zrv_ok e12
    rcases zbind3 H with ⟨x15, h16, e14, H⟩ | ⟨q17, h18, e14, H⟩
    · refine zw_invV (pc := 14) (M' := M_X5_number) (A := [vI (0 : Int32), vI (9999 : Int32)]) [] dX5_numbered_14 (Or.inl q1087) mf_X5_number ls_X5_number (zkq e13 rfl) (w_X5_number e14) (Nat.le_of_ble_eq_true rfl) rfl (by rw [← e11]; rfl) (Nat.le_of_ble_eq_true rfl) (zkv ?_) zkn9
      refine zw_istore (pc := 17) (lv' := [(4, vI x15), (3, vI x6), (0, vR p0), (1, vR p1), (2, vI p2)]) dX5_numbered_17 (by decide) rfl ?_
      refine zw_aload_n (pc := 19) dX5_numbered_19 rfl 3 rfl ?_
      refine zw_ldcS (pc := 20) 12 dX5_numbered_20 rfl ?_
      obtain ⟨b19, e21, H⟩ := zbind H
      obtain ⟨e20, e22⟩ := zrv_ok e21
      obtain ⟨x24, e23, H⟩ := zbind H
      refine zw_invV (pc := 22) (M' := M_J4_equals) (A := [vR (some (zst h16 12))]) [] dX5_numbered_22 (Or.inl q946) mf_J4_equals q948 (zkq e22 rfl) (w_J4_equals e23) (Nat.le_of_ble_eq_true rfl) rfl (by rw [← e20]; rfl) (Nat.le_of_ble_eq_true rfl) (zkv ?_) zkn9
      rcases zif H with ⟨c25, H⟩ | ⟨c25, H⟩
      · refine zw_if_ne (pc := 25) (tgt := 53) dX5_numbered_25 rfl (fun q => absurd c25 q) (fun _ => ?_)
        obtain ⟨q68, h69, e70, H⟩ := zbind2 H
        refine zy_new (pc := 28) dX5_numbered_28 ln_X5_261 e70 ?_
        refine zw_dup (pc := 31) dX5_numbered_31 rfl ?_
        refine zw_aload_n (pc := 32) dX5_numbered_32 rfl 3 rfl ?_
        refine zw_iconst (pc := 33) (v := (3 : Int32)) dX5_numbered_33 (by decide) ?_
        obtain ⟨q71, h72, e73, H⟩ := zbind2 H
        refine zy_newa (pc := 34) (k := 50) dX5_numbered_34 (by decide) q270 e73 ?_
        refine zw_dup (pc := 36) dX5_numbered_36 rfl ?_
        refine zw_iconst (pc := 37) (v := (0 : Int32)) dX5_numbered_37 (by decide) ?_
        refine zw_iload_n (pc := 38) dX5_numbered_38 rfl 4 rfl ?_
        obtain ⟨h74, e75, H⟩ := zbind H
        refine zy_iast (pc := 39) dX5_numbered_39 e75 ?_
        refine zw_dup (pc := 40) dX5_numbered_40 rfl ?_
        refine zw_iconst (pc := 41) (v := (1 : Int32)) dX5_numbered_41 (by decide) ?_
        refine zw_iload_n (pc := 42) dX5_numbered_42 rfl 1 rfl ?_
        obtain ⟨h76, e77, H⟩ := zbind H
        refine zy_iast (pc := 43) dX5_numbered_43 e77 ?_
        refine zw_dup (pc := 44) dX5_numbered_44 rfl ?_
        refine zw_iconst (pc := 45) (v := (2 : Int32)) dX5_numbered_45 (by decide) ?_
        refine zw_iload (pc := 46) dX5_numbered_46 0 rfl ?_
        obtain ⟨h78, e79, H⟩ := zbind H
        refine zy_iast (pc := 48) dX5_numbered_48 e79 ?_
        obtain ⟨b80, e81, H⟩ := zbind H
        obtain ⟨h83, e82, H⟩ := zbind H
        refine zw_invI (pc := 49) (M' := M_X16_init) (A := [vR p1, vR (some q71)]) [vR (some q68)] dX5_numbered_49 (Or.inl q1476) mf_X16_init rfl rfl (w_X16_init e82) (Nat.le_of_ble_eq_true rfl) rfl (by rw [← e81]; rfl) (Nat.le_of_ble_eq_true rfl) (zku ?_) zkn9
        obtain ⟨rfl, rfl⟩ := Prod.mk.inj (Option.some.inj H)
        exact zw_aret (pc := 52) dX5_numbered_52 rfl (Or.inl ⟨_, rfl⟩) rfl rfl
      · refine zw_if_ne (pc := 25) (tgt := 53) dX5_numbered_25 rfl (fun _ => ?_) (fun q => absurd q c25)
        refine zw_aload_n (pc := 53) dX5_numbered_53 rfl 2 rfl ?_
        refine zw_ldcS (pc := 54) 14 dX5_numbered_54 rfl ?_
        obtain ⟨b26, e28, H⟩ := zbind H
        obtain ⟨e27, e29⟩ := zrv_ok e28
        obtain ⟨x32, h31, e30, H⟩ := zbind2 H
        refine zw_invV (pc := 56) (M' := M_X5_skips) (A := [vR (some (zst h16 14))]) [] dX5_numbered_56 (Or.inl q1098) mf_X5_skips ls_X5_skips (zkq e29 rfl) (w_X5_skips e30) (Nat.le_of_ble_eq_true rfl) rfl (by rw [← e27]; rfl) (Nat.le_of_ble_eq_true rfl) (zkv ?_) zkn9
        refine zw_istore (pc := 59) (lv' := [(5, vI x32), (4, vI x15), (3, vI x6), (0, vR p0), (1, vR p1), (2, vI p2)]) dX5_numbered_59 (by decide) rfl ?_
        refine zw_aload_n (pc := 61) dX5_numbered_61 rfl 3 rfl ?_
        refine zw_iconst (pc := 62) (v := (0 : Int32)) dX5_numbered_62 (by decide) ?_
        refine zw_sipush (pc := 63) (v := (9999 : Int32)) dX5_numbered_63 (by decide) ?_
        obtain ⟨b33, e35, H⟩ := zbind H
        obtain ⟨e34, e36⟩ := zrv_ok e35
        rcases zbind3 H with ⟨x38, h39, e37, H⟩ | ⟨q40, h41, e37, H⟩
        · refine zw_invV (pc := 66) (M' := M_X5_number) (A := [vI (0 : Int32), vI (9999 : Int32)]) [] dX5_numbered_66 (Or.inl q1087) mf_X5_number ls_X5_number (zkq e36 rfl) (w_X5_number e37) (Nat.le_of_ble_eq_true rfl) rfl (by rw [← e34]; rfl) (Nat.le_of_ble_eq_true rfl) (zkv ?_) zkn9
          refine zw_istore (pc := 69) (lv' := [(6, vI x38), (5, vI x32), (4, vI x15), (3, vI x6), (0, vR p0), (1, vR p1), (2, vI p2)]) dX5_numbered_69 (by decide) rfl ?_
          obtain ⟨q42, h43, e44, H⟩ := zbind2 H
          refine zy_new (pc := 71) dX5_numbered_71 ln_X5_261 e44 ?_
          refine zw_dup (pc := 74) dX5_numbered_74 rfl ?_
          refine zw_aload_n (pc := 75) dX5_numbered_75 rfl 5 rfl ?_
          refine zw_iconst (pc := 76) (v := (4 : Int32)) dX5_numbered_76 (by decide) ?_
          obtain ⟨q45, h46, e47, H⟩ := zbind2 H
          refine zy_newa (pc := 77) (k := 50) dX5_numbered_77 (by decide) q270 e47 ?_
          refine zw_dup (pc := 79) dX5_numbered_79 rfl ?_
          refine zw_iconst (pc := 80) (v := (0 : Int32)) dX5_numbered_80 (by decide) ?_
          refine zw_iload_n (pc := 81) dX5_numbered_81 rfl 6 rfl ?_
          obtain ⟨h48, e49, H⟩ := zbind H
          refine zy_iast (pc := 82) dX5_numbered_82 e49 ?_
          refine zw_dup (pc := 83) dX5_numbered_83 rfl ?_
          refine zw_iconst (pc := 84) (v := (1 : Int32)) dX5_numbered_84 (by decide) ?_
          refine zw_iload_n (pc := 85) dX5_numbered_85 rfl 3 rfl ?_
          obtain ⟨h50, e51, H⟩ := zbind H
          refine zy_iast (pc := 86) dX5_numbered_86 e51 ?_
          refine zw_dup (pc := 87) dX5_numbered_87 rfl ?_
          refine zw_iconst (pc := 88) (v := (2 : Int32)) dX5_numbered_88 (by decide) ?_
          refine zw_iload (pc := 89) dX5_numbered_89 2 rfl ?_
          obtain ⟨h52, e53, H⟩ := zbind H
          refine zy_iast (pc := 91) dX5_numbered_91 e53 ?_
          refine zw_dup (pc := 92) dX5_numbered_92 rfl ?_
          refine zw_iconst (pc := 93) (v := (3 : Int32)) dX5_numbered_93 (by decide) ?_
          refine zw_iload (pc := 94) dX5_numbered_94 1 rfl ?_
          rcases zif H with ⟨c54, H⟩ | ⟨c54, H⟩
          · refine zw_if_eq (pc := 96) (tgt := 105) dX5_numbered_96 rfl (fun _ => ?_) (fun q => absurd c54 q)
            refine zw_iload (pc := 105) dX5_numbered_105 0 rfl ?_
            obtain ⟨h55, e56, H⟩ := zbind H
            refine zy_iast (pc := 107) dX5_numbered_107 e56 ?_
            obtain ⟨b57, e58, H⟩ := zbind H
            obtain ⟨h60, e59, H⟩ := zbind H
            refine zw_invI (pc := 108) (M' := M_X16_init) (A := [vR p1, vR (some q45)]) [vR (some q42)] dX5_numbered_108 (Or.inl q1476) mf_X16_init rfl rfl (w_X16_init e59) (Nat.le_of_ble_eq_true rfl) rfl (by rw [← e58]; rfl) (Nat.le_of_ble_eq_true rfl) (zku ?_) zkn9
            obtain ⟨rfl, rfl⟩ := Prod.mk.inj (Option.some.inj H)
            exact zw_aret (pc := 111) dX5_numbered_111 rfl (Or.inl ⟨_, rfl⟩) rfl rfl
          · refine zw_if_eq (pc := 96) (tgt := 105) dX5_numbered_96 rfl (fun q => absurd q c54) (fun _ => ?_)
            refine zw_iload (pc := 99) dX5_numbered_99 0 rfl ?_
            refine zw_ineg (pc := 101) dX5_numbered_101 ?_
            refine zw_goto (pc := 102) (tgt := 107) dX5_numbered_102 rfl ?_
            obtain ⟨h61, e62, H⟩ := zbind H
            refine zy_iast (pc := 107) dX5_numbered_107 e62 ?_
            obtain ⟨b63, e64, H⟩ := zbind H
            obtain ⟨h66, e65, H⟩ := zbind H
            refine zw_invI (pc := 108) (M' := M_X16_init) (A := [vR p1, vR (some q45)]) [vR (some q42)] dX5_numbered_108 (Or.inl q1476) mf_X16_init rfl rfl (w_X16_init e65) (Nat.le_of_ble_eq_true rfl) rfl (by rw [← e64]; rfl) (Nat.le_of_ble_eq_true rfl) (zku ?_) zkn9
            obtain ⟨rfl, rfl⟩ := Prod.mk.inj (Option.some.inj H)
            exact zw_aret (pc := 111) dX5_numbered_111 rfl (Or.inl ⟨_, rfl⟩) rfl rfl
        · refine zw_invV (pc := 66) (M' := M_X5_number) (A := [vI (0 : Int32), vI (9999 : Int32)]) [] dX5_numbered_66 (Or.inl q1087) mf_X5_number ls_X5_number (zkq e36 rfl) (w_X5_number e37) (Nat.le_of_ble_eq_true rfl) rfl (by rw [← e34]; rfl) (Nat.le_of_ble_eq_true rfl) zkv0 (zkx ?_)
          rcases zif H with ⟨c67, H⟩ | ⟨c67, H⟩
          · have c67 := c67
            obtain ⟨rfl, rfl⟩ := Prod.mk.inj (Option.some.inj H)
            exact zx_out (zkq c67 rfl) (fun _ hz => nomatch hz) rfl rfl
          cases H
    · refine zw_invV (pc := 14) (M' := M_X5_number) (A := [vI (0 : Int32), vI (9999 : Int32)]) [] dX5_numbered_14 (Or.inl q1087) mf_X5_number ls_X5_number (zkq e13 rfl) (w_X5_number e14) (Nat.le_of_ble_eq_true rfl) rfl (by rw [← e11]; rfl) (Nat.le_of_ble_eq_true rfl) zkv0 (zkx ?_)
      rcases zif H with ⟨c84, H⟩ | ⟨c84, H⟩
      · have c84 := c84
        obtain ⟨rfl, rfl⟩ := Prod.mk.inj (Option.some.inj H)
        exact zx_out (zkq c84 rfl) (fun _ hz => nomatch hz) rfl rfl
      cases H
  · refine zw_invV (pc := 5) (M' := M_X5_number) (A := [vI (0 : Int32), vI (9999 : Int32)]) [] dX5_numbered_5 (Or.inl q1087) mf_X5_number ls_X5_number (zkq e4 rfl) (w_X5_number e5) (Nat.le_of_ble_eq_true rfl) rfl (by rw [← e2]; rfl) (Nat.le_of_ble_eq_true rfl) zkv0 (zkx ?_)
    rcases zif H with ⟨c85, H⟩ | ⟨c85, H⟩
    · have c85 := c85
      obtain ⟨rfl, rfl⟩ := Prod.mk.inj (Option.some.inj H)
      exact zx_out (zkq c85 rfl) (fun _ hz => nomatch hz) rfl rfl
    cases H
theorem lp_X5_294 {nm : String} : zFp "CsrCalculator$Reader" nm 294 15 3 := ⟨_, "CsrCalculator$Command", by decide, rfl, by decide, Or.inl rfl, Or.inl ⟨Or.inr (by decide +kernel), rfl⟩⟩
theorem ls_X5_numbered : Cond.selects yX5_numbered.cls yX5_numbered yX5_numbered ∈ lw_all := lw_g (lw_ms _ (List.mem_of_getElem? (i := 43) rfl)) rfl
def M_X5_registerCommand : zM := (yX5_registerCommand, cX5_registerCommand, 6, (.some (.object "CsrCalculator$Command")), [])
theorem mf_X5_registerCommand : zMi M_X5_registerCommand 1 := ⟨⟨q1514, q195, ⟨by decide +kernel, by decide +kernel⟩, by decide +kernel, by decide⟩, q1513⟩
def B_X5_registerCommand_68 (a0 : Option Nat) (a1 : Option Nat) (a2 : Int32) (a3 : Int32) (h : zH) : Option ((Option Nat ⊕ Nat) × zH) :=
  if a3 = (0 : Int32) then
  zb2 (znw 15 h) fun q2 h3 =>
  zb2 (zna 50 (1 : Int32) h3) fun q5 h6 =>
  (zsI (some q5) (0 : Int32) a2 h6).bind fun h8 =>
  (some q2).bind fun b10 =>
  (f_X16_init (some b10) a1 (some q5) h8).bind fun h13 =>
  (zrv 5 a0 h13).bind fun b14 =>
  zb3 (f_X5_expression (some b14) h13) (fun x19 h20 =>
  (zpR 15 3 (some q2) x19 h20).bind fun h23 =>
  some (.inl (some q2), h23))
  (fun q21 h22 =>
  if zk h22 q21 = 6 then
  some (.inr q21, h22)
  else none)
  else
  if a3 = (1 : Int32) then
  zb2 (znw 15 h) fun q27 h28 =>
  zb2 (zna 50 (1 : Int32) h28) fun q30 h31 =>
  (zsI (some q30) (0 : Int32) a2 h31).bind fun h33 =>
  (some q27).bind fun b35 =>
  (f_X16_init (some b35) a1 (some q30) h33).bind fun h38 =>
  some (.inl (some q27), h38)
  else
  (zrv 5 a0 h).bind fun b39 =>
  zb3 (f_X5_numbered (some b39) a1 a2 h) (fun x44 h45 =>
  some (.inl x44, h45))
  (fun q46 h47 =>
  if zk h47 q46 = 6 then
  some (.inr q46, h47)
  else none)
theorem wB_X5_registerCommand_68 {G : zG} {h0 h : zH} {vo : Option Nat ⊕ Nat} {vh : zH} {a0 : Option Nat} {a1 : Option Nat} {a2 : Int32} {a3 : Int32} (H : B_X5_registerCommand_68 a0 a1 a2 a3 h = some (vo, vh)) : zW G M_X5_registerCommand 210 h0 (zoR vo) vh 68 [(0, vR a0), (1, vR a1), (2, vI a2), (4, vI a3)] [] h := by
  unfold B_X5_registerCommand_68 at H
  refine zw_iload (pc := 68) dX5_registerCommand_68 3 rfl ?_
  rcases zif H with ⟨c1, H⟩ | ⟨c1, H⟩
  · refine zw_lookup (pc := 70) (26) 96 dX5_registerCommand_70 (by decide) (by rw [c1]; decide) rfl ?_
    obtain ⟨q2, h3, e4, H⟩ := zbind2 H
    refine zy_new (pc := 96) dX5_registerCommand_96 ln_X5_261 e4 ?_
    refine zw_dup (pc := 99) dX5_registerCommand_99 rfl ?_
    refine zw_aload_n (pc := 100) dX5_registerCommand_100 rfl 1 rfl ?_
    refine zw_iconst (pc := 101) (v := (1 : Int32)) dX5_registerCommand_101 (by decide) ?_
    obtain ⟨q5, h6, e7, H⟩ := zbind2 H
    refine zy_newa (pc := 102) (k := 50) dX5_registerCommand_102 (by decide) q270 e7 ?_
    refine zw_dup (pc := 104) dX5_registerCommand_104 rfl ?_
    refine zw_iconst (pc := 105) (v := (0 : Int32)) dX5_registerCommand_105 (by decide) ?_
    refine zw_iload_n (pc := 106) dX5_registerCommand_106 rfl 2 rfl ?_
    obtain ⟨h8, e9, H⟩ := zbind H
    refine zy_iast (pc := 107) dX5_registerCommand_107 e9 ?_
    obtain ⟨b10, e11, H⟩ := zbind H
    obtain ⟨h13, e12, H⟩ := zbind H
    refine zw_invI (pc := 108) (M' := M_X16_init) (A := [vR a1, vR (some q5)]) [vR (some q2)] dX5_registerCommand_108 (Or.inl q1476) mf_X16_init rfl rfl (w_X16_init e12) (Nat.le_of_ble_eq_true rfl) rfl (by rw [← e11]; rfl) (Nat.le_of_ble_eq_true rfl) (zku ?_) zkn9
    refine zw_astore (pc := 111) (lv' := [(5, vR (some q2)), (0, vR a0), (1, vR a1), (2, vI a2), (4, vI a3)]) dX5_registerCommand_111 (by decide) rfl ?_
    refine zw_aload (pc := 113) dX5_registerCommand_113 0 rfl ?_
    refine zw_aload_n (pc := 115) dX5_registerCommand_115 rfl 1 rfl ?_
    obtain ⟨b14, e16, H⟩ := zbind H
    obtain ⟨e15, e17⟩ := zrv_ok e16
    rcases zbind3 H with ⟨x19, h20, e18, H⟩ | ⟨q21, h22, e18, H⟩
    · refine zw_invV (pc := 116) (M' := M_X5_expression) (A := []) [vR (some q2)] dX5_registerCommand_116 (Or.inl q1112) mf_X5_expression ls_X5_expression (zkq e17 rfl) (w_X5_expression e18) (Nat.le_of_ble_eq_true rfl) rfl (by rw [← e15]; rfl) (Nat.le_of_ble_eq_true rfl) (zkv ?_) zkn9
      obtain ⟨h23, e24, H⟩ := zbind H
      refine zy_putR (pc := 119) dX5_registerCommand_119 lp_X5_294 rfl e24 ?_
      refine zw_aload (pc := 122) dX5_registerCommand_122 0 rfl ?_
      refine zw_goto (pc := 124) (tgt := 151) dX5_registerCommand_124 rfl ?_
      obtain ⟨rfl, rfl⟩ := Prod.mk.inj (Option.some.inj H)
      exact zw_aret (pc := 151) dX5_registerCommand_151 rfl (Or.inl ⟨_, rfl⟩) rfl rfl
    · refine zw_invV (pc := 116) (M' := M_X5_expression) (A := []) [vR (some q2)] dX5_registerCommand_116 (Or.inl q1112) mf_X5_expression ls_X5_expression (zkq e17 rfl) (w_X5_expression e18) (Nat.le_of_ble_eq_true rfl) rfl (by rw [← e15]; rfl) (Nat.le_of_ble_eq_true rfl) zkv0 (zkx ?_)
      rcases zif H with ⟨c25, H⟩ | ⟨c25, H⟩
      · have c25 := c25
        obtain ⟨rfl, rfl⟩ := Prod.mk.inj (Option.some.inj H)
        exact zx_out (zkq c25 rfl) (fun _ hz => nomatch hz) rfl rfl
      cases H
  rcases zif H with ⟨c26, H⟩ | ⟨c26, H⟩
  · refine zw_lookup (pc := 70) (57) 127 dX5_registerCommand_70 (by decide) (by rw [c26]; decide) rfl ?_
    obtain ⟨q27, h28, e29, H⟩ := zbind2 H
    refine zy_new (pc := 127) dX5_registerCommand_127 ln_X5_261 e29 ?_
    refine zw_dup (pc := 130) dX5_registerCommand_130 rfl ?_
    refine zw_aload_n (pc := 131) dX5_registerCommand_131 rfl 1 rfl ?_
    refine zw_iconst (pc := 132) (v := (1 : Int32)) dX5_registerCommand_132 (by decide) ?_
    obtain ⟨q30, h31, e32, H⟩ := zbind2 H
    refine zy_newa (pc := 133) (k := 50) dX5_registerCommand_133 (by decide) q270 e32 ?_
    refine zw_dup (pc := 135) dX5_registerCommand_135 rfl ?_
    refine zw_iconst (pc := 136) (v := (0 : Int32)) dX5_registerCommand_136 (by decide) ?_
    refine zw_iload_n (pc := 137) dX5_registerCommand_137 rfl 2 rfl ?_
    obtain ⟨h33, e34, H⟩ := zbind H
    refine zy_iast (pc := 138) dX5_registerCommand_138 e34 ?_
    obtain ⟨b35, e36, H⟩ := zbind H
    obtain ⟨h38, e37, H⟩ := zbind H
    refine zw_invI (pc := 139) (M' := M_X16_init) (A := [vR a1, vR (some q30)]) [vR (some q27)] dX5_registerCommand_139 (Or.inl q1476) mf_X16_init rfl rfl (w_X16_init e37) (Nat.le_of_ble_eq_true rfl) rfl (by rw [← e36]; rfl) (Nat.le_of_ble_eq_true rfl) (zku ?_) zkn9
    refine zw_goto (pc := 142) (tgt := 151) dX5_registerCommand_142 rfl ?_
    obtain ⟨rfl, rfl⟩ := Prod.mk.inj (Option.some.inj H)
    exact zw_aret (pc := 151) dX5_registerCommand_151 rfl (Or.inl ⟨_, rfl⟩) rfl rfl
  refine zw_lookup (pc := 70) (75) 145 dX5_registerCommand_70 (by decide) (zlkD (List.forall_mem_cons.mpr ⟨zne c1, List.forall_mem_cons.mpr ⟨zne c26, fun _ hp => nomatch hp⟩⟩)) rfl ?_
  refine zw_aload_n (pc := 145) dX5_registerCommand_145 rfl 0 rfl ?_
  refine zw_aload_n (pc := 146) dX5_registerCommand_146 rfl 1 rfl ?_
  refine zw_iload_n (pc := 147) dX5_registerCommand_147 rfl 2 rfl ?_
  obtain ⟨b39, e41, H⟩ := zbind H
  obtain ⟨e40, e42⟩ := zrv_ok e41
  rcases zbind3 H with ⟨x44, h45, e43, H⟩ | ⟨q46, h47, e43, H⟩
  · refine zw_invV (pc := 148) (M' := M_X5_numbered) (A := [vR a1, vI a2]) [] dX5_registerCommand_148 (Or.inl q1516) mf_X5_numbered ls_X5_numbered (zkq e42 rfl) (w_X5_numbered e43) (Nat.le_of_ble_eq_true rfl) rfl (by rw [← e40]; rfl) (Nat.le_of_ble_eq_true rfl) (zkv ?_) zkn9
    obtain ⟨rfl, rfl⟩ := Prod.mk.inj (Option.some.inj H)
    exact zw_aret (pc := 151) dX5_registerCommand_151 rfl (Or.inl ⟨_, rfl⟩) rfl rfl
  · refine zw_invV (pc := 148) (M' := M_X5_numbered) (A := [vR a1, vI a2]) [] dX5_registerCommand_148 (Or.inl q1516) mf_X5_numbered ls_X5_numbered (zkq e42 rfl) (w_X5_numbered e43) (Nat.le_of_ble_eq_true rfl) rfl (by rw [← e40]; rfl) (Nat.le_of_ble_eq_true rfl) zkv0 (zkx ?_)
    rcases zif H with ⟨c48, H⟩ | ⟨c48, H⟩
    · have c48 := c48
      obtain ⟨rfl, rfl⟩ := Prod.mk.inj (Option.some.inj H)
      exact zx_out (zkq c48 rfl) (fun _ hz => nomatch hz) rfl rfl
    cases H
def f_X5_registerCommand (p0 : Option Nat) (p1 : Option Nat) (h : zH) : Option ((Option Nat ⊕ Nat) × zH) :=
  (zrv 5 p0 h).bind fun b1 =>
  zb3 (f_X5_register (some b1) h) (fun x6 h7 =>
  (zrv 19 p1 h7).bind fun b10 =>
  zb2 (f_J4_hashCode (some b10) h7) fun x16 h15 =>
  if x16 = (107035 : Int32) then
  (zrv 19 p1 h15).bind fun b18 =>
  (f_J4_equals (some b18) (some (zst h15 13)) h15).bind fun x23 =>
  if x23 = 0 then
  B_X5_registerCommand_68 p0 p1 x6 (-1 : Int32) h15
  else
  B_X5_registerCommand_68 p0 p1 x6 (0 : Int32) h15
  else
  if x16 = (3092207 : Int32) then
  (zrv 19 p1 h15).bind fun b26 =>
  (f_J4_equals (some b26) (some (zst h15 20)) h15).bind fun x31 =>
  if x31 = 0 then
  B_X5_registerCommand_68 p0 p1 x6 (-1 : Int32) h15
  else
  B_X5_registerCommand_68 p0 p1 x6 (1 : Int32) h15
  else
  B_X5_registerCommand_68 p0 p1 x6 (-1 : Int32) h15)
  (fun q8 h9 =>
  if zk h9 q8 = 6 then
  some (.inr q8, h9)
  else none)
theorem w_X5_registerCommand {G : zG} {p0 : Option Nat} {p1 : Option Nat} {h : zH} {vo : Option Nat ⊕ Nat} {vh : zH} (H : f_X5_registerCommand p0 p1 h = some (vo, vh)) : zMet G M_X5_registerCommand 210 [vR p0, vR p1] h (zoR vo) vh := by
  refine zMet.of (by decide +kernel) (Nat.le_of_ble_eq_true rfl) ?_
  show zW G M_X5_registerCommand 210 h (zoR vo) vh 0 [(0, vR p0), (1, vR p1)] [] h
  unfold f_X5_registerCommand at H
  refine zw_aload_n (pc := 0) dX5_registerCommand_0 rfl 0 rfl ?_
  obtain ⟨b1, e3, H⟩ := zbind H
  obtain ⟨e2, e4⟩ := zrv_ok e3
  rcases zbind3 H with ⟨x6, h7, e5, H⟩ | ⟨q8, h9, e5, H⟩
  · refine zw_invV (pc := 1) (M' := M_X5_register) (A := []) [] dX5_registerCommand_1 (Or.inl q1063) mf_X5_register ls_X5_register (zkq e4 rfl) (w_X5_register e5) (Nat.le_of_ble_eq_true rfl) rfl (by rw [← e2]; rfl) (Nat.le_of_ble_eq_true rfl) (zkv ?_) zkn9
    refine zw_istore_n (pc := 4) (lv' := [(2, vI x6), (0, vR p0), (1, vR p1)]) dX5_registerCommand_4 rfl (by decide) rfl ?_
    refine zw_aload_n (pc := 5) dX5_registerCommand_5 rfl 2 rfl ?_
    refine zw_astore_n (pc := 6) (lv' := [(3, vR p1), (2, vI x6), (0, vR p0), (1, vR p1)]) dX5_registerCommand_6 rfl (by decide) rfl ?_
    refine zw_iconst (pc := 7) (v := (-1 : Int32)) dX5_registerCommand_7 (by decide) ?_
    refine zw_istore (pc := 8) (lv' := [(4, vI (-1 : Int32)), (3, vR p1), (2, vI x6), (0, vR p0), (1, vR p1)]) dX5_registerCommand_8 (by decide) rfl ?_
    refine zw_aload_n (pc := 10) dX5_registerCommand_10 rfl 1 rfl ?_
    obtain ⟨b10, e12, H⟩ := zbind H
    obtain ⟨e11, e13⟩ := zrv_ok e12
    obtain ⟨x16, h15, e14, H⟩ := zbind2 H
    refine zw_invV (pc := 11) (M' := M_J4_hashCode) (A := []) [] dX5_registerCommand_11 (Or.inl q1083) mf_J4_hashCode q994 (zkq e13 rfl) (w_J4_hashCode e14) (Nat.le_of_ble_eq_true rfl) rfl (by rw [← e11]; rfl) (Nat.le_of_ble_eq_true rfl) (zkv ?_) zkn9
    rcases zif H with ⟨c17, H⟩ | ⟨c17, H⟩
    · refine zw_lookup (pc := 14) (26) 40 dX5_registerCommand_14 (by decide) (by rw [c17]; decide) rfl ?_
      refine zw_aload_n (pc := 40) dX5_registerCommand_40 rfl 1 rfl ?_
      refine zw_ldcS (pc := 41) 13 dX5_registerCommand_41 rfl ?_
      obtain ⟨b18, e20, H⟩ := zbind H
      obtain ⟨e19, e21⟩ := zrv_ok e20
      obtain ⟨x23, e22, H⟩ := zbind H
      refine zw_invV (pc := 43) (M' := M_J4_equals) (A := [vR (some (zst h15 13))]) [] dX5_registerCommand_43 (Or.inl q946) mf_J4_equals q948 (zkq e21 rfl) (w_J4_equals e22) (Nat.le_of_ble_eq_true rfl) rfl (by rw [← e19]; rfl) (Nat.le_of_ble_eq_true rfl) (zkv ?_) zkn9
      rcases zif H with ⟨c24, H⟩ | ⟨c24, H⟩
      · refine zw_if_eq (pc := 46) (tgt := 68) dX5_registerCommand_46 rfl (fun _ => ?_) (fun q => absurd c24 q)
        refine zW_pick (lv' := [(0, vR p0), (1, vR p1), (2, vI x6), (4, vI (-1 : Int32))]) [3, 4, 2, 0] rfl ?_
        exact wB_X5_registerCommand_68 H
      · refine zw_if_eq (pc := 46) (tgt := 68) dX5_registerCommand_46 rfl (fun q => absurd q c24) (fun _ => ?_)
        refine zw_iconst (pc := 49) (v := (0 : Int32)) dX5_registerCommand_49 (by decide) ?_
        refine zw_istore (pc := 50) (lv' := [(4, vI (0 : Int32)), (3, vR p1), (2, vI x6), (0, vR p0), (1, vR p1)]) dX5_registerCommand_50 (by decide) rfl ?_
        refine zw_goto (pc := 52) (tgt := 68) dX5_registerCommand_52 rfl ?_
        refine zW_pick (lv' := [(0, vR p0), (1, vR p1), (2, vI x6), (4, vI (0 : Int32))]) [3, 4, 2, 0] rfl ?_
        exact wB_X5_registerCommand_68 H
    rcases zif H with ⟨c25, H⟩ | ⟨c25, H⟩
    · refine zw_lookup (pc := 14) (41) 55 dX5_registerCommand_14 (by decide) (by rw [c25]; decide) rfl ?_
      refine zw_aload_n (pc := 55) dX5_registerCommand_55 rfl 1 rfl ?_
      refine zw_ldcwS (pc := 56) 20 dX5_registerCommand_56 rfl ?_
      obtain ⟨b26, e28, H⟩ := zbind H
      obtain ⟨e27, e29⟩ := zrv_ok e28
      obtain ⟨x31, e30, H⟩ := zbind H
      refine zw_invV (pc := 59) (M' := M_J4_equals) (A := [vR (some (zst h15 20))]) [] dX5_registerCommand_59 (Or.inl q946) mf_J4_equals q948 (zkq e29 rfl) (w_J4_equals e30) (Nat.le_of_ble_eq_true rfl) rfl (by rw [← e27]; rfl) (Nat.le_of_ble_eq_true rfl) (zkv ?_) zkn9
      rcases zif H with ⟨c32, H⟩ | ⟨c32, H⟩
      · refine zw_if_eq (pc := 62) (tgt := 68) dX5_registerCommand_62 rfl (fun _ => ?_) (fun q => absurd c32 q)
        refine zW_pick (lv' := [(0, vR p0), (1, vR p1), (2, vI x6), (4, vI (-1 : Int32))]) [3, 4, 2, 0] rfl ?_
        exact wB_X5_registerCommand_68 H
      · refine zw_if_eq (pc := 62) (tgt := 68) dX5_registerCommand_62 rfl (fun q => absurd q c32) (fun _ => ?_)
        refine zw_iconst (pc := 65) (v := (1 : Int32)) dX5_registerCommand_65 (by decide) ?_
        refine zw_istore (pc := 66) (lv' := [(4, vI (1 : Int32)), (3, vR p1), (2, vI x6), (0, vR p0), (1, vR p1)]) dX5_registerCommand_66 (by decide) rfl ?_
        refine zW_pick (lv' := [(0, vR p0), (1, vR p1), (2, vI x6), (4, vI (1 : Int32))]) [3, 4, 2, 0] rfl ?_
        exact wB_X5_registerCommand_68 H
    refine zw_lookup (pc := 14) (54) 68 dX5_registerCommand_14 (by decide) (zlkD (List.forall_mem_cons.mpr ⟨zne c17, List.forall_mem_cons.mpr ⟨zne c25, fun _ hp => nomatch hp⟩⟩)) rfl ?_
    refine zW_pick (lv' := [(0, vR p0), (1, vR p1), (2, vI x6), (4, vI (-1 : Int32))]) [3, 4, 2, 0] rfl ?_
    exact wB_X5_registerCommand_68 H
  · refine zw_invV (pc := 1) (M' := M_X5_register) (A := []) [] dX5_registerCommand_1 (Or.inl q1063) mf_X5_register ls_X5_register (zkq e4 rfl) (w_X5_register e5) (Nat.le_of_ble_eq_true rfl) rfl (by rw [← e2]; rfl) (Nat.le_of_ble_eq_true rfl) zkv0 (zkx ?_)
    rcases zif H with ⟨c33, H⟩ | ⟨c33, H⟩
    · have c33 := c33
      obtain ⟨rfl, rfl⟩ := Prod.mk.inj (Option.some.inj H)
      exact zx_out (zkq c33 rfl) (fun _ hz => nomatch hz) rfl rfl
    cases H
def M_X5_enclosed : zM := (yX5_enclosed, cX5_enclosed, 2, none, [])
theorem mf_X5_enclosed : zMi M_X5_enclosed 1 := ⟨⟨q1523, q195, ⟨by decide +kernel, by decide +kernel⟩, by decide +kernel, by decide⟩, q1522⟩
def M_X5_command : zM := (yX5_command, cX5_command, 3, (.some (.object "CsrCalculator$Command")), [])
theorem mf_X5_command : zMi M_X5_command 0 := ⟨⟨q1503, q195, ⟨by decide +kernel, by decide +kernel⟩, by decide +kernel, by decide⟩, q1502⟩
theorem lf_X5_278 : zFl "CsrCalculator$Reader" 278 5 7 := ⟨_, "CsrCalculator$Reader", by decide, rfl, by decide, Or.inl q644, Or.inl rfl⟩
theorem lp_X5_278 {nm : String} : zFp "CsrCalculator$Reader" nm 278 5 7 := ⟨_, "CsrCalculator$Reader", by decide, rfl, by decide, Or.inl rfl, Or.inl ⟨Or.inl q644, rfl⟩⟩
theorem lf_X5_268 : zFl "CsrCalculator$Reader" 268 15 2 := ⟨_, "CsrCalculator$Command", by decide, rfl, by decide, Or.inr (by decide +kernel), Or.inl rfl⟩
theorem ls_X5_command : Cond.selects yX5_command.cls yX5_command yX5_command ∈ lw_all := lw_g (lw_ms _ (List.mem_of_getElem? (i := 41) rfl)) rfl
def B_X5_enclosed_42 (r : Option Nat → zH → Option ((Option Nat ⊕ Nat) × zH)) (a0 : Option Nat) (h : zH) : Option ((Unit ⊕ Nat) × zH) :=
  (zgI 5 7 a0 h).bind fun x1 =>
  (zpI 5 7 a0 (x1 - (1 : Int32)) h).bind fun h3 =>
  (zrv 5 a0 h3).bind fun b5 =>
  (f_X5_advance (some b5) h3).bind fun h10 =>
  some (.inl (), h10)
theorem wB_X5_enclosed_42 {G : zG} {h0 h : zH} {vo : Unit ⊕ Nat} {vh : zH} {r : Option Nat → zH → Option ((Option Nat ⊕ Nat) × zH)} {dd : Nat} (hdd : 211 ≤ dd) (hr : ∀ (b0 : Option Nat) (h : zH) (vo : Option Nat ⊕ Nat) (vh : zH), r b0 h = some (vo, vh) → zMet G M_X5_command dd [vR b0] h (zoR vo) vh) {a0 : Option Nat} (H : B_X5_enclosed_42 r a0 h = some (vo, vh)) : zW G M_X5_enclosed (dd + 1) h0 (zoU vo) vh 42 [(0, vR a0)] [] h := by
  unfold B_X5_enclosed_42 at H
  refine zw_aload_n (pc := 42) dX5_enclosed_42 rfl 0 rfl ?_
  refine zw_dup (pc := 43) dX5_enclosed_43 rfl ?_
  obtain ⟨x1, e2, H⟩ := zbind H
  refine zy_getI (pc := 44) dX5_enclosed_44 lf_X5_278 (fun _ _ => rfl) e2 ?_
  refine zw_iconst (pc := 47) (v := (1 : Int32)) dX5_enclosed_47 (by decide) ?_
  refine zw_isub (pc := 48) dX5_enclosed_48 ?_
  obtain ⟨h3, e4, H⟩ := zbind H
  refine zy_putI (pc := 49) dX5_enclosed_49 lp_X5_278 rfl e4 ?_
  refine zw_aload_n (pc := 52) dX5_enclosed_52 rfl 0 rfl ?_
  obtain ⟨b5, e7, H⟩ := zbind H
  obtain ⟨e6, e8⟩ := zrv_ok e7
  obtain ⟨h10, e9, H⟩ := zbind H
  refine zw_invV (pc := 53) (M' := M_X5_advance) (A := []) [] dX5_enclosed_53 (Or.inl q680) mf_X5_advance ls_X5_advance (zkq e8 rfl) (w_X5_advance e9) (Nat.le_trans (show 13 ≤ 211 from Nat.le_of_ble_eq_true rfl) (Nat.le_trans hdd (Nat.le_add_right _ _))) rfl (by rw [← e6]; rfl) (Nat.le_of_ble_eq_true rfl) (zku ?_) zkn9
  obtain ⟨rfl, rfl⟩ := Prod.mk.inj (Option.some.inj H)
  exact zw_vret (pc := 56) dX5_enclosed_56 rfl rfl rfl
def B_X5_enclosed_16 (r : Option Nat → zH → Option ((Option Nat ⊕ Nat) × zH)) (k16 : Option Nat → Option Nat → zH → Option ((Unit ⊕ Nat) × zH)) (a0 : Option Nat) (a1 : Option Nat) (h : zH) : Option ((Unit ⊕ Nat) × zH) :=
  (zrv 5 a0 h).bind fun b1 =>
  (f_X5_isSign (some b1) (41 : Int32) h).bind fun x6 =>
  if x6 = 0 then
  (zgR 15 2 a1 h).bind fun x8 =>
  (zrv 5 a0 h).bind fun b10 =>
  zb3 (r (some b10) h) (fun x15 h16 =>
  (zrv 16 x8 h16).bind fun b19 =>
  zb2 (f_J18_add (some b19) x15 h16) fun x25 h24 =>
  k16 a0 a1 h24)
  (fun q17 h18 =>
  if zk h18 q17 = 6 then
  some (.inr q17, h18)
  else none)
  else
  B_X5_enclosed_42 r a0 h
theorem wB_X5_enclosed_16 {G : zG} {h0 h : zH} {vo : Unit ⊕ Nat} {vh : zH} {r : Option Nat → zH → Option ((Option Nat ⊕ Nat) × zH)} {dd : Nat} (hdd : 211 ≤ dd) (hr : ∀ (b0 : Option Nat) (h : zH) (vo : Option Nat ⊕ Nat) (vh : zH), r b0 h = some (vo, vh) → zMet G M_X5_command dd [vR b0] h (zoR vo) vh) {k16 : Option Nat → Option Nat → zH → Option ((Unit ⊕ Nat) × zH)} (hk16 : ∀ (b0 : Option Nat) (b1 : Option Nat) (h' : zH), k16 b0 b1 h' = some (vo, vh) → zW G M_X5_enclosed (dd + 1) h0 (zoU vo) vh 16 [(0, vR b0), (1, vR b1)] [] h') {a0 : Option Nat} {a1 : Option Nat} (H : B_X5_enclosed_16 r k16 a0 a1 h = some (vo, vh)) : zW G M_X5_enclosed (dd + 1) h0 (zoU vo) vh 16 [(0, vR a0), (1, vR a1)] [] h := by
  unfold B_X5_enclosed_16 at H
  refine zw_aload_n (pc := 16) dX5_enclosed_16 rfl 0 rfl ?_
  refine zw_bipush (pc := 17) (v := (41 : Int32)) dX5_enclosed_17 (by decide) ?_
  obtain ⟨b1, e3, H⟩ := zbind H
  obtain ⟨e2, e4⟩ := zrv_ok e3
  obtain ⟨x6, e5, H⟩ := zbind H
  refine zw_invV (pc := 19) (M' := M_X5_isSign) (A := [vI (41 : Int32)]) [] dX5_enclosed_19 (Or.inl q985) mf_X5_isSign ls_X5_isSign (zkq e4 rfl) (w_X5_isSign e5) (Nat.le_trans (show 3 ≤ 211 from Nat.le_of_ble_eq_true rfl) (Nat.le_trans hdd (Nat.le_add_right _ _))) rfl (by rw [← e2]; rfl) (Nat.le_of_ble_eq_true rfl) (zkv ?_) zkn9
  rcases zif H with ⟨c7, H⟩ | ⟨c7, H⟩
  · refine zw_if_ne (pc := 22) (tgt := 42) dX5_enclosed_22 rfl (fun q => absurd c7 q) (fun _ => ?_)
    refine zw_aload_n (pc := 25) dX5_enclosed_25 rfl 1 rfl ?_
    obtain ⟨x8, e9, H⟩ := zbind H
    refine zy_getR (pc := 26) dX5_enclosed_26 lf_X5_268 (fun _ _ => rfl) e9 ?_
    refine zw_aload_n (pc := 29) dX5_enclosed_29 rfl 0 rfl ?_
    obtain ⟨b10, e12, H⟩ := zbind H
    obtain ⟨e11, e13⟩ := zrv_ok e12
    rcases zbind3 H with ⟨x15, h16, e14, H⟩ | ⟨q17, h18, e14, H⟩
    · refine zw_invV (pc := 30) (M' := M_X5_command) (A := []) [vR x8] dX5_enclosed_30 (Or.inl q1500) mf_X5_command ls_X5_command (zkq e13 rfl) (hr _ _ _ _ e14) (Nat.add_le_add_left (Nat.le_of_ble_eq_true rfl) dd) rfl (by rw [← e11]; rfl) (Nat.le_of_ble_eq_true rfl) (zkv ?_) zkn9
      obtain ⟨b19, e21, H⟩ := zbind H
      obtain ⟨e20, e22⟩ := zrv_ok e21
      obtain ⟨x25, h24, e23, H⟩ := zbind2 H
      refine zw_invF (pc := 33) (M' := M_J18_add) (A := [vR x15]) [] dX5_enclosed_33 q1238 (by decide +kernel) mf_J18_add rfl q1242 (zkq e22 rfl) (w_J18_add e23) (Nat.le_trans (show 9 ≤ 211 from Nat.le_of_ble_eq_true rfl) (Nat.le_trans hdd (Nat.le_add_right _ _))) rfl (by rw [← e20]; rfl) (Nat.le_of_ble_eq_true rfl) (zkv ?_) zkn9
      refine zw_pop (pc := 38) dX5_enclosed_38 rfl ?_
      refine zw_goto (pc := 39) (tgt := 16) dX5_enclosed_39 rfl ?_
      refine zW_pick (lv' := [(0, vR a0), (1, vR a1)]) [0, 1] rfl ?_
      exact hk16 _ _ _ H
    · refine zw_invV (pc := 30) (M' := M_X5_command) (A := []) [vR x8] dX5_enclosed_30 (Or.inl q1500) mf_X5_command ls_X5_command (zkq e13 rfl) (hr _ _ _ _ e14) (Nat.add_le_add_left (Nat.le_of_ble_eq_true rfl) dd) rfl (by rw [← e11]; rfl) (Nat.le_of_ble_eq_true rfl) zkv0 (zkx ?_)
      rcases zif H with ⟨c26, H⟩ | ⟨c26, H⟩
      · have c26 := c26
        obtain ⟨rfl, rfl⟩ := Prod.mk.inj (Option.some.inj H)
        exact zx_out (zkq c26 rfl) (fun _ hz => nomatch hz) rfl rfl
      cases H
  · refine zw_if_ne (pc := 22) (tgt := 42) dX5_enclosed_22 rfl (fun _ => ?_) (fun q => absurd q c7)
    refine zW_pick (lv' := [(0, vR a0)]) [0] rfl ?_
    exact wB_X5_enclosed_42 hdd hr H
def g_X5_enclosed (r : Option Nat → zH → Option ((Option Nat ⊕ Nat) × zH)) (p0 : Option Nat) (p1 : Option Nat) (h : zH) : Option ((Unit ⊕ Nat) × zH) :=
  (zrv 5 p0 h).bind fun b1 =>
  zb3 (f_X5_sign (some b1) (40 : Int32) h) (fun _ h7 =>
  (zgI 5 7 p0 h7).bind fun x10 =>
  (zpI 5 7 p0 (x10 + (1 : Int32)) h7).bind fun h12 =>
  zloop (B_X5_enclosed_16 r) (fun _ _ _ => none) zFU p0 p1 h12)
  (fun q8 h9 =>
  if zk h9 q8 = 6 then
  some (.inr q8, h9)
  else none)
theorem w_g_X5_enclosed {G : zG} {r : Option Nat → zH → Option ((Option Nat ⊕ Nat) × zH)} {dd : Nat} (hdd : 211 ≤ dd) (hr : ∀ (b0 : Option Nat) (h : zH) (vo : Option Nat ⊕ Nat) (vh : zH), r b0 h = some (vo, vh) → zMet G M_X5_command dd [vR b0] h (zoR vo) vh) {p0 : Option Nat} {p1 : Option Nat} {h : zH} {vo : Unit ⊕ Nat} {vh : zH} (H : g_X5_enclosed r p0 p1 h = some (vo, vh)) : zMet G M_X5_enclosed (dd + 1) [vR p0, vR p1] h (zoU vo) vh := by
  refine zMet.of (by decide +kernel) (Nat.le_of_ble_eq_true rfl) ?_
  show zW G M_X5_enclosed (dd + 1) h (zoU vo) vh 0 [(0, vR p0), (1, vR p1)] [] h
  unfold g_X5_enclosed at H
  refine zw_aload_n (pc := 0) dX5_enclosed_0 rfl 0 rfl ?_
  refine zw_bipush (pc := 1) (v := (40 : Int32)) dX5_enclosed_1 (by decide) ?_
  obtain ⟨b1, e3, H⟩ := zbind H
  obtain ⟨e2, e4⟩ := zrv_ok e3
  rcases zbind3 H with ⟨x6, h7, e5, H⟩ | ⟨q8, h9, e5, H⟩
  · refine zw_invV (pc := 3) (M' := M_X5_sign) (A := [vI (40 : Int32)]) [] dX5_enclosed_3 (Or.inl q981) mf_X5_sign ls_X5_sign (zkq e4 rfl) (w_X5_sign e5) (Nat.le_trans (show 14 ≤ 211 from Nat.le_of_ble_eq_true rfl) (Nat.le_trans hdd (Nat.le_add_right _ _))) rfl (by rw [← e2]; rfl) (Nat.le_of_ble_eq_true rfl) (zku ?_) zkn9
    refine zw_aload_n (pc := 6) dX5_enclosed_6 rfl 0 rfl ?_
    refine zw_dup (pc := 7) dX5_enclosed_7 rfl ?_
    obtain ⟨x10, e11, H⟩ := zbind H
    refine zy_getI (pc := 8) dX5_enclosed_8 lf_X5_278 (fun _ _ => rfl) e11 ?_
    refine zw_iconst (pc := 11) (v := (1 : Int32)) dX5_enclosed_11 (by decide) ?_
    refine zw_iadd (pc := 12) dX5_enclosed_12 ?_
    obtain ⟨h12, e13, H⟩ := zbind H
    refine zy_putI (pc := 13) dX5_enclosed_13 lp_X5_278 rfl e13 ?_
    refine zW_pick (lv' := [(0, vR p0), (1, vR p1)]) [0, 1] rfl ?_
    exact zloop_ind (body := (B_X5_enclosed_16 r)) (bot := (fun _ _ _ => none)) (P := (fun (f : Option Nat → Option Nat → zH → Option ((Unit ⊕ Nat) × zH)) => ∀ (b0 : Option Nat) (b1 : Option Nat) (h' : zH), f b0 b1 h' = some (vo, vh) → zW G M_X5_enclosed (dd + 1) h (zoU vo) vh 16 [(0, vR b0), (1, vR b1)] [] h')) zFU (fun _ _ _ H => nomatch H) (fun f hf c0 c1 h' H => wB_X5_enclosed_16 hdd hr hf H) _ _ _ H
  · refine zw_invV (pc := 3) (M' := M_X5_sign) (A := [vI (40 : Int32)]) [] dX5_enclosed_3 (Or.inl q981) mf_X5_sign ls_X5_sign (zkq e4 rfl) (w_X5_sign e5) (Nat.le_trans (show 14 ≤ 211 from Nat.le_of_ble_eq_true rfl) (Nat.le_trans hdd (Nat.le_add_right _ _))) rfl (by rw [← e2]; rfl) (Nat.le_of_ble_eq_true rfl) zkv0 (zkx ?_)
    rcases zif H with ⟨c14, H⟩ | ⟨c14, H⟩
    · have c14 := c14
      obtain ⟨rfl, rfl⟩ := Prod.mk.inj (Option.some.inj H)
      exact zx_out (zkq c14 rfl) (fun _ hz => nomatch hz) rfl rfl
    cases H
theorem lf_X5_281 : zFl "CsrCalculator$Reader" 281 5 6 := ⟨_, "CsrCalculator$Reader", by decide, rfl, by decide, Or.inl q643, Or.inl rfl⟩
theorem lp_X5_281 {nm : String} : zFp "CsrCalculator$Reader" nm 281 5 6 := ⟨_, "CsrCalculator$Reader", by decide, rfl, by decide, Or.inl rfl, Or.inl ⟨Or.inl q643, rfl⟩⟩
theorem ls_X5_registerCommand : Cond.selects yX5_registerCommand.cls yX5_registerCommand yX5_registerCommand ∈ lw_all := lw_g (lw_ms _ (List.mem_of_getElem? (i := 42) rfl)) rfl
theorem ls_X5_enclosed : Cond.selects yX5_enclosed.cls yX5_enclosed yX5_enclosed ∈ lw_all := lw_g (lw_ms _ (List.mem_of_getElem? (i := 44) rfl)) rfl
def B_X5_command_114 (r : Option Nat → zH → Option ((Option Nat ⊕ Nat) × zH)) (a0 : Option Nat) (a1 : Option Nat) (a2 : Option Nat) (h : zH) : Option ((Option Nat ⊕ Nat) × zH) :=
  (zrv 19 a1 h).bind fun b1 =>
  (f_J4_equals (some b1) (some (zst h 19)) h).bind fun x6 =>
  if x6 = 0 then
  (zrv 5 a0 h).bind fun b8 =>
  zb3 (f_X5_sign (some b8) (59 : Int32) h) (fun _ h14 =>
  some (.inl a2, h14))
  (fun q15 h16 =>
  if zk h16 q15 = 6 then
  some (.inr q15, h16)
  else none)
  else
  (zrv 5 a0 h).bind fun b18 =>
  zb3 (g_X5_enclosed r (some b18) a2 h) (fun _ h24 =>
  (zrv 5 a0 h24).bind fun b27 =>
  zb3 (f_X5_sign (some b27) (59 : Int32) h24) (fun _ h33 =>
  some (.inl a2, h33))
  (fun q34 h35 =>
  if zk h35 q34 = 6 then
  some (.inr q34, h35)
  else none))
  (fun q25 h26 =>
  if zk h26 q25 = 6 then
  some (.inr q25, h26)
  else none)
theorem wB_X5_command_114 {G : zG} {h0 h : zH} {vo : Option Nat ⊕ Nat} {vh : zH} {r : Option Nat → zH → Option ((Option Nat ⊕ Nat) × zH)} {dd : Nat} (hdd : 211 ≤ dd) (hr : ∀ (b0 : Option Nat) (h : zH) (vo : Option Nat ⊕ Nat) (vh : zH), r b0 h = some (vo, vh) → zMet G M_X5_command dd [vR b0] h (zoR vo) vh) {a0 : Option Nat} {a1 : Option Nat} {a2 : Option Nat} (H : B_X5_command_114 r a0 a1 a2 h = some (vo, vh)) : zW G M_X5_command (dd + 2) h0 (zoR vo) vh 114 [(0, vR a0), (1, vR a1)] [vR a2] h := by
  unfold B_X5_command_114 at H
  refine zw_astore_n (pc := 114) (lv' := [(2, vR a2), (0, vR a0), (1, vR a1)]) dX5_command_114 rfl (by decide) rfl ?_
  refine zw_aload_n (pc := 115) dX5_command_115 rfl 2 rfl ?_
  refine zw_ldcwS (pc := 116) 19 dX5_command_116 rfl ?_
  obtain ⟨b1, e3, H⟩ := zbind H
  obtain ⟨e2, e4⟩ := zrv_ok e3
  obtain ⟨x6, e5, H⟩ := zbind H
  refine zw_invV (pc := 119) (M' := M_J4_equals) (A := [vR (some (zst h 19))]) [] dX5_command_119 (Or.inl q946) mf_J4_equals q948 (zkq e4 rfl) (w_J4_equals e5) (Nat.le_trans (show 4 ≤ 211 from Nat.le_of_ble_eq_true rfl) (Nat.le_trans hdd (Nat.le_add_right _ _))) rfl (by rw [← e2]; rfl) (Nat.le_of_ble_eq_true rfl) (zkv ?_) zkn9
  rcases zif H with ⟨c7, H⟩ | ⟨c7, H⟩
  · refine zw_if_eq (pc := 122) (tgt := 130) dX5_command_122 rfl (fun _ => ?_) (fun q => absurd c7 q)
    refine zw_aload_n (pc := 130) dX5_command_130 rfl 1 rfl ?_
    refine zw_bipush (pc := 131) (v := (59 : Int32)) dX5_command_131 (by decide) ?_
    obtain ⟨b8, e10, H⟩ := zbind H
    obtain ⟨e9, e11⟩ := zrv_ok e10
    rcases zbind3 H with ⟨x13, h14, e12, H⟩ | ⟨q15, h16, e12, H⟩
    · refine zw_invV (pc := 133) (M' := M_X5_sign) (A := [vI (59 : Int32)]) [] dX5_command_133 (Or.inl q981) mf_X5_sign ls_X5_sign (zkq e11 rfl) (w_X5_sign e12) (Nat.le_trans (show 14 ≤ 211 from Nat.le_of_ble_eq_true rfl) (Nat.le_trans hdd (Nat.le_add_right _ _))) rfl (by rw [← e9]; rfl) (Nat.le_of_ble_eq_true rfl) (zku ?_) zkn9
      refine zw_aload_n (pc := 136) dX5_command_136 rfl 0 rfl ?_
      obtain ⟨rfl, rfl⟩ := Prod.mk.inj (Option.some.inj H)
      exact zw_aret (pc := 137) dX5_command_137 rfl (Or.inl ⟨_, rfl⟩) rfl rfl
    · refine zw_invV (pc := 133) (M' := M_X5_sign) (A := [vI (59 : Int32)]) [] dX5_command_133 (Or.inl q981) mf_X5_sign ls_X5_sign (zkq e11 rfl) (w_X5_sign e12) (Nat.le_trans (show 14 ≤ 211 from Nat.le_of_ble_eq_true rfl) (Nat.le_trans hdd (Nat.le_add_right _ _))) rfl (by rw [← e9]; rfl) (Nat.le_of_ble_eq_true rfl) zkv0 (zkx ?_)
      rcases zif H with ⟨c17, H⟩ | ⟨c17, H⟩
      · have c17 := c17
        obtain ⟨rfl, rfl⟩ := Prod.mk.inj (Option.some.inj H)
        exact zx_out (zkq c17 rfl) (fun _ hz => nomatch hz) rfl rfl
      cases H
  · refine zw_if_eq (pc := 122) (tgt := 130) dX5_command_122 rfl (fun q => absurd q c7) (fun _ => ?_)
    refine zw_aload_n (pc := 125) dX5_command_125 rfl 1 rfl ?_
    refine zw_aload_n (pc := 126) dX5_command_126 rfl 0 rfl ?_
    obtain ⟨b18, e20, H⟩ := zbind H
    obtain ⟨e19, e21⟩ := zrv_ok e20
    rcases zbind3 H with ⟨x23, h24, e22, H⟩ | ⟨q25, h26, e22, H⟩
    · refine zw_invV (pc := 127) (M' := M_X5_enclosed) (A := [vR a2]) [] dX5_command_127 (Or.inl q1520) mf_X5_enclosed ls_X5_enclosed (zkq e21 rfl) (w_g_X5_enclosed hdd hr e22) (show dd + 2 ≤ dd + 2 from Nat.add_le_add_left (Nat.le_of_ble_eq_true rfl) dd) rfl (by rw [← e19]; rfl) (Nat.le_of_ble_eq_true rfl) (zku ?_) zkn9
      refine zw_aload_n (pc := 130) dX5_command_130 rfl 1 rfl ?_
      refine zw_bipush (pc := 131) (v := (59 : Int32)) dX5_command_131 (by decide) ?_
      obtain ⟨b27, e29, H⟩ := zbind H
      obtain ⟨e28, e30⟩ := zrv_ok e29
      rcases zbind3 H with ⟨x32, h33, e31, H⟩ | ⟨q34, h35, e31, H⟩
      · refine zw_invV (pc := 133) (M' := M_X5_sign) (A := [vI (59 : Int32)]) [] dX5_command_133 (Or.inl q981) mf_X5_sign ls_X5_sign (zkq e30 rfl) (w_X5_sign e31) (Nat.le_trans (show 14 ≤ 211 from Nat.le_of_ble_eq_true rfl) (Nat.le_trans hdd (Nat.le_add_right _ _))) rfl (by rw [← e28]; rfl) (Nat.le_of_ble_eq_true rfl) (zku ?_) zkn9
        refine zw_aload_n (pc := 136) dX5_command_136 rfl 0 rfl ?_
        obtain ⟨rfl, rfl⟩ := Prod.mk.inj (Option.some.inj H)
        exact zw_aret (pc := 137) dX5_command_137 rfl (Or.inl ⟨_, rfl⟩) rfl rfl
      · refine zw_invV (pc := 133) (M' := M_X5_sign) (A := [vI (59 : Int32)]) [] dX5_command_133 (Or.inl q981) mf_X5_sign ls_X5_sign (zkq e30 rfl) (w_X5_sign e31) (Nat.le_trans (show 14 ≤ 211 from Nat.le_of_ble_eq_true rfl) (Nat.le_trans hdd (Nat.le_add_right _ _))) rfl (by rw [← e28]; rfl) (Nat.le_of_ble_eq_true rfl) zkv0 (zkx ?_)
        rcases zif H with ⟨c36, H⟩ | ⟨c36, H⟩
        · have c36 := c36
          obtain ⟨rfl, rfl⟩ := Prod.mk.inj (Option.some.inj H)
          exact zx_out (zkq c36 rfl) (fun _ hz => nomatch hz) rfl rfl
        cases H
    · refine zw_invV (pc := 127) (M' := M_X5_enclosed) (A := [vR a2]) [] dX5_command_127 (Or.inl q1520) mf_X5_enclosed ls_X5_enclosed (zkq e21 rfl) (w_g_X5_enclosed hdd hr e22) (show dd + 2 ≤ dd + 2 from Nat.add_le_add_left (Nat.le_of_ble_eq_true rfl) dd) rfl (by rw [← e19]; rfl) (Nat.le_of_ble_eq_true rfl) zkv0 (zkx ?_)
      rcases zif H with ⟨c37, H⟩ | ⟨c37, H⟩
      · have c37 := c37
        obtain ⟨rfl, rfl⟩ := Prod.mk.inj (Option.some.inj H)
        exact zx_out (zkq c37 rfl) (fun _ hz => nomatch hz) rfl rfl
      cases H
def B_X5_command_57 (r : Option Nat → zH → Option ((Option Nat ⊕ Nat) × zH)) (a0 : Option Nat) (a1 : Option Nat) (a2 : Option Nat) (a3 : Int32) (h : zH) : Option ((Option Nat ⊕ Nat) × zH) :=
  (zrv 5 a2 h).bind fun b1 =>
  zb3 (f_X5_check (some b1) a3 (4 : Int32) h) (fun _ h7 =>
  (zgI 5 6 a0 h7).bind fun x10 =>
  (zpI 5 6 a0 (x10 + (1 : Int32)) h7).bind fun h12 =>
  (zrv 5 a0 h12).bind fun b14 =>
  (f_X5_advance (some b14) h12).bind fun h19 =>
  (zrv 19 a1 h19).bind fun b20 =>
  (f_J4_equals (some b20) (some (zst h19 19)) h19).bind fun x25 =>
  if x25 = 0 then
  (zrv 5 a0 h19).bind fun b27 =>
  zb3 (f_X5_registerCommand (some b27) a1 h19) (fun x32 h33 =>
  B_X5_command_114 r a0 a1 x32 h33)
  (fun q34 h35 =>
  if zk h35 q34 = 6 then
  some (.inr q34, h35)
  else none)
  else
  zb2 (znw 15 h19) fun q37 h38 =>
  zb2 (zna 50 (1 : Int32) h38) fun q40 h41 =>
  (zrv 5 a0 h41).bind fun b43 =>
  zb3 (f_X5_number (some b43) (1 : Int32) (20 : Int32) h41) (fun x48 h49 =>
  (zsI (some q40) (0 : Int32) x48 h49).bind fun h52 =>
  (some q37).bind fun b54 =>
  (f_X16_init (some b54) a1 (some q40) h52).bind fun h57 =>
  B_X5_command_114 r a0 a1 (some q37) h57)
  (fun q50 h51 =>
  if zk h51 q50 = 6 then
  some (.inr q50, h51)
  else none))
  (fun q8 h9 =>
  if zk h9 q8 = 6 then
  some (.inr q8, h9)
  else none)
theorem wB_X5_command_57 {G : zG} {h0 h : zH} {vo : Option Nat ⊕ Nat} {vh : zH} {r : Option Nat → zH → Option ((Option Nat ⊕ Nat) × zH)} {dd : Nat} (hdd : 211 ≤ dd) (hr : ∀ (b0 : Option Nat) (h : zH) (vo : Option Nat ⊕ Nat) (vh : zH), r b0 h = some (vo, vh) → zMet G M_X5_command dd [vR b0] h (zoR vo) vh) {a0 : Option Nat} {a1 : Option Nat} {a2 : Option Nat} {a3 : Int32} (H : B_X5_command_57 r a0 a1 a2 a3 h = some (vo, vh)) : zW G M_X5_command (dd + 2) h0 (zoR vo) vh 57 [(0, vR a0), (1, vR a1)] [vI a3, vR a2] h := by
  unfold B_X5_command_57 at H
  refine zw_iconst (pc := 57) (v := (4 : Int32)) dX5_command_57 (by decide) ?_
  obtain ⟨b1, e3, H⟩ := zbind H
  obtain ⟨e2, e4⟩ := zrv_ok e3
  rcases zbind3 H with ⟨x6, h7, e5, H⟩ | ⟨q8, h9, e5, H⟩
  · refine zw_invV (pc := 58) (M' := M_X5_check) (A := [vI a3, vI (4 : Int32)]) [] dX5_command_58 (Or.inl q954) mf_X5_check ls_X5_check (zkq e4 rfl) (w_X5_check e5) (Nat.le_trans (show 6 ≤ 211 from Nat.le_of_ble_eq_true rfl) (Nat.le_trans hdd (Nat.le_add_right _ _))) rfl (by rw [← e2]; rfl) (Nat.le_of_ble_eq_true rfl) (zku ?_) zkn9
    refine zw_aload_n (pc := 61) dX5_command_61 rfl 0 rfl ?_
    refine zw_dup (pc := 62) dX5_command_62 rfl ?_
    obtain ⟨x10, e11, H⟩ := zbind H
    refine zy_getI (pc := 63) dX5_command_63 lf_X5_281 (fun _ _ => rfl) e11 ?_
    refine zw_iconst (pc := 66) (v := (1 : Int32)) dX5_command_66 (by decide) ?_
    refine zw_iadd (pc := 67) dX5_command_67 ?_
    obtain ⟨h12, e13, H⟩ := zbind H
    refine zy_putI (pc := 68) dX5_command_68 lp_X5_281 rfl e13 ?_
    refine zw_aload_n (pc := 71) dX5_command_71 rfl 0 rfl ?_
    obtain ⟨b14, e16, H⟩ := zbind H
    obtain ⟨e15, e17⟩ := zrv_ok e16
    obtain ⟨h19, e18, H⟩ := zbind H
    refine zw_invV (pc := 72) (M' := M_X5_advance) (A := []) [] dX5_command_72 (Or.inl q680) mf_X5_advance ls_X5_advance (zkq e17 rfl) (w_X5_advance e18) (Nat.le_trans (show 13 ≤ 211 from Nat.le_of_ble_eq_true rfl) (Nat.le_trans hdd (Nat.le_add_right _ _))) rfl (by rw [← e15]; rfl) (Nat.le_of_ble_eq_true rfl) (zku ?_) zkn9
    refine zw_aload_n (pc := 75) dX5_command_75 rfl 1 rfl ?_
    refine zw_ldcwS (pc := 76) 19 dX5_command_76 rfl ?_
    obtain ⟨b20, e22, H⟩ := zbind H
    obtain ⟨e21, e23⟩ := zrv_ok e22
    obtain ⟨x25, e24, H⟩ := zbind H
    refine zw_invV (pc := 79) (M' := M_J4_equals) (A := [vR (some (zst h19 19))]) [] dX5_command_79 (Or.inl q946) mf_J4_equals q948 (zkq e23 rfl) (w_J4_equals e24) (Nat.le_trans (show 4 ≤ 211 from Nat.le_of_ble_eq_true rfl) (Nat.le_trans hdd (Nat.le_add_right _ _))) rfl (by rw [← e21]; rfl) (Nat.le_of_ble_eq_true rfl) (zkv ?_) zkn9
    rcases zif H with ⟨c26, H⟩ | ⟨c26, H⟩
    · refine zw_if_eq (pc := 82) (tgt := 109) dX5_command_82 rfl (fun _ => ?_) (fun q => absurd c26 q)
      refine zw_aload_n (pc := 109) dX5_command_109 rfl 0 rfl ?_
      refine zw_aload_n (pc := 110) dX5_command_110 rfl 1 rfl ?_
      obtain ⟨b27, e29, H⟩ := zbind H
      obtain ⟨e28, e30⟩ := zrv_ok e29
      rcases zbind3 H with ⟨x32, h33, e31, H⟩ | ⟨q34, h35, e31, H⟩
      · refine zw_invV (pc := 111) (M' := M_X5_registerCommand) (A := [vR a1]) [] dX5_command_111 (Or.inl q1511) mf_X5_registerCommand ls_X5_registerCommand (zkq e30 rfl) (w_X5_registerCommand e31) (Nat.le_trans (show 211 ≤ 211 from Nat.le_of_ble_eq_true rfl) (Nat.le_trans hdd (Nat.le_add_right _ _))) rfl (by rw [← e28]; rfl) (Nat.le_of_ble_eq_true rfl) (zkv ?_) zkn9
        refine zW_pick (lv' := [(0, vR a0), (1, vR a1)]) [0, 1] rfl ?_
        exact wB_X5_command_114 hdd hr H
      · refine zw_invV (pc := 111) (M' := M_X5_registerCommand) (A := [vR a1]) [] dX5_command_111 (Or.inl q1511) mf_X5_registerCommand ls_X5_registerCommand (zkq e30 rfl) (w_X5_registerCommand e31) (Nat.le_trans (show 211 ≤ 211 from Nat.le_of_ble_eq_true rfl) (Nat.le_trans hdd (Nat.le_add_right _ _))) rfl (by rw [← e28]; rfl) (Nat.le_of_ble_eq_true rfl) zkv0 (zkx ?_)
        rcases zif H with ⟨c36, H⟩ | ⟨c36, H⟩
        · have c36 := c36
          obtain ⟨rfl, rfl⟩ := Prod.mk.inj (Option.some.inj H)
          exact zx_out (zkq c36 rfl) (fun _ hz => nomatch hz) rfl rfl
        cases H
    · refine zw_if_eq (pc := 82) (tgt := 109) dX5_command_82 rfl (fun q => absurd q c26) (fun _ => ?_)
      obtain ⟨q37, h38, e39, H⟩ := zbind2 H
      refine zy_new (pc := 85) dX5_command_85 ln_X5_261 e39 ?_
      refine zw_dup (pc := 88) dX5_command_88 rfl ?_
      refine zw_aload_n (pc := 89) dX5_command_89 rfl 1 rfl ?_
      refine zw_iconst (pc := 90) (v := (1 : Int32)) dX5_command_90 (by decide) ?_
      obtain ⟨q40, h41, e42, H⟩ := zbind2 H
      refine zy_newa (pc := 91) (k := 50) dX5_command_91 (by decide) q270 e42 ?_
      refine zw_dup (pc := 93) dX5_command_93 rfl ?_
      refine zw_iconst (pc := 94) (v := (0 : Int32)) dX5_command_94 (by decide) ?_
      refine zw_aload_n (pc := 95) dX5_command_95 rfl 0 rfl ?_
      refine zw_iconst (pc := 96) (v := (1 : Int32)) dX5_command_96 (by decide) ?_
      refine zw_bipush (pc := 97) (v := (20 : Int32)) dX5_command_97 (by decide) ?_
      obtain ⟨b43, e45, H⟩ := zbind H
      obtain ⟨e44, e46⟩ := zrv_ok e45
      rcases zbind3 H with ⟨x48, h49, e47, H⟩ | ⟨q50, h51, e47, H⟩
      · refine zw_invV (pc := 99) (M' := M_X5_number) (A := [vI (1 : Int32), vI (20 : Int32)]) [vI (0 : Int32), vR (some q40), vR (some q40), vR a1, vR (some q37), vR (some q37)] dX5_command_99 (Or.inl q1087) mf_X5_number ls_X5_number (zkq e46 rfl) (w_X5_number e47) (Nat.le_trans (show 14 ≤ 211 from Nat.le_of_ble_eq_true rfl) (Nat.le_trans hdd (Nat.le_add_right _ _))) rfl (by rw [← e44]; rfl) (Nat.le_of_ble_eq_true rfl) (zkv ?_) zkn9
        obtain ⟨h52, e53, H⟩ := zbind H
        refine zy_iast (pc := 102) dX5_command_102 e53 ?_
        obtain ⟨b54, e55, H⟩ := zbind H
        obtain ⟨h57, e56, H⟩ := zbind H
        refine zw_invI (pc := 103) (M' := M_X16_init) (A := [vR a1, vR (some q40)]) [vR (some q37)] dX5_command_103 (Or.inl q1476) mf_X16_init rfl rfl (w_X16_init e56) (Nat.le_trans (show 6 ≤ 211 from Nat.le_of_ble_eq_true rfl) (Nat.le_trans hdd (Nat.le_add_right _ _))) rfl (by rw [← e55]; rfl) (Nat.le_of_ble_eq_true rfl) (zku ?_) zkn9
        refine zw_goto (pc := 106) (tgt := 114) dX5_command_106 rfl ?_
        refine zW_pick (lv' := [(0, vR a0), (1, vR a1)]) [0, 1] rfl ?_
        exact wB_X5_command_114 hdd hr H
      · refine zw_invV (pc := 99) (M' := M_X5_number) (A := [vI (1 : Int32), vI (20 : Int32)]) [vI (0 : Int32), vR (some q40), vR (some q40), vR a1, vR (some q37), vR (some q37)] dX5_command_99 (Or.inl q1087) mf_X5_number ls_X5_number (zkq e46 rfl) (w_X5_number e47) (Nat.le_trans (show 14 ≤ 211 from Nat.le_of_ble_eq_true rfl) (Nat.le_trans hdd (Nat.le_add_right _ _))) rfl (by rw [← e44]; rfl) (Nat.le_of_ble_eq_true rfl) zkv0 (zkx ?_)
        rcases zif H with ⟨c58, H⟩ | ⟨c58, H⟩
        · have c58 := c58
          obtain ⟨rfl, rfl⟩ := Prod.mk.inj (Option.some.inj H)
          exact zx_out (zkq c58 rfl) (fun _ hz => nomatch hz) rfl rfl
        cases H
  · refine zw_invV (pc := 58) (M' := M_X5_check) (A := [vI a3, vI (4 : Int32)]) [] dX5_command_58 (Or.inl q954) mf_X5_check ls_X5_check (zkq e4 rfl) (w_X5_check e5) (Nat.le_trans (show 6 ≤ 211 from Nat.le_of_ble_eq_true rfl) (Nat.le_trans hdd (Nat.le_add_right _ _))) rfl (by rw [← e2]; rfl) (Nat.le_of_ble_eq_true rfl) zkv0 (zkx ?_)
    rcases zif H with ⟨c59, H⟩ | ⟨c59, H⟩
    · have c59 := c59
      obtain ⟨rfl, rfl⟩ := Prod.mk.inj (Option.some.inj H)
      exact zx_out (zkq c59 rfl) (fun _ hz => nomatch hz) rfl rfl
    cases H
def B_X5_command_38 (r : Option Nat → zH → Option ((Option Nat ⊕ Nat) × zH)) (a0 : Option Nat) (a1 : Option Nat) (a2 : Option Nat) (a3 : Int32) (h : zH) : Option ((Option Nat ⊕ Nat) × zH) :=
  (zrv 5 a2 h).bind fun b1 =>
  zb3 (f_X5_check (some b1) a3 (3 : Int32) h) (fun _ h7 =>
  (zgI 5 6 a0 h7).bind fun x10 =>
  if (30 : Int32) ≤ x10 then
  B_X5_command_57 r a0 a1 a0 (0 : Int32) h7
  else
  B_X5_command_57 r a0 a1 a0 (1 : Int32) h7)
  (fun q8 h9 =>
  if zk h9 q8 = 6 then
  some (.inr q8, h9)
  else none)
theorem wB_X5_command_38 {G : zG} {h0 h : zH} {vo : Option Nat ⊕ Nat} {vh : zH} {r : Option Nat → zH → Option ((Option Nat ⊕ Nat) × zH)} {dd : Nat} (hdd : 211 ≤ dd) (hr : ∀ (b0 : Option Nat) (h : zH) (vo : Option Nat ⊕ Nat) (vh : zH), r b0 h = some (vo, vh) → zMet G M_X5_command dd [vR b0] h (zoR vo) vh) {a0 : Option Nat} {a1 : Option Nat} {a2 : Option Nat} {a3 : Int32} (H : B_X5_command_38 r a0 a1 a2 a3 h = some (vo, vh)) : zW G M_X5_command (dd + 2) h0 (zoR vo) vh 38 [(0, vR a0), (1, vR a1)] [vI a3, vR a2] h := by
  unfold B_X5_command_38 at H
  refine zw_iconst (pc := 38) (v := (3 : Int32)) dX5_command_38 (by decide) ?_
  obtain ⟨b1, e3, H⟩ := zbind H
  obtain ⟨e2, e4⟩ := zrv_ok e3
  rcases zbind3 H with ⟨x6, h7, e5, H⟩ | ⟨q8, h9, e5, H⟩
  · refine zw_invV (pc := 39) (M' := M_X5_check) (A := [vI a3, vI (3 : Int32)]) [] dX5_command_39 (Or.inl q954) mf_X5_check ls_X5_check (zkq e4 rfl) (w_X5_check e5) (Nat.le_trans (show 6 ≤ 211 from Nat.le_of_ble_eq_true rfl) (Nat.le_trans hdd (Nat.le_add_right _ _))) rfl (by rw [← e2]; rfl) (Nat.le_of_ble_eq_true rfl) (zku ?_) zkn9
    refine zw_aload_n (pc := 42) dX5_command_42 rfl 0 rfl ?_
    refine zw_aload_n (pc := 43) dX5_command_43 rfl 0 rfl ?_
    obtain ⟨x10, e11, H⟩ := zbind H
    refine zy_getI (pc := 44) dX5_command_44 lf_X5_281 (fun _ _ => rfl) e11 ?_
    refine zw_bipush (pc := 47) (v := (30 : Int32)) dX5_command_47 (by decide) ?_
    rcases zif H with ⟨c12, H⟩ | ⟨c12, H⟩
    · refine zw_icmp_ge (pc := 49) (tgt := 56) dX5_command_49 rfl (fun _ => ?_) (fun q => absurd c12 q)
      refine zw_iconst (pc := 56) (v := (0 : Int32)) dX5_command_56 (by decide) ?_
      refine zW_pick (lv' := [(0, vR a0), (1, vR a1)]) [0, 1] rfl ?_
      exact wB_X5_command_57 hdd hr H
    · refine zw_icmp_ge (pc := 49) (tgt := 56) dX5_command_49 rfl (fun q => absurd q c12) (fun _ => ?_)
      refine zw_iconst (pc := 52) (v := (1 : Int32)) dX5_command_52 (by decide) ?_
      refine zw_goto (pc := 53) (tgt := 57) dX5_command_53 rfl ?_
      refine zW_pick (lv' := [(0, vR a0), (1, vR a1)]) [0, 1] rfl ?_
      exact wB_X5_command_57 hdd hr H
  · refine zw_invV (pc := 39) (M' := M_X5_check) (A := [vI a3, vI (3 : Int32)]) [] dX5_command_39 (Or.inl q954) mf_X5_check ls_X5_check (zkq e4 rfl) (w_X5_check e5) (Nat.le_trans (show 6 ≤ 211 from Nat.le_of_ble_eq_true rfl) (Nat.le_trans hdd (Nat.le_add_right _ _))) rfl (by rw [← e2]; rfl) (Nat.le_of_ble_eq_true rfl) zkv0 (zkx ?_)
    rcases zif H with ⟨c13, H⟩ | ⟨c13, H⟩
    · have c13 := c13
      obtain ⟨rfl, rfl⟩ := Prod.mk.inj (Option.some.inj H)
      exact zx_out (zkq c13 rfl) (fun _ hz => nomatch hz) rfl rfl
    cases H
def g_X5_command (r : Option Nat → zH → Option ((Option Nat ⊕ Nat) × zH)) (p0 : Option Nat) (h : zH) : Option ((Option Nat ⊕ Nat) × zH) :=
  (zgR 5 9 p0 h).bind fun x1 =>
  zb2 (f_X1_isCommand x1 h) fun x5 h4 =>
  (zrv 5 p0 h4).bind fun b6 =>
  zb3 (f_X5_check (some b6) x5 (1 : Int32) h4) (fun _ h12 =>
  (zrv 19 x1 h12).bind fun b15 =>
  (f_J4_equals (some b15) (some (zst h12 19)) h12).bind fun x20 =>
  if x20 = 0 then
  B_X5_command_38 r p0 x1 p0 (1 : Int32) h12
  else
  (zgI 5 7 p0 h12).bind fun x22 =>
  if (2 : Int32) ≤ x22 then
  B_X5_command_38 r p0 x1 p0 (0 : Int32) h12
  else
  B_X5_command_38 r p0 x1 p0 (1 : Int32) h12)
  (fun q13 h14 =>
  if zk h14 q13 = 6 then
  some (.inr q13, h14)
  else none)
theorem w_g_X5_command {G : zG} {r : Option Nat → zH → Option ((Option Nat ⊕ Nat) × zH)} {dd : Nat} (hdd : 211 ≤ dd) (hr : ∀ (b0 : Option Nat) (h : zH) (vo : Option Nat ⊕ Nat) (vh : zH), r b0 h = some (vo, vh) → zMet G M_X5_command dd [vR b0] h (zoR vo) vh) {p0 : Option Nat} {h : zH} {vo : Option Nat ⊕ Nat} {vh : zH} (H : g_X5_command r p0 h = some (vo, vh)) : zMet G M_X5_command (dd + 2) [vR p0] h (zoR vo) vh := by
  refine zMet.of (by decide +kernel) (Nat.le_of_ble_eq_true rfl) ?_
  show zW G M_X5_command (dd + 2) h (zoR vo) vh 0 [(0, vR p0)] [] h
  unfold g_X5_command at H
  refine zw_aload_n (pc := 0) dX5_command_0 rfl 0 rfl ?_
  obtain ⟨x1, e2, H⟩ := zbind H
  refine zy_getR (pc := 1) dX5_command_1 lf_X5_31 (fun _ _ => rfl) e2 ?_
  refine zw_astore_n (pc := 4) (lv' := [(1, vR x1), (0, vR p0)]) dX5_command_4 rfl (by decide) rfl ?_
  refine zw_aload_n (pc := 5) dX5_command_5 rfl 1 rfl ?_
  refine zw_aload_n (pc := 6) dX5_command_6 rfl 0 rfl ?_
  obtain ⟨x5, h4, e3, H⟩ := zbind2 H
  refine zw_invS (pc := 7) (M' := M_X1_isCommand) (A := [vR x1]) [vR p0] dX5_command_7 (Or.inr (by decide +kernel)) mf_X1_isCommand (w_X1_isCommand e3) (Nat.le_trans (show 10 ≤ 211 from Nat.le_of_ble_eq_true rfl) (Nat.le_trans hdd (Nat.le_add_right _ _))) rfl rfl (Nat.le_of_ble_eq_true rfl) (zkv ?_) zkn9
  refine zw_iconst (pc := 10) (v := (1 : Int32)) dX5_command_10 (by decide) ?_
  obtain ⟨b6, e8, H⟩ := zbind H
  obtain ⟨e7, e9⟩ := zrv_ok e8
  rcases zbind3 H with ⟨x11, h12, e10, H⟩ | ⟨q13, h14, e10, H⟩
  · refine zw_invV (pc := 11) (M' := M_X5_check) (A := [vI x5, vI (1 : Int32)]) [] dX5_command_11 (Or.inl q954) mf_X5_check ls_X5_check (zkq e9 rfl) (w_X5_check e10) (Nat.le_trans (show 6 ≤ 211 from Nat.le_of_ble_eq_true rfl) (Nat.le_trans hdd (Nat.le_add_right _ _))) rfl (by rw [← e7]; rfl) (Nat.le_of_ble_eq_true rfl) (zku ?_) zkn9
    refine zw_aload_n (pc := 14) dX5_command_14 rfl 1 rfl ?_
    refine zw_aload_n (pc := 15) dX5_command_15 rfl 0 rfl ?_
    refine zw_ldcwS (pc := 16) 19 dX5_command_16 rfl ?_
    obtain ⟨b15, e17, H⟩ := zbind H
    obtain ⟨e16, e18⟩ := zrv_ok e17
    obtain ⟨x20, e19, H⟩ := zbind H
    refine zw_invV (pc := 19) (M' := M_J4_equals) (A := [vR (some (zst h12 19))]) [vR p0] dX5_command_19 (Or.inl q946) mf_J4_equals q948 (zkq e18 rfl) (w_J4_equals e19) (Nat.le_trans (show 4 ≤ 211 from Nat.le_of_ble_eq_true rfl) (Nat.le_trans hdd (Nat.le_add_right _ _))) rfl (by rw [← e16]; rfl) (Nat.le_of_ble_eq_true rfl) (zkv ?_) zkn9
    rcases zif H with ⟨c21, H⟩ | ⟨c21, H⟩
    · refine zw_if_eq (pc := 22) (tgt := 33) dX5_command_22 rfl (fun _ => ?_) (fun q => absurd c21 q)
      refine zw_iconst (pc := 33) (v := (1 : Int32)) dX5_command_33 (by decide) ?_
      refine zw_goto (pc := 34) (tgt := 38) dX5_command_34 rfl ?_
      refine zW_pick (lv' := [(0, vR p0), (1, vR x1)]) [1, 0] rfl ?_
      exact wB_X5_command_38 hdd hr H
    · refine zw_if_eq (pc := 22) (tgt := 33) dX5_command_22 rfl (fun q => absurd q c21) (fun _ => ?_)
      refine zw_aload_n (pc := 25) dX5_command_25 rfl 1 rfl ?_
      obtain ⟨x22, e23, H⟩ := zbind H
      refine zy_getI (pc := 26) dX5_command_26 lf_X5_278 (fun _ _ => rfl) e23 ?_
      refine zw_iconst (pc := 29) (v := (2 : Int32)) dX5_command_29 (by decide) ?_
      rcases zif H with ⟨c24, H⟩ | ⟨c24, H⟩
      · refine zw_icmp_ge (pc := 30) (tgt := 37) dX5_command_30 rfl (fun _ => ?_) (fun q => absurd c24 q)
        refine zw_iconst (pc := 37) (v := (0 : Int32)) dX5_command_37 (by decide) ?_
        refine zW_pick (lv' := [(0, vR p0), (1, vR x1)]) [1, 0] rfl ?_
        exact wB_X5_command_38 hdd hr H
      · refine zw_icmp_ge (pc := 30) (tgt := 37) dX5_command_30 rfl (fun q => absurd q c24) (fun _ => ?_)
        refine zw_iconst (pc := 33) (v := (1 : Int32)) dX5_command_33 (by decide) ?_
        refine zw_goto (pc := 34) (tgt := 38) dX5_command_34 rfl ?_
        refine zW_pick (lv' := [(0, vR p0), (1, vR x1)]) [1, 0] rfl ?_
        exact wB_X5_command_38 hdd hr H
  · refine zw_invV (pc := 11) (M' := M_X5_check) (A := [vI x5, vI (1 : Int32)]) [] dX5_command_11 (Or.inl q954) mf_X5_check ls_X5_check (zkq e9 rfl) (w_X5_check e10) (Nat.le_trans (show 6 ≤ 211 from Nat.le_of_ble_eq_true rfl) (Nat.le_trans hdd (Nat.le_add_right _ _))) rfl (by rw [← e7]; rfl) (Nat.le_of_ble_eq_true rfl) zkv0 (zkx ?_)
    rcases zif H with ⟨c25, H⟩ | ⟨c25, H⟩
    · have c25 := c25
      obtain ⟨rfl, rfl⟩ := Prod.mk.inj (Option.some.inj H)
      exact zx_out (zkq c25 rfl) (fun _ hz => nomatch hz) rfl rfl
    cases H
def f_X5_command (p0 : Option Nat) (h : zH) : Option ((Option Nat ⊕ Nat) × zH) := zloop g_X5_command (fun _ _ => none) zFR p0 h
theorem w_X5_command {G : zG} {p0 : Option Nat} {h : zH} {vo : Option Nat ⊕ Nat} {vh : zH} (H : f_X5_command p0 h = some (vo, vh)) : zMet G M_X5_command 339 [vR p0] h (zoR vo) vh :=
  zloopD (body := g_X5_command) (bot := fun _ _ => none) (P := fun n f => ∀ (b0 : Option Nat) (h : zH) (vo : Option Nat ⊕ Nat) (vh : zH), f b0 h = some (vo, vh) → zMet G M_X5_command (211 + 2 * n) [vR b0] h (zoR vo) vh) zFR (fun _ _ _ _ H => nomatch H) (fun n f hf c0 c1 c2 c3 H => (w_g_X5_command (dd := 211 + 2 * n) (Nat.le_add_right _ _) hf H)) _ _ _ _ H
def f_X5_enclosed (p0 : Option Nat) (p1 : Option Nat) (h : zH) : Option ((Unit ⊕ Nat) × zH) := g_X5_enclosed f_X5_command p0 p1 h
theorem w_X5_enclosed {G : zG} {p0 : Option Nat} {p1 : Option Nat} {h : zH} {vo : Unit ⊕ Nat} {vh : zH} (H : f_X5_enclosed p0 p1 h = some (vo, vh)) : zMet G M_X5_enclosed 340 [vR p0, vR p1] h (zoU vo) vh := w_g_X5_enclosed (dd := 339) (Nat.le_of_ble_eq_true rfl) (fun _ _ _ _ H => w_X5_command H) H
theorem lp_X5_113 {nm : String} : zFp "CsrCalculator$Reader" nm 113 5 10 := ⟨_, "CsrCalculator$Reader", by decide, rfl, by decide, Or.inl rfl, Or.inl ⟨Or.inl q647, rfl⟩⟩
def M_X5_script : zM := (yX5_script, cX5_script, 2, (.some (.object "CsrCalculator$Command")), [])
theorem mf_X5_script : zMi M_X5_script 0 := ⟨⟨q1472, q195, ⟨by decide +kernel, by decide +kernel⟩, by decide +kernel, by decide⟩, q1470⟩
def B_X5_script_27 (k27 : Option Nat → Option Nat → zH → Option ((Option Nat ⊕ Nat) × zH)) (a0 : Option Nat) (a1 : Option Nat) (h : zH) : Option ((Option Nat ⊕ Nat) × zH) :=
  (zgI 5 4 a0 h).bind fun x1 =>
  if x1 = 0 then
  some (.inl a1, h)
  else
  (zgR 15 2 a1 h).bind fun x4 =>
  (zrv 5 a0 h).bind fun b6 =>
  zb3 (f_X5_command (some b6) h) (fun x11 h12 =>
  (zrv 16 x4 h12).bind fun b15 =>
  zb2 (f_J18_add (some b15) x11 h12) fun x21 h20 =>
  k27 a0 a1 h20)
  (fun q13 h14 =>
  if zk h14 q13 = 6 then
  some (.inr q13, h14)
  else none)
theorem wB_X5_script_27 {G : zG} {h0 h : zH} {vo : Option Nat ⊕ Nat} {vh : zH} {k27 : Option Nat → Option Nat → zH → Option ((Option Nat ⊕ Nat) × zH)} (hk27 : ∀ (b0 : Option Nat) (b1 : Option Nat) (h' : zH), k27 b0 b1 h' = some (vo, vh) → zW G M_X5_script 340 h0 (zoR vo) vh 27 [(0, vR b0), (1, vR b1)] [] h') {a0 : Option Nat} {a1 : Option Nat} (H : B_X5_script_27 k27 a0 a1 h = some (vo, vh)) : zW G M_X5_script 340 h0 (zoR vo) vh 27 [(0, vR a0), (1, vR a1)] [] h := by
  unfold B_X5_script_27 at H
  refine zw_aload_n (pc := 27) dX5_script_27 rfl 0 rfl ?_
  obtain ⟨x1, e2, H⟩ := zbind H
  refine zy_getI (pc := 28) dX5_script_28 lf_X5_49 (fun _ _ => rfl) e2 ?_
  rcases zif H with ⟨c3, H⟩ | ⟨c3, H⟩
  · refine zw_if_eq (pc := 31) (tgt := 51) dX5_script_31 rfl (fun _ => ?_) (fun q => absurd c3 q)
    refine zw_aload_n (pc := 51) dX5_script_51 rfl 1 rfl ?_
    obtain ⟨rfl, rfl⟩ := Prod.mk.inj (Option.some.inj H)
    exact zw_aret (pc := 52) dX5_script_52 rfl (Or.inl ⟨_, rfl⟩) rfl rfl
  · refine zw_if_eq (pc := 31) (tgt := 51) dX5_script_31 rfl (fun q => absurd q c3) (fun _ => ?_)
    refine zw_aload_n (pc := 34) dX5_script_34 rfl 1 rfl ?_
    obtain ⟨x4, e5, H⟩ := zbind H
    refine zy_getR (pc := 35) dX5_script_35 lf_X5_268 (fun _ _ => rfl) e5 ?_
    refine zw_aload_n (pc := 38) dX5_script_38 rfl 0 rfl ?_
    obtain ⟨b6, e8, H⟩ := zbind H
    obtain ⟨e7, e9⟩ := zrv_ok e8
    rcases zbind3 H with ⟨x11, h12, e10, H⟩ | ⟨q13, h14, e10, H⟩
    · refine zw_invV (pc := 39) (M' := M_X5_command) (A := []) [vR x4] dX5_script_39 (Or.inl q1500) mf_X5_command ls_X5_command (zkq e9 rfl) (w_X5_command e10) (Nat.le_of_ble_eq_true rfl) rfl (by rw [← e7]; rfl) (Nat.le_of_ble_eq_true rfl) (zkv ?_) zkn9
      obtain ⟨b15, e17, H⟩ := zbind H
      obtain ⟨e16, e18⟩ := zrv_ok e17
      obtain ⟨x21, h20, e19, H⟩ := zbind2 H
      refine zw_invF (pc := 42) (M' := M_J18_add) (A := [vR x11]) [] dX5_script_42 q1238 (by decide +kernel) mf_J18_add rfl q1242 (zkq e18 rfl) (w_J18_add e19) (Nat.le_of_ble_eq_true rfl) rfl (by rw [← e16]; rfl) (Nat.le_of_ble_eq_true rfl) (zkv ?_) zkn9
      refine zw_pop (pc := 47) dX5_script_47 rfl ?_
      refine zw_goto (pc := 48) (tgt := 27) dX5_script_48 rfl ?_
      refine zW_pick (lv' := [(0, vR a0), (1, vR a1)]) [0, 1] rfl ?_
      exact hk27 _ _ _ H
    · refine zw_invV (pc := 39) (M' := M_X5_command) (A := []) [vR x4] dX5_script_39 (Or.inl q1500) mf_X5_command ls_X5_command (zkq e9 rfl) (w_X5_command e10) (Nat.le_of_ble_eq_true rfl) rfl (by rw [← e7]; rfl) (Nat.le_of_ble_eq_true rfl) zkv0 (zkx ?_)
      rcases zif H with ⟨c22, H⟩ | ⟨c22, H⟩
      · have c22 := c22
        obtain ⟨rfl, rfl⟩ := Prod.mk.inj (Option.some.inj H)
        exact zx_out (zkq c22 rfl) (fun _ hz => nomatch hz) rfl rfl
      cases H
def f_X5_script (p0 : Option Nat) (h : zH) : Option ((Option Nat ⊕ Nat) × zH) :=
  (zpZ 5 10 p0 (1 : Int32) h).bind fun h1 =>
  (zrv 5 p0 h1).bind fun b3 =>
  (f_X5_advance (some b3) h1).bind fun h8 =>
  zb2 (znw 15 h8) fun q9 h10 =>
  zb2 (zna 50 (1 : Int32) h10) fun q12 h13 =>
  (zsI (some q12) (0 : Int32) (1 : Int32) h13).bind fun h15 =>
  (some q9).bind fun b17 =>
  (f_X16_init (some b17) (some (zst h10 19)) (some q12) h15).bind fun h20 =>
  zloop (B_X5_script_27) (fun _ _ _ => none) zFU p0 (some q9) h20
theorem w_X5_script {G : zG} {p0 : Option Nat} {h : zH} {vo : Option Nat ⊕ Nat} {vh : zH} (H : f_X5_script p0 h = some (vo, vh)) : zMet G M_X5_script 340 [vR p0] h (zoR vo) vh := by
  refine zMet.of (by decide +kernel) (Nat.le_of_ble_eq_true rfl) ?_
  show zW G M_X5_script 340 h (zoR vo) vh 0 [(0, vR p0)] [] h
  unfold f_X5_script at H
  refine zw_aload_n (pc := 0) dX5_script_0 rfl 0 rfl ?_
  refine zw_iconst (pc := 1) (v := (1 : Int32)) dX5_script_1 (by decide) ?_
  obtain ⟨h1, e2, H⟩ := zbind H
  refine zy_putZ (pc := 2) dX5_script_2 lp_X5_113 (Or.inl rfl) e2 ?_
  refine zw_aload_n (pc := 5) dX5_script_5 rfl 0 rfl ?_
  obtain ⟨b3, e5, H⟩ := zbind H
  obtain ⟨e4, e6⟩ := zrv_ok e5
  obtain ⟨h8, e7, H⟩ := zbind H
  refine zw_invV (pc := 6) (M' := M_X5_advance) (A := []) [] dX5_script_6 (Or.inl q680) mf_X5_advance ls_X5_advance (zkq e6 rfl) (w_X5_advance e7) (Nat.le_of_ble_eq_true rfl) rfl (by rw [← e4]; rfl) (Nat.le_of_ble_eq_true rfl) (zku ?_) zkn9
  obtain ⟨q9, h10, e11, H⟩ := zbind2 H
  refine zy_new (pc := 9) dX5_script_9 ln_X5_261 e11 ?_
  refine zw_dup (pc := 12) dX5_script_12 rfl ?_
  refine zw_ldcwS (pc := 13) 19 dX5_script_13 rfl ?_
  refine zw_iconst (pc := 16) (v := (1 : Int32)) dX5_script_16 (by decide) ?_
  obtain ⟨q12, h13, e14, H⟩ := zbind2 H
  refine zy_newa (pc := 17) (k := 50) dX5_script_17 (by decide) q270 e14 ?_
  refine zw_dup (pc := 19) dX5_script_19 rfl ?_
  refine zw_iconst (pc := 20) (v := (0 : Int32)) dX5_script_20 (by decide) ?_
  refine zw_iconst (pc := 21) (v := (1 : Int32)) dX5_script_21 (by decide) ?_
  obtain ⟨h15, e16, H⟩ := zbind H
  refine zy_iast (pc := 22) dX5_script_22 e16 ?_
  obtain ⟨b17, e18, H⟩ := zbind H
  obtain ⟨h20, e19, H⟩ := zbind H
  refine zw_invI (pc := 23) (M' := M_X16_init) (A := [vR (some (zst h10 19)), vR (some q12)]) [vR (some q9)] dX5_script_23 (Or.inl q1476) mf_X16_init rfl rfl (w_X16_init e19) (Nat.le_of_ble_eq_true rfl) rfl (by rw [← e18]; rfl) (Nat.le_of_ble_eq_true rfl) (zku ?_) zkn9
  refine zw_astore_n (pc := 26) (lv' := [(1, vR (some q9)), (0, vR p0)]) dX5_script_26 rfl (by decide) rfl ?_
  refine zW_pick (lv' := [(0, vR p0), (1, vR (some q9))]) [1, 0] rfl ?_
  exact zloop_ind (body := (B_X5_script_27)) (bot := (fun _ _ _ => none)) (P := (fun (f : Option Nat → Option Nat → zH → Option ((Option Nat ⊕ Nat) × zH)) => ∀ (b0 : Option Nat) (b1 : Option Nat) (h' : zH), f b0 b1 h' = some (vo, vh) → zW G M_X5_script 340 h (zoR vo) vh 27 [(0, vR b0), (1, vR b1)] [] h')) zFU (fun _ _ _ H => nomatch H) (fun f hf c0 c1 h' H => wB_X5_script_27 hf H) _ _ _ H
