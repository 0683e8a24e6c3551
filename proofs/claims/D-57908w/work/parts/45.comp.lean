/-! THE PURE PICTURE: X1 (written by gen/main.py) -/
set_option maxRecDepth 100000
theorem lq_X1_110 : zFp "CsrCalculator" "<init>" 110 1 1 := ⟨_, "CsrCalculator", by decide, rfl, by decide, Or.inl rfl, Or.inr ⟨q336, rfl, rfl, rfl⟩⟩
theorem lp_X1_114 {nm : String} : zFp "CsrCalculator" nm 114 1 4 := ⟨_, "CsrCalculator", by decide, rfl, by decide, Or.inl rfl, Or.inl ⟨Or.inl q340, rfl⟩⟩
theorem ln_X1_117 : zCl "CsrCalculator" 117 2 := ⟨_, by decide, by decide, rfl, q230, q231, q181⟩
theorem lp_X1_120 {nm : String} : zFp "CsrCalculator" nm 120 1 5 := ⟨_, "CsrCalculator", by decide, rfl, by decide, Or.inl rfl, Or.inl ⟨Or.inl q342, rfl⟩⟩
theorem ln_X1_124 : zCl "CsrCalculator" 124 17 := ⟨_, by decide, by decide, rfl, q281, q282, q184⟩
theorem lq_X1_127 : zFp "CsrCalculator" "<init>" 127 1 7 := ⟨_, "CsrCalculator", by decide, rfl, by decide, Or.inl rfl, Or.inr ⟨q344, rfl, rfl, rfl⟩⟩
theorem ln_X1_131 : zCl "CsrCalculator" 131 18 := ⟨_, by decide, by decide, rfl, q302, q303, q186⟩
theorem lq_X1_134 : zFp "CsrCalculator" "<init>" 134 1 8 := ⟨_, "CsrCalculator", by decide, rfl, by decide, Or.inl rfl, Or.inr ⟨q345, rfl, rfl, rfl⟩⟩
def M_X1_init : zM := (yX1_init, cX1_init, 1, none, [])
theorem mf_X1_init : zMi M_X1_init 0 := ⟨⟨q226, q180, ⟨by decide +kernel, by decide +kernel⟩, by decide +kernel, by decide⟩, q225⟩
def f_X1_init (p0 : Option Nat) (h : zH) : Option zH :=
  p0.bind fun b1 =>
  zb2 (zna 53 (600 : Int32) h) fun q3 h4 =>
  (zpR 1 1 p0 (some q3) h4).bind fun h6 =>
  (zpI 1 4 p0 (-1 : Int32) h6).bind fun h8 =>
  zb2 (znw 2 h8) fun q10 h11 =>
  (some q10).bind fun b13 =>
  (f_X2_init (some b13) h11).bind fun h16 =>
  (zpR 1 5 p0 (some q10) h16).bind fun h17 =>
  zb2 (znw 17 h17) fun q19 h20 =>
  (some q19).bind fun b22 =>
  (f_J1_init (some b22) h20).bind fun h25 =>
  (zpR 1 7 p0 (some q19) h25).bind fun h26 =>
  zb2 (znw 18 h26) fun q28 h29 =>
  (some q28).bind fun b31 =>
  (f_J3_init (some b31) h29).bind fun h34 =>
  (zpR 1 8 p0 (some q28) h34).bind fun h35 =>
  some h35
theorem w_X1_init {G : zG} {p0 : Option Nat} {h : zH} {vh : zH} (H : f_X1_init p0 h = some vh) : zMet G M_X1_init 5 [vR p0] h (.inl none) vh := by
  refine zMet.of (by decide +kernel) (Nat.le_of_ble_eq_true rfl) ?_
  show zW G M_X1_init 5 h (.inl none) vh 0 [(0, vR p0)] [] h
  unfold f_X1_init at H
  refine zw_aload_n (pc := 0) dX1_init_0 rfl 0 rfl ?_
  obtain ⟨b1, e2, H⟩ := zbind H
  refine zy_objInit (pc := 1) dX1_init_1 q227 e2 (Nat.le_of_ble_eq_true rfl) (Nat.le_of_ble_eq_true rfl) ?_
  refine zw_aload_n (pc := 4) dX1_init_4 rfl 0 rfl ?_
  refine zw_sipush (pc := 5) (v := (600 : Int32)) dX1_init_5 (by decide) ?_
  obtain ⟨q3, h4, e5, H⟩ := zbind2 H
  refine zy_newa (pc := 8) (k := 53) dX1_init_8 (by decide) q269 e5 ?_
  obtain ⟨h6, e7, H⟩ := zbind H
  refine zy_putR (pc := 10) dX1_init_10 lq_X1_110 rfl e7 ?_
  refine zw_aload_n (pc := 13) dX1_init_13 rfl 0 rfl ?_
  refine zw_iconst (pc := 14) (v := (-1 : Int32)) dX1_init_14 (by decide) ?_
  obtain ⟨h8, e9, H⟩ := zbind H
  refine zy_putI (pc := 15) dX1_init_15 lp_X1_114 rfl e9 ?_
  refine zw_aload_n (pc := 18) dX1_init_18 rfl 0 rfl ?_
  obtain ⟨q10, h11, e12, H⟩ := zbind2 H
  refine zy_new (pc := 19) dX1_init_19 ln_X1_117 e12 ?_
  refine zw_dup (pc := 22) dX1_init_22 rfl ?_
  obtain ⟨b13, e14, H⟩ := zbind H
  obtain ⟨h16, e15, H⟩ := zbind H
  refine zw_invI (pc := 23) (M' := M_X2_init) (A := []) [vR (some q10), vR p0] dX1_init_23 (Or.inr (by decide +kernel)) mf_X2_init rfl rfl (w_X2_init e15) (Nat.le_of_ble_eq_true rfl) rfl (by rw [← e14]; rfl) (Nat.le_of_ble_eq_true rfl) (zku ?_) zkn9
  obtain ⟨h17, e18, H⟩ := zbind H
  refine zy_putR (pc := 26) dX1_init_26 lp_X1_120 rfl e18 ?_
  refine zw_aload_n (pc := 29) dX1_init_29 rfl 0 rfl ?_
  obtain ⟨q19, h20, e21, H⟩ := zbind2 H
  refine zy_new (pc := 30) dX1_init_30 ln_X1_124 e21 ?_
  refine zw_dup (pc := 33) dX1_init_33 rfl ?_
  obtain ⟨b22, e23, H⟩ := zbind H
  obtain ⟨h25, e24, H⟩ := zbind H
  refine zw_invI (pc := 34) (M' := M_J1_init) (A := []) [vR (some q19), vR p0] dX1_init_34 (Or.inl q283) mf_J1_init rfl rfl (w_J1_init e24) (Nat.le_of_ble_eq_true rfl) rfl (by rw [← e23]; rfl) (Nat.le_of_ble_eq_true rfl) (zku ?_) zkn9
  obtain ⟨h26, e27, H⟩ := zbind H
  refine zy_putR (pc := 37) dX1_init_37 lq_X1_127 rfl e27 ?_
  refine zw_aload_n (pc := 40) dX1_init_40 rfl 0 rfl ?_
  obtain ⟨q28, h29, e30, H⟩ := zbind2 H
  refine zy_new (pc := 41) dX1_init_41 ln_X1_131 e30 ?_
  refine zw_dup (pc := 44) dX1_init_44 rfl ?_
  obtain ⟨b31, e32, H⟩ := zbind H
  obtain ⟨h34, e33, H⟩ := zbind H
  refine zw_invI (pc := 45) (M' := M_J3_init) (A := []) [vR (some q28), vR p0] dX1_init_45 (Or.inl q304) mf_J3_init rfl rfl (w_J3_init e33) (Nat.le_of_ble_eq_true rfl) rfl (by rw [← e32]; rfl) (Nat.le_of_ble_eq_true rfl) (zku ?_) zkn9
  obtain ⟨h35, e36, H⟩ := zbind H
  refine zy_putR (pc := 48) dX1_init_48 lq_X1_134 rfl e36 ?_
  obtain rfl := Option.some.inj H
  exact zw_vret (pc := 51) dX1_init_51 rfl rfl rfl
theorem lf_X1_191 : zFl "CsrCalculator" 191 1 3 := ⟨_, "CsrCalculator", by decide, rfl, by decide, Or.inl q339, Or.inl rfl⟩
def M_X1_errorCode : zM := (yX1_errorCode, cX1_errorCode, 1, (.some .int), [])
theorem mf_X1_errorCode : zMi M_X1_errorCode 0 := ⟨⟨q368, q180, ⟨by decide +kernel, by decide +kernel⟩, by decide +kernel, by decide⟩, q366⟩
def f_X1_errorCode (p0 : Option Nat) (h : zH) : Option Int32 :=
  (zgI 1 3 p0 h).bind fun x1 =>
  some x1
theorem w_X1_errorCode {G : zG} {p0 : Option Nat} {h : zH} {vx : Int32} (H : f_X1_errorCode p0 h = some vx) : zMet G M_X1_errorCode 2 [vR p0] h (.inl (some (vI vx))) h := by
  refine zMet.of (by decide +kernel) (Nat.le_of_ble_eq_true rfl) ?_
  show zW G M_X1_errorCode 2 h (.inl (some (vI vx))) h 0 [(0, vR p0)] [] h
  unfold f_X1_errorCode at H
  refine zw_aload_n (pc := 0) dX1_errorCode_0 rfl 0 rfl ?_
  obtain ⟨x1, e2, H⟩ := zbind H
  refine zy_getI (pc := 1) dX1_errorCode_1 lf_X1_191 (fun _ _ => rfl) e2 ?_
  obtain rfl := Option.some.inj H
  exact zw_iret (pc := 4) dX1_errorCode_4 rfl rfl rfl
theorem lf_X1_114 : zFl "CsrCalculator" 114 1 4 := ⟨_, "CsrCalculator", by decide, rfl, by decide, Or.inl q340, Or.inl rfl⟩
def M_X1_errorOffset : zM := (yX1_errorOffset, cX1_errorOffset, 1, (.some .int), [])
theorem mf_X1_errorOffset : zMi M_X1_errorOffset 0 := ⟨⟨q372, q180, ⟨by decide +kernel, by decide +kernel⟩, by decide +kernel, by decide⟩, q370⟩
def f_X1_errorOffset (p0 : Option Nat) (h : zH) : Option Int32 :=
  (zgI 1 4 p0 h).bind fun x1 =>
  some x1
theorem w_X1_errorOffset {G : zG} {p0 : Option Nat} {h : zH} {vx : Int32} (H : f_X1_errorOffset p0 h = some vx) : zMet G M_X1_errorOffset 2 [vR p0] h (.inl (some (vI vx))) h := by
  refine zMet.of (by decide +kernel) (Nat.le_of_ble_eq_true rfl) ?_
  show zW G M_X1_errorOffset 2 h (.inl (some (vI vx))) h 0 [(0, vR p0)] [] h
  unfold f_X1_errorOffset at H
  refine zw_aload_n (pc := 0) dX1_errorOffset_0 rfl 0 rfl ?_
  obtain ⟨x1, e2, H⟩ := zbind H
  refine zy_getI (pc := 1) dX1_errorOffset_1 lf_X1_114 (fun _ _ => rfl) e2 ?_
  obtain rfl := Option.some.inj H
  exact zw_iret (pc := 4) dX1_errorOffset_4 rfl rfl rfl
theorem lf_X1_120 : zFl "CsrCalculator" 120 1 5 := ⟨_, "CsrCalculator", by decide, rfl, by decide, Or.inl q342, Or.inl rfl⟩
theorem lf_X1_309 : zFl "CsrCalculator" 309 2 1 := ⟨_, "CsrCalculator$World", by decide, rfl, by decide, Or.inr (by decide +kernel), Or.inl rfl⟩
def M_X1_totalWork : zM := (yX1_totalWork, cX1_totalWork, 1, (.some .int), [])
theorem mf_X1_totalWork : zMi M_X1_totalWork 0 := ⟨⟨q376, q180, ⟨by decide +kernel, by decide +kernel⟩, by decide +kernel, by decide⟩, q374⟩
def f_X1_totalWork (p0 : Option Nat) (h : zH) : Option Int32 :=
  (zgR 1 5 p0 h).bind fun x1 =>
  (zgI 2 1 x1 h).bind fun x3 =>
  some x3
theorem w_X1_totalWork {G : zG} {p0 : Option Nat} {h : zH} {vx : Int32} (H : f_X1_totalWork p0 h = some vx) : zMet G M_X1_totalWork 2 [vR p0] h (.inl (some (vI vx))) h := by
  refine zMet.of (by decide +kernel) (Nat.le_of_ble_eq_true rfl) ?_
  show zW G M_X1_totalWork 2 h (.inl (some (vI vx))) h 0 [(0, vR p0)] [] h
  unfold f_X1_totalWork at H
  refine zw_aload_n (pc := 0) dX1_totalWork_0 rfl 0 rfl ?_
  obtain ⟨x1, e2, H⟩ := zbind H
  refine zy_getR (pc := 1) dX1_totalWork_1 lf_X1_120 (fun _ _ => rfl) e2 ?_
  obtain ⟨x3, e4, H⟩ := zbind H
  refine zy_getI (pc := 4) dX1_totalWork_4 lf_X1_309 (fun _ _ => rfl) e4 ?_
  obtain rfl := Option.some.inj H
  exact zw_iret (pc := 7) dX1_totalWork_7 rfl rfl rfl
theorem lf_X1_151 : zFl "CsrCalculator" 151 2 0 := ⟨_, "CsrCalculator$World", by decide, rfl, by decide, Or.inr (by decide +kernel), Or.inl rfl⟩
theorem lf_X1_167 : zFl "CsrCalculator" 167 3 1 := ⟨_, "CsrCalculator$Csr", by decide, rfl, by decide, Or.inr (by decide +kernel), Or.inl rfl⟩
theorem lf_X1_158 : zFl "CsrCalculator" 158 3 0 := ⟨_, "CsrCalculator$Csr", by decide, rfl, by decide, Or.inr (by decide +kernel), Or.inl rfl⟩
def M_X1_wrongProducts : zM := (yX1_wrongProducts, cX1_wrongProducts, 8, (.some .int), [(30, 60, 63, 288)])
theorem mf_X1_wrongProducts : zMi M_X1_wrongProducts 1 := ⟨⟨q519, q180, ⟨by decide +kernel, by decide +kernel⟩, by decide +kernel, by decide⟩, q518⟩
def B_X1_wrongProducts_17 (k17 : Option Nat → Int32 → Option Nat → Int32 → Int32 → zH → Option (Int32 × zH)) (a0 : Option Nat) (a1 : Int32) (a2 : Option Nat) (a3 : Int32) (a4 : Int32) (h : zH) : Option (Int32 × zH) :=
  if a3 ≤ a4 then
  some (a1, h)
  else
  (zaR 61 a2 a4 h).bind fun x2 =>
  (zgI 3 1 a0 h).bind fun x4 =>
  (zgI 3 0 x2 h).bind fun x6 =>
  if x4 = x6 then
  (zrv 3 a0 h).bind fun b9 =>
  zb3 (f_X3_times (some b9) x2 h) (fun x14 h15 =>
  (zrv 3 x14 h15).bind fun b18 =>
  (f_X3_equalsDense (some b18) a0 x2 h15).bind fun x23 =>
  if x23 = 0 then
  k17 a0 (a1 + (1 : Int32)) a2 a3 (a4 + (1 : Int32)) h15
  else
  k17 a0 a1 a2 a3 (a4 + (1 : Int32)) h15)
  (fun q16 h17 =>
  if zk h17 q16 = 7 then
  k17 a0 (a1 + (0 : Int32)) a2 a3 (a4 + (1 : Int32)) h17
  else none)
  else
  k17 a0 a1 a2 a3 (a4 + (1 : Int32)) h
theorem wB_X1_wrongProducts_17 {G : zG} {h0 h : zH} {vx : Int32} {vh : zH} {k17 : Option Nat → Int32 → Option Nat → Int32 → Int32 → zH → Option (Int32 × zH)} (hk17 : ∀ (b0 : Option Nat) (b1 : Int32) (b2 : Option Nat) (b3 : Int32) (b4 : Int32) (h' : zH), k17 b0 b1 b2 b3 b4 h' = some (vx, vh) → zW G M_X1_wrongProducts 9 h0 (.inl (some (vI vx))) vh 17 [(1, vR b0), (2, vI b1), (3, vR b2), (4, vI b3), (5, vI b4)] [] h') {a0 : Option Nat} {a1 : Int32} {a2 : Option Nat} {a3 : Int32} {a4 : Int32} (H : B_X1_wrongProducts_17 k17 a0 a1 a2 a3 a4 h = some (vx, vh)) : zW G M_X1_wrongProducts 9 h0 (.inl (some (vI vx))) vh 17 [(1, vR a0), (2, vI a1), (3, vR a2), (4, vI a3), (5, vI a4)] [] h := by
  unfold B_X1_wrongProducts_17 at H
  refine zw_iload (pc := 17) dX1_wrongProducts_17 4 rfl ?_
  refine zw_iload (pc := 19) dX1_wrongProducts_19 3 rfl ?_
  rcases zif H with ⟨c1, H⟩ | ⟨c1, H⟩
  · refine zw_icmp_ge (pc := 21) (tgt := 74) dX1_wrongProducts_21 rfl (fun _ => ?_) (fun q => absurd c1 q)
    refine zw_iload_n (pc := 74) dX1_wrongProducts_74 rfl 1 rfl ?_
    obtain ⟨rfl, rfl⟩ := Prod.mk.inj (Option.some.inj H)
    exact zw_iret (pc := 75) dX1_wrongProducts_75 rfl rfl rfl
  · refine zw_icmp_ge (pc := 21) (tgt := 74) dX1_wrongProducts_21 rfl (fun q => absurd q c1) (fun _ => ?_)
    refine zw_aload_n (pc := 24) dX1_wrongProducts_24 rfl 2 rfl ?_
    refine zw_iload (pc := 25) dX1_wrongProducts_25 4 rfl ?_
    obtain ⟨x2, e3, H⟩ := zbind H
    refine zy_aald (pc := 27) dX1_wrongProducts_27 (by decide) e3 ?_
    refine zw_astore (pc := 28) (lv' := [(6, vR x2), (1, vR a0), (2, vI a1), (3, vR a2), (4, vI a3), (5, vI a4)]) dX1_wrongProducts_28 (by decide) rfl ?_
    refine zw_aload_n (pc := 30) dX1_wrongProducts_30 rfl 1 rfl ?_
    obtain ⟨x4, e5, H⟩ := zbind H
    refine zy_getI (pc := 31) dX1_wrongProducts_31 lf_X1_167 (fun _ _ => rfl) e5 ?_
    refine zw_aload (pc := 34) dX1_wrongProducts_34 0 rfl ?_
    obtain ⟨x6, e7, H⟩ := zbind H
    refine zy_getI (pc := 36) dX1_wrongProducts_36 lf_X1_158 (fun _ _ => rfl) e7 ?_
    rcases zif H with ⟨c8, H⟩ | ⟨c8, H⟩
    · refine zw_icmp_ne (pc := 39) (tgt := 60) dX1_wrongProducts_39 rfl (fun q => absurd c8 q) (fun _ => ?_)
      refine zw_aload_n (pc := 42) dX1_wrongProducts_42 rfl 1 rfl ?_
      refine zw_aload (pc := 43) dX1_wrongProducts_43 0 rfl ?_
      obtain ⟨b9, e11, H⟩ := zbind H
      obtain ⟨e10, e12⟩ := zrv_ok e11
      rcases zbind3 H with ⟨x14, h15, e13, H⟩ | ⟨q16, h17, e13, H⟩
      · refine zw_invV (pc := 45) (M' := M_X3_times) (A := [vR x2]) [] dX1_wrongProducts_45 (Or.inl q520) mf_X3_times q522 (zkq e12 rfl) (w_X3_times e13) (Nat.le_of_ble_eq_true rfl) rfl (by rw [← e10]; rfl) (Nat.le_of_ble_eq_true rfl) (zkv ?_) zkn9
        refine zw_aload_n (pc := 48) dX1_wrongProducts_48 rfl 1 rfl ?_
        refine zw_aload (pc := 49) dX1_wrongProducts_49 0 rfl ?_
        obtain ⟨b18, e20, H⟩ := zbind H
        obtain ⟨e19, e21⟩ := zrv_ok e20
        obtain ⟨x23, e22, H⟩ := zbind H
        refine zw_invV (pc := 51) (M' := M_X3_equalsDense) (A := [vR a0, vR x2]) [] dX1_wrongProducts_51 (Or.inl q538) mf_X3_equalsDense q540 (zkq e21 rfl) (w_X3_equalsDense e22) (Nat.le_of_ble_eq_true rfl) rfl (by rw [← e19]; rfl) (Nat.le_of_ble_eq_true rfl) (zkv ?_) zkn9
        rcases zif H with ⟨c24, H⟩ | ⟨c24, H⟩
        · refine zw_if_ne (pc := 54) (tgt := 60) dX1_wrongProducts_54 rfl (fun q => absurd c24 q) (fun _ => ?_)
          refine zw_iinc (pc := 57) (v := (a1 + (1 : Int32))) (lv' := [(2, vI (a1 + (1 : Int32))), (6, vR x2), (1, vR a0), (3, vR a2), (4, vI a3), (5, vI a4)]) dX1_wrongProducts_57 2 rfl rfl (by decide) rfl ?_
          refine zw_goto (pc := 60) (tgt := 68) dX1_wrongProducts_60 rfl ?_
          refine zw_iinc (pc := 68) (v := (a4 + (1 : Int32))) (lv' := [(5, vI (a4 + (1 : Int32))), (2, vI (a1 + (1 : Int32))), (6, vR x2), (1, vR a0), (3, vR a2), (4, vI a3)]) dX1_wrongProducts_68 5 rfl rfl (by decide) rfl ?_
          refine zw_goto (pc := 71) (tgt := 17) dX1_wrongProducts_71 rfl ?_
          refine zW_pick (lv' := [(1, vR a0), (2, vI (a1 + (1 : Int32))), (3, vR a2), (4, vI a3), (5, vI (a4 + (1 : Int32)))]) [3, 1, 4, 5, 0] rfl ?_
          exact hk17 _ _ _ _ _ _ H
        · refine zw_if_ne (pc := 54) (tgt := 60) dX1_wrongProducts_54 rfl (fun _ => ?_) (fun q => absurd q c24)
          refine zw_goto (pc := 60) (tgt := 68) dX1_wrongProducts_60 rfl ?_
          refine zw_iinc (pc := 68) (v := (a4 + (1 : Int32))) (lv' := [(5, vI (a4 + (1 : Int32))), (6, vR x2), (1, vR a0), (2, vI a1), (3, vR a2), (4, vI a3)]) dX1_wrongProducts_68 5 rfl rfl (by decide) rfl ?_
          refine zw_goto (pc := 71) (tgt := 17) dX1_wrongProducts_71 rfl ?_
          refine zW_pick (lv' := [(1, vR a0), (2, vI a1), (3, vR a2), (4, vI a3), (5, vI (a4 + (1 : Int32)))]) [2, 3, 4, 5, 0] rfl ?_
          exact hk17 _ _ _ _ _ _ H
      · refine zw_invV (pc := 45) (M' := M_X3_times) (A := [vR x2]) [] dX1_wrongProducts_45 (Or.inl q520) mf_X3_times q522 (zkq e12 rfl) (w_X3_times e13) (Nat.le_of_ble_eq_true rfl) rfl (by rw [← e10]; rfl) (Nat.le_of_ble_eq_true rfl) zkv0 (zkx ?_)
        rcases zif H with ⟨c25, H⟩ | ⟨c25, H⟩
        · have c25 := c25
          refine zx_catch [] ⟨30, 60, 63, 288⟩ [] (zkq c25 rfl) rfl (fun _ hz => nomatch hz) rfl (by decide) q389 (by decide +kernel) ?_
          refine zw_astore (pc := 63) (lv' := [(7, vR (some q16)), (6, vR x2), (1, vR a0), (2, vI a1), (3, vR a2), (4, vI a3), (5, vI a4)]) dX1_wrongProducts_63 (by decide) rfl ?_
          refine zw_iinc (pc := 65) (v := (a1 + (0 : Int32))) (lv' := [(2, vI (a1 + (0 : Int32))), (7, vR (some q16)), (6, vR x2), (1, vR a0), (3, vR a2), (4, vI a3), (5, vI a4)]) dX1_wrongProducts_65 3 rfl rfl (by decide) rfl ?_
          refine zw_iinc (pc := 68) (v := (a4 + (1 : Int32))) (lv' := [(5, vI (a4 + (1 : Int32))), (2, vI (a1 + (0 : Int32))), (7, vR (some q16)), (6, vR x2), (1, vR a0), (3, vR a2), (4, vI a3)]) dX1_wrongProducts_68 6 rfl rfl (by decide) rfl ?_
          refine zw_goto (pc := 71) (tgt := 17) dX1_wrongProducts_71 rfl ?_
          refine zW_pick (lv' := [(1, vR a0), (2, vI (a1 + (0 : Int32))), (3, vR a2), (4, vI a3), (5, vI (a4 + (1 : Int32)))]) [4, 1, 5, 6, 0] rfl ?_
          exact hk17 _ _ _ _ _ _ H
        cases H
    · refine zw_icmp_ne (pc := 39) (tgt := 60) dX1_wrongProducts_39 rfl (fun _ => ?_) (fun q => absurd q c8)
      refine zw_goto (pc := 60) (tgt := 68) dX1_wrongProducts_60 rfl ?_
      refine zw_iinc (pc := 68) (v := (a4 + (1 : Int32))) (lv' := [(5, vI (a4 + (1 : Int32))), (6, vR x2), (1, vR a0), (2, vI a1), (3, vR a2), (4, vI a3)]) dX1_wrongProducts_68 5 rfl rfl (by decide) rfl ?_
      refine zw_goto (pc := 71) (tgt := 17) dX1_wrongProducts_71 rfl ?_
      refine zW_pick (lv' := [(1, vR a0), (2, vI a1), (3, vR a2), (4, vI a3), (5, vI (a4 + (1 : Int32)))]) [2, 3, 4, 5, 0] rfl ?_
      exact hk17 _ _ _ _ _ _ H
def f_X1_wrongProducts (p0 : Option Nat) (p1 : Option Nat) (h : zH) : Option (Int32 × zH) :=
  (zgR 1 5 p0 h).bind fun x1 =>
  (zgR 2 0 x1 h).bind fun x3 =>
  (zaN x3 h).bind fun x5 =>
  zloop (B_X1_wrongProducts_17) (fun _ _ _ _ _ _ => none) zFU p1 (0 : Int32) x3 x5 (0 : Int32) h
theorem w_X1_wrongProducts {G : zG} {p0 : Option Nat} {p1 : Option Nat} {h : zH} {vx : Int32} {vh : zH} (H : f_X1_wrongProducts p0 p1 h = some (vx, vh)) : zMet G M_X1_wrongProducts 9 [vR p0, vR p1] h (.inl (some (vI vx))) vh := by
  refine zMet.of (by decide +kernel) (Nat.le_of_ble_eq_true rfl) ?_
  show zW G M_X1_wrongProducts 9 h (.inl (some (vI vx))) vh 0 [(0, vR p0), (1, vR p1)] [] h
  unfold f_X1_wrongProducts at H
  refine zw_iconst (pc := 0) (v := (0 : Int32)) dX1_wrongProducts_0 (by decide) ?_
  refine zw_istore_n (pc := 1) (lv' := [(2, vI (0 : Int32)), (0, vR p0), (1, vR p1)]) dX1_wrongProducts_1 rfl (by decide) rfl ?_
  refine zw_aload_n (pc := 2) dX1_wrongProducts_2 rfl 1 rfl ?_
  obtain ⟨x1, e2, H⟩ := zbind H
  refine zy_getR (pc := 3) dX1_wrongProducts_3 lf_X1_120 (fun _ _ => rfl) e2 ?_
  obtain ⟨x3, e4, H⟩ := zbind H
  refine zy_getR (pc := 6) dX1_wrongProducts_6 lf_X1_151 (fun _ _ => rfl) e4 ?_
  refine zw_astore_n (pc := 9) (lv' := [(3, vR x3), (2, vI (0 : Int32)), (0, vR p0), (1, vR p1)]) dX1_wrongProducts_9 rfl (by decide) rfl ?_
  refine zw_aload_n (pc := 10) dX1_wrongProducts_10 rfl 0 rfl ?_
  obtain ⟨x5, e6, H⟩ := zbind H
  refine zy_alen (pc := 11) dX1_wrongProducts_11 e6 ?_
  refine zw_istore (pc := 12) (lv' := [(4, vI x5), (3, vR x3), (2, vI (0 : Int32)), (0, vR p0), (1, vR p1)]) dX1_wrongProducts_12 (by decide) rfl ?_
  refine zw_iconst (pc := 14) (v := (0 : Int32)) dX1_wrongProducts_14 (by decide) ?_
  refine zw_istore (pc := 15) (lv' := [(5, vI (0 : Int32)), (4, vI x5), (3, vR x3), (2, vI (0 : Int32)), (0, vR p0), (1, vR p1)]) dX1_wrongProducts_15 (by decide) rfl ?_
  refine zW_pick (lv' := [(1, vR p1), (2, vI (0 : Int32)), (3, vR x3), (4, vI x5), (5, vI (0 : Int32))]) [5, 3, 2, 1, 0] rfl ?_
  exact zloop_ind (body := (B_X1_wrongProducts_17)) (bot := (fun _ _ _ _ _ _ => none)) (P := (fun (f : Option Nat → Int32 → Option Nat → Int32 → Int32 → zH → Option (Int32 × zH)) => ∀ (b0 : Option Nat) (b1 : Int32) (b2 : Option Nat) (b3 : Int32) (b4 : Int32) (h' : zH), f b0 b1 b2 b3 b4 h' = some (vx, vh) → zW G M_X1_wrongProducts 9 h (.inl (some (vI vx))) vh 17 [(1, vR b0), (2, vI b1), (3, vR b2), (4, vI b3), (5, vI b4)] [] h')) zFU (fun _ _ _ _ _ _ H => nomatch H) (fun f hf c0 c1 c2 c3 c4 h' H => wB_X1_wrongProducts_17 hf H) _ _ _ _ _ _ H
def M_X1_wrongTranspose : zM := (yX1_wrongTranspose, cX1_wrongTranspose, 3, (.some .int), [(0, 29, 30, 288)])
theorem mf_X1_wrongTranspose : zMi M_X1_wrongTranspose 1 := ⟨⟨q388, q180, ⟨by decide +kernel, by decide +kernel⟩, by decide +kernel, by decide⟩, q387⟩
def f_X1_wrongTranspose (p0 : Option Nat) (p1 : Option Nat) (h : zH) : Option (Int32 × zH) :=
  (zrv 3 p1 h).bind fun b1 =>
  zb3 (f_X3_transposed (some b1) h) (fun x6 h7 =>
  (zrv 3 x6 h7).bind fun b10 =>
  zb3 (f_X3_transposed (some b10) h7) (fun x15 h16 =>
  (zrv 3 p1 h16).bind fun b19 =>
  (f_X3_hasSameStructure (some b19) x15 h16).bind fun x24 =>
  if x24 = 0 then
  some ((1 : Int32), h16)
  else
  (zrv 3 p1 h16).bind fun b26 =>
  (f_X3_hasSameValues (some b26) x15 h16).bind fun x31 =>
  if x31 = 0 then
  some ((1 : Int32), h16)
  else
  some ((0 : Int32), h16))
  (fun q17 h18 =>
  if zk h18 q17 = 7 then
  some ((1 : Int32), h18)
  else none))
  (fun q8 h9 =>
  if zk h9 q8 = 7 then
  some ((1 : Int32), h9)
  else none)
theorem w_X1_wrongTranspose {G : zG} {p0 : Option Nat} {p1 : Option Nat} {h : zH} {vx : Int32} {vh : zH} (H : f_X1_wrongTranspose p0 p1 h = some (vx, vh)) : zMet G M_X1_wrongTranspose 9 [vR p0, vR p1] h (.inl (some (vI vx))) vh := by
  refine zMet.of (by decide +kernel) (Nat.le_of_ble_eq_true rfl) ?_
  show zW G M_X1_wrongTranspose 9 h (.inl (some (vI vx))) vh 0 [(0, vR p0), (1, vR p1)] [] h
  unfold f_X1_wrongTranspose at H
  refine zw_aload_n (pc := 0) dX1_wrongTranspose_0 rfl 1 rfl ?_
  obtain ⟨b1, e3, H⟩ := zbind H
  obtain ⟨e2, e4⟩ := zrv_ok e3
  rcases zbind3 H with ⟨x6, h7, e5, H⟩ | ⟨q8, h9, e5, H⟩
  · refine zw_invV (pc := 1) (M' := M_X3_transposed) (A := []) [] dX1_wrongTranspose_1 (Or.inl q390) mf_X3_transposed q392 (zkq e4 rfl) (w_X3_transposed e5) (Nat.le_of_ble_eq_true rfl) rfl (by rw [← e2]; rfl) (Nat.le_of_ble_eq_true rfl) (zkv ?_) zkn9
    obtain ⟨b10, e12, H⟩ := zbind H
    obtain ⟨e11, e13⟩ := zrv_ok e12
    rcases zbind3 H with ⟨x15, h16, e14, H⟩ | ⟨q17, h18, e14, H⟩
    · refine zw_invV (pc := 4) (M' := M_X3_transposed) (A := []) [] dX1_wrongTranspose_4 (Or.inl q390) mf_X3_transposed q392 (zkq e13 rfl) (w_X3_transposed e14) (Nat.le_of_ble_eq_true rfl) rfl (by rw [← e11]; rfl) (Nat.le_of_ble_eq_true rfl) (zkv ?_) zkn9
      refine zw_astore_n (pc := 7) (lv' := [(2, vR x15), (0, vR p0), (1, vR p1)]) dX1_wrongTranspose_7 rfl (by decide) rfl ?_
      refine zw_aload_n (pc := 8) dX1_wrongTranspose_8 rfl 2 rfl ?_
      refine zw_aload_n (pc := 9) dX1_wrongTranspose_9 rfl 0 rfl ?_
      obtain ⟨b19, e21, H⟩ := zbind H
      obtain ⟨e20, e22⟩ := zrv_ok e21
      obtain ⟨x24, e23, H⟩ := zbind H
      refine zw_invV (pc := 10) (M' := M_X3_hasSameStructure) (A := [vR x15]) [] dX1_wrongTranspose_10 (Or.inl q500) mf_X3_hasSameStructure q502 (zkq e22 rfl) (w_X3_hasSameStructure e23) (Nat.le_of_ble_eq_true rfl) rfl (by rw [← e20]; rfl) (Nat.le_of_ble_eq_true rfl) (zkv ?_) zkn9
      rcases zif H with ⟨c25, H⟩ | ⟨c25, H⟩
      · refine zw_if_eq (pc := 13) (tgt := 28) dX1_wrongTranspose_13 rfl (fun _ => ?_) (fun q => absurd c25 q)
        refine zw_iconst (pc := 28) (v := (1 : Int32)) dX1_wrongTranspose_28 (by decide) ?_
        obtain ⟨rfl, rfl⟩ := Prod.mk.inj (Option.some.inj H)
        exact zw_iret (pc := 29) dX1_wrongTranspose_29 rfl rfl rfl
      · refine zw_if_eq (pc := 13) (tgt := 28) dX1_wrongTranspose_13 rfl (fun q => absurd q c25) (fun _ => ?_)
        refine zw_aload_n (pc := 16) dX1_wrongTranspose_16 rfl 2 rfl ?_
        refine zw_aload_n (pc := 17) dX1_wrongTranspose_17 rfl 0 rfl ?_
        obtain ⟨b26, e28, H⟩ := zbind H
        obtain ⟨e27, e29⟩ := zrv_ok e28
        obtain ⟨x31, e30, H⟩ := zbind H
        refine zw_invV (pc := 18) (M' := M_X3_hasSameValues) (A := [vR x15]) [] dX1_wrongTranspose_18 (Or.inl q512) mf_X3_hasSameValues q514 (zkq e29 rfl) (w_X3_hasSameValues e30) (Nat.le_of_ble_eq_true rfl) rfl (by rw [← e27]; rfl) (Nat.le_of_ble_eq_true rfl) (zkv ?_) zkn9
        rcases zif H with ⟨c32, H⟩ | ⟨c32, H⟩
        · refine zw_if_eq (pc := 21) (tgt := 28) dX1_wrongTranspose_21 rfl (fun _ => ?_) (fun q => absurd c32 q)
          refine zw_iconst (pc := 28) (v := (1 : Int32)) dX1_wrongTranspose_28 (by decide) ?_
          obtain ⟨rfl, rfl⟩ := Prod.mk.inj (Option.some.inj H)
          exact zw_iret (pc := 29) dX1_wrongTranspose_29 rfl rfl rfl
        · refine zw_if_eq (pc := 21) (tgt := 28) dX1_wrongTranspose_21 rfl (fun q => absurd q c32) (fun _ => ?_)
          refine zw_iconst (pc := 24) (v := (0 : Int32)) dX1_wrongTranspose_24 (by decide) ?_
          refine zw_goto (pc := 25) (tgt := 29) dX1_wrongTranspose_25 rfl ?_
          obtain ⟨rfl, rfl⟩ := Prod.mk.inj (Option.some.inj H)
          exact zw_iret (pc := 29) dX1_wrongTranspose_29 rfl rfl rfl
    · refine zw_invV (pc := 4) (M' := M_X3_transposed) (A := []) [] dX1_wrongTranspose_4 (Or.inl q390) mf_X3_transposed q392 (zkq e13 rfl) (w_X3_transposed e14) (Nat.le_of_ble_eq_true rfl) rfl (by rw [← e11]; rfl) (Nat.le_of_ble_eq_true rfl) zkv0 (zkx ?_)
      rcases zif H with ⟨c33, H⟩ | ⟨c33, H⟩
      · have c33 := c33
        refine zx_catch [] ⟨0, 29, 30, 288⟩ [] (zkq c33 rfl) rfl (fun _ hz => nomatch hz) rfl (by decide) q389 (by decide +kernel) ?_
        refine zw_astore_n (pc := 30) (lv' := [(2, vR (some q17)), (0, vR p0), (1, vR p1)]) dX1_wrongTranspose_30 rfl (by decide) rfl ?_
        refine zw_iconst (pc := 31) (v := (1 : Int32)) dX1_wrongTranspose_31 (by decide) ?_
        obtain ⟨rfl, rfl⟩ := Prod.mk.inj (Option.some.inj H)
        exact zw_iret (pc := 32) dX1_wrongTranspose_32 rfl rfl rfl
      cases H
  · refine zw_invV (pc := 1) (M' := M_X3_transposed) (A := []) [] dX1_wrongTranspose_1 (Or.inl q390) mf_X3_transposed q392 (zkq e4 rfl) (w_X3_transposed e5) (Nat.le_of_ble_eq_true rfl) rfl (by rw [← e2]; rfl) (Nat.le_of_ble_eq_true rfl) zkv0 (zkx ?_)
    rcases zif H with ⟨c34, H⟩ | ⟨c34, H⟩
    · have c34 := c34
      refine zx_catch [] ⟨0, 29, 30, 288⟩ [] (zkq c34 rfl) rfl (fun _ hz => nomatch hz) rfl (by decide) q389 (by decide +kernel) ?_
      refine zw_astore_n (pc := 30) (lv' := [(2, vR (some q8)), (0, vR p0), (1, vR p1)]) dX1_wrongTranspose_30 rfl (by decide) rfl ?_
      refine zw_iconst (pc := 31) (v := (1 : Int32)) dX1_wrongTranspose_31 (by decide) ?_
      obtain ⟨rfl, rfl⟩ := Prod.mk.inj (Option.some.inj H)
      exact zw_iret (pc := 32) dX1_wrongTranspose_32 rfl rfl rfl
    cases H
theorem ls_X1_wrongTranspose : Cond.selects yX1_wrongTranspose.cls yX1_wrongTranspose yX1_wrongTranspose ∈ lw_all := lw_g (lw_ms _ (List.mem_of_getElem? (i := 0) rfl)) rfl
theorem ls_X1_wrongProducts : Cond.selects yX1_wrongProducts.cls yX1_wrongProducts yX1_wrongProducts ∈ lw_all := lw_g (lw_ms _ (List.mem_of_getElem? (i := 4) rfl)) rfl
def M_X1_violations : zM := (yX1_violations, cX1_violations, 6, (.some .int), [])
theorem mf_X1_violations : zMi M_X1_violations 0 := ⟨⟨q380, q180, ⟨by decide +kernel, by decide +kernel⟩, by decide +kernel, by decide⟩, q378⟩
def B_X1_violations_16 (k16 : Option Nat → Int32 → Option Nat → Int32 → Int32 → zH → Option (Int32 × zH)) (a0 : Option Nat) (a1 : Int32) (a2 : Option Nat) (a3 : Int32) (a4 : Int32) (h : zH) : Option (Int32 × zH) :=
  if a3 ≤ a4 then
  some (a1, h)
  else
  (zaR 61 a2 a4 h).bind fun x2 =>
  (zrv 3 x2 h).bind fun b4 =>
  (f_X3_wrongOrder (some b4) h).bind fun x9 =>
  (zrv 1 a0 h).bind fun b10 =>
  zb2 (f_X1_wrongTranspose (some b10) x2 h) fun x16 h15 =>
  (zrv 1 a0 h15).bind fun b17 =>
  zb2 (f_X1_wrongProducts (some b17) x2 h15) fun x23 h22 =>
  k16 a0 (a1 + ((x9 + x16) + x23)) a2 a3 (a4 + (1 : Int32)) h22
theorem wB_X1_violations_16 {G : zG} {h0 h : zH} {vx : Int32} {vh : zH} {k16 : Option Nat → Int32 → Option Nat → Int32 → Int32 → zH → Option (Int32 × zH)} (hk16 : ∀ (b0 : Option Nat) (b1 : Int32) (b2 : Option Nat) (b3 : Int32) (b4 : Int32) (h' : zH), k16 b0 b1 b2 b3 b4 h' = some (vx, vh) → zW G M_X1_violations 10 h0 (.inl (some (vI vx))) vh 16 [(0, vR b0), (1, vI b1), (2, vR b2), (3, vI b3), (4, vI b4)] [] h') {a0 : Option Nat} {a1 : Int32} {a2 : Option Nat} {a3 : Int32} {a4 : Int32} (H : B_X1_violations_16 k16 a0 a1 a2 a3 a4 h = some (vx, vh)) : zW G M_X1_violations 10 h0 (.inl (some (vI vx))) vh 16 [(0, vR a0), (1, vI a1), (2, vR a2), (3, vI a3), (4, vI a4)] [] h := by
  unfold B_X1_violations_16 at H
  refine zw_iload (pc := 16) dX1_violations_16 4 rfl ?_
  refine zw_iload_n (pc := 18) dX1_violations_18 rfl 3 rfl ?_
  rcases zif H with ⟨c1, H⟩ | ⟨c1, H⟩
  · refine zw_icmp_ge (pc := 19) (tgt := 56) dX1_violations_19 rfl (fun _ => ?_) (fun q => absurd c1 q)
    refine zw_iload_n (pc := 56) dX1_violations_56 rfl 1 rfl ?_
    obtain ⟨rfl, rfl⟩ := Prod.mk.inj (Option.some.inj H)
    exact zw_iret (pc := 57) dX1_violations_57 rfl rfl rfl
  · refine zw_icmp_ge (pc := 19) (tgt := 56) dX1_violations_19 rfl (fun q => absurd q c1) (fun _ => ?_)
    refine zw_aload_n (pc := 22) dX1_violations_22 rfl 2 rfl ?_
    refine zw_iload (pc := 23) dX1_violations_23 4 rfl ?_
    obtain ⟨x2, e3, H⟩ := zbind H
    refine zy_aald (pc := 25) dX1_violations_25 (by decide) e3 ?_
    refine zw_astore (pc := 26) (lv' := [(5, vR x2), (0, vR a0), (1, vI a1), (2, vR a2), (3, vI a3), (4, vI a4)]) dX1_violations_26 (by decide) rfl ?_
    refine zw_iload_n (pc := 28) dX1_violations_28 rfl 2 rfl ?_
    refine zw_aload (pc := 29) dX1_violations_29 0 rfl ?_
    obtain ⟨b4, e6, H⟩ := zbind H
    obtain ⟨e5, e7⟩ := zrv_ok e6
    obtain ⟨x9, e8, H⟩ := zbind H
    refine zw_invV (pc := 31) (M' := M_X3_wrongOrder) (A := []) [vI a1] dX1_violations_31 (Or.inl q381) mf_X3_wrongOrder q383 (zkq e7 rfl) (w_X3_wrongOrder e8) (Nat.le_of_ble_eq_true rfl) rfl (by rw [← e5]; rfl) (Nat.le_of_ble_eq_true rfl) (zkv ?_) zkn9
    refine zw_aload_n (pc := 34) dX1_violations_34 rfl 1 rfl ?_
    refine zw_aload (pc := 35) dX1_violations_35 0 rfl ?_
    obtain ⟨b10, e12, H⟩ := zbind H
    obtain ⟨e11, e13⟩ := zrv_ok e12
    obtain ⟨x16, h15, e14, H⟩ := zbind2 H
    refine zw_invV (pc := 37) (M' := M_X1_wrongTranspose) (A := [vR x2]) [vI x9, vI a1] dX1_violations_37 (Or.inl q385) mf_X1_wrongTranspose ls_X1_wrongTranspose (zkq e13 rfl) (w_X1_wrongTranspose e14) (Nat.le_of_ble_eq_true rfl) rfl (by rw [← e11]; rfl) (Nat.le_of_ble_eq_true rfl) (zkv ?_) zkn9
    refine zw_iadd (pc := 40) dX1_violations_40 ?_
    refine zw_aload_n (pc := 41) dX1_violations_41 rfl 1 rfl ?_
    refine zw_aload (pc := 42) dX1_violations_42 0 rfl ?_
    obtain ⟨b17, e19, H⟩ := zbind H
    obtain ⟨e18, e20⟩ := zrv_ok e19
    obtain ⟨x23, h22, e21, H⟩ := zbind2 H
    refine zw_invV (pc := 44) (M' := M_X1_wrongProducts) (A := [vR x2]) [vI (x9 + x16), vI a1] dX1_violations_44 (Or.inl q516) mf_X1_wrongProducts ls_X1_wrongProducts (zkq e20 rfl) (w_X1_wrongProducts e21) (Nat.le_of_ble_eq_true rfl) rfl (by rw [← e18]; rfl) (Nat.le_of_ble_eq_true rfl) (zkv ?_) zkn9
    refine zw_iadd (pc := 47) dX1_violations_47 ?_
    refine zw_iadd (pc := 48) dX1_violations_48 ?_
    refine zw_istore_n (pc := 49) (lv' := [(1, vI (a1 + ((x9 + x16) + x23))), (5, vR x2), (0, vR a0), (2, vR a2), (3, vI a3), (4, vI a4)]) dX1_violations_49 rfl (by decide) rfl ?_
    refine zw_iinc (pc := 50) (v := (a4 + (1 : Int32))) (lv' := [(4, vI (a4 + (1 : Int32))), (1, vI (a1 + ((x9 + x16) + x23))), (5, vR x2), (0, vR a0), (2, vR a2), (3, vI a3)]) dX1_violations_50 5 rfl rfl (by decide) rfl ?_
    refine zw_goto (pc := 53) (tgt := 16) dX1_violations_53 rfl ?_
    refine zW_pick (lv' := [(0, vR a0), (1, vI (a1 + ((x9 + x16) + x23))), (2, vR a2), (3, vI a3), (4, vI (a4 + (1 : Int32)))]) [3, 1, 4, 5, 0] rfl ?_
    exact hk16 _ _ _ _ _ _ H
def f_X1_violations (p0 : Option Nat) (h : zH) : Option (Int32 × zH) :=
  (zgR 1 5 p0 h).bind fun x1 =>
  (zgR 2 0 x1 h).bind fun x3 =>
  (zaN x3 h).bind fun x5 =>
  zloop (B_X1_violations_16) (fun _ _ _ _ _ _ => none) zFU p0 (0 : Int32) x3 x5 (0 : Int32) h
theorem w_X1_violations {G : zG} {p0 : Option Nat} {h : zH} {vx : Int32} {vh : zH} (H : f_X1_violations p0 h = some (vx, vh)) : zMet G M_X1_violations 10 [vR p0] h (.inl (some (vI vx))) vh := by
  refine zMet.of (by decide +kernel) (Nat.le_of_ble_eq_true rfl) ?_
  show zW G M_X1_violations 10 h (.inl (some (vI vx))) vh 0 [(0, vR p0)] [] h
  unfold f_X1_violations at H
  refine zw_iconst (pc := 0) (v := (0 : Int32)) dX1_violations_0 (by decide) ?_
  refine zw_istore_n (pc := 1) (lv' := [(1, vI (0 : Int32)), (0, vR p0)]) dX1_violations_1 rfl (by decide) rfl ?_
  refine zw_aload_n (pc := 2) dX1_violations_2 rfl 1 rfl ?_
  obtain ⟨x1, e2, H⟩ := zbind H
  refine zy_getR (pc := 3) dX1_violations_3 lf_X1_120 (fun _ _ => rfl) e2 ?_
  obtain ⟨x3, e4, H⟩ := zbind H
  refine zy_getR (pc := 6) dX1_violations_6 lf_X1_151 (fun _ _ => rfl) e4 ?_
  refine zw_astore_n (pc := 9) (lv' := [(2, vR x3), (1, vI (0 : Int32)), (0, vR p0)]) dX1_violations_9 rfl (by decide) rfl ?_
  refine zw_aload_n (pc := 10) dX1_violations_10 rfl 0 rfl ?_
  obtain ⟨x5, e6, H⟩ := zbind H
  refine zy_alen (pc := 11) dX1_violations_11 e6 ?_
  refine zw_istore_n (pc := 12) (lv' := [(3, vI x5), (2, vR x3), (1, vI (0 : Int32)), (0, vR p0)]) dX1_violations_12 rfl (by decide) rfl ?_
  refine zw_iconst (pc := 13) (v := (0 : Int32)) dX1_violations_13 (by decide) ?_
  refine zw_istore (pc := 14) (lv' := [(4, vI (0 : Int32)), (3, vI x5), (2, vR x3), (1, vI (0 : Int32)), (0, vR p0)]) dX1_violations_14 (by decide) rfl ?_
  refine zW_pick (lv' := [(0, vR p0), (1, vI (0 : Int32)), (2, vR x3), (3, vI x5), (4, vI (0 : Int32))]) [4, 3, 2, 1, 0] rfl ?_
  exact zloop_ind (body := (B_X1_violations_16)) (bot := (fun _ _ _ _ _ _ => none)) (P := (fun (f : Option Nat → Int32 → Option Nat → Int32 → Int32 → zH → Option (Int32 × zH)) => ∀ (b0 : Option Nat) (b1 : Int32) (b2 : Option Nat) (b3 : Int32) (b4 : Int32) (h' : zH), f b0 b1 b2 b3 b4 h' = some (vx, vh) → zW G M_X1_violations 10 h (.inl (some (vI vx))) vh 16 [(0, vR b0), (1, vI b1), (2, vR b2), (3, vI b3), (4, vI b4)] [] h')) zFU (fun _ _ _ _ _ _ H => nomatch H) (fun f hf c0 c1 c2 c3 c4 h' H => wB_X1_violations_16 hf H) _ _ _ _ _ _ H
theorem lp_X1_420 {nm : String} : zFp "CsrCalculator" nm 420 1 6 := ⟨_, "CsrCalculator", by decide, rfl, by decide, Or.inl rfl, Or.inl ⟨Or.inl q343, rfl⟩⟩
def M_X1_saveState : zM := (yX1_saveState, cX1_saveState, 1, (.some .int), [])
theorem mf_X1_saveState : zMi M_X1_saveState 0 := ⟨⟨q545, q180, ⟨by decide +kernel, by decide +kernel⟩, by decide +kernel, by decide⟩, q543⟩
def f_X1_saveState (p0 : Option Nat) (h : zH) : Option (Int32 × zH) :=
  (zgR 1 5 p0 h).bind fun x1 =>
  (zrv 2 x1 h).bind fun b3 =>
  zb2 (f_X2_copy (some b3) h) fun x9 h8 =>
  (zpR 1 6 p0 x9 h8).bind fun h10 =>
  (zgR 1 5 p0 h10).bind fun x12 =>
  (zrv 2 x12 h10).bind fun b14 =>
  (f_X2_stored (some b14) h10).bind fun x19 =>
  some (x19, h10)
theorem w_X1_saveState {G : zG} {p0 : Option Nat} {h : zH} {vx : Int32} {vh : zH} (H : f_X1_saveState p0 h = some (vx, vh)) : zMet G M_X1_saveState 6 [vR p0] h (.inl (some (vI vx))) vh := by
  refine zMet.of (by decide +kernel) (Nat.le_of_ble_eq_true rfl) ?_
  show zW G M_X1_saveState 6 h (.inl (some (vI vx))) vh 0 [(0, vR p0)] [] h
  unfold f_X1_saveState at H
  refine zw_aload_n (pc := 0) dX1_saveState_0 rfl 0 rfl ?_
  refine zw_aload_n (pc := 1) dX1_saveState_1 rfl 0 rfl ?_
  obtain ⟨x1, e2, H⟩ := zbind H
  refine zy_getR (pc := 2) dX1_saveState_2 lf_X1_120 (fun _ _ => rfl) e2 ?_
  obtain ⟨b3, e5, H⟩ := zbind H
  obtain ⟨e4, e6⟩ := zrv_ok e5
  obtain ⟨x9, h8, e7, H⟩ := zbind2 H
  refine zw_invV (pc := 5) (M' := M_X2_copy) (A := []) [vR p0] dX1_saveState_5 (Or.inl q546) mf_X2_copy q548 (zkq e6 rfl) (w_X2_copy e7) (Nat.le_of_ble_eq_true rfl) rfl (by rw [← e4]; rfl) (Nat.le_of_ble_eq_true rfl) (zkv ?_) zkn9
  obtain ⟨h10, e11, H⟩ := zbind H
  refine zy_putR (pc := 8) dX1_saveState_8 lp_X1_420 rfl e11 ?_
  refine zw_aload_n (pc := 11) dX1_saveState_11 rfl 0 rfl ?_
  obtain ⟨x12, e13, H⟩ := zbind H
  refine zy_getR (pc := 12) dX1_saveState_12 lf_X1_120 (fun _ _ => rfl) e13 ?_
  obtain ⟨b14, e16, H⟩ := zbind H
  obtain ⟨e15, e17⟩ := zrv_ok e16
  obtain ⟨x19, e18, H⟩ := zbind H
  refine zw_invV (pc := 15) (M' := M_X2_stored) (A := []) [] dX1_saveState_15 (Or.inl q552) mf_X2_stored q554 (zkq e17 rfl) (w_X2_stored e18) (Nat.le_of_ble_eq_true rfl) rfl (by rw [← e15]; rfl) (Nat.le_of_ble_eq_true rfl) (zkv ?_) zkn9
  obtain ⟨rfl, rfl⟩ := Prod.mk.inj (Option.some.inj H)
  exact zw_iret (pc := 18) dX1_saveState_18 rfl rfl rfl
def M_J7_init_2 : zM := (yJ7_init_2, cJ7_init_2, 1, none, [])
theorem mf_J7_init_2 : zMi M_J7_init_2 0 := ⟨⟨q587, q191, ⟨by decide +kernel, by decide +kernel⟩, by decide +kernel, by decide⟩, q586⟩
def f_J7_init_2 (p0 : Option Nat) (h : zH) : Option Unit :=
  none
theorem w_J7_init_2 {G : zG} {p0 : Option Nat} {h : zH} {vx : Unit} (H : f_J7_init_2 p0 h = some vx) : zMet G M_J7_init_2 2 [vR p0] h (.inl none) h := by
  refine zMet.of (by decide +kernel) (Nat.le_of_ble_eq_true rfl) ?_
  show zW G M_J7_init_2 2 h (.inl none) h 0 [(0, vR p0)] [] h
  unfold f_J7_init_2 at H
  refine zw_aload_n (pc := 0) dJ7_init_2_0 rfl 0 rfl ?_
  cases H
def M_J8_init : zM := (yJ8_init, cJ8_init, 1, none, [])
theorem mf_J8_init : zMi M_J8_init 0 := ⟨⟨q584, q192, ⟨by decide +kernel, by decide +kernel⟩, by decide +kernel, by decide⟩, q583⟩
def f_J8_init (p0 : Option Nat) (h : zH) : Option Unit :=
  p0.bind fun b1 =>
  (f_J7_init_2 (some b1) h).bind fun _ =>
  some ()
theorem w_J8_init {G : zG} {p0 : Option Nat} {h : zH} {vx : Unit} (H : f_J8_init p0 h = some vx) : zMet G M_J8_init 3 [vR p0] h (.inl none) h := by
  refine zMet.of (by decide +kernel) (Nat.le_of_ble_eq_true rfl) ?_
  show zW G M_J8_init 3 h (.inl none) h 0 [(0, vR p0)] [] h
  unfold f_J8_init at H
  refine zw_aload_n (pc := 0) dJ8_init_0 rfl 0 rfl ?_
  obtain ⟨b1, e2, H⟩ := zbind H
  obtain ⟨x4, e3, H⟩ := zbind H
  refine zw_invI (pc := 1) (M' := M_J7_init_2) (A := []) [] dJ8_init_1 (Or.inl q585) mf_J7_init_2 rfl rfl (w_J7_init_2 e3) (Nat.le_of_ble_eq_true rfl) rfl (by rw [← e2]; rfl) (Nat.le_of_ble_eq_true rfl) (zku ?_) zkn9
  obtain rfl := Option.some.inj H
  exact zw_vret (pc := 4) dJ8_init_4 rfl rfl rfl
def M_J9_init : zM := (yJ9_init, cJ9_init, 1, none, [])
theorem mf_J9_init : zMi M_J9_init 0 := ⟨⟨q581, q193, ⟨by decide +kernel, by decide +kernel⟩, by decide +kernel, by decide⟩, q580⟩
def f_J9_init (p0 : Option Nat) (h : zH) : Option Unit :=
  p0.bind fun b1 =>
  (f_J8_init (some b1) h).bind fun _ =>
  some ()
theorem w_J9_init {G : zG} {p0 : Option Nat} {h : zH} {vx : Unit} (H : f_J9_init p0 h = some vx) : zMet G M_J9_init 4 [vR p0] h (.inl none) h := by
  refine zMet.of (by decide +kernel) (Nat.le_of_ble_eq_true rfl) ?_
  show zW G M_J9_init 4 h (.inl none) h 0 [(0, vR p0)] [] h
  unfold f_J9_init at H
  refine zw_aload_n (pc := 0) dJ9_init_0 rfl 0 rfl ?_
  obtain ⟨b1, e2, H⟩ := zbind H
  obtain ⟨x4, e3, H⟩ := zbind H
  refine zw_invI (pc := 1) (M' := M_J8_init) (A := []) [] dJ9_init_1 (Or.inl q582) mf_J8_init rfl rfl (w_J8_init e3) (Nat.le_of_ble_eq_true rfl) rfl (by rw [← e2]; rfl) (Nat.le_of_ble_eq_true rfl) (zku ?_) zkn9
  obtain rfl := Option.some.inj H
  exact zw_vret (pc := 4) dJ9_init_4 rfl rfl rfl
def M_X1_may : zM := (yX1_may, cX1_may, 1, none, [])
theorem mf_X1_may : zMs M_X1_may 1 := ⟨⟨q567, q180, ⟨by decide +kernel, by decide +kernel⟩, by decide +kernel, by decide⟩, q566⟩
def f_X1_may (p0 : Int32) (h : zH) : Option ((Unit ⊕ Nat) × zH) :=
  if p0 = 0 then
  zb2 (zmk 22 h) fun q2 h3 =>
  (some q2).bind fun q5 =>
  if zk h3 q5 = 22 then
  some (.inr q5, h3)
  else none
  else
  some (.inl (), h)
theorem w_X1_may {G : zG} {p0 : Int32} {h : zH} {vo : Unit ⊕ Nat} {vh : zH} (H : f_X1_may p0 h = some (vo, vh)) : zMet G M_X1_may 6 [vI p0] h (zoU vo) vh := by
  refine zMet.of (by decide +kernel) (Nat.le_of_ble_eq_true rfl) ?_
  show zW G M_X1_may 6 h (zoU vo) vh 0 [(0, vI p0)] [] h
  unfold f_X1_may at H
  refine zw_iload_n (pc := 0) dX1_may_0 rfl 0 rfl ?_
  rcases zif H with ⟨c1, H⟩ | ⟨c1, H⟩
  · refine zw_if_ne (pc := 1) (tgt := 12) dX1_may_1 rfl (fun q => absurd c1 q) (fun _ => ?_)
    obtain ⟨q2, h3, e4, H⟩ := zbind2 H
    refine zy_make0 (pc := 4) rfl (Or.inr (Or.inr ⟨rfl, rfl, rfl⟩)) dX1_may_4 dX1_may_7 dX1_may_8 (Nat.le_of_ble_eq_true rfl) (Nat.le_of_ble_eq_true rfl) e4 ?_
    obtain ⟨q5, e6, H⟩ := zbind H
    refine zy_athrow (pc := 11) dX1_may_11 e6 ?_
    rcases zif H with ⟨c7, H⟩ | ⟨c7, H⟩
    · have c7 := c7
      obtain ⟨rfl, rfl⟩ := Prod.mk.inj (Option.some.inj H)
      exact zx_out (zkq c7 rfl) (fun _ hz => nomatch hz) rfl rfl
    cases H
  · refine zw_if_ne (pc := 1) (tgt := 12) dX1_may_1 rfl (fun _ => ?_) (fun q => absurd q c1)
    obtain ⟨rfl, rfl⟩ := Prod.mk.inj (Option.some.inj H)
    exact zw_vret (pc := 12) dX1_may_12 rfl rfl rfl
theorem lf_X1_110 : zFl "CsrCalculator" 110 1 1 := ⟨_, "CsrCalculator", by decide, rfl, by decide, Or.inl q336, Or.inl rfl⟩
theorem lf_X1_173 : zFl "CsrCalculator" 173 1 2 := ⟨_, "CsrCalculator", by decide, rfl, by decide, Or.inl q338, Or.inl rfl⟩
theorem lp_X1_173 {nm : String} : zFp "CsrCalculator" nm 173 1 2 := ⟨_, "CsrCalculator", by decide, rfl, by decide, Or.inl rfl, Or.inl ⟨Or.inl q338, rfl⟩⟩
def M_X1_push : zM := (yX1_push, cX1_push, 3, none, [])
theorem mf_X1_push : zMi M_X1_push 1 := ⟨⟨q594, q180, ⟨by decide +kernel, by decide +kernel⟩, by decide +kernel, by decide⟩, q593⟩
def B_X1_push_3 (k3 : Option Nat → Int32 → Int32 → zH → Option zH) (a0 : Option Nat) (a1 : Int32) (a2 : Int32) (h : zH) : Option zH :=
  if a2 < 0 then
  some h
  else
  (zgR 1 1 a0 h).bind fun x2 =>
  (zgI 1 2 a0 h).bind fun x4 =>
  (zsB x2 x4 (a1 >>> (a2 &&& 31)).toInt8.toInt32 h).bind fun h6 =>
  (zgI 1 2 a0 h6).bind fun x8 =>
  (zpI 1 2 a0 (x8 + (1 : Int32)) h6).bind fun h10 =>
  k3 a0 a1 (a2 + (-8 : Int32)) h10
theorem wB_X1_push_3 {G : zG} {h0 h : zH} {vh : zH} {k3 : Option Nat → Int32 → Int32 → zH → Option zH} (hk3 : ∀ (b0 : Option Nat) (b1 : Int32) (b2 : Int32) (h' : zH), k3 b0 b1 b2 h' = some vh → zW G M_X1_push 2 h0 (.inl none) vh 3 [(0, vR b0), (1, vI b1), (2, vI b2)] [] h') {a0 : Option Nat} {a1 : Int32} {a2 : Int32} (H : B_X1_push_3 k3 a0 a1 a2 h = some vh) : zW G M_X1_push 2 h0 (.inl none) vh 3 [(0, vR a0), (1, vI a1), (2, vI a2)] [] h := by
  unfold B_X1_push_3 at H
  refine zw_iload_n (pc := 3) dX1_push_3 rfl 2 rfl ?_
  rcases zif H with ⟨c1, H⟩ | ⟨c1, H⟩
  · refine zw_if_lt (pc := 4) (tgt := 36) dX1_push_4 rfl (fun _ => ?_) (fun q => absurd c1 q)
    obtain rfl := Option.some.inj H
    exact zw_vret (pc := 36) dX1_push_36 rfl rfl rfl
  · refine zw_if_lt (pc := 4) (tgt := 36) dX1_push_4 rfl (fun q => absurd q c1) (fun _ => ?_)
    refine zw_aload_n (pc := 7) dX1_push_7 rfl 0 rfl ?_
    obtain ⟨x2, e3, H⟩ := zbind H
    refine zy_getR (pc := 8) dX1_push_8 lf_X1_110 (fun _ _ => rfl) e3 ?_
    refine zw_aload_n (pc := 11) dX1_push_11 rfl 0 rfl ?_
    obtain ⟨x4, e5, H⟩ := zbind H
    refine zy_getI (pc := 12) dX1_push_12 lf_X1_173 (fun _ _ => rfl) e5 ?_
    refine zw_iload_n (pc := 15) dX1_push_15 rfl 1 rfl ?_
    refine zw_iload_n (pc := 16) dX1_push_16 rfl 2 rfl ?_
    refine zw_ishr (pc := 17) dX1_push_17 ?_
    refine zw_i2b (pc := 18) dX1_push_18 ?_
    obtain ⟨h6, e7, H⟩ := zbind H
    refine zy_bast (pc := 19) dX1_push_19 e7 ?_
    refine zw_aload_n (pc := 20) dX1_push_20 rfl 0 rfl ?_
    refine zw_dup (pc := 21) dX1_push_21 rfl ?_
    obtain ⟨x8, e9, H⟩ := zbind H
    refine zy_getI (pc := 22) dX1_push_22 lf_X1_173 (fun _ _ => rfl) e9 ?_
    refine zw_iconst (pc := 25) (v := (1 : Int32)) dX1_push_25 (by decide) ?_
    refine zw_iadd (pc := 26) dX1_push_26 ?_
    obtain ⟨h10, e11, H⟩ := zbind H
    refine zy_putI (pc := 27) dX1_push_27 lp_X1_173 rfl e11 ?_
    refine zw_iinc (pc := 30) (v := (a2 + (-8 : Int32))) (lv' := [(2, vI (a2 + (-8 : Int32))), (0, vR a0), (1, vI a1)]) dX1_push_30 2 rfl rfl (by decide) rfl ?_
    refine zw_goto (pc := 33) (tgt := 3) dX1_push_33 rfl ?_
    refine zW_pick (lv' := [(0, vR a0), (1, vI a1), (2, vI (a2 + (-8 : Int32)))]) [1, 2, 0] rfl ?_
    exact hk3 _ _ _ _ H
def f_X1_push (p0 : Option Nat) (p1 : Int32) (h : zH) : Option zH :=
  zloop (B_X1_push_3) (fun _ _ _ _ => none) zFU p0 p1 (24 : Int32) h
theorem w_X1_push {G : zG} {p0 : Option Nat} {p1 : Int32} {h : zH} {vh : zH} (H : f_X1_push p0 p1 h = some vh) : zMet G M_X1_push 2 [vR p0, vI p1] h (.inl none) vh := by
  refine zMet.of (by decide +kernel) (Nat.le_of_ble_eq_true rfl) ?_
  show zW G M_X1_push 2 h (.inl none) vh 0 [(0, vR p0), (1, vI p1)] [] h
  unfold f_X1_push at H
  refine zw_bipush (pc := 0) (v := (24 : Int32)) dX1_push_0 (by decide) ?_
  refine zw_istore_n (pc := 2) (lv' := [(2, vI (24 : Int32)), (0, vR p0), (1, vI p1)]) dX1_push_2 rfl (by decide) rfl ?_
  refine zW_pick (lv' := [(0, vR p0), (1, vI p1), (2, vI (24 : Int32))]) [1, 2, 0] rfl ?_
  exact zloop_ind (body := (B_X1_push_3)) (bot := (fun _ _ _ _ => none)) (P := (fun (f : Option Nat → Int32 → Int32 → zH → Option zH) => ∀ (b0 : Option Nat) (b1 : Int32) (b2 : Int32) (h' : zH), f b0 b1 b2 h' = some vh → zW G M_X1_push 2 h (.inl none) vh 3 [(0, vR b0), (1, vI b1), (2, vI b2)] [] h')) zFU (fun _ _ _ _ H => nomatch H) (fun f hf c0 c1 c2 h' H => wB_X1_push_3 hf H) _ _ _ _ H
theorem ls_X1_push : Cond.selects yX1_push.cls yX1_push yX1_push ∈ lw_all := lw_g (lw_ms _ (List.mem_of_getElem? (i := 8) rfl)) rfl
def M_X1_feed : zM := (yX1_feed, cX1_feed, 6, (.some .int), [])
theorem mf_X1_feed : zMi M_X1_feed 5 := ⟨⟨q564, q180, ⟨by decide +kernel, by decide +kernel⟩, by decide +kernel, by decide⟩, q562⟩
def B_X1_feed_18 (a0 : Option Nat) (a1 : Int32) (a2 : Int32) (a3 : Int32) (a4 : Int32) (a5 : Int32) (a6 : Int32) (h : zH) : Option ((Int32 ⊕ Nat) × zH) :=
  zb3 (f_X1_may a6 h) (fun _ h3 =>
  (zrv 1 a0 h3).bind fun b6 =>
  (f_X1_push (some b6) a1 h3).bind fun h11 =>
  (zrv 1 a0 h11).bind fun b12 =>
  (f_X1_push (some b12) a2 h11).bind fun h17 =>
  (zrv 1 a0 h17).bind fun b18 =>
  (f_X1_push (some b18) a3 h17).bind fun h23 =>
  (zrv 1 a0 h23).bind fun b24 =>
  (f_X1_push (some b24) a4 h23).bind fun h29 =>
  (zrv 1 a0 h29).bind fun b30 =>
  (f_X1_push (some b30) a5 h29).bind fun h35 =>
  (zgI 1 2 a0 h35).bind fun x36 =>
  some (.inl x36, h35))
  (fun q4 h5 =>
  if zk h5 q4 = 22 then
  some (.inr q4, h5)
  else none)
theorem wB_X1_feed_18 {G : zG} {h0 h : zH} {vo : Int32 ⊕ Nat} {vh : zH} {a0 : Option Nat} {a1 : Int32} {a2 : Int32} {a3 : Int32} {a4 : Int32} {a5 : Int32} {a6 : Int32} (H : B_X1_feed_18 a0 a1 a2 a3 a4 a5 a6 h = some (vo, vh)) : zW G M_X1_feed 7 h0 (zoI vo) vh 18 [(0, vR a0), (1, vI a1), (2, vI a2), (3, vI a3), (4, vI a4), (5, vI a5)] [vI a6] h := by
  unfold B_X1_feed_18 at H
  rcases zbind3 H with ⟨x2, h3, e1, H⟩ | ⟨q4, h5, e1, H⟩
  · refine zw_invS (pc := 18) (M' := M_X1_may) (A := [vI a6]) [] dX1_feed_18 (Or.inl q565) mf_X1_may (w_X1_may e1) (Nat.le_of_ble_eq_true rfl) rfl rfl (Nat.le_of_ble_eq_true rfl) (zku ?_) zkn9
    refine zw_aload_n (pc := 21) dX1_feed_21 rfl 0 rfl ?_
    refine zw_iload_n (pc := 22) dX1_feed_22 rfl 1 rfl ?_
    obtain ⟨b6, e8, H⟩ := zbind H
    obtain ⟨e7, e9⟩ := zrv_ok e8
    obtain ⟨h11, e10, H⟩ := zbind H
    refine zw_invV (pc := 23) (M' := M_X1_push) (A := [vI a1]) [] dX1_feed_23 (Or.inl q591) mf_X1_push ls_X1_push (zkq e9 rfl) (w_X1_push e10) (Nat.le_of_ble_eq_true rfl) rfl (by rw [← e7]; rfl) (Nat.le_of_ble_eq_true rfl) (zku ?_) zkn9
    refine zw_aload_n (pc := 26) dX1_feed_26 rfl 0 rfl ?_
    refine zw_iload_n (pc := 27) dX1_feed_27 rfl 2 rfl ?_
    obtain ⟨b12, e14, H⟩ := zbind H
    obtain ⟨e13, e15⟩ := zrv_ok e14
    obtain ⟨h17, e16, H⟩ := zbind H
    refine zw_invV (pc := 28) (M' := M_X1_push) (A := [vI a2]) [] dX1_feed_28 (Or.inl q591) mf_X1_push ls_X1_push (zkq e15 rfl) (w_X1_push e16) (Nat.le_of_ble_eq_true rfl) rfl (by rw [← e13]; rfl) (Nat.le_of_ble_eq_true rfl) (zku ?_) zkn9
    refine zw_aload_n (pc := 31) dX1_feed_31 rfl 0 rfl ?_
    refine zw_iload_n (pc := 32) dX1_feed_32 rfl 3 rfl ?_
    obtain ⟨b18, e20, H⟩ := zbind H
    obtain ⟨e19, e21⟩ := zrv_ok e20
    obtain ⟨h23, e22, H⟩ := zbind H
    refine zw_invV (pc := 33) (M' := M_X1_push) (A := [vI a3]) [] dX1_feed_33 (Or.inl q591) mf_X1_push ls_X1_push (zkq e21 rfl) (w_X1_push e22) (Nat.le_of_ble_eq_true rfl) rfl (by rw [← e19]; rfl) (Nat.le_of_ble_eq_true rfl) (zku ?_) zkn9
    refine zw_aload_n (pc := 36) dX1_feed_36 rfl 0 rfl ?_
    refine zw_iload (pc := 37) dX1_feed_37 4 rfl ?_
    obtain ⟨b24, e26, H⟩ := zbind H
    obtain ⟨e25, e27⟩ := zrv_ok e26
    obtain ⟨h29, e28, H⟩ := zbind H
    refine zw_invV (pc := 39) (M' := M_X1_push) (A := [vI a4]) [] dX1_feed_39 (Or.inl q591) mf_X1_push ls_X1_push (zkq e27 rfl) (w_X1_push e28) (Nat.le_of_ble_eq_true rfl) rfl (by rw [← e25]; rfl) (Nat.le_of_ble_eq_true rfl) (zku ?_) zkn9
    refine zw_aload_n (pc := 42) dX1_feed_42 rfl 0 rfl ?_
    refine zw_iload (pc := 43) dX1_feed_43 5 rfl ?_
    obtain ⟨b30, e32, H⟩ := zbind H
    obtain ⟨e31, e33⟩ := zrv_ok e32
    obtain ⟨h35, e34, H⟩ := zbind H
    refine zw_invV (pc := 45) (M' := M_X1_push) (A := [vI a5]) [] dX1_feed_45 (Or.inl q591) mf_X1_push ls_X1_push (zkq e33 rfl) (w_X1_push e34) (Nat.le_of_ble_eq_true rfl) rfl (by rw [← e31]; rfl) (Nat.le_of_ble_eq_true rfl) (zku ?_) zkn9
    refine zw_aload_n (pc := 48) dX1_feed_48 rfl 0 rfl ?_
    obtain ⟨x36, e37, H⟩ := zbind H
    refine zy_getI (pc := 49) dX1_feed_49 lf_X1_173 (fun _ _ => rfl) e37 ?_
    obtain ⟨rfl, rfl⟩ := Prod.mk.inj (Option.some.inj H)
    exact zw_iret (pc := 52) dX1_feed_52 rfl rfl rfl
  · refine zw_invS (pc := 18) (M' := M_X1_may) (A := [vI a6]) [] dX1_feed_18 (Or.inl q565) mf_X1_may (w_X1_may e1) (Nat.le_of_ble_eq_true rfl) rfl rfl (Nat.le_of_ble_eq_true rfl) zkv0 (zkx ?_)
    rcases zif H with ⟨c38, H⟩ | ⟨c38, H⟩
    · have c38 := c38
      obtain ⟨rfl, rfl⟩ := Prod.mk.inj (Option.some.inj H)
      exact zx_out (zkq c38 rfl) (fun _ hz => nomatch hz) rfl rfl
    cases H
def f_X1_feed (p0 : Option Nat) (p1 : Int32) (p2 : Int32) (p3 : Int32) (p4 : Int32) (p5 : Int32) (h : zH) : Option ((Int32 ⊕ Nat) × zH) :=
  (zgI 1 2 p0 h).bind fun x1 =>
  if (600 : Int32) < (x1 + (20 : Int32)) then
  B_X1_feed_18 p0 p1 p2 p3 p4 p5 (0 : Int32) h
  else
  B_X1_feed_18 p0 p1 p2 p3 p4 p5 (1 : Int32) h
theorem w_X1_feed {G : zG} {p0 : Option Nat} {p1 : Int32} {p2 : Int32} {p3 : Int32} {p4 : Int32} {p5 : Int32} {h : zH} {vo : Int32 ⊕ Nat} {vh : zH} (H : f_X1_feed p0 p1 p2 p3 p4 p5 h = some (vo, vh)) : zMet G M_X1_feed 7 [vR p0, vI p1, vI p2, vI p3, vI p4, vI p5] h (zoI vo) vh := by
  refine zMet.of (by decide +kernel) (Nat.le_of_ble_eq_true rfl) ?_
  show zW G M_X1_feed 7 h (zoI vo) vh 0 [(0, vR p0), (1, vI p1), (2, vI p2), (3, vI p3), (4, vI p4), (5, vI p5)] [] h
  unfold f_X1_feed at H
  refine zw_aload_n (pc := 0) dX1_feed_0 rfl 0 rfl ?_
  obtain ⟨x1, e2, H⟩ := zbind H
  refine zy_getI (pc := 1) dX1_feed_1 lf_X1_173 (fun _ _ => rfl) e2 ?_
  refine zw_bipush (pc := 4) (v := (20 : Int32)) dX1_feed_4 (by decide) ?_
  refine zw_iadd (pc := 6) dX1_feed_6 ?_
  refine zw_sipush (pc := 7) (v := (600 : Int32)) dX1_feed_7 (by decide) ?_
  rcases zif H with ⟨c3, H⟩ | ⟨c3, H⟩
  · refine zw_icmp_gt (pc := 10) (tgt := 17) dX1_feed_10 rfl (fun _ => ?_) (fun q => absurd c3 q)
    refine zw_iconst (pc := 17) (v := (0 : Int32)) dX1_feed_17 (by decide) ?_
    refine zW_pick (lv' := [(0, vR p0), (1, vI p1), (2, vI p2), (3, vI p3), (4, vI p4), (5, vI p5)]) [0, 1, 2, 3, 4, 5] rfl ?_
    exact wB_X1_feed_18 H
  · refine zw_icmp_gt (pc := 10) (tgt := 17) dX1_feed_10 rfl (fun q => absurd q c3) (fun _ => ?_)
    refine zw_iconst (pc := 13) (v := (1 : Int32)) dX1_feed_13 (by decide) ?_
    refine zw_goto (pc := 14) (tgt := 18) dX1_feed_14 rfl ?_
    refine zW_pick (lv' := [(0, vR p0), (1, vI p1), (2, vI p2), (3, vI p3), (4, vI p4), (5, vI p5)]) [0, 1, 2, 3, 4, 5] rfl ?_
    exact wB_X1_feed_18 H
def M_J10_init : zM := (yJ10_init, cJ10_init, 1, none, [])
theorem mf_J10_init : zMi M_J10_init 0 := ⟨⟨q618, q194, ⟨by decide +kernel, by decide +kernel⟩, by decide +kernel, by decide⟩, q617⟩
def f_J10_init (p0 : Option Nat) (h : zH) : Option Unit :=
  p0.bind fun b1 =>
  (f_J8_init (some b1) h).bind fun _ =>
  some ()
theorem w_J10_init {G : zG} {p0 : Option Nat} {h : zH} {vx : Unit} (H : f_J10_init p0 h = some vx) : zMet G M_J10_init 4 [vR p0] h (.inl none) h := by
  refine zMet.of (by decide +kernel) (Nat.le_of_ble_eq_true rfl) ?_
  show zW G M_J10_init 4 h (.inl none) h 0 [(0, vR p0)] [] h
  unfold f_J10_init at H
  refine zw_aload_n (pc := 0) dJ10_init_0 rfl 0 rfl ?_
  obtain ⟨b1, e2, H⟩ := zbind H
  obtain ⟨x4, e3, H⟩ := zbind H
  refine zw_invI (pc := 1) (M' := M_J8_init) (A := []) [] dJ10_init_1 (Or.inl q619) mf_J8_init rfl rfl (w_J8_init e3) (Nat.le_of_ble_eq_true rfl) rfl (by rw [← e2]; rfl) (Nat.le_of_ble_eq_true rfl) (zku ?_) zkn9
  obtain rfl := Option.some.inj H
  exact zw_vret (pc := 4) dJ10_init_4 rfl rfl rfl
def M_X1_argument : zM := (yX1_argument, cX1_argument, 1, none, [])
theorem mf_X1_argument : zMs M_X1_argument 1 := ⟨⟨q606, q180, ⟨by decide +kernel, by decide +kernel⟩, by decide +kernel, by decide⟩, q605⟩
def f_X1_argument (p0 : Int32) (h : zH) : Option ((Unit ⊕ Nat) × zH) :=
  if p0 = 0 then
  zb2 (zmk 21 h) fun q2 h3 =>
  (some q2).bind fun q5 =>
  if zk h3 q5 = 21 then
  some (.inr q5, h3)
  else none
  else
  some (.inl (), h)
theorem w_X1_argument {G : zG} {p0 : Int32} {h : zH} {vo : Unit ⊕ Nat} {vh : zH} (H : f_X1_argument p0 h = some (vo, vh)) : zMet G M_X1_argument 6 [vI p0] h (zoU vo) vh := by
  refine zMet.of (by decide +kernel) (Nat.le_of_ble_eq_true rfl) ?_
  show zW G M_X1_argument 6 h (zoU vo) vh 0 [(0, vI p0)] [] h
  unfold f_X1_argument at H
  refine zw_iload_n (pc := 0) dX1_argument_0 rfl 0 rfl ?_
  rcases zif H with ⟨c1, H⟩ | ⟨c1, H⟩
  · refine zw_if_ne (pc := 1) (tgt := 12) dX1_argument_1 rfl (fun q => absurd c1 q) (fun _ => ?_)
    obtain ⟨q2, h3, e4, H⟩ := zbind2 H
    refine zy_make0 (pc := 4) rfl (Or.inr (Or.inl ⟨rfl, rfl, rfl⟩)) dX1_argument_4 dX1_argument_7 dX1_argument_8 (Nat.le_of_ble_eq_true rfl) (Nat.le_of_ble_eq_true rfl) e4 ?_
    obtain ⟨q5, e6, H⟩ := zbind H
    refine zy_athrow (pc := 11) dX1_argument_11 e6 ?_
    rcases zif H with ⟨c7, H⟩ | ⟨c7, H⟩
    · have c7 := c7
      obtain ⟨rfl, rfl⟩ := Prod.mk.inj (Option.some.inj H)
      exact zx_out (zkq c7 rfl) (fun _ hz => nomatch hz) rfl rfl
    cases H
  · refine zw_if_ne (pc := 1) (tgt := 12) dX1_argument_1 rfl (fun _ => ?_) (fun q => absurd q c1)
    obtain ⟨rfl, rfl⟩ := Prod.mk.inj (Option.some.inj H)
    exact zw_vret (pc := 12) dX1_argument_12 rfl rfl rfl
def M_X1_truncate : zM := (yX1_truncate, cX1_truncate, 2, (.some .int), [])
theorem mf_X1_truncate : zMi M_X1_truncate 1 := ⟨⟨q602, q180, ⟨by decide +kernel, by decide +kernel⟩, by decide +kernel, by decide⟩, q600⟩
def f_X1_truncate (p0 : Option Nat) (p1 : Int32) (h : zH) : Option ((Int32 ⊕ Nat) × zH) :=
  (zgI 1 2 p0 h).bind fun x1 =>
  (f_X1_isIn p1.toInt64 (0 : Int64) x1.toInt64 h).bind fun x4 =>
  zb3 (f_X1_argument x4 h) (fun _ h7 =>
  (zpI 1 2 p0 p1 h7).bind fun h10 =>
  some (.inl p1, h10))
  (fun q8 h9 =>
  if zk h9 q8 = 21 then
  some (.inr q8, h9)
  else none)
theorem w_X1_truncate {G : zG} {p0 : Option Nat} {p1 : Int32} {h : zH} {vo : Int32 ⊕ Nat} {vh : zH} (H : f_X1_truncate p0 p1 h = some (vo, vh)) : zMet G M_X1_truncate 7 [vR p0, vI p1] h (zoI vo) vh := by
  refine zMet.of (by decide +kernel) (Nat.le_of_ble_eq_true rfl) ?_
  show zW G M_X1_truncate 7 h (zoI vo) vh 0 [(0, vR p0), (1, vI p1)] [] h
  unfold f_X1_truncate at H
  refine zw_iload_n (pc := 0) dX1_truncate_0 rfl 1 rfl ?_
  refine zw_i2l (pc := 1) dX1_truncate_1 ?_
  refine zw_lconst (pc := 2) (v := (0 : Int64)) dX1_truncate_2 (by decide) ?_
  refine zw_aload_n (pc := 3) dX1_truncate_3 rfl 0 rfl ?_
  obtain ⟨x1, e2, H⟩ := zbind H
  refine zy_getI (pc := 4) dX1_truncate_4 lf_X1_173 (fun _ _ => rfl) e2 ?_
  refine zw_i2l (pc := 7) dX1_truncate_7 ?_
  obtain ⟨x4, e3, H⟩ := zbind H
  refine zw_invS (pc := 8) (M' := M_X1_isIn) (A := [vJ p1.toInt64, vJ (0 : Int64), vJ x1.toInt64]) [] dX1_truncate_8 (Or.inl q603) mf_X1_isIn (w_X1_isIn e3) (Nat.le_of_ble_eq_true rfl) rfl rfl (Nat.le_of_ble_eq_true rfl) (zkv ?_) zkn9
  rcases zbind3 H with ⟨x6, h7, e5, H⟩ | ⟨q8, h9, e5, H⟩
  · refine zw_invS (pc := 11) (M' := M_X1_argument) (A := [vI x4]) [] dX1_truncate_11 (Or.inl q604) mf_X1_argument (w_X1_argument e5) (Nat.le_of_ble_eq_true rfl) rfl rfl (Nat.le_of_ble_eq_true rfl) (zku ?_) zkn9
    refine zw_aload_n (pc := 14) dX1_truncate_14 rfl 0 rfl ?_
    refine zw_iload_n (pc := 15) dX1_truncate_15 rfl 1 rfl ?_
    obtain ⟨h10, e11, H⟩ := zbind H
    refine zy_putI (pc := 16) dX1_truncate_16 lp_X1_173 rfl e11 ?_
    refine zw_iload_n (pc := 19) dX1_truncate_19 rfl 1 rfl ?_
    obtain ⟨rfl, rfl⟩ := Prod.mk.inj (Option.some.inj H)
    exact zw_iret (pc := 20) dX1_truncate_20 rfl rfl rfl
  · refine zw_invS (pc := 11) (M' := M_X1_argument) (A := [vI x4]) [] dX1_truncate_11 (Or.inl q604) mf_X1_argument (w_X1_argument e5) (Nat.le_of_ble_eq_true rfl) rfl rfl (Nat.le_of_ble_eq_true rfl) zkv0 (zkx ?_)
    rcases zif H with ⟨c12, H⟩ | ⟨c12, H⟩
    · have c12 := c12
      obtain ⟨rfl, rfl⟩ := Prod.mk.inj (Option.some.inj H)
      exact zx_out (zkq c12 rfl) (fun _ hz => nomatch hz) rfl rfl
    cases H
theorem lf_X1_186 : zFl "CsrCalculator" 186 6 6 := ⟨_, "CsrCalculator$Wrong", by decide, rfl, by decide, Or.inr (by decide +kernel), Or.inl rfl⟩
theorem lp_X1_191 {nm : String} : zFp "CsrCalculator" nm 191 1 3 := ⟨_, "CsrCalculator", by decide, rfl, by decide, Or.inl rfl, Or.inl ⟨Or.inl q339, rfl⟩⟩
theorem lf_X1_194 : zFl "CsrCalculator" 194 6 7 := ⟨_, "CsrCalculator$Wrong", by decide, rfl, by decide, Or.inr (by decide +kernel), Or.inl rfl⟩
def M_X1_note : zM := (yX1_note, cX1_note, 2, none, [])
theorem mf_X1_note : zMi M_X1_note 1 := ⟨⟨q1461, q180, ⟨by decide +kernel, by decide +kernel⟩, by decide +kernel, by decide⟩, q1460⟩
def f_X1_note (p0 : Option Nat) (p1 : Option Nat) (h : zH) : Option zH :=
  (zgI 6 6 p1 h).bind fun x1 =>
  (zpI 1 3 p0 x1 h).bind fun h3 =>
  (zgI 6 7 p1 h3).bind fun x5 =>
  (zpI 1 4 p0 x5 h3).bind fun h7 =>
  some h7
theorem w_X1_note {G : zG} {p0 : Option Nat} {p1 : Option Nat} {h : zH} {vh : zH} (H : f_X1_note p0 p1 h = some vh) : zMet G M_X1_note 2 [vR p0, vR p1] h (.inl none) vh := by
  refine zMet.of (by decide +kernel) (Nat.le_of_ble_eq_true rfl) ?_
  show zW G M_X1_note 2 h (.inl none) vh 0 [(0, vR p0), (1, vR p1)] [] h
  unfold f_X1_note at H
  refine zw_aload_n (pc := 0) dX1_note_0 rfl 0 rfl ?_
  refine zw_aload_n (pc := 1) dX1_note_1 rfl 1 rfl ?_
  obtain ⟨x1, e2, H⟩ := zbind H
  refine zy_getI (pc := 2) dX1_note_2 lf_X1_186 (fun _ _ => rfl) e2 ?_
  obtain ⟨h3, e4, H⟩ := zbind H
  refine zy_putI (pc := 5) dX1_note_5 lp_X1_191 rfl e4 ?_
  refine zw_aload_n (pc := 8) dX1_note_8 rfl 0 rfl ?_
  refine zw_aload_n (pc := 9) dX1_note_9 rfl 1 rfl ?_
  obtain ⟨x5, e6, H⟩ := zbind H
  refine zy_getI (pc := 10) dX1_note_10 lf_X1_194 (fun _ _ => rfl) e6 ?_
  obtain ⟨h7, e8, H⟩ := zbind H
  refine zy_putI (pc := 13) dX1_note_13 lp_X1_114 rfl e8 ?_
  obtain rfl := Option.some.inj H
  exact zw_vret (pc := 16) dX1_note_16 rfl rfl rfl
theorem ln_X1_197 : zCl "CsrCalculator" 197 5 := ⟨_, by decide, by decide, rfl, q630, q631, q195⟩
theorem lf_X1_127 : zFl "CsrCalculator" 127 1 7 := ⟨_, "CsrCalculator", by decide, rfl, by decide, Or.inl q344, Or.inl rfl⟩
theorem ls_X1_note : Cond.selects yX1_note.cls yX1_note yX1_note ∈ lw_all := lw_g (lw_ms _ (List.mem_of_getElem? (i := 40) rfl)) rfl
def M_X1_readText : zM := (yX1_readText, cX1_readText, 3, (.some .int), [(10, 40, 47, 187), (10, 40, 61, 0), (47, 62, 61, 0)])
theorem mf_X1_readText : zMi M_X1_readText 0 := ⟨⟨q628, q180, ⟨by decide +kernel, by decide +kernel⟩, by decide +kernel, by decide⟩, q626⟩
def B_X1_readText_47 (a0 : Option Nat) (a1 : Option Nat) (h : zH) : Option ((Int32 ⊕ Nat) × zH) :=
  (zrv 1 a0 h).bind fun b1 =>
  (f_X1_note (some b1) a1 h).bind fun h6 =>
  zb2 (zmk 21 h6) fun q7 h8 =>
  (some q7).bind fun q10 =>
  if zk h8 q10 = 21 then
  (zpI 1 2 a0 (0 : Int32) h8).bind fun h13 =>
  (some q10).bind fun q15 =>
  if zk h13 q15 = 21 then
  some (.inr q15, h13)
  else none
  else none
theorem wB_X1_readText_47 {G : zG} {h0 h : zH} {vo : Int32 ⊕ Nat} {vh : zH} {a0 : Option Nat} {a1 : Option Nat} (H : B_X1_readText_47 a0 a1 h = some (vo, vh)) : zW G M_X1_readText 212 h0 (zoI vo) vh 47 [(0, vR a0)] [vR a1] h := by
  unfold B_X1_readText_47 at H
  refine zw_astore_n (pc := 47) (lv' := [(1, vR a1), (0, vR a0)]) dX1_readText_47 rfl (by decide) rfl ?_
  refine zw_aload_n (pc := 48) dX1_readText_48 rfl 1 rfl ?_
  refine zw_aload_n (pc := 49) dX1_readText_49 rfl 0 rfl ?_
  obtain ⟨b1, e3, H⟩ := zbind H
  obtain ⟨e2, e4⟩ := zrv_ok e3
  obtain ⟨h6, e5, H⟩ := zbind H
  refine zw_invV (pc := 50) (M' := M_X1_note) (A := [vR a1]) [] dX1_readText_50 (Or.inl q1458) mf_X1_note ls_X1_note (zkq e4 rfl) (w_X1_note e5) (Nat.le_of_ble_eq_true rfl) rfl (by rw [← e2]; rfl) (Nat.le_of_ble_eq_true rfl) (zku ?_) zkn9
  obtain ⟨q7, h8, e9, H⟩ := zbind2 H
  refine zy_make0 (pc := 53) rfl (Or.inr (Or.inl ⟨rfl, rfl, rfl⟩)) dX1_readText_53 dX1_readText_56 dX1_readText_57 (Nat.le_of_ble_eq_true rfl) (Nat.le_of_ble_eq_true rfl) e9 ?_
  obtain ⟨q10, e11, H⟩ := zbind H
  refine zy_athrow (pc := 60) dX1_readText_60 e11 ?_
  rcases zif H with ⟨c12, H⟩ | ⟨c12, H⟩
  · have c12 := c12
    refine zx_any [⟨10, 40, 47, 187⟩, ⟨10, 40, 61, 0⟩] ⟨47, 62, 61, 0⟩ [] (zkq c12 rfl) rfl (List.forall_mem_cons.mpr ⟨Or.inl rfl, (List.forall_mem_cons.mpr ⟨Or.inl rfl, (fun _ hz => nomatch hz)⟩)⟩) rfl rfl ?_
    refine zw_astore_n (pc := 61) (lv' := [(2, vR (some q10)), (1, vR a1), (0, vR a0)]) dX1_readText_61 rfl (by decide) rfl ?_
    refine zw_aload_n (pc := 62) dX1_readText_62 rfl 2 rfl ?_
    refine zw_iconst (pc := 63) (v := (0 : Int32)) dX1_readText_63 (by decide) ?_
    obtain ⟨h13, e14, H⟩ := zbind H
    refine zy_putI (pc := 64) dX1_readText_64 lp_X1_173 rfl e14 ?_
    refine zw_aload_n (pc := 67) dX1_readText_67 rfl 0 rfl ?_
    obtain ⟨q15, e16, H⟩ := zbind H
    refine zy_athrow (pc := 68) dX1_readText_68 e16 ?_
    rcases zif H with ⟨c17, H⟩ | ⟨c17, H⟩
    · have c17 := c17
      obtain ⟨rfl, rfl⟩ := Prod.mk.inj (Option.some.inj H)
      exact zx_out (zkq c17 rfl) (List.forall_mem_cons.mpr ⟨Or.inl rfl, (List.forall_mem_cons.mpr ⟨Or.inl rfl, (List.forall_mem_cons.mpr ⟨Or.inl rfl, (fun _ hz => nomatch hz)⟩)⟩)⟩) rfl rfl
    cases H
  cases H
def f_X1_readText (p0 : Option Nat) (h : zH) : Option ((Int32 ⊕ Nat) × zH) :=
  (zpI 1 3 p0 (0 : Int32) h).bind fun h1 =>
  (zpI 1 4 p0 (-1 : Int32) h1).bind fun h3 =>
  zb2 (znw 5 h3) fun q5 h6 =>
  (some q5).bind fun b8 =>
  (f_X5_init (some b8) p0 h6).bind fun h11 =>
  (zrv 5 (some q5) h11).bind fun b12 =>
  zb3 (f_X5_description (some b12) h11) (fun x17 h18 =>
  (zpR 1 5 p0 x17 h18).bind fun h21 =>
  (zgR 1 7 p0 h21).bind fun x23 =>
  (zrv 17 x23 h21).bind fun b25 =>
  (f_J1_clear (some b25) h21).bind fun h30 =>
  (zgR 1 5 p0 h30).bind fun x31 =>
  (zrv 2 x31 h30).bind fun b33 =>
  (f_X2_stored (some b33) h30).bind fun x38 =>
  (zpI 1 2 p0 (0 : Int32) h30).bind fun h39 =>
  some (.inl x38, h39))
  (fun q19 h20 =>
  if zk h20 q19 = 6 then
  B_X1_readText_47 p0 (some q19) h20
  else none)
theorem w_X1_readText {G : zG} {p0 : Option Nat} {h : zH} {vo : Int32 ⊕ Nat} {vh : zH} (H : f_X1_readText p0 h = some (vo, vh)) : zMet G M_X1_readText 212 [vR p0] h (zoI vo) vh := by
  refine zMet.of (by decide +kernel) (Nat.le_of_ble_eq_true rfl) ?_
  show zW G M_X1_readText 212 h (zoI vo) vh 0 [(0, vR p0)] [] h
  unfold f_X1_readText at H
  refine zw_aload_n (pc := 0) dX1_readText_0 rfl 0 rfl ?_
  refine zw_iconst (pc := 1) (v := (0 : Int32)) dX1_readText_1 (by decide) ?_
  obtain ⟨h1, e2, H⟩ := zbind H
  refine zy_putI (pc := 2) dX1_readText_2 lp_X1_191 rfl e2 ?_
  refine zw_aload_n (pc := 5) dX1_readText_5 rfl 0 rfl ?_
  refine zw_iconst (pc := 6) (v := (-1 : Int32)) dX1_readText_6 (by decide) ?_
  obtain ⟨h3, e4, H⟩ := zbind H
  refine zy_putI (pc := 7) dX1_readText_7 lp_X1_114 rfl e4 ?_
  refine zw_aload_n (pc := 10) dX1_readText_10 rfl 0 rfl ?_
  obtain ⟨q5, h6, e7, H⟩ := zbind2 H
  refine zy_new (pc := 11) dX1_readText_11 ln_X1_197 e7 ?_
  refine zw_dup (pc := 14) dX1_readText_14 rfl ?_
  refine zw_aload_n (pc := 15) dX1_readText_15 rfl 0 rfl ?_
  obtain ⟨b8, e9, H⟩ := zbind H
  obtain ⟨h11, e10, H⟩ := zbind H
  refine zw_invI (pc := 16) (M' := M_X5_init) (A := [vR p0]) [vR (some q5), vR p0] dX1_readText_16 (Or.inr (by decide +kernel)) mf_X5_init rfl rfl (w_X5_init e10) (Nat.le_of_ble_eq_true rfl) rfl (by rw [← e9]; rfl) (Nat.le_of_ble_eq_true rfl) (zku ?_) zkn9
  obtain ⟨b12, e14, H⟩ := zbind H
  obtain ⟨e13, e15⟩ := zrv_ok e14
  rcases zbind3 H with ⟨x17, h18, e16, H⟩ | ⟨q19, h20, e16, H⟩
  · refine zw_invV (pc := 19) (M' := M_X5_description) (A := []) [vR p0] dX1_readText_19 (Or.inl q674) mf_X5_description q676 (zkq e15 rfl) (w_X5_description e16) (Nat.le_of_ble_eq_true rfl) rfl (by rw [← e13]; rfl) (Nat.le_of_ble_eq_true rfl) (zkv ?_) zkn9
    obtain ⟨h21, e22, H⟩ := zbind H
    refine zy_putR (pc := 22) dX1_readText_22 lp_X1_120 rfl e22 ?_
    refine zw_aload_n (pc := 25) dX1_readText_25 rfl 0 rfl ?_
    obtain ⟨x23, e24, H⟩ := zbind H
    refine zy_getR (pc := 26) dX1_readText_26 lf_X1_127 (fun _ _ => rfl) e24 ?_
    obtain ⟨b25, e27, H⟩ := zbind H
    obtain ⟨e26, e28⟩ := zrv_ok e27
    obtain ⟨h30, e29, H⟩ := zbind H
    refine zw_invV (pc := 29) (M' := M_J1_clear) (A := []) [] dX1_readText_29 (Or.inl q1451) mf_J1_clear q1453 (zkq e28 rfl) (w_J1_clear e29) (Nat.le_of_ble_eq_true rfl) rfl (by rw [← e26]; rfl) (Nat.le_of_ble_eq_true rfl) (zku ?_) zkn9
    refine zw_aload_n (pc := 32) dX1_readText_32 rfl 0 rfl ?_
    obtain ⟨x31, e32, H⟩ := zbind H
    refine zy_getR (pc := 33) dX1_readText_33 lf_X1_120 (fun _ _ => rfl) e32 ?_
    obtain ⟨b33, e35, H⟩ := zbind H
    obtain ⟨e34, e36⟩ := zrv_ok e35
    obtain ⟨x38, e37, H⟩ := zbind H
    refine zw_invV (pc := 36) (M' := M_X2_stored) (A := []) [] dX1_readText_36 (Or.inl q552) mf_X2_stored q554 (zkq e36 rfl) (w_X2_stored e37) (Nat.le_of_ble_eq_true rfl) rfl (by rw [← e34]; rfl) (Nat.le_of_ble_eq_true rfl) (zkv ?_) zkn9
    refine zw_istore_n (pc := 39) (lv' := [(1, vI x38), (0, vR p0)]) dX1_readText_39 rfl (by decide) rfl ?_
    refine zw_aload_n (pc := 40) dX1_readText_40 rfl 1 rfl ?_
    refine zw_iconst (pc := 41) (v := (0 : Int32)) dX1_readText_41 (by decide) ?_
    obtain ⟨h39, e40, H⟩ := zbind H
    refine zy_putI (pc := 42) dX1_readText_42 lp_X1_173 rfl e40 ?_
    refine zw_iload_n (pc := 45) dX1_readText_45 rfl 0 rfl ?_
    obtain ⟨rfl, rfl⟩ := Prod.mk.inj (Option.some.inj H)
    exact zw_iret (pc := 46) dX1_readText_46 rfl rfl rfl
  · refine zw_invV (pc := 19) (M' := M_X5_description) (A := []) [vR p0] dX1_readText_19 (Or.inl q674) mf_X5_description q676 (zkq e15 rfl) (w_X5_description e16) (Nat.le_of_ble_eq_true rfl) rfl (by rw [← e13]; rfl) (Nat.le_of_ble_eq_true rfl) zkv0 (zkx ?_)
    rcases zif H with ⟨c41, H⟩ | ⟨c41, H⟩
    · have c41 := c41
      refine zx_catch [] ⟨10, 40, 47, 187⟩ [⟨10, 40, 61, 0⟩, ⟨47, 62, 61, 0⟩] (zkq c41 rfl) rfl (fun _ hz => nomatch hz) rfl (by decide) q629 (by decide +kernel) ?_
      refine zW_pick (lv' := [(0, vR p0)]) [0] rfl ?_
      exact wB_X1_readText_47 H
    cases H
theorem lc_X1_117 : zCt "CsrCalculator" 117 [2] := ⟨_, q230, by
  intro k hk
  simp only [List.mem_cons, List.not_mem_nil, or_false] at hk
  rcases hk with rfl <;> first | exact Or.inl ⟨by decide, by decide +kernel⟩ | exact Or.inr ⟨_, rfl, Or.inl rfl⟩ | exact Or.inr ⟨_, rfl, Or.inr (by decide +kernel)⟩⟩
def M_X1_kept : zM := (yX1_kept, cX1_kept, 4, (.some .int), [])
theorem mf_X1_kept : zMi M_X1_kept 2 := ⟨⟨q1672, q180, ⟨by decide +kernel, by decide +kernel⟩, by decide +kernel, by decide⟩, q1671⟩
def f_X1_kept (p0 : Option Nat) (p1 : Option Nat) (p2 : Int32) (h : zH) : Option (Int32 × zH) :=
  (zgR 1 7 p0 h).bind fun x1 =>
  (zrv 17 x1 h).bind fun b3 =>
  (f_J1_addLast (some b3) p1 h).bind fun h8 =>
  (zgR 1 7 p0 h8).bind fun x9 =>
  (zrv 17 x9 h8).bind fun b11 =>
  (f_J1_size (some b11) h8).bind fun x16 =>
  if x16 ≤ (6 : Int32) then
  some (p2, h8)
  else
  (zgR 1 7 p0 h8).bind fun x18 =>
  (zrv 17 x18 h8).bind fun b20 =>
  zb2 (f_J1_removeFirst (some b20) h8) fun x26 h25 =>
  if zct [2] x26 h25 = true then
  some (p2, h25)
  else none
theorem w_X1_kept {G : zG} {p0 : Option Nat} {p1 : Option Nat} {p2 : Int32} {h : zH} {vx : Int32} {vh : zH} (H : f_X1_kept p0 p1 p2 h = some (vx, vh)) : zMet G M_X1_kept 8 [vR p0, vR p1, vI p2] h (.inl (some (vI vx))) vh := by
  refine zMet.of (by decide +kernel) (Nat.le_of_ble_eq_true rfl) ?_
  show zW G M_X1_kept 8 h (.inl (some (vI vx))) vh 0 [(0, vR p0), (1, vR p1), (2, vI p2)] [] h
  unfold f_X1_kept at H
  refine zw_aload_n (pc := 0) dX1_kept_0 rfl 0 rfl ?_
  obtain ⟨x1, e2, H⟩ := zbind H
  refine zy_getR (pc := 1) dX1_kept_1 lf_X1_127 (fun _ _ => rfl) e2 ?_
  refine zw_aload_n (pc := 4) dX1_kept_4 rfl 1 rfl ?_
  obtain ⟨b3, e5, H⟩ := zbind H
  obtain ⟨e4, e6⟩ := zrv_ok e5
  obtain ⟨h8, e7, H⟩ := zbind H
  refine zw_invV (pc := 5) (M' := M_J1_addLast) (A := [vR p1]) [] dX1_kept_5 (Or.inl q1673) mf_J1_addLast q1675 (zkq e6 rfl) (w_J1_addLast e7) (Nat.le_of_ble_eq_true rfl) rfl (by rw [← e4]; rfl) (Nat.le_of_ble_eq_true rfl) (zku ?_) zkn9
  refine zw_aload_n (pc := 8) dX1_kept_8 rfl 0 rfl ?_
  obtain ⟨x9, e10, H⟩ := zbind H
  refine zy_getR (pc := 9) dX1_kept_9 lf_X1_127 (fun _ _ => rfl) e10 ?_
  obtain ⟨b11, e13, H⟩ := zbind H
  obtain ⟨e12, e14⟩ := zrv_ok e13
  obtain ⟨x16, e15, H⟩ := zbind H
  refine zw_invV (pc := 12) (M' := M_J1_size) (A := []) [] dX1_kept_12 (Or.inl q1698) mf_J1_size q1700 (zkq e14 rfl) (w_J1_size e15) (Nat.le_of_ble_eq_true rfl) rfl (by rw [← e12]; rfl) (Nat.le_of_ble_eq_true rfl) (zkv ?_) zkn9
  refine zw_bipush (pc := 15) (v := (6 : Int32)) dX1_kept_15 (by decide) ?_
  rcases zif H with ⟨c17, H⟩ | ⟨c17, H⟩
  · refine zw_icmp_le (pc := 17) (tgt := 31) dX1_kept_17 rfl (fun _ => ?_) (fun q => absurd c17 q)
    refine zw_iload_n (pc := 31) dX1_kept_31 rfl 2 rfl ?_
    obtain ⟨rfl, rfl⟩ := Prod.mk.inj (Option.some.inj H)
    exact zw_iret (pc := 32) dX1_kept_32 rfl rfl rfl
  · refine zw_icmp_le (pc := 17) (tgt := 31) dX1_kept_17 rfl (fun q => absurd q c17) (fun _ => ?_)
    refine zw_aload_n (pc := 20) dX1_kept_20 rfl 0 rfl ?_
    obtain ⟨x18, e19, H⟩ := zbind H
    refine zy_getR (pc := 21) dX1_kept_21 lf_X1_127 (fun _ _ => rfl) e19 ?_
    obtain ⟨b20, e22, H⟩ := zbind H
    obtain ⟨e21, e23⟩ := zrv_ok e22
    obtain ⟨x26, h25, e24, H⟩ := zbind2 H
    refine zw_invV (pc := 24) (M' := M_J1_removeFirst) (A := []) [] dX1_kept_24 (Or.inl q1705) mf_J1_removeFirst q1707 (zkq e23 rfl) (w_J1_removeFirst e24) (Nat.le_of_ble_eq_true rfl) rfl (by rw [← e21]; rfl) (Nat.le_of_ble_eq_true rfl) (zkv ?_) zkn9
    obtain ⟨c27, H⟩ := zgd H
    refine zy_cast (pc := 27) [2] dX1_kept_27 lc_X1_117 c27 ?_
    refine zw_astore_n (pc := 30) (lv' := [(3, vR x26), (0, vR p0), (1, vR p1), (2, vI p2)]) dX1_kept_30 rfl (by decide) rfl ?_
    refine zw_iload_n (pc := 31) dX1_kept_31 rfl 3 rfl ?_
    obtain ⟨rfl, rfl⟩ := Prod.mk.inj (Option.some.inj H)
    exact zw_iret (pc := 32) dX1_kept_32 rfl rfl rfl
theorem lf_X1_31 : zFl "CsrCalculator" 31 15 0 := ⟨_, "CsrCalculator$Command", by decide, rfl, by decide, Or.inr (by decide +kernel), Or.inl rfl⟩
def M_X1_isRepeat : zM := (yX1_isRepeat, cX1_isRepeat, 1, (.some .boolean), [])
theorem mf_X1_isRepeat : zMs M_X1_isRepeat 1 := ⟨⟨q1535, q180, ⟨by decide +kernel, by decide +kernel⟩, by decide +kernel, by decide⟩, q1534⟩
def f_X1_isRepeat (p0 : Option Nat) (h : zH) : Option Int32 :=
  (zgR 15 0 p0 h).bind fun x1 =>
  (zrv 19 x1 h).bind fun b3 =>
  (f_J4_equals (some b3) (some (zst h 6)) h).bind fun x8 =>
  if x8 = 0 ∨ x8 = 1 then some x8 else none
theorem w_X1_isRepeat {G : zG} {p0 : Option Nat} {h : zH} {vx : Int32} (H : f_X1_isRepeat p0 h = some vx) : zMet G M_X1_isRepeat 4 [vR p0] h (.inl (some (vI vx))) h := by
  refine zMet.of (by decide +kernel) (Nat.le_of_ble_eq_true rfl) ?_
  show zW G M_X1_isRepeat 4 h (.inl (some (vI vx))) h 0 [(0, vR p0)] [] h
  unfold f_X1_isRepeat at H
  refine zw_aload_n (pc := 0) dX1_isRepeat_0 rfl 0 rfl ?_
  obtain ⟨x1, e2, H⟩ := zbind H
  refine zy_getR (pc := 1) dX1_isRepeat_1 lf_X1_31 (fun _ _ => rfl) e2 ?_
  refine zw_ldcS (pc := 4) 6 dX1_isRepeat_4 rfl ?_
  obtain ⟨b3, e5, H⟩ := zbind H
  obtain ⟨e4, e6⟩ := zrv_ok e5
  obtain ⟨x8, e7, H⟩ := zbind H
  refine zw_invV (pc := 6) (M' := M_J4_equals) (A := [vR (some (zst h 6))]) [] dX1_isRepeat_6 (Or.inl q1054) mf_J4_equals q948 (zkq e6 rfl) (w_J4_equals e7) (Nat.le_of_ble_eq_true rfl) rfl (by rw [← e4]; rfl) (Nat.le_of_ble_eq_true rfl) (zkv ?_) zkn9
  obtain ⟨c9, H⟩ := zgd H
  obtain rfl := Option.some.inj H
  exact zw_zret (pc := 9) dX1_isRepeat_9 rfl (znarZ c9) rfl rfl
def M_X1_index : zM := (yX1_index, cX1_index, 1, none, [])
theorem mf_X1_index : zMs M_X1_index 1 := ⟨⟨q1574, q180, ⟨by decide +kernel, by decide +kernel⟩, by decide +kernel, by decide⟩, q1573⟩
def f_X1_index (p0 : Int32) (h : zH) : Option ((Unit ⊕ Nat) × zH) :=
  if p0 = 0 then
  zb2 (zmk 20 h) fun q2 h3 =>
  (some q2).bind fun q5 =>
  if zk h3 q5 = 20 then
  some (.inr q5, h3)
  else none
  else
  some (.inl (), h)
theorem w_X1_index {G : zG} {p0 : Int32} {h : zH} {vo : Unit ⊕ Nat} {vh : zH} (H : f_X1_index p0 h = some (vo, vh)) : zMet G M_X1_index 6 [vI p0] h (zoU vo) vh := by
  refine zMet.of (by decide +kernel) (Nat.le_of_ble_eq_true rfl) ?_
  show zW G M_X1_index 6 h (zoU vo) vh 0 [(0, vI p0)] [] h
  unfold f_X1_index at H
  refine zw_iload_n (pc := 0) dX1_index_0 rfl 0 rfl ?_
  rcases zif H with ⟨c1, H⟩ | ⟨c1, H⟩
  · refine zw_if_ne (pc := 1) (tgt := 12) dX1_index_1 rfl (fun q => absurd c1 q) (fun _ => ?_)
    obtain ⟨q2, h3, e4, H⟩ := zbind2 H
    refine zy_make0 (pc := 4) rfl (Or.inl ⟨rfl, rfl, rfl⟩) dX1_index_4 dX1_index_7 dX1_index_8 (Nat.le_of_ble_eq_true rfl) (Nat.le_of_ble_eq_true rfl) e4 ?_
    obtain ⟨q5, e6, H⟩ := zbind H
    refine zy_athrow (pc := 11) dX1_index_11 e6 ?_
    rcases zif H with ⟨c7, H⟩ | ⟨c7, H⟩
    · have c7 := c7
      obtain ⟨rfl, rfl⟩ := Prod.mk.inj (Option.some.inj H)
      exact zx_out (zkq c7 rfl) (fun _ hz => nomatch hz) rfl rfl
    cases H
  · refine zw_if_ne (pc := 1) (tgt := 12) dX1_index_1 rfl (fun _ => ?_) (fun q => absurd q c1)
    obtain ⟨rfl, rfl⟩ := Prod.mk.inj (Option.some.inj H)
    exact zw_vret (pc := 12) dX1_index_12 rfl rfl rfl
def M_X1_matrix : zM := (yX1_matrix, cX1_matrix, 2, (.some (.object "CsrCalculator$Csr")), [])
theorem mf_X1_matrix : zMi M_X1_matrix 1 := ⟨⟨q1570, q180, ⟨by decide +kernel, by decide +kernel⟩, by decide +kernel, by decide⟩, q1569⟩
def f_X1_matrix (p0 : Option Nat) (p1 : Int32) (h : zH) : Option ((Option Nat ⊕ Nat) × zH) :=
  (f_X1_isIn p1.toInt64 (0 : Int64) (3 : Int64) h).bind fun x2 =>
  zb3 (f_X1_index x2 h) (fun _ h5 =>
  (zgR 1 5 p0 h5).bind fun x8 =>
  (zgR 2 0 x8 h5).bind fun x10 =>
  (zaR 61 x10 p1 h5).bind fun x12 =>
  some (.inl x12, h5))
  (fun q6 h7 =>
  if zk h7 q6 = 20 then
  some (.inr q6, h7)
  else none)
theorem w_X1_matrix {G : zG} {p0 : Option Nat} {p1 : Int32} {h : zH} {vo : Option Nat ⊕ Nat} {vh : zH} (H : f_X1_matrix p0 p1 h = some (vo, vh)) : zMet G M_X1_matrix 7 [vR p0, vI p1] h (zoR vo) vh := by
  refine zMet.of (by decide +kernel) (Nat.le_of_ble_eq_true rfl) ?_
  show zW G M_X1_matrix 7 h (zoR vo) vh 0 [(0, vR p0), (1, vI p1)] [] h
  unfold f_X1_matrix at H
  refine zw_iload_n (pc := 0) dX1_matrix_0 rfl 1 rfl ?_
  refine zw_i2l (pc := 1) dX1_matrix_1 ?_
  refine zw_lconst (pc := 2) (v := (0 : Int64)) dX1_matrix_2 (by decide) ?_
  refine zw_ldc2 (pc := 3) dX1_matrix_3 q1571 ?_
  obtain ⟨x2, e1, H⟩ := zbind H
  refine zw_invS (pc := 6) (M' := M_X1_isIn) (A := [vJ p1.toInt64, vJ (0 : Int64), vJ (3 : Int64)]) [] dX1_matrix_6 (Or.inl q603) mf_X1_isIn (w_X1_isIn e1) (Nat.le_of_ble_eq_true rfl) rfl rfl (Nat.le_of_ble_eq_true rfl) (zkv ?_) zkn9
  rcases zbind3 H with ⟨x4, h5, e3, H⟩ | ⟨q6, h7, e3, H⟩
  · refine zw_invS (pc := 9) (M' := M_X1_index) (A := [vI x2]) [] dX1_matrix_9 (Or.inl q1572) mf_X1_index (w_X1_index e3) (Nat.le_of_ble_eq_true rfl) rfl rfl (Nat.le_of_ble_eq_true rfl) (zku ?_) zkn9
    refine zw_aload_n (pc := 12) dX1_matrix_12 rfl 0 rfl ?_
    obtain ⟨x8, e9, H⟩ := zbind H
    refine zy_getR (pc := 13) dX1_matrix_13 lf_X1_120 (fun _ _ => rfl) e9 ?_
    obtain ⟨x10, e11, H⟩ := zbind H
    refine zy_getR (pc := 16) dX1_matrix_16 lf_X1_151 (fun _ _ => rfl) e11 ?_
    refine zw_iload_n (pc := 19) dX1_matrix_19 rfl 1 rfl ?_
    obtain ⟨x12, e13, H⟩ := zbind H
    refine zy_aald (pc := 20) dX1_matrix_20 (by decide) e13 ?_
    obtain ⟨rfl, rfl⟩ := Prod.mk.inj (Option.some.inj H)
    exact zw_aret (pc := 21) dX1_matrix_21 rfl (Or.inl ⟨_, rfl⟩) rfl rfl
  · refine zw_invS (pc := 9) (M' := M_X1_index) (A := [vI x2]) [] dX1_matrix_9 (Or.inl q1572) mf_X1_index (w_X1_index e3) (Nat.le_of_ble_eq_true rfl) rfl rfl (Nat.le_of_ble_eq_true rfl) zkv0 (zkx ?_)
    rcases zif H with ⟨c14, H⟩ | ⟨c14, H⟩
    · have c14 := c14
      obtain ⟨rfl, rfl⟩ := Prod.mk.inj (Option.some.inj H)
      exact zx_out (zkq c14 rfl) (fun _ hz => nomatch hz) rfl rfl
    cases H
theorem ls_X1_matrix : Cond.selects yX1_matrix.cls yX1_matrix yX1_matrix ∈ lw_all := lw_g (lw_ms _ (List.mem_of_getElem? (i := 49) rfl)) rfl
theorem ln_X1_159 : zCl "CsrCalculator" 159 3 := ⟨_, by decide, by decide, rfl, q1590, q238, q182⟩
def M_X1_createNow : zM := (yX1_createNow, cX1_createNow, 6, (.some .int), [])
theorem mf_X1_createNow : zMi M_X1_createNow 3 := ⟨⟨q1566, q180, ⟨by decide +kernel, by decide +kernel⟩, by decide +kernel, by decide⟩, q1565⟩
def B_X1_createNow_36 (a0 : Option Nat) (a1 : Int32) (a2 : Int32) (a3 : Int32) (a4 : Int32) (h : zH) : Option ((Int32 ⊕ Nat) × zH) :=
  zb3 (f_X1_argument a4 h) (fun _ h3 =>
  (zgR 1 5 a0 h3).bind fun x6 =>
  zb2 (znw 3 h3) fun q8 h9 =>
  (some q8).bind fun b11 =>
  (f_X3_init (some b11) a2 a3 h9).bind fun h14 =>
  (zrv 2 x6 h14).bind fun b15 =>
  zb2 (f_X2_put (some b15) a1 (some q8) h14) fun x21 h20 =>
  some (.inl (a2 * a3), h20))
  (fun q4 h5 =>
  if zk h5 q4 = 21 then
  some (.inr q4, h5)
  else none)
theorem wB_X1_createNow_36 {G : zG} {h0 h : zH} {vo : Int32 ⊕ Nat} {vh : zH} {a0 : Option Nat} {a1 : Int32} {a2 : Int32} {a3 : Int32} {a4 : Int32} (H : B_X1_createNow_36 a0 a1 a2 a3 a4 h = some (vo, vh)) : zW G M_X1_createNow 8 h0 (zoI vo) vh 36 [(0, vR a0), (1, vI a1), (2, vI a2), (3, vI a3)] [vI a4] h := by
  unfold B_X1_createNow_36 at H
  rcases zbind3 H with ⟨x2, h3, e1, H⟩ | ⟨q4, h5, e1, H⟩
  · refine zw_invS (pc := 36) (M' := M_X1_argument) (A := [vI a4]) [] dX1_createNow_36 (Or.inl q604) mf_X1_argument (w_X1_argument e1) (Nat.le_of_ble_eq_true rfl) rfl rfl (Nat.le_of_ble_eq_true rfl) (zku ?_) zkn9
    refine zw_aload_n (pc := 39) dX1_createNow_39 rfl 0 rfl ?_
    obtain ⟨x6, e7, H⟩ := zbind H
    refine zy_getR (pc := 40) dX1_createNow_40 lf_X1_120 (fun _ _ => rfl) e7 ?_
    refine zw_iload_n (pc := 43) dX1_createNow_43 rfl 1 rfl ?_
    obtain ⟨q8, h9, e10, H⟩ := zbind2 H
    refine zy_new (pc := 44) dX1_createNow_44 ln_X1_159 e10 ?_
    refine zw_dup (pc := 47) dX1_createNow_47 rfl ?_
    refine zw_iload_n (pc := 48) dX1_createNow_48 rfl 2 rfl ?_
    refine zw_iload_n (pc := 49) dX1_createNow_49 rfl 3 rfl ?_
    obtain ⟨b11, e12, H⟩ := zbind H
    obtain ⟨h14, e13, H⟩ := zbind H
    refine zw_invI (pc := 50) (M' := M_X3_init) (A := [vI a2, vI a3]) [vR (some q8), vI a1, vR x6] dX1_createNow_50 (Or.inl q1591) mf_X3_init rfl rfl (w_X3_init e13) (Nat.le_of_ble_eq_true rfl) rfl (by rw [← e12]; rfl) (Nat.le_of_ble_eq_true rfl) (zku ?_) zkn9
    obtain ⟨b15, e17, H⟩ := zbind H
    obtain ⟨e16, e18⟩ := zrv_ok e17
    obtain ⟨x21, h20, e19, H⟩ := zbind2 H
    refine zw_invV (pc := 53) (M' := M_X2_put) (A := [vI a1, vR (some q8)]) [] dX1_createNow_53 (Or.inl q1592) mf_X2_put q1095 (zkq e18 rfl) (w_X2_put e19) (Nat.le_of_ble_eq_true rfl) rfl (by rw [← e16]; rfl) (Nat.le_of_ble_eq_true rfl) (zkv ?_) zkn9
    refine zw_istore (pc := 56) (lv' := [(5, vI x21), (0, vR a0), (1, vI a1), (2, vI a2), (3, vI a3)]) dX1_createNow_56 (by decide) rfl ?_
    refine zw_iload_n (pc := 58) dX1_createNow_58 rfl 3 rfl ?_
    refine zw_iload_n (pc := 59) dX1_createNow_59 rfl 4 rfl ?_
    refine zw_imul (pc := 60) dX1_createNow_60 ?_
    obtain ⟨rfl, rfl⟩ := Prod.mk.inj (Option.some.inj H)
    exact zw_iret (pc := 61) dX1_createNow_61 rfl rfl rfl
  · refine zw_invS (pc := 36) (M' := M_X1_argument) (A := [vI a4]) [] dX1_createNow_36 (Or.inl q604) mf_X1_argument (w_X1_argument e1) (Nat.le_of_ble_eq_true rfl) rfl rfl (Nat.le_of_ble_eq_true rfl) zkv0 (zkx ?_)
    rcases zif H with ⟨c22, H⟩ | ⟨c22, H⟩
    · have c22 := c22
      obtain ⟨rfl, rfl⟩ := Prod.mk.inj (Option.some.inj H)
      exact zx_out (zkq c22 rfl) (fun _ hz => nomatch hz) rfl rfl
    cases H
def f_X1_createNow (p0 : Option Nat) (p1 : Int32) (p2 : Int32) (p3 : Int32) (h : zH) : Option ((Int32 ⊕ Nat) × zH) :=
  (zrv 1 p0 h).bind fun b1 =>
  zb3 (f_X1_matrix (some b1) p1 h) (fun x6 h7 =>
  (f_X1_isIn p2.toInt64 (1 : Int64) (12 : Int64) h7).bind fun x11 =>
  if x11 = 0 then
  B_X1_createNow_36 p0 p1 p2 p3 (0 : Int32) h7
  else
  (f_X1_isIn p3.toInt64 (1 : Int64) (12 : Int64) h7).bind fun x14 =>
  if x14 = 0 then
  B_X1_createNow_36 p0 p1 p2 p3 (0 : Int32) h7
  else
  B_X1_createNow_36 p0 p1 p2 p3 (1 : Int32) h7)
  (fun q8 h9 =>
  if zk h9 q8 = 20 then
  some (.inr q8, h9)
  else none)
theorem w_X1_createNow {G : zG} {p0 : Option Nat} {p1 : Int32} {p2 : Int32} {p3 : Int32} {h : zH} {vo : Int32 ⊕ Nat} {vh : zH} (H : f_X1_createNow p0 p1 p2 p3 h = some (vo, vh)) : zMet G M_X1_createNow 8 [vR p0, vI p1, vI p2, vI p3] h (zoI vo) vh := by
  refine zMet.of (by decide +kernel) (Nat.le_of_ble_eq_true rfl) ?_
  show zW G M_X1_createNow 8 h (zoI vo) vh 0 [(0, vR p0), (1, vI p1), (2, vI p2), (3, vI p3)] [] h
  unfold f_X1_createNow at H
  refine zw_aload_n (pc := 0) dX1_createNow_0 rfl 0 rfl ?_
  refine zw_iload_n (pc := 1) dX1_createNow_1 rfl 1 rfl ?_
  obtain ⟨b1, e3, H⟩ := zbind H
  obtain ⟨e2, e4⟩ := zrv_ok e3
  rcases zbind3 H with ⟨x6, h7, e5, H⟩ | ⟨q8, h9, e5, H⟩
  · refine zw_invV (pc := 2) (M' := M_X1_matrix) (A := [vI p1]) [] dX1_createNow_2 (Or.inl q1567) mf_X1_matrix ls_X1_matrix (zkq e4 rfl) (w_X1_matrix e5) (Nat.le_of_ble_eq_true rfl) rfl (by rw [← e2]; rfl) (Nat.le_of_ble_eq_true rfl) (zkv ?_) zkn9
    refine zw_astore (pc := 5) (lv' := [(4, vR x6), (0, vR p0), (1, vI p1), (2, vI p2), (3, vI p3)]) dX1_createNow_5 (by decide) rfl ?_
    refine zw_iload_n (pc := 7) dX1_createNow_7 rfl 3 rfl ?_
    refine zw_i2l (pc := 8) dX1_createNow_8 ?_
    refine zw_lconst (pc := 9) (v := (1 : Int64)) dX1_createNow_9 (by decide) ?_
    refine zw_ldc2 (pc := 10) dX1_createNow_10 q1589 ?_
    obtain ⟨x11, e10, H⟩ := zbind H
    refine zw_invS (pc := 13) (M' := M_X1_isIn) (A := [vJ p2.toInt64, vJ (1 : Int64), vJ (12 : Int64)]) [] dX1_createNow_13 (Or.inl q603) mf_X1_isIn (w_X1_isIn e10) (Nat.le_of_ble_eq_true rfl) rfl rfl (Nat.le_of_ble_eq_true rfl) (zkv ?_) zkn9
    rcases zif H with ⟨c12, H⟩ | ⟨c12, H⟩
    · refine zw_if_eq (pc := 16) (tgt := 35) dX1_createNow_16 rfl (fun _ => ?_) (fun q => absurd c12 q)
      refine zw_iconst (pc := 35) (v := (0 : Int32)) dX1_createNow_35 (by decide) ?_
      refine zW_pick (lv' := [(0, vR p0), (1, vI p1), (2, vI p2), (3, vI p3)]) [1, 2, 3, 4] rfl ?_
      exact wB_X1_createNow_36 H
    · refine zw_if_eq (pc := 16) (tgt := 35) dX1_createNow_16 rfl (fun q => absurd q c12) (fun _ => ?_)
      refine zw_iload_n (pc := 19) dX1_createNow_19 rfl 4 rfl ?_
      refine zw_i2l (pc := 20) dX1_createNow_20 ?_
      refine zw_lconst (pc := 21) (v := (1 : Int64)) dX1_createNow_21 (by decide) ?_
      refine zw_ldc2 (pc := 22) dX1_createNow_22 q1589 ?_
      obtain ⟨x14, e13, H⟩ := zbind H
      refine zw_invS (pc := 25) (M' := M_X1_isIn) (A := [vJ p3.toInt64, vJ (1 : Int64), vJ (12 : Int64)]) [] dX1_createNow_25 (Or.inl q603) mf_X1_isIn (w_X1_isIn e13) (Nat.le_of_ble_eq_true rfl) rfl rfl (Nat.le_of_ble_eq_true rfl) (zkv ?_) zkn9
      rcases zif H with ⟨c15, H⟩ | ⟨c15, H⟩
      · refine zw_if_eq (pc := 28) (tgt := 35) dX1_createNow_28 rfl (fun _ => ?_) (fun q => absurd c15 q)
        refine zw_iconst (pc := 35) (v := (0 : Int32)) dX1_createNow_35 (by decide) ?_
        refine zW_pick (lv' := [(0, vR p0), (1, vI p1), (2, vI p2), (3, vI p3)]) [1, 2, 3, 4] rfl ?_
        exact wB_X1_createNow_36 H
      · refine zw_if_eq (pc := 28) (tgt := 35) dX1_createNow_28 rfl (fun q => absurd q c15) (fun _ => ?_)
        refine zw_iconst (pc := 31) (v := (1 : Int32)) dX1_createNow_31 (by decide) ?_
        refine zw_goto (pc := 32) (tgt := 36) dX1_createNow_32 rfl ?_
        refine zW_pick (lv' := [(0, vR p0), (1, vI p1), (2, vI p2), (3, vI p3)]) [1, 2, 3, 4] rfl ?_
        exact wB_X1_createNow_36 H
  · refine zw_invV (pc := 2) (M' := M_X1_matrix) (A := [vI p1]) [] dX1_createNow_2 (Or.inl q1567) mf_X1_matrix ls_X1_matrix (zkq e4 rfl) (w_X1_matrix e5) (Nat.le_of_ble_eq_true rfl) rfl (by rw [← e2]; rfl) (Nat.le_of_ble_eq_true rfl) zkv0 (zkx ?_)
    rcases zif H with ⟨c16, H⟩ | ⟨c16, H⟩
    · have c16 := c16
      obtain ⟨rfl, rfl⟩ := Prod.mk.inj (Option.some.inj H)
      exact zx_out (zkq c16 rfl) (fun _ hz => nomatch hz) rfl rfl
    cases H
def M_X1_lambda_addNow_6 : zM := (yX1_lambda_addNow_6, cX1_lambda_addNow_6, 2, (.some (.object "CsrCalculator$Csr")), [])
theorem mf_X1_lambda_addNow_6 : zMs M_X1_lambda_addNow_6 2 := ⟨⟨q2029, q180, ⟨by decide +kernel, by decide +kernel⟩, by decide +kernel, by decide⟩, q2028⟩
def f_X1_lambda_addNow_6 (p0 : Option Nat) (p1 : Option Nat) (h : zH) : Option ((Option Nat ⊕ Nat) × zH) :=
  (zrv 3 p0 h).bind fun b1 =>
  zb3 (f_X3_joined (some b1) (zsv h 4) p1 h) (fun x6 h7 =>
  some (.inl x6, h7))
  (fun q8 h9 =>
  if zk h9 q8 = 7 then
  some (.inr q8, h9)
  else none)
theorem w_X1_lambda_addNow_6 {G : zG} {p0 : Option Nat} {p1 : Option Nat} {h : zH} {vo : Option Nat ⊕ Nat} {vh : zH} (H : f_X1_lambda_addNow_6 p0 p1 h = some (vo, vh)) : zMet G M_X1_lambda_addNow_6 9 [vR p0, vR p1] h (zoR vo) vh := by
  refine zMet.of (by decide +kernel) (Nat.le_of_ble_eq_true rfl) ?_
  show zW G M_X1_lambda_addNow_6 9 h (zoR vo) vh 0 [(0, vR p0), (1, vR p1)] [] h
  unfold f_X1_lambda_addNow_6 at H
  refine zw_aload_n (pc := 0) dX1_lambda_addNow_6_0 rfl 0 rfl ?_
  refine zw_gets (pc := 1) 4 dX1_lambda_addNow_6_1 rfl q1898 rfl (show zstv _ 4 = vR (zsv h 4) from rfl) ?_
  refine zw_aload_n (pc := 4) dX1_lambda_addNow_6_4 rfl 1 rfl ?_
  obtain ⟨b1, e3, H⟩ := zbind H
  obtain ⟨e2, e4⟩ := zrv_ok e3
  rcases zbind3 H with ⟨x6, h7, e5, H⟩ | ⟨q8, h9, e5, H⟩
  · refine zw_invV (pc := 5) (M' := M_X3_joined) (A := [vR (zsv h 4), vR p1]) [] dX1_lambda_addNow_6_5 (Or.inl q1900) mf_X3_joined q1409 (zkq e4 rfl) (w_X3_joined e5) (Nat.le_of_ble_eq_true rfl) rfl (by rw [← e2]; rfl) (Nat.le_of_ble_eq_true rfl) (zkv ?_) zkn9
    obtain ⟨rfl, rfl⟩ := Prod.mk.inj (Option.some.inj H)
    exact zw_aret (pc := 8) dX1_lambda_addNow_6_8 rfl (Or.inl ⟨_, rfl⟩) rfl rfl
  · refine zw_invV (pc := 5) (M' := M_X3_joined) (A := [vR (zsv h 4), vR p1]) [] dX1_lambda_addNow_6_5 (Or.inl q1900) mf_X3_joined q1409 (zkq e4 rfl) (w_X3_joined e5) (Nat.le_of_ble_eq_true rfl) rfl (by rw [← e2]; rfl) (Nat.le_of_ble_eq_true rfl) zkv0 (zkx ?_)
    rcases zif H with ⟨c10, H⟩ | ⟨c10, H⟩
    · have c10 := c10
      obtain ⟨rfl, rfl⟩ := Prod.mk.inj (Option.some.inj H)
      exact zx_out (zkq c10 rfl) (fun _ hz => nomatch hz) rfl rfl
    cases H
def M_X1_lambda_dropNow_2 : zM := (yX1_lambda_dropNow_2, cX1_lambda_dropNow_2, 1, (.some (.object "CsrCalculator$Csr")), [])
theorem mf_X1_lambda_dropNow_2 : zMs M_X1_lambda_dropNow_2 1 := ⟨⟨q1629, q180, ⟨by decide +kernel, by decide +kernel⟩, by decide +kernel, by decide⟩, q1628⟩
def f_X1_lambda_dropNow_2 (p0 : Option Nat) (h : zH) : Option ((Option Nat ⊕ Nat) × zH) :=
  (zrv 3 p0 h).bind fun b1 =>
  zb3 (f_X3_withoutZeros (some b1) h) (fun x6 h7 =>
  some (.inl x6, h7))
  (fun q8 h9 =>
  if zk h9 q8 = 7 then
  some (.inr q8, h9)
  else none)
theorem w_X1_lambda_dropNow_2 {G : zG} {p0 : Option Nat} {h : zH} {vo : Option Nat ⊕ Nat} {vh : zH} (H : f_X1_lambda_dropNow_2 p0 h = some (vo, vh)) : zMet G M_X1_lambda_dropNow_2 9 [vR p0] h (zoR vo) vh := by
  refine zMet.of (by decide +kernel) (Nat.le_of_ble_eq_true rfl) ?_
  show zW G M_X1_lambda_dropNow_2 9 h (zoR vo) vh 0 [(0, vR p0)] [] h
  unfold f_X1_lambda_dropNow_2 at H
  refine zw_aload_n (pc := 0) dX1_lambda_dropNow_2_0 rfl 0 rfl ?_
  obtain ⟨b1, e3, H⟩ := zbind H
  obtain ⟨e2, e4⟩ := zrv_ok e3
  rcases zbind3 H with ⟨x6, h7, e5, H⟩ | ⟨q8, h9, e5, H⟩
  · refine zw_invV (pc := 1) (M' := M_X3_withoutZeros) (A := []) [] dX1_lambda_dropNow_2_1 (Or.inl q1630) mf_X3_withoutZeros q1443 (zkq e4 rfl) (w_X3_withoutZeros e5) (Nat.le_of_ble_eq_true rfl) rfl (by rw [← e2]; rfl) (Nat.le_of_ble_eq_true rfl) (zkv ?_) zkn9
    obtain ⟨rfl, rfl⟩ := Prod.mk.inj (Option.some.inj H)
    exact zw_aret (pc := 4) dX1_lambda_dropNow_2_4 rfl (Or.inl ⟨_, rfl⟩) rfl rfl
  · refine zw_invV (pc := 1) (M' := M_X3_withoutZeros) (A := []) [] dX1_lambda_dropNow_2_1 (Or.inl q1630) mf_X3_withoutZeros q1443 (zkq e4 rfl) (w_X3_withoutZeros e5) (Nat.le_of_ble_eq_true rfl) rfl (by rw [← e2]; rfl) (Nat.le_of_ble_eq_true rfl) zkv0 (zkx ?_)
    rcases zif H with ⟨c10, H⟩ | ⟨c10, H⟩
    · have c10 := c10
      obtain ⟨rfl, rfl⟩ := Prod.mk.inj (Option.some.inj H)
      exact zx_out (zkq c10 rfl) (fun _ hz => nomatch hz) rfl rfl
    cases H
def M_X1_lambda_eraseNow_1 : zM := (yX1_lambda_eraseNow_1, cX1_lambda_eraseNow_1, 3, (.some (.object "CsrCalculator$Csr")), [])
theorem mf_X1_lambda_eraseNow_1 : zMs M_X1_lambda_eraseNow_1 3 := ⟨⟨q1637, q180, ⟨by decide +kernel, by decide +kernel⟩, by decide +kernel, by decide⟩, q1636⟩
def f_X1_lambda_eraseNow_1 (p0 : Option Nat) (p1 : Int32) (p2 : Int32) (h : zH) : Option ((Option Nat ⊕ Nat) × zH) :=
  (zrv 3 p0 h).bind fun b1 =>
  zb3 (f_X3_without (some b1) p1 p2 h) (fun x6 h7 =>
  some (.inl x6, h7))
  (fun q8 h9 =>
  if zk h9 q8 = 7 then
  some (.inr q8, h9)
  else none)
theorem w_X1_lambda_eraseNow_1 {G : zG} {p0 : Option Nat} {p1 : Int32} {p2 : Int32} {h : zH} {vo : Option Nat ⊕ Nat} {vh : zH} (H : f_X1_lambda_eraseNow_1 p0 p1 p2 h = some (vo, vh)) : zMet G M_X1_lambda_eraseNow_1 9 [vR p0, vI p1, vI p2] h (zoR vo) vh := by
  refine zMet.of (by decide +kernel) (Nat.le_of_ble_eq_true rfl) ?_
  show zW G M_X1_lambda_eraseNow_1 9 h (zoR vo) vh 0 [(0, vR p0), (1, vI p1), (2, vI p2)] [] h
  unfold f_X1_lambda_eraseNow_1 at H
  refine zw_aload_n (pc := 0) dX1_lambda_eraseNow_1_0 rfl 0 rfl ?_
  refine zw_iload_n (pc := 1) dX1_lambda_eraseNow_1_1 rfl 1 rfl ?_
  refine zw_iload_n (pc := 2) dX1_lambda_eraseNow_1_2 rfl 2 rfl ?_
  obtain ⟨b1, e3, H⟩ := zbind H
  obtain ⟨e2, e4⟩ := zrv_ok e3
  rcases zbind3 H with ⟨x6, h7, e5, H⟩ | ⟨q8, h9, e5, H⟩
  · refine zw_invV (pc := 3) (M' := M_X3_without) (A := [vI p1, vI p2]) [] dX1_lambda_eraseNow_1_3 (Or.inl q1638) mf_X3_without q1640 (zkq e4 rfl) (w_X3_without e5) (Nat.le_of_ble_eq_true rfl) rfl (by rw [← e2]; rfl) (Nat.le_of_ble_eq_true rfl) (zkv ?_) zkn9
    obtain ⟨rfl, rfl⟩ := Prod.mk.inj (Option.some.inj H)
    exact zw_aret (pc := 6) dX1_lambda_eraseNow_1_6 rfl (Or.inl ⟨_, rfl⟩) rfl rfl
  · refine zw_invV (pc := 3) (M' := M_X3_without) (A := [vI p1, vI p2]) [] dX1_lambda_eraseNow_1_3 (Or.inl q1638) mf_X3_without q1640 (zkq e4 rfl) (w_X3_without e5) (Nat.le_of_ble_eq_true rfl) rfl (by rw [← e2]; rfl) (Nat.le_of_ble_eq_true rfl) zkv0 (zkx ?_)
    rcases zif H with ⟨c10, H⟩ | ⟨c10, H⟩
    · have c10 := c10
      obtain ⟨rfl, rfl⟩ := Prod.mk.inj (Option.some.inj H)
      exact zx_out (zkq c10 rfl) (fun _ hz => nomatch hz) rfl rfl
    cases H
def M_X1_lambda_multiplyNow_7 : zM := (yX1_lambda_multiplyNow_7, cX1_lambda_multiplyNow_7, 2, (.some (.object "CsrCalculator$Csr")), [])
theorem mf_X1_lambda_multiplyNow_7 : zMs M_X1_lambda_multiplyNow_7 2 := ⟨⟨q2042, q180, ⟨by decide +kernel, by decide +kernel⟩, by decide +kernel, by decide⟩, q2041⟩
def f_X1_lambda_multiplyNow_7 (p0 : Option Nat) (p1 : Option Nat) (h : zH) : Option ((Option Nat ⊕ Nat) × zH) :=
  (zrv 3 p0 h).bind fun b1 =>
  zb3 (f_X3_times (some b1) p1 h) (fun x6 h7 =>
  some (.inl x6, h7))
  (fun q8 h9 =>
  if zk h9 q8 = 7 then
  some (.inr q8, h9)
  else none)
theorem w_X1_lambda_multiplyNow_7 {G : zG} {p0 : Option Nat} {p1 : Option Nat} {h : zH} {vo : Option Nat ⊕ Nat} {vh : zH} (H : f_X1_lambda_multiplyNow_7 p0 p1 h = some (vo, vh)) : zMet G M_X1_lambda_multiplyNow_7 9 [vR p0, vR p1] h (zoR vo) vh := by
  refine zMet.of (by decide +kernel) (Nat.le_of_ble_eq_true rfl) ?_
  show zW G M_X1_lambda_multiplyNow_7 9 h (zoR vo) vh 0 [(0, vR p0), (1, vR p1)] [] h
  unfold f_X1_lambda_multiplyNow_7 at H
  refine zw_aload_n (pc := 0) dX1_lambda_multiplyNow_7_0 rfl 0 rfl ?_
  refine zw_aload_n (pc := 1) dX1_lambda_multiplyNow_7_1 rfl 1 rfl ?_
  obtain ⟨b1, e3, H⟩ := zbind H
  obtain ⟨e2, e4⟩ := zrv_ok e3
  rcases zbind3 H with ⟨x6, h7, e5, H⟩ | ⟨q8, h9, e5, H⟩
  · refine zw_invV (pc := 2) (M' := M_X3_times) (A := [vR p1]) [] dX1_lambda_multiplyNow_7_2 (Or.inl q520) mf_X3_times q522 (zkq e4 rfl) (w_X3_times e5) (Nat.le_of_ble_eq_true rfl) rfl (by rw [← e2]; rfl) (Nat.le_of_ble_eq_true rfl) (zkv ?_) zkn9
    obtain ⟨rfl, rfl⟩ := Prod.mk.inj (Option.some.inj H)
    exact zw_aret (pc := 5) dX1_lambda_multiplyNow_7_5 rfl (Or.inl ⟨_, rfl⟩) rfl rfl
  · refine zw_invV (pc := 2) (M' := M_X3_times) (A := [vR p1]) [] dX1_lambda_multiplyNow_7_2 (Or.inl q520) mf_X3_times q522 (zkq e4 rfl) (w_X3_times e5) (Nat.le_of_ble_eq_true rfl) rfl (by rw [← e2]; rfl) (Nat.le_of_ble_eq_true rfl) zkv0 (zkx ?_)
    rcases zif H with ⟨c10, H⟩ | ⟨c10, H⟩
    · have c10 := c10
      obtain ⟨rfl, rfl⟩ := Prod.mk.inj (Option.some.inj H)
      exact zx_out (zkq c10 rfl) (fun _ hz => nomatch hz) rfl rfl
    cases H
def M_X1_lambda_scaleNow_4 : zM := (yX1_lambda_scaleNow_4, cX1_lambda_scaleNow_4, 2, (.some (.object "CsrCalculator$Csr")), [])
theorem mf_X1_lambda_scaleNow_4 : zMs M_X1_lambda_scaleNow_4 2 := ⟨⟨q2002, q180, ⟨by decide +kernel, by decide +kernel⟩, by decide +kernel, by decide⟩, q2001⟩
def f_X1_lambda_scaleNow_4 (p0 : Option Nat) (p1 : Int32) (h : zH) : Option ((Option Nat ⊕ Nat) × zH) :=
  (zrv 3 p0 h).bind fun b1 =>
  zb3 (f_X3_scaled (some b1) p1 h) (fun x6 h7 =>
  some (.inl x6, h7))
  (fun q8 h9 =>
  if zk h9 q8 = 7 then
  some (.inr q8, h9)
  else none)
theorem w_X1_lambda_scaleNow_4 {G : zG} {p0 : Option Nat} {p1 : Int32} {h : zH} {vo : Option Nat ⊕ Nat} {vh : zH} (H : f_X1_lambda_scaleNow_4 p0 p1 h = some (vo, vh)) : zMet G M_X1_lambda_scaleNow_4 9 [vR p0, vI p1] h (zoR vo) vh := by
  refine zMet.of (by decide +kernel) (Nat.le_of_ble_eq_true rfl) ?_
  show zW G M_X1_lambda_scaleNow_4 9 h (zoR vo) vh 0 [(0, vR p0), (1, vI p1)] [] h
  unfold f_X1_lambda_scaleNow_4 at H
  refine zw_aload_n (pc := 0) dX1_lambda_scaleNow_4_0 rfl 0 rfl ?_
  refine zw_iload_n (pc := 1) dX1_lambda_scaleNow_4_1 rfl 1 rfl ?_
  obtain ⟨b1, e3, H⟩ := zbind H
  obtain ⟨e2, e4⟩ := zrv_ok e3
  rcases zbind3 H with ⟨x6, h7, e5, H⟩ | ⟨q8, h9, e5, H⟩
  · refine zw_invV (pc := 2) (M' := M_X3_scaled) (A := [vI p1]) [] dX1_lambda_scaleNow_4_2 (Or.inl q2003) mf_X3_scaled q1366 (zkq e4 rfl) (w_X3_scaled e5) (Nat.le_of_ble_eq_true rfl) rfl (by rw [← e2]; rfl) (Nat.le_of_ble_eq_true rfl) (zkv ?_) zkn9
    obtain ⟨rfl, rfl⟩ := Prod.mk.inj (Option.some.inj H)
    exact zw_aret (pc := 5) dX1_lambda_scaleNow_4_5 rfl (Or.inl ⟨_, rfl⟩) rfl rfl
  · refine zw_invV (pc := 2) (M' := M_X3_scaled) (A := [vI p1]) [] dX1_lambda_scaleNow_4_2 (Or.inl q2003) mf_X3_scaled q1366 (zkq e4 rfl) (w_X3_scaled e5) (Nat.le_of_ble_eq_true rfl) rfl (by rw [← e2]; rfl) (Nat.le_of_ble_eq_true rfl) zkv0 (zkx ?_)
    rcases zif H with ⟨c10, H⟩ | ⟨c10, H⟩
    · have c10 := c10
      obtain ⟨rfl, rfl⟩ := Prod.mk.inj (Option.some.inj H)
      exact zx_out (zkq c10 rfl) (fun _ hz => nomatch hz) rfl rfl
    cases H
def M_X1_lambda_setNow_0 : zM := (yX1_lambda_setNow_0, cX1_lambda_setNow_0, 4, (.some (.object "CsrCalculator$Csr")), [])
theorem mf_X1_lambda_setNow_0 : zMs M_X1_lambda_setNow_0 4 := ⟨⟨q1608, q180, ⟨by decide +kernel, by decide +kernel⟩, by decide +kernel, by decide⟩, q1607⟩
def f_X1_lambda_setNow_0 (p0 : Option Nat) (p1 : Int32) (p2 : Int32) (p3 : Int32) (h : zH) : Option ((Option Nat ⊕ Nat) × zH) :=
  (zrv 3 p0 h).bind fun b1 =>
  zb3 (f_X3_with (some b1) p1 p2 p3 h) (fun x6 h7 =>
  some (.inl x6, h7))
  (fun q8 h9 =>
  if zk h9 q8 = 7 then
  some (.inr q8, h9)
  else none)
theorem w_X1_lambda_setNow_0 {G : zG} {p0 : Option Nat} {p1 : Int32} {p2 : Int32} {p3 : Int32} {h : zH} {vo : Option Nat ⊕ Nat} {vh : zH} (H : f_X1_lambda_setNow_0 p0 p1 p2 p3 h = some (vo, vh)) : zMet G M_X1_lambda_setNow_0 9 [vR p0, vI p1, vI p2, vI p3] h (zoR vo) vh := by
  refine zMet.of (by decide +kernel) (Nat.le_of_ble_eq_true rfl) ?_
  show zW G M_X1_lambda_setNow_0 9 h (zoR vo) vh 0 [(0, vR p0), (1, vI p1), (2, vI p2), (3, vI p3)] [] h
  unfold f_X1_lambda_setNow_0 at H
  refine zw_aload_n (pc := 0) dX1_lambda_setNow_0_0 rfl 0 rfl ?_
  refine zw_iload_n (pc := 1) dX1_lambda_setNow_0_1 rfl 1 rfl ?_
  refine zw_iload_n (pc := 2) dX1_lambda_setNow_0_2 rfl 2 rfl ?_
  refine zw_iload_n (pc := 3) dX1_lambda_setNow_0_3 rfl 3 rfl ?_
  obtain ⟨b1, e3, H⟩ := zbind H
  obtain ⟨e2, e4⟩ := zrv_ok e3
  rcases zbind3 H with ⟨x6, h7, e5, H⟩ | ⟨q8, h9, e5, H⟩
  · refine zw_invV (pc := 4) (M' := M_X3_with) (A := [vI p1, vI p2, vI p3]) [] dX1_lambda_setNow_0_4 (Or.inl q1609) mf_X3_with q1104 (zkq e4 rfl) (w_X3_with e5) (Nat.le_of_ble_eq_true rfl) rfl (by rw [← e2]; rfl) (Nat.le_of_ble_eq_true rfl) (zkv ?_) zkn9
    obtain ⟨rfl, rfl⟩ := Prod.mk.inj (Option.some.inj H)
    exact zw_aret (pc := 7) dX1_lambda_setNow_0_7 rfl (Or.inl ⟨_, rfl⟩) rfl rfl
  · refine zw_invV (pc := 4) (M' := M_X3_with) (A := [vI p1, vI p2, vI p3]) [] dX1_lambda_setNow_0_4 (Or.inl q1609) mf_X3_with q1104 (zkq e4 rfl) (w_X3_with e5) (Nat.le_of_ble_eq_true rfl) rfl (by rw [← e2]; rfl) (Nat.le_of_ble_eq_true rfl) zkv0 (zkx ?_)
    rcases zif H with ⟨c10, H⟩ | ⟨c10, H⟩
    · have c10 := c10
      obtain ⟨rfl, rfl⟩ := Prod.mk.inj (Option.some.inj H)
      exact zx_out (zkq c10 rfl) (fun _ hz => nomatch hz) rfl rfl
    cases H
def M_X1_lambda_swapNow_3 : zM := (yX1_lambda_swapNow_3, cX1_lambda_swapNow_3, 3, (.some (.object "CsrCalculator$Csr")), [])
theorem mf_X1_lambda_swapNow_3 : zMs M_X1_lambda_swapNow_3 3 := ⟨⟨q1654, q180, ⟨by decide +kernel, by decide +kernel⟩, by decide +kernel, by decide⟩, q1653⟩
def f_X1_lambda_swapNow_3 (p0 : Option Nat) (p1 : Int32) (p2 : Int32) (h : zH) : Option ((Option Nat ⊕ Nat) × zH) :=
  (zrv 3 p0 h).bind fun b1 =>
  zb3 (f_X3_withSwapped (some b1) p1 p2 h) (fun x6 h7 =>
  some (.inl x6, h7))
  (fun q8 h9 =>
  if zk h9 q8 = 7 then
  some (.inr q8, h9)
  else none)
theorem w_X1_lambda_swapNow_3 {G : zG} {p0 : Option Nat} {p1 : Int32} {p2 : Int32} {h : zH} {vo : Option Nat ⊕ Nat} {vh : zH} (H : f_X1_lambda_swapNow_3 p0 p1 p2 h = some (vo, vh)) : zMet G M_X1_lambda_swapNow_3 9 [vR p0, vI p1, vI p2] h (zoR vo) vh := by
  refine zMet.of (by decide +kernel) (Nat.le_of_ble_eq_true rfl) ?_
  show zW G M_X1_lambda_swapNow_3 9 h (zoR vo) vh 0 [(0, vR p0), (1, vI p1), (2, vI p2)] [] h
  unfold f_X1_lambda_swapNow_3 at H
  refine zw_aload_n (pc := 0) dX1_lambda_swapNow_3_0 rfl 0 rfl ?_
  refine zw_iload_n (pc := 1) dX1_lambda_swapNow_3_1 rfl 1 rfl ?_
  refine zw_iload_n (pc := 2) dX1_lambda_swapNow_3_2 rfl 2 rfl ?_
  obtain ⟨b1, e3, H⟩ := zbind H
  obtain ⟨e2, e4⟩ := zrv_ok e3
  rcases zbind3 H with ⟨x6, h7, e5, H⟩ | ⟨q8, h9, e5, H⟩
  · refine zw_invV (pc := 3) (M' := M_X3_withSwapped) (A := [vI p1, vI p2]) [] dX1_lambda_swapNow_3_3 (Or.inl q1655) mf_X3_withSwapped q1657 (zkq e4 rfl) (w_X3_withSwapped e5) (Nat.le_of_ble_eq_true rfl) rfl (by rw [← e2]; rfl) (Nat.le_of_ble_eq_true rfl) (zkv ?_) zkn9
    obtain ⟨rfl, rfl⟩ := Prod.mk.inj (Option.some.inj H)
    exact zw_aret (pc := 6) dX1_lambda_swapNow_3_6 rfl (Or.inl ⟨_, rfl⟩) rfl rfl
  · refine zw_invV (pc := 3) (M' := M_X3_withSwapped) (A := [vI p1, vI p2]) [] dX1_lambda_swapNow_3_3 (Or.inl q1655) mf_X3_withSwapped q1657 (zkq e4 rfl) (w_X3_withSwapped e5) (Nat.le_of_ble_eq_true rfl) rfl (by rw [← e2]; rfl) (Nat.le_of_ble_eq_true rfl) zkv0 (zkx ?_)
    rcases zif H with ⟨c10, H⟩ | ⟨c10, H⟩
    · have c10 := c10
      obtain ⟨rfl, rfl⟩ := Prod.mk.inj (Option.some.inj H)
      exact zx_out (zkq c10 rfl) (fun _ hz => nomatch hz) rfl rfl
    cases H
def M_X1_lambda_transposeNow_5 : zM := (yX1_lambda_transposeNow_5, cX1_lambda_transposeNow_5, 1, (.some (.object "CsrCalculator$Csr")), [])
theorem mf_X1_lambda_transposeNow_5 : zMs M_X1_lambda_transposeNow_5 1 := ⟨⟨q2016, q180, ⟨by decide +kernel, by decide +kernel⟩, by decide +kernel, by decide⟩, q2015⟩
def f_X1_lambda_transposeNow_5 (p0 : Option Nat) (h : zH) : Option ((Option Nat ⊕ Nat) × zH) :=
  (zrv 3 p0 h).bind fun b1 =>
  zb3 (f_X3_transposed (some b1) h) (fun x6 h7 =>
  some (.inl x6, h7))
  (fun q8 h9 =>
  if zk h9 q8 = 7 then
  some (.inr q8, h9)
  else none)
theorem w_X1_lambda_transposeNow_5 {G : zG} {p0 : Option Nat} {h : zH} {vo : Option Nat ⊕ Nat} {vh : zH} (H : f_X1_lambda_transposeNow_5 p0 h = some (vo, vh)) : zMet G M_X1_lambda_transposeNow_5 9 [vR p0] h (zoR vo) vh := by
  refine zMet.of (by decide +kernel) (Nat.le_of_ble_eq_true rfl) ?_
  show zW G M_X1_lambda_transposeNow_5 9 h (zoR vo) vh 0 [(0, vR p0)] [] h
  unfold f_X1_lambda_transposeNow_5 at H
  refine zw_aload_n (pc := 0) dX1_lambda_transposeNow_5_0 rfl 0 rfl ?_
  obtain ⟨b1, e3, H⟩ := zbind H
  obtain ⟨e2, e4⟩ := zrv_ok e3
  rcases zbind3 H with ⟨x6, h7, e5, H⟩ | ⟨q8, h9, e5, H⟩
  · refine zw_invV (pc := 1) (M' := M_X3_transposed) (A := []) [] dX1_lambda_transposeNow_5_1 (Or.inl q390) mf_X3_transposed q392 (zkq e4 rfl) (w_X3_transposed e5) (Nat.le_of_ble_eq_true rfl) rfl (by rw [← e2]; rfl) (Nat.le_of_ble_eq_true rfl) (zkv ?_) zkn9
    obtain ⟨rfl, rfl⟩ := Prod.mk.inj (Option.some.inj H)
    exact zw_aret (pc := 4) dX1_lambda_transposeNow_5_4 rfl (Or.inl ⟨_, rfl⟩) rfl rfl
  · refine zw_invV (pc := 1) (M' := M_X3_transposed) (A := []) [] dX1_lambda_transposeNow_5_1 (Or.inl q390) mf_X3_transposed q392 (zkq e4 rfl) (w_X3_transposed e5) (Nat.le_of_ble_eq_true rfl) rfl (by rw [← e2]; rfl) (Nat.le_of_ble_eq_true rfl) zkv0 (zkx ?_)
    rcases zif H with ⟨c10, H⟩ | ⟨c10, H⟩
    · have c10 := c10
      obtain ⟨rfl, rfl⟩ := Prod.mk.inj (Option.some.inj H)
      exact zx_out (zkq c10 rfl) (fun _ hz => nomatch hz) rfl rfl
    cases H
theorem st_14 : zSite 14 ⟨"CsrCalculator$Operation", "result", "()LCsrCalculator$Csr;"⟩ M_X1_lambda_setNow_0 [42, 180, 0, 19, 42, 180, 0, 21, 42, 180, 0, 23, 42, 180, 0, 25, 184, 0, 33, 176] 1 [19, 21, 23, 25] 33 (.object "CsrCalculator$Csr") 0 := ⟨zfchk_14, ⟨_, _, _, _, rfl⟩, by decide +kernel, by decide +kernel, by decide +kernel, by decide +kernel, by decide +kernel, by decide +kernel, by decide, by decide⟩
theorem sd_14 : zfdec ⟨([42, 180, 0, 19, 42, 180, 0, 21, 42, 180, 0, 23, 42, 180, 0, 25, 184, 0, 33, 176] : List UInt8).toArray⟩ [19, 21, 23, 25] [] 16 (.invokestatic 33) .areturn := ⟨by decide +kernel, Or.inl ⟨rfl, by decide⟩, by decide +kernel, by decide +kernel⟩
theorem st_15 : zSite 15 ⟨"CsrCalculator$Operation", "result", "()LCsrCalculator$Csr;"⟩ M_X1_lambda_dropNow_2 [42, 180, 0, 15, 184, 0, 23, 176] 1 [15] 23 (.object "CsrCalculator$Csr") 0 := ⟨zfchk_15, ⟨_, _, _, _, rfl⟩, by decide +kernel, by decide +kernel, by decide +kernel, by decide +kernel, by decide +kernel, by decide +kernel, by decide, by decide⟩
theorem sd_15 : zfdec ⟨([42, 180, 0, 15, 184, 0, 23, 176] : List UInt8).toArray⟩ [15] [] 4 (.invokestatic 23) .areturn := ⟨by decide +kernel, Or.inl ⟨rfl, by decide⟩, by decide +kernel, by decide +kernel⟩
theorem st_16 : zSite 16 ⟨"CsrCalculator$Operation", "result", "()LCsrCalculator$Csr;"⟩ M_X1_lambda_eraseNow_1 [42, 180, 0, 18, 42, 180, 0, 20, 42, 180, 0, 22, 184, 0, 30, 176] 1 [18, 20, 22] 30 (.object "CsrCalculator$Csr") 0 := ⟨zfchk_16, ⟨_, _, _, _, rfl⟩, by decide +kernel, by decide +kernel, by decide +kernel, by decide +kernel, by decide +kernel, by decide +kernel, by decide, by decide⟩
theorem sd_16 : zfdec ⟨([42, 180, 0, 18, 42, 180, 0, 20, 42, 180, 0, 22, 184, 0, 30, 176] : List UInt8).toArray⟩ [18, 20, 22] [] 12 (.invokestatic 30) .areturn := ⟨by decide +kernel, Or.inl ⟨rfl, by decide⟩, by decide +kernel, by decide +kernel⟩
theorem st_19 : zSite 19 ⟨"CsrCalculator$Operation", "result", "()LCsrCalculator$Csr;"⟩ M_X1_lambda_swapNow_3 [42, 180, 0, 18, 42, 180, 0, 20, 42, 180, 0, 22, 184, 0, 30, 176] 1 [18, 20, 22] 30 (.object "CsrCalculator$Csr") 0 := ⟨zfchk_19, ⟨_, _, _, _, rfl⟩, by decide +kernel, by decide +kernel, by decide +kernel, by decide +kernel, by decide +kernel, by decide +kernel, by decide, by decide⟩
theorem sd_19 : zfdec ⟨([42, 180, 0, 18, 42, 180, 0, 20, 42, 180, 0, 22, 184, 0, 30, 176] : List UInt8).toArray⟩ [18, 20, 22] [] 12 (.invokestatic 30) .areturn := ⟨by decide +kernel, Or.inl ⟨rfl, by decide⟩, by decide +kernel, by decide +kernel⟩
theorem st_22 : zSite 22 ⟨"CsrCalculator$Operation", "result", "()LCsrCalculator$Csr;"⟩ M_X1_lambda_scaleNow_4 [42, 180, 0, 17, 42, 180, 0, 19, 184, 0, 27, 176] 1 [17, 19] 27 (.object "CsrCalculator$Csr") 0 := ⟨zfchk_22, ⟨_, _, _, _, rfl⟩, by decide +kernel, by decide +kernel, by decide +kernel, by decide +kernel, by decide +kernel, by decide +kernel, by decide, by decide⟩
theorem sd_22 : zfdec ⟨([42, 180, 0, 17, 42, 180, 0, 19, 184, 0, 27, 176] : List UInt8).toArray⟩ [17, 19] [] 8 (.invokestatic 27) .areturn := ⟨by decide +kernel, Or.inl ⟨rfl, by decide⟩, by decide +kernel, by decide +kernel⟩
theorem st_23 : zSite 23 ⟨"CsrCalculator$Operation", "result", "()LCsrCalculator$Csr;"⟩ M_X1_lambda_transposeNow_5 [42, 180, 0, 15, 184, 0, 23, 176] 1 [15] 23 (.object "CsrCalculator$Csr") 0 := ⟨zfchk_23, ⟨_, _, _, _, rfl⟩, by decide +kernel, by decide +kernel, by decide +kernel, by decide +kernel, by decide +kernel, by decide +kernel, by decide, by decide⟩
theorem sd_23 : zfdec ⟨([42, 180, 0, 15, 184, 0, 23, 176] : List UInt8).toArray⟩ [15] [] 4 (.invokestatic 23) .areturn := ⟨by decide +kernel, Or.inl ⟨rfl, by decide⟩, by decide +kernel, by decide +kernel⟩
theorem st_24 : zSite 24 ⟨"CsrCalculator$Operation", "result", "()LCsrCalculator$Csr;"⟩ M_X1_lambda_addNow_6 [42, 180, 0, 16, 42, 180, 0, 18, 184, 0, 26, 176] 1 [16, 18] 26 (.object "CsrCalculator$Csr") 0 := ⟨zfchk_24, ⟨_, _, _, _, rfl⟩, by decide +kernel, by decide +kernel, by decide +kernel, by decide +kernel, by decide +kernel, by decide +kernel, by decide, by decide⟩
theorem sd_24 : zfdec ⟨([42, 180, 0, 16, 42, 180, 0, 18, 184, 0, 26, 176] : List UInt8).toArray⟩ [16, 18] [] 8 (.invokestatic 26) .areturn := ⟨by decide +kernel, Or.inl ⟨rfl, by decide⟩, by decide +kernel, by decide +kernel⟩
theorem st_25 : zSite 25 ⟨"CsrCalculator$Operation", "result", "()LCsrCalculator$Csr;"⟩ M_X1_lambda_multiplyNow_7 [42, 180, 0, 16, 42, 180, 0, 18, 184, 0, 26, 176] 1 [16, 18] 26 (.object "CsrCalculator$Csr") 0 := ⟨zfchk_25, ⟨_, _, _, _, rfl⟩, by decide +kernel, by decide +kernel, by decide +kernel, by decide +kernel, by decide +kernel, by decide +kernel, by decide, by decide⟩
theorem sd_25 : zfdec ⟨([42, 180, 0, 16, 42, 180, 0, 18, 184, 0, 26, 176] : List UInt8).toArray⟩ [16, 18] [] 8 (.invokestatic 26) .areturn := ⟨by decide +kernel, Or.inl ⟨rfl, by decide⟩, by decide +kernel, by decide +kernel⟩
def fl_Operation (r : Option Nat) (h : zH) : Option ((Option Nat ⊕ Nat) × zH) := r.bind fun b =>
  if zk h b = 84 then
    zb3 (f_X1_lambda_setNow_0 (zr h b 0) (zi h b 1) (zi h b 2) (zi h b 3) h) (fun x h2 => some (.inl x, h2)) (fun q h2 => if zk h2 q = 7 then some (.inr q, h2) else none)
  else if zk h b = 85 then
    zb3 (f_X1_lambda_dropNow_2 (zr h b 0) h) (fun x h2 => some (.inl x, h2)) (fun q h2 => if zk h2 q = 7 then some (.inr q, h2) else none)
  else if zk h b = 86 then
    zb3 (f_X1_lambda_eraseNow_1 (zr h b 0) (zi h b 1) (zi h b 2) h) (fun x h2 => some (.inl x, h2)) (fun q h2 => if zk h2 q = 7 then some (.inr q, h2) else none)
  else if zk h b = 89 then
    zb3 (f_X1_lambda_swapNow_3 (zr h b 0) (zi h b 1) (zi h b 2) h) (fun x h2 => some (.inl x, h2)) (fun q h2 => if zk h2 q = 7 then some (.inr q, h2) else none)
  else if zk h b = 92 then
    zb3 (f_X1_lambda_scaleNow_4 (zr h b 0) (zi h b 1) h) (fun x h2 => some (.inl x, h2)) (fun q h2 => if zk h2 q = 7 then some (.inr q, h2) else none)
  else if zk h b = 93 then
    zb3 (f_X1_lambda_transposeNow_5 (zr h b 0) h) (fun x h2 => some (.inl x, h2)) (fun q h2 => if zk h2 q = 7 then some (.inr q, h2) else none)
  else if zk h b = 94 then
    zb3 (f_X1_lambda_addNow_6 (zr h b 0) (zr h b 1) h) (fun x h2 => some (.inl x, h2)) (fun q h2 => if zk h2 q = 7 then some (.inr q, h2) else none)
  else if zk h b = 95 then
    zb3 (f_X1_lambda_multiplyNow_7 (zr h b 0) (zr h b 1) h) (fun x h2 => some (.inl x, h2)) (fun q h2 => if zk h2 q = 7 then some (.inr q, h2) else none)
  else none
theorem zy_Operation {G : zG} {M : zM} {d : Nat} {h0 h9 h : zH} {o : zO} {pc : Nat} {lv : zL} {idx count : Nat} {r : Option Nat} {vo : Option Nat ⊕ Nat} {h2 : zH} (rest : List zV) (hd : decode M.2.1 pc = .ok (.invokeinterface idx count, 5)) (hl : Cond.methodLink M.1.cls idx ⟨"CsrCalculator$Operation", "result", "()LCsrCalculator$Csr;"⟩ ∈ lw_all) (hdd : 11 ≤ d) (hw : (rest.map zc).sum ≤ 8) (e : fl_Operation r h = some (vo, h2)) (kv : ∀ v, zoR vo = .inl v → zW G M d h0 o h9 (pc + 5) lv (v.toList ++ rest) h2) (kx : ∀ q, zoR vo = .inr q → zX G M d h0 o h9 pc lv q h2) : zW G M d h0 o h9 pc lv (vR r :: rest) h := by
  obtain ⟨b, rfl, e⟩ := zbind e
  rcases zif e with ⟨c, e⟩ | ⟨_, e⟩
  · rcases zbind3 e with ⟨x, h3, e1, e⟩ | ⟨q, h3, e1, e⟩
    · cases e
      exact zw_lamCall (M' := M_X1_lambda_setNow_0) (d' := 9) (A := []) (V := [vR (zr h b 0), vI (zi h b 1), vI (zi h b 2), vI (zi h b 3)]) rest 14 hd hl st_14 sd_14 rfl mf_X1_lambda_setNow_0.1 c rfl (Or.inr (Or.inr (Or.inr ⟨_, x, rfl, rfl, rfl⟩))) (w_X1_lambda_setNow_0 e1) (fun _ hq => nomatch hq) (zfinvS sd_14.2.2.1 mf_X1_lambda_setNow_0 st_14.2.2.2.1 rfl) (Nat.le_trans (Nat.le_of_ble_eq_true rfl) hdd) rfl hw kv kx
    · obtain ⟨c2, e⟩ := zgd e
      cases e
      exact zw_lamCall (M' := M_X1_lambda_setNow_0) (d' := 9) (A := []) (V := [vR (zr h b 0), vI (zi h b 1), vI (zi h b 2), vI (zi h b 3)]) rest 14 hd hl st_14 sd_14 rfl mf_X1_lambda_setNow_0.1 c rfl (Or.inl ⟨q, rfl⟩) (w_X1_lambda_setNow_0 e1) (fun q9 hq => ⟨_, by obtain rfl : q = q9 := Sum.inr.inj hq; exact zkq c2 rfl⟩) (zfinvS sd_14.2.2.1 mf_X1_lambda_setNow_0 st_14.2.2.2.1 rfl) (Nat.le_trans (Nat.le_of_ble_eq_true rfl) hdd) rfl hw kv kx
  rcases zif e with ⟨c, e⟩ | ⟨_, e⟩
  · rcases zbind3 e with ⟨x, h3, e1, e⟩ | ⟨q, h3, e1, e⟩
    · cases e
      exact zw_lamCall (M' := M_X1_lambda_dropNow_2) (d' := 9) (A := []) (V := [vR (zr h b 0)]) rest 15 hd hl st_15 sd_15 rfl mf_X1_lambda_dropNow_2.1 c rfl (Or.inr (Or.inr (Or.inr ⟨_, x, rfl, rfl, rfl⟩))) (w_X1_lambda_dropNow_2 e1) (fun _ hq => nomatch hq) (zfinvS sd_15.2.2.1 mf_X1_lambda_dropNow_2 st_15.2.2.2.1 rfl) (Nat.le_trans (Nat.le_of_ble_eq_true rfl) hdd) rfl hw kv kx
    · obtain ⟨c2, e⟩ := zgd e
      cases e
      exact zw_lamCall (M' := M_X1_lambda_dropNow_2) (d' := 9) (A := []) (V := [vR (zr h b 0)]) rest 15 hd hl st_15 sd_15 rfl mf_X1_lambda_dropNow_2.1 c rfl (Or.inl ⟨q, rfl⟩) (w_X1_lambda_dropNow_2 e1) (fun q9 hq => ⟨_, by obtain rfl : q = q9 := Sum.inr.inj hq; exact zkq c2 rfl⟩) (zfinvS sd_15.2.2.1 mf_X1_lambda_dropNow_2 st_15.2.2.2.1 rfl) (Nat.le_trans (Nat.le_of_ble_eq_true rfl) hdd) rfl hw kv kx
  rcases zif e with ⟨c, e⟩ | ⟨_, e⟩
  · rcases zbind3 e with ⟨x, h3, e1, e⟩ | ⟨q, h3, e1, e⟩
    · cases e
      exact zw_lamCall (M' := M_X1_lambda_eraseNow_1) (d' := 9) (A := []) (V := [vR (zr h b 0), vI (zi h b 1), vI (zi h b 2)]) rest 16 hd hl st_16 sd_16 rfl mf_X1_lambda_eraseNow_1.1 c rfl (Or.inr (Or.inr (Or.inr ⟨_, x, rfl, rfl, rfl⟩))) (w_X1_lambda_eraseNow_1 e1) (fun _ hq => nomatch hq) (zfinvS sd_16.2.2.1 mf_X1_lambda_eraseNow_1 st_16.2.2.2.1 rfl) (Nat.le_trans (Nat.le_of_ble_eq_true rfl) hdd) rfl hw kv kx
    · obtain ⟨c2, e⟩ := zgd e
      cases e
      exact zw_lamCall (M' := M_X1_lambda_eraseNow_1) (d' := 9) (A := []) (V := [vR (zr h b 0), vI (zi h b 1), vI (zi h b 2)]) rest 16 hd hl st_16 sd_16 rfl mf_X1_lambda_eraseNow_1.1 c rfl (Or.inl ⟨q, rfl⟩) (w_X1_lambda_eraseNow_1 e1) (fun q9 hq => ⟨_, by obtain rfl : q = q9 := Sum.inr.inj hq; exact zkq c2 rfl⟩) (zfinvS sd_16.2.2.1 mf_X1_lambda_eraseNow_1 st_16.2.2.2.1 rfl) (Nat.le_trans (Nat.le_of_ble_eq_true rfl) hdd) rfl hw kv kx
  rcases zif e with ⟨c, e⟩ | ⟨_, e⟩
  · rcases zbind3 e with ⟨x, h3, e1, e⟩ | ⟨q, h3, e1, e⟩
    · cases e
      exact zw_lamCall (M' := M_X1_lambda_swapNow_3) (d' := 9) (A := []) (V := [vR (zr h b 0), vI (zi h b 1), vI (zi h b 2)]) rest 19 hd hl st_19 sd_19 rfl mf_X1_lambda_swapNow_3.1 c rfl (Or.inr (Or.inr (Or.inr ⟨_, x, rfl, rfl, rfl⟩))) (w_X1_lambda_swapNow_3 e1) (fun _ hq => nomatch hq) (zfinvS sd_19.2.2.1 mf_X1_lambda_swapNow_3 st_19.2.2.2.1 rfl) (Nat.le_trans (Nat.le_of_ble_eq_true rfl) hdd) rfl hw kv kx
    · obtain ⟨c2, e⟩ := zgd e
      cases e
      exact zw_lamCall (M' := M_X1_lambda_swapNow_3) (d' := 9) (A := []) (V := [vR (zr h b 0), vI (zi h b 1), vI (zi h b 2)]) rest 19 hd hl st_19 sd_19 rfl mf_X1_lambda_swapNow_3.1 c rfl (Or.inl ⟨q, rfl⟩) (w_X1_lambda_swapNow_3 e1) (fun q9 hq => ⟨_, by obtain rfl : q = q9 := Sum.inr.inj hq; exact zkq c2 rfl⟩) (zfinvS sd_19.2.2.1 mf_X1_lambda_swapNow_3 st_19.2.2.2.1 rfl) (Nat.le_trans (Nat.le_of_ble_eq_true rfl) hdd) rfl hw kv kx
  rcases zif e with ⟨c, e⟩ | ⟨_, e⟩
  · rcases zbind3 e with ⟨x, h3, e1, e⟩ | ⟨q, h3, e1, e⟩
    · cases e
      exact zw_lamCall (M' := M_X1_lambda_scaleNow_4) (d' := 9) (A := []) (V := [vR (zr h b 0), vI (zi h b 1)]) rest 22 hd hl st_22 sd_22 rfl mf_X1_lambda_scaleNow_4.1 c rfl (Or.inr (Or.inr (Or.inr ⟨_, x, rfl, rfl, rfl⟩))) (w_X1_lambda_scaleNow_4 e1) (fun _ hq => nomatch hq) (zfinvS sd_22.2.2.1 mf_X1_lambda_scaleNow_4 st_22.2.2.2.1 rfl) (Nat.le_trans (Nat.le_of_ble_eq_true rfl) hdd) rfl hw kv kx
    · obtain ⟨c2, e⟩ := zgd e
      cases e
      exact zw_lamCall (M' := M_X1_lambda_scaleNow_4) (d' := 9) (A := []) (V := [vR (zr h b 0), vI (zi h b 1)]) rest 22 hd hl st_22 sd_22 rfl mf_X1_lambda_scaleNow_4.1 c rfl (Or.inl ⟨q, rfl⟩) (w_X1_lambda_scaleNow_4 e1) (fun q9 hq => ⟨_, by obtain rfl : q = q9 := Sum.inr.inj hq; exact zkq c2 rfl⟩) (zfinvS sd_22.2.2.1 mf_X1_lambda_scaleNow_4 st_22.2.2.2.1 rfl) (Nat.le_trans (Nat.le_of_ble_eq_true rfl) hdd) rfl hw kv kx
  rcases zif e with ⟨c, e⟩ | ⟨_, e⟩
  · rcases zbind3 e with ⟨x, h3, e1, e⟩ | ⟨q, h3, e1, e⟩
    · cases e
      exact zw_lamCall (M' := M_X1_lambda_transposeNow_5) (d' := 9) (A := []) (V := [vR (zr h b 0)]) rest 23 hd hl st_23 sd_23 rfl mf_X1_lambda_transposeNow_5.1 c rfl (Or.inr (Or.inr (Or.inr ⟨_, x, rfl, rfl, rfl⟩))) (w_X1_lambda_transposeNow_5 e1) (fun _ hq => nomatch hq) (zfinvS sd_23.2.2.1 mf_X1_lambda_transposeNow_5 st_23.2.2.2.1 rfl) (Nat.le_trans (Nat.le_of_ble_eq_true rfl) hdd) rfl hw kv kx
    · obtain ⟨c2, e⟩ := zgd e
      cases e
      exact zw_lamCall (M' := M_X1_lambda_transposeNow_5) (d' := 9) (A := []) (V := [vR (zr h b 0)]) rest 23 hd hl st_23 sd_23 rfl mf_X1_lambda_transposeNow_5.1 c rfl (Or.inl ⟨q, rfl⟩) (w_X1_lambda_transposeNow_5 e1) (fun q9 hq => ⟨_, by obtain rfl : q = q9 := Sum.inr.inj hq; exact zkq c2 rfl⟩) (zfinvS sd_23.2.2.1 mf_X1_lambda_transposeNow_5 st_23.2.2.2.1 rfl) (Nat.le_trans (Nat.le_of_ble_eq_true rfl) hdd) rfl hw kv kx
  rcases zif e with ⟨c, e⟩ | ⟨_, e⟩
  · rcases zbind3 e with ⟨x, h3, e1, e⟩ | ⟨q, h3, e1, e⟩
    · cases e
      exact zw_lamCall (M' := M_X1_lambda_addNow_6) (d' := 9) (A := []) (V := [vR (zr h b 0), vR (zr h b 1)]) rest 24 hd hl st_24 sd_24 rfl mf_X1_lambda_addNow_6.1 c rfl (Or.inr (Or.inr (Or.inr ⟨_, x, rfl, rfl, rfl⟩))) (w_X1_lambda_addNow_6 e1) (fun _ hq => nomatch hq) (zfinvS sd_24.2.2.1 mf_X1_lambda_addNow_6 st_24.2.2.2.1 rfl) (Nat.le_trans (Nat.le_of_ble_eq_true rfl) hdd) rfl hw kv kx
    · obtain ⟨c2, e⟩ := zgd e
      cases e
      exact zw_lamCall (M' := M_X1_lambda_addNow_6) (d' := 9) (A := []) (V := [vR (zr h b 0), vR (zr h b 1)]) rest 24 hd hl st_24 sd_24 rfl mf_X1_lambda_addNow_6.1 c rfl (Or.inl ⟨q, rfl⟩) (w_X1_lambda_addNow_6 e1) (fun q9 hq => ⟨_, by obtain rfl : q = q9 := Sum.inr.inj hq; exact zkq c2 rfl⟩) (zfinvS sd_24.2.2.1 mf_X1_lambda_addNow_6 st_24.2.2.2.1 rfl) (Nat.le_trans (Nat.le_of_ble_eq_true rfl) hdd) rfl hw kv kx
  rcases zif e with ⟨c, e⟩ | ⟨_, e⟩
  · rcases zbind3 e with ⟨x, h3, e1, e⟩ | ⟨q, h3, e1, e⟩
    · cases e
      exact zw_lamCall (M' := M_X1_lambda_multiplyNow_7) (d' := 9) (A := []) (V := [vR (zr h b 0), vR (zr h b 1)]) rest 25 hd hl st_25 sd_25 rfl mf_X1_lambda_multiplyNow_7.1 c rfl (Or.inr (Or.inr (Or.inr ⟨_, x, rfl, rfl, rfl⟩))) (w_X1_lambda_multiplyNow_7 e1) (fun _ hq => nomatch hq) (zfinvS sd_25.2.2.1 mf_X1_lambda_multiplyNow_7 st_25.2.2.2.1 rfl) (Nat.le_trans (Nat.le_of_ble_eq_true rfl) hdd) rfl hw kv kx
    · obtain ⟨c2, e⟩ := zgd e
      cases e
      exact zw_lamCall (M' := M_X1_lambda_multiplyNow_7) (d' := 9) (A := []) (V := [vR (zr h b 0), vR (zr h b 1)]) rest 25 hd hl st_25 sd_25 rfl mf_X1_lambda_multiplyNow_7.1 c rfl (Or.inl ⟨q, rfl⟩) (w_X1_lambda_multiplyNow_7 e1) (fun q9 hq => ⟨_, by obtain rfl : q = q9 := Sum.inr.inj hq; exact zkq c2 rfl⟩) (zfinvS sd_25.2.2.1 mf_X1_lambda_multiplyNow_7 st_25.2.2.2.1 rfl) (Nat.le_trans (Nat.le_of_ble_eq_true rfl) hdd) rfl hw kv kx
  cases e
def M_X1_of : zM := (yX1_of, cX1_of, 2, (.some (.object "CsrCalculator$Csr")), [(0, 6, 7, 288)])
theorem mf_X1_of : zMs M_X1_of 1 := ⟨⟨q1612, q180, ⟨by decide +kernel, by decide +kernel⟩, by decide +kernel, by decide⟩, q1611⟩
def f_X1_of (p0 : Option Nat) (h : zH) : Option ((Option Nat ⊕ Nat) × zH) :=
  zb3 (fl_Operation p0 h) (fun x2 h3 =>
  some (.inl x2, h3))
  (fun q4 h5 =>
  if zk h5 q4 = 7 then
  zb2 (zmk 22 h5) fun q7 h8 =>
  (some q7).bind fun q10 =>
  if zk h8 q10 = 22 then
  some (.inr q10, h8)
  else none
  else none)
theorem w_X1_of {G : zG} {p0 : Option Nat} {h : zH} {vo : Option Nat ⊕ Nat} {vh : zH} (H : f_X1_of p0 h = some (vo, vh)) : zMet G M_X1_of 11 [vR p0] h (zoR vo) vh := by
  refine zMet.of (by decide +kernel) (Nat.le_of_ble_eq_true rfl) ?_
  show zW G M_X1_of 11 h (zoR vo) vh 0 [(0, vR p0)] [] h
  unfold f_X1_of at H
  refine zw_aload_n (pc := 0) dX1_of_0 rfl 0 rfl ?_
  rcases zbind3 H with ⟨x2, h3, e1, H⟩ | ⟨q4, h5, e1, H⟩
  · refine zy_Operation (pc := 1) [] dX1_of_1 q1614 (Nat.le_of_ble_eq_true rfl) (Nat.le_of_ble_eq_true rfl) e1 (zkv ?_) zkn9
    obtain ⟨rfl, rfl⟩ := Prod.mk.inj (Option.some.inj H)
    exact zw_aret (pc := 6) dX1_of_6 rfl (Or.inl ⟨_, rfl⟩) rfl rfl
  · refine zy_Operation (pc := 1) [] dX1_of_1 q1614 (Nat.le_of_ble_eq_true rfl) (Nat.le_of_ble_eq_true rfl) e1 zkv0 (zkx ?_)
    rcases zif H with ⟨c6, H⟩ | ⟨c6, H⟩
    · have c6 := c6
      refine zx_catch [] ⟨0, 6, 7, 288⟩ [] (zkq c6 rfl) rfl (fun _ hz => nomatch hz) rfl (by decide) q389 (by decide +kernel) ?_
      refine zw_astore_n (pc := 7) (lv' := [(1, vR (some q4)), (0, vR p0)]) dX1_of_7 rfl (by decide) rfl ?_
      obtain ⟨q7, h8, e9, H⟩ := zbind2 H
      refine zy_make0 (pc := 8) rfl (Or.inr (Or.inr ⟨rfl, rfl, rfl⟩)) dX1_of_8 dX1_of_11 dX1_of_12 (Nat.le_of_ble_eq_true rfl) (Nat.le_of_ble_eq_true rfl) e9 ?_
      obtain ⟨q10, e11, H⟩ := zbind H
      refine zy_athrow (pc := 15) dX1_of_15 e11 ?_
      rcases zif H with ⟨c12, H⟩ | ⟨c12, H⟩
      · have c12 := c12
        obtain ⟨rfl, rfl⟩ := Prod.mk.inj (Option.some.inj H)
        exact zx_out (zkq c12 rfl) (List.forall_mem_cons.mpr ⟨Or.inl rfl, (fun _ hz => nomatch hz)⟩) rfl rfl
      cases H
    cases H
theorem lm_15 : zLm yX1_dropNow 16 366 15 := ⟨_, rfl, rfl, by decide, by decide +kernel⟩
def M_X1_dropNow : zM := (yX1_dropNow, cX1_dropNow, 3, (.some .int), [])
theorem mf_X1_dropNow : zMi M_X1_dropNow 1 := ⟨⟨q1627, q180, ⟨by decide +kernel, by decide +kernel⟩, by decide +kernel, by decide⟩, q1626⟩
def f_X1_dropNow (p0 : Option Nat) (p1 : Int32) (h : zH) : Option ((Int32 ⊕ Nat) × zH) :=
  (zrv 1 p0 h).bind fun b1 =>
  zb3 (f_X1_matrix (some b1) p1 h) (fun x6 h7 =>
  (zrv 3 x6 h7).bind fun b10 =>
  (f_X3_stored (some b10) h7).bind fun x15 =>
  (zgR 1 5 p0 h7).bind fun x16 =>
  zb2 (zlm 15 [vR x6] h7) fun q18 h19 =>
  zb3 (f_X1_of (some q18) h19) (fun x22 h23 =>
  (zrv 2 x16 h23).bind fun b26 =>
  zb2 (f_X2_put (some b26) p1 x22 h23) fun x32 h31 =>
  some (.inl (x15 - x32), h31))
  (fun q24 h25 =>
  if zk h25 q24 = 22 then
  some (.inr q24, h25)
  else none))
  (fun q8 h9 =>
  if zk h9 q8 = 20 then
  some (.inr q8, h9)
  else none)
theorem w_X1_dropNow {G : zG} {p0 : Option Nat} {p1 : Int32} {h : zH} {vo : Int32 ⊕ Nat} {vh : zH} (H : f_X1_dropNow p0 p1 h = some (vo, vh)) : zMet G M_X1_dropNow 12 [vR p0, vI p1] h (zoI vo) vh := by
  refine zMet.of (by decide +kernel) (Nat.le_of_ble_eq_true rfl) ?_
  show zW G M_X1_dropNow 12 h (zoI vo) vh 0 [(0, vR p0), (1, vI p1)] [] h
  unfold f_X1_dropNow at H
  refine zw_aload_n (pc := 0) dX1_dropNow_0 rfl 0 rfl ?_
  refine zw_iload_n (pc := 1) dX1_dropNow_1 rfl 1 rfl ?_
  obtain ⟨b1, e3, H⟩ := zbind H
  obtain ⟨e2, e4⟩ := zrv_ok e3
  rcases zbind3 H with ⟨x6, h7, e5, H⟩ | ⟨q8, h9, e5, H⟩
  · refine zw_invV (pc := 2) (M' := M_X1_matrix) (A := [vI p1]) [] dX1_dropNow_2 (Or.inl q1567) mf_X1_matrix ls_X1_matrix (zkq e4 rfl) (w_X1_matrix e5) (Nat.le_of_ble_eq_true rfl) rfl (by rw [← e2]; rfl) (Nat.le_of_ble_eq_true rfl) (zkv ?_) zkn9
    refine zw_astore_n (pc := 5) (lv' := [(2, vR x6), (0, vR p0), (1, vI p1)]) dX1_dropNow_5 rfl (by decide) rfl ?_
    refine zw_aload_n (pc := 6) dX1_dropNow_6 rfl 0 rfl ?_
    obtain ⟨b10, e12, H⟩ := zbind H
    obtain ⟨e11, e13⟩ := zrv_ok e12
    obtain ⟨x15, e14, H⟩ := zbind H
    refine zw_invV (pc := 7) (M' := M_X3_stored) (A := []) [] dX1_dropNow_7 (Or.inl q1623) mf_X3_stored q510 (zkq e13 rfl) (w_X3_stored e14) (Nat.le_of_ble_eq_true rfl) rfl (by rw [← e11]; rfl) (Nat.le_of_ble_eq_true rfl) (zkv ?_) zkn9
    refine zw_aload_n (pc := 10) dX1_dropNow_10 rfl 1 rfl ?_
    obtain ⟨x16, e17, H⟩ := zbind H
    refine zy_getR (pc := 11) dX1_dropNow_11 lf_X1_120 (fun _ _ => rfl) e17 ?_
    refine zw_iload_n (pc := 14) dX1_dropNow_14 rfl 2 rfl ?_
    refine zw_aload_n (pc := 15) dX1_dropNow_15 rfl 0 rfl ?_
    obtain ⟨q18, h19, e20, H⟩ := zbind2 H
    refine zy_lam (pc := 16) (i := 15) (A := [vR x6]) [vI p1, vR x16, vI x15] dX1_dropNow_16 lm_15 (show zokL (zLc 15) [vR x6] from (zokL_ref zokL_nil)) rfl (Nat.le_of_ble_eq_true rfl) e20 ?_
    rcases zbind3 H with ⟨x22, h23, e21, H⟩ | ⟨q24, h25, e21, H⟩
    · refine zw_invS (pc := 21) (M' := M_X1_of) (A := [vR (some q18)]) [vI p1, vR x16, vI x15] dX1_dropNow_21 (Or.inl q1610) mf_X1_of (w_X1_of e21) (Nat.le_of_ble_eq_true rfl) rfl rfl (Nat.le_of_ble_eq_true rfl) (zkv ?_) zkn9
      obtain ⟨b26, e28, H⟩ := zbind H
      obtain ⟨e27, e29⟩ := zrv_ok e28
      obtain ⟨x32, h31, e30, H⟩ := zbind2 H
      refine zw_invV (pc := 24) (M' := M_X2_put) (A := [vI p1, vR x22]) [vI x15] dX1_dropNow_24 (Or.inl q1592) mf_X2_put q1095 (zkq e29 rfl) (w_X2_put e30) (Nat.le_of_ble_eq_true rfl) rfl (by rw [← e27]; rfl) (Nat.le_of_ble_eq_true rfl) (zkv ?_) zkn9
      refine zw_isub (pc := 27) dX1_dropNow_27 ?_
      obtain ⟨rfl, rfl⟩ := Prod.mk.inj (Option.some.inj H)
      exact zw_iret (pc := 28) dX1_dropNow_28 rfl rfl rfl
    · refine zw_invS (pc := 21) (M' := M_X1_of) (A := [vR (some q18)]) [vI p1, vR x16, vI x15] dX1_dropNow_21 (Or.inl q1610) mf_X1_of (w_X1_of e21) (Nat.le_of_ble_eq_true rfl) rfl rfl (Nat.le_of_ble_eq_true rfl) zkv0 (zkx ?_)
      rcases zif H with ⟨c33, H⟩ | ⟨c33, H⟩
      · have c33 := c33
        obtain ⟨rfl, rfl⟩ := Prod.mk.inj (Option.some.inj H)
        exact zx_out (zkq c33 rfl) (fun _ hz => nomatch hz) rfl rfl
      cases H
  · refine zw_invV (pc := 2) (M' := M_X1_matrix) (A := [vI p1]) [] dX1_dropNow_2 (Or.inl q1567) mf_X1_matrix ls_X1_matrix (zkq e4 rfl) (w_X1_matrix e5) (Nat.le_of_ble_eq_true rfl) rfl (by rw [← e2]; rfl) (Nat.le_of_ble_eq_true rfl) zkv0 (zkx ?_)
    rcases zif H with ⟨c34, H⟩ | ⟨c34, H⟩
    · have c34 := c34
      obtain ⟨rfl, rfl⟩ := Prod.mk.inj (Option.some.inj H)
      exact zx_out (zkq c34 rfl) (fun _ hz => nomatch hz) rfl rfl
    cases H
def M_X1_matrixWithRow : zM := (yX1_matrixWithRow, cX1_matrixWithRow, 4, (.some (.object "CsrCalculator$Csr")), [])
theorem mf_X1_matrixWithRow : zMi M_X1_matrixWithRow 2 := ⟨⟨q1604, q180, ⟨by decide +kernel, by decide +kernel⟩, by decide +kernel, by decide⟩, q1603⟩
def f_X1_matrixWithRow (p0 : Option Nat) (p1 : Int32) (p2 : Int32) (h : zH) : Option ((Option Nat ⊕ Nat) × zH) :=
  (zrv 1 p0 h).bind fun b1 =>
  zb3 (f_X1_matrix (some b1) p1 h) (fun x6 h7 =>
  (zgI 3 0 x6 h7).bind fun x10 =>
  (f_X1_isIn p2.toInt64 (0 : Int64) (x10 - (1 : Int32)).toInt64 h7).bind fun x13 =>
  zb3 (f_X1_index x13 h7) (fun _ h16 =>
  some (.inl x6, h16))
  (fun q17 h18 =>
  if zk h18 q17 = 20 then
  some (.inr q17, h18)
  else none))
  (fun q8 h9 =>
  if zk h9 q8 = 20 then
  some (.inr q8, h9)
  else none)
theorem w_X1_matrixWithRow {G : zG} {p0 : Option Nat} {p1 : Int32} {p2 : Int32} {h : zH} {vo : Option Nat ⊕ Nat} {vh : zH} (H : f_X1_matrixWithRow p0 p1 p2 h = some (vo, vh)) : zMet G M_X1_matrixWithRow 8 [vR p0, vI p1, vI p2] h (zoR vo) vh := by
  refine zMet.of (by decide +kernel) (Nat.le_of_ble_eq_true rfl) ?_
  show zW G M_X1_matrixWithRow 8 h (zoR vo) vh 0 [(0, vR p0), (1, vI p1), (2, vI p2)] [] h
  unfold f_X1_matrixWithRow at H
  refine zw_aload_n (pc := 0) dX1_matrixWithRow_0 rfl 0 rfl ?_
  refine zw_iload_n (pc := 1) dX1_matrixWithRow_1 rfl 1 rfl ?_
  obtain ⟨b1, e3, H⟩ := zbind H
  obtain ⟨e2, e4⟩ := zrv_ok e3
  rcases zbind3 H with ⟨x6, h7, e5, H⟩ | ⟨q8, h9, e5, H⟩
  · refine zw_invV (pc := 2) (M' := M_X1_matrix) (A := [vI p1]) [] dX1_matrixWithRow_2 (Or.inl q1567) mf_X1_matrix ls_X1_matrix (zkq e4 rfl) (w_X1_matrix e5) (Nat.le_of_ble_eq_true rfl) rfl (by rw [← e2]; rfl) (Nat.le_of_ble_eq_true rfl) (zkv ?_) zkn9
    refine zw_astore_n (pc := 5) (lv' := [(3, vR x6), (0, vR p0), (1, vI p1), (2, vI p2)]) dX1_matrixWithRow_5 rfl (by decide) rfl ?_
    refine zw_iload_n (pc := 6) dX1_matrixWithRow_6 rfl 3 rfl ?_
    refine zw_i2l (pc := 7) dX1_matrixWithRow_7 ?_
    refine zw_lconst (pc := 8) (v := (0 : Int64)) dX1_matrixWithRow_8 (by decide) ?_
    refine zw_aload_n (pc := 9) dX1_matrixWithRow_9 rfl 0 rfl ?_
    obtain ⟨x10, e11, H⟩ := zbind H
    refine zy_getI (pc := 10) dX1_matrixWithRow_10 lf_X1_158 (fun _ _ => rfl) e11 ?_
    refine zw_iconst (pc := 13) (v := (1 : Int32)) dX1_matrixWithRow_13 (by decide) ?_
    refine zw_isub (pc := 14) dX1_matrixWithRow_14 ?_
    refine zw_i2l (pc := 15) dX1_matrixWithRow_15 ?_
    obtain ⟨x13, e12, H⟩ := zbind H
    refine zw_invS (pc := 16) (M' := M_X1_isIn) (A := [vJ p2.toInt64, vJ (0 : Int64), vJ (x10 - (1 : Int32)).toInt64]) [] dX1_matrixWithRow_16 (Or.inl q603) mf_X1_isIn (w_X1_isIn e12) (Nat.le_of_ble_eq_true rfl) rfl rfl (Nat.le_of_ble_eq_true rfl) (zkv ?_) zkn9
    rcases zbind3 H with ⟨x15, h16, e14, H⟩ | ⟨q17, h18, e14, H⟩
    · refine zw_invS (pc := 19) (M' := M_X1_index) (A := [vI x13]) [] dX1_matrixWithRow_19 (Or.inl q1572) mf_X1_index (w_X1_index e14) (Nat.le_of_ble_eq_true rfl) rfl rfl (Nat.le_of_ble_eq_true rfl) (zku ?_) zkn9
      refine zw_aload_n (pc := 22) dX1_matrixWithRow_22 rfl 0 rfl ?_
      obtain ⟨rfl, rfl⟩ := Prod.mk.inj (Option.some.inj H)
      exact zw_aret (pc := 23) dX1_matrixWithRow_23 rfl (Or.inl ⟨_, rfl⟩) rfl rfl
    · refine zw_invS (pc := 19) (M' := M_X1_index) (A := [vI x13]) [] dX1_matrixWithRow_19 (Or.inl q1572) mf_X1_index (w_X1_index e14) (Nat.le_of_ble_eq_true rfl) rfl rfl (Nat.le_of_ble_eq_true rfl) zkv0 (zkx ?_)
      rcases zif H with ⟨c19, H⟩ | ⟨c19, H⟩
      · have c19 := c19
        obtain ⟨rfl, rfl⟩ := Prod.mk.inj (Option.some.inj H)
        exact zx_out (zkq c19 rfl) (fun _ hz => nomatch hz) rfl rfl
      cases H
  · refine zw_invV (pc := 2) (M' := M_X1_matrix) (A := [vI p1]) [] dX1_matrixWithRow_2 (Or.inl q1567) mf_X1_matrix ls_X1_matrix (zkq e4 rfl) (w_X1_matrix e5) (Nat.le_of_ble_eq_true rfl) rfl (by rw [← e2]; rfl) (Nat.le_of_ble_eq_true rfl) zkv0 (zkx ?_)
    rcases zif H with ⟨c20, H⟩ | ⟨c20, H⟩
    · have c20 := c20
      obtain ⟨rfl, rfl⟩ := Prod.mk.inj (Option.some.inj H)
      exact zx_out (zkq c20 rfl) (fun _ hz => nomatch hz) rfl rfl
    cases H
theorem ls_X1_matrixWithRow : Cond.selects yX1_matrixWithRow.cls yX1_matrixWithRow yX1_matrixWithRow ∈ lw_all := lw_g (lw_ms _ (List.mem_of_getElem? (i := 52) rfl)) rfl
def M_X1_matrixWith : zM := (yX1_matrixWith, cX1_matrixWith, 5, (.some (.object "CsrCalculator$Csr")), [])
theorem mf_X1_matrixWith : zMi M_X1_matrixWith 3 := ⟨⟨q1600, q180, ⟨by decide +kernel, by decide +kernel⟩, by decide +kernel, by decide⟩, q1599⟩
def f_X1_matrixWith (p0 : Option Nat) (p1 : Int32) (p2 : Int32) (p3 : Int32) (h : zH) : Option ((Option Nat ⊕ Nat) × zH) :=
  (zrv 1 p0 h).bind fun b1 =>
  zb3 (f_X1_matrixWithRow (some b1) p1 p2 h) (fun x6 h7 =>
  (zgI 3 1 x6 h7).bind fun x10 =>
  (f_X1_isIn p3.toInt64 (0 : Int64) (x10 - (1 : Int32)).toInt64 h7).bind fun x13 =>
  zb3 (f_X1_index x13 h7) (fun _ h16 =>
  some (.inl x6, h16))
  (fun q17 h18 =>
  if zk h18 q17 = 20 then
  some (.inr q17, h18)
  else none))
  (fun q8 h9 =>
  if zk h9 q8 = 20 then
  some (.inr q8, h9)
  else none)
theorem w_X1_matrixWith {G : zG} {p0 : Option Nat} {p1 : Int32} {p2 : Int32} {p3 : Int32} {h : zH} {vo : Option Nat ⊕ Nat} {vh : zH} (H : f_X1_matrixWith p0 p1 p2 p3 h = some (vo, vh)) : zMet G M_X1_matrixWith 9 [vR p0, vI p1, vI p2, vI p3] h (zoR vo) vh := by
  refine zMet.of (by decide +kernel) (Nat.le_of_ble_eq_true rfl) ?_
  show zW G M_X1_matrixWith 9 h (zoR vo) vh 0 [(0, vR p0), (1, vI p1), (2, vI p2), (3, vI p3)] [] h
  unfold f_X1_matrixWith at H
  refine zw_aload_n (pc := 0) dX1_matrixWith_0 rfl 0 rfl ?_
  refine zw_iload_n (pc := 1) dX1_matrixWith_1 rfl 1 rfl ?_
  refine zw_iload_n (pc := 2) dX1_matrixWith_2 rfl 2 rfl ?_
  obtain ⟨b1, e3, H⟩ := zbind H
  obtain ⟨e2, e4⟩ := zrv_ok e3
  rcases zbind3 H with ⟨x6, h7, e5, H⟩ | ⟨q8, h9, e5, H⟩
  · refine zw_invV (pc := 3) (M' := M_X1_matrixWithRow) (A := [vI p1, vI p2]) [] dX1_matrixWith_3 (Or.inl q1601) mf_X1_matrixWithRow ls_X1_matrixWithRow (zkq e4 rfl) (w_X1_matrixWithRow e5) (Nat.le_of_ble_eq_true rfl) rfl (by rw [← e2]; rfl) (Nat.le_of_ble_eq_true rfl) (zkv ?_) zkn9
    refine zw_astore (pc := 6) (lv' := [(4, vR x6), (0, vR p0), (1, vI p1), (2, vI p2), (3, vI p3)]) dX1_matrixWith_6 (by decide) rfl ?_
    refine zw_iload_n (pc := 8) dX1_matrixWith_8 rfl 4 rfl ?_
    refine zw_i2l (pc := 9) dX1_matrixWith_9 ?_
    refine zw_lconst (pc := 10) (v := (0 : Int64)) dX1_matrixWith_10 (by decide) ?_
    refine zw_aload (pc := 11) dX1_matrixWith_11 0 rfl ?_
    obtain ⟨x10, e11, H⟩ := zbind H
    refine zy_getI (pc := 13) dX1_matrixWith_13 lf_X1_167 (fun _ _ => rfl) e11 ?_
    refine zw_iconst (pc := 16) (v := (1 : Int32)) dX1_matrixWith_16 (by decide) ?_
    refine zw_isub (pc := 17) dX1_matrixWith_17 ?_
    refine zw_i2l (pc := 18) dX1_matrixWith_18 ?_
    obtain ⟨x13, e12, H⟩ := zbind H
    refine zw_invS (pc := 19) (M' := M_X1_isIn) (A := [vJ p3.toInt64, vJ (0 : Int64), vJ (x10 - (1 : Int32)).toInt64]) [] dX1_matrixWith_19 (Or.inl q603) mf_X1_isIn (w_X1_isIn e12) (Nat.le_of_ble_eq_true rfl) rfl rfl (Nat.le_of_ble_eq_true rfl) (zkv ?_) zkn9
    rcases zbind3 H with ⟨x15, h16, e14, H⟩ | ⟨q17, h18, e14, H⟩
    · refine zw_invS (pc := 22) (M' := M_X1_index) (A := [vI x13]) [] dX1_matrixWith_22 (Or.inl q1572) mf_X1_index (w_X1_index e14) (Nat.le_of_ble_eq_true rfl) rfl rfl (Nat.le_of_ble_eq_true rfl) (zku ?_) zkn9
      refine zw_aload (pc := 25) dX1_matrixWith_25 0 rfl ?_
      obtain ⟨rfl, rfl⟩ := Prod.mk.inj (Option.some.inj H)
      exact zw_aret (pc := 27) dX1_matrixWith_27 rfl (Or.inl ⟨_, rfl⟩) rfl rfl
    · refine zw_invS (pc := 22) (M' := M_X1_index) (A := [vI x13]) [] dX1_matrixWith_22 (Or.inl q1572) mf_X1_index (w_X1_index e14) (Nat.le_of_ble_eq_true rfl) rfl rfl (Nat.le_of_ble_eq_true rfl) zkv0 (zkx ?_)
      rcases zif H with ⟨c19, H⟩ | ⟨c19, H⟩
      · have c19 := c19
        obtain ⟨rfl, rfl⟩ := Prod.mk.inj (Option.some.inj H)
        exact zx_out (zkq c19 rfl) (fun _ hz => nomatch hz) rfl rfl
      cases H
  · refine zw_invV (pc := 3) (M' := M_X1_matrixWithRow) (A := [vI p1, vI p2]) [] dX1_matrixWith_3 (Or.inl q1601) mf_X1_matrixWithRow ls_X1_matrixWithRow (zkq e4 rfl) (w_X1_matrixWithRow e5) (Nat.le_of_ble_eq_true rfl) rfl (by rw [← e2]; rfl) (Nat.le_of_ble_eq_true rfl) zkv0 (zkx ?_)
    rcases zif H with ⟨c20, H⟩ | ⟨c20, H⟩
    · have c20 := c20
      obtain ⟨rfl, rfl⟩ := Prod.mk.inj (Option.some.inj H)
      exact zx_out (zkq c20 rfl) (fun _ hz => nomatch hz) rfl rfl
    cases H
theorem ls_X1_matrixWith : Cond.selects yX1_matrixWith.cls yX1_matrixWith yX1_matrixWith ∈ lw_all := lw_g (lw_ms _ (List.mem_of_getElem? (i := 51) rfl)) rfl
theorem lm_16 : zLm yX1_eraseNow 28 363 16 := ⟨_, rfl, rfl, by decide, by decide +kernel⟩
def M_X1_eraseNow : zM := (yX1_eraseNow, cX1_eraseNow, 6, (.some .int), [])
theorem mf_X1_eraseNow : zMi M_X1_eraseNow 3 := ⟨⟨q1634, q180, ⟨by decide +kernel, by decide +kernel⟩, by decide +kernel, by decide⟩, q1633⟩
def f_X1_eraseNow (p0 : Option Nat) (p1 : Int32) (p2 : Int32) (p3 : Int32) (h : zH) : Option ((Int32 ⊕ Nat) × zH) :=
  (zrv 1 p0 h).bind fun b1 =>
  zb3 (f_X1_matrixWith (some b1) p1 p2 p3 h) (fun x6 h7 =>
  (zrv 3 x6 h7).bind fun b10 =>
  (f_X3_stores (some b10) p2 p3 h7).bind fun x15 =>
  zb3 (f_X1_may x15 h7) (fun _ h18 =>
  (zgR 1 5 p0 h18).bind fun x21 =>
  zb2 (zlm 16 [vR x6, vI p2, vI p3] h18) fun q23 h24 =>
  zb3 (f_X1_of (some q23) h24) (fun x27 h28 =>
  (zrv 2 x21 h28).bind fun b31 =>
  zb2 (f_X2_put (some b31) p1 x27 h28) fun x37 h36 =>
  (zrv 3 x6 h36).bind fun b38 =>
  (f_X3_value (some b38) p2 p3 h36).bind fun x43 =>
  some (.inl x43, h36))
  (fun q29 h30 =>
  if zk h30 q29 = 22 then
  some (.inr q29, h30)
  else none))
  (fun q19 h20 =>
  if zk h20 q19 = 22 then
  some (.inr q19, h20)
  else none))
  (fun q8 h9 =>
  if zk h9 q8 = 20 then
  some (.inr q8, h9)
  else none)
theorem w_X1_eraseNow {G : zG} {p0 : Option Nat} {p1 : Int32} {p2 : Int32} {p3 : Int32} {h : zH} {vo : Int32 ⊕ Nat} {vh : zH} (H : f_X1_eraseNow p0 p1 p2 p3 h = some (vo, vh)) : zMet G M_X1_eraseNow 12 [vR p0, vI p1, vI p2, vI p3] h (zoI vo) vh := by
  refine zMet.of (by decide +kernel) (Nat.le_of_ble_eq_true rfl) ?_
  show zW G M_X1_eraseNow 12 h (zoI vo) vh 0 [(0, vR p0), (1, vI p1), (2, vI p2), (3, vI p3)] [] h
  unfold f_X1_eraseNow at H
  refine zw_aload_n (pc := 0) dX1_eraseNow_0 rfl 0 rfl ?_
  refine zw_iload_n (pc := 1) dX1_eraseNow_1 rfl 1 rfl ?_
  refine zw_iload_n (pc := 2) dX1_eraseNow_2 rfl 2 rfl ?_
  refine zw_iload_n (pc := 3) dX1_eraseNow_3 rfl 3 rfl ?_
  obtain ⟨b1, e3, H⟩ := zbind H
  obtain ⟨e2, e4⟩ := zrv_ok e3
  rcases zbind3 H with ⟨x6, h7, e5, H⟩ | ⟨q8, h9, e5, H⟩
  · refine zw_invV (pc := 4) (M' := M_X1_matrixWith) (A := [vI p1, vI p2, vI p3]) [] dX1_eraseNow_4 (Or.inl q1597) mf_X1_matrixWith ls_X1_matrixWith (zkq e4 rfl) (w_X1_matrixWith e5) (Nat.le_of_ble_eq_true rfl) rfl (by rw [← e2]; rfl) (Nat.le_of_ble_eq_true rfl) (zkv ?_) zkn9
    refine zw_astore (pc := 7) (lv' := [(4, vR x6), (0, vR p0), (1, vI p1), (2, vI p2), (3, vI p3)]) dX1_eraseNow_7 (by decide) rfl ?_
    refine zw_aload (pc := 9) dX1_eraseNow_9 0 rfl ?_
    refine zw_iload_n (pc := 11) dX1_eraseNow_11 rfl 3 rfl ?_
    refine zw_iload_n (pc := 12) dX1_eraseNow_12 rfl 4 rfl ?_
    obtain ⟨b10, e12, H⟩ := zbind H
    obtain ⟨e11, e13⟩ := zrv_ok e12
    obtain ⟨x15, e14, H⟩ := zbind H
    refine zw_invV (pc := 13) (M' := M_X3_stores) (A := [vI p2, vI p3]) [] dX1_eraseNow_13 (Or.inl q1635) mf_X3_stores q399 (zkq e13 rfl) (w_X3_stores e14) (Nat.le_of_ble_eq_true rfl) rfl (by rw [← e11]; rfl) (Nat.le_of_ble_eq_true rfl) (zkv ?_) zkn9
    rcases zbind3 H with ⟨x17, h18, e16, H⟩ | ⟨q19, h20, e16, H⟩
    · refine zw_invS (pc := 16) (M' := M_X1_may) (A := [vI x15]) [] dX1_eraseNow_16 (Or.inl q565) mf_X1_may (w_X1_may e16) (Nat.le_of_ble_eq_true rfl) rfl rfl (Nat.le_of_ble_eq_true rfl) (zku ?_) zkn9
      refine zw_aload_n (pc := 19) dX1_eraseNow_19 rfl 1 rfl ?_
      obtain ⟨x21, e22, H⟩ := zbind H
      refine zy_getR (pc := 20) dX1_eraseNow_20 lf_X1_120 (fun _ _ => rfl) e22 ?_
      refine zw_iload_n (pc := 23) dX1_eraseNow_23 rfl 2 rfl ?_
      refine zw_aload (pc := 24) dX1_eraseNow_24 0 rfl ?_
      refine zw_iload_n (pc := 26) dX1_eraseNow_26 rfl 3 rfl ?_
      refine zw_iload_n (pc := 27) dX1_eraseNow_27 rfl 4 rfl ?_
      obtain ⟨q23, h24, e25, H⟩ := zbind2 H
      refine zy_lam (pc := 28) (i := 16) (A := [vR x6, vI p2, vI p3]) [vI p1, vR x21] dX1_eraseNow_28 lm_16 (show zokL (zLc 16) [vR x6, vI p2, vI p3] from (zokL_ref (zokL_int (zokL_int zokL_nil)))) rfl (Nat.le_of_ble_eq_true rfl) e25 ?_
      rcases zbind3 H with ⟨x27, h28, e26, H⟩ | ⟨q29, h30, e26, H⟩
      · refine zw_invS (pc := 33) (M' := M_X1_of) (A := [vR (some q23)]) [vI p1, vR x21] dX1_eraseNow_33 (Or.inl q1610) mf_X1_of (w_X1_of e26) (Nat.le_of_ble_eq_true rfl) rfl rfl (Nat.le_of_ble_eq_true rfl) (zkv ?_) zkn9
        obtain ⟨b31, e33, H⟩ := zbind H
        obtain ⟨e32, e34⟩ := zrv_ok e33
        obtain ⟨x37, h36, e35, H⟩ := zbind2 H
        refine zw_invV (pc := 36) (M' := M_X2_put) (A := [vI p1, vR x27]) [] dX1_eraseNow_36 (Or.inl q1592) mf_X2_put q1095 (zkq e34 rfl) (w_X2_put e35) (Nat.le_of_ble_eq_true rfl) rfl (by rw [← e32]; rfl) (Nat.le_of_ble_eq_true rfl) (zkv ?_) zkn9
        refine zw_istore (pc := 39) (lv' := [(5, vI x37), (4, vR x6), (0, vR p0), (1, vI p1), (2, vI p2), (3, vI p3)]) dX1_eraseNow_39 (by decide) rfl ?_
        refine zw_aload (pc := 41) dX1_eraseNow_41 1 rfl ?_
        refine zw_iload_n (pc := 43) dX1_eraseNow_43 rfl 4 rfl ?_
        refine zw_iload_n (pc := 44) dX1_eraseNow_44 rfl 5 rfl ?_
        obtain ⟨b38, e40, H⟩ := zbind H
        obtain ⟨e39, e41⟩ := zrv_ok e40
        obtain ⟨x43, e42, H⟩ := zbind H
        refine zw_invV (pc := 45) (M' := M_X3_value) (A := [vI p2, vI p3]) [] dX1_eraseNow_45 (Or.inl q1648) mf_X3_value q410 (zkq e41 rfl) (w_X3_value e42) (Nat.le_of_ble_eq_true rfl) rfl (by rw [← e39]; rfl) (Nat.le_of_ble_eq_true rfl) (zkv ?_) zkn9
        obtain ⟨rfl, rfl⟩ := Prod.mk.inj (Option.some.inj H)
        exact zw_iret (pc := 48) dX1_eraseNow_48 rfl rfl rfl
      · refine zw_invS (pc := 33) (M' := M_X1_of) (A := [vR (some q23)]) [vI p1, vR x21] dX1_eraseNow_33 (Or.inl q1610) mf_X1_of (w_X1_of e26) (Nat.le_of_ble_eq_true rfl) rfl rfl (Nat.le_of_ble_eq_true rfl) zkv0 (zkx ?_)
        rcases zif H with ⟨c44, H⟩ | ⟨c44, H⟩
        · have c44 := c44
          obtain ⟨rfl, rfl⟩ := Prod.mk.inj (Option.some.inj H)
          exact zx_out (zkq c44 rfl) (fun _ hz => nomatch hz) rfl rfl
        cases H
    · refine zw_invS (pc := 16) (M' := M_X1_may) (A := [vI x15]) [] dX1_eraseNow_16 (Or.inl q565) mf_X1_may (w_X1_may e16) (Nat.le_of_ble_eq_true rfl) rfl rfl (Nat.le_of_ble_eq_true rfl) zkv0 (zkx ?_)
      rcases zif H with ⟨c45, H⟩ | ⟨c45, H⟩
      · have c45 := c45
        obtain ⟨rfl, rfl⟩ := Prod.mk.inj (Option.some.inj H)
        exact zx_out (zkq c45 rfl) (fun _ hz => nomatch hz) rfl rfl
      cases H
  · refine zw_invV (pc := 4) (M' := M_X1_matrixWith) (A := [vI p1, vI p2, vI p3]) [] dX1_eraseNow_4 (Or.inl q1597) mf_X1_matrixWith ls_X1_matrixWith (zkq e4 rfl) (w_X1_matrixWith e5) (Nat.le_of_ble_eq_true rfl) rfl (by rw [← e2]; rfl) (Nat.le_of_ble_eq_true rfl) zkv0 (zkx ?_)
    rcases zif H with ⟨c46, H⟩ | ⟨c46, H⟩
    · have c46 := c46
      obtain ⟨rfl, rfl⟩ := Prod.mk.inj (Option.some.inj H)
      exact zx_out (zkq c46 rfl) (fun _ hz => nomatch hz) rfl rfl
    cases H
def M_X1_letNow : zM := (yX1_letNow, cX1_letNow, 4, (.some .int), [(0, 21, 22, 288)])
theorem mf_X1_letNow : zMi M_X1_letNow 2 := ⟨⟨q1621, q180, ⟨by decide +kernel, by decide +kernel⟩, by decide +kernel, by decide⟩, q1620⟩
def f_X1_letNow (p0 : Option Nat) (p1 : Int32) (p2 : Option Nat) (h : zH) : Option ((Int32 ⊕ Nat) × zH) :=
  (zgR 1 5 p0 h).bind fun x1 =>
  (zrv 2 x1 h).bind fun b3 =>
  zb3 (f_X2_let (some b3) p1 p2 h) (fun _ h9 =>
  (zgR 1 5 p0 h9).bind fun x12 =>
  (zgR 2 0 x12 h9).bind fun x14 =>
  (zaR 61 x14 p1 h9).bind fun x16 =>
  (zrv 3 x16 h9).bind fun b18 =>
  (f_X3_stored (some b18) h9).bind fun x23 =>
  some (.inl x23, h9))
  (fun q10 h11 =>
  if zk h11 q10 = 7 then
  zb2 (zmk 22 h11) fun q25 h26 =>
  (some q25).bind fun q28 =>
  if zk h26 q28 = 22 then
  some (.inr q28, h26)
  else none
  else none)
theorem w_X1_letNow {G : zG} {p0 : Option Nat} {p1 : Int32} {p2 : Option Nat} {h : zH} {vo : Int32 ⊕ Nat} {vh : zH} (H : f_X1_letNow p0 p1 p2 h = some (vo, vh)) : zMet G M_X1_letNow 140 [vR p0, vI p1, vR p2] h (zoI vo) vh := by
  refine zMet.of (by decide +kernel) (Nat.le_of_ble_eq_true rfl) ?_
  show zW G M_X1_letNow 140 h (zoI vo) vh 0 [(0, vR p0), (1, vI p1), (2, vR p2)] [] h
  unfold f_X1_letNow at H
  refine zw_aload_n (pc := 0) dX1_letNow_0 rfl 0 rfl ?_
  obtain ⟨x1, e2, H⟩ := zbind H
  refine zy_getR (pc := 1) dX1_letNow_1 lf_X1_120 (fun _ _ => rfl) e2 ?_
  refine zw_iload_n (pc := 4) dX1_letNow_4 rfl 1 rfl ?_
  refine zw_aload_n (pc := 5) dX1_letNow_5 rfl 2 rfl ?_
  obtain ⟨b3, e5, H⟩ := zbind H
  obtain ⟨e4, e6⟩ := zrv_ok e5
  rcases zbind3 H with ⟨x8, h9, e7, H⟩ | ⟨q10, h11, e7, H⟩
  · refine zw_invV (pc := 6) (M' := M_X2_let) (A := [vI p1, vR p2]) [] dX1_letNow_6 (Or.inl q1622) mf_X2_let q1319 (zkq e6 rfl) (w_X2_let e7) (Nat.le_of_ble_eq_true rfl) rfl (by rw [← e4]; rfl) (Nat.le_of_ble_eq_true rfl) (zku ?_) zkn9
    refine zw_aload_n (pc := 9) dX1_letNow_9 rfl 0 rfl ?_
    obtain ⟨x12, e13, H⟩ := zbind H
    refine zy_getR (pc := 10) dX1_letNow_10 lf_X1_120 (fun _ _ => rfl) e13 ?_
    obtain ⟨x14, e15, H⟩ := zbind H
    refine zy_getR (pc := 13) dX1_letNow_13 lf_X1_151 (fun _ _ => rfl) e15 ?_
    refine zw_iload_n (pc := 16) dX1_letNow_16 rfl 1 rfl ?_
    obtain ⟨x16, e17, H⟩ := zbind H
    refine zy_aald (pc := 17) dX1_letNow_17 (by decide) e17 ?_
    obtain ⟨b18, e20, H⟩ := zbind H
    obtain ⟨e19, e21⟩ := zrv_ok e20
    obtain ⟨x23, e22, H⟩ := zbind H
    refine zw_invV (pc := 18) (M' := M_X3_stored) (A := []) [] dX1_letNow_18 (Or.inl q1623) mf_X3_stored q510 (zkq e21 rfl) (w_X3_stored e22) (Nat.le_of_ble_eq_true rfl) rfl (by rw [← e19]; rfl) (Nat.le_of_ble_eq_true rfl) (zkv ?_) zkn9
    obtain ⟨rfl, rfl⟩ := Prod.mk.inj (Option.some.inj H)
    exact zw_iret (pc := 21) dX1_letNow_21 rfl rfl rfl
  · refine zw_invV (pc := 6) (M' := M_X2_let) (A := [vI p1, vR p2]) [] dX1_letNow_6 (Or.inl q1622) mf_X2_let q1319 (zkq e6 rfl) (w_X2_let e7) (Nat.le_of_ble_eq_true rfl) rfl (by rw [← e4]; rfl) (Nat.le_of_ble_eq_true rfl) zkv0 (zkx ?_)
    rcases zif H with ⟨c24, H⟩ | ⟨c24, H⟩
    · have c24 := c24
      refine zx_catch [] ⟨0, 21, 22, 288⟩ [] (zkq c24 rfl) rfl (fun _ hz => nomatch hz) rfl (by decide) q389 (by decide +kernel) ?_
      refine zw_astore_n (pc := 22) (lv' := [(3, vR (some q10)), (0, vR p0), (1, vI p1), (2, vR p2)]) dX1_letNow_22 rfl (by decide) rfl ?_
      obtain ⟨q25, h26, e27, H⟩ := zbind2 H
      refine zy_make0 (pc := 23) rfl (Or.inr (Or.inr ⟨rfl, rfl, rfl⟩)) dX1_letNow_23 dX1_letNow_26 dX1_letNow_27 (Nat.le_of_ble_eq_true rfl) (Nat.le_of_ble_eq_true rfl) e27 ?_
      obtain ⟨q28, e29, H⟩ := zbind H
      refine zy_athrow (pc := 30) dX1_letNow_30 e29 ?_
      rcases zif H with ⟨c30, H⟩ | ⟨c30, H⟩
      · have c30 := c30
        obtain ⟨rfl, rfl⟩ := Prod.mk.inj (Option.some.inj H)
        exact zx_out (zkq c30 rfl) (List.forall_mem_cons.mpr ⟨Or.inl rfl, (fun _ hz => nomatch hz)⟩) rfl rfl
      cases H
    cases H
theorem lm_14 : zLm yX1_setNow 35 356 14 := ⟨_, rfl, rfl, by decide, by decide +kernel⟩
def M_X1_setNow : zM := (yX1_setNow, cX1_setNow, 7, (.some .int), [])
theorem mf_X1_setNow : zMi M_X1_setNow 4 := ⟨⟨q1596, q180, ⟨by decide +kernel, by decide +kernel⟩, by decide +kernel, by decide⟩, q1595⟩
def f_X1_setNow (p0 : Option Nat) (p1 : Int32) (p2 : Int32) (p3 : Int32) (p4 : Int32) (h : zH) : Option ((Int32 ⊕ Nat) × zH) :=
  (zrv 1 p0 h).bind fun b1 =>
  zb3 (f_X1_matrixWith (some b1) p1 p2 p3 h) (fun x6 h7 =>
  (f_X1_isIn p4.toInt64 (-9999 : Int64) (9999 : Int64) h7).bind fun x11 =>
  zb3 (f_X1_argument x11 h7) (fun _ h14 =>
  (zgR 1 5 p0 h14).bind fun x17 =>
  zb2 (zlm 14 [vR x6, vI p2, vI p3, vI p4] h14) fun q19 h20 =>
  zb3 (f_X1_of (some q19) h20) (fun x23 h24 =>
  (zrv 2 x17 h24).bind fun b27 =>
  zb2 (f_X2_put (some b27) p1 x23 h24) fun x33 h32 =>
  (zgR 1 5 p0 h32).bind fun x34 =>
  (zgR 2 0 x34 h32).bind fun x36 =>
  (zaR 61 x36 p1 h32).bind fun x38 =>
  (zrv 3 x38 h32).bind fun b40 =>
  (f_X3_find (some b40) p2 p3 h32).bind fun x45 =>
  some (.inl x45, h32))
  (fun q25 h26 =>
  if zk h26 q25 = 22 then
  some (.inr q25, h26)
  else none))
  (fun q15 h16 =>
  if zk h16 q15 = 21 then
  some (.inr q15, h16)
  else none))
  (fun q8 h9 =>
  if zk h9 q8 = 20 then
  some (.inr q8, h9)
  else none)
theorem w_X1_setNow {G : zG} {p0 : Option Nat} {p1 : Int32} {p2 : Int32} {p3 : Int32} {p4 : Int32} {h : zH} {vo : Int32 ⊕ Nat} {vh : zH} (H : f_X1_setNow p0 p1 p2 p3 p4 h = some (vo, vh)) : zMet G M_X1_setNow 12 [vR p0, vI p1, vI p2, vI p3, vI p4] h (zoI vo) vh := by
  refine zMet.of (by decide +kernel) (Nat.le_of_ble_eq_true rfl) ?_
  show zW G M_X1_setNow 12 h (zoI vo) vh 0 [(0, vR p0), (1, vI p1), (2, vI p2), (3, vI p3), (4, vI p4)] [] h
  unfold f_X1_setNow at H
  refine zw_aload_n (pc := 0) dX1_setNow_0 rfl 0 rfl ?_
  refine zw_iload_n (pc := 1) dX1_setNow_1 rfl 1 rfl ?_
  refine zw_iload_n (pc := 2) dX1_setNow_2 rfl 2 rfl ?_
  refine zw_iload_n (pc := 3) dX1_setNow_3 rfl 3 rfl ?_
  obtain ⟨b1, e3, H⟩ := zbind H
  obtain ⟨e2, e4⟩ := zrv_ok e3
  rcases zbind3 H with ⟨x6, h7, e5, H⟩ | ⟨q8, h9, e5, H⟩
  · refine zw_invV (pc := 4) (M' := M_X1_matrixWith) (A := [vI p1, vI p2, vI p3]) [] dX1_setNow_4 (Or.inl q1597) mf_X1_matrixWith ls_X1_matrixWith (zkq e4 rfl) (w_X1_matrixWith e5) (Nat.le_of_ble_eq_true rfl) rfl (by rw [← e2]; rfl) (Nat.le_of_ble_eq_true rfl) (zkv ?_) zkn9
    refine zw_astore (pc := 7) (lv' := [(5, vR x6), (0, vR p0), (1, vI p1), (2, vI p2), (3, vI p3), (4, vI p4)]) dX1_setNow_7 (by decide) rfl ?_
    refine zw_iload (pc := 9) dX1_setNow_9 5 rfl ?_
    refine zw_i2l (pc := 11) dX1_setNow_11 ?_
    refine zw_ldc2 (pc := 12) dX1_setNow_12 q1605 ?_
    refine zw_ldc2 (pc := 15) dX1_setNow_15 q1606 ?_
    obtain ⟨x11, e10, H⟩ := zbind H
    refine zw_invS (pc := 18) (M' := M_X1_isIn) (A := [vJ p4.toInt64, vJ (-9999 : Int64), vJ (9999 : Int64)]) [] dX1_setNow_18 (Or.inl q603) mf_X1_isIn (w_X1_isIn e10) (Nat.le_of_ble_eq_true rfl) rfl rfl (Nat.le_of_ble_eq_true rfl) (zkv ?_) zkn9
    rcases zbind3 H with ⟨x13, h14, e12, H⟩ | ⟨q15, h16, e12, H⟩
    · refine zw_invS (pc := 21) (M' := M_X1_argument) (A := [vI x11]) [] dX1_setNow_21 (Or.inl q604) mf_X1_argument (w_X1_argument e12) (Nat.le_of_ble_eq_true rfl) rfl rfl (Nat.le_of_ble_eq_true rfl) (zku ?_) zkn9
      refine zw_aload_n (pc := 24) dX1_setNow_24 rfl 1 rfl ?_
      obtain ⟨x17, e18, H⟩ := zbind H
      refine zy_getR (pc := 25) dX1_setNow_25 lf_X1_120 (fun _ _ => rfl) e18 ?_
      refine zw_iload_n (pc := 28) dX1_setNow_28 rfl 2 rfl ?_
      refine zw_aload (pc := 29) dX1_setNow_29 0 rfl ?_
      refine zw_iload_n (pc := 31) dX1_setNow_31 rfl 3 rfl ?_
      refine zw_iload_n (pc := 32) dX1_setNow_32 rfl 4 rfl ?_
      refine zw_iload (pc := 33) dX1_setNow_33 5 rfl ?_
      obtain ⟨q19, h20, e21, H⟩ := zbind2 H
      refine zy_lam (pc := 35) (i := 14) (A := [vR x6, vI p2, vI p3, vI p4]) [vI p1, vR x17] dX1_setNow_35 lm_14 (show zokL (zLc 14) [vR x6, vI p2, vI p3, vI p4] from (zokL_ref (zokL_int (zokL_int (zokL_int zokL_nil))))) rfl (Nat.le_of_ble_eq_true rfl) e21 ?_
      rcases zbind3 H with ⟨x23, h24, e22, H⟩ | ⟨q25, h26, e22, H⟩
      · refine zw_invS (pc := 40) (M' := M_X1_of) (A := [vR (some q19)]) [vI p1, vR x17] dX1_setNow_40 (Or.inl q1610) mf_X1_of (w_X1_of e22) (Nat.le_of_ble_eq_true rfl) rfl rfl (Nat.le_of_ble_eq_true rfl) (zkv ?_) zkn9
        obtain ⟨b27, e29, H⟩ := zbind H
        obtain ⟨e28, e30⟩ := zrv_ok e29
        obtain ⟨x33, h32, e31, H⟩ := zbind2 H
        refine zw_invV (pc := 43) (M' := M_X2_put) (A := [vI p1, vR x23]) [] dX1_setNow_43 (Or.inl q1592) mf_X2_put q1095 (zkq e30 rfl) (w_X2_put e31) (Nat.le_of_ble_eq_true rfl) rfl (by rw [← e28]; rfl) (Nat.le_of_ble_eq_true rfl) (zkv ?_) zkn9
        refine zw_istore (pc := 46) (lv' := [(6, vI x33), (5, vR x6), (0, vR p0), (1, vI p1), (2, vI p2), (3, vI p3), (4, vI p4)]) dX1_setNow_46 (by decide) rfl ?_
        refine zw_aload_n (pc := 48) dX1_setNow_48 rfl 2 rfl ?_
        obtain ⟨x34, e35, H⟩ := zbind H
        refine zy_getR (pc := 49) dX1_setNow_49 lf_X1_120 (fun _ _ => rfl) e35 ?_
        obtain ⟨x36, e37, H⟩ := zbind H
        refine zy_getR (pc := 52) dX1_setNow_52 lf_X1_151 (fun _ _ => rfl) e37 ?_
        refine zw_iload_n (pc := 55) dX1_setNow_55 rfl 3 rfl ?_
        obtain ⟨x38, e39, H⟩ := zbind H
        refine zy_aald (pc := 56) dX1_setNow_56 (by decide) e39 ?_
        refine zw_iload_n (pc := 57) dX1_setNow_57 rfl 4 rfl ?_
        refine zw_iload_n (pc := 58) dX1_setNow_58 rfl 5 rfl ?_
        obtain ⟨b40, e42, H⟩ := zbind H
        obtain ⟨e41, e43⟩ := zrv_ok e42
        obtain ⟨x45, e44, H⟩ := zbind H
        refine zw_invV (pc := 59) (M' := M_X3_find) (A := [vI p2, vI p3]) [] dX1_setNow_59 (Or.inl q1617) mf_X3_find q403 (zkq e43 rfl) (w_X3_find e44) (Nat.le_of_ble_eq_true rfl) rfl (by rw [← e41]; rfl) (Nat.le_of_ble_eq_true rfl) (zkv ?_) zkn9
        obtain ⟨rfl, rfl⟩ := Prod.mk.inj (Option.some.inj H)
        exact zw_iret (pc := 62) dX1_setNow_62 rfl rfl rfl
      · refine zw_invS (pc := 40) (M' := M_X1_of) (A := [vR (some q19)]) [vI p1, vR x17] dX1_setNow_40 (Or.inl q1610) mf_X1_of (w_X1_of e22) (Nat.le_of_ble_eq_true rfl) rfl rfl (Nat.le_of_ble_eq_true rfl) zkv0 (zkx ?_)
        rcases zif H with ⟨c46, H⟩ | ⟨c46, H⟩
        · have c46 := c46
          obtain ⟨rfl, rfl⟩ := Prod.mk.inj (Option.some.inj H)
          exact zx_out (zkq c46 rfl) (fun _ hz => nomatch hz) rfl rfl
        cases H
    · refine zw_invS (pc := 21) (M' := M_X1_argument) (A := [vI x11]) [] dX1_setNow_21 (Or.inl q604) mf_X1_argument (w_X1_argument e12) (Nat.le_of_ble_eq_true rfl) rfl rfl (Nat.le_of_ble_eq_true rfl) zkv0 (zkx ?_)
      rcases zif H with ⟨c47, H⟩ | ⟨c47, H⟩
      · have c47 := c47
        obtain ⟨rfl, rfl⟩ := Prod.mk.inj (Option.some.inj H)
        exact zx_out (zkq c47 rfl) (fun _ hz => nomatch hz) rfl rfl
      cases H
  · refine zw_invV (pc := 4) (M' := M_X1_matrixWith) (A := [vI p1, vI p2, vI p3]) [] dX1_setNow_4 (Or.inl q1597) mf_X1_matrixWith ls_X1_matrixWith (zkq e4 rfl) (w_X1_matrixWith e5) (Nat.le_of_ble_eq_true rfl) rfl (by rw [← e2]; rfl) (Nat.le_of_ble_eq_true rfl) zkv0 (zkx ?_)
    rcases zif H with ⟨c48, H⟩ | ⟨c48, H⟩
    · have c48 := c48
      obtain ⟨rfl, rfl⟩ := Prod.mk.inj (Option.some.inj H)
      exact zx_out (zkq c48 rfl) (fun _ hz => nomatch hz) rfl rfl
    cases H
theorem lm_19 : zLm yX1_swapNow 34 369 19 := ⟨_, rfl, rfl, by decide, by decide +kernel⟩
def M_X1_swapNow : zM := (yX1_swapNow, cX1_swapNow, 6, (.some .int), [])
theorem mf_X1_swapNow : zMi M_X1_swapNow 3 := ⟨⟨q1652, q180, ⟨by decide +kernel, by decide +kernel⟩, by decide +kernel, by decide⟩, q1651⟩
def f_X1_swapNow (p0 : Option Nat) (p1 : Int32) (p2 : Int32) (p3 : Int32) (h : zH) : Option ((Int32 ⊕ Nat) × zH) :=
  (zrv 1 p0 h).bind fun b1 =>
  zb3 (f_X1_matrixWithRow (some b1) p1 p2 h) (fun x6 h7 =>
  (zgI 3 0 x6 h7).bind fun x10 =>
  (f_X1_isIn p3.toInt64 (0 : Int64) (x10 - (1 : Int32)).toInt64 h7).bind fun x13 =>
  zb3 (f_X1_index x13 h7) (fun _ h16 =>
  (zgR 1 5 p0 h16).bind fun x19 =>
  zb2 (zlm 19 [vR x6, vI p2, vI p3] h16) fun q21 h22 =>
  zb3 (f_X1_of (some q21) h22) (fun x25 h26 =>
  (zrv 2 x19 h26).bind fun b29 =>
  zb2 (f_X2_put (some b29) p1 x25 h26) fun x35 h34 =>
  (zrv 3 x6 h34).bind fun b36 =>
  (f_X3_rowLength (some b36) p2 h34).bind fun x41 =>
  if p2 = p3 then
  some (.inl (x41 + (0 : Int32)), h34)
  else
  (zrv 3 x6 h34).bind fun b43 =>
  (f_X3_rowLength (some b43) p3 h34).bind fun x48 =>
  some (.inl (x41 + x48), h34))
  (fun q27 h28 =>
  if zk h28 q27 = 22 then
  some (.inr q27, h28)
  else none))
  (fun q17 h18 =>
  if zk h18 q17 = 20 then
  some (.inr q17, h18)
  else none))
  (fun q8 h9 =>
  if zk h9 q8 = 20 then
  some (.inr q8, h9)
  else none)
theorem w_X1_swapNow {G : zG} {p0 : Option Nat} {p1 : Int32} {p2 : Int32} {p3 : Int32} {h : zH} {vo : Int32 ⊕ Nat} {vh : zH} (H : f_X1_swapNow p0 p1 p2 p3 h = some (vo, vh)) : zMet G M_X1_swapNow 12 [vR p0, vI p1, vI p2, vI p3] h (zoI vo) vh := by
  refine zMet.of (by decide +kernel) (Nat.le_of_ble_eq_true rfl) ?_
  show zW G M_X1_swapNow 12 h (zoI vo) vh 0 [(0, vR p0), (1, vI p1), (2, vI p2), (3, vI p3)] [] h
  unfold f_X1_swapNow at H
  refine zw_aload_n (pc := 0) dX1_swapNow_0 rfl 0 rfl ?_
  refine zw_iload_n (pc := 1) dX1_swapNow_1 rfl 1 rfl ?_
  refine zw_iload_n (pc := 2) dX1_swapNow_2 rfl 2 rfl ?_
  obtain ⟨b1, e3, H⟩ := zbind H
  obtain ⟨e2, e4⟩ := zrv_ok e3
  rcases zbind3 H with ⟨x6, h7, e5, H⟩ | ⟨q8, h9, e5, H⟩
  · refine zw_invV (pc := 3) (M' := M_X1_matrixWithRow) (A := [vI p1, vI p2]) [] dX1_swapNow_3 (Or.inl q1601) mf_X1_matrixWithRow ls_X1_matrixWithRow (zkq e4 rfl) (w_X1_matrixWithRow e5) (Nat.le_of_ble_eq_true rfl) rfl (by rw [← e2]; rfl) (Nat.le_of_ble_eq_true rfl) (zkv ?_) zkn9
    refine zw_astore (pc := 6) (lv' := [(4, vR x6), (0, vR p0), (1, vI p1), (2, vI p2), (3, vI p3)]) dX1_swapNow_6 (by decide) rfl ?_
    refine zw_iload_n (pc := 8) dX1_swapNow_8 rfl 4 rfl ?_
    refine zw_i2l (pc := 9) dX1_swapNow_9 ?_
    refine zw_lconst (pc := 10) (v := (0 : Int64)) dX1_swapNow_10 (by decide) ?_
    refine zw_aload (pc := 11) dX1_swapNow_11 0 rfl ?_
    obtain ⟨x10, e11, H⟩ := zbind H
    refine zy_getI (pc := 13) dX1_swapNow_13 lf_X1_158 (fun _ _ => rfl) e11 ?_
    refine zw_iconst (pc := 16) (v := (1 : Int32)) dX1_swapNow_16 (by decide) ?_
    refine zw_isub (pc := 17) dX1_swapNow_17 ?_
    refine zw_i2l (pc := 18) dX1_swapNow_18 ?_
    obtain ⟨x13, e12, H⟩ := zbind H
    refine zw_invS (pc := 19) (M' := M_X1_isIn) (A := [vJ p3.toInt64, vJ (0 : Int64), vJ (x10 - (1 : Int32)).toInt64]) [] dX1_swapNow_19 (Or.inl q603) mf_X1_isIn (w_X1_isIn e12) (Nat.le_of_ble_eq_true rfl) rfl rfl (Nat.le_of_ble_eq_true rfl) (zkv ?_) zkn9
    rcases zbind3 H with ⟨x15, h16, e14, H⟩ | ⟨q17, h18, e14, H⟩
    · refine zw_invS (pc := 22) (M' := M_X1_index) (A := [vI x13]) [] dX1_swapNow_22 (Or.inl q1572) mf_X1_index (w_X1_index e14) (Nat.le_of_ble_eq_true rfl) rfl rfl (Nat.le_of_ble_eq_true rfl) (zku ?_) zkn9
      refine zw_aload_n (pc := 25) dX1_swapNow_25 rfl 1 rfl ?_
      obtain ⟨x19, e20, H⟩ := zbind H
      refine zy_getR (pc := 26) dX1_swapNow_26 lf_X1_120 (fun _ _ => rfl) e20 ?_
      refine zw_iload_n (pc := 29) dX1_swapNow_29 rfl 2 rfl ?_
      refine zw_aload (pc := 30) dX1_swapNow_30 0 rfl ?_
      refine zw_iload_n (pc := 32) dX1_swapNow_32 rfl 3 rfl ?_
      refine zw_iload_n (pc := 33) dX1_swapNow_33 rfl 4 rfl ?_
      obtain ⟨q21, h22, e23, H⟩ := zbind2 H
      refine zy_lam (pc := 34) (i := 19) (A := [vR x6, vI p2, vI p3]) [vI p1, vR x19] dX1_swapNow_34 lm_19 (show zokL (zLc 19) [vR x6, vI p2, vI p3] from (zokL_ref (zokL_int (zokL_int zokL_nil)))) rfl (Nat.le_of_ble_eq_true rfl) e23 ?_
      rcases zbind3 H with ⟨x25, h26, e24, H⟩ | ⟨q27, h28, e24, H⟩
      · refine zw_invS (pc := 39) (M' := M_X1_of) (A := [vR (some q21)]) [vI p1, vR x19] dX1_swapNow_39 (Or.inl q1610) mf_X1_of (w_X1_of e24) (Nat.le_of_ble_eq_true rfl) rfl rfl (Nat.le_of_ble_eq_true rfl) (zkv ?_) zkn9
        obtain ⟨b29, e31, H⟩ := zbind H
        obtain ⟨e30, e32⟩ := zrv_ok e31
        obtain ⟨x35, h34, e33, H⟩ := zbind2 H
        refine zw_invV (pc := 42) (M' := M_X2_put) (A := [vI p1, vR x25]) [] dX1_swapNow_42 (Or.inl q1592) mf_X2_put q1095 (zkq e32 rfl) (w_X2_put e33) (Nat.le_of_ble_eq_true rfl) rfl (by rw [← e30]; rfl) (Nat.le_of_ble_eq_true rfl) (zkv ?_) zkn9
        refine zw_istore (pc := 45) (lv' := [(5, vI x35), (4, vR x6), (0, vR p0), (1, vI p1), (2, vI p2), (3, vI p3)]) dX1_swapNow_45 (by decide) rfl ?_
        refine zw_aload (pc := 47) dX1_swapNow_47 1 rfl ?_
        refine zw_iload_n (pc := 49) dX1_swapNow_49 rfl 4 rfl ?_
        obtain ⟨b36, e38, H⟩ := zbind H
        obtain ⟨e37, e39⟩ := zrv_ok e38
        obtain ⟨x41, e40, H⟩ := zbind H
        refine zw_invV (pc := 50) (M' := M_X3_rowLength) (A := [vI p2]) [] dX1_swapNow_50 (Or.inl q1668) mf_X3_rowLength q1438 (zkq e39 rfl) (w_X3_rowLength e40) (Nat.le_of_ble_eq_true rfl) rfl (by rw [← e37]; rfl) (Nat.le_of_ble_eq_true rfl) (zkv ?_) zkn9
        refine zw_iload_n (pc := 53) dX1_swapNow_53 rfl 4 rfl ?_
        refine zw_iload_n (pc := 54) dX1_swapNow_54 rfl 5 rfl ?_
        rcases zif H with ⟨c42, H⟩ | ⟨c42, H⟩
        · refine zw_icmp_ne (pc := 55) (tgt := 62) dX1_swapNow_55 rfl (fun q => absurd c42 q) (fun _ => ?_)
          refine zw_iconst (pc := 58) (v := (0 : Int32)) dX1_swapNow_58 (by decide) ?_
          refine zw_goto (pc := 59) (tgt := 68) dX1_swapNow_59 rfl ?_
          refine zw_iadd (pc := 68) dX1_swapNow_68 ?_
          obtain ⟨rfl, rfl⟩ := Prod.mk.inj (Option.some.inj H)
          exact zw_iret (pc := 69) dX1_swapNow_69 rfl rfl rfl
        · refine zw_icmp_ne (pc := 55) (tgt := 62) dX1_swapNow_55 rfl (fun _ => ?_) (fun q => absurd q c42)
          refine zw_aload (pc := 62) dX1_swapNow_62 1 rfl ?_
          refine zw_iload_n (pc := 64) dX1_swapNow_64 rfl 5 rfl ?_
          obtain ⟨b43, e45, H⟩ := zbind H
          obtain ⟨e44, e46⟩ := zrv_ok e45
          obtain ⟨x48, e47, H⟩ := zbind H
          refine zw_invV (pc := 65) (M' := M_X3_rowLength) (A := [vI p3]) [vI x41] dX1_swapNow_65 (Or.inl q1668) mf_X3_rowLength q1438 (zkq e46 rfl) (w_X3_rowLength e47) (Nat.le_of_ble_eq_true rfl) rfl (by rw [← e44]; rfl) (Nat.le_of_ble_eq_true rfl) (zkv ?_) zkn9
          refine zw_iadd (pc := 68) dX1_swapNow_68 ?_
          obtain ⟨rfl, rfl⟩ := Prod.mk.inj (Option.some.inj H)
          exact zw_iret (pc := 69) dX1_swapNow_69 rfl rfl rfl
      · refine zw_invS (pc := 39) (M' := M_X1_of) (A := [vR (some q21)]) [vI p1, vR x19] dX1_swapNow_39 (Or.inl q1610) mf_X1_of (w_X1_of e24) (Nat.le_of_ble_eq_true rfl) rfl rfl (Nat.le_of_ble_eq_true rfl) zkv0 (zkx ?_)
        rcases zif H with ⟨c49, H⟩ | ⟨c49, H⟩
        · have c49 := c49
          obtain ⟨rfl, rfl⟩ := Prod.mk.inj (Option.some.inj H)
          exact zx_out (zkq c49 rfl) (fun _ hz => nomatch hz) rfl rfl
        cases H
    · refine zw_invS (pc := 22) (M' := M_X1_index) (A := [vI x13]) [] dX1_swapNow_22 (Or.inl q1572) mf_X1_index (w_X1_index e14) (Nat.le_of_ble_eq_true rfl) rfl rfl (Nat.le_of_ble_eq_true rfl) zkv0 (zkx ?_)
      rcases zif H with ⟨c50, H⟩ | ⟨c50, H⟩
      · have c50 := c50
        obtain ⟨rfl, rfl⟩ := Prod.mk.inj (Option.some.inj H)
        exact zx_out (zkq c50 rfl) (fun _ hz => nomatch hz) rfl rfl
      cases H
  · refine zw_invV (pc := 3) (M' := M_X1_matrixWithRow) (A := [vI p1, vI p2]) [] dX1_swapNow_3 (Or.inl q1601) mf_X1_matrixWithRow ls_X1_matrixWithRow (zkq e4 rfl) (w_X1_matrixWithRow e5) (Nat.le_of_ble_eq_true rfl) rfl (by rw [← e2]; rfl) (Nat.le_of_ble_eq_true rfl) zkv0 (zkx ?_)
    rcases zif H with ⟨c51, H⟩ | ⟨c51, H⟩
    · have c51 := c51
      obtain ⟨rfl, rfl⟩ := Prod.mk.inj (Option.some.inj H)
      exact zx_out (zkq c51 rfl) (fun _ hz => nomatch hz) rfl rfl
    cases H
theorem lf_X1_37 : zFl "CsrCalculator" 37 15 1 := ⟨_, "CsrCalculator$Command", by decide, rfl, by decide, Or.inr (by decide +kernel), Or.inl rfl⟩
theorem ls_X1_createNow : Cond.selects yX1_createNow.cls yX1_createNow yX1_createNow ∈ lw_all := lw_g (lw_ms _ (List.mem_of_getElem? (i := 48) rfl)) rfl
theorem ls_X1_setNow : Cond.selects yX1_setNow.cls yX1_setNow yX1_setNow ∈ lw_all := lw_g (lw_ms _ (List.mem_of_getElem? (i := 50) rfl)) rfl
theorem lf_X1_86 : zFl "CsrCalculator" 86 15 3 := ⟨_, "CsrCalculator$Command", by decide, rfl, by decide, Or.inr (by decide +kernel), Or.inl rfl⟩
theorem ls_X1_letNow : Cond.selects yX1_letNow.cls yX1_letNow yX1_letNow ∈ lw_all := lw_g (lw_ms _ (List.mem_of_getElem? (i := 53) rfl)) rfl
theorem ls_X1_dropNow : Cond.selects yX1_dropNow.cls yX1_dropNow yX1_dropNow ∈ lw_all := lw_g (lw_ms _ (List.mem_of_getElem? (i := 54) rfl)) rfl
theorem ls_X1_eraseNow : Cond.selects yX1_eraseNow.cls yX1_eraseNow yX1_eraseNow ∈ lw_all := lw_g (lw_ms _ (List.mem_of_getElem? (i := 55) rfl)) rfl
theorem ls_X1_swapNow : Cond.selects yX1_swapNow.cls yX1_swapNow yX1_swapNow ∈ lw_all := lw_g (lw_ms _ (List.mem_of_getElem? (i := 58) rfl)) rfl
def M_X1_execute : zM := (yX1_execute, cX1_execute, 6, none, [])
theorem mf_X1_execute : zMi M_X1_execute 1 := ⟨⟨q1562, q180, ⟨by decide +kernel, by decide +kernel⟩, by decide +kernel, by decide⟩, q1561⟩
def B_X1_execute_145 (a0 : Option Nat) (a1 : Option Nat) (a2 : Option Nat) (a3 : Int32) (h : zH) : Option ((Unit ⊕ Nat) × zH) :=
  if a3 = (0 : Int32) then
  (zaI 50 a2 (0 : Int32) h).bind fun x2 =>
  (zaI 50 a2 (1 : Int32) h).bind fun x4 =>
  (zaI 50 a2 (2 : Int32) h).bind fun x6 =>
  (zrv 1 a0 h).bind fun b8 =>
  zb3 (f_X1_createNow (some b8) x2 x4 x6 h) (fun x13 h14 =>
  some (.inl (), h14))
  (fun q15 h16 =>
  if zk h16 q15 = 20 then
  some (.inr q15, h16)
  else if zk h16 q15 = 21 then
  some (.inr q15, h16)
  else none)
  else
  if a3 = (1 : Int32) then
  (zaI 50 a2 (0 : Int32) h).bind fun x20 =>
  (zaI 50 a2 (1 : Int32) h).bind fun x22 =>
  (zaI 50 a2 (2 : Int32) h).bind fun x24 =>
  (zaI 50 a2 (3 : Int32) h).bind fun x26 =>
  (zrv 1 a0 h).bind fun b28 =>
  zb3 (f_X1_setNow (some b28) x20 x22 x24 x26 h) (fun x33 h34 =>
  some (.inl (), h34))
  (fun q35 h36 =>
  if zk h36 q35 = 20 then
  some (.inr q35, h36)
  else if zk h36 q35 = 21 then
  some (.inr q35, h36)
  else if zk h36 q35 = 22 then
  some (.inr q35, h36)
  else none)
  else
  if a3 = (2 : Int32) then
  (zaI 50 a2 (0 : Int32) h).bind fun x41 =>
  (zgR 15 3 a1 h).bind fun x43 =>
  (zrv 1 a0 h).bind fun b45 =>
  zb3 (f_X1_letNow (some b45) x41 x43 h) (fun x50 h51 =>
  some (.inl (), h51))
  (fun q52 h53 =>
  if zk h53 q52 = 22 then
  some (.inr q52, h53)
  else none)
  else
  if a3 = (3 : Int32) then
  (zaI 50 a2 (0 : Int32) h).bind fun x56 =>
  (zrv 1 a0 h).bind fun b58 =>
  zb3 (f_X1_dropNow (some b58) x56 h) (fun x63 h64 =>
  some (.inl (), h64))
  (fun q65 h66 =>
  if zk h66 q65 = 20 then
  some (.inr q65, h66)
  else if zk h66 q65 = 22 then
  some (.inr q65, h66)
  else none)
  else
  if a3 = (4 : Int32) then
  (zaI 50 a2 (0 : Int32) h).bind fun x70 =>
  (zaI 50 a2 (1 : Int32) h).bind fun x72 =>
  (zaI 50 a2 (2 : Int32) h).bind fun x74 =>
  (zrv 1 a0 h).bind fun b76 =>
  zb3 (f_X1_eraseNow (some b76) x70 x72 x74 h) (fun x81 h82 =>
  some (.inl (), h82))
  (fun q83 h84 =>
  if zk h84 q83 = 20 then
  some (.inr q83, h84)
  else if zk h84 q83 = 22 then
  some (.inr q83, h84)
  else none)
  else
  (zaI 50 a2 (0 : Int32) h).bind fun x87 =>
  (zaI 50 a2 (1 : Int32) h).bind fun x89 =>
  (zaI 50 a2 (2 : Int32) h).bind fun x91 =>
  (zrv 1 a0 h).bind fun b93 =>
  zb3 (f_X1_swapNow (some b93) x87 x89 x91 h) (fun x98 h99 =>
  some (.inl (), h99))
  (fun q100 h101 =>
  if zk h101 q100 = 20 then
  some (.inr q100, h101)
  else if zk h101 q100 = 22 then
  some (.inr q100, h101)
  else none)
theorem wB_X1_execute_145 {G : zG} {h0 h : zH} {vo : Unit ⊕ Nat} {vh : zH} {a0 : Option Nat} {a1 : Option Nat} {a2 : Option Nat} {a3 : Int32} (H : B_X1_execute_145 a0 a1 a2 a3 h = some (vo, vh)) : zW G M_X1_execute 141 h0 (zoU vo) vh 145 [(0, vR a0), (1, vR a1), (2, vR a2), (5, vI a3)] [] h := by
  unfold B_X1_execute_145 at H
  refine zw_iload (pc := 145) dX1_execute_145 3 rfl ?_
  rcases zif H with ⟨c1, H⟩ | ⟨c1, H⟩
  · refine zw_tableIn (pc := 147) (33) 180 dX1_execute_147 (by rw [c1]; decide) (by rw [c1]; decide) (by rw [c1]; decide) rfl ?_
    refine zw_aload_n (pc := 180) dX1_execute_180 rfl 0 rfl ?_
    refine zw_aload_n (pc := 181) dX1_execute_181 rfl 2 rfl ?_
    refine zw_iconst (pc := 182) (v := (0 : Int32)) dX1_execute_182 (by decide) ?_
    obtain ⟨x2, e3, H⟩ := zbind H
    refine zy_iald (pc := 183) dX1_execute_183 e3 ?_
    refine zw_aload_n (pc := 184) dX1_execute_184 rfl 2 rfl ?_
    refine zw_iconst (pc := 185) (v := (1 : Int32)) dX1_execute_185 (by decide) ?_
    obtain ⟨x4, e5, H⟩ := zbind H
    refine zy_iald (pc := 186) dX1_execute_186 e5 ?_
    refine zw_aload_n (pc := 187) dX1_execute_187 rfl 2 rfl ?_
    refine zw_iconst (pc := 188) (v := (2 : Int32)) dX1_execute_188 (by decide) ?_
    obtain ⟨x6, e7, H⟩ := zbind H
    refine zy_iald (pc := 189) dX1_execute_189 e7 ?_
    obtain ⟨b8, e10, H⟩ := zbind H
    obtain ⟨e9, e11⟩ := zrv_ok e10
    rcases zbind3 H with ⟨x13, h14, e12, H⟩ | ⟨q15, h16, e12, H⟩
    · refine zw_invV (pc := 190) (M' := M_X1_createNow) (A := [vI x2, vI x4, vI x6]) [] dX1_execute_190 (Or.inl q1563) mf_X1_createNow ls_X1_createNow (zkq e11 rfl) (w_X1_createNow e12) (Nat.le_of_ble_eq_true rfl) rfl (by rw [← e9]; rfl) (Nat.le_of_ble_eq_true rfl) (zkv ?_) zkn9
      refine zw_goto (pc := 193) (tgt := 268) dX1_execute_193 rfl ?_
      refine zw_istore_n (pc := 268) (lv' := [(3, vI x13), (0, vR a0), (1, vR a1), (2, vR a2), (5, vI a3)]) dX1_execute_268 rfl (by decide) rfl ?_
      obtain ⟨rfl, rfl⟩ := Prod.mk.inj (Option.some.inj H)
      exact zw_vret (pc := 269) dX1_execute_269 rfl rfl rfl
    · refine zw_invV (pc := 190) (M' := M_X1_createNow) (A := [vI x2, vI x4, vI x6]) [] dX1_execute_190 (Or.inl q1563) mf_X1_createNow ls_X1_createNow (zkq e11 rfl) (w_X1_createNow e12) (Nat.le_of_ble_eq_true rfl) rfl (by rw [← e9]; rfl) (Nat.le_of_ble_eq_true rfl) zkv0 (zkx ?_)
      rcases zif H with ⟨c17, H⟩ | ⟨c17, H⟩
      · have c17 := c17
        obtain ⟨rfl, rfl⟩ := Prod.mk.inj (Option.some.inj H)
        exact zx_out (zkq c17 rfl) (fun _ hz => nomatch hz) rfl rfl
      rcases zif H with ⟨c18, H⟩ | ⟨c18, H⟩
      · have c18 := c18
        obtain ⟨rfl, rfl⟩ := Prod.mk.inj (Option.some.inj H)
        exact zx_out (zkq c18 rfl) (fun _ hz => nomatch hz) rfl rfl
      cases H
  rcases zif H with ⟨c19, H⟩ | ⟨c19, H⟩
  · refine zw_tableIn (pc := 147) (49) 196 dX1_execute_147 (by rw [c19]; decide) (by rw [c19]; decide) (by rw [c19]; decide) rfl ?_
    refine zw_aload_n (pc := 196) dX1_execute_196 rfl 0 rfl ?_
    refine zw_aload_n (pc := 197) dX1_execute_197 rfl 2 rfl ?_
    refine zw_iconst (pc := 198) (v := (0 : Int32)) dX1_execute_198 (by decide) ?_
    obtain ⟨x20, e21, H⟩ := zbind H
    refine zy_iald (pc := 199) dX1_execute_199 e21 ?_
    refine zw_aload_n (pc := 200) dX1_execute_200 rfl 2 rfl ?_
    refine zw_iconst (pc := 201) (v := (1 : Int32)) dX1_execute_201 (by decide) ?_
    obtain ⟨x22, e23, H⟩ := zbind H
    refine zy_iald (pc := 202) dX1_execute_202 e23 ?_
    refine zw_aload_n (pc := 203) dX1_execute_203 rfl 2 rfl ?_
    refine zw_iconst (pc := 204) (v := (2 : Int32)) dX1_execute_204 (by decide) ?_
    obtain ⟨x24, e25, H⟩ := zbind H
    refine zy_iald (pc := 205) dX1_execute_205 e25 ?_
    refine zw_aload_n (pc := 206) dX1_execute_206 rfl 2 rfl ?_
    refine zw_iconst (pc := 207) (v := (3 : Int32)) dX1_execute_207 (by decide) ?_
    obtain ⟨x26, e27, H⟩ := zbind H
    refine zy_iald (pc := 208) dX1_execute_208 e27 ?_
    obtain ⟨b28, e30, H⟩ := zbind H
    obtain ⟨e29, e31⟩ := zrv_ok e30
    rcases zbind3 H with ⟨x33, h34, e32, H⟩ | ⟨q35, h36, e32, H⟩
    · refine zw_invV (pc := 209) (M' := M_X1_setNow) (A := [vI x20, vI x22, vI x24, vI x26]) [] dX1_execute_209 (Or.inl q1593) mf_X1_setNow ls_X1_setNow (zkq e31 rfl) (w_X1_setNow e32) (Nat.le_of_ble_eq_true rfl) rfl (by rw [← e29]; rfl) (Nat.le_of_ble_eq_true rfl) (zkv ?_) zkn9
      refine zw_goto (pc := 212) (tgt := 268) dX1_execute_212 rfl ?_
      refine zw_istore_n (pc := 268) (lv' := [(3, vI x33), (0, vR a0), (1, vR a1), (2, vR a2), (5, vI a3)]) dX1_execute_268 rfl (by decide) rfl ?_
      obtain ⟨rfl, rfl⟩ := Prod.mk.inj (Option.some.inj H)
      exact zw_vret (pc := 269) dX1_execute_269 rfl rfl rfl
    · refine zw_invV (pc := 209) (M' := M_X1_setNow) (A := [vI x20, vI x22, vI x24, vI x26]) [] dX1_execute_209 (Or.inl q1593) mf_X1_setNow ls_X1_setNow (zkq e31 rfl) (w_X1_setNow e32) (Nat.le_of_ble_eq_true rfl) rfl (by rw [← e29]; rfl) (Nat.le_of_ble_eq_true rfl) zkv0 (zkx ?_)
      rcases zif H with ⟨c37, H⟩ | ⟨c37, H⟩
      · have c37 := c37
        obtain ⟨rfl, rfl⟩ := Prod.mk.inj (Option.some.inj H)
        exact zx_out (zkq c37 rfl) (fun _ hz => nomatch hz) rfl rfl
      rcases zif H with ⟨c38, H⟩ | ⟨c38, H⟩
      · have c38 := c38
        obtain ⟨rfl, rfl⟩ := Prod.mk.inj (Option.some.inj H)
        exact zx_out (zkq c38 rfl) (fun _ hz => nomatch hz) rfl rfl
      rcases zif H with ⟨c39, H⟩ | ⟨c39, H⟩
      · have c39 := c39
        obtain ⟨rfl, rfl⟩ := Prod.mk.inj (Option.some.inj H)
        exact zx_out (zkq c39 rfl) (fun _ hz => nomatch hz) rfl rfl
      cases H
  rcases zif H with ⟨c40, H⟩ | ⟨c40, H⟩
  · refine zw_tableIn (pc := 147) (68) 215 dX1_execute_147 (by rw [c40]; decide) (by rw [c40]; decide) (by rw [c40]; decide) rfl ?_
    refine zw_aload_n (pc := 215) dX1_execute_215 rfl 0 rfl ?_
    refine zw_aload_n (pc := 216) dX1_execute_216 rfl 2 rfl ?_
    refine zw_iconst (pc := 217) (v := (0 : Int32)) dX1_execute_217 (by decide) ?_
    obtain ⟨x41, e42, H⟩ := zbind H
    refine zy_iald (pc := 218) dX1_execute_218 e42 ?_
    refine zw_aload_n (pc := 219) dX1_execute_219 rfl 1 rfl ?_
    obtain ⟨x43, e44, H⟩ := zbind H
    refine zy_getR (pc := 220) dX1_execute_220 lf_X1_86 (fun _ _ => rfl) e44 ?_
    obtain ⟨b45, e47, H⟩ := zbind H
    obtain ⟨e46, e48⟩ := zrv_ok e47
    rcases zbind3 H with ⟨x50, h51, e49, H⟩ | ⟨q52, h53, e49, H⟩
    · refine zw_invV (pc := 223) (M' := M_X1_letNow) (A := [vI x41, vR x43]) [] dX1_execute_223 (Or.inl q1618) mf_X1_letNow ls_X1_letNow (zkq e48 rfl) (w_X1_letNow e49) (Nat.le_of_ble_eq_true rfl) rfl (by rw [← e46]; rfl) (Nat.le_of_ble_eq_true rfl) (zkv ?_) zkn9
      refine zw_goto (pc := 226) (tgt := 268) dX1_execute_226 rfl ?_
      refine zw_istore_n (pc := 268) (lv' := [(3, vI x50), (0, vR a0), (1, vR a1), (2, vR a2), (5, vI a3)]) dX1_execute_268 rfl (by decide) rfl ?_
      obtain ⟨rfl, rfl⟩ := Prod.mk.inj (Option.some.inj H)
      exact zw_vret (pc := 269) dX1_execute_269 rfl rfl rfl
    · refine zw_invV (pc := 223) (M' := M_X1_letNow) (A := [vI x41, vR x43]) [] dX1_execute_223 (Or.inl q1618) mf_X1_letNow ls_X1_letNow (zkq e48 rfl) (w_X1_letNow e49) (Nat.le_of_ble_eq_true rfl) rfl (by rw [← e46]; rfl) (Nat.le_of_ble_eq_true rfl) zkv0 (zkx ?_)
      rcases zif H with ⟨c54, H⟩ | ⟨c54, H⟩
      · have c54 := c54
        obtain ⟨rfl, rfl⟩ := Prod.mk.inj (Option.some.inj H)
        exact zx_out (zkq c54 rfl) (fun _ hz => nomatch hz) rfl rfl
      cases H
  rcases zif H with ⟨c55, H⟩ | ⟨c55, H⟩
  · refine zw_tableIn (pc := 147) (82) 229 dX1_execute_147 (by rw [c55]; decide) (by rw [c55]; decide) (by rw [c55]; decide) rfl ?_
    refine zw_aload_n (pc := 229) dX1_execute_229 rfl 0 rfl ?_
    refine zw_aload_n (pc := 230) dX1_execute_230 rfl 2 rfl ?_
    refine zw_iconst (pc := 231) (v := (0 : Int32)) dX1_execute_231 (by decide) ?_
    obtain ⟨x56, e57, H⟩ := zbind H
    refine zy_iald (pc := 232) dX1_execute_232 e57 ?_
    obtain ⟨b58, e60, H⟩ := zbind H
    obtain ⟨e59, e61⟩ := zrv_ok e60
    rcases zbind3 H with ⟨x63, h64, e62, H⟩ | ⟨q65, h66, e62, H⟩
    · refine zw_invV (pc := 233) (M' := M_X1_dropNow) (A := [vI x56]) [] dX1_execute_233 (Or.inl q1624) mf_X1_dropNow ls_X1_dropNow (zkq e61 rfl) (w_X1_dropNow e62) (Nat.le_of_ble_eq_true rfl) rfl (by rw [← e59]; rfl) (Nat.le_of_ble_eq_true rfl) (zkv ?_) zkn9
      refine zw_goto (pc := 236) (tgt := 268) dX1_execute_236 rfl ?_
      refine zw_istore_n (pc := 268) (lv' := [(3, vI x63), (0, vR a0), (1, vR a1), (2, vR a2), (5, vI a3)]) dX1_execute_268 rfl (by decide) rfl ?_
      obtain ⟨rfl, rfl⟩ := Prod.mk.inj (Option.some.inj H)
      exact zw_vret (pc := 269) dX1_execute_269 rfl rfl rfl
    · refine zw_invV (pc := 233) (M' := M_X1_dropNow) (A := [vI x56]) [] dX1_execute_233 (Or.inl q1624) mf_X1_dropNow ls_X1_dropNow (zkq e61 rfl) (w_X1_dropNow e62) (Nat.le_of_ble_eq_true rfl) rfl (by rw [← e59]; rfl) (Nat.le_of_ble_eq_true rfl) zkv0 (zkx ?_)
      rcases zif H with ⟨c67, H⟩ | ⟨c67, H⟩
      · have c67 := c67
        obtain ⟨rfl, rfl⟩ := Prod.mk.inj (Option.some.inj H)
        exact zx_out (zkq c67 rfl) (fun _ hz => nomatch hz) rfl rfl
      rcases zif H with ⟨c68, H⟩ | ⟨c68, H⟩
      · have c68 := c68
        obtain ⟨rfl, rfl⟩ := Prod.mk.inj (Option.some.inj H)
        exact zx_out (zkq c68 rfl) (fun _ hz => nomatch hz) rfl rfl
      cases H
  rcases zif H with ⟨c69, H⟩ | ⟨c69, H⟩
  · refine zw_tableIn (pc := 147) (92) 239 dX1_execute_147 (by rw [c69]; decide) (by rw [c69]; decide) (by rw [c69]; decide) rfl ?_
    refine zw_aload_n (pc := 239) dX1_execute_239 rfl 0 rfl ?_
    refine zw_aload_n (pc := 240) dX1_execute_240 rfl 2 rfl ?_
    refine zw_iconst (pc := 241) (v := (0 : Int32)) dX1_execute_241 (by decide) ?_
    obtain ⟨x70, e71, H⟩ := zbind H
    refine zy_iald (pc := 242) dX1_execute_242 e71 ?_
    refine zw_aload_n (pc := 243) dX1_execute_243 rfl 2 rfl ?_
    refine zw_iconst (pc := 244) (v := (1 : Int32)) dX1_execute_244 (by decide) ?_
    obtain ⟨x72, e73, H⟩ := zbind H
    refine zy_iald (pc := 245) dX1_execute_245 e73 ?_
    refine zw_aload_n (pc := 246) dX1_execute_246 rfl 2 rfl ?_
    refine zw_iconst (pc := 247) (v := (2 : Int32)) dX1_execute_247 (by decide) ?_
    obtain ⟨x74, e75, H⟩ := zbind H
    refine zy_iald (pc := 248) dX1_execute_248 e75 ?_
    obtain ⟨b76, e78, H⟩ := zbind H
    obtain ⟨e77, e79⟩ := zrv_ok e78
    rcases zbind3 H with ⟨x81, h82, e80, H⟩ | ⟨q83, h84, e80, H⟩
    · refine zw_invV (pc := 249) (M' := M_X1_eraseNow) (A := [vI x70, vI x72, vI x74]) [] dX1_execute_249 (Or.inl q1631) mf_X1_eraseNow ls_X1_eraseNow (zkq e79 rfl) (w_X1_eraseNow e80) (Nat.le_of_ble_eq_true rfl) rfl (by rw [← e77]; rfl) (Nat.le_of_ble_eq_true rfl) (zkv ?_) zkn9
      refine zw_goto (pc := 252) (tgt := 268) dX1_execute_252 rfl ?_
      refine zw_istore_n (pc := 268) (lv' := [(3, vI x81), (0, vR a0), (1, vR a1), (2, vR a2), (5, vI a3)]) dX1_execute_268 rfl (by decide) rfl ?_
      obtain ⟨rfl, rfl⟩ := Prod.mk.inj (Option.some.inj H)
      exact zw_vret (pc := 269) dX1_execute_269 rfl rfl rfl
    · refine zw_invV (pc := 249) (M' := M_X1_eraseNow) (A := [vI x70, vI x72, vI x74]) [] dX1_execute_249 (Or.inl q1631) mf_X1_eraseNow ls_X1_eraseNow (zkq e79 rfl) (w_X1_eraseNow e80) (Nat.le_of_ble_eq_true rfl) rfl (by rw [← e77]; rfl) (Nat.le_of_ble_eq_true rfl) zkv0 (zkx ?_)
      rcases zif H with ⟨c85, H⟩ | ⟨c85, H⟩
      · have c85 := c85
        obtain ⟨rfl, rfl⟩ := Prod.mk.inj (Option.some.inj H)
        exact zx_out (zkq c85 rfl) (fun _ hz => nomatch hz) rfl rfl
      rcases zif H with ⟨c86, H⟩ | ⟨c86, H⟩
      · have c86 := c86
        obtain ⟨rfl, rfl⟩ := Prod.mk.inj (Option.some.inj H)
        exact zx_out (zkq c86 rfl) (fun _ hz => nomatch hz) rfl rfl
      cases H
  refine zw_tableOut (pc := 147) 255 dX1_execute_147 (ztb (0) 5 rfl (by intro j hj; match j, hj with | 0, _ => exact zne c1 | 1, _ => exact zne c19 | 2, _ => exact zne c40 | 3, _ => exact zne c55 | 4, _ => exact zne c69)) rfl ?_
  refine zw_aload_n (pc := 255) dX1_execute_255 rfl 0 rfl ?_
  refine zw_aload_n (pc := 256) dX1_execute_256 rfl 2 rfl ?_
  refine zw_iconst (pc := 257) (v := (0 : Int32)) dX1_execute_257 (by decide) ?_
  obtain ⟨x87, e88, H⟩ := zbind H
  refine zy_iald (pc := 258) dX1_execute_258 e88 ?_
  refine zw_aload_n (pc := 259) dX1_execute_259 rfl 2 rfl ?_
  refine zw_iconst (pc := 260) (v := (1 : Int32)) dX1_execute_260 (by decide) ?_
  obtain ⟨x89, e90, H⟩ := zbind H
  refine zy_iald (pc := 261) dX1_execute_261 e90 ?_
  refine zw_aload_n (pc := 262) dX1_execute_262 rfl 2 rfl ?_
  refine zw_iconst (pc := 263) (v := (2 : Int32)) dX1_execute_263 (by decide) ?_
  obtain ⟨x91, e92, H⟩ := zbind H
  refine zy_iald (pc := 264) dX1_execute_264 e92 ?_
  obtain ⟨b93, e95, H⟩ := zbind H
  obtain ⟨e94, e96⟩ := zrv_ok e95
  rcases zbind3 H with ⟨x98, h99, e97, H⟩ | ⟨q100, h101, e97, H⟩
  · refine zw_invV (pc := 265) (M' := M_X1_swapNow) (A := [vI x87, vI x89, vI x91]) [] dX1_execute_265 (Or.inl q1649) mf_X1_swapNow ls_X1_swapNow (zkq e96 rfl) (w_X1_swapNow e97) (Nat.le_of_ble_eq_true rfl) rfl (by rw [← e94]; rfl) (Nat.le_of_ble_eq_true rfl) (zkv ?_) zkn9
    refine zw_istore_n (pc := 268) (lv' := [(3, vI x98), (0, vR a0), (1, vR a1), (2, vR a2), (5, vI a3)]) dX1_execute_268 rfl (by decide) rfl ?_
    obtain ⟨rfl, rfl⟩ := Prod.mk.inj (Option.some.inj H)
    exact zw_vret (pc := 269) dX1_execute_269 rfl rfl rfl
  · refine zw_invV (pc := 265) (M' := M_X1_swapNow) (A := [vI x87, vI x89, vI x91]) [] dX1_execute_265 (Or.inl q1649) mf_X1_swapNow ls_X1_swapNow (zkq e96 rfl) (w_X1_swapNow e97) (Nat.le_of_ble_eq_true rfl) rfl (by rw [← e94]; rfl) (Nat.le_of_ble_eq_true rfl) zkv0 (zkx ?_)
    rcases zif H with ⟨c102, H⟩ | ⟨c102, H⟩
    · have c102 := c102
      obtain ⟨rfl, rfl⟩ := Prod.mk.inj (Option.some.inj H)
      exact zx_out (zkq c102 rfl) (fun _ hz => nomatch hz) rfl rfl
    rcases zif H with ⟨c103, H⟩ | ⟨c103, H⟩
    · have c103 := c103
      obtain ⟨rfl, rfl⟩ := Prod.mk.inj (Option.some.inj H)
      exact zx_out (zkq c103 rfl) (fun _ hz => nomatch hz) rfl rfl
    cases H
def f_X1_execute (p0 : Option Nat) (p1 : Option Nat) (h : zH) : Option ((Unit ⊕ Nat) × zH) :=
  (zgR 15 1 p1 h).bind fun x1 =>
  (zgR 15 0 p1 h).bind fun x3 =>
  (zrv 19 x3 h).bind fun b5 =>
  zb2 (f_J4_hashCode (some b5) h) fun x11 h10 =>
  if x11 = (-1081239615 : Int32) then
  (zrv 19 x3 h10).bind fun b13 =>
  (f_J4_equals (some b13) (some (zst h10 0)) h10).bind fun x18 =>
  if x18 = 0 then
  B_X1_execute_145 p0 p1 x1 (-1 : Int32) h10
  else
  B_X1_execute_145 p0 p1 x1 (0 : Int32) h10
  else
  if x11 = (107035 : Int32) then
  (zrv 19 x3 h10).bind fun b21 =>
  (f_J4_equals (some b21) (some (zst h10 2)) h10).bind fun x26 =>
  if x26 = 0 then
  B_X1_execute_145 p0 p1 x1 (-1 : Int32) h10
  else
  B_X1_execute_145 p0 p1 x1 (2 : Int32) h10
  else
  if x11 = (3092207 : Int32) then
  (zrv 19 x3 h10).bind fun b29 =>
  (f_J4_equals (some b29) (some (zst h10 3)) h10).bind fun x34 =>
  if x34 = 0 then
  B_X1_execute_145 p0 p1 x1 (-1 : Int32) h10
  else
  B_X1_execute_145 p0 p1 x1 (3 : Int32) h10
  else
  if x11 = (96667762 : Int32) then
  (zrv 19 x3 h10).bind fun b37 =>
  (f_J4_equals (some b37) (some (zst h10 1)) h10).bind fun x42 =>
  if x42 = 0 then
  B_X1_execute_145 p0 p1 x1 (-1 : Int32) h10
  else
  B_X1_execute_145 p0 p1 x1 (1 : Int32) h10
  else
  if x11 = (96768678 : Int32) then
  (zrv 19 x3 h10).bind fun b45 =>
  (f_J4_equals (some b45) (some (zst h10 4)) h10).bind fun x50 =>
  if x50 = 0 then
  B_X1_execute_145 p0 p1 x1 (-1 : Int32) h10
  else
  B_X1_execute_145 p0 p1 x1 (4 : Int32) h10
  else
  B_X1_execute_145 p0 p1 x1 (-1 : Int32) h10
theorem w_X1_execute {G : zG} {p0 : Option Nat} {p1 : Option Nat} {h : zH} {vo : Unit ⊕ Nat} {vh : zH} (H : f_X1_execute p0 p1 h = some (vo, vh)) : zMet G M_X1_execute 141 [vR p0, vR p1] h (zoU vo) vh := by
  refine zMet.of (by decide +kernel) (Nat.le_of_ble_eq_true rfl) ?_
  show zW G M_X1_execute 141 h (zoU vo) vh 0 [(0, vR p0), (1, vR p1)] [] h
  unfold f_X1_execute at H
  refine zw_aload_n (pc := 0) dX1_execute_0 rfl 1 rfl ?_
  obtain ⟨x1, e2, H⟩ := zbind H
  refine zy_getR (pc := 1) dX1_execute_1 lf_X1_37 (fun _ _ => rfl) e2 ?_
  refine zw_astore_n (pc := 4) (lv' := [(2, vR x1), (0, vR p0), (1, vR p1)]) dX1_execute_4 rfl (by decide) rfl ?_
  refine zw_aload_n (pc := 5) dX1_execute_5 rfl 2 rfl ?_
  obtain ⟨x3, e4, H⟩ := zbind H
  refine zy_getR (pc := 6) dX1_execute_6 lf_X1_31 (fun _ _ => rfl) e4 ?_
  refine zw_astore (pc := 9) (lv' := [(4, vR x3), (2, vR x1), (0, vR p0), (1, vR p1)]) dX1_execute_9 (by decide) rfl ?_
  refine zw_iconst (pc := 11) (v := (-1 : Int32)) dX1_execute_11 (by decide) ?_
  refine zw_istore (pc := 12) (lv' := [(5, vI (-1 : Int32)), (4, vR x3), (2, vR x1), (0, vR p0), (1, vR p1)]) dX1_execute_12 (by decide) rfl ?_
  refine zw_aload (pc := 14) dX1_execute_14 1 rfl ?_
  obtain ⟨b5, e7, H⟩ := zbind H
  obtain ⟨e6, e8⟩ := zrv_ok e7
  obtain ⟨x11, h10, e9, H⟩ := zbind2 H
  refine zw_invV (pc := 16) (M' := M_J4_hashCode) (A := []) [] dX1_execute_16 (Or.inl q992) mf_J4_hashCode q994 (zkq e8 rfl) (w_J4_hashCode e9) (Nat.le_of_ble_eq_true rfl) rfl (by rw [← e6]; rfl) (Nat.le_of_ble_eq_true rfl) (zkv ?_) zkn9
  rcases zif H with ⟨c12, H⟩ | ⟨c12, H⟩
  · refine zw_lookup (pc := 19) (49) 68 dX1_execute_19 (by decide) (by rw [c12]; decide) rfl ?_
    refine zw_aload (pc := 68) dX1_execute_68 1 rfl ?_
    refine zw_ldcS (pc := 70) 0 dX1_execute_70 rfl ?_
    obtain ⟨b13, e15, H⟩ := zbind H
    obtain ⟨e14, e16⟩ := zrv_ok e15
    obtain ⟨x18, e17, H⟩ := zbind H
    refine zw_invV (pc := 72) (M' := M_J4_equals) (A := [vR (some (zst h10 0))]) [] dX1_execute_72 (Or.inl q1054) mf_J4_equals q948 (zkq e16 rfl) (w_J4_equals e17) (Nat.le_of_ble_eq_true rfl) rfl (by rw [← e14]; rfl) (Nat.le_of_ble_eq_true rfl) (zkv ?_) zkn9
    rcases zif H with ⟨c19, H⟩ | ⟨c19, H⟩
    · refine zw_if_eq (pc := 75) (tgt := 145) dX1_execute_75 rfl (fun _ => ?_) (fun q => absurd c19 q)
      refine zW_pick (lv' := [(0, vR p0), (1, vR p1), (2, vR x1), (5, vI (-1 : Int32))]) [3, 4, 2, 0] rfl ?_
      exact wB_X1_execute_145 H
    · refine zw_if_eq (pc := 75) (tgt := 145) dX1_execute_75 rfl (fun q => absurd q c19) (fun _ => ?_)
      refine zw_iconst (pc := 78) (v := (0 : Int32)) dX1_execute_78 (by decide) ?_
      refine zw_istore (pc := 79) (lv' := [(5, vI (0 : Int32)), (4, vR x3), (2, vR x1), (0, vR p0), (1, vR p1)]) dX1_execute_79 (by decide) rfl ?_
      refine zw_goto (pc := 81) (tgt := 145) dX1_execute_81 rfl ?_
      refine zW_pick (lv' := [(0, vR p0), (1, vR p1), (2, vR x1), (5, vI (0 : Int32))]) [3, 4, 2, 0] rfl ?_
      exact wB_X1_execute_145 H
  rcases zif H with ⟨c20, H⟩ | ⟨c20, H⟩
  · refine zw_lookup (pc := 19) (81) 100 dX1_execute_19 (by decide) (by rw [c20]; decide) rfl ?_
    refine zw_aload (pc := 100) dX1_execute_100 1 rfl ?_
    refine zw_ldcS (pc := 102) 2 dX1_execute_102 rfl ?_
    obtain ⟨b21, e23, H⟩ := zbind H
    obtain ⟨e22, e24⟩ := zrv_ok e23
    obtain ⟨x26, e25, H⟩ := zbind H
    refine zw_invV (pc := 104) (M' := M_J4_equals) (A := [vR (some (zst h10 2))]) [] dX1_execute_104 (Or.inl q1054) mf_J4_equals q948 (zkq e24 rfl) (w_J4_equals e25) (Nat.le_of_ble_eq_true rfl) rfl (by rw [← e22]; rfl) (Nat.le_of_ble_eq_true rfl) (zkv ?_) zkn9
    rcases zif H with ⟨c27, H⟩ | ⟨c27, H⟩
    · refine zw_if_eq (pc := 107) (tgt := 145) dX1_execute_107 rfl (fun _ => ?_) (fun q => absurd c27 q)
      refine zW_pick (lv' := [(0, vR p0), (1, vR p1), (2, vR x1), (5, vI (-1 : Int32))]) [3, 4, 2, 0] rfl ?_
      exact wB_X1_execute_145 H
    · refine zw_if_eq (pc := 107) (tgt := 145) dX1_execute_107 rfl (fun q => absurd q c27) (fun _ => ?_)
      refine zw_iconst (pc := 110) (v := (2 : Int32)) dX1_execute_110 (by decide) ?_
      refine zw_istore (pc := 111) (lv' := [(5, vI (2 : Int32)), (4, vR x3), (2, vR x1), (0, vR p0), (1, vR p1)]) dX1_execute_111 (by decide) rfl ?_
      refine zw_goto (pc := 113) (tgt := 145) dX1_execute_113 rfl ?_
      refine zW_pick (lv' := [(0, vR p0), (1, vR p1), (2, vR x1), (5, vI (2 : Int32))]) [3, 4, 2, 0] rfl ?_
      exact wB_X1_execute_145 H
  rcases zif H with ⟨c28, H⟩ | ⟨c28, H⟩
  · refine zw_lookup (pc := 19) (97) 116 dX1_execute_19 (by decide) (by rw [c28]; decide) rfl ?_
    refine zw_aload (pc := 116) dX1_execute_116 1 rfl ?_
    refine zw_ldcS (pc := 118) 3 dX1_execute_118 rfl ?_
    obtain ⟨b29, e31, H⟩ := zbind H
    obtain ⟨e30, e32⟩ := zrv_ok e31
    obtain ⟨x34, e33, H⟩ := zbind H
    refine zw_invV (pc := 120) (M' := M_J4_equals) (A := [vR (some (zst h10 3))]) [] dX1_execute_120 (Or.inl q1054) mf_J4_equals q948 (zkq e32 rfl) (w_J4_equals e33) (Nat.le_of_ble_eq_true rfl) rfl (by rw [← e30]; rfl) (Nat.le_of_ble_eq_true rfl) (zkv ?_) zkn9
    rcases zif H with ⟨c35, H⟩ | ⟨c35, H⟩
    · refine zw_if_eq (pc := 123) (tgt := 145) dX1_execute_123 rfl (fun _ => ?_) (fun q => absurd c35 q)
      refine zW_pick (lv' := [(0, vR p0), (1, vR p1), (2, vR x1), (5, vI (-1 : Int32))]) [3, 4, 2, 0] rfl ?_
      exact wB_X1_execute_145 H
    · refine zw_if_eq (pc := 123) (tgt := 145) dX1_execute_123 rfl (fun q => absurd q c35) (fun _ => ?_)
      refine zw_iconst (pc := 126) (v := (3 : Int32)) dX1_execute_126 (by decide) ?_
      refine zw_istore (pc := 127) (lv' := [(5, vI (3 : Int32)), (4, vR x3), (2, vR x1), (0, vR p0), (1, vR p1)]) dX1_execute_127 (by decide) rfl ?_
      refine zw_goto (pc := 129) (tgt := 145) dX1_execute_129 rfl ?_
      refine zW_pick (lv' := [(0, vR p0), (1, vR p1), (2, vR x1), (5, vI (3 : Int32))]) [3, 4, 2, 0] rfl ?_
      exact wB_X1_execute_145 H
  rcases zif H with ⟨c36, H⟩ | ⟨c36, H⟩
  · refine zw_lookup (pc := 19) (65) 84 dX1_execute_19 (by decide) (by rw [c36]; decide) rfl ?_
    refine zw_aload (pc := 84) dX1_execute_84 1 rfl ?_
    refine zw_ldcS (pc := 86) 1 dX1_execute_86 rfl ?_
    obtain ⟨b37, e39, H⟩ := zbind H
    obtain ⟨e38, e40⟩ := zrv_ok e39
    obtain ⟨x42, e41, H⟩ := zbind H
    refine zw_invV (pc := 88) (M' := M_J4_equals) (A := [vR (some (zst h10 1))]) [] dX1_execute_88 (Or.inl q1054) mf_J4_equals q948 (zkq e40 rfl) (w_J4_equals e41) (Nat.le_of_ble_eq_true rfl) rfl (by rw [← e38]; rfl) (Nat.le_of_ble_eq_true rfl) (zkv ?_) zkn9
    rcases zif H with ⟨c43, H⟩ | ⟨c43, H⟩
    · refine zw_if_eq (pc := 91) (tgt := 145) dX1_execute_91 rfl (fun _ => ?_) (fun q => absurd c43 q)
      refine zW_pick (lv' := [(0, vR p0), (1, vR p1), (2, vR x1), (5, vI (-1 : Int32))]) [3, 4, 2, 0] rfl ?_
      exact wB_X1_execute_145 H
    · refine zw_if_eq (pc := 91) (tgt := 145) dX1_execute_91 rfl (fun q => absurd q c43) (fun _ => ?_)
      refine zw_iconst (pc := 94) (v := (1 : Int32)) dX1_execute_94 (by decide) ?_
      refine zw_istore (pc := 95) (lv' := [(5, vI (1 : Int32)), (4, vR x3), (2, vR x1), (0, vR p0), (1, vR p1)]) dX1_execute_95 (by decide) rfl ?_
      refine zw_goto (pc := 97) (tgt := 145) dX1_execute_97 rfl ?_
      refine zW_pick (lv' := [(0, vR p0), (1, vR p1), (2, vR x1), (5, vI (1 : Int32))]) [3, 4, 2, 0] rfl ?_
      exact wB_X1_execute_145 H
  rcases zif H with ⟨c44, H⟩ | ⟨c44, H⟩
  · refine zw_lookup (pc := 19) (113) 132 dX1_execute_19 (by decide) (by rw [c44]; decide) rfl ?_
    refine zw_aload (pc := 132) dX1_execute_132 1 rfl ?_
    refine zw_ldcS (pc := 134) 4 dX1_execute_134 rfl ?_
    obtain ⟨b45, e47, H⟩ := zbind H
    obtain ⟨e46, e48⟩ := zrv_ok e47
    obtain ⟨x50, e49, H⟩ := zbind H
    refine zw_invV (pc := 136) (M' := M_J4_equals) (A := [vR (some (zst h10 4))]) [] dX1_execute_136 (Or.inl q1054) mf_J4_equals q948 (zkq e48 rfl) (w_J4_equals e49) (Nat.le_of_ble_eq_true rfl) rfl (by rw [← e46]; rfl) (Nat.le_of_ble_eq_true rfl) (zkv ?_) zkn9
    rcases zif H with ⟨c51, H⟩ | ⟨c51, H⟩
    · refine zw_if_eq (pc := 139) (tgt := 145) dX1_execute_139 rfl (fun _ => ?_) (fun q => absurd c51 q)
      refine zW_pick (lv' := [(0, vR p0), (1, vR p1), (2, vR x1), (5, vI (-1 : Int32))]) [3, 4, 2, 0] rfl ?_
      exact wB_X1_execute_145 H
    · refine zw_if_eq (pc := 139) (tgt := 145) dX1_execute_139 rfl (fun q => absurd q c51) (fun _ => ?_)
      refine zw_iconst (pc := 142) (v := (4 : Int32)) dX1_execute_142 (by decide) ?_
      refine zw_istore (pc := 143) (lv' := [(5, vI (4 : Int32)), (4, vR x3), (2, vR x1), (0, vR p0), (1, vR p1)]) dX1_execute_143 (by decide) rfl ?_
      refine zW_pick (lv' := [(0, vR p0), (1, vR p1), (2, vR x1), (5, vI (4 : Int32))]) [3, 4, 2, 0] rfl ?_
      exact wB_X1_execute_145 H
  refine zw_lookup (pc := 19) (126) 145 dX1_execute_19 (by decide) (zlkD (List.forall_mem_cons.mpr ⟨zne c12, List.forall_mem_cons.mpr ⟨zne c20, List.forall_mem_cons.mpr ⟨zne c28, List.forall_mem_cons.mpr ⟨zne c36, List.forall_mem_cons.mpr ⟨zne c44, fun _ hp => nomatch hp⟩⟩⟩⟩⟩)) rfl ?_
  refine zW_pick (lv' := [(0, vR p0), (1, vR p1), (2, vR x1), (5, vI (-1 : Int32))]) [3, 4, 2, 0] rfl ?_
  exact wB_X1_execute_145 H
theorem ls_X1_execute : Cond.selects yX1_execute.cls yX1_execute yX1_execute ∈ lw_all := lw_g (lw_ms _ (List.mem_of_getElem? (i := 47) rfl)) rfl
theorem lf_X1_74 : zFl "CsrCalculator" 74 1 0 := ⟨_, "CsrCalculator", by decide, rfl, by decide, Or.inl q334, Or.inl rfl⟩
theorem lp_X1_74 {nm : String} : zFp "CsrCalculator" nm 74 1 0 := ⟨_, "CsrCalculator", by decide, rfl, by decide, Or.inl rfl, Or.inl ⟨Or.inl q334, rfl⟩⟩
def M_X1_runOne : zM := (yX1_runOne, cX1_runOne, 3, (.some .boolean), [(0, 5, 8, 68), (0, 5, 11, 70), (0, 5, 14, 72)])
theorem mf_X1_runOne : zMi M_X1_runOne 1 := ⟨⟨q1539, q180, ⟨by decide +kernel, by decide +kernel⟩, by decide +kernel, by decide⟩, q1538⟩
def f_X1_runOne (p0 : Option Nat) (p1 : Option Nat) (h : zH) : Option (Int32 × zH) :=
  (zrv 1 p0 h).bind fun b1 =>
  zb3 (f_X1_execute (some b1) p1 h) (fun _ h7 =>
  (zgI 1 0 p0 h7).bind fun x10 =>
  (zpI 1 0 p0 (x10 + (1 : Int32)) h7).bind fun h12 =>
  (zgI 1 0 p0 h12).bind fun x14 =>
  if (40 : Int32) ≤ x14 then
  some ((0 : Int32), h12)
  else
  some ((1 : Int32), h12))
  (fun q8 h9 =>
  if zk h9 q8 = 20 then
  some ((0 : Int32), h9)
  else if zk h9 q8 = 21 then
  some ((0 : Int32), h9)
  else if zk h9 q8 = 22 then
  some ((0 : Int32), h9)
  else none)
theorem w_X1_runOne {G : zG} {p0 : Option Nat} {p1 : Option Nat} {h : zH} {vx : Int32} {vh : zH} (H : f_X1_runOne p0 p1 h = some (vx, vh)) : zMet G M_X1_runOne 142 [vR p0, vR p1] h (.inl (some (vI vx))) vh := by
  refine zMet.of (by decide +kernel) (Nat.le_of_ble_eq_true rfl) ?_
  show zW G M_X1_runOne 142 h (.inl (some (vI vx))) vh 0 [(0, vR p0), (1, vR p1)] [] h
  unfold f_X1_runOne at H
  refine zw_aload_n (pc := 0) dX1_runOne_0 rfl 0 rfl ?_
  refine zw_aload_n (pc := 1) dX1_runOne_1 rfl 1 rfl ?_
  obtain ⟨b1, e3, H⟩ := zbind H
  obtain ⟨e2, e4⟩ := zrv_ok e3
  rcases zbind3 H with ⟨x6, h7, e5, H⟩ | ⟨q8, h9, e5, H⟩
  · refine zw_invV (pc := 2) (M' := M_X1_execute) (A := [vR p1]) [] dX1_runOne_2 (Or.inl q1559) mf_X1_execute ls_X1_execute (zkq e4 rfl) (w_X1_execute e5) (Nat.le_of_ble_eq_true rfl) rfl (by rw [← e2]; rfl) (Nat.le_of_ble_eq_true rfl) (zku ?_) zkn9
    refine zw_goto (pc := 5) (tgt := 17) dX1_runOne_5 rfl ?_
    refine zw_aload_n (pc := 17) dX1_runOne_17 rfl 0 rfl ?_
    refine zw_dup (pc := 18) dX1_runOne_18 rfl ?_
    obtain ⟨x10, e11, H⟩ := zbind H
    refine zy_getI (pc := 19) dX1_runOne_19 lf_X1_74 (fun _ _ => rfl) e11 ?_
    refine zw_iconst (pc := 22) (v := (1 : Int32)) dX1_runOne_22 (by decide) ?_
    refine zw_iadd (pc := 23) dX1_runOne_23 ?_
    obtain ⟨h12, e13, H⟩ := zbind H
    refine zy_putI (pc := 24) dX1_runOne_24 lp_X1_74 rfl e13 ?_
    refine zw_aload_n (pc := 27) dX1_runOne_27 rfl 0 rfl ?_
    obtain ⟨x14, e15, H⟩ := zbind H
    refine zy_getI (pc := 28) dX1_runOne_28 lf_X1_74 (fun _ _ => rfl) e15 ?_
    refine zw_bipush (pc := 31) (v := (40 : Int32)) dX1_runOne_31 (by decide) ?_
    rcases zif H with ⟨c16, H⟩ | ⟨c16, H⟩
    · refine zw_icmp_ge (pc := 33) (tgt := 40) dX1_runOne_33 rfl (fun _ => ?_) (fun q => absurd c16 q)
      refine zw_iconst (pc := 40) (v := (0 : Int32)) dX1_runOne_40 (by decide) ?_
      obtain ⟨rfl, rfl⟩ := Prod.mk.inj (Option.some.inj H)
      exact zw_zret (pc := 41) dX1_runOne_41 rfl rfl rfl rfl
    · refine zw_icmp_ge (pc := 33) (tgt := 40) dX1_runOne_33 rfl (fun q => absurd q c16) (fun _ => ?_)
      refine zw_iconst (pc := 36) (v := (1 : Int32)) dX1_runOne_36 (by decide) ?_
      refine zw_goto (pc := 37) (tgt := 41) dX1_runOne_37 rfl ?_
      obtain ⟨rfl, rfl⟩ := Prod.mk.inj (Option.some.inj H)
      exact zw_zret (pc := 41) dX1_runOne_41 rfl rfl rfl rfl
  · refine zw_invV (pc := 2) (M' := M_X1_execute) (A := [vR p1]) [] dX1_runOne_2 (Or.inl q1559) mf_X1_execute ls_X1_execute (zkq e4 rfl) (w_X1_execute e5) (Nat.le_of_ble_eq_true rfl) rfl (by rw [← e2]; rfl) (Nat.le_of_ble_eq_true rfl) zkv0 (zkx ?_)
    rcases zif H with ⟨c17, H⟩ | ⟨c17, H⟩
    · have c17 := c17
      refine zx_catch [] ⟨0, 5, 8, 68⟩ [⟨0, 5, 11, 70⟩, ⟨0, 5, 14, 72⟩] (zkq c17 rfl) rfl (fun _ hz => nomatch hz) rfl (by decide) q1540 (by decide +kernel) ?_
      refine zw_astore_n (pc := 8) (lv' := [(2, vR (some q8)), (0, vR p0), (1, vR p1)]) dX1_runOne_8 rfl (by decide) rfl ?_
      refine zw_iconst (pc := 9) (v := (0 : Int32)) dX1_runOne_9 (by decide) ?_
      obtain ⟨rfl, rfl⟩ := Prod.mk.inj (Option.some.inj H)
      exact zw_zret (pc := 10) dX1_runOne_10 rfl rfl rfl rfl
    rcases zif H with ⟨c18, H⟩ | ⟨c18, H⟩
    · have c18 := c18
      refine zx_catch [⟨0, 5, 8, 68⟩] ⟨0, 5, 11, 70⟩ [⟨0, 5, 14, 72⟩] (zkq c18 rfl) rfl (List.forall_mem_cons.mpr ⟨Or.inr ⟨by decide, "java/lang/IndexOutOfBoundsException", q1540, by decide +kernel⟩, (fun _ hz => nomatch hz)⟩) rfl (by decide) q607 (by decide +kernel) ?_
      refine zw_astore_n (pc := 11) (lv' := [(2, vR (some q8)), (0, vR p0), (1, vR p1)]) dX1_runOne_11 rfl (by decide) rfl ?_
      refine zw_iconst (pc := 12) (v := (0 : Int32)) dX1_runOne_12 (by decide) ?_
      obtain ⟨rfl, rfl⟩ := Prod.mk.inj (Option.some.inj H)
      exact zw_zret (pc := 13) dX1_runOne_13 rfl rfl rfl rfl
    rcases zif H with ⟨c19, H⟩ | ⟨c19, H⟩
    · have c19 := c19
      refine zx_catch [⟨0, 5, 8, 68⟩, ⟨0, 5, 11, 70⟩] ⟨0, 5, 14, 72⟩ [] (zkq c19 rfl) rfl (List.forall_mem_cons.mpr ⟨Or.inr ⟨by decide, "java/lang/IndexOutOfBoundsException", q1540, by decide +kernel⟩, (List.forall_mem_cons.mpr ⟨Or.inr ⟨by decide, "java/lang/IllegalArgumentException", q607, by decide +kernel⟩, (fun _ hz => nomatch hz)⟩)⟩) rfl (by decide) q568 (by decide +kernel) ?_
      refine zw_astore_n (pc := 14) (lv' := [(2, vR (some q8)), (0, vR p0), (1, vR p1)]) dX1_runOne_14 rfl (by decide) rfl ?_
      refine zw_iconst (pc := 15) (v := (0 : Int32)) dX1_runOne_15 (by decide) ?_
      obtain ⟨rfl, rfl⟩ := Prod.mk.inj (Option.some.inj H)
      exact zw_zret (pc := 16) dX1_runOne_16 rfl rfl rfl rfl
    cases H
def M_X1_runAll : zM := (yX1_runAll, cX1_runAll, 6, (.some .boolean), [])
theorem mf_X1_runAll : zMi M_X1_runAll 1 := ⟨⟨q1527, q180, ⟨by decide +kernel, by decide +kernel⟩, by decide +kernel, by decide⟩, q1526⟩
theorem lf_X1_41 : zFl "CsrCalculator" 41 15 2 := ⟨_, "CsrCalculator$Command", by decide, rfl, by decide, Or.inr (by decide +kernel), Or.inl rfl⟩
theorem lc_X1_32 : zCt "CsrCalculator" 32 [15] := ⟨_, q1532, by
  intro k hk
  simp only [List.mem_cons, List.not_mem_nil, or_false] at hk
  rcases hk with rfl <;> first | exact Or.inl ⟨by decide, by decide +kernel⟩ | exact Or.inr ⟨_, rfl, Or.inl rfl⟩ | exact Or.inr ⟨_, rfl, Or.inr (by decide +kernel)⟩⟩
theorem ls_X1_runOne : Cond.selects yX1_runOne.cls yX1_runOne yX1_runOne ∈ lw_all := lw_g (lw_ms _ (List.mem_of_getElem? (i := 46) rfl)) rfl
theorem ls_X1_runAll : Cond.selects yX1_runAll.cls yX1_runAll yX1_runAll ∈ lw_all := lw_g (lw_ms _ (List.mem_of_getElem? (i := 45) rfl)) rfl
def B_X1_runAll_21 (r : Option Nat → Option Nat → zH → Option (Int32 × zH)) (k4 : Option Nat → Option Nat → Int32 → Int32 → zH → Option (Int32 × zH)) (k21 : Option Nat → Option Nat → Int32 → Int32 → Int32 → zH → Option (Int32 × zH)) (a0 : Option Nat) (a1 : Option Nat) (a2 : Int32) (a3 : Int32) (a4 : Int32) (h : zH) : Option (Int32 × zH) :=
  (zgR 15 2 a1 h).bind fun x1 =>
  (zrv 16 x1 h).bind fun b3 =>
  (f_J18_size (some b3) h).bind fun x8 =>
  if x8 ≤ a4 then
  k4 a0 a1 a2 (a3 + (1 : Int32)) h
  else
  if a2 = 0 then
  k4 a0 a1 a2 (a3 + (1 : Int32)) h
  else
  (zgR 15 2 a1 h).bind fun x11 =>
  (zrv 16 x11 h).bind fun b13 =>
  (f_J18_get (some b13) a4 h).bind fun x18 =>
  if zct [15] x18 h = true then
  (f_X1_isRepeat x18 h).bind fun x21 =>
  if x21 = 0 then
  (zrv 1 a0 h).bind fun b23 =>
  zb2 (f_X1_runOne (some b23) x18 h) fun x29 h28 =>
  k21 a0 a1 x29 a3 (a4 + (1 : Int32)) h28
  else
  (zrv 1 a0 h).bind fun b30 =>
  zb2 (r (some b30) x18 h) fun x36 h35 =>
  k21 a0 a1 x36 a3 (a4 + (1 : Int32)) h35
  else none
theorem wB_X1_runAll_21 {G : zG} {h0 h : zH} {vx : Int32} {vh : zH} {r : Option Nat → Option Nat → zH → Option (Int32 × zH)} {dd : Nat} (hdd : 143 ≤ dd) (hr : ∀ (b0 : Option Nat) (b1 : Option Nat) (h : zH) (vx : Int32) (vh : zH), r b0 b1 h = some (vx, vh) → zMet G M_X1_runAll dd [vR b0, vR b1] h (.inl (some (vI vx))) vh) {k4 : Option Nat → Option Nat → Int32 → Int32 → zH → Option (Int32 × zH)} (hk4 : ∀ (b0 : Option Nat) (b1 : Option Nat) (b2 : Int32) (b3 : Int32) (h' : zH), k4 b0 b1 b2 b3 h' = some (vx, vh) → zW G M_X1_runAll (dd + 1) h0 (.inl (some (vI vx))) vh 4 [(0, vR b0), (1, vR b1), (2, vI b2), (3, vI b3)] [] h') {k21 : Option Nat → Option Nat → Int32 → Int32 → Int32 → zH → Option (Int32 × zH)} (hk21 : ∀ (b0 : Option Nat) (b1 : Option Nat) (b2 : Int32) (b3 : Int32) (b4 : Int32) (h' : zH), k21 b0 b1 b2 b3 b4 h' = some (vx, vh) → zW G M_X1_runAll (dd + 1) h0 (.inl (some (vI vx))) vh 21 [(0, vR b0), (1, vR b1), (2, vI b2), (3, vI b3), (4, vI b4)] [] h') {a0 : Option Nat} {a1 : Option Nat} {a2 : Int32} {a3 : Int32} {a4 : Int32} (H : B_X1_runAll_21 r k4 k21 a0 a1 a2 a3 a4 h = some (vx, vh)) : zW G M_X1_runAll (dd + 1) h0 (.inl (some (vI vx))) vh 21 [(0, vR a0), (1, vR a1), (2, vI a2), (3, vI a3), (4, vI a4)] [] h := by
  unfold B_X1_runAll_21 at H
  refine zw_iload (pc := 21) dX1_runAll_21 4 rfl ?_
  refine zw_aload_n (pc := 23) dX1_runAll_23 rfl 1 rfl ?_
  obtain ⟨x1, e2, H⟩ := zbind H
  refine zy_getR (pc := 24) dX1_runAll_24 lf_X1_41 (fun _ _ => rfl) e2 ?_
  obtain ⟨b3, e5, H⟩ := zbind H
  obtain ⟨e4, e6⟩ := zrv_ok e5
  obtain ⟨x8, e7, H⟩ := zbind H
  refine zw_invF (pc := 27) (M' := M_J18_size) (A := []) [vI a4] dX1_runAll_27 q1529 (by decide +kernel) mf_J18_size rfl q1401 (zkq e6 rfl) (w_J18_size e7) (Nat.le_trans (show 3 ≤ 143 from Nat.le_of_ble_eq_true rfl) (Nat.le_trans hdd (Nat.le_add_right _ _))) rfl (by rw [← e4]; rfl) (Nat.le_of_ble_eq_true rfl) (zkv ?_) zkn9
  rcases zif H with ⟨c9, H⟩ | ⟨c9, H⟩
  · refine zw_icmp_ge (pc := 32) (tgt := 85) dX1_runAll_32 rfl (fun _ => ?_) (fun q => absurd c9 q)
    refine zw_iinc (pc := 85) (v := (a3 + (1 : Int32))) (lv' := [(3, vI (a3 + (1 : Int32))), (0, vR a0), (1, vR a1), (2, vI a2), (4, vI a4)]) dX1_runAll_85 3 rfl rfl (by decide) rfl ?_
    refine zw_goto (pc := 88) (tgt := 4) dX1_runAll_88 rfl ?_
    refine zW_pick (lv' := [(0, vR a0), (1, vR a1), (2, vI a2), (3, vI (a3 + (1 : Int32)))]) [1, 2, 3, 0] rfl ?_
    exact hk4 _ _ _ _ _ H
  · refine zw_icmp_ge (pc := 32) (tgt := 85) dX1_runAll_32 rfl (fun q => absurd q c9) (fun _ => ?_)
    refine zw_iload_n (pc := 35) dX1_runAll_35 rfl 2 rfl ?_
    rcases zif H with ⟨c10, H⟩ | ⟨c10, H⟩
    · refine zw_if_eq (pc := 36) (tgt := 85) dX1_runAll_36 rfl (fun _ => ?_) (fun q => absurd c10 q)
      refine zw_iinc (pc := 85) (v := (a3 + (1 : Int32))) (lv' := [(3, vI (a3 + (1 : Int32))), (0, vR a0), (1, vR a1), (2, vI a2), (4, vI a4)]) dX1_runAll_85 3 rfl rfl (by decide) rfl ?_
      refine zw_goto (pc := 88) (tgt := 4) dX1_runAll_88 rfl ?_
      refine zW_pick (lv' := [(0, vR a0), (1, vR a1), (2, vI a2), (3, vI (a3 + (1 : Int32)))]) [1, 2, 3, 0] rfl ?_
      exact hk4 _ _ _ _ _ H
    · refine zw_if_eq (pc := 36) (tgt := 85) dX1_runAll_36 rfl (fun q => absurd q c10) (fun _ => ?_)
      refine zw_aload_n (pc := 39) dX1_runAll_39 rfl 1 rfl ?_
      obtain ⟨x11, e12, H⟩ := zbind H
      refine zy_getR (pc := 40) dX1_runAll_40 lf_X1_41 (fun _ _ => rfl) e12 ?_
      refine zw_iload (pc := 43) dX1_runAll_43 4 rfl ?_
      obtain ⟨b13, e15, H⟩ := zbind H
      obtain ⟨e14, e16⟩ := zrv_ok e15
      obtain ⟨x18, e17, H⟩ := zbind H
      refine zw_invF (pc := 45) (M' := M_J18_get) (A := [vI a4]) [] dX1_runAll_45 q1531 (by decide +kernel) mf_J18_get rfl q1383 (zkq e16 rfl) (w_J18_get e17) (Nat.le_trans (show 5 ≤ 143 from Nat.le_of_ble_eq_true rfl) (Nat.le_trans hdd (Nat.le_add_right _ _))) rfl (by rw [← e14]; rfl) (Nat.le_of_ble_eq_true rfl) (zkv ?_) zkn9
      obtain ⟨c19, H⟩ := zgd H
      refine zy_cast (pc := 50) [15] dX1_runAll_50 lc_X1_32 c19 ?_
      refine zw_astore (pc := 53) (lv' := [(5, vR x18), (0, vR a0), (1, vR a1), (2, vI a2), (3, vI a3), (4, vI a4)]) dX1_runAll_53 (by decide) rfl ?_
      refine zw_aload (pc := 55) dX1_runAll_55 0 rfl ?_
      obtain ⟨x21, e20, H⟩ := zbind H
      refine zw_invS (pc := 57) (M' := M_X1_isRepeat) (A := [vR x18]) [] dX1_runAll_57 (Or.inl q1533) mf_X1_isRepeat (w_X1_isRepeat e20) (Nat.le_trans (show 5 ≤ 143 from Nat.le_of_ble_eq_true rfl) (Nat.le_trans hdd (Nat.le_add_right _ _))) rfl rfl (Nat.le_of_ble_eq_true rfl) (zkv ?_) zkn9
      rcases zif H with ⟨c22, H⟩ | ⟨c22, H⟩
      · refine zw_if_eq (pc := 60) (tgt := 72) dX1_runAll_60 rfl (fun _ => ?_) (fun q => absurd c22 q)
        refine zw_aload_n (pc := 72) dX1_runAll_72 rfl 1 rfl ?_
        refine zw_aload (pc := 73) dX1_runAll_73 0 rfl ?_
        obtain ⟨b23, e25, H⟩ := zbind H
        obtain ⟨e24, e26⟩ := zrv_ok e25
        obtain ⟨x29, h28, e27, H⟩ := zbind2 H
        refine zw_invV (pc := 75) (M' := M_X1_runOne) (A := [vR x18]) [] dX1_runAll_75 (Or.inl q1536) mf_X1_runOne ls_X1_runOne (zkq e26 rfl) (w_X1_runOne e27) (Nat.le_trans (show 143 ≤ 143 from Nat.le_of_ble_eq_true rfl) (Nat.le_trans hdd (Nat.le_add_right _ _))) rfl (by rw [← e24]; rfl) (Nat.le_of_ble_eq_true rfl) (zkv ?_) zkn9
        refine zw_istore_n (pc := 78) (lv' := [(2, vI x29), (5, vR x18), (0, vR a0), (1, vR a1), (3, vI a3), (4, vI a4)]) dX1_runAll_78 rfl (by decide) rfl ?_
        refine zw_iinc (pc := 79) (v := (a4 + (1 : Int32))) (lv' := [(4, vI (a4 + (1 : Int32))), (2, vI x29), (5, vR x18), (0, vR a0), (1, vR a1), (3, vI a3)]) dX1_runAll_79 5 rfl rfl (by decide) rfl ?_
        refine zw_goto (pc := 82) (tgt := 21) dX1_runAll_82 rfl ?_
        refine zW_pick (lv' := [(0, vR a0), (1, vR a1), (2, vI x29), (3, vI a3), (4, vI (a4 + (1 : Int32)))]) [3, 4, 1, 5, 0] rfl ?_
        exact hk21 _ _ _ _ _ _ H
      · refine zw_if_eq (pc := 60) (tgt := 72) dX1_runAll_60 rfl (fun q => absurd q c22) (fun _ => ?_)
        refine zw_aload_n (pc := 63) dX1_runAll_63 rfl 1 rfl ?_
        refine zw_aload (pc := 64) dX1_runAll_64 0 rfl ?_
        obtain ⟨b30, e32, H⟩ := zbind H
        obtain ⟨e31, e33⟩ := zrv_ok e32
        obtain ⟨x36, h35, e34, H⟩ := zbind2 H
        refine zw_invV (pc := 66) (M' := M_X1_runAll) (A := [vR x18]) [] dX1_runAll_66 (Or.inl q1524) mf_X1_runAll ls_X1_runAll (zkq e33 rfl) (hr _ _ _ _ _ e34) (Nat.add_le_add_left (Nat.le_of_ble_eq_true rfl) dd) rfl (by rw [← e31]; rfl) (Nat.le_of_ble_eq_true rfl) (zkv ?_) zkn9
        refine zw_goto (pc := 69) (tgt := 78) dX1_runAll_69 rfl ?_
        refine zw_istore_n (pc := 78) (lv' := [(2, vI x36), (5, vR x18), (0, vR a0), (1, vR a1), (3, vI a3), (4, vI a4)]) dX1_runAll_78 rfl (by decide) rfl ?_
        refine zw_iinc (pc := 79) (v := (a4 + (1 : Int32))) (lv' := [(4, vI (a4 + (1 : Int32))), (2, vI x36), (5, vR x18), (0, vR a0), (1, vR a1), (3, vI a3)]) dX1_runAll_79 5 rfl rfl (by decide) rfl ?_
        refine zw_goto (pc := 82) (tgt := 21) dX1_runAll_82 rfl ?_
        refine zW_pick (lv' := [(0, vR a0), (1, vR a1), (2, vI x36), (3, vI a3), (4, vI (a4 + (1 : Int32)))]) [3, 4, 1, 5, 0] rfl ?_
        exact hk21 _ _ _ _ _ _ H
def B_X1_runAll_4 (r : Option Nat → Option Nat → zH → Option (Int32 × zH)) (k4 : Option Nat → Option Nat → Int32 → Int32 → zH → Option (Int32 × zH)) (a0 : Option Nat) (a1 : Option Nat) (a2 : Int32) (a3 : Int32) (h : zH) : Option (Int32 × zH) :=
  (zgR 15 1 a1 h).bind fun x1 =>
  (zaI 50 x1 (0 : Int32) h).bind fun x3 =>
  if x3 ≤ a3 then
  if a2 = 0 ∨ a2 = 1 then some (a2, h) else none
  else
  if a2 = 0 then
  if a2 = 0 ∨ a2 = 1 then some (a2, h) else none
  else
  zloop (B_X1_runAll_21 r k4) (fun _ _ _ _ _ _ => none) zFU a0 a1 a2 a3 (0 : Int32) h
theorem wB_X1_runAll_4 {G : zG} {h0 h : zH} {vx : Int32} {vh : zH} {r : Option Nat → Option Nat → zH → Option (Int32 × zH)} {dd : Nat} (hdd : 143 ≤ dd) (hr : ∀ (b0 : Option Nat) (b1 : Option Nat) (h : zH) (vx : Int32) (vh : zH), r b0 b1 h = some (vx, vh) → zMet G M_X1_runAll dd [vR b0, vR b1] h (.inl (some (vI vx))) vh) {k4 : Option Nat → Option Nat → Int32 → Int32 → zH → Option (Int32 × zH)} (hk4 : ∀ (b0 : Option Nat) (b1 : Option Nat) (b2 : Int32) (b3 : Int32) (h' : zH), k4 b0 b1 b2 b3 h' = some (vx, vh) → zW G M_X1_runAll (dd + 1) h0 (.inl (some (vI vx))) vh 4 [(0, vR b0), (1, vR b1), (2, vI b2), (3, vI b3)] [] h') {a0 : Option Nat} {a1 : Option Nat} {a2 : Int32} {a3 : Int32} (H : B_X1_runAll_4 r k4 a0 a1 a2 a3 h = some (vx, vh)) : zW G M_X1_runAll (dd + 1) h0 (.inl (some (vI vx))) vh 4 [(0, vR a0), (1, vR a1), (2, vI a2), (3, vI a3)] [] h := by
  unfold B_X1_runAll_4 at H
  refine zw_iload_n (pc := 4) dX1_runAll_4 rfl 3 rfl ?_
  refine zw_aload_n (pc := 5) dX1_runAll_5 rfl 1 rfl ?_
  obtain ⟨x1, e2, H⟩ := zbind H
  refine zy_getR (pc := 6) dX1_runAll_6 lf_X1_37 (fun _ _ => rfl) e2 ?_
  refine zw_iconst (pc := 9) (v := (0 : Int32)) dX1_runAll_9 (by decide) ?_
  obtain ⟨x3, e4, H⟩ := zbind H
  refine zy_iald (pc := 10) dX1_runAll_10 e4 ?_
  rcases zif H with ⟨c5, H⟩ | ⟨c5, H⟩
  · refine zw_icmp_ge (pc := 11) (tgt := 91) dX1_runAll_11 rfl (fun _ => ?_) (fun q => absurd c5 q)
    refine zw_iload_n (pc := 91) dX1_runAll_91 rfl 2 rfl ?_
    obtain ⟨c6, H⟩ := zgd H
    obtain ⟨rfl, rfl⟩ := Prod.mk.inj (Option.some.inj H)
    exact zw_zret (pc := 92) dX1_runAll_92 rfl (znarZ c6) rfl rfl
  · refine zw_icmp_ge (pc := 11) (tgt := 91) dX1_runAll_11 rfl (fun q => absurd q c5) (fun _ => ?_)
    refine zw_iload_n (pc := 14) dX1_runAll_14 rfl 2 rfl ?_
    rcases zif H with ⟨c7, H⟩ | ⟨c7, H⟩
    · refine zw_if_eq (pc := 15) (tgt := 91) dX1_runAll_15 rfl (fun _ => ?_) (fun q => absurd c7 q)
      refine zw_iload_n (pc := 91) dX1_runAll_91 rfl 2 rfl ?_
      obtain ⟨c8, H⟩ := zgd H
      obtain ⟨rfl, rfl⟩ := Prod.mk.inj (Option.some.inj H)
      exact zw_zret (pc := 92) dX1_runAll_92 rfl (znarZ c8) rfl rfl
    · refine zw_if_eq (pc := 15) (tgt := 91) dX1_runAll_15 rfl (fun q => absurd q c7) (fun _ => ?_)
      refine zw_iconst (pc := 18) (v := (0 : Int32)) dX1_runAll_18 (by decide) ?_
      refine zw_istore (pc := 19) (lv' := [(4, vI (0 : Int32)), (0, vR a0), (1, vR a1), (2, vI a2), (3, vI a3)]) dX1_runAll_19 (by decide) rfl ?_
      refine zW_pick (lv' := [(0, vR a0), (1, vR a1), (2, vI a2), (3, vI a3), (4, vI (0 : Int32))]) [1, 2, 3, 4, 0] rfl ?_
      exact zloop_ind (body := (B_X1_runAll_21 r k4)) (bot := (fun _ _ _ _ _ _ => none)) (P := (fun (f : Option Nat → Option Nat → Int32 → Int32 → Int32 → zH → Option (Int32 × zH)) => ∀ (b0 : Option Nat) (b1 : Option Nat) (b2 : Int32) (b3 : Int32) (b4 : Int32) (h' : zH), f b0 b1 b2 b3 b4 h' = some (vx, vh) → zW G M_X1_runAll (dd + 1) h0 (.inl (some (vI vx))) vh 21 [(0, vR b0), (1, vR b1), (2, vI b2), (3, vI b3), (4, vI b4)] [] h')) zFU (fun _ _ _ _ _ _ H => nomatch H) (fun f hf c0 c1 c2 c3 c4 h' H => wB_X1_runAll_21 hdd hr hk4 hf H) _ _ _ _ _ _ H
def g_X1_runAll (r : Option Nat → Option Nat → zH → Option (Int32 × zH)) (p0 : Option Nat) (p1 : Option Nat) (h : zH) : Option (Int32 × zH) :=
  zloop (B_X1_runAll_4 r) (fun _ _ _ _ _ => none) zFU p0 p1 (1 : Int32) (0 : Int32) h
theorem w_g_X1_runAll {G : zG} {r : Option Nat → Option Nat → zH → Option (Int32 × zH)} {dd : Nat} (hdd : 143 ≤ dd) (hr : ∀ (b0 : Option Nat) (b1 : Option Nat) (h : zH) (vx : Int32) (vh : zH), r b0 b1 h = some (vx, vh) → zMet G M_X1_runAll dd [vR b0, vR b1] h (.inl (some (vI vx))) vh) {p0 : Option Nat} {p1 : Option Nat} {h : zH} {vx : Int32} {vh : zH} (H : g_X1_runAll r p0 p1 h = some (vx, vh)) : zMet G M_X1_runAll (dd + 1) [vR p0, vR p1] h (.inl (some (vI vx))) vh := by
  refine zMet.of (by decide +kernel) (Nat.le_of_ble_eq_true rfl) ?_
  show zW G M_X1_runAll (dd + 1) h (.inl (some (vI vx))) vh 0 [(0, vR p0), (1, vR p1)] [] h
  unfold g_X1_runAll at H
  refine zw_iconst (pc := 0) (v := (1 : Int32)) dX1_runAll_0 (by decide) ?_
  refine zw_istore_n (pc := 1) (lv' := [(2, vI (1 : Int32)), (0, vR p0), (1, vR p1)]) dX1_runAll_1 rfl (by decide) rfl ?_
  refine zw_iconst (pc := 2) (v := (0 : Int32)) dX1_runAll_2 (by decide) ?_
  refine zw_istore_n (pc := 3) (lv' := [(3, vI (0 : Int32)), (2, vI (1 : Int32)), (0, vR p0), (1, vR p1)]) dX1_runAll_3 rfl (by decide) rfl ?_
  refine zW_pick (lv' := [(0, vR p0), (1, vR p1), (2, vI (1 : Int32)), (3, vI (0 : Int32))]) [2, 3, 1, 0] rfl ?_
  exact zloop_ind (body := (B_X1_runAll_4 r)) (bot := (fun _ _ _ _ _ => none)) (P := (fun (f : Option Nat → Option Nat → Int32 → Int32 → zH → Option (Int32 × zH)) => ∀ (b0 : Option Nat) (b1 : Option Nat) (b2 : Int32) (b3 : Int32) (h' : zH), f b0 b1 b2 b3 h' = some (vx, vh) → zW G M_X1_runAll (dd + 1) h (.inl (some (vI vx))) vh 4 [(0, vR b0), (1, vR b1), (2, vI b2), (3, vI b3)] [] h')) zFU (fun _ _ _ _ _ H => nomatch H) (fun f hf c0 c1 c2 c3 h' H => wB_X1_runAll_4 hdd hr hf H) _ _ _ _ _ H
def f_X1_runAll (p0 : Option Nat) (p1 : Option Nat) (h : zH) : Option (Int32 × zH) := zloop g_X1_runAll (fun _ _ _ => none) zFR p0 p1 h
theorem w_X1_runAll {G : zG} {p0 : Option Nat} {p1 : Option Nat} {h : zH} {vx : Int32} {vh : zH} (H : f_X1_runAll p0 p1 h = some (vx, vh)) : zMet G M_X1_runAll 207 [vR p0, vR p1] h (.inl (some (vI vx))) vh :=
  zloopD (body := g_X1_runAll) (bot := fun _ _ _ => none) (P := fun n f => ∀ (b0 : Option Nat) (b1 : Option Nat) (h : zH) (vx : Int32) (vh : zH), f b0 b1 h = some (vx, vh) → zMet G M_X1_runAll (143 + 1 * n) [vR b0, vR b1] h (.inl (some (vI vx))) vh) zFR (fun _ _ _ _ _ H => nomatch H) (fun n f hf c0 c1 c2 c3 c4 H => (w_g_X1_runAll (dd := 143 + 1 * n) (Nat.le_add_right _ _) hf H)) _ _ _ _ _ H
theorem ls_X1_kept : Cond.selects yX1_kept.cls yX1_kept yX1_kept ∈ lw_all := lw_g (lw_ms _ (List.mem_of_getElem? (i := 61) rfl)) rfl
def M_X1_runScript : zM := (yX1_runScript, cX1_runScript, 4, (.some .int), [(10, 22, 30, 187), (10, 22, 44, 0), (30, 45, 44, 0)])
theorem mf_X1_runScript : zMi M_X1_runScript 0 := ⟨⟨q1468, q180, ⟨by decide +kernel, by decide +kernel⟩, by decide +kernel, by decide⟩, q1466⟩
def B_X1_runScript_30 (a0 : Option Nat) (a1 : Option Nat) (h : zH) : Option ((Int32 ⊕ Nat) × zH) :=
  (zrv 1 a0 h).bind fun b1 =>
  (f_X1_note (some b1) a1 h).bind fun h6 =>
  zb2 (zmk 21 h6) fun q7 h8 =>
  (some q7).bind fun q10 =>
  if zk h8 q10 = 21 then
  (zpI 1 2 a0 (0 : Int32) h8).bind fun h13 =>
  (some q10).bind fun q15 =>
  if zk h13 q15 = 21 then
  some (.inr q15, h13)
  else none
  else none
theorem wB_X1_runScript_30 {G : zG} {h0 h : zH} {vo : Int32 ⊕ Nat} {vh : zH} {a0 : Option Nat} {a1 : Option Nat} (H : B_X1_runScript_30 a0 a1 h = some (vo, vh)) : zW G M_X1_runScript 341 h0 (zoI vo) vh 30 [(0, vR a0)] [vR a1] h := by
  unfold B_X1_runScript_30 at H
  refine zw_astore_n (pc := 30) (lv' := [(2, vR a1), (0, vR a0)]) dX1_runScript_30 rfl (by decide) rfl ?_
  refine zw_aload_n (pc := 31) dX1_runScript_31 rfl 1 rfl ?_
  refine zw_aload_n (pc := 32) dX1_runScript_32 rfl 0 rfl ?_
  obtain ⟨b1, e3, H⟩ := zbind H
  obtain ⟨e2, e4⟩ := zrv_ok e3
  obtain ⟨h6, e5, H⟩ := zbind H
  refine zw_invV (pc := 33) (M' := M_X1_note) (A := [vR a1]) [] dX1_runScript_33 (Or.inl q1458) mf_X1_note ls_X1_note (zkq e4 rfl) (w_X1_note e5) (Nat.le_of_ble_eq_true rfl) rfl (by rw [← e2]; rfl) (Nat.le_of_ble_eq_true rfl) (zku ?_) zkn9
  obtain ⟨q7, h8, e9, H⟩ := zbind2 H
  refine zy_make0 (pc := 36) rfl (Or.inr (Or.inl ⟨rfl, rfl, rfl⟩)) dX1_runScript_36 dX1_runScript_39 dX1_runScript_40 (Nat.le_of_ble_eq_true rfl) (Nat.le_of_ble_eq_true rfl) e9 ?_
  obtain ⟨q10, e11, H⟩ := zbind H
  refine zy_athrow (pc := 43) dX1_runScript_43 e11 ?_
  rcases zif H with ⟨c12, H⟩ | ⟨c12, H⟩
  · have c12 := c12
    refine zx_any [⟨10, 22, 30, 187⟩, ⟨10, 22, 44, 0⟩] ⟨30, 45, 44, 0⟩ [] (zkq c12 rfl) rfl (List.forall_mem_cons.mpr ⟨Or.inl rfl, (List.forall_mem_cons.mpr ⟨Or.inl rfl, (fun _ hz => nomatch hz)⟩)⟩) rfl rfl ?_
    refine zw_astore_n (pc := 44) (lv' := [(3, vR (some q10)), (2, vR a1), (0, vR a0)]) dX1_runScript_44 rfl (by decide) rfl ?_
    refine zw_aload_n (pc := 45) dX1_runScript_45 rfl 2 rfl ?_
    refine zw_iconst (pc := 46) (v := (0 : Int32)) dX1_runScript_46 (by decide) ?_
    obtain ⟨h13, e14, H⟩ := zbind H
    refine zy_putI (pc := 47) dX1_runScript_47 lp_X1_173 rfl e14 ?_
    refine zw_aload_n (pc := 50) dX1_runScript_50 rfl 0 rfl ?_
    obtain ⟨q15, e16, H⟩ := zbind H
    refine zy_athrow (pc := 51) dX1_runScript_51 e16 ?_
    rcases zif H with ⟨c17, H⟩ | ⟨c17, H⟩
    · have c17 := c17
      obtain ⟨rfl, rfl⟩ := Prod.mk.inj (Option.some.inj H)
      exact zx_out (zkq c17 rfl) (List.forall_mem_cons.mpr ⟨Or.inl rfl, (List.forall_mem_cons.mpr ⟨Or.inl rfl, (List.forall_mem_cons.mpr ⟨Or.inl rfl, (fun _ hz => nomatch hz)⟩)⟩)⟩) rfl rfl
    cases H
  cases H
def f_X1_runScript (p0 : Option Nat) (h : zH) : Option ((Int32 ⊕ Nat) × zH) :=
  (zpI 1 3 p0 (0 : Int32) h).bind fun h1 =>
  (zpI 1 4 p0 (-1 : Int32) h1).bind fun h3 =>
  zb2 (znw 5 h3) fun q5 h6 =>
  (some q5).bind fun b8 =>
  (f_X5_init (some b8) p0 h6).bind fun h11 =>
  (zrv 5 (some q5) h11).bind fun b12 =>
  zb3 (f_X5_script (some b12) h11) (fun x17 h18 =>
  (zpI 1 2 p0 (0 : Int32) h18).bind fun h21 =>
  (zgR 1 5 p0 h21).bind fun x23 =>
  (zrv 2 x23 h21).bind fun b25 =>
  zb2 (f_X2_copy (some b25) h21) fun x31 h30 =>
  (zpI 1 0 p0 (0 : Int32) h30).bind fun h32 =>
  (zrv 1 p0 h32).bind fun b34 =>
  zb2 (f_X1_runAll (some b34) x17 h32) fun x40 h39 =>
  (zgI 1 0 p0 h39).bind fun x41 =>
  (zrv 1 p0 h39).bind fun b43 =>
  zb2 (f_X1_kept (some b43) x31 x41 h39) fun x49 h48 =>
  some (.inl x49, h48))
  (fun q19 h20 =>
  if zk h20 q19 = 6 then
  B_X1_runScript_30 p0 (some q19) h20
  else none)
theorem w_X1_runScript {G : zG} {p0 : Option Nat} {h : zH} {vo : Int32 ⊕ Nat} {vh : zH} (H : f_X1_runScript p0 h = some (vo, vh)) : zMet G M_X1_runScript 341 [vR p0] h (zoI vo) vh := by
  refine zMet.of (by decide +kernel) (Nat.le_of_ble_eq_true rfl) ?_
  show zW G M_X1_runScript 341 h (zoI vo) vh 0 [(0, vR p0)] [] h
  unfold f_X1_runScript at H
  refine zw_aload_n (pc := 0) dX1_runScript_0 rfl 0 rfl ?_
  refine zw_iconst (pc := 1) (v := (0 : Int32)) dX1_runScript_1 (by decide) ?_
  obtain ⟨h1, e2, H⟩ := zbind H
  refine zy_putI (pc := 2) dX1_runScript_2 lp_X1_191 rfl e2 ?_
  refine zw_aload_n (pc := 5) dX1_runScript_5 rfl 0 rfl ?_
  refine zw_iconst (pc := 6) (v := (-1 : Int32)) dX1_runScript_6 (by decide) ?_
  obtain ⟨h3, e4, H⟩ := zbind H
  refine zy_putI (pc := 7) dX1_runScript_7 lp_X1_114 rfl e4 ?_
  obtain ⟨q5, h6, e7, H⟩ := zbind2 H
  refine zy_new (pc := 10) dX1_runScript_10 ln_X1_197 e7 ?_
  refine zw_dup (pc := 13) dX1_runScript_13 rfl ?_
  refine zw_aload_n (pc := 14) dX1_runScript_14 rfl 0 rfl ?_
  obtain ⟨b8, e9, H⟩ := zbind H
  obtain ⟨h11, e10, H⟩ := zbind H
  refine zw_invI (pc := 15) (M' := M_X5_init) (A := [vR p0]) [vR (some q5)] dX1_runScript_15 (Or.inr (by decide +kernel)) mf_X5_init rfl rfl (w_X5_init e10) (Nat.le_of_ble_eq_true rfl) rfl (by rw [← e9]; rfl) (Nat.le_of_ble_eq_true rfl) (zku ?_) zkn9
  obtain ⟨b12, e14, H⟩ := zbind H
  obtain ⟨e13, e15⟩ := zrv_ok e14
  rcases zbind3 H with ⟨x17, h18, e16, H⟩ | ⟨q19, h20, e16, H⟩
  · refine zw_invV (pc := 18) (M' := M_X5_script) (A := []) [] dX1_runScript_18 (Or.inl q1469) mf_X5_script q1471 (zkq e15 rfl) (w_X5_script e16) (Nat.le_of_ble_eq_true rfl) rfl (by rw [← e13]; rfl) (Nat.le_of_ble_eq_true rfl) (zkv ?_) zkn9
    refine zw_astore_n (pc := 21) (lv' := [(1, vR x17), (0, vR p0)]) dX1_runScript_21 rfl (by decide) rfl ?_
    refine zw_aload_n (pc := 22) dX1_runScript_22 rfl 1 rfl ?_
    refine zw_iconst (pc := 23) (v := (0 : Int32)) dX1_runScript_23 (by decide) ?_
    obtain ⟨h21, e22, H⟩ := zbind H
    refine zy_putI (pc := 24) dX1_runScript_24 lp_X1_173 rfl e22 ?_
    refine zw_goto (pc := 27) (tgt := 52) dX1_runScript_27 rfl ?_
    refine zw_aload_n (pc := 52) dX1_runScript_52 rfl 1 rfl ?_
    obtain ⟨x23, e24, H⟩ := zbind H
    refine zy_getR (pc := 53) dX1_runScript_53 lf_X1_120 (fun _ _ => rfl) e24 ?_
    obtain ⟨b25, e27, H⟩ := zbind H
    obtain ⟨e26, e28⟩ := zrv_ok e27
    obtain ⟨x31, h30, e29, H⟩ := zbind2 H
    refine zw_invV (pc := 56) (M' := M_X2_copy) (A := []) [] dX1_runScript_56 (Or.inl q546) mf_X2_copy q548 (zkq e28 rfl) (w_X2_copy e29) (Nat.le_of_ble_eq_true rfl) rfl (by rw [← e26]; rfl) (Nat.le_of_ble_eq_true rfl) (zkv ?_) zkn9
    refine zw_astore_n (pc := 59) (lv' := [(2, vR x31), (1, vR x17), (0, vR p0)]) dX1_runScript_59 rfl (by decide) rfl ?_
    refine zw_aload_n (pc := 60) dX1_runScript_60 rfl 2 rfl ?_
    refine zw_iconst (pc := 61) (v := (0 : Int32)) dX1_runScript_61 (by decide) ?_
    obtain ⟨h32, e33, H⟩ := zbind H
    refine zy_putI (pc := 62) dX1_runScript_62 lp_X1_74 rfl e33 ?_
    refine zw_aload_n (pc := 65) dX1_runScript_65 rfl 2 rfl ?_
    refine zw_aload_n (pc := 66) dX1_runScript_66 rfl 1 rfl ?_
    obtain ⟨b34, e36, H⟩ := zbind H
    obtain ⟨e35, e37⟩ := zrv_ok e36
    obtain ⟨x40, h39, e38, H⟩ := zbind2 H
    refine zw_invV (pc := 67) (M' := M_X1_runAll) (A := [vR x17]) [] dX1_runScript_67 (Or.inl q1524) mf_X1_runAll ls_X1_runAll (zkq e37 rfl) (w_X1_runAll e38) (Nat.le_of_ble_eq_true rfl) rfl (by rw [← e35]; rfl) (Nat.le_of_ble_eq_true rfl) (zkv ?_) zkn9
    refine zw_istore_n (pc := 70) (lv' := [(3, vI x40), (2, vR x31), (1, vR x17), (0, vR p0)]) dX1_runScript_70 rfl (by decide) rfl ?_
    refine zw_aload_n (pc := 71) dX1_runScript_71 rfl 3 rfl ?_
    refine zw_aload_n (pc := 72) dX1_runScript_72 rfl 1 rfl ?_
    refine zw_aload_n (pc := 73) dX1_runScript_73 rfl 3 rfl ?_
    obtain ⟨x41, e42, H⟩ := zbind H
    refine zy_getI (pc := 74) dX1_runScript_74 lf_X1_74 (fun _ _ => rfl) e42 ?_
    obtain ⟨b43, e45, H⟩ := zbind H
    obtain ⟨e44, e46⟩ := zrv_ok e45
    obtain ⟨x49, h48, e47, H⟩ := zbind2 H
    refine zw_invV (pc := 77) (M' := M_X1_kept) (A := [vR x31, vI x41]) [] dX1_runScript_77 (Or.inl q1669) mf_X1_kept ls_X1_kept (zkq e46 rfl) (w_X1_kept e47) (Nat.le_of_ble_eq_true rfl) rfl (by rw [← e44]; rfl) (Nat.le_of_ble_eq_true rfl) (zkv ?_) zkn9
    obtain ⟨rfl, rfl⟩ := Prod.mk.inj (Option.some.inj H)
    exact zw_iret (pc := 80) dX1_runScript_80 rfl rfl rfl
  · refine zw_invV (pc := 18) (M' := M_X5_script) (A := []) [] dX1_runScript_18 (Or.inl q1469) mf_X5_script q1471 (zkq e15 rfl) (w_X5_script e16) (Nat.le_of_ble_eq_true rfl) rfl (by rw [← e13]; rfl) (Nat.le_of_ble_eq_true rfl) zkv0 (zkx ?_)
    rcases zif H with ⟨c50, H⟩ | ⟨c50, H⟩
    · have c50 := c50
      refine zx_catch [] ⟨10, 22, 30, 187⟩ [⟨10, 22, 44, 0⟩, ⟨30, 45, 44, 0⟩] (zkq c50 rfl) rfl (fun _ hz => nomatch hz) rfl (by decide) q629 (by decide +kernel) ?_
      refine zW_pick (lv' := [(0, vR p0)]) [0] rfl ?_
      exact wB_X1_runScript_30 H
    cases H
def M_X1_rowCount : zM := (yX1_rowCount, cX1_rowCount, 2, (.some .int), [])
theorem mf_X1_rowCount : zMi M_X1_rowCount 1 := ⟨⟨q1723, q180, ⟨by decide +kernel, by decide +kernel⟩, by decide +kernel, by decide⟩, q1721⟩
def f_X1_rowCount (p0 : Option Nat) (p1 : Int32) (h : zH) : Option ((Int32 ⊕ Nat) × zH) :=
  (zrv 1 p0 h).bind fun b1 =>
  zb3 (f_X1_matrix (some b1) p1 h) (fun x6 h7 =>
  (zgI 3 0 x6 h7).bind fun x10 =>
  some (.inl x10, h7))
  (fun q8 h9 =>
  if zk h9 q8 = 20 then
  some (.inr q8, h9)
  else none)
theorem w_X1_rowCount {G : zG} {p0 : Option Nat} {p1 : Int32} {h : zH} {vo : Int32 ⊕ Nat} {vh : zH} (H : f_X1_rowCount p0 p1 h = some (vo, vh)) : zMet G M_X1_rowCount 8 [vR p0, vI p1] h (zoI vo) vh := by
  refine zMet.of (by decide +kernel) (Nat.le_of_ble_eq_true rfl) ?_
  show zW G M_X1_rowCount 8 h (zoI vo) vh 0 [(0, vR p0), (1, vI p1)] [] h
  unfold f_X1_rowCount at H
  refine zw_aload_n (pc := 0) dX1_rowCount_0 rfl 0 rfl ?_
  refine zw_iload_n (pc := 1) dX1_rowCount_1 rfl 1 rfl ?_
  obtain ⟨b1, e3, H⟩ := zbind H
  obtain ⟨e2, e4⟩ := zrv_ok e3
  rcases zbind3 H with ⟨x6, h7, e5, H⟩ | ⟨q8, h9, e5, H⟩
  · refine zw_invV (pc := 2) (M' := M_X1_matrix) (A := [vI p1]) [] dX1_rowCount_2 (Or.inl q1567) mf_X1_matrix ls_X1_matrix (zkq e4 rfl) (w_X1_matrix e5) (Nat.le_of_ble_eq_true rfl) rfl (by rw [← e2]; rfl) (Nat.le_of_ble_eq_true rfl) (zkv ?_) zkn9
    obtain ⟨x10, e11, H⟩ := zbind H
    refine zy_getI (pc := 5) dX1_rowCount_5 lf_X1_158 (fun _ _ => rfl) e11 ?_
    obtain ⟨rfl, rfl⟩ := Prod.mk.inj (Option.some.inj H)
    exact zw_iret (pc := 8) dX1_rowCount_8 rfl rfl rfl
  · refine zw_invV (pc := 2) (M' := M_X1_matrix) (A := [vI p1]) [] dX1_rowCount_2 (Or.inl q1567) mf_X1_matrix ls_X1_matrix (zkq e4 rfl) (w_X1_matrix e5) (Nat.le_of_ble_eq_true rfl) rfl (by rw [← e2]; rfl) (Nat.le_of_ble_eq_true rfl) zkv0 (zkx ?_)
    rcases zif H with ⟨c12, H⟩ | ⟨c12, H⟩
    · have c12 := c12
      obtain ⟨rfl, rfl⟩ := Prod.mk.inj (Option.some.inj H)
      exact zx_out (zkq c12 rfl) (fun _ hz => nomatch hz) rfl rfl
    cases H
def M_X1_columnCount : zM := (yX1_columnCount, cX1_columnCount, 2, (.some .int), [])
theorem mf_X1_columnCount : zMi M_X1_columnCount 1 := ⟨⟨q1730, q180, ⟨by decide +kernel, by decide +kernel⟩, by decide +kernel, by decide⟩, q1728⟩
def f_X1_columnCount (p0 : Option Nat) (p1 : Int32) (h : zH) : Option ((Int32 ⊕ Nat) × zH) :=
  (zrv 1 p0 h).bind fun b1 =>
  zb3 (f_X1_matrix (some b1) p1 h) (fun x6 h7 =>
  (zgI 3 1 x6 h7).bind fun x10 =>
  some (.inl x10, h7))
  (fun q8 h9 =>
  if zk h9 q8 = 20 then
  some (.inr q8, h9)
  else none)
theorem w_X1_columnCount {G : zG} {p0 : Option Nat} {p1 : Int32} {h : zH} {vo : Int32 ⊕ Nat} {vh : zH} (H : f_X1_columnCount p0 p1 h = some (vo, vh)) : zMet G M_X1_columnCount 8 [vR p0, vI p1] h (zoI vo) vh := by
  refine zMet.of (by decide +kernel) (Nat.le_of_ble_eq_true rfl) ?_
  show zW G M_X1_columnCount 8 h (zoI vo) vh 0 [(0, vR p0), (1, vI p1)] [] h
  unfold f_X1_columnCount at H
  refine zw_aload_n (pc := 0) dX1_columnCount_0 rfl 0 rfl ?_
  refine zw_iload_n (pc := 1) dX1_columnCount_1 rfl 1 rfl ?_
  obtain ⟨b1, e3, H⟩ := zbind H
  obtain ⟨e2, e4⟩ := zrv_ok e3
  rcases zbind3 H with ⟨x6, h7, e5, H⟩ | ⟨q8, h9, e5, H⟩
  · refine zw_invV (pc := 2) (M' := M_X1_matrix) (A := [vI p1]) [] dX1_columnCount_2 (Or.inl q1567) mf_X1_matrix ls_X1_matrix (zkq e4 rfl) (w_X1_matrix e5) (Nat.le_of_ble_eq_true rfl) rfl (by rw [← e2]; rfl) (Nat.le_of_ble_eq_true rfl) (zkv ?_) zkn9
    obtain ⟨x10, e11, H⟩ := zbind H
    refine zy_getI (pc := 5) dX1_columnCount_5 lf_X1_167 (fun _ _ => rfl) e11 ?_
    obtain ⟨rfl, rfl⟩ := Prod.mk.inj (Option.some.inj H)
    exact zw_iret (pc := 8) dX1_columnCount_8 rfl rfl rfl
  · refine zw_invV (pc := 2) (M' := M_X1_matrix) (A := [vI p1]) [] dX1_columnCount_2 (Or.inl q1567) mf_X1_matrix ls_X1_matrix (zkq e4 rfl) (w_X1_matrix e5) (Nat.le_of_ble_eq_true rfl) rfl (by rw [← e2]; rfl) (Nat.le_of_ble_eq_true rfl) zkv0 (zkx ?_)
    rcases zif H with ⟨c12, H⟩ | ⟨c12, H⟩
    · have c12 := c12
      obtain ⟨rfl, rfl⟩ := Prod.mk.inj (Option.some.inj H)
      exact zx_out (zkq c12 rfl) (fun _ hz => nomatch hz) rfl rfl
    cases H
def M_X1_storedCount : zM := (yX1_storedCount, cX1_storedCount, 2, (.some .int), [])
theorem mf_X1_storedCount : zMi M_X1_storedCount 1 := ⟨⟨q1737, q180, ⟨by decide +kernel, by decide +kernel⟩, by decide +kernel, by decide⟩, q1735⟩
def f_X1_storedCount (p0 : Option Nat) (p1 : Int32) (h : zH) : Option ((Int32 ⊕ Nat) × zH) :=
  (zrv 1 p0 h).bind fun b1 =>
  zb3 (f_X1_matrix (some b1) p1 h) (fun x6 h7 =>
  (zrv 3 x6 h7).bind fun b10 =>
  (f_X3_stored (some b10) h7).bind fun x15 =>
  some (.inl x15, h7))
  (fun q8 h9 =>
  if zk h9 q8 = 20 then
  some (.inr q8, h9)
  else none)
theorem w_X1_storedCount {G : zG} {p0 : Option Nat} {p1 : Int32} {h : zH} {vo : Int32 ⊕ Nat} {vh : zH} (H : f_X1_storedCount p0 p1 h = some (vo, vh)) : zMet G M_X1_storedCount 8 [vR p0, vI p1] h (zoI vo) vh := by
  refine zMet.of (by decide +kernel) (Nat.le_of_ble_eq_true rfl) ?_
  show zW G M_X1_storedCount 8 h (zoI vo) vh 0 [(0, vR p0), (1, vI p1)] [] h
  unfold f_X1_storedCount at H
  refine zw_aload_n (pc := 0) dX1_storedCount_0 rfl 0 rfl ?_
  refine zw_iload_n (pc := 1) dX1_storedCount_1 rfl 1 rfl ?_
  obtain ⟨b1, e3, H⟩ := zbind H
  obtain ⟨e2, e4⟩ := zrv_ok e3
  rcases zbind3 H with ⟨x6, h7, e5, H⟩ | ⟨q8, h9, e5, H⟩
  · refine zw_invV (pc := 2) (M' := M_X1_matrix) (A := [vI p1]) [] dX1_storedCount_2 (Or.inl q1567) mf_X1_matrix ls_X1_matrix (zkq e4 rfl) (w_X1_matrix e5) (Nat.le_of_ble_eq_true rfl) rfl (by rw [← e2]; rfl) (Nat.le_of_ble_eq_true rfl) (zkv ?_) zkn9
    obtain ⟨b10, e12, H⟩ := zbind H
    obtain ⟨e11, e13⟩ := zrv_ok e12
    obtain ⟨x15, e14, H⟩ := zbind H
    refine zw_invV (pc := 5) (M' := M_X3_stored) (A := []) [] dX1_storedCount_5 (Or.inl q1623) mf_X3_stored q510 (zkq e13 rfl) (w_X3_stored e14) (Nat.le_of_ble_eq_true rfl) rfl (by rw [← e11]; rfl) (Nat.le_of_ble_eq_true rfl) (zkv ?_) zkn9
    obtain ⟨rfl, rfl⟩ := Prod.mk.inj (Option.some.inj H)
    exact zw_iret (pc := 8) dX1_storedCount_8 rfl rfl rfl
  · refine zw_invV (pc := 2) (M' := M_X1_matrix) (A := [vI p1]) [] dX1_storedCount_2 (Or.inl q1567) mf_X1_matrix ls_X1_matrix (zkq e4 rfl) (w_X1_matrix e5) (Nat.le_of_ble_eq_true rfl) rfl (by rw [← e2]; rfl) (Nat.le_of_ble_eq_true rfl) zkv0 (zkx ?_)
    rcases zif H with ⟨c16, H⟩ | ⟨c16, H⟩
    · have c16 := c16
      obtain ⟨rfl, rfl⟩ := Prod.mk.inj (Option.some.inj H)
      exact zx_out (zkq c16 rfl) (fun _ hz => nomatch hz) rfl rfl
    cases H
theorem lf_X1_225 : zFl "CsrCalculator" 225 3 2 := ⟨_, "CsrCalculator$Csr", by decide, rfl, by decide, Or.inr (by decide +kernel), Or.inl rfl⟩
def M_X1_rowPointer : zM := (yX1_rowPointer, cX1_rowPointer, 4, (.some .int), [])
theorem mf_X1_rowPointer : zMi M_X1_rowPointer 2 := ⟨⟨q1744, q180, ⟨by decide +kernel, by decide +kernel⟩, by decide +kernel, by decide⟩, q1742⟩
def f_X1_rowPointer (p0 : Option Nat) (p1 : Int32) (p2 : Int32) (h : zH) : Option ((Int32 ⊕ Nat) × zH) :=
  (zrv 1 p0 h).bind fun b1 =>
  zb3 (f_X1_matrix (some b1) p1 h) (fun x6 h7 =>
  (zgI 3 0 x6 h7).bind fun x10 =>
  (f_X1_isIn p2.toInt64 (0 : Int64) x10.toInt64 h7).bind fun x13 =>
  zb3 (f_X1_index x13 h7) (fun _ h16 =>
  (zgR 3 2 x6 h16).bind fun x19 =>
  (zaI 50 x19 p2 h16).bind fun x21 =>
  some (.inl x21, h16))
  (fun q17 h18 =>
  if zk h18 q17 = 20 then
  some (.inr q17, h18)
  else none))
  (fun q8 h9 =>
  if zk h9 q8 = 20 then
  some (.inr q8, h9)
  else none)
theorem w_X1_rowPointer {G : zG} {p0 : Option Nat} {p1 : Int32} {p2 : Int32} {h : zH} {vo : Int32 ⊕ Nat} {vh : zH} (H : f_X1_rowPointer p0 p1 p2 h = some (vo, vh)) : zMet G M_X1_rowPointer 8 [vR p0, vI p1, vI p2] h (zoI vo) vh := by
  refine zMet.of (by decide +kernel) (Nat.le_of_ble_eq_true rfl) ?_
  show zW G M_X1_rowPointer 8 h (zoI vo) vh 0 [(0, vR p0), (1, vI p1), (2, vI p2)] [] h
  unfold f_X1_rowPointer at H
  refine zw_aload_n (pc := 0) dX1_rowPointer_0 rfl 0 rfl ?_
  refine zw_iload_n (pc := 1) dX1_rowPointer_1 rfl 1 rfl ?_
  obtain ⟨b1, e3, H⟩ := zbind H
  obtain ⟨e2, e4⟩ := zrv_ok e3
  rcases zbind3 H with ⟨x6, h7, e5, H⟩ | ⟨q8, h9, e5, H⟩
  · refine zw_invV (pc := 2) (M' := M_X1_matrix) (A := [vI p1]) [] dX1_rowPointer_2 (Or.inl q1567) mf_X1_matrix ls_X1_matrix (zkq e4 rfl) (w_X1_matrix e5) (Nat.le_of_ble_eq_true rfl) rfl (by rw [← e2]; rfl) (Nat.le_of_ble_eq_true rfl) (zkv ?_) zkn9
    refine zw_astore_n (pc := 5) (lv' := [(3, vR x6), (0, vR p0), (1, vI p1), (2, vI p2)]) dX1_rowPointer_5 rfl (by decide) rfl ?_
    refine zw_iload_n (pc := 6) dX1_rowPointer_6 rfl 3 rfl ?_
    refine zw_i2l (pc := 7) dX1_rowPointer_7 ?_
    refine zw_lconst (pc := 8) (v := (0 : Int64)) dX1_rowPointer_8 (by decide) ?_
    refine zw_aload_n (pc := 9) dX1_rowPointer_9 rfl 0 rfl ?_
    obtain ⟨x10, e11, H⟩ := zbind H
    refine zy_getI (pc := 10) dX1_rowPointer_10 lf_X1_158 (fun _ _ => rfl) e11 ?_
    refine zw_i2l (pc := 13) dX1_rowPointer_13 ?_
    obtain ⟨x13, e12, H⟩ := zbind H
    refine zw_invS (pc := 14) (M' := M_X1_isIn) (A := [vJ p2.toInt64, vJ (0 : Int64), vJ x10.toInt64]) [] dX1_rowPointer_14 (Or.inl q603) mf_X1_isIn (w_X1_isIn e12) (Nat.le_of_ble_eq_true rfl) rfl rfl (Nat.le_of_ble_eq_true rfl) (zkv ?_) zkn9
    rcases zbind3 H with ⟨x15, h16, e14, H⟩ | ⟨q17, h18, e14, H⟩
    · refine zw_invS (pc := 17) (M' := M_X1_index) (A := [vI x13]) [] dX1_rowPointer_17 (Or.inl q1572) mf_X1_index (w_X1_index e14) (Nat.le_of_ble_eq_true rfl) rfl rfl (Nat.le_of_ble_eq_true rfl) (zku ?_) zkn9
      refine zw_aload_n (pc := 20) dX1_rowPointer_20 rfl 0 rfl ?_
      obtain ⟨x19, e20, H⟩ := zbind H
      refine zy_getR (pc := 21) dX1_rowPointer_21 lf_X1_225 (fun _ _ => rfl) e20 ?_
      refine zw_iload_n (pc := 24) dX1_rowPointer_24 rfl 3 rfl ?_
      obtain ⟨x21, e22, H⟩ := zbind H
      refine zy_iald (pc := 25) dX1_rowPointer_25 e22 ?_
      obtain ⟨rfl, rfl⟩ := Prod.mk.inj (Option.some.inj H)
      exact zw_iret (pc := 26) dX1_rowPointer_26 rfl rfl rfl
    · refine zw_invS (pc := 17) (M' := M_X1_index) (A := [vI x13]) [] dX1_rowPointer_17 (Or.inl q1572) mf_X1_index (w_X1_index e14) (Nat.le_of_ble_eq_true rfl) rfl rfl (Nat.le_of_ble_eq_true rfl) zkv0 (zkx ?_)
      rcases zif H with ⟨c23, H⟩ | ⟨c23, H⟩
      · have c23 := c23
        obtain ⟨rfl, rfl⟩ := Prod.mk.inj (Option.some.inj H)
        exact zx_out (zkq c23 rfl) (fun _ hz => nomatch hz) rfl rfl
      cases H
  · refine zw_invV (pc := 2) (M' := M_X1_matrix) (A := [vI p1]) [] dX1_rowPointer_2 (Or.inl q1567) mf_X1_matrix ls_X1_matrix (zkq e4 rfl) (w_X1_matrix e5) (Nat.le_of_ble_eq_true rfl) rfl (by rw [← e2]; rfl) (Nat.le_of_ble_eq_true rfl) zkv0 (zkx ?_)
    rcases zif H with ⟨c24, H⟩ | ⟨c24, H⟩
    · have c24 := c24
      obtain ⟨rfl, rfl⟩ := Prod.mk.inj (Option.some.inj H)
      exact zx_out (zkq c24 rfl) (fun _ hz => nomatch hz) rfl rfl
    cases H
def M_X1_matrixStoring : zM := (yX1_matrixStoring, cX1_matrixStoring, 4, (.some (.object "CsrCalculator$Csr")), [])
theorem mf_X1_matrixStoring : zMi M_X1_matrixStoring 2 := ⟨⟨q1755, q180, ⟨by decide +kernel, by decide +kernel⟩, by decide +kernel, by decide⟩, q1754⟩
def f_X1_matrixStoring (p0 : Option Nat) (p1 : Int32) (p2 : Int32) (h : zH) : Option ((Option Nat ⊕ Nat) × zH) :=
  (zrv 1 p0 h).bind fun b1 =>
  zb3 (f_X1_matrix (some b1) p1 h) (fun x6 h7 =>
  (zrv 3 x6 h7).bind fun b10 =>
  (f_X3_stored (some b10) h7).bind fun x15 =>
  (f_X1_isIn p2.toInt64 (0 : Int64) (x15 - (1 : Int32)).toInt64 h7).bind fun x17 =>
  zb3 (f_X1_index x17 h7) (fun _ h20 =>
  some (.inl x6, h20))
  (fun q21 h22 =>
  if zk h22 q21 = 20 then
  some (.inr q21, h22)
  else none))
  (fun q8 h9 =>
  if zk h9 q8 = 20 then
  some (.inr q8, h9)
  else none)
theorem w_X1_matrixStoring {G : zG} {p0 : Option Nat} {p1 : Int32} {p2 : Int32} {h : zH} {vo : Option Nat ⊕ Nat} {vh : zH} (H : f_X1_matrixStoring p0 p1 p2 h = some (vo, vh)) : zMet G M_X1_matrixStoring 8 [vR p0, vI p1, vI p2] h (zoR vo) vh := by
  refine zMet.of (by decide +kernel) (Nat.le_of_ble_eq_true rfl) ?_
  show zW G M_X1_matrixStoring 8 h (zoR vo) vh 0 [(0, vR p0), (1, vI p1), (2, vI p2)] [] h
  unfold f_X1_matrixStoring at H
  refine zw_aload_n (pc := 0) dX1_matrixStoring_0 rfl 0 rfl ?_
  refine zw_iload_n (pc := 1) dX1_matrixStoring_1 rfl 1 rfl ?_
  obtain ⟨b1, e3, H⟩ := zbind H
  obtain ⟨e2, e4⟩ := zrv_ok e3
  rcases zbind3 H with ⟨x6, h7, e5, H⟩ | ⟨q8, h9, e5, H⟩
  · refine zw_invV (pc := 2) (M' := M_X1_matrix) (A := [vI p1]) [] dX1_matrixStoring_2 (Or.inl q1567) mf_X1_matrix ls_X1_matrix (zkq e4 rfl) (w_X1_matrix e5) (Nat.le_of_ble_eq_true rfl) rfl (by rw [← e2]; rfl) (Nat.le_of_ble_eq_true rfl) (zkv ?_) zkn9
    refine zw_astore_n (pc := 5) (lv' := [(3, vR x6), (0, vR p0), (1, vI p1), (2, vI p2)]) dX1_matrixStoring_5 rfl (by decide) rfl ?_
    refine zw_iload_n (pc := 6) dX1_matrixStoring_6 rfl 3 rfl ?_
    refine zw_i2l (pc := 7) dX1_matrixStoring_7 ?_
    refine zw_lconst (pc := 8) (v := (0 : Int64)) dX1_matrixStoring_8 (by decide) ?_
    refine zw_aload_n (pc := 9) dX1_matrixStoring_9 rfl 0 rfl ?_
    obtain ⟨b10, e12, H⟩ := zbind H
    obtain ⟨e11, e13⟩ := zrv_ok e12
    obtain ⟨x15, e14, H⟩ := zbind H
    refine zw_invV (pc := 10) (M' := M_X3_stored) (A := []) [vJ (0 : Int64), vJ p2.toInt64] dX1_matrixStoring_10 (Or.inl q1623) mf_X3_stored q510 (zkq e13 rfl) (w_X3_stored e14) (Nat.le_of_ble_eq_true rfl) rfl (by rw [← e11]; rfl) (Nat.le_of_ble_eq_true rfl) (zkv ?_) zkn9
    refine zw_iconst (pc := 13) (v := (1 : Int32)) dX1_matrixStoring_13 (by decide) ?_
    refine zw_isub (pc := 14) dX1_matrixStoring_14 ?_
    refine zw_i2l (pc := 15) dX1_matrixStoring_15 ?_
    obtain ⟨x17, e16, H⟩ := zbind H
    refine zw_invS (pc := 16) (M' := M_X1_isIn) (A := [vJ p2.toInt64, vJ (0 : Int64), vJ (x15 - (1 : Int32)).toInt64]) [] dX1_matrixStoring_16 (Or.inl q603) mf_X1_isIn (w_X1_isIn e16) (Nat.le_of_ble_eq_true rfl) rfl rfl (Nat.le_of_ble_eq_true rfl) (zkv ?_) zkn9
    rcases zbind3 H with ⟨x19, h20, e18, H⟩ | ⟨q21, h22, e18, H⟩
    · refine zw_invS (pc := 19) (M' := M_X1_index) (A := [vI x17]) [] dX1_matrixStoring_19 (Or.inl q1572) mf_X1_index (w_X1_index e18) (Nat.le_of_ble_eq_true rfl) rfl rfl (Nat.le_of_ble_eq_true rfl) (zku ?_) zkn9
      refine zw_aload_n (pc := 22) dX1_matrixStoring_22 rfl 0 rfl ?_
      obtain ⟨rfl, rfl⟩ := Prod.mk.inj (Option.some.inj H)
      exact zw_aret (pc := 23) dX1_matrixStoring_23 rfl (Or.inl ⟨_, rfl⟩) rfl rfl
    · refine zw_invS (pc := 19) (M' := M_X1_index) (A := [vI x17]) [] dX1_matrixStoring_19 (Or.inl q1572) mf_X1_index (w_X1_index e18) (Nat.le_of_ble_eq_true rfl) rfl rfl (Nat.le_of_ble_eq_true rfl) zkv0 (zkx ?_)
      rcases zif H with ⟨c23, H⟩ | ⟨c23, H⟩
      · have c23 := c23
        obtain ⟨rfl, rfl⟩ := Prod.mk.inj (Option.some.inj H)
        exact zx_out (zkq c23 rfl) (fun _ hz => nomatch hz) rfl rfl
      cases H
  · refine zw_invV (pc := 2) (M' := M_X1_matrix) (A := [vI p1]) [] dX1_matrixStoring_2 (Or.inl q1567) mf_X1_matrix ls_X1_matrix (zkq e4 rfl) (w_X1_matrix e5) (Nat.le_of_ble_eq_true rfl) rfl (by rw [← e2]; rfl) (Nat.le_of_ble_eq_true rfl) zkv0 (zkx ?_)
    rcases zif H with ⟨c24, H⟩ | ⟨c24, H⟩
    · have c24 := c24
      obtain ⟨rfl, rfl⟩ := Prod.mk.inj (Option.some.inj H)
      exact zx_out (zkq c24 rfl) (fun _ hz => nomatch hz) rfl rfl
    cases H
theorem ls_X1_matrixStoring : Cond.selects yX1_matrixStoring.cls yX1_matrixStoring yX1_matrixStoring ∈ lw_all := lw_g (lw_ms _ (List.mem_of_getElem? (i := 64) rfl)) rfl
theorem lf_X1_231 : zFl "CsrCalculator" 231 3 3 := ⟨_, "CsrCalculator$Csr", by decide, rfl, by decide, Or.inr (by decide +kernel), Or.inl rfl⟩
def M_X1_columnIndex : zM := (yX1_columnIndex, cX1_columnIndex, 3, (.some .int), [])
theorem mf_X1_columnIndex : zMi M_X1_columnIndex 2 := ⟨⟨q1751, q180, ⟨by decide +kernel, by decide +kernel⟩, by decide +kernel, by decide⟩, q1749⟩
def f_X1_columnIndex (p0 : Option Nat) (p1 : Int32) (p2 : Int32) (h : zH) : Option ((Int32 ⊕ Nat) × zH) :=
  (zrv 1 p0 h).bind fun b1 =>
  zb3 (f_X1_matrixStoring (some b1) p1 p2 h) (fun x6 h7 =>
  (zgR 3 3 x6 h7).bind fun x10 =>
  (zaI 50 x10 p2 h7).bind fun x12 =>
  some (.inl x12, h7))
  (fun q8 h9 =>
  if zk h9 q8 = 20 then
  some (.inr q8, h9)
  else none)
theorem w_X1_columnIndex {G : zG} {p0 : Option Nat} {p1 : Int32} {p2 : Int32} {h : zH} {vo : Int32 ⊕ Nat} {vh : zH} (H : f_X1_columnIndex p0 p1 p2 h = some (vo, vh)) : zMet G M_X1_columnIndex 9 [vR p0, vI p1, vI p2] h (zoI vo) vh := by
  refine zMet.of (by decide +kernel) (Nat.le_of_ble_eq_true rfl) ?_
  show zW G M_X1_columnIndex 9 h (zoI vo) vh 0 [(0, vR p0), (1, vI p1), (2, vI p2)] [] h
  unfold f_X1_columnIndex at H
  refine zw_aload_n (pc := 0) dX1_columnIndex_0 rfl 0 rfl ?_
  refine zw_iload_n (pc := 1) dX1_columnIndex_1 rfl 1 rfl ?_
  refine zw_iload_n (pc := 2) dX1_columnIndex_2 rfl 2 rfl ?_
  obtain ⟨b1, e3, H⟩ := zbind H
  obtain ⟨e2, e4⟩ := zrv_ok e3
  rcases zbind3 H with ⟨x6, h7, e5, H⟩ | ⟨q8, h9, e5, H⟩
  · refine zw_invV (pc := 3) (M' := M_X1_matrixStoring) (A := [vI p1, vI p2]) [] dX1_columnIndex_3 (Or.inl q1752) mf_X1_matrixStoring ls_X1_matrixStoring (zkq e4 rfl) (w_X1_matrixStoring e5) (Nat.le_of_ble_eq_true rfl) rfl (by rw [← e2]; rfl) (Nat.le_of_ble_eq_true rfl) (zkv ?_) zkn9
    obtain ⟨x10, e11, H⟩ := zbind H
    refine zy_getR (pc := 6) dX1_columnIndex_6 lf_X1_231 (fun _ _ => rfl) e11 ?_
    refine zw_iload_n (pc := 9) dX1_columnIndex_9 rfl 2 rfl ?_
    obtain ⟨x12, e13, H⟩ := zbind H
    refine zy_iald (pc := 10) dX1_columnIndex_10 e13 ?_
    obtain ⟨rfl, rfl⟩ := Prod.mk.inj (Option.some.inj H)
    exact zw_iret (pc := 11) dX1_columnIndex_11 rfl rfl rfl
  · refine zw_invV (pc := 3) (M' := M_X1_matrixStoring) (A := [vI p1, vI p2]) [] dX1_columnIndex_3 (Or.inl q1752) mf_X1_matrixStoring ls_X1_matrixStoring (zkq e4 rfl) (w_X1_matrixStoring e5) (Nat.le_of_ble_eq_true rfl) rfl (by rw [← e2]; rfl) (Nat.le_of_ble_eq_true rfl) zkv0 (zkx ?_)
    rcases zif H with ⟨c14, H⟩ | ⟨c14, H⟩
    · have c14 := c14
      obtain ⟨rfl, rfl⟩ := Prod.mk.inj (Option.some.inj H)
      exact zx_out (zkq c14 rfl) (fun _ hz => nomatch hz) rfl rfl
    cases H
theorem lf_X1_234 : zFl "CsrCalculator" 234 3 4 := ⟨_, "CsrCalculator$Csr", by decide, rfl, by decide, Or.inr (by decide +kernel), Or.inl rfl⟩
def M_X1_storedValue : zM := (yX1_storedValue, cX1_storedValue, 3, (.some .int), [])
theorem mf_X1_storedValue : zMi M_X1_storedValue 2 := ⟨⟨q1762, q180, ⟨by decide +kernel, by decide +kernel⟩, by decide +kernel, by decide⟩, q1760⟩
def f_X1_storedValue (p0 : Option Nat) (p1 : Int32) (p2 : Int32) (h : zH) : Option ((Int32 ⊕ Nat) × zH) :=
  (zrv 1 p0 h).bind fun b1 =>
  zb3 (f_X1_matrixStoring (some b1) p1 p2 h) (fun x6 h7 =>
  (zgR 3 4 x6 h7).bind fun x10 =>
  (zaI 50 x10 p2 h7).bind fun x12 =>
  some (.inl x12, h7))
  (fun q8 h9 =>
  if zk h9 q8 = 20 then
  some (.inr q8, h9)
  else none)
theorem w_X1_storedValue {G : zG} {p0 : Option Nat} {p1 : Int32} {p2 : Int32} {h : zH} {vo : Int32 ⊕ Nat} {vh : zH} (H : f_X1_storedValue p0 p1 p2 h = some (vo, vh)) : zMet G M_X1_storedValue 9 [vR p0, vI p1, vI p2] h (zoI vo) vh := by
  refine zMet.of (by decide +kernel) (Nat.le_of_ble_eq_true rfl) ?_
  show zW G M_X1_storedValue 9 h (zoI vo) vh 0 [(0, vR p0), (1, vI p1), (2, vI p2)] [] h
  unfold f_X1_storedValue at H
  refine zw_aload_n (pc := 0) dX1_storedValue_0 rfl 0 rfl ?_
  refine zw_iload_n (pc := 1) dX1_storedValue_1 rfl 1 rfl ?_
  refine zw_iload_n (pc := 2) dX1_storedValue_2 rfl 2 rfl ?_
  obtain ⟨b1, e3, H⟩ := zbind H
  obtain ⟨e2, e4⟩ := zrv_ok e3
  rcases zbind3 H with ⟨x6, h7, e5, H⟩ | ⟨q8, h9, e5, H⟩
  · refine zw_invV (pc := 3) (M' := M_X1_matrixStoring) (A := [vI p1, vI p2]) [] dX1_storedValue_3 (Or.inl q1752) mf_X1_matrixStoring ls_X1_matrixStoring (zkq e4 rfl) (w_X1_matrixStoring e5) (Nat.le_of_ble_eq_true rfl) rfl (by rw [← e2]; rfl) (Nat.le_of_ble_eq_true rfl) (zkv ?_) zkn9
    obtain ⟨x10, e11, H⟩ := zbind H
    refine zy_getR (pc := 6) dX1_storedValue_6 lf_X1_234 (fun _ _ => rfl) e11 ?_
    refine zw_iload_n (pc := 9) dX1_storedValue_9 rfl 2 rfl ?_
    obtain ⟨x12, e13, H⟩ := zbind H
    refine zy_iald (pc := 10) dX1_storedValue_10 e13 ?_
    obtain ⟨rfl, rfl⟩ := Prod.mk.inj (Option.some.inj H)
    exact zw_iret (pc := 11) dX1_storedValue_11 rfl rfl rfl
  · refine zw_invV (pc := 3) (M' := M_X1_matrixStoring) (A := [vI p1, vI p2]) [] dX1_storedValue_3 (Or.inl q1752) mf_X1_matrixStoring ls_X1_matrixStoring (zkq e4 rfl) (w_X1_matrixStoring e5) (Nat.le_of_ble_eq_true rfl) rfl (by rw [← e2]; rfl) (Nat.le_of_ble_eq_true rfl) zkv0 (zkx ?_)
    rcases zif H with ⟨c14, H⟩ | ⟨c14, H⟩
    · have c14 := c14
      obtain ⟨rfl, rfl⟩ := Prod.mk.inj (Option.some.inj H)
      exact zx_out (zkq c14 rfl) (fun _ hz => nomatch hz) rfl rfl
    cases H
def M_X1_rowOf : zM := (yX1_rowOf, cX1_rowOf, 3, (.some .int), [])
theorem mf_X1_rowOf : zMi M_X1_rowOf 2 := ⟨⟨q1769, q180, ⟨by decide +kernel, by decide +kernel⟩, by decide +kernel, by decide⟩, q1767⟩
def f_X1_rowOf (p0 : Option Nat) (p1 : Int32) (p2 : Int32) (h : zH) : Option ((Int32 ⊕ Nat) × zH) :=
  (zrv 1 p0 h).bind fun b1 =>
  zb3 (f_X1_matrixStoring (some b1) p1 p2 h) (fun x6 h7 =>
  (zrv 3 x6 h7).bind fun b10 =>
  (f_X3_rowOf (some b10) p2 h7).bind fun x15 =>
  some (.inl x15, h7))
  (fun q8 h9 =>
  if zk h9 q8 = 20 then
  some (.inr q8, h9)
  else none)
theorem w_X1_rowOf {G : zG} {p0 : Option Nat} {p1 : Int32} {p2 : Int32} {h : zH} {vo : Int32 ⊕ Nat} {vh : zH} (H : f_X1_rowOf p0 p1 p2 h = some (vo, vh)) : zMet G M_X1_rowOf 9 [vR p0, vI p1, vI p2] h (zoI vo) vh := by
  refine zMet.of (by decide +kernel) (Nat.le_of_ble_eq_true rfl) ?_
  show zW G M_X1_rowOf 9 h (zoI vo) vh 0 [(0, vR p0), (1, vI p1), (2, vI p2)] [] h
  unfold f_X1_rowOf at H
  refine zw_aload_n (pc := 0) dX1_rowOf_0 rfl 0 rfl ?_
  refine zw_iload_n (pc := 1) dX1_rowOf_1 rfl 1 rfl ?_
  refine zw_iload_n (pc := 2) dX1_rowOf_2 rfl 2 rfl ?_
  obtain ⟨b1, e3, H⟩ := zbind H
  obtain ⟨e2, e4⟩ := zrv_ok e3
  rcases zbind3 H with ⟨x6, h7, e5, H⟩ | ⟨q8, h9, e5, H⟩
  · refine zw_invV (pc := 3) (M' := M_X1_matrixStoring) (A := [vI p1, vI p2]) [] dX1_rowOf_3 (Or.inl q1752) mf_X1_matrixStoring ls_X1_matrixStoring (zkq e4 rfl) (w_X1_matrixStoring e5) (Nat.le_of_ble_eq_true rfl) rfl (by rw [← e2]; rfl) (Nat.le_of_ble_eq_true rfl) (zkv ?_) zkn9
    refine zw_iload_n (pc := 6) dX1_rowOf_6 rfl 2 rfl ?_
    obtain ⟨b10, e12, H⟩ := zbind H
    obtain ⟨e11, e13⟩ := zrv_ok e12
    obtain ⟨x15, e14, H⟩ := zbind H
    refine zw_invV (pc := 7) (M' := M_X3_rowOf) (A := [vI p2]) [] dX1_rowOf_7 (Or.inl q1770) mf_X3_rowOf q1772 (zkq e13 rfl) (w_X3_rowOf e14) (Nat.le_of_ble_eq_true rfl) rfl (by rw [← e11]; rfl) (Nat.le_of_ble_eq_true rfl) (zkv ?_) zkn9
    obtain ⟨rfl, rfl⟩ := Prod.mk.inj (Option.some.inj H)
    exact zw_iret (pc := 10) dX1_rowOf_10 rfl rfl rfl
  · refine zw_invV (pc := 3) (M' := M_X1_matrixStoring) (A := [vI p1, vI p2]) [] dX1_rowOf_3 (Or.inl q1752) mf_X1_matrixStoring ls_X1_matrixStoring (zkq e4 rfl) (w_X1_matrixStoring e5) (Nat.le_of_ble_eq_true rfl) rfl (by rw [← e2]; rfl) (Nat.le_of_ble_eq_true rfl) zkv0 (zkx ?_)
    rcases zif H with ⟨c16, H⟩ | ⟨c16, H⟩
    · have c16 := c16
      obtain ⟨rfl, rfl⟩ := Prod.mk.inj (Option.some.inj H)
      exact zx_out (zkq c16 rfl) (fun _ hz => nomatch hz) rfl rfl
    cases H
def M_X1_value : zM := (yX1_value, cX1_value, 4, (.some .int), [])
theorem mf_X1_value : zMi M_X1_value 3 := ⟨⟨q1780, q180, ⟨by decide +kernel, by decide +kernel⟩, by decide +kernel, by decide⟩, q1778⟩
def f_X1_value (p0 : Option Nat) (p1 : Int32) (p2 : Int32) (p3 : Int32) (h : zH) : Option ((Int32 ⊕ Nat) × zH) :=
  (zrv 1 p0 h).bind fun b1 =>
  zb3 (f_X1_matrixWith (some b1) p1 p2 p3 h) (fun x6 h7 =>
  (zrv 3 x6 h7).bind fun b10 =>
  (f_X3_value (some b10) p2 p3 h7).bind fun x15 =>
  some (.inl x15, h7))
  (fun q8 h9 =>
  if zk h9 q8 = 20 then
  some (.inr q8, h9)
  else none)
theorem w_X1_value {G : zG} {p0 : Option Nat} {p1 : Int32} {p2 : Int32} {p3 : Int32} {h : zH} {vo : Int32 ⊕ Nat} {vh : zH} (H : f_X1_value p0 p1 p2 p3 h = some (vo, vh)) : zMet G M_X1_value 10 [vR p0, vI p1, vI p2, vI p3] h (zoI vo) vh := by
  refine zMet.of (by decide +kernel) (Nat.le_of_ble_eq_true rfl) ?_
  show zW G M_X1_value 10 h (zoI vo) vh 0 [(0, vR p0), (1, vI p1), (2, vI p2), (3, vI p3)] [] h
  unfold f_X1_value at H
  refine zw_aload_n (pc := 0) dX1_value_0 rfl 0 rfl ?_
  refine zw_iload_n (pc := 1) dX1_value_1 rfl 1 rfl ?_
  refine zw_iload_n (pc := 2) dX1_value_2 rfl 2 rfl ?_
  refine zw_iload_n (pc := 3) dX1_value_3 rfl 3 rfl ?_
  obtain ⟨b1, e3, H⟩ := zbind H
  obtain ⟨e2, e4⟩ := zrv_ok e3
  rcases zbind3 H with ⟨x6, h7, e5, H⟩ | ⟨q8, h9, e5, H⟩
  · refine zw_invV (pc := 4) (M' := M_X1_matrixWith) (A := [vI p1, vI p2, vI p3]) [] dX1_value_4 (Or.inl q1597) mf_X1_matrixWith ls_X1_matrixWith (zkq e4 rfl) (w_X1_matrixWith e5) (Nat.le_of_ble_eq_true rfl) rfl (by rw [← e2]; rfl) (Nat.le_of_ble_eq_true rfl) (zkv ?_) zkn9
    refine zw_iload_n (pc := 7) dX1_value_7 rfl 2 rfl ?_
    refine zw_iload_n (pc := 8) dX1_value_8 rfl 3 rfl ?_
    obtain ⟨b10, e12, H⟩ := zbind H
    obtain ⟨e11, e13⟩ := zrv_ok e12
    obtain ⟨x15, e14, H⟩ := zbind H
    refine zw_invV (pc := 9) (M' := M_X3_value) (A := [vI p2, vI p3]) [] dX1_value_9 (Or.inl q1648) mf_X3_value q410 (zkq e13 rfl) (w_X3_value e14) (Nat.le_of_ble_eq_true rfl) rfl (by rw [← e11]; rfl) (Nat.le_of_ble_eq_true rfl) (zkv ?_) zkn9
    obtain ⟨rfl, rfl⟩ := Prod.mk.inj (Option.some.inj H)
    exact zw_iret (pc := 12) dX1_value_12 rfl rfl rfl
  · refine zw_invV (pc := 4) (M' := M_X1_matrixWith) (A := [vI p1, vI p2, vI p3]) [] dX1_value_4 (Or.inl q1597) mf_X1_matrixWith ls_X1_matrixWith (zkq e4 rfl) (w_X1_matrixWith e5) (Nat.le_of_ble_eq_true rfl) rfl (by rw [← e2]; rfl) (Nat.le_of_ble_eq_true rfl) zkv0 (zkx ?_)
    rcases zif H with ⟨c16, H⟩ | ⟨c16, H⟩
    · have c16 := c16
      obtain ⟨rfl, rfl⟩ := Prod.mk.inj (Option.some.inj H)
      exact zx_out (zkq c16 rfl) (fun _ hz => nomatch hz) rfl rfl
    cases H
def M_X1_storageIndex : zM := (yX1_storageIndex, cX1_storageIndex, 4, (.some .int), [])
theorem mf_X1_storageIndex : zMi M_X1_storageIndex 3 := ⟨⟨q1787, q180, ⟨by decide +kernel, by decide +kernel⟩, by decide +kernel, by decide⟩, q1785⟩
def f_X1_storageIndex (p0 : Option Nat) (p1 : Int32) (p2 : Int32) (p3 : Int32) (h : zH) : Option ((Int32 ⊕ Nat) × zH) :=
  (zrv 1 p0 h).bind fun b1 =>
  zb3 (f_X1_matrixWith (some b1) p1 p2 p3 h) (fun x6 h7 =>
  (zrv 3 x6 h7).bind fun b10 =>
  (f_X3_find (some b10) p2 p3 h7).bind fun x15 =>
  some (.inl x15, h7))
  (fun q8 h9 =>
  if zk h9 q8 = 20 then
  some (.inr q8, h9)
  else none)
theorem w_X1_storageIndex {G : zG} {p0 : Option Nat} {p1 : Int32} {p2 : Int32} {p3 : Int32} {h : zH} {vo : Int32 ⊕ Nat} {vh : zH} (H : f_X1_storageIndex p0 p1 p2 p3 h = some (vo, vh)) : zMet G M_X1_storageIndex 10 [vR p0, vI p1, vI p2, vI p3] h (zoI vo) vh := by
  refine zMet.of (by decide +kernel) (Nat.le_of_ble_eq_true rfl) ?_
  show zW G M_X1_storageIndex 10 h (zoI vo) vh 0 [(0, vR p0), (1, vI p1), (2, vI p2), (3, vI p3)] [] h
  unfold f_X1_storageIndex at H
  refine zw_aload_n (pc := 0) dX1_storageIndex_0 rfl 0 rfl ?_
  refine zw_iload_n (pc := 1) dX1_storageIndex_1 rfl 1 rfl ?_
  refine zw_iload_n (pc := 2) dX1_storageIndex_2 rfl 2 rfl ?_
  refine zw_iload_n (pc := 3) dX1_storageIndex_3 rfl 3 rfl ?_
  obtain ⟨b1, e3, H⟩ := zbind H
  obtain ⟨e2, e4⟩ := zrv_ok e3
  rcases zbind3 H with ⟨x6, h7, e5, H⟩ | ⟨q8, h9, e5, H⟩
  · refine zw_invV (pc := 4) (M' := M_X1_matrixWith) (A := [vI p1, vI p2, vI p3]) [] dX1_storageIndex_4 (Or.inl q1597) mf_X1_matrixWith ls_X1_matrixWith (zkq e4 rfl) (w_X1_matrixWith e5) (Nat.le_of_ble_eq_true rfl) rfl (by rw [← e2]; rfl) (Nat.le_of_ble_eq_true rfl) (zkv ?_) zkn9
    refine zw_iload_n (pc := 7) dX1_storageIndex_7 rfl 2 rfl ?_
    refine zw_iload_n (pc := 8) dX1_storageIndex_8 rfl 3 rfl ?_
    obtain ⟨b10, e12, H⟩ := zbind H
    obtain ⟨e11, e13⟩ := zrv_ok e12
    obtain ⟨x15, e14, H⟩ := zbind H
    refine zw_invV (pc := 9) (M' := M_X3_find) (A := [vI p2, vI p3]) [] dX1_storageIndex_9 (Or.inl q1617) mf_X3_find q403 (zkq e13 rfl) (w_X3_find e14) (Nat.le_of_ble_eq_true rfl) rfl (by rw [← e11]; rfl) (Nat.le_of_ble_eq_true rfl) (zkv ?_) zkn9
    obtain ⟨rfl, rfl⟩ := Prod.mk.inj (Option.some.inj H)
    exact zw_iret (pc := 12) dX1_storageIndex_12 rfl rfl rfl
  · refine zw_invV (pc := 4) (M' := M_X1_matrixWith) (A := [vI p1, vI p2, vI p3]) [] dX1_storageIndex_4 (Or.inl q1597) mf_X1_matrixWith ls_X1_matrixWith (zkq e4 rfl) (w_X1_matrixWith e5) (Nat.le_of_ble_eq_true rfl) rfl (by rw [← e2]; rfl) (Nat.le_of_ble_eq_true rfl) zkv0 (zkx ?_)
    rcases zif H with ⟨c16, H⟩ | ⟨c16, H⟩
    · have c16 := c16
      obtain ⟨rfl, rfl⟩ := Prod.mk.inj (Option.some.inj H)
      exact zx_out (zkq c16 rfl) (fun _ hz => nomatch hz) rfl rfl
    cases H
def M_X1_explicitZeros : zM := (yX1_explicitZeros, cX1_explicitZeros, 2, (.some .int), [])
theorem mf_X1_explicitZeros : zMi M_X1_explicitZeros 1 := ⟨⟨q1794, q180, ⟨by decide +kernel, by decide +kernel⟩, by decide +kernel, by decide⟩, q1792⟩
def f_X1_explicitZeros (p0 : Option Nat) (p1 : Int32) (h : zH) : Option ((Int32 ⊕ Nat) × zH) :=
  (zrv 1 p0 h).bind fun b1 =>
  zb3 (f_X1_matrix (some b1) p1 h) (fun x6 h7 =>
  (zrv 3 x6 h7).bind fun b10 =>
  (f_X3_zeros (some b10) h7).bind fun x15 =>
  some (.inl x15, h7))
  (fun q8 h9 =>
  if zk h9 q8 = 20 then
  some (.inr q8, h9)
  else none)
theorem w_X1_explicitZeros {G : zG} {p0 : Option Nat} {p1 : Int32} {h : zH} {vo : Int32 ⊕ Nat} {vh : zH} (H : f_X1_explicitZeros p0 p1 h = some (vo, vh)) : zMet G M_X1_explicitZeros 8 [vR p0, vI p1] h (zoI vo) vh := by
  refine zMet.of (by decide +kernel) (Nat.le_of_ble_eq_true rfl) ?_
  show zW G M_X1_explicitZeros 8 h (zoI vo) vh 0 [(0, vR p0), (1, vI p1)] [] h
  unfold f_X1_explicitZeros at H
  refine zw_aload_n (pc := 0) dX1_explicitZeros_0 rfl 0 rfl ?_
  refine zw_iload_n (pc := 1) dX1_explicitZeros_1 rfl 1 rfl ?_
  obtain ⟨b1, e3, H⟩ := zbind H
  obtain ⟨e2, e4⟩ := zrv_ok e3
  rcases zbind3 H with ⟨x6, h7, e5, H⟩ | ⟨q8, h9, e5, H⟩
  · refine zw_invV (pc := 2) (M' := M_X1_matrix) (A := [vI p1]) [] dX1_explicitZeros_2 (Or.inl q1567) mf_X1_matrix ls_X1_matrix (zkq e4 rfl) (w_X1_matrix e5) (Nat.le_of_ble_eq_true rfl) rfl (by rw [← e2]; rfl) (Nat.le_of_ble_eq_true rfl) (zkv ?_) zkn9
    obtain ⟨b10, e12, H⟩ := zbind H
    obtain ⟨e11, e13⟩ := zrv_ok e12
    obtain ⟨x15, e14, H⟩ := zbind H
    refine zw_invV (pc := 5) (M' := M_X3_zeros) (A := []) [] dX1_explicitZeros_5 (Or.inl q1795) mf_X3_zeros q1797 (zkq e13 rfl) (w_X3_zeros e14) (Nat.le_of_ble_eq_true rfl) rfl (by rw [← e11]; rfl) (Nat.le_of_ble_eq_true rfl) (zkv ?_) zkn9
    obtain ⟨rfl, rfl⟩ := Prod.mk.inj (Option.some.inj H)
    exact zw_iret (pc := 8) dX1_explicitZeros_8 rfl rfl rfl
  · refine zw_invV (pc := 2) (M' := M_X1_matrix) (A := [vI p1]) [] dX1_explicitZeros_2 (Or.inl q1567) mf_X1_matrix ls_X1_matrix (zkq e4 rfl) (w_X1_matrix e5) (Nat.le_of_ble_eq_true rfl) rfl (by rw [← e2]; rfl) (Nat.le_of_ble_eq_true rfl) zkv0 (zkx ?_)
    rcases zif H with ⟨c16, H⟩ | ⟨c16, H⟩
    · have c16 := c16
      obtain ⟨rfl, rfl⟩ := Prod.mk.inj (Option.some.inj H)
      exact zx_out (zkq c16 rfl) (fun _ hz => nomatch hz) rfl rfl
    cases H
def M_X1_rowLength : zM := (yX1_rowLength, cX1_rowLength, 3, (.some .int), [])
theorem mf_X1_rowLength : zMi M_X1_rowLength 2 := ⟨⟨q1805, q180, ⟨by decide +kernel, by decide +kernel⟩, by decide +kernel, by decide⟩, q1803⟩
def f_X1_rowLength (p0 : Option Nat) (p1 : Int32) (p2 : Int32) (h : zH) : Option ((Int32 ⊕ Nat) × zH) :=
  (zrv 1 p0 h).bind fun b1 =>
  zb3 (f_X1_matrixWithRow (some b1) p1 p2 h) (fun x6 h7 =>
  (zrv 3 x6 h7).bind fun b10 =>
  (f_X3_rowLength (some b10) p2 h7).bind fun x15 =>
  some (.inl x15, h7))
  (fun q8 h9 =>
  if zk h9 q8 = 20 then
  some (.inr q8, h9)
  else none)
theorem w_X1_rowLength {G : zG} {p0 : Option Nat} {p1 : Int32} {p2 : Int32} {h : zH} {vo : Int32 ⊕ Nat} {vh : zH} (H : f_X1_rowLength p0 p1 p2 h = some (vo, vh)) : zMet G M_X1_rowLength 9 [vR p0, vI p1, vI p2] h (zoI vo) vh := by
  refine zMet.of (by decide +kernel) (Nat.le_of_ble_eq_true rfl) ?_
  show zW G M_X1_rowLength 9 h (zoI vo) vh 0 [(0, vR p0), (1, vI p1), (2, vI p2)] [] h
  unfold f_X1_rowLength at H
  refine zw_aload_n (pc := 0) dX1_rowLength_0 rfl 0 rfl ?_
  refine zw_iload_n (pc := 1) dX1_rowLength_1 rfl 1 rfl ?_
  refine zw_iload_n (pc := 2) dX1_rowLength_2 rfl 2 rfl ?_
  obtain ⟨b1, e3, H⟩ := zbind H
  obtain ⟨e2, e4⟩ := zrv_ok e3
  rcases zbind3 H with ⟨x6, h7, e5, H⟩ | ⟨q8, h9, e5, H⟩
  · refine zw_invV (pc := 3) (M' := M_X1_matrixWithRow) (A := [vI p1, vI p2]) [] dX1_rowLength_3 (Or.inl q1601) mf_X1_matrixWithRow ls_X1_matrixWithRow (zkq e4 rfl) (w_X1_matrixWithRow e5) (Nat.le_of_ble_eq_true rfl) rfl (by rw [← e2]; rfl) (Nat.le_of_ble_eq_true rfl) (zkv ?_) zkn9
    refine zw_iload_n (pc := 6) dX1_rowLength_6 rfl 2 rfl ?_
    obtain ⟨b10, e12, H⟩ := zbind H
    obtain ⟨e11, e13⟩ := zrv_ok e12
    obtain ⟨x15, e14, H⟩ := zbind H
    refine zw_invV (pc := 7) (M' := M_X3_rowLength) (A := [vI p2]) [] dX1_rowLength_7 (Or.inl q1668) mf_X3_rowLength q1438 (zkq e13 rfl) (w_X3_rowLength e14) (Nat.le_of_ble_eq_true rfl) rfl (by rw [← e11]; rfl) (Nat.le_of_ble_eq_true rfl) (zkv ?_) zkn9
    obtain ⟨rfl, rfl⟩ := Prod.mk.inj (Option.some.inj H)
    exact zw_iret (pc := 10) dX1_rowLength_10 rfl rfl rfl
  · refine zw_invV (pc := 3) (M' := M_X1_matrixWithRow) (A := [vI p1, vI p2]) [] dX1_rowLength_3 (Or.inl q1601) mf_X1_matrixWithRow ls_X1_matrixWithRow (zkq e4 rfl) (w_X1_matrixWithRow e5) (Nat.le_of_ble_eq_true rfl) rfl (by rw [← e2]; rfl) (Nat.le_of_ble_eq_true rfl) zkv0 (zkx ?_)
    rcases zif H with ⟨c16, H⟩ | ⟨c16, H⟩
    · have c16 := c16
      obtain ⟨rfl, rfl⟩ := Prod.mk.inj (Option.some.inj H)
      exact zx_out (zkq c16 rfl) (fun _ hz => nomatch hz) rfl rfl
    cases H
def M_X1_columnLength : zM := (yX1_columnLength, cX1_columnLength, 4, (.some .int), [])
theorem mf_X1_columnLength : zMi M_X1_columnLength 2 := ⟨⟨q1812, q180, ⟨by decide +kernel, by decide +kernel⟩, by decide +kernel, by decide⟩, q1810⟩
def f_X1_columnLength (p0 : Option Nat) (p1 : Int32) (p2 : Int32) (h : zH) : Option ((Int32 ⊕ Nat) × zH) :=
  (zrv 1 p0 h).bind fun b1 =>
  zb3 (f_X1_matrix (some b1) p1 h) (fun x6 h7 =>
  (zgI 3 1 x6 h7).bind fun x10 =>
  (f_X1_isIn p2.toInt64 (0 : Int64) (x10 - (1 : Int32)).toInt64 h7).bind fun x13 =>
  zb3 (f_X1_index x13 h7) (fun _ h16 =>
  (zrv 3 x6 h16).bind fun b19 =>
  (f_X3_columnLength (some b19) p2 h16).bind fun x24 =>
  some (.inl x24, h16))
  (fun q17 h18 =>
  if zk h18 q17 = 20 then
  some (.inr q17, h18)
  else none))
  (fun q8 h9 =>
  if zk h9 q8 = 20 then
  some (.inr q8, h9)
  else none)
theorem w_X1_columnLength {G : zG} {p0 : Option Nat} {p1 : Int32} {p2 : Int32} {h : zH} {vo : Int32 ⊕ Nat} {vh : zH} (H : f_X1_columnLength p0 p1 p2 h = some (vo, vh)) : zMet G M_X1_columnLength 8 [vR p0, vI p1, vI p2] h (zoI vo) vh := by
  refine zMet.of (by decide +kernel) (Nat.le_of_ble_eq_true rfl) ?_
  show zW G M_X1_columnLength 8 h (zoI vo) vh 0 [(0, vR p0), (1, vI p1), (2, vI p2)] [] h
  unfold f_X1_columnLength at H
  refine zw_aload_n (pc := 0) dX1_columnLength_0 rfl 0 rfl ?_
  refine zw_iload_n (pc := 1) dX1_columnLength_1 rfl 1 rfl ?_
  obtain ⟨b1, e3, H⟩ := zbind H
  obtain ⟨e2, e4⟩ := zrv_ok e3
  rcases zbind3 H with ⟨x6, h7, e5, H⟩ | ⟨q8, h9, e5, H⟩
  · refine zw_invV (pc := 2) (M' := M_X1_matrix) (A := [vI p1]) [] dX1_columnLength_2 (Or.inl q1567) mf_X1_matrix ls_X1_matrix (zkq e4 rfl) (w_X1_matrix e5) (Nat.le_of_ble_eq_true rfl) rfl (by rw [← e2]; rfl) (Nat.le_of_ble_eq_true rfl) (zkv ?_) zkn9
    refine zw_astore_n (pc := 5) (lv' := [(3, vR x6), (0, vR p0), (1, vI p1), (2, vI p2)]) dX1_columnLength_5 rfl (by decide) rfl ?_
    refine zw_iload_n (pc := 6) dX1_columnLength_6 rfl 3 rfl ?_
    refine zw_i2l (pc := 7) dX1_columnLength_7 ?_
    refine zw_lconst (pc := 8) (v := (0 : Int64)) dX1_columnLength_8 (by decide) ?_
    refine zw_aload_n (pc := 9) dX1_columnLength_9 rfl 0 rfl ?_
    obtain ⟨x10, e11, H⟩ := zbind H
    refine zy_getI (pc := 10) dX1_columnLength_10 lf_X1_167 (fun _ _ => rfl) e11 ?_
    refine zw_iconst (pc := 13) (v := (1 : Int32)) dX1_columnLength_13 (by decide) ?_
    refine zw_isub (pc := 14) dX1_columnLength_14 ?_
    refine zw_i2l (pc := 15) dX1_columnLength_15 ?_
    obtain ⟨x13, e12, H⟩ := zbind H
    refine zw_invS (pc := 16) (M' := M_X1_isIn) (A := [vJ p2.toInt64, vJ (0 : Int64), vJ (x10 - (1 : Int32)).toInt64]) [] dX1_columnLength_16 (Or.inl q603) mf_X1_isIn (w_X1_isIn e12) (Nat.le_of_ble_eq_true rfl) rfl rfl (Nat.le_of_ble_eq_true rfl) (zkv ?_) zkn9
    rcases zbind3 H with ⟨x15, h16, e14, H⟩ | ⟨q17, h18, e14, H⟩
    · refine zw_invS (pc := 19) (M' := M_X1_index) (A := [vI x13]) [] dX1_columnLength_19 (Or.inl q1572) mf_X1_index (w_X1_index e14) (Nat.le_of_ble_eq_true rfl) rfl rfl (Nat.le_of_ble_eq_true rfl) (zku ?_) zkn9
      refine zw_aload_n (pc := 22) dX1_columnLength_22 rfl 0 rfl ?_
      refine zw_iload_n (pc := 23) dX1_columnLength_23 rfl 3 rfl ?_
      obtain ⟨b19, e21, H⟩ := zbind H
      obtain ⟨e20, e22⟩ := zrv_ok e21
      obtain ⟨x24, e23, H⟩ := zbind H
      refine zw_invV (pc := 24) (M' := M_X3_columnLength) (A := [vI p2]) [] dX1_columnLength_24 (Or.inl q1813) mf_X3_columnLength q1815 (zkq e22 rfl) (w_X3_columnLength e23) (Nat.le_of_ble_eq_true rfl) rfl (by rw [← e20]; rfl) (Nat.le_of_ble_eq_true rfl) (zkv ?_) zkn9
      obtain ⟨rfl, rfl⟩ := Prod.mk.inj (Option.some.inj H)
      exact zw_iret (pc := 27) dX1_columnLength_27 rfl rfl rfl
    · refine zw_invS (pc := 19) (M' := M_X1_index) (A := [vI x13]) [] dX1_columnLength_19 (Or.inl q1572) mf_X1_index (w_X1_index e14) (Nat.le_of_ble_eq_true rfl) rfl rfl (Nat.le_of_ble_eq_true rfl) zkv0 (zkx ?_)
      rcases zif H with ⟨c25, H⟩ | ⟨c25, H⟩
      · have c25 := c25
        obtain ⟨rfl, rfl⟩ := Prod.mk.inj (Option.some.inj H)
        exact zx_out (zkq c25 rfl) (fun _ hz => nomatch hz) rfl rfl
      cases H
  · refine zw_invV (pc := 2) (M' := M_X1_matrix) (A := [vI p1]) [] dX1_columnLength_2 (Or.inl q1567) mf_X1_matrix ls_X1_matrix (zkq e4 rfl) (w_X1_matrix e5) (Nat.le_of_ble_eq_true rfl) rfl (by rw [← e2]; rfl) (Nat.le_of_ble_eq_true rfl) zkv0 (zkx ?_)
    rcases zif H with ⟨c26, H⟩ | ⟨c26, H⟩
    · have c26 := c26
      obtain ⟨rfl, rfl⟩ := Prod.mk.inj (Option.some.inj H)
      exact zx_out (zkq c26 rfl) (fun _ hz => nomatch hz) rfl rfl
    cases H
def M_X1_longestRow : zM := (yX1_longestRow, cX1_longestRow, 5, (.some .int), [])
theorem mf_X1_longestRow : zMi M_X1_longestRow 1 := ⟨⟨q1823, q180, ⟨by decide +kernel, by decide +kernel⟩, by decide +kernel, by decide⟩, q1821⟩
def B_X1_longestRow_11 (k11 : Option Nat → Int32 → Int32 → zH → Option ((Int32 ⊕ Nat) × zH)) (a0 : Option Nat) (a1 : Int32) (a2 : Int32) (h : zH) : Option ((Int32 ⊕ Nat) × zH) :=
  (zgI 3 0 a0 h).bind fun x1 =>
  if x1 ≤ a2 then
  some (.inl a1, h)
  else
  (zrv 3 a0 h).bind fun b4 =>
  (f_X3_rowLength (some b4) a2 h).bind fun x9 =>
  (zrv 3 a0 h).bind fun b10 =>
  (f_X3_rowLength (some b10) a1 h).bind fun x15 =>
  if x9 ≤ x15 then
  k11 a0 a1 (a2 + (1 : Int32)) h
  else
  k11 a0 a2 (a2 + (1 : Int32)) h
theorem wB_X1_longestRow_11 {G : zG} {h0 h : zH} {vo : Int32 ⊕ Nat} {vh : zH} {k11 : Option Nat → Int32 → Int32 → zH → Option ((Int32 ⊕ Nat) × zH)} (hk11 : ∀ (b0 : Option Nat) (b1 : Int32) (b2 : Int32) (h' : zH), k11 b0 b1 b2 h' = some (vo, vh) → zW G M_X1_longestRow 8 h0 (zoI vo) vh 11 [(2, vR b0), (3, vI b1), (4, vI b2)] [] h') {a0 : Option Nat} {a1 : Int32} {a2 : Int32} (H : B_X1_longestRow_11 k11 a0 a1 a2 h = some (vo, vh)) : zW G M_X1_longestRow 8 h0 (zoI vo) vh 11 [(2, vR a0), (3, vI a1), (4, vI a2)] [] h := by
  unfold B_X1_longestRow_11 at H
  refine zw_iload (pc := 11) dX1_longestRow_11 2 rfl ?_
  refine zw_aload_n (pc := 13) dX1_longestRow_13 rfl 0 rfl ?_
  obtain ⟨x1, e2, H⟩ := zbind H
  refine zy_getI (pc := 14) dX1_longestRow_14 lf_X1_158 (fun _ _ => rfl) e2 ?_
  rcases zif H with ⟨c3, H⟩ | ⟨c3, H⟩
  · refine zw_icmp_ge (pc := 17) (tgt := 43) dX1_longestRow_17 rfl (fun _ => ?_) (fun q => absurd c3 q)
    refine zw_iload_n (pc := 43) dX1_longestRow_43 rfl 1 rfl ?_
    obtain ⟨rfl, rfl⟩ := Prod.mk.inj (Option.some.inj H)
    exact zw_iret (pc := 44) dX1_longestRow_44 rfl rfl rfl
  · refine zw_icmp_ge (pc := 17) (tgt := 43) dX1_longestRow_17 rfl (fun q => absurd q c3) (fun _ => ?_)
    refine zw_aload_n (pc := 20) dX1_longestRow_20 rfl 0 rfl ?_
    refine zw_iload (pc := 21) dX1_longestRow_21 2 rfl ?_
    obtain ⟨b4, e6, H⟩ := zbind H
    obtain ⟨e5, e7⟩ := zrv_ok e6
    obtain ⟨x9, e8, H⟩ := zbind H
    refine zw_invV (pc := 23) (M' := M_X3_rowLength) (A := [vI a2]) [] dX1_longestRow_23 (Or.inl q1668) mf_X3_rowLength q1438 (zkq e7 rfl) (w_X3_rowLength e8) (Nat.le_of_ble_eq_true rfl) rfl (by rw [← e5]; rfl) (Nat.le_of_ble_eq_true rfl) (zkv ?_) zkn9
    refine zw_aload_n (pc := 26) dX1_longestRow_26 rfl 0 rfl ?_
    refine zw_iload_n (pc := 27) dX1_longestRow_27 rfl 1 rfl ?_
    obtain ⟨b10, e12, H⟩ := zbind H
    obtain ⟨e11, e13⟩ := zrv_ok e12
    obtain ⟨x15, e14, H⟩ := zbind H
    refine zw_invV (pc := 28) (M' := M_X3_rowLength) (A := [vI a1]) [vI x9] dX1_longestRow_28 (Or.inl q1668) mf_X3_rowLength q1438 (zkq e13 rfl) (w_X3_rowLength e14) (Nat.le_of_ble_eq_true rfl) rfl (by rw [← e11]; rfl) (Nat.le_of_ble_eq_true rfl) (zkv ?_) zkn9
    rcases zif H with ⟨c16, H⟩ | ⟨c16, H⟩
    · refine zw_icmp_le (pc := 31) (tgt := 37) dX1_longestRow_31 rfl (fun _ => ?_) (fun q => absurd c16 q)
      refine zw_iinc (pc := 37) (v := (a2 + (1 : Int32))) (lv' := [(4, vI (a2 + (1 : Int32))), (2, vR a0), (3, vI a1)]) dX1_longestRow_37 2 rfl rfl (by decide) rfl ?_
      refine zw_goto (pc := 40) (tgt := 11) dX1_longestRow_40 rfl ?_
      refine zW_pick (lv' := [(2, vR a0), (3, vI a1), (4, vI (a2 + (1 : Int32)))]) [1, 2, 0] rfl ?_
      exact hk11 _ _ _ _ H
    · refine zw_icmp_le (pc := 31) (tgt := 37) dX1_longestRow_31 rfl (fun q => absurd q c16) (fun _ => ?_)
      refine zw_iload (pc := 34) dX1_longestRow_34 2 rfl ?_
      refine zw_istore_n (pc := 36) (lv' := [(3, vI a2), (2, vR a0), (4, vI a2)]) dX1_longestRow_36 rfl (by decide) rfl ?_
      refine zw_iinc (pc := 37) (v := (a2 + (1 : Int32))) (lv' := [(4, vI (a2 + (1 : Int32))), (3, vI a2), (2, vR a0)]) dX1_longestRow_37 2 rfl rfl (by decide) rfl ?_
      refine zw_goto (pc := 40) (tgt := 11) dX1_longestRow_40 rfl ?_
      refine zW_pick (lv' := [(2, vR a0), (3, vI a2), (4, vI (a2 + (1 : Int32)))]) [2, 1, 0] rfl ?_
      exact hk11 _ _ _ _ H
def f_X1_longestRow (p0 : Option Nat) (p1 : Int32) (h : zH) : Option ((Int32 ⊕ Nat) × zH) :=
  (zrv 1 p0 h).bind fun b1 =>
  zb3 (f_X1_matrix (some b1) p1 h) (fun x6 h7 =>
  zloop (B_X1_longestRow_11) (fun _ _ _ _ => none) zFU x6 (0 : Int32) (1 : Int32) h7)
  (fun q8 h9 =>
  if zk h9 q8 = 20 then
  some (.inr q8, h9)
  else none)
theorem w_X1_longestRow {G : zG} {p0 : Option Nat} {p1 : Int32} {h : zH} {vo : Int32 ⊕ Nat} {vh : zH} (H : f_X1_longestRow p0 p1 h = some (vo, vh)) : zMet G M_X1_longestRow 8 [vR p0, vI p1] h (zoI vo) vh := by
  refine zMet.of (by decide +kernel) (Nat.le_of_ble_eq_true rfl) ?_
  show zW G M_X1_longestRow 8 h (zoI vo) vh 0 [(0, vR p0), (1, vI p1)] [] h
  unfold f_X1_longestRow at H
  refine zw_aload_n (pc := 0) dX1_longestRow_0 rfl 0 rfl ?_
  refine zw_iload_n (pc := 1) dX1_longestRow_1 rfl 1 rfl ?_
  obtain ⟨b1, e3, H⟩ := zbind H
  obtain ⟨e2, e4⟩ := zrv_ok e3
  rcases zbind3 H with ⟨x6, h7, e5, H⟩ | ⟨q8, h9, e5, H⟩
  · refine zw_invV (pc := 2) (M' := M_X1_matrix) (A := [vI p1]) [] dX1_longestRow_2 (Or.inl q1567) mf_X1_matrix ls_X1_matrix (zkq e4 rfl) (w_X1_matrix e5) (Nat.le_of_ble_eq_true rfl) rfl (by rw [← e2]; rfl) (Nat.le_of_ble_eq_true rfl) (zkv ?_) zkn9
    refine zw_astore_n (pc := 5) (lv' := [(2, vR x6), (0, vR p0), (1, vI p1)]) dX1_longestRow_5 rfl (by decide) rfl ?_
    refine zw_iconst (pc := 6) (v := (0 : Int32)) dX1_longestRow_6 (by decide) ?_
    refine zw_istore_n (pc := 7) (lv' := [(3, vI (0 : Int32)), (2, vR x6), (0, vR p0), (1, vI p1)]) dX1_longestRow_7 rfl (by decide) rfl ?_
    refine zw_iconst (pc := 8) (v := (1 : Int32)) dX1_longestRow_8 (by decide) ?_
    refine zw_istore (pc := 9) (lv' := [(4, vI (1 : Int32)), (3, vI (0 : Int32)), (2, vR x6), (0, vR p0), (1, vI p1)]) dX1_longestRow_9 (by decide) rfl ?_
    refine zW_pick (lv' := [(2, vR x6), (3, vI (0 : Int32)), (4, vI (1 : Int32))]) [2, 1, 0] rfl ?_
    exact zloop_ind (body := (B_X1_longestRow_11)) (bot := (fun _ _ _ _ => none)) (P := (fun (f : Option Nat → Int32 → Int32 → zH → Option ((Int32 ⊕ Nat) × zH)) => ∀ (b0 : Option Nat) (b1 : Int32) (b2 : Int32) (h' : zH), f b0 b1 b2 h' = some (vo, vh) → zW G M_X1_longestRow 8 h (zoI vo) vh 11 [(2, vR b0), (3, vI b1), (4, vI b2)] [] h')) zFU (fun _ _ _ _ H => nomatch H) (fun f hf c0 c1 c2 h' H => wB_X1_longestRow_11 hf H) _ _ _ _ H
  · refine zw_invV (pc := 2) (M' := M_X1_matrix) (A := [vI p1]) [] dX1_longestRow_2 (Or.inl q1567) mf_X1_matrix ls_X1_matrix (zkq e4 rfl) (w_X1_matrix e5) (Nat.le_of_ble_eq_true rfl) rfl (by rw [← e2]; rfl) (Nat.le_of_ble_eq_true rfl) zkv0 (zkx ?_)
    rcases zif H with ⟨c10, H⟩ | ⟨c10, H⟩
    · have c10 := c10
      obtain ⟨rfl, rfl⟩ := Prod.mk.inj (Option.some.inj H)
      exact zx_out (zkq c10 rfl) (fun _ hz => nomatch hz) rfl rfl
    cases H
def M_X1_emptyRows : zM := (yX1_emptyRows, cX1_emptyRows, 5, (.some .int), [])
theorem mf_X1_emptyRows : zMi M_X1_emptyRows 1 := ⟨⟨q1830, q180, ⟨by decide +kernel, by decide +kernel⟩, by decide +kernel, by decide⟩, q1828⟩
def B_X1_emptyRows_11 (k11 : Option Nat → Int32 → Int32 → zH → Option ((Int32 ⊕ Nat) × zH)) (a0 : Option Nat) (a1 : Int32) (a2 : Int32) (h : zH) : Option ((Int32 ⊕ Nat) × zH) :=
  (zgI 3 0 a0 h).bind fun x1 =>
  if x1 ≤ a2 then
  some (.inl a1, h)
  else
  (zrv 3 a0 h).bind fun b4 =>
  (f_X3_rowLength (some b4) a2 h).bind fun x9 =>
  if x9 = 0 then
  k11 a0 (a1 + (1 : Int32)) (a2 + (1 : Int32)) h
  else
  k11 a0 a1 (a2 + (1 : Int32)) h
theorem wB_X1_emptyRows_11 {G : zG} {h0 h : zH} {vo : Int32 ⊕ Nat} {vh : zH} {k11 : Option Nat → Int32 → Int32 → zH → Option ((Int32 ⊕ Nat) × zH)} (hk11 : ∀ (b0 : Option Nat) (b1 : Int32) (b2 : Int32) (h' : zH), k11 b0 b1 b2 h' = some (vo, vh) → zW G M_X1_emptyRows 8 h0 (zoI vo) vh 11 [(2, vR b0), (3, vI b1), (4, vI b2)] [] h') {a0 : Option Nat} {a1 : Int32} {a2 : Int32} (H : B_X1_emptyRows_11 k11 a0 a1 a2 h = some (vo, vh)) : zW G M_X1_emptyRows 8 h0 (zoI vo) vh 11 [(2, vR a0), (3, vI a1), (4, vI a2)] [] h := by
  unfold B_X1_emptyRows_11 at H
  refine zw_iload (pc := 11) dX1_emptyRows_11 2 rfl ?_
  refine zw_aload_n (pc := 13) dX1_emptyRows_13 rfl 0 rfl ?_
  obtain ⟨x1, e2, H⟩ := zbind H
  refine zy_getI (pc := 14) dX1_emptyRows_14 lf_X1_158 (fun _ _ => rfl) e2 ?_
  rcases zif H with ⟨c3, H⟩ | ⟨c3, H⟩
  · refine zw_icmp_ge (pc := 17) (tgt := 38) dX1_emptyRows_17 rfl (fun _ => ?_) (fun q => absurd c3 q)
    refine zw_iload_n (pc := 38) dX1_emptyRows_38 rfl 1 rfl ?_
    obtain ⟨rfl, rfl⟩ := Prod.mk.inj (Option.some.inj H)
    exact zw_iret (pc := 39) dX1_emptyRows_39 rfl rfl rfl
  · refine zw_icmp_ge (pc := 17) (tgt := 38) dX1_emptyRows_17 rfl (fun q => absurd q c3) (fun _ => ?_)
    refine zw_aload_n (pc := 20) dX1_emptyRows_20 rfl 0 rfl ?_
    refine zw_iload (pc := 21) dX1_emptyRows_21 2 rfl ?_
    obtain ⟨b4, e6, H⟩ := zbind H
    obtain ⟨e5, e7⟩ := zrv_ok e6
    obtain ⟨x9, e8, H⟩ := zbind H
    refine zw_invV (pc := 23) (M' := M_X3_rowLength) (A := [vI a2]) [] dX1_emptyRows_23 (Or.inl q1668) mf_X3_rowLength q1438 (zkq e7 rfl) (w_X3_rowLength e8) (Nat.le_of_ble_eq_true rfl) rfl (by rw [← e5]; rfl) (Nat.le_of_ble_eq_true rfl) (zkv ?_) zkn9
    rcases zif H with ⟨c10, H⟩ | ⟨c10, H⟩
    · refine zw_if_ne (pc := 26) (tgt := 32) dX1_emptyRows_26 rfl (fun q => absurd c10 q) (fun _ => ?_)
      refine zw_iinc (pc := 29) (v := (a1 + (1 : Int32))) (lv' := [(3, vI (a1 + (1 : Int32))), (2, vR a0), (4, vI a2)]) dX1_emptyRows_29 1 rfl rfl (by decide) rfl ?_
      refine zw_iinc (pc := 32) (v := (a2 + (1 : Int32))) (lv' := [(4, vI (a2 + (1 : Int32))), (3, vI (a1 + (1 : Int32))), (2, vR a0)]) dX1_emptyRows_32 2 rfl rfl (by decide) rfl ?_
      refine zw_goto (pc := 35) (tgt := 11) dX1_emptyRows_35 rfl ?_
      refine zW_pick (lv' := [(2, vR a0), (3, vI (a1 + (1 : Int32))), (4, vI (a2 + (1 : Int32)))]) [2, 1, 0] rfl ?_
      exact hk11 _ _ _ _ H
    · refine zw_if_ne (pc := 26) (tgt := 32) dX1_emptyRows_26 rfl (fun _ => ?_) (fun q => absurd q c10)
      refine zw_iinc (pc := 32) (v := (a2 + (1 : Int32))) (lv' := [(4, vI (a2 + (1 : Int32))), (2, vR a0), (3, vI a1)]) dX1_emptyRows_32 2 rfl rfl (by decide) rfl ?_
      refine zw_goto (pc := 35) (tgt := 11) dX1_emptyRows_35 rfl ?_
      refine zW_pick (lv' := [(2, vR a0), (3, vI a1), (4, vI (a2 + (1 : Int32)))]) [1, 2, 0] rfl ?_
      exact hk11 _ _ _ _ H
def f_X1_emptyRows (p0 : Option Nat) (p1 : Int32) (h : zH) : Option ((Int32 ⊕ Nat) × zH) :=
  (zrv 1 p0 h).bind fun b1 =>
  zb3 (f_X1_matrix (some b1) p1 h) (fun x6 h7 =>
  zloop (B_X1_emptyRows_11) (fun _ _ _ _ => none) zFU x6 (0 : Int32) (0 : Int32) h7)
  (fun q8 h9 =>
  if zk h9 q8 = 20 then
  some (.inr q8, h9)
  else none)
theorem w_X1_emptyRows {G : zG} {p0 : Option Nat} {p1 : Int32} {h : zH} {vo : Int32 ⊕ Nat} {vh : zH} (H : f_X1_emptyRows p0 p1 h = some (vo, vh)) : zMet G M_X1_emptyRows 8 [vR p0, vI p1] h (zoI vo) vh := by
  refine zMet.of (by decide +kernel) (Nat.le_of_ble_eq_true rfl) ?_
  show zW G M_X1_emptyRows 8 h (zoI vo) vh 0 [(0, vR p0), (1, vI p1)] [] h
  unfold f_X1_emptyRows at H
  refine zw_aload_n (pc := 0) dX1_emptyRows_0 rfl 0 rfl ?_
  refine zw_iload_n (pc := 1) dX1_emptyRows_1 rfl 1 rfl ?_
  obtain ⟨b1, e3, H⟩ := zbind H
  obtain ⟨e2, e4⟩ := zrv_ok e3
  rcases zbind3 H with ⟨x6, h7, e5, H⟩ | ⟨q8, h9, e5, H⟩
  · refine zw_invV (pc := 2) (M' := M_X1_matrix) (A := [vI p1]) [] dX1_emptyRows_2 (Or.inl q1567) mf_X1_matrix ls_X1_matrix (zkq e4 rfl) (w_X1_matrix e5) (Nat.le_of_ble_eq_true rfl) rfl (by rw [← e2]; rfl) (Nat.le_of_ble_eq_true rfl) (zkv ?_) zkn9
    refine zw_astore_n (pc := 5) (lv' := [(2, vR x6), (0, vR p0), (1, vI p1)]) dX1_emptyRows_5 rfl (by decide) rfl ?_
    refine zw_iconst (pc := 6) (v := (0 : Int32)) dX1_emptyRows_6 (by decide) ?_
    refine zw_istore_n (pc := 7) (lv' := [(3, vI (0 : Int32)), (2, vR x6), (0, vR p0), (1, vI p1)]) dX1_emptyRows_7 rfl (by decide) rfl ?_
    refine zw_iconst (pc := 8) (v := (0 : Int32)) dX1_emptyRows_8 (by decide) ?_
    refine zw_istore (pc := 9) (lv' := [(4, vI (0 : Int32)), (3, vI (0 : Int32)), (2, vR x6), (0, vR p0), (1, vI p1)]) dX1_emptyRows_9 (by decide) rfl ?_
    refine zW_pick (lv' := [(2, vR x6), (3, vI (0 : Int32)), (4, vI (0 : Int32))]) [2, 1, 0] rfl ?_
    exact zloop_ind (body := (B_X1_emptyRows_11)) (bot := (fun _ _ _ _ => none)) (P := (fun (f : Option Nat → Int32 → Int32 → zH → Option ((Int32 ⊕ Nat) × zH)) => ∀ (b0 : Option Nat) (b1 : Int32) (b2 : Int32) (h' : zH), f b0 b1 b2 h' = some (vo, vh) → zW G M_X1_emptyRows 8 h (zoI vo) vh 11 [(2, vR b0), (3, vI b1), (4, vI b2)] [] h')) zFU (fun _ _ _ _ H => nomatch H) (fun f hf c0 c1 c2 h' H => wB_X1_emptyRows_11 hf H) _ _ _ _ H
  · refine zw_invV (pc := 2) (M' := M_X1_matrix) (A := [vI p1]) [] dX1_emptyRows_2 (Or.inl q1567) mf_X1_matrix ls_X1_matrix (zkq e4 rfl) (w_X1_matrix e5) (Nat.le_of_ble_eq_true rfl) rfl (by rw [← e2]; rfl) (Nat.le_of_ble_eq_true rfl) zkv0 (zkx ?_)
    rcases zif H with ⟨c10, H⟩ | ⟨c10, H⟩
    · have c10 := c10
      obtain ⟨rfl, rfl⟩ := Prod.mk.inj (Option.some.inj H)
      exact zx_out (zkq c10 rfl) (fun _ hz => nomatch hz) rfl rfl
    cases H
def M_X1_bandwidth : zM := (yX1_bandwidth, cX1_bandwidth, 2, (.some .int), [])
theorem mf_X1_bandwidth : zMi M_X1_bandwidth 1 := ⟨⟨q1837, q180, ⟨by decide +kernel, by decide +kernel⟩, by decide +kernel, by decide⟩, q1835⟩
def f_X1_bandwidth (p0 : Option Nat) (p1 : Int32) (h : zH) : Option ((Int32 ⊕ Nat) × zH) :=
  (zrv 1 p0 h).bind fun b1 =>
  zb3 (f_X1_matrix (some b1) p1 h) (fun x6 h7 =>
  (zrv 3 x6 h7).bind fun b10 =>
  (f_X3_bandwidth (some b10) h7).bind fun x15 =>
  some (.inl x15, h7))
  (fun q8 h9 =>
  if zk h9 q8 = 20 then
  some (.inr q8, h9)
  else none)
theorem w_X1_bandwidth {G : zG} {p0 : Option Nat} {p1 : Int32} {h : zH} {vo : Int32 ⊕ Nat} {vh : zH} (H : f_X1_bandwidth p0 p1 h = some (vo, vh)) : zMet G M_X1_bandwidth 8 [vR p0, vI p1] h (zoI vo) vh := by
  refine zMet.of (by decide +kernel) (Nat.le_of_ble_eq_true rfl) ?_
  show zW G M_X1_bandwidth 8 h (zoI vo) vh 0 [(0, vR p0), (1, vI p1)] [] h
  unfold f_X1_bandwidth at H
  refine zw_aload_n (pc := 0) dX1_bandwidth_0 rfl 0 rfl ?_
  refine zw_iload_n (pc := 1) dX1_bandwidth_1 rfl 1 rfl ?_
  obtain ⟨b1, e3, H⟩ := zbind H
  obtain ⟨e2, e4⟩ := zrv_ok e3
  rcases zbind3 H with ⟨x6, h7, e5, H⟩ | ⟨q8, h9, e5, H⟩
  · refine zw_invV (pc := 2) (M' := M_X1_matrix) (A := [vI p1]) [] dX1_bandwidth_2 (Or.inl q1567) mf_X1_matrix ls_X1_matrix (zkq e4 rfl) (w_X1_matrix e5) (Nat.le_of_ble_eq_true rfl) rfl (by rw [← e2]; rfl) (Nat.le_of_ble_eq_true rfl) (zkv ?_) zkn9
    obtain ⟨b10, e12, H⟩ := zbind H
    obtain ⟨e11, e13⟩ := zrv_ok e12
    obtain ⟨x15, e14, H⟩ := zbind H
    refine zw_invV (pc := 5) (M' := M_X3_bandwidth) (A := []) [] dX1_bandwidth_5 (Or.inl q1838) mf_X3_bandwidth q1840 (zkq e13 rfl) (w_X3_bandwidth e14) (Nat.le_of_ble_eq_true rfl) rfl (by rw [← e11]; rfl) (Nat.le_of_ble_eq_true rfl) (zkv ?_) zkn9
    obtain ⟨rfl, rfl⟩ := Prod.mk.inj (Option.some.inj H)
    exact zw_iret (pc := 8) dX1_bandwidth_8 rfl rfl rfl
  · refine zw_invV (pc := 2) (M' := M_X1_matrix) (A := [vI p1]) [] dX1_bandwidth_2 (Or.inl q1567) mf_X1_matrix ls_X1_matrix (zkq e4 rfl) (w_X1_matrix e5) (Nat.le_of_ble_eq_true rfl) rfl (by rw [← e2]; rfl) (Nat.le_of_ble_eq_true rfl) zkv0 (zkx ?_)
    rcases zif H with ⟨c16, H⟩ | ⟨c16, H⟩
    · have c16 := c16
      obtain ⟨rfl, rfl⟩ := Prod.mk.inj (Option.some.inj H)
      exact zx_out (zkq c16 rfl) (fun _ hz => nomatch hz) rfl rfl
    cases H
def M_X1_rowSum : zM := (yX1_rowSum, cX1_rowSum, 6, (.some .int), [])
theorem mf_X1_rowSum : zMi M_X1_rowSum 2 := ⟨⟨q1853, q180, ⟨by decide +kernel, by decide +kernel⟩, by decide +kernel, by decide⟩, q1851⟩
def B_X1_rowSum_18 (k18 : Int32 → Option Nat → Int32 → Int32 → zH → Option ((Int32 ⊕ Nat) × zH)) (a0 : Int32) (a1 : Option Nat) (a2 : Int32) (a3 : Int32) (h : zH) : Option ((Int32 ⊕ Nat) × zH) :=
  (zgR 3 2 a1 h).bind fun x1 =>
  (zaI 50 x1 (a0 + (1 : Int32)) h).bind fun x3 =>
  if x3 ≤ a3 then
  some (.inl a2, h)
  else
  (zgR 3 4 a1 h).bind fun x6 =>
  (zaI 50 x6 a3 h).bind fun x8 =>
  k18 a0 a1 (a2 + x8) (a3 + (1 : Int32)) h
theorem wB_X1_rowSum_18 {G : zG} {h0 h : zH} {vo : Int32 ⊕ Nat} {vh : zH} {k18 : Int32 → Option Nat → Int32 → Int32 → zH → Option ((Int32 ⊕ Nat) × zH)} (hk18 : ∀ (b0 : Int32) (b1 : Option Nat) (b2 : Int32) (b3 : Int32) (h' : zH), k18 b0 b1 b2 b3 h' = some (vo, vh) → zW G M_X1_rowSum 9 h0 (zoI vo) vh 18 [(2, vI b0), (3, vR b1), (4, vI b2), (5, vI b3)] [] h') {a0 : Int32} {a1 : Option Nat} {a2 : Int32} {a3 : Int32} (H : B_X1_rowSum_18 k18 a0 a1 a2 a3 h = some (vo, vh)) : zW G M_X1_rowSum 9 h0 (zoI vo) vh 18 [(2, vI a0), (3, vR a1), (4, vI a2), (5, vI a3)] [] h := by
  unfold B_X1_rowSum_18 at H
  refine zw_iload (pc := 18) dX1_rowSum_18 3 rfl ?_
  refine zw_aload_n (pc := 20) dX1_rowSum_20 rfl 1 rfl ?_
  obtain ⟨x1, e2, H⟩ := zbind H
  refine zy_getR (pc := 21) dX1_rowSum_21 lf_X1_225 (fun _ _ => rfl) e2 ?_
  refine zw_iload_n (pc := 24) dX1_rowSum_24 rfl 0 rfl ?_
  refine zw_iconst (pc := 25) (v := (1 : Int32)) dX1_rowSum_25 (by decide) ?_
  refine zw_iadd (pc := 26) dX1_rowSum_26 ?_
  obtain ⟨x3, e4, H⟩ := zbind H
  refine zy_iald (pc := 27) dX1_rowSum_27 e4 ?_
  rcases zif H with ⟨c5, H⟩ | ⟨c5, H⟩
  · refine zw_icmp_ge (pc := 28) (tgt := 49) dX1_rowSum_28 rfl (fun _ => ?_) (fun q => absurd c5 q)
    refine zw_iload (pc := 49) dX1_rowSum_49 2 rfl ?_
    obtain ⟨rfl, rfl⟩ := Prod.mk.inj (Option.some.inj H)
    exact zw_iret (pc := 51) dX1_rowSum_51 rfl rfl rfl
  · refine zw_icmp_ge (pc := 28) (tgt := 49) dX1_rowSum_28 rfl (fun q => absurd q c5) (fun _ => ?_)
    refine zw_iload (pc := 31) dX1_rowSum_31 2 rfl ?_
    refine zw_aload_n (pc := 33) dX1_rowSum_33 rfl 1 rfl ?_
    obtain ⟨x6, e7, H⟩ := zbind H
    refine zy_getR (pc := 34) dX1_rowSum_34 lf_X1_234 (fun _ _ => rfl) e7 ?_
    refine zw_iload (pc := 37) dX1_rowSum_37 3 rfl ?_
    obtain ⟨x8, e9, H⟩ := zbind H
    refine zy_iald (pc := 39) dX1_rowSum_39 e9 ?_
    refine zw_iadd (pc := 40) dX1_rowSum_40 ?_
    refine zw_istore (pc := 41) (lv' := [(4, vI (a2 + x8)), (2, vI a0), (3, vR a1), (5, vI a3)]) dX1_rowSum_41 (by decide) rfl ?_
    refine zw_iinc (pc := 43) (v := (a3 + (1 : Int32))) (lv' := [(5, vI (a3 + (1 : Int32))), (4, vI (a2 + x8)), (2, vI a0), (3, vR a1)]) dX1_rowSum_43 3 rfl rfl (by decide) rfl ?_
    refine zw_goto (pc := 46) (tgt := 18) dX1_rowSum_46 rfl ?_
    refine zW_pick (lv' := [(2, vI a0), (3, vR a1), (4, vI (a2 + x8)), (5, vI (a3 + (1 : Int32)))]) [2, 3, 1, 0] rfl ?_
    exact hk18 _ _ _ _ _ H
def f_X1_rowSum (p0 : Option Nat) (p1 : Int32) (p2 : Int32) (h : zH) : Option ((Int32 ⊕ Nat) × zH) :=
  (zrv 1 p0 h).bind fun b1 =>
  zb3 (f_X1_matrixWithRow (some b1) p1 p2 h) (fun x6 h7 =>
  (zgR 3 2 x6 h7).bind fun x10 =>
  (zaI 50 x10 p2 h7).bind fun x12 =>
  zloop (B_X1_rowSum_18) (fun _ _ _ _ _ => none) zFU p2 x6 (0 : Int32) x12 h7)
  (fun q8 h9 =>
  if zk h9 q8 = 20 then
  some (.inr q8, h9)
  else none)
theorem w_X1_rowSum {G : zG} {p0 : Option Nat} {p1 : Int32} {p2 : Int32} {h : zH} {vo : Int32 ⊕ Nat} {vh : zH} (H : f_X1_rowSum p0 p1 p2 h = some (vo, vh)) : zMet G M_X1_rowSum 9 [vR p0, vI p1, vI p2] h (zoI vo) vh := by
  refine zMet.of (by decide +kernel) (Nat.le_of_ble_eq_true rfl) ?_
  show zW G M_X1_rowSum 9 h (zoI vo) vh 0 [(0, vR p0), (1, vI p1), (2, vI p2)] [] h
  unfold f_X1_rowSum at H
  refine zw_aload_n (pc := 0) dX1_rowSum_0 rfl 0 rfl ?_
  refine zw_iload_n (pc := 1) dX1_rowSum_1 rfl 1 rfl ?_
  refine zw_iload_n (pc := 2) dX1_rowSum_2 rfl 2 rfl ?_
  obtain ⟨b1, e3, H⟩ := zbind H
  obtain ⟨e2, e4⟩ := zrv_ok e3
  rcases zbind3 H with ⟨x6, h7, e5, H⟩ | ⟨q8, h9, e5, H⟩
  · refine zw_invV (pc := 3) (M' := M_X1_matrixWithRow) (A := [vI p1, vI p2]) [] dX1_rowSum_3 (Or.inl q1601) mf_X1_matrixWithRow ls_X1_matrixWithRow (zkq e4 rfl) (w_X1_matrixWithRow e5) (Nat.le_of_ble_eq_true rfl) rfl (by rw [← e2]; rfl) (Nat.le_of_ble_eq_true rfl) (zkv ?_) zkn9
    refine zw_astore_n (pc := 6) (lv' := [(3, vR x6), (0, vR p0), (1, vI p1), (2, vI p2)]) dX1_rowSum_6 rfl (by decide) rfl ?_
    refine zw_iconst (pc := 7) (v := (0 : Int32)) dX1_rowSum_7 (by decide) ?_
    refine zw_istore (pc := 8) (lv' := [(4, vI (0 : Int32)), (3, vR x6), (0, vR p0), (1, vI p1), (2, vI p2)]) dX1_rowSum_8 (by decide) rfl ?_
    refine zw_aload_n (pc := 10) dX1_rowSum_10 rfl 1 rfl ?_
    obtain ⟨x10, e11, H⟩ := zbind H
    refine zy_getR (pc := 11) dX1_rowSum_11 lf_X1_225 (fun _ _ => rfl) e11 ?_
    refine zw_iload_n (pc := 14) dX1_rowSum_14 rfl 4 rfl ?_
    obtain ⟨x12, e13, H⟩ := zbind H
    refine zy_iald (pc := 15) dX1_rowSum_15 e13 ?_
    refine zw_istore (pc := 16) (lv' := [(5, vI x12), (4, vI (0 : Int32)), (3, vR x6), (0, vR p0), (1, vI p1), (2, vI p2)]) dX1_rowSum_16 (by decide) rfl ?_
    refine zW_pick (lv' := [(2, vI p2), (3, vR x6), (4, vI (0 : Int32)), (5, vI x12)]) [5, 2, 1, 0] rfl ?_
    exact zloop_ind (body := (B_X1_rowSum_18)) (bot := (fun _ _ _ _ _ => none)) (P := (fun (f : Int32 → Option Nat → Int32 → Int32 → zH → Option ((Int32 ⊕ Nat) × zH)) => ∀ (b0 : Int32) (b1 : Option Nat) (b2 : Int32) (b3 : Int32) (h' : zH), f b0 b1 b2 b3 h' = some (vo, vh) → zW G M_X1_rowSum 9 h (zoI vo) vh 18 [(2, vI b0), (3, vR b1), (4, vI b2), (5, vI b3)] [] h')) zFU (fun _ _ _ _ _ H => nomatch H) (fun f hf c0 c1 c2 c3 h' H => wB_X1_rowSum_18 hf H) _ _ _ _ _ H
  · refine zw_invV (pc := 3) (M' := M_X1_matrixWithRow) (A := [vI p1, vI p2]) [] dX1_rowSum_3 (Or.inl q1601) mf_X1_matrixWithRow ls_X1_matrixWithRow (zkq e4 rfl) (w_X1_matrixWithRow e5) (Nat.le_of_ble_eq_true rfl) rfl (by rw [← e2]; rfl) (Nat.le_of_ble_eq_true rfl) zkv0 (zkx ?_)
    rcases zif H with ⟨c14, H⟩ | ⟨c14, H⟩
    · have c14 := c14
      obtain ⟨rfl, rfl⟩ := Prod.mk.inj (Option.some.inj H)
      exact zx_out (zkq c14 rfl) (fun _ hz => nomatch hz) rfl rfl
    cases H
def M_X1_largestMagnitude : zM := (yX1_largestMagnitude, cX1_largestMagnitude, 7, (.some .int), [])
theorem mf_X1_largestMagnitude : zMi M_X1_largestMagnitude 1 := ⟨⟨q1860, q180, ⟨by decide +kernel, by decide +kernel⟩, by decide +kernel, by decide⟩, q1858⟩
def B_X1_largestMagnitude_18 (k18 : Int32 → Option Nat → Int32 → Int32 → zH → Option ((Int32 ⊕ Nat) × zH)) (a0 : Int32) (a1 : Option Nat) (a2 : Int32) (a3 : Int32) (h : zH) : Option ((Int32 ⊕ Nat) × zH) :=
  if a2 ≤ a3 then
  some (.inl a0, h)
  else
  (zaI 50 a1 a3 h).bind fun x2 =>
  (f_J12_abs x2 h).bind fun x5 =>
  (f_J12_max a0 x5 h).bind fun x7 =>
  k18 x7 a1 a2 (a3 + (1 : Int32)) h
theorem wB_X1_largestMagnitude_18 {G : zG} {h0 h : zH} {vo : Int32 ⊕ Nat} {vh : zH} {k18 : Int32 → Option Nat → Int32 → Int32 → zH → Option ((Int32 ⊕ Nat) × zH)} (hk18 : ∀ (b0 : Int32) (b1 : Option Nat) (b2 : Int32) (b3 : Int32) (h' : zH), k18 b0 b1 b2 b3 h' = some (vo, vh) → zW G M_X1_largestMagnitude 8 h0 (zoI vo) vh 18 [(2, vI b0), (3, vR b1), (4, vI b2), (5, vI b3)] [] h') {a0 : Int32} {a1 : Option Nat} {a2 : Int32} {a3 : Int32} (H : B_X1_largestMagnitude_18 k18 a0 a1 a2 a3 h = some (vo, vh)) : zW G M_X1_largestMagnitude 8 h0 (zoI vo) vh 18 [(2, vI a0), (3, vR a1), (4, vI a2), (5, vI a3)] [] h := by
  unfold B_X1_largestMagnitude_18 at H
  refine zw_iload (pc := 18) dX1_largestMagnitude_18 3 rfl ?_
  refine zw_iload (pc := 20) dX1_largestMagnitude_20 2 rfl ?_
  rcases zif H with ⟨c1, H⟩ | ⟨c1, H⟩
  · refine zw_icmp_ge (pc := 22) (tgt := 47) dX1_largestMagnitude_22 rfl (fun _ => ?_) (fun q => absurd c1 q)
    refine zw_iload_n (pc := 47) dX1_largestMagnitude_47 rfl 0 rfl ?_
    obtain ⟨rfl, rfl⟩ := Prod.mk.inj (Option.some.inj H)
    exact zw_iret (pc := 48) dX1_largestMagnitude_48 rfl rfl rfl
  · refine zw_icmp_ge (pc := 22) (tgt := 47) dX1_largestMagnitude_22 rfl (fun q => absurd q c1) (fun _ => ?_)
    refine zw_aload_n (pc := 25) dX1_largestMagnitude_25 rfl 1 rfl ?_
    refine zw_iload (pc := 26) dX1_largestMagnitude_26 3 rfl ?_
    obtain ⟨x2, e3, H⟩ := zbind H
    refine zy_iald (pc := 28) dX1_largestMagnitude_28 e3 ?_
    refine zw_istore (pc := 29) (lv' := [(6, vI x2), (2, vI a0), (3, vR a1), (4, vI a2), (5, vI a3)]) dX1_largestMagnitude_29 (by decide) rfl ?_
    refine zw_iload_n (pc := 31) dX1_largestMagnitude_31 rfl 1 rfl ?_
    refine zw_iload (pc := 32) dX1_largestMagnitude_32 0 rfl ?_
    obtain ⟨x5, e4, H⟩ := zbind H
    refine zw_invS (pc := 34) (M' := M_J12_abs) (A := [vI x2]) [vI a0] dX1_largestMagnitude_34 (Or.inl q1861) mf_J12_abs (w_J12_abs e4) (Nat.le_of_ble_eq_true rfl) rfl rfl (Nat.le_of_ble_eq_true rfl) (zkv ?_) zkn9
    obtain ⟨x7, e6, H⟩ := zbind H
    refine zw_invS (pc := 37) (M' := M_J12_max) (A := [vI a0, vI x5]) [] dX1_largestMagnitude_37 (Or.inl q1862) mf_J12_max (w_J12_max e6) (Nat.le_of_ble_eq_true rfl) rfl rfl (Nat.le_of_ble_eq_true rfl) (zkv ?_) zkn9
    refine zw_istore_n (pc := 40) (lv' := [(2, vI x7), (6, vI x2), (3, vR a1), (4, vI a2), (5, vI a3)]) dX1_largestMagnitude_40 rfl (by decide) rfl ?_
    refine zw_iinc (pc := 41) (v := (a3 + (1 : Int32))) (lv' := [(5, vI (a3 + (1 : Int32))), (2, vI x7), (6, vI x2), (3, vR a1), (4, vI a2)]) dX1_largestMagnitude_41 4 rfl rfl (by decide) rfl ?_
    refine zw_goto (pc := 44) (tgt := 18) dX1_largestMagnitude_44 rfl ?_
    refine zW_pick (lv' := [(2, vI x7), (3, vR a1), (4, vI a2), (5, vI (a3 + (1 : Int32)))]) [1, 3, 4, 0] rfl ?_
    exact hk18 _ _ _ _ _ H
def f_X1_largestMagnitude (p0 : Option Nat) (p1 : Int32) (h : zH) : Option ((Int32 ⊕ Nat) × zH) :=
  (zrv 1 p0 h).bind fun b1 =>
  zb3 (f_X1_matrix (some b1) p1 h) (fun x6 h7 =>
  (zgR 3 4 x6 h7).bind fun x10 =>
  (zaN x10 h7).bind fun x12 =>
  zloop (B_X1_largestMagnitude_18) (fun _ _ _ _ _ => none) zFU (0 : Int32) x10 x12 (0 : Int32) h7)
  (fun q8 h9 =>
  if zk h9 q8 = 20 then
  some (.inr q8, h9)
  else none)
theorem w_X1_largestMagnitude {G : zG} {p0 : Option Nat} {p1 : Int32} {h : zH} {vo : Int32 ⊕ Nat} {vh : zH} (H : f_X1_largestMagnitude p0 p1 h = some (vo, vh)) : zMet G M_X1_largestMagnitude 8 [vR p0, vI p1] h (zoI vo) vh := by
  refine zMet.of (by decide +kernel) (Nat.le_of_ble_eq_true rfl) ?_
  show zW G M_X1_largestMagnitude 8 h (zoI vo) vh 0 [(0, vR p0), (1, vI p1)] [] h
  unfold f_X1_largestMagnitude at H
  refine zw_iconst (pc := 0) (v := (0 : Int32)) dX1_largestMagnitude_0 (by decide) ?_
  refine zw_istore_n (pc := 1) (lv' := [(2, vI (0 : Int32)), (0, vR p0), (1, vI p1)]) dX1_largestMagnitude_1 rfl (by decide) rfl ?_
  refine zw_aload_n (pc := 2) dX1_largestMagnitude_2 rfl 1 rfl ?_
  refine zw_iload_n (pc := 3) dX1_largestMagnitude_3 rfl 2 rfl ?_
  obtain ⟨b1, e3, H⟩ := zbind H
  obtain ⟨e2, e4⟩ := zrv_ok e3
  rcases zbind3 H with ⟨x6, h7, e5, H⟩ | ⟨q8, h9, e5, H⟩
  · refine zw_invV (pc := 4) (M' := M_X1_matrix) (A := [vI p1]) [] dX1_largestMagnitude_4 (Or.inl q1567) mf_X1_matrix ls_X1_matrix (zkq e4 rfl) (w_X1_matrix e5) (Nat.le_of_ble_eq_true rfl) rfl (by rw [← e2]; rfl) (Nat.le_of_ble_eq_true rfl) (zkv ?_) zkn9
    obtain ⟨x10, e11, H⟩ := zbind H
    refine zy_getR (pc := 7) dX1_largestMagnitude_7 lf_X1_234 (fun _ _ => rfl) e11 ?_
    refine zw_astore_n (pc := 10) (lv' := [(3, vR x10), (2, vI (0 : Int32)), (0, vR p0), (1, vI p1)]) dX1_largestMagnitude_10 rfl (by decide) rfl ?_
    refine zw_aload_n (pc := 11) dX1_largestMagnitude_11 rfl 0 rfl ?_
    obtain ⟨x12, e13, H⟩ := zbind H
    refine zy_alen (pc := 12) dX1_largestMagnitude_12 e13 ?_
    refine zw_istore (pc := 13) (lv' := [(4, vI x12), (3, vR x10), (2, vI (0 : Int32)), (0, vR p0), (1, vI p1)]) dX1_largestMagnitude_13 (by decide) rfl ?_
    refine zw_iconst (pc := 15) (v := (0 : Int32)) dX1_largestMagnitude_15 (by decide) ?_
    refine zw_istore (pc := 16) (lv' := [(5, vI (0 : Int32)), (4, vI x12), (3, vR x10), (2, vI (0 : Int32)), (0, vR p0), (1, vI p1)]) dX1_largestMagnitude_16 (by decide) rfl ?_
    refine zW_pick (lv' := [(2, vI (0 : Int32)), (3, vR x10), (4, vI x12), (5, vI (0 : Int32))]) [3, 2, 1, 0] rfl ?_
    exact zloop_ind (body := (B_X1_largestMagnitude_18)) (bot := (fun _ _ _ _ _ => none)) (P := (fun (f : Int32 → Option Nat → Int32 → Int32 → zH → Option ((Int32 ⊕ Nat) × zH)) => ∀ (b0 : Int32) (b1 : Option Nat) (b2 : Int32) (b3 : Int32) (h' : zH), f b0 b1 b2 b3 h' = some (vo, vh) → zW G M_X1_largestMagnitude 8 h (zoI vo) vh 18 [(2, vI b0), (3, vR b1), (4, vI b2), (5, vI b3)] [] h')) zFU (fun _ _ _ _ _ H => nomatch H) (fun f hf c0 c1 c2 c3 h' H => wB_X1_largestMagnitude_18 hf H) _ _ _ _ _ H
  · refine zw_invV (pc := 4) (M' := M_X1_matrix) (A := [vI p1]) [] dX1_largestMagnitude_4 (Or.inl q1567) mf_X1_matrix ls_X1_matrix (zkq e4 rfl) (w_X1_matrix e5) (Nat.le_of_ble_eq_true rfl) rfl (by rw [← e2]; rfl) (Nat.le_of_ble_eq_true rfl) zkv0 (zkx ?_)
    rcases zif H with ⟨c14, H⟩ | ⟨c14, H⟩
    · have c14 := c14
      obtain ⟨rfl, rfl⟩ := Prod.mk.inj (Option.some.inj H)
      exact zx_out (zkq c14 rfl) (fun _ hz => nomatch hz) rfl rfl
    cases H
def M_X1_trace : zM := (yX1_trace, cX1_trace, 5, (.some .int), [])
theorem mf_X1_trace : zMi M_X1_trace 1 := ⟨⟨q1869, q180, ⟨by decide +kernel, by decide +kernel⟩, by decide +kernel, by decide⟩, q1867⟩
def B_X1_trace_30 (k30 : Option Nat → Int32 → Int32 → zH → Option ((Int32 ⊕ Nat) × zH)) (a0 : Option Nat) (a1 : Int32) (a2 : Int32) (h : zH) : Option ((Int32 ⊕ Nat) × zH) :=
  (zgI 3 0 a0 h).bind fun x1 =>
  if x1 ≤ a2 then
  some (.inl a1, h)
  else
  (zrv 3 a0 h).bind fun b4 =>
  (f_X3_value (some b4) a2 a2 h).bind fun x9 =>
  k30 a0 (a1 + x9) (a2 + (1 : Int32)) h
theorem wB_X1_trace_30 {G : zG} {h0 h : zH} {vo : Int32 ⊕ Nat} {vh : zH} {k30 : Option Nat → Int32 → Int32 → zH → Option ((Int32 ⊕ Nat) × zH)} (hk30 : ∀ (b0 : Option Nat) (b1 : Int32) (b2 : Int32) (h' : zH), k30 b0 b1 b2 h' = some (vo, vh) → zW G M_X1_trace 8 h0 (zoI vo) vh 30 [(2, vR b0), (3, vI b1), (4, vI b2)] [] h') {a0 : Option Nat} {a1 : Int32} {a2 : Int32} (H : B_X1_trace_30 k30 a0 a1 a2 h = some (vo, vh)) : zW G M_X1_trace 8 h0 (zoI vo) vh 30 [(2, vR a0), (3, vI a1), (4, vI a2)] [] h := by
  unfold B_X1_trace_30 at H
  refine zw_iload (pc := 30) dX1_trace_30 2 rfl ?_
  refine zw_aload_n (pc := 32) dX1_trace_32 rfl 0 rfl ?_
  obtain ⟨x1, e2, H⟩ := zbind H
  refine zy_getI (pc := 33) dX1_trace_33 lf_X1_158 (fun _ _ => rfl) e2 ?_
  rcases zif H with ⟨c3, H⟩ | ⟨c3, H⟩
  · refine zw_icmp_ge (pc := 36) (tgt := 56) dX1_trace_36 rfl (fun _ => ?_) (fun q => absurd c3 q)
    refine zw_iload_n (pc := 56) dX1_trace_56 rfl 1 rfl ?_
    obtain ⟨rfl, rfl⟩ := Prod.mk.inj (Option.some.inj H)
    exact zw_iret (pc := 57) dX1_trace_57 rfl rfl rfl
  · refine zw_icmp_ge (pc := 36) (tgt := 56) dX1_trace_36 rfl (fun q => absurd q c3) (fun _ => ?_)
    refine zw_iload_n (pc := 39) dX1_trace_39 rfl 1 rfl ?_
    refine zw_aload_n (pc := 40) dX1_trace_40 rfl 0 rfl ?_
    refine zw_iload (pc := 41) dX1_trace_41 2 rfl ?_
    refine zw_iload (pc := 43) dX1_trace_43 2 rfl ?_
    obtain ⟨b4, e6, H⟩ := zbind H
    obtain ⟨e5, e7⟩ := zrv_ok e6
    obtain ⟨x9, e8, H⟩ := zbind H
    refine zw_invV (pc := 45) (M' := M_X3_value) (A := [vI a2, vI a2]) [vI a1] dX1_trace_45 (Or.inl q1648) mf_X3_value q410 (zkq e7 rfl) (w_X3_value e8) (Nat.le_of_ble_eq_true rfl) rfl (by rw [← e5]; rfl) (Nat.le_of_ble_eq_true rfl) (zkv ?_) zkn9
    refine zw_iadd (pc := 48) dX1_trace_48 ?_
    refine zw_istore_n (pc := 49) (lv' := [(3, vI (a1 + x9)), (2, vR a0), (4, vI a2)]) dX1_trace_49 rfl (by decide) rfl ?_
    refine zw_iinc (pc := 50) (v := (a2 + (1 : Int32))) (lv' := [(4, vI (a2 + (1 : Int32))), (3, vI (a1 + x9)), (2, vR a0)]) dX1_trace_50 2 rfl rfl (by decide) rfl ?_
    refine zw_goto (pc := 53) (tgt := 30) dX1_trace_53 rfl ?_
    refine zW_pick (lv' := [(2, vR a0), (3, vI (a1 + x9)), (4, vI (a2 + (1 : Int32)))]) [2, 1, 0] rfl ?_
    exact hk30 _ _ _ _ H
def f_X1_trace (p0 : Option Nat) (p1 : Int32) (h : zH) : Option ((Int32 ⊕ Nat) × zH) :=
  (zrv 1 p0 h).bind fun b1 =>
  zb3 (f_X1_matrix (some b1) p1 h) (fun x6 h7 =>
  (zgI 3 0 x6 h7).bind fun x10 =>
  (zgI 3 1 x6 h7).bind fun x12 =>
  if x10 = x12 then
  zb3 (f_X1_may (1 : Int32) h7) (fun _ h23 =>
  zloop (B_X1_trace_30) (fun _ _ _ _ => none) zFU x6 (0 : Int32) (0 : Int32) h23)
  (fun q24 h25 =>
  if zk h25 q24 = 22 then
  some (.inr q24, h25)
  else none)
  else
  zb3 (f_X1_may (0 : Int32) h7) (fun _ h17 =>
  zloop (B_X1_trace_30) (fun _ _ _ _ => none) zFU x6 (0 : Int32) (0 : Int32) h17)
  (fun q18 h19 =>
  if zk h19 q18 = 22 then
  some (.inr q18, h19)
  else none))
  (fun q8 h9 =>
  if zk h9 q8 = 20 then
  some (.inr q8, h9)
  else none)
theorem w_X1_trace {G : zG} {p0 : Option Nat} {p1 : Int32} {h : zH} {vo : Int32 ⊕ Nat} {vh : zH} (H : f_X1_trace p0 p1 h = some (vo, vh)) : zMet G M_X1_trace 8 [vR p0, vI p1] h (zoI vo) vh := by
  refine zMet.of (by decide +kernel) (Nat.le_of_ble_eq_true rfl) ?_
  show zW G M_X1_trace 8 h (zoI vo) vh 0 [(0, vR p0), (1, vI p1)] [] h
  unfold f_X1_trace at H
  refine zw_aload_n (pc := 0) dX1_trace_0 rfl 0 rfl ?_
  refine zw_iload_n (pc := 1) dX1_trace_1 rfl 1 rfl ?_
  obtain ⟨b1, e3, H⟩ := zbind H
  obtain ⟨e2, e4⟩ := zrv_ok e3
  rcases zbind3 H with ⟨x6, h7, e5, H⟩ | ⟨q8, h9, e5, H⟩
  · refine zw_invV (pc := 2) (M' := M_X1_matrix) (A := [vI p1]) [] dX1_trace_2 (Or.inl q1567) mf_X1_matrix ls_X1_matrix (zkq e4 rfl) (w_X1_matrix e5) (Nat.le_of_ble_eq_true rfl) rfl (by rw [← e2]; rfl) (Nat.le_of_ble_eq_true rfl) (zkv ?_) zkn9
    refine zw_astore_n (pc := 5) (lv' := [(2, vR x6), (0, vR p0), (1, vI p1)]) dX1_trace_5 rfl (by decide) rfl ?_
    refine zw_aload_n (pc := 6) dX1_trace_6 rfl 0 rfl ?_
    obtain ⟨x10, e11, H⟩ := zbind H
    refine zy_getI (pc := 7) dX1_trace_7 lf_X1_158 (fun _ _ => rfl) e11 ?_
    refine zw_aload_n (pc := 10) dX1_trace_10 rfl 0 rfl ?_
    obtain ⟨x12, e13, H⟩ := zbind H
    refine zy_getI (pc := 11) dX1_trace_11 lf_X1_167 (fun _ _ => rfl) e13 ?_
    rcases zif H with ⟨c14, H⟩ | ⟨c14, H⟩
    · refine zw_icmp_ne (pc := 14) (tgt := 21) dX1_trace_14 rfl (fun q => absurd c14 q) (fun _ => ?_)
      refine zw_iconst (pc := 17) (v := (1 : Int32)) dX1_trace_17 (by decide) ?_
      refine zw_goto (pc := 18) (tgt := 22) dX1_trace_18 rfl ?_
      rcases zbind3 H with ⟨x22, h23, e21, H⟩ | ⟨q24, h25, e21, H⟩
      · refine zw_invS (pc := 22) (M' := M_X1_may) (A := [vI (1 : Int32)]) [] dX1_trace_22 (Or.inl q565) mf_X1_may (w_X1_may e21) (Nat.le_of_ble_eq_true rfl) rfl rfl (Nat.le_of_ble_eq_true rfl) (zku ?_) zkn9
        refine zw_iconst (pc := 25) (v := (0 : Int32)) dX1_trace_25 (by decide) ?_
        refine zw_istore_n (pc := 26) (lv' := [(3, vI (0 : Int32)), (2, vR x6), (0, vR p0), (1, vI p1)]) dX1_trace_26 rfl (by decide) rfl ?_
        refine zw_iconst (pc := 27) (v := (0 : Int32)) dX1_trace_27 (by decide) ?_
        refine zw_istore (pc := 28) (lv' := [(4, vI (0 : Int32)), (3, vI (0 : Int32)), (2, vR x6), (0, vR p0), (1, vI p1)]) dX1_trace_28 (by decide) rfl ?_
        refine zW_pick (lv' := [(2, vR x6), (3, vI (0 : Int32)), (4, vI (0 : Int32))]) [2, 1, 0] rfl ?_
        exact zloop_ind (body := (B_X1_trace_30)) (bot := (fun _ _ _ _ => none)) (P := (fun (f : Option Nat → Int32 → Int32 → zH → Option ((Int32 ⊕ Nat) × zH)) => ∀ (b0 : Option Nat) (b1 : Int32) (b2 : Int32) (h' : zH), f b0 b1 b2 h' = some (vo, vh) → zW G M_X1_trace 8 h (zoI vo) vh 30 [(2, vR b0), (3, vI b1), (4, vI b2)] [] h')) zFU (fun _ _ _ _ H => nomatch H) (fun f hf c0 c1 c2 h' H => wB_X1_trace_30 hf H) _ _ _ _ H
      · refine zw_invS (pc := 22) (M' := M_X1_may) (A := [vI (1 : Int32)]) [] dX1_trace_22 (Or.inl q565) mf_X1_may (w_X1_may e21) (Nat.le_of_ble_eq_true rfl) rfl rfl (Nat.le_of_ble_eq_true rfl) zkv0 (zkx ?_)
        rcases zif H with ⟨c26, H⟩ | ⟨c26, H⟩
        · have c26 := c26
          obtain ⟨rfl, rfl⟩ := Prod.mk.inj (Option.some.inj H)
          exact zx_out (zkq c26 rfl) (fun _ hz => nomatch hz) rfl rfl
        cases H
    · refine zw_icmp_ne (pc := 14) (tgt := 21) dX1_trace_14 rfl (fun _ => ?_) (fun q => absurd q c14)
      refine zw_iconst (pc := 21) (v := (0 : Int32)) dX1_trace_21 (by decide) ?_
      rcases zbind3 H with ⟨x16, h17, e15, H⟩ | ⟨q18, h19, e15, H⟩
      · refine zw_invS (pc := 22) (M' := M_X1_may) (A := [vI (0 : Int32)]) [] dX1_trace_22 (Or.inl q565) mf_X1_may (w_X1_may e15) (Nat.le_of_ble_eq_true rfl) rfl rfl (Nat.le_of_ble_eq_true rfl) (zku ?_) zkn9
        refine zw_iconst (pc := 25) (v := (0 : Int32)) dX1_trace_25 (by decide) ?_
        refine zw_istore_n (pc := 26) (lv' := [(3, vI (0 : Int32)), (2, vR x6), (0, vR p0), (1, vI p1)]) dX1_trace_26 rfl (by decide) rfl ?_
        refine zw_iconst (pc := 27) (v := (0 : Int32)) dX1_trace_27 (by decide) ?_
        refine zw_istore (pc := 28) (lv' := [(4, vI (0 : Int32)), (3, vI (0 : Int32)), (2, vR x6), (0, vR p0), (1, vI p1)]) dX1_trace_28 (by decide) rfl ?_
        refine zW_pick (lv' := [(2, vR x6), (3, vI (0 : Int32)), (4, vI (0 : Int32))]) [2, 1, 0] rfl ?_
        exact zloop_ind (body := (B_X1_trace_30)) (bot := (fun _ _ _ _ => none)) (P := (fun (f : Option Nat → Int32 → Int32 → zH → Option ((Int32 ⊕ Nat) × zH)) => ∀ (b0 : Option Nat) (b1 : Int32) (b2 : Int32) (h' : zH), f b0 b1 b2 h' = some (vo, vh) → zW G M_X1_trace 8 h (zoI vo) vh 30 [(2, vR b0), (3, vI b1), (4, vI b2)] [] h')) zFU (fun _ _ _ _ H => nomatch H) (fun f hf c0 c1 c2 h' H => wB_X1_trace_30 hf H) _ _ _ _ H
      · refine zw_invS (pc := 22) (M' := M_X1_may) (A := [vI (0 : Int32)]) [] dX1_trace_22 (Or.inl q565) mf_X1_may (w_X1_may e15) (Nat.le_of_ble_eq_true rfl) rfl rfl (Nat.le_of_ble_eq_true rfl) zkv0 (zkx ?_)
        rcases zif H with ⟨c20, H⟩ | ⟨c20, H⟩
        · have c20 := c20
          obtain ⟨rfl, rfl⟩ := Prod.mk.inj (Option.some.inj H)
          exact zx_out (zkq c20 rfl) (fun _ hz => nomatch hz) rfl rfl
        cases H
  · refine zw_invV (pc := 2) (M' := M_X1_matrix) (A := [vI p1]) [] dX1_trace_2 (Or.inl q1567) mf_X1_matrix ls_X1_matrix (zkq e4 rfl) (w_X1_matrix e5) (Nat.le_of_ble_eq_true rfl) rfl (by rw [← e2]; rfl) (Nat.le_of_ble_eq_true rfl) zkv0 (zkx ?_)
    rcases zif H with ⟨c27, H⟩ | ⟨c27, H⟩
    · have c27 := c27
      obtain ⟨rfl, rfl⟩ := Prod.mk.inj (Option.some.inj H)
      exact zx_out (zkq c27 rfl) (fun _ hz => nomatch hz) rfl rfl
    cases H
def M_X1_isSymmetric : zM := (yX1_isSymmetric, cX1_isSymmetric, 6, (.some .boolean), [])
theorem mf_X1_isSymmetric : zMi M_X1_isSymmetric 1 := ⟨⟨q1876, q180, ⟨by decide +kernel, by decide +kernel⟩, by decide +kernel, by decide⟩, q1874⟩
def B_X1_isSymmetric_42 (k26 : Option Nat → Int32 → Int32 → zH → Option ((Int32 ⊕ Nat) × zH)) (k42 : Option Nat → Int32 → Int32 → Int32 → zH → Option ((Int32 ⊕ Nat) × zH)) (a0 : Option Nat) (a1 : Int32) (a2 : Int32) (a3 : Int32) (h : zH) : Option ((Int32 ⊕ Nat) × zH) :=
  if a2 ≤ a3 then
  k26 a0 a1 (a2 + (1 : Int32)) h
  else
  if a1 = 0 then
  k26 a0 a1 (a2 + (1 : Int32)) h
  else
  (zrv 3 a0 h).bind fun b3 =>
  (f_X3_value (some b3) a2 a3 h).bind fun x8 =>
  (zrv 3 a0 h).bind fun b9 =>
  (f_X3_value (some b9) a3 a2 h).bind fun x14 =>
  if x8 = x14 then
  k42 a0 (1 : Int32) a2 (a3 + (1 : Int32)) h
  else
  k42 a0 (0 : Int32) a2 (a3 + (1 : Int32)) h
theorem wB_X1_isSymmetric_42 {G : zG} {h0 h : zH} {vo : Int32 ⊕ Nat} {vh : zH} {k26 : Option Nat → Int32 → Int32 → zH → Option ((Int32 ⊕ Nat) × zH)} (hk26 : ∀ (b0 : Option Nat) (b1 : Int32) (b2 : Int32) (h' : zH), k26 b0 b1 b2 h' = some (vo, vh) → zW G M_X1_isSymmetric 8 h0 (zoI vo) vh 26 [(2, vR b0), (3, vI b1), (4, vI b2)] [] h') {k42 : Option Nat → Int32 → Int32 → Int32 → zH → Option ((Int32 ⊕ Nat) × zH)} (hk42 : ∀ (b0 : Option Nat) (b1 : Int32) (b2 : Int32) (b3 : Int32) (h' : zH), k42 b0 b1 b2 b3 h' = some (vo, vh) → zW G M_X1_isSymmetric 8 h0 (zoI vo) vh 42 [(2, vR b0), (3, vI b1), (4, vI b2), (5, vI b3)] [] h') {a0 : Option Nat} {a1 : Int32} {a2 : Int32} {a3 : Int32} (H : B_X1_isSymmetric_42 k26 k42 a0 a1 a2 a3 h = some (vo, vh)) : zW G M_X1_isSymmetric 8 h0 (zoI vo) vh 42 [(2, vR a0), (3, vI a1), (4, vI a2), (5, vI a3)] [] h := by
  unfold B_X1_isSymmetric_42 at H
  refine zw_iload (pc := 42) dX1_isSymmetric_42 3 rfl ?_
  refine zw_iload (pc := 44) dX1_isSymmetric_44 2 rfl ?_
  rcases zif H with ⟨c1, H⟩ | ⟨c1, H⟩
  · refine zw_icmp_ge (pc := 46) (tgt := 84) dX1_isSymmetric_46 rfl (fun _ => ?_) (fun q => absurd c1 q)
    refine zw_iinc (pc := 84) (v := (a2 + (1 : Int32))) (lv' := [(4, vI (a2 + (1 : Int32))), (2, vR a0), (3, vI a1), (5, vI a3)]) dX1_isSymmetric_84 2 rfl rfl (by decide) rfl ?_
    refine zw_goto (pc := 87) (tgt := 26) dX1_isSymmetric_87 rfl ?_
    refine zW_pick (lv' := [(2, vR a0), (3, vI a1), (4, vI (a2 + (1 : Int32)))]) [1, 2, 0] rfl ?_
    exact hk26 _ _ _ _ H
  · refine zw_icmp_ge (pc := 46) (tgt := 84) dX1_isSymmetric_46 rfl (fun q => absurd q c1) (fun _ => ?_)
    refine zw_iload_n (pc := 49) dX1_isSymmetric_49 rfl 1 rfl ?_
    rcases zif H with ⟨c2, H⟩ | ⟨c2, H⟩
    · refine zw_if_eq (pc := 50) (tgt := 84) dX1_isSymmetric_50 rfl (fun _ => ?_) (fun q => absurd c2 q)
      refine zw_iinc (pc := 84) (v := (a2 + (1 : Int32))) (lv' := [(4, vI (a2 + (1 : Int32))), (2, vR a0), (3, vI a1), (5, vI a3)]) dX1_isSymmetric_84 2 rfl rfl (by decide) rfl ?_
      refine zw_goto (pc := 87) (tgt := 26) dX1_isSymmetric_87 rfl ?_
      refine zW_pick (lv' := [(2, vR a0), (3, vI a1), (4, vI (a2 + (1 : Int32)))]) [1, 2, 0] rfl ?_
      exact hk26 _ _ _ _ H
    · refine zw_if_eq (pc := 50) (tgt := 84) dX1_isSymmetric_50 rfl (fun q => absurd q c2) (fun _ => ?_)
      refine zw_aload_n (pc := 53) dX1_isSymmetric_53 rfl 0 rfl ?_
      refine zw_iload (pc := 54) dX1_isSymmetric_54 2 rfl ?_
      refine zw_iload (pc := 56) dX1_isSymmetric_56 3 rfl ?_
      obtain ⟨b3, e5, H⟩ := zbind H
      obtain ⟨e4, e6⟩ := zrv_ok e5
      obtain ⟨x8, e7, H⟩ := zbind H
      refine zw_invV (pc := 58) (M' := M_X3_value) (A := [vI a2, vI a3]) [] dX1_isSymmetric_58 (Or.inl q1648) mf_X3_value q410 (zkq e6 rfl) (w_X3_value e7) (Nat.le_of_ble_eq_true rfl) rfl (by rw [← e4]; rfl) (Nat.le_of_ble_eq_true rfl) (zkv ?_) zkn9
      refine zw_aload_n (pc := 61) dX1_isSymmetric_61 rfl 0 rfl ?_
      refine zw_iload (pc := 62) dX1_isSymmetric_62 3 rfl ?_
      refine zw_iload (pc := 64) dX1_isSymmetric_64 2 rfl ?_
      obtain ⟨b9, e11, H⟩ := zbind H
      obtain ⟨e10, e12⟩ := zrv_ok e11
      obtain ⟨x14, e13, H⟩ := zbind H
      refine zw_invV (pc := 66) (M' := M_X3_value) (A := [vI a3, vI a2]) [vI x8] dX1_isSymmetric_66 (Or.inl q1648) mf_X3_value q410 (zkq e12 rfl) (w_X3_value e13) (Nat.le_of_ble_eq_true rfl) rfl (by rw [← e10]; rfl) (Nat.le_of_ble_eq_true rfl) (zkv ?_) zkn9
      rcases zif H with ⟨c15, H⟩ | ⟨c15, H⟩
      · refine zw_icmp_ne (pc := 69) (tgt := 76) dX1_isSymmetric_69 rfl (fun q => absurd c15 q) (fun _ => ?_)
        refine zw_iconst (pc := 72) (v := (1 : Int32)) dX1_isSymmetric_72 (by decide) ?_
        refine zw_goto (pc := 73) (tgt := 77) dX1_isSymmetric_73 rfl ?_
        refine zw_istore_n (pc := 77) (lv' := [(3, vI (1 : Int32)), (2, vR a0), (4, vI a2), (5, vI a3)]) dX1_isSymmetric_77 rfl (by decide) rfl ?_
        refine zw_iinc (pc := 78) (v := (a3 + (1 : Int32))) (lv' := [(5, vI (a3 + (1 : Int32))), (3, vI (1 : Int32)), (2, vR a0), (4, vI a2)]) dX1_isSymmetric_78 3 rfl rfl (by decide) rfl ?_
        refine zw_goto (pc := 81) (tgt := 42) dX1_isSymmetric_81 rfl ?_
        refine zW_pick (lv' := [(2, vR a0), (3, vI (1 : Int32)), (4, vI a2), (5, vI (a3 + (1 : Int32)))]) [2, 1, 3, 0] rfl ?_
        exact hk42 _ _ _ _ _ H
      · refine zw_icmp_ne (pc := 69) (tgt := 76) dX1_isSymmetric_69 rfl (fun _ => ?_) (fun q => absurd q c15)
        refine zw_iconst (pc := 76) (v := (0 : Int32)) dX1_isSymmetric_76 (by decide) ?_
        refine zw_istore_n (pc := 77) (lv' := [(3, vI (0 : Int32)), (2, vR a0), (4, vI a2), (5, vI a3)]) dX1_isSymmetric_77 rfl (by decide) rfl ?_
        refine zw_iinc (pc := 78) (v := (a3 + (1 : Int32))) (lv' := [(5, vI (a3 + (1 : Int32))), (3, vI (0 : Int32)), (2, vR a0), (4, vI a2)]) dX1_isSymmetric_78 3 rfl rfl (by decide) rfl ?_
        refine zw_goto (pc := 81) (tgt := 42) dX1_isSymmetric_81 rfl ?_
        refine zW_pick (lv' := [(2, vR a0), (3, vI (0 : Int32)), (4, vI a2), (5, vI (a3 + (1 : Int32)))]) [2, 1, 3, 0] rfl ?_
        exact hk42 _ _ _ _ _ H
def B_X1_isSymmetric_26 (k26 : Option Nat → Int32 → Int32 → zH → Option ((Int32 ⊕ Nat) × zH)) (a0 : Option Nat) (a1 : Int32) (a2 : Int32) (h : zH) : Option ((Int32 ⊕ Nat) × zH) :=
  (zgI 3 0 a0 h).bind fun x1 =>
  if x1 ≤ a2 then
  if a1 = 0 ∨ a1 = 1 then some (.inl a1, h) else none
  else
  if a1 = 0 then
  if a1 = 0 ∨ a1 = 1 then some (.inl a1, h) else none
  else
  zloop (B_X1_isSymmetric_42 k26) (fun _ _ _ _ _ => none) zFU a0 a1 a2 (0 : Int32) h
theorem wB_X1_isSymmetric_26 {G : zG} {h0 h : zH} {vo : Int32 ⊕ Nat} {vh : zH} {k26 : Option Nat → Int32 → Int32 → zH → Option ((Int32 ⊕ Nat) × zH)} (hk26 : ∀ (b0 : Option Nat) (b1 : Int32) (b2 : Int32) (h' : zH), k26 b0 b1 b2 h' = some (vo, vh) → zW G M_X1_isSymmetric 8 h0 (zoI vo) vh 26 [(2, vR b0), (3, vI b1), (4, vI b2)] [] h') {a0 : Option Nat} {a1 : Int32} {a2 : Int32} (H : B_X1_isSymmetric_26 k26 a0 a1 a2 h = some (vo, vh)) : zW G M_X1_isSymmetric 8 h0 (zoI vo) vh 26 [(2, vR a0), (3, vI a1), (4, vI a2)] [] h := by
  unfold B_X1_isSymmetric_26 at H
  refine zw_iload (pc := 26) dX1_isSymmetric_26 2 rfl ?_
  refine zw_aload_n (pc := 28) dX1_isSymmetric_28 rfl 0 rfl ?_
  obtain ⟨x1, e2, H⟩ := zbind H
  refine zy_getI (pc := 29) dX1_isSymmetric_29 lf_X1_158 (fun _ _ => rfl) e2 ?_
  rcases zif H with ⟨c3, H⟩ | ⟨c3, H⟩
  · refine zw_icmp_ge (pc := 32) (tgt := 90) dX1_isSymmetric_32 rfl (fun _ => ?_) (fun q => absurd c3 q)
    refine zw_iload_n (pc := 90) dX1_isSymmetric_90 rfl 1 rfl ?_
    obtain ⟨c4, H⟩ := zgd H
    obtain ⟨rfl, rfl⟩ := Prod.mk.inj (Option.some.inj H)
    exact zw_zret (pc := 91) dX1_isSymmetric_91 rfl (znarZ c4) rfl rfl
  · refine zw_icmp_ge (pc := 32) (tgt := 90) dX1_isSymmetric_32 rfl (fun q => absurd q c3) (fun _ => ?_)
    refine zw_iload_n (pc := 35) dX1_isSymmetric_35 rfl 1 rfl ?_
    rcases zif H with ⟨c5, H⟩ | ⟨c5, H⟩
    · refine zw_if_eq (pc := 36) (tgt := 90) dX1_isSymmetric_36 rfl (fun _ => ?_) (fun q => absurd c5 q)
      refine zw_iload_n (pc := 90) dX1_isSymmetric_90 rfl 1 rfl ?_
      obtain ⟨c6, H⟩ := zgd H
      obtain ⟨rfl, rfl⟩ := Prod.mk.inj (Option.some.inj H)
      exact zw_zret (pc := 91) dX1_isSymmetric_91 rfl (znarZ c6) rfl rfl
    · refine zw_if_eq (pc := 36) (tgt := 90) dX1_isSymmetric_36 rfl (fun q => absurd q c5) (fun _ => ?_)
      refine zw_iconst (pc := 39) (v := (0 : Int32)) dX1_isSymmetric_39 (by decide) ?_
      refine zw_istore (pc := 40) (lv' := [(5, vI (0 : Int32)), (2, vR a0), (3, vI a1), (4, vI a2)]) dX1_isSymmetric_40 (by decide) rfl ?_
      refine zW_pick (lv' := [(2, vR a0), (3, vI a1), (4, vI a2), (5, vI (0 : Int32))]) [1, 2, 3, 0] rfl ?_
      exact zloop_ind (body := (B_X1_isSymmetric_42 k26)) (bot := (fun _ _ _ _ _ => none)) (P := (fun (f : Option Nat → Int32 → Int32 → Int32 → zH → Option ((Int32 ⊕ Nat) × zH)) => ∀ (b0 : Option Nat) (b1 : Int32) (b2 : Int32) (b3 : Int32) (h' : zH), f b0 b1 b2 b3 h' = some (vo, vh) → zW G M_X1_isSymmetric 8 h0 (zoI vo) vh 42 [(2, vR b0), (3, vI b1), (4, vI b2), (5, vI b3)] [] h')) zFU (fun _ _ _ _ _ H => nomatch H) (fun f hf c0 c1 c2 c3 h' H => wB_X1_isSymmetric_42 hk26 hf H) _ _ _ _ _ H
def f_X1_isSymmetric (p0 : Option Nat) (p1 : Int32) (h : zH) : Option ((Int32 ⊕ Nat) × zH) :=
  (zrv 1 p0 h).bind fun b1 =>
  zb3 (f_X1_matrix (some b1) p1 h) (fun x6 h7 =>
  (zgI 3 0 x6 h7).bind fun x10 =>
  (zgI 3 1 x6 h7).bind fun x12 =>
  if x10 = x12 then
  zloop (B_X1_isSymmetric_26) (fun _ _ _ _ => none) zFU x6 (1 : Int32) (0 : Int32) h7
  else
  zloop (B_X1_isSymmetric_26) (fun _ _ _ _ => none) zFU x6 (0 : Int32) (0 : Int32) h7)
  (fun q8 h9 =>
  if zk h9 q8 = 20 then
  some (.inr q8, h9)
  else none)
theorem w_X1_isSymmetric {G : zG} {p0 : Option Nat} {p1 : Int32} {h : zH} {vo : Int32 ⊕ Nat} {vh : zH} (H : f_X1_isSymmetric p0 p1 h = some (vo, vh)) : zMet G M_X1_isSymmetric 8 [vR p0, vI p1] h (zoI vo) vh := by
  refine zMet.of (by decide +kernel) (Nat.le_of_ble_eq_true rfl) ?_
  show zW G M_X1_isSymmetric 8 h (zoI vo) vh 0 [(0, vR p0), (1, vI p1)] [] h
  unfold f_X1_isSymmetric at H
  refine zw_aload_n (pc := 0) dX1_isSymmetric_0 rfl 0 rfl ?_
  refine zw_iload_n (pc := 1) dX1_isSymmetric_1 rfl 1 rfl ?_
  obtain ⟨b1, e3, H⟩ := zbind H
  obtain ⟨e2, e4⟩ := zrv_ok e3
  rcases zbind3 H with ⟨x6, h7, e5, H⟩ | ⟨q8, h9, e5, H⟩
  · refine zw_invV (pc := 2) (M' := M_X1_matrix) (A := [vI p1]) [] dX1_isSymmetric_2 (Or.inl q1567) mf_X1_matrix ls_X1_matrix (zkq e4 rfl) (w_X1_matrix e5) (Nat.le_of_ble_eq_true rfl) rfl (by rw [← e2]; rfl) (Nat.le_of_ble_eq_true rfl) (zkv ?_) zkn9
    refine zw_astore_n (pc := 5) (lv' := [(2, vR x6), (0, vR p0), (1, vI p1)]) dX1_isSymmetric_5 rfl (by decide) rfl ?_
    refine zw_aload_n (pc := 6) dX1_isSymmetric_6 rfl 0 rfl ?_
    obtain ⟨x10, e11, H⟩ := zbind H
    refine zy_getI (pc := 7) dX1_isSymmetric_7 lf_X1_158 (fun _ _ => rfl) e11 ?_
    refine zw_aload_n (pc := 10) dX1_isSymmetric_10 rfl 0 rfl ?_
    obtain ⟨x12, e13, H⟩ := zbind H
    refine zy_getI (pc := 11) dX1_isSymmetric_11 lf_X1_167 (fun _ _ => rfl) e13 ?_
    rcases zif H with ⟨c14, H⟩ | ⟨c14, H⟩
    · refine zw_icmp_ne (pc := 14) (tgt := 21) dX1_isSymmetric_14 rfl (fun q => absurd c14 q) (fun _ => ?_)
      refine zw_iconst (pc := 17) (v := (1 : Int32)) dX1_isSymmetric_17 (by decide) ?_
      refine zw_goto (pc := 18) (tgt := 22) dX1_isSymmetric_18 rfl ?_
      refine zw_istore_n (pc := 22) (lv' := [(3, vI (1 : Int32)), (2, vR x6), (0, vR p0), (1, vI p1)]) dX1_isSymmetric_22 rfl (by decide) rfl ?_
      refine zw_iconst (pc := 23) (v := (0 : Int32)) dX1_isSymmetric_23 (by decide) ?_
      refine zw_istore (pc := 24) (lv' := [(4, vI (0 : Int32)), (3, vI (1 : Int32)), (2, vR x6), (0, vR p0), (1, vI p1)]) dX1_isSymmetric_24 (by decide) rfl ?_
      refine zW_pick (lv' := [(2, vR x6), (3, vI (1 : Int32)), (4, vI (0 : Int32))]) [2, 1, 0] rfl ?_
      exact zloop_ind (body := (B_X1_isSymmetric_26)) (bot := (fun _ _ _ _ => none)) (P := (fun (f : Option Nat → Int32 → Int32 → zH → Option ((Int32 ⊕ Nat) × zH)) => ∀ (b0 : Option Nat) (b1 : Int32) (b2 : Int32) (h' : zH), f b0 b1 b2 h' = some (vo, vh) → zW G M_X1_isSymmetric 8 h (zoI vo) vh 26 [(2, vR b0), (3, vI b1), (4, vI b2)] [] h')) zFU (fun _ _ _ _ H => nomatch H) (fun f hf c0 c1 c2 h' H => wB_X1_isSymmetric_26 hf H) _ _ _ _ H
    · refine zw_icmp_ne (pc := 14) (tgt := 21) dX1_isSymmetric_14 rfl (fun _ => ?_) (fun q => absurd q c14)
      refine zw_iconst (pc := 21) (v := (0 : Int32)) dX1_isSymmetric_21 (by decide) ?_
      refine zw_istore_n (pc := 22) (lv' := [(3, vI (0 : Int32)), (2, vR x6), (0, vR p0), (1, vI p1)]) dX1_isSymmetric_22 rfl (by decide) rfl ?_
      refine zw_iconst (pc := 23) (v := (0 : Int32)) dX1_isSymmetric_23 (by decide) ?_
      refine zw_istore (pc := 24) (lv' := [(4, vI (0 : Int32)), (3, vI (0 : Int32)), (2, vR x6), (0, vR p0), (1, vI p1)]) dX1_isSymmetric_24 (by decide) rfl ?_
      refine zW_pick (lv' := [(2, vR x6), (3, vI (0 : Int32)), (4, vI (0 : Int32))]) [2, 1, 0] rfl ?_
      exact zloop_ind (body := (B_X1_isSymmetric_26)) (bot := (fun _ _ _ _ => none)) (P := (fun (f : Option Nat → Int32 → Int32 → zH → Option ((Int32 ⊕ Nat) × zH)) => ∀ (b0 : Option Nat) (b1 : Int32) (b2 : Int32) (h' : zH), f b0 b1 b2 h' = some (vo, vh) → zW G M_X1_isSymmetric 8 h (zoI vo) vh 26 [(2, vR b0), (3, vI b1), (4, vI b2)] [] h')) zFU (fun _ _ _ _ H => nomatch H) (fun f hf c0 c1 c2 h' H => wB_X1_isSymmetric_26 hf H) _ _ _ _ H
  · refine zw_invV (pc := 2) (M' := M_X1_matrix) (A := [vI p1]) [] dX1_isSymmetric_2 (Or.inl q1567) mf_X1_matrix ls_X1_matrix (zkq e4 rfl) (w_X1_matrix e5) (Nat.le_of_ble_eq_true rfl) rfl (by rw [← e2]; rfl) (Nat.le_of_ble_eq_true rfl) zkv0 (zkx ?_)
    rcases zif H with ⟨c15, H⟩ | ⟨c15, H⟩
    · have c15 := c15
      obtain ⟨rfl, rfl⟩ := Prod.mk.inj (Option.some.inj H)
      exact zx_out (zkq c15 rfl) (fun _ hz => nomatch hz) rfl rfl
    cases H
def M_X1_haveSameValues : zM := (yX1_haveSameValues, cX1_haveSameValues, 3, (.some .boolean), [])
theorem mf_X1_haveSameValues : zMi M_X1_haveSameValues 2 := ⟨⟨q1883, q180, ⟨by decide +kernel, by decide +kernel⟩, by decide +kernel, by decide⟩, q1881⟩
def f_X1_haveSameValues (p0 : Option Nat) (p1 : Int32) (p2 : Int32) (h : zH) : Option ((Int32 ⊕ Nat) × zH) :=
  (zrv 1 p0 h).bind fun b1 =>
  zb3 (f_X1_matrix (some b1) p1 h) (fun x6 h7 =>
  (zrv 1 p0 h7).bind fun b10 =>
  zb3 (f_X1_matrix (some b10) p2 h7) (fun x15 h16 =>
  (zrv 3 x6 h16).bind fun b19 =>
  (f_X3_hasSameValues (some b19) x15 h16).bind fun x24 =>
  if x24 = 0 ∨ x24 = 1 then some (.inl x24, h16) else none)
  (fun q17 h18 =>
  if zk h18 q17 = 20 then
  some (.inr q17, h18)
  else none))
  (fun q8 h9 =>
  if zk h9 q8 = 20 then
  some (.inr q8, h9)
  else none)
theorem w_X1_haveSameValues {G : zG} {p0 : Option Nat} {p1 : Int32} {p2 : Int32} {h : zH} {vo : Int32 ⊕ Nat} {vh : zH} (H : f_X1_haveSameValues p0 p1 p2 h = some (vo, vh)) : zMet G M_X1_haveSameValues 8 [vR p0, vI p1, vI p2] h (zoI vo) vh := by
  refine zMet.of (by decide +kernel) (Nat.le_of_ble_eq_true rfl) ?_
  show zW G M_X1_haveSameValues 8 h (zoI vo) vh 0 [(0, vR p0), (1, vI p1), (2, vI p2)] [] h
  unfold f_X1_haveSameValues at H
  refine zw_aload_n (pc := 0) dX1_haveSameValues_0 rfl 0 rfl ?_
  refine zw_iload_n (pc := 1) dX1_haveSameValues_1 rfl 1 rfl ?_
  obtain ⟨b1, e3, H⟩ := zbind H
  obtain ⟨e2, e4⟩ := zrv_ok e3
  rcases zbind3 H with ⟨x6, h7, e5, H⟩ | ⟨q8, h9, e5, H⟩
  · refine zw_invV (pc := 2) (M' := M_X1_matrix) (A := [vI p1]) [] dX1_haveSameValues_2 (Or.inl q1567) mf_X1_matrix ls_X1_matrix (zkq e4 rfl) (w_X1_matrix e5) (Nat.le_of_ble_eq_true rfl) rfl (by rw [← e2]; rfl) (Nat.le_of_ble_eq_true rfl) (zkv ?_) zkn9
    refine zw_aload_n (pc := 5) dX1_haveSameValues_5 rfl 0 rfl ?_
    refine zw_iload_n (pc := 6) dX1_haveSameValues_6 rfl 2 rfl ?_
    obtain ⟨b10, e12, H⟩ := zbind H
    obtain ⟨e11, e13⟩ := zrv_ok e12
    rcases zbind3 H with ⟨x15, h16, e14, H⟩ | ⟨q17, h18, e14, H⟩
    · refine zw_invV (pc := 7) (M' := M_X1_matrix) (A := [vI p2]) [vR x6] dX1_haveSameValues_7 (Or.inl q1567) mf_X1_matrix ls_X1_matrix (zkq e13 rfl) (w_X1_matrix e14) (Nat.le_of_ble_eq_true rfl) rfl (by rw [← e11]; rfl) (Nat.le_of_ble_eq_true rfl) (zkv ?_) zkn9
      obtain ⟨b19, e21, H⟩ := zbind H
      obtain ⟨e20, e22⟩ := zrv_ok e21
      obtain ⟨x24, e23, H⟩ := zbind H
      refine zw_invV (pc := 10) (M' := M_X3_hasSameValues) (A := [vR x15]) [] dX1_haveSameValues_10 (Or.inl q512) mf_X3_hasSameValues q514 (zkq e22 rfl) (w_X3_hasSameValues e23) (Nat.le_of_ble_eq_true rfl) rfl (by rw [← e20]; rfl) (Nat.le_of_ble_eq_true rfl) (zkv ?_) zkn9
      obtain ⟨c25, H⟩ := zgd H
      obtain ⟨rfl, rfl⟩ := Prod.mk.inj (Option.some.inj H)
      exact zw_zret (pc := 13) dX1_haveSameValues_13 rfl (znarZ c25) rfl rfl
    · refine zw_invV (pc := 7) (M' := M_X1_matrix) (A := [vI p2]) [vR x6] dX1_haveSameValues_7 (Or.inl q1567) mf_X1_matrix ls_X1_matrix (zkq e13 rfl) (w_X1_matrix e14) (Nat.le_of_ble_eq_true rfl) rfl (by rw [← e11]; rfl) (Nat.le_of_ble_eq_true rfl) zkv0 (zkx ?_)
      rcases zif H with ⟨c26, H⟩ | ⟨c26, H⟩
      · have c26 := c26
        obtain ⟨rfl, rfl⟩ := Prod.mk.inj (Option.some.inj H)
        exact zx_out (zkq c26 rfl) (fun _ hz => nomatch hz) rfl rfl
      cases H
  · refine zw_invV (pc := 2) (M' := M_X1_matrix) (A := [vI p1]) [] dX1_haveSameValues_2 (Or.inl q1567) mf_X1_matrix ls_X1_matrix (zkq e4 rfl) (w_X1_matrix e5) (Nat.le_of_ble_eq_true rfl) rfl (by rw [← e2]; rfl) (Nat.le_of_ble_eq_true rfl) zkv0 (zkx ?_)
    rcases zif H with ⟨c27, H⟩ | ⟨c27, H⟩
    · have c27 := c27
      obtain ⟨rfl, rfl⟩ := Prod.mk.inj (Option.some.inj H)
      exact zx_out (zkq c27 rfl) (fun _ hz => nomatch hz) rfl rfl
    cases H
def M_X1_haveSameStructure : zM := (yX1_haveSameStructure, cX1_haveSameStructure, 3, (.some .boolean), [])
theorem mf_X1_haveSameStructure : zMi M_X1_haveSameStructure 2 := ⟨⟨q1890, q180, ⟨by decide +kernel, by decide +kernel⟩, by decide +kernel, by decide⟩, q1888⟩
def f_X1_haveSameStructure (p0 : Option Nat) (p1 : Int32) (p2 : Int32) (h : zH) : Option ((Int32 ⊕ Nat) × zH) :=
  (zrv 1 p0 h).bind fun b1 =>
  zb3 (f_X1_matrix (some b1) p1 h) (fun x6 h7 =>
  (zrv 1 p0 h7).bind fun b10 =>
  zb3 (f_X1_matrix (some b10) p2 h7) (fun x15 h16 =>
  (zrv 3 x6 h16).bind fun b19 =>
  (f_X3_hasSameStructure (some b19) x15 h16).bind fun x24 =>
  if x24 = 0 ∨ x24 = 1 then some (.inl x24, h16) else none)
  (fun q17 h18 =>
  if zk h18 q17 = 20 then
  some (.inr q17, h18)
  else none))
  (fun q8 h9 =>
  if zk h9 q8 = 20 then
  some (.inr q8, h9)
  else none)
theorem w_X1_haveSameStructure {G : zG} {p0 : Option Nat} {p1 : Int32} {p2 : Int32} {h : zH} {vo : Int32 ⊕ Nat} {vh : zH} (H : f_X1_haveSameStructure p0 p1 p2 h = some (vo, vh)) : zMet G M_X1_haveSameStructure 8 [vR p0, vI p1, vI p2] h (zoI vo) vh := by
  refine zMet.of (by decide +kernel) (Nat.le_of_ble_eq_true rfl) ?_
  show zW G M_X1_haveSameStructure 8 h (zoI vo) vh 0 [(0, vR p0), (1, vI p1), (2, vI p2)] [] h
  unfold f_X1_haveSameStructure at H
  refine zw_aload_n (pc := 0) dX1_haveSameStructure_0 rfl 0 rfl ?_
  refine zw_iload_n (pc := 1) dX1_haveSameStructure_1 rfl 1 rfl ?_
  obtain ⟨b1, e3, H⟩ := zbind H
  obtain ⟨e2, e4⟩ := zrv_ok e3
  rcases zbind3 H with ⟨x6, h7, e5, H⟩ | ⟨q8, h9, e5, H⟩
  · refine zw_invV (pc := 2) (M' := M_X1_matrix) (A := [vI p1]) [] dX1_haveSameStructure_2 (Or.inl q1567) mf_X1_matrix ls_X1_matrix (zkq e4 rfl) (w_X1_matrix e5) (Nat.le_of_ble_eq_true rfl) rfl (by rw [← e2]; rfl) (Nat.le_of_ble_eq_true rfl) (zkv ?_) zkn9
    refine zw_aload_n (pc := 5) dX1_haveSameStructure_5 rfl 0 rfl ?_
    refine zw_iload_n (pc := 6) dX1_haveSameStructure_6 rfl 2 rfl ?_
    obtain ⟨b10, e12, H⟩ := zbind H
    obtain ⟨e11, e13⟩ := zrv_ok e12
    rcases zbind3 H with ⟨x15, h16, e14, H⟩ | ⟨q17, h18, e14, H⟩
    · refine zw_invV (pc := 7) (M' := M_X1_matrix) (A := [vI p2]) [vR x6] dX1_haveSameStructure_7 (Or.inl q1567) mf_X1_matrix ls_X1_matrix (zkq e13 rfl) (w_X1_matrix e14) (Nat.le_of_ble_eq_true rfl) rfl (by rw [← e11]; rfl) (Nat.le_of_ble_eq_true rfl) (zkv ?_) zkn9
      obtain ⟨b19, e21, H⟩ := zbind H
      obtain ⟨e20, e22⟩ := zrv_ok e21
      obtain ⟨x24, e23, H⟩ := zbind H
      refine zw_invV (pc := 10) (M' := M_X3_hasSameStructure) (A := [vR x15]) [] dX1_haveSameStructure_10 (Or.inl q500) mf_X3_hasSameStructure q502 (zkq e22 rfl) (w_X3_hasSameStructure e23) (Nat.le_of_ble_eq_true rfl) rfl (by rw [← e20]; rfl) (Nat.le_of_ble_eq_true rfl) (zkv ?_) zkn9
      obtain ⟨c25, H⟩ := zgd H
      obtain ⟨rfl, rfl⟩ := Prod.mk.inj (Option.some.inj H)
      exact zw_zret (pc := 13) dX1_haveSameStructure_13 rfl (znarZ c25) rfl rfl
    · refine zw_invV (pc := 7) (M' := M_X1_matrix) (A := [vI p2]) [vR x6] dX1_haveSameStructure_7 (Or.inl q1567) mf_X1_matrix ls_X1_matrix (zkq e13 rfl) (w_X1_matrix e14) (Nat.le_of_ble_eq_true rfl) rfl (by rw [← e11]; rfl) (Nat.le_of_ble_eq_true rfl) zkv0 (zkx ?_)
      rcases zif H with ⟨c26, H⟩ | ⟨c26, H⟩
      · have c26 := c26
        obtain ⟨rfl, rfl⟩ := Prod.mk.inj (Option.some.inj H)
        exact zx_out (zkq c26 rfl) (fun _ hz => nomatch hz) rfl rfl
      cases H
  · refine zw_invV (pc := 2) (M' := M_X1_matrix) (A := [vI p1]) [] dX1_haveSameStructure_2 (Or.inl q1567) mf_X1_matrix ls_X1_matrix (zkq e4 rfl) (w_X1_matrix e5) (Nat.le_of_ble_eq_true rfl) rfl (by rw [← e2]; rfl) (Nat.le_of_ble_eq_true rfl) zkv0 (zkx ?_)
    rcases zif H with ⟨c27, H⟩ | ⟨c27, H⟩
    · have c27 := c27
      obtain ⟨rfl, rfl⟩ := Prod.mk.inj (Option.some.inj H)
      exact zx_out (zkq c27 rfl) (fun _ hz => nomatch hz) rfl rfl
    cases H
def M_X1_sumObstacle : zM := (yX1_sumObstacle, cX1_sumObstacle, 6, (.some .int), [(41, 53, 54, 288)])
theorem mf_X1_sumObstacle : zMi M_X1_sumObstacle 2 := ⟨⟨q1897, q180, ⟨by decide +kernel, by decide +kernel⟩, by decide +kernel, by decide⟩, q1895⟩
def f_X1_sumObstacle (p0 : Option Nat) (p1 : Int32) (p2 : Int32) (h : zH) : Option ((Int32 ⊕ Nat) × zH) :=
  (zrv 1 p0 h).bind fun b1 =>
  zb3 (f_X1_matrix (some b1) p1 h) (fun x6 h7 =>
  (zrv 1 p0 h7).bind fun b10 =>
  zb3 (f_X1_matrix (some b10) p2 h7) (fun x15 h16 =>
  (zgI 3 0 x6 h16).bind fun x19 =>
  (zgI 3 0 x15 h16).bind fun x21 =>
  if x19 = x21 then
  (zgI 3 1 x6 h16).bind fun x24 =>
  (zgI 3 1 x15 h16).bind fun x26 =>
  if x24 = x26 then
  (zrv 3 x6 h16).bind fun b29 =>
  zb3 (f_X3_joined (some b29) (zsv h16 4) x15 h16) (fun x34 h35 =>
  some (.inl (0 : Int32), h35))
  (fun q36 h37 =>
  if zk h37 q36 = 7 then
  some (.inl (3 : Int32), h37)
  else none)
  else
  some (.inl (2 : Int32), h16)
  else
  some (.inl (1 : Int32), h16))
  (fun q17 h18 =>
  if zk h18 q17 = 20 then
  some (.inr q17, h18)
  else none))
  (fun q8 h9 =>
  if zk h9 q8 = 20 then
  some (.inr q8, h9)
  else none)
theorem w_X1_sumObstacle {G : zG} {p0 : Option Nat} {p1 : Int32} {p2 : Int32} {h : zH} {vo : Int32 ⊕ Nat} {vh : zH} (H : f_X1_sumObstacle p0 p1 p2 h = some (vo, vh)) : zMet G M_X1_sumObstacle 9 [vR p0, vI p1, vI p2] h (zoI vo) vh := by
  refine zMet.of (by decide +kernel) (Nat.le_of_ble_eq_true rfl) ?_
  show zW G M_X1_sumObstacle 9 h (zoI vo) vh 0 [(0, vR p0), (1, vI p1), (2, vI p2)] [] h
  unfold f_X1_sumObstacle at H
  refine zw_aload_n (pc := 0) dX1_sumObstacle_0 rfl 0 rfl ?_
  refine zw_iload_n (pc := 1) dX1_sumObstacle_1 rfl 1 rfl ?_
  obtain ⟨b1, e3, H⟩ := zbind H
  obtain ⟨e2, e4⟩ := zrv_ok e3
  rcases zbind3 H with ⟨x6, h7, e5, H⟩ | ⟨q8, h9, e5, H⟩
  · refine zw_invV (pc := 2) (M' := M_X1_matrix) (A := [vI p1]) [] dX1_sumObstacle_2 (Or.inl q1567) mf_X1_matrix ls_X1_matrix (zkq e4 rfl) (w_X1_matrix e5) (Nat.le_of_ble_eq_true rfl) rfl (by rw [← e2]; rfl) (Nat.le_of_ble_eq_true rfl) (zkv ?_) zkn9
    refine zw_astore_n (pc := 5) (lv' := [(3, vR x6), (0, vR p0), (1, vI p1), (2, vI p2)]) dX1_sumObstacle_5 rfl (by decide) rfl ?_
    refine zw_aload_n (pc := 6) dX1_sumObstacle_6 rfl 1 rfl ?_
    refine zw_iload_n (pc := 7) dX1_sumObstacle_7 rfl 3 rfl ?_
    obtain ⟨b10, e12, H⟩ := zbind H
    obtain ⟨e11, e13⟩ := zrv_ok e12
    rcases zbind3 H with ⟨x15, h16, e14, H⟩ | ⟨q17, h18, e14, H⟩
    · refine zw_invV (pc := 8) (M' := M_X1_matrix) (A := [vI p2]) [] dX1_sumObstacle_8 (Or.inl q1567) mf_X1_matrix ls_X1_matrix (zkq e13 rfl) (w_X1_matrix e14) (Nat.le_of_ble_eq_true rfl) rfl (by rw [← e11]; rfl) (Nat.le_of_ble_eq_true rfl) (zkv ?_) zkn9
      refine zw_astore (pc := 11) (lv' := [(4, vR x15), (3, vR x6), (0, vR p0), (1, vI p1), (2, vI p2)]) dX1_sumObstacle_11 (by decide) rfl ?_
      refine zw_aload_n (pc := 13) dX1_sumObstacle_13 rfl 1 rfl ?_
      obtain ⟨x19, e20, H⟩ := zbind H
      refine zy_getI (pc := 14) dX1_sumObstacle_14 lf_X1_158 (fun _ _ => rfl) e20 ?_
      refine zw_aload (pc := 17) dX1_sumObstacle_17 0 rfl ?_
      obtain ⟨x21, e22, H⟩ := zbind H
      refine zy_getI (pc := 19) dX1_sumObstacle_19 lf_X1_158 (fun _ _ => rfl) e22 ?_
      rcases zif H with ⟨c23, H⟩ | ⟨c23, H⟩
      · refine zw_icmp_eq (pc := 22) (tgt := 27) dX1_sumObstacle_22 rfl (fun _ => ?_) (fun q => absurd c23 q)
        refine zw_aload_n (pc := 27) dX1_sumObstacle_27 rfl 1 rfl ?_
        obtain ⟨x24, e25, H⟩ := zbind H
        refine zy_getI (pc := 28) dX1_sumObstacle_28 lf_X1_167 (fun _ _ => rfl) e25 ?_
        refine zw_aload (pc := 31) dX1_sumObstacle_31 0 rfl ?_
        obtain ⟨x26, e27, H⟩ := zbind H
        refine zy_getI (pc := 33) dX1_sumObstacle_33 lf_X1_167 (fun _ _ => rfl) e27 ?_
        rcases zif H with ⟨c28, H⟩ | ⟨c28, H⟩
        · refine zw_icmp_eq (pc := 36) (tgt := 41) dX1_sumObstacle_36 rfl (fun _ => ?_) (fun q => absurd c28 q)
          refine zw_aload_n (pc := 41) dX1_sumObstacle_41 rfl 1 rfl ?_
          refine zw_gets (pc := 42) 4 dX1_sumObstacle_42 rfl q1898 rfl (show zstv _ 4 = vR (zsv h16 4) from rfl) ?_
          refine zw_aload (pc := 45) dX1_sumObstacle_45 0 rfl ?_
          obtain ⟨b29, e31, H⟩ := zbind H
          obtain ⟨e30, e32⟩ := zrv_ok e31
          rcases zbind3 H with ⟨x34, h35, e33, H⟩ | ⟨q36, h37, e33, H⟩
          · refine zw_invV (pc := 47) (M' := M_X3_joined) (A := [vR (zsv h16 4), vR x15]) [] dX1_sumObstacle_47 (Or.inl q1900) mf_X3_joined q1409 (zkq e32 rfl) (w_X3_joined e33) (Nat.le_of_ble_eq_true rfl) rfl (by rw [← e30]; rfl) (Nat.le_of_ble_eq_true rfl) (zkv ?_) zkn9
            refine zw_astore (pc := 50) (lv' := [(5, vR x34), (4, vR x15), (3, vR x6), (0, vR p0), (1, vI p1), (2, vI p2)]) dX1_sumObstacle_50 (by decide) rfl ?_
            refine zw_iconst (pc := 52) (v := (0 : Int32)) dX1_sumObstacle_52 (by decide) ?_
            obtain ⟨rfl, rfl⟩ := Prod.mk.inj (Option.some.inj H)
            exact zw_iret (pc := 53) dX1_sumObstacle_53 rfl rfl rfl
          · refine zw_invV (pc := 47) (M' := M_X3_joined) (A := [vR (zsv h16 4), vR x15]) [] dX1_sumObstacle_47 (Or.inl q1900) mf_X3_joined q1409 (zkq e32 rfl) (w_X3_joined e33) (Nat.le_of_ble_eq_true rfl) rfl (by rw [← e30]; rfl) (Nat.le_of_ble_eq_true rfl) zkv0 (zkx ?_)
            rcases zif H with ⟨c38, H⟩ | ⟨c38, H⟩
            · have c38 := c38
              refine zx_catch [] ⟨41, 53, 54, 288⟩ [] (zkq c38 rfl) rfl (fun _ hz => nomatch hz) rfl (by decide) q389 (by decide +kernel) ?_
              refine zw_astore (pc := 54) (lv' := [(5, vR (some q36)), (4, vR x15), (3, vR x6), (0, vR p0), (1, vI p1), (2, vI p2)]) dX1_sumObstacle_54 (by decide) rfl ?_
              refine zw_iconst (pc := 56) (v := (3 : Int32)) dX1_sumObstacle_56 (by decide) ?_
              obtain ⟨rfl, rfl⟩ := Prod.mk.inj (Option.some.inj H)
              exact zw_iret (pc := 57) dX1_sumObstacle_57 rfl rfl rfl
            cases H
        · refine zw_icmp_eq (pc := 36) (tgt := 41) dX1_sumObstacle_36 rfl (fun q => absurd q c28) (fun _ => ?_)
          refine zw_iconst (pc := 39) (v := (2 : Int32)) dX1_sumObstacle_39 (by decide) ?_
          obtain ⟨rfl, rfl⟩ := Prod.mk.inj (Option.some.inj H)
          exact zw_iret (pc := 40) dX1_sumObstacle_40 rfl rfl rfl
      · refine zw_icmp_eq (pc := 22) (tgt := 27) dX1_sumObstacle_22 rfl (fun q => absurd q c23) (fun _ => ?_)
        refine zw_iconst (pc := 25) (v := (1 : Int32)) dX1_sumObstacle_25 (by decide) ?_
        obtain ⟨rfl, rfl⟩ := Prod.mk.inj (Option.some.inj H)
        exact zw_iret (pc := 26) dX1_sumObstacle_26 rfl rfl rfl
    · refine zw_invV (pc := 8) (M' := M_X1_matrix) (A := [vI p2]) [] dX1_sumObstacle_8 (Or.inl q1567) mf_X1_matrix ls_X1_matrix (zkq e13 rfl) (w_X1_matrix e14) (Nat.le_of_ble_eq_true rfl) rfl (by rw [← e11]; rfl) (Nat.le_of_ble_eq_true rfl) zkv0 (zkx ?_)
      rcases zif H with ⟨c39, H⟩ | ⟨c39, H⟩
      · have c39 := c39
        obtain ⟨rfl, rfl⟩ := Prod.mk.inj (Option.some.inj H)
        exact zx_out (zkq c39 rfl) (List.forall_mem_cons.mpr ⟨Or.inl rfl, (fun _ hz => nomatch hz)⟩) rfl rfl
      cases H
  · refine zw_invV (pc := 2) (M' := M_X1_matrix) (A := [vI p1]) [] dX1_sumObstacle_2 (Or.inl q1567) mf_X1_matrix ls_X1_matrix (zkq e4 rfl) (w_X1_matrix e5) (Nat.le_of_ble_eq_true rfl) rfl (by rw [← e2]; rfl) (Nat.le_of_ble_eq_true rfl) zkv0 (zkx ?_)
    rcases zif H with ⟨c40, H⟩ | ⟨c40, H⟩
    · have c40 := c40
      obtain ⟨rfl, rfl⟩ := Prod.mk.inj (Option.some.inj H)
      exact zx_out (zkq c40 rfl) (List.forall_mem_cons.mpr ⟨Or.inl rfl, (fun _ hz => nomatch hz)⟩) rfl rfl
    cases H
def M_X1_productObstacle : zM := (yX1_productObstacle, cX1_productObstacle, 6, (.some .int), [(27, 36, 37, 288)])
theorem mf_X1_productObstacle : zMi M_X1_productObstacle 2 := ⟨⟨q1907, q180, ⟨by decide +kernel, by decide +kernel⟩, by decide +kernel, by decide⟩, q1905⟩
def f_X1_productObstacle (p0 : Option Nat) (p1 : Int32) (p2 : Int32) (h : zH) : Option ((Int32 ⊕ Nat) × zH) :=
  (zrv 1 p0 h).bind fun b1 =>
  zb3 (f_X1_matrix (some b1) p1 h) (fun x6 h7 =>
  (zrv 1 p0 h7).bind fun b10 =>
  zb3 (f_X1_matrix (some b10) p2 h7) (fun x15 h16 =>
  (zgI 3 1 x6 h16).bind fun x19 =>
  (zgI 3 0 x15 h16).bind fun x21 =>
  if x19 = x21 then
  (zrv 3 x6 h16).bind fun b24 =>
  zb3 (f_X3_times (some b24) x15 h16) (fun x29 h30 =>
  some (.inl (0 : Int32), h30))
  (fun q31 h32 =>
  if zk h32 q31 = 7 then
  some (.inl (2 : Int32), h32)
  else none)
  else
  some (.inl (1 : Int32), h16))
  (fun q17 h18 =>
  if zk h18 q17 = 20 then
  some (.inr q17, h18)
  else none))
  (fun q8 h9 =>
  if zk h9 q8 = 20 then
  some (.inr q8, h9)
  else none)
theorem w_X1_productObstacle {G : zG} {p0 : Option Nat} {p1 : Int32} {p2 : Int32} {h : zH} {vo : Int32 ⊕ Nat} {vh : zH} (H : f_X1_productObstacle p0 p1 p2 h = some (vo, vh)) : zMet G M_X1_productObstacle 9 [vR p0, vI p1, vI p2] h (zoI vo) vh := by
  refine zMet.of (by decide +kernel) (Nat.le_of_ble_eq_true rfl) ?_
  show zW G M_X1_productObstacle 9 h (zoI vo) vh 0 [(0, vR p0), (1, vI p1), (2, vI p2)] [] h
  unfold f_X1_productObstacle at H
  refine zw_aload_n (pc := 0) dX1_productObstacle_0 rfl 0 rfl ?_
  refine zw_iload_n (pc := 1) dX1_productObstacle_1 rfl 1 rfl ?_
  obtain ⟨b1, e3, H⟩ := zbind H
  obtain ⟨e2, e4⟩ := zrv_ok e3
  rcases zbind3 H with ⟨x6, h7, e5, H⟩ | ⟨q8, h9, e5, H⟩
  · refine zw_invV (pc := 2) (M' := M_X1_matrix) (A := [vI p1]) [] dX1_productObstacle_2 (Or.inl q1567) mf_X1_matrix ls_X1_matrix (zkq e4 rfl) (w_X1_matrix e5) (Nat.le_of_ble_eq_true rfl) rfl (by rw [← e2]; rfl) (Nat.le_of_ble_eq_true rfl) (zkv ?_) zkn9
    refine zw_astore_n (pc := 5) (lv' := [(3, vR x6), (0, vR p0), (1, vI p1), (2, vI p2)]) dX1_productObstacle_5 rfl (by decide) rfl ?_
    refine zw_aload_n (pc := 6) dX1_productObstacle_6 rfl 1 rfl ?_
    refine zw_iload_n (pc := 7) dX1_productObstacle_7 rfl 3 rfl ?_
    obtain ⟨b10, e12, H⟩ := zbind H
    obtain ⟨e11, e13⟩ := zrv_ok e12
    rcases zbind3 H with ⟨x15, h16, e14, H⟩ | ⟨q17, h18, e14, H⟩
    · refine zw_invV (pc := 8) (M' := M_X1_matrix) (A := [vI p2]) [] dX1_productObstacle_8 (Or.inl q1567) mf_X1_matrix ls_X1_matrix (zkq e13 rfl) (w_X1_matrix e14) (Nat.le_of_ble_eq_true rfl) rfl (by rw [← e11]; rfl) (Nat.le_of_ble_eq_true rfl) (zkv ?_) zkn9
      refine zw_astore (pc := 11) (lv' := [(4, vR x15), (3, vR x6), (0, vR p0), (1, vI p1), (2, vI p2)]) dX1_productObstacle_11 (by decide) rfl ?_
      refine zw_aload_n (pc := 13) dX1_productObstacle_13 rfl 1 rfl ?_
      obtain ⟨x19, e20, H⟩ := zbind H
      refine zy_getI (pc := 14) dX1_productObstacle_14 lf_X1_167 (fun _ _ => rfl) e20 ?_
      refine zw_aload (pc := 17) dX1_productObstacle_17 0 rfl ?_
      obtain ⟨x21, e22, H⟩ := zbind H
      refine zy_getI (pc := 19) dX1_productObstacle_19 lf_X1_158 (fun _ _ => rfl) e22 ?_
      rcases zif H with ⟨c23, H⟩ | ⟨c23, H⟩
      · refine zw_icmp_eq (pc := 22) (tgt := 27) dX1_productObstacle_22 rfl (fun _ => ?_) (fun q => absurd c23 q)
        refine zw_aload_n (pc := 27) dX1_productObstacle_27 rfl 1 rfl ?_
        refine zw_aload (pc := 28) dX1_productObstacle_28 0 rfl ?_
        obtain ⟨b24, e26, H⟩ := zbind H
        obtain ⟨e25, e27⟩ := zrv_ok e26
        rcases zbind3 H with ⟨x29, h30, e28, H⟩ | ⟨q31, h32, e28, H⟩
        · refine zw_invV (pc := 30) (M' := M_X3_times) (A := [vR x15]) [] dX1_productObstacle_30 (Or.inl q520) mf_X3_times q522 (zkq e27 rfl) (w_X3_times e28) (Nat.le_of_ble_eq_true rfl) rfl (by rw [← e25]; rfl) (Nat.le_of_ble_eq_true rfl) (zkv ?_) zkn9
          refine zw_astore (pc := 33) (lv' := [(5, vR x29), (4, vR x15), (3, vR x6), (0, vR p0), (1, vI p1), (2, vI p2)]) dX1_productObstacle_33 (by decide) rfl ?_
          refine zw_iconst (pc := 35) (v := (0 : Int32)) dX1_productObstacle_35 (by decide) ?_
          obtain ⟨rfl, rfl⟩ := Prod.mk.inj (Option.some.inj H)
          exact zw_iret (pc := 36) dX1_productObstacle_36 rfl rfl rfl
        · refine zw_invV (pc := 30) (M' := M_X3_times) (A := [vR x15]) [] dX1_productObstacle_30 (Or.inl q520) mf_X3_times q522 (zkq e27 rfl) (w_X3_times e28) (Nat.le_of_ble_eq_true rfl) rfl (by rw [← e25]; rfl) (Nat.le_of_ble_eq_true rfl) zkv0 (zkx ?_)
          rcases zif H with ⟨c33, H⟩ | ⟨c33, H⟩
          · have c33 := c33
            refine zx_catch [] ⟨27, 36, 37, 288⟩ [] (zkq c33 rfl) rfl (fun _ hz => nomatch hz) rfl (by decide) q389 (by decide +kernel) ?_
            refine zw_astore (pc := 37) (lv' := [(5, vR (some q31)), (4, vR x15), (3, vR x6), (0, vR p0), (1, vI p1), (2, vI p2)]) dX1_productObstacle_37 (by decide) rfl ?_
            refine zw_iconst (pc := 39) (v := (2 : Int32)) dX1_productObstacle_39 (by decide) ?_
            obtain ⟨rfl, rfl⟩ := Prod.mk.inj (Option.some.inj H)
            exact zw_iret (pc := 40) dX1_productObstacle_40 rfl rfl rfl
          cases H
      · refine zw_icmp_eq (pc := 22) (tgt := 27) dX1_productObstacle_22 rfl (fun q => absurd q c23) (fun _ => ?_)
        refine zw_iconst (pc := 25) (v := (1 : Int32)) dX1_productObstacle_25 (by decide) ?_
        obtain ⟨rfl, rfl⟩ := Prod.mk.inj (Option.some.inj H)
        exact zw_iret (pc := 26) dX1_productObstacle_26 rfl rfl rfl
    · refine zw_invV (pc := 8) (M' := M_X1_matrix) (A := [vI p2]) [] dX1_productObstacle_8 (Or.inl q1567) mf_X1_matrix ls_X1_matrix (zkq e13 rfl) (w_X1_matrix e14) (Nat.le_of_ble_eq_true rfl) rfl (by rw [← e11]; rfl) (Nat.le_of_ble_eq_true rfl) zkv0 (zkx ?_)
      rcases zif H with ⟨c34, H⟩ | ⟨c34, H⟩
      · have c34 := c34
        obtain ⟨rfl, rfl⟩ := Prod.mk.inj (Option.some.inj H)
        exact zx_out (zkq c34 rfl) (List.forall_mem_cons.mpr ⟨Or.inl rfl, (fun _ hz => nomatch hz)⟩) rfl rfl
      cases H
  · refine zw_invV (pc := 2) (M' := M_X1_matrix) (A := [vI p1]) [] dX1_productObstacle_2 (Or.inl q1567) mf_X1_matrix ls_X1_matrix (zkq e4 rfl) (w_X1_matrix e5) (Nat.le_of_ble_eq_true rfl) rfl (by rw [← e2]; rfl) (Nat.le_of_ble_eq_true rfl) zkv0 (zkx ?_)
    rcases zif H with ⟨c35, H⟩ | ⟨c35, H⟩
    · have c35 := c35
      obtain ⟨rfl, rfl⟩ := Prod.mk.inj (Option.some.inj H)
      exact zx_out (zkq c35 rfl) (List.forall_mem_cons.mpr ⟨Or.inl rfl, (fun _ hz => nomatch hz)⟩) rfl rfl
    cases H
def M_X1_productStoredCount : zM := (yX1_productStoredCount, cX1_productStoredCount, 8, (.some .int), [])
theorem mf_X1_productStoredCount : zMi M_X1_productStoredCount 2 := ⟨⟨q1914, q180, ⟨by decide +kernel, by decide +kernel⟩, by decide +kernel, by decide⟩, q1912⟩
def B_X1_productStoredCount_45 (k33 : Option Nat → Option Nat → Int32 → Int32 → zH → Option ((Int32 ⊕ Nat) × zH)) (k45 : Option Nat → Option Nat → Int32 → Int32 → Int32 → zH → Option ((Int32 ⊕ Nat) × zH)) (a0 : Option Nat) (a1 : Option Nat) (a2 : Int32) (a3 : Int32) (a4 : Int32) (h : zH) : Option ((Int32 ⊕ Nat) × zH) :=
  (zgI 3 1 a1 h).bind fun x1 =>
  if x1 ≤ a4 then
  k33 a0 a1 a2 (a3 + (1 : Int32)) h
  else
  (zrv 3 a0 h).bind fun b4 =>
  (f_X3_meets (some b4) a1 a3 a4 h).bind fun x9 =>
  if x9 = 0 then
  k45 a0 a1 a2 a3 (a4 + (1 : Int32)) h
  else
  k45 a0 a1 (a2 + (1 : Int32)) a3 (a4 + (1 : Int32)) h
theorem wB_X1_productStoredCount_45 {G : zG} {h0 h : zH} {vo : Int32 ⊕ Nat} {vh : zH} {k33 : Option Nat → Option Nat → Int32 → Int32 → zH → Option ((Int32 ⊕ Nat) × zH)} (hk33 : ∀ (b0 : Option Nat) (b1 : Option Nat) (b2 : Int32) (b3 : Int32) (h' : zH), k33 b0 b1 b2 b3 h' = some (vo, vh) → zW G M_X1_productStoredCount 8 h0 (zoI vo) vh 33 [(3, vR b0), (4, vR b1), (5, vI b2), (6, vI b3)] [] h') {k45 : Option Nat → Option Nat → Int32 → Int32 → Int32 → zH → Option ((Int32 ⊕ Nat) × zH)} (hk45 : ∀ (b0 : Option Nat) (b1 : Option Nat) (b2 : Int32) (b3 : Int32) (b4 : Int32) (h' : zH), k45 b0 b1 b2 b3 b4 h' = some (vo, vh) → zW G M_X1_productStoredCount 8 h0 (zoI vo) vh 45 [(3, vR b0), (4, vR b1), (5, vI b2), (6, vI b3), (7, vI b4)] [] h') {a0 : Option Nat} {a1 : Option Nat} {a2 : Int32} {a3 : Int32} {a4 : Int32} (H : B_X1_productStoredCount_45 k33 k45 a0 a1 a2 a3 a4 h = some (vo, vh)) : zW G M_X1_productStoredCount 8 h0 (zoI vo) vh 45 [(3, vR a0), (4, vR a1), (5, vI a2), (6, vI a3), (7, vI a4)] [] h := by
  unfold B_X1_productStoredCount_45 at H
  refine zw_iload (pc := 45) dX1_productStoredCount_45 4 rfl ?_
  refine zw_aload (pc := 47) dX1_productStoredCount_47 1 rfl ?_
  obtain ⟨x1, e2, H⟩ := zbind H
  refine zy_getI (pc := 49) dX1_productStoredCount_49 lf_X1_167 (fun _ _ => rfl) e2 ?_
  rcases zif H with ⟨c3, H⟩ | ⟨c3, H⟩
  · refine zw_icmp_ge (pc := 52) (tgt := 77) dX1_productStoredCount_52 rfl (fun _ => ?_) (fun q => absurd c3 q)
    refine zw_iinc (pc := 77) (v := (a3 + (1 : Int32))) (lv' := [(6, vI (a3 + (1 : Int32))), (3, vR a0), (4, vR a1), (5, vI a2), (7, vI a4)]) dX1_productStoredCount_77 3 rfl rfl (by decide) rfl ?_
    refine zw_goto (pc := 80) (tgt := 33) dX1_productStoredCount_80 rfl ?_
    refine zW_pick (lv' := [(3, vR a0), (4, vR a1), (5, vI a2), (6, vI (a3 + (1 : Int32)))]) [1, 2, 3, 0] rfl ?_
    exact hk33 _ _ _ _ _ H
  · refine zw_icmp_ge (pc := 52) (tgt := 77) dX1_productStoredCount_52 rfl (fun q => absurd q c3) (fun _ => ?_)
    refine zw_aload_n (pc := 55) dX1_productStoredCount_55 rfl 0 rfl ?_
    refine zw_aload (pc := 56) dX1_productStoredCount_56 1 rfl ?_
    refine zw_iload (pc := 58) dX1_productStoredCount_58 3 rfl ?_
    refine zw_iload (pc := 60) dX1_productStoredCount_60 4 rfl ?_
    obtain ⟨b4, e6, H⟩ := zbind H
    obtain ⟨e5, e7⟩ := zrv_ok e6
    obtain ⟨x9, e8, H⟩ := zbind H
    refine zw_invV (pc := 62) (M' := M_X3_meets) (A := [vR a1, vI a3, vI a4]) [] dX1_productStoredCount_62 (Or.inl q1915) mf_X3_meets q529 (zkq e7 rfl) (w_X3_meets e8) (Nat.le_of_ble_eq_true rfl) rfl (by rw [← e5]; rfl) (Nat.le_of_ble_eq_true rfl) (zkv ?_) zkn9
    rcases zif H with ⟨c10, H⟩ | ⟨c10, H⟩
    · refine zw_if_eq (pc := 65) (tgt := 71) dX1_productStoredCount_65 rfl (fun _ => ?_) (fun q => absurd c10 q)
      refine zw_iinc (pc := 71) (v := (a4 + (1 : Int32))) (lv' := [(7, vI (a4 + (1 : Int32))), (3, vR a0), (4, vR a1), (5, vI a2), (6, vI a3)]) dX1_productStoredCount_71 4 rfl rfl (by decide) rfl ?_
      refine zw_goto (pc := 74) (tgt := 45) dX1_productStoredCount_74 rfl ?_
      refine zW_pick (lv' := [(3, vR a0), (4, vR a1), (5, vI a2), (6, vI a3), (7, vI (a4 + (1 : Int32)))]) [1, 2, 3, 4, 0] rfl ?_
      exact hk45 _ _ _ _ _ _ H
    · refine zw_if_eq (pc := 65) (tgt := 71) dX1_productStoredCount_65 rfl (fun q => absurd q c10) (fun _ => ?_)
      refine zw_iinc (pc := 68) (v := (a2 + (1 : Int32))) (lv' := [(5, vI (a2 + (1 : Int32))), (3, vR a0), (4, vR a1), (6, vI a3), (7, vI a4)]) dX1_productStoredCount_68 2 rfl rfl (by decide) rfl ?_
      refine zw_iinc (pc := 71) (v := (a4 + (1 : Int32))) (lv' := [(7, vI (a4 + (1 : Int32))), (5, vI (a2 + (1 : Int32))), (3, vR a0), (4, vR a1), (6, vI a3)]) dX1_productStoredCount_71 4 rfl rfl (by decide) rfl ?_
      refine zw_goto (pc := 74) (tgt := 45) dX1_productStoredCount_74 rfl ?_
      refine zW_pick (lv' := [(3, vR a0), (4, vR a1), (5, vI (a2 + (1 : Int32))), (6, vI a3), (7, vI (a4 + (1 : Int32)))]) [2, 3, 1, 4, 0] rfl ?_
      exact hk45 _ _ _ _ _ _ H
def B_X1_productStoredCount_33 (k33 : Option Nat → Option Nat → Int32 → Int32 → zH → Option ((Int32 ⊕ Nat) × zH)) (a0 : Option Nat) (a1 : Option Nat) (a2 : Int32) (a3 : Int32) (h : zH) : Option ((Int32 ⊕ Nat) × zH) :=
  (zgI 3 0 a0 h).bind fun x1 =>
  if x1 ≤ a3 then
  some (.inl a2, h)
  else
  zloop (B_X1_productStoredCount_45 k33) (fun _ _ _ _ _ _ => none) zFU a0 a1 a2 a3 (0 : Int32) h
theorem wB_X1_productStoredCount_33 {G : zG} {h0 h : zH} {vo : Int32 ⊕ Nat} {vh : zH} {k33 : Option Nat → Option Nat → Int32 → Int32 → zH → Option ((Int32 ⊕ Nat) × zH)} (hk33 : ∀ (b0 : Option Nat) (b1 : Option Nat) (b2 : Int32) (b3 : Int32) (h' : zH), k33 b0 b1 b2 b3 h' = some (vo, vh) → zW G M_X1_productStoredCount 8 h0 (zoI vo) vh 33 [(3, vR b0), (4, vR b1), (5, vI b2), (6, vI b3)] [] h') {a0 : Option Nat} {a1 : Option Nat} {a2 : Int32} {a3 : Int32} (H : B_X1_productStoredCount_33 k33 a0 a1 a2 a3 h = some (vo, vh)) : zW G M_X1_productStoredCount 8 h0 (zoI vo) vh 33 [(3, vR a0), (4, vR a1), (5, vI a2), (6, vI a3)] [] h := by
  unfold B_X1_productStoredCount_33 at H
  refine zw_iload (pc := 33) dX1_productStoredCount_33 3 rfl ?_
  refine zw_aload_n (pc := 35) dX1_productStoredCount_35 rfl 0 rfl ?_
  obtain ⟨x1, e2, H⟩ := zbind H
  refine zy_getI (pc := 36) dX1_productStoredCount_36 lf_X1_158 (fun _ _ => rfl) e2 ?_
  rcases zif H with ⟨c3, H⟩ | ⟨c3, H⟩
  · refine zw_icmp_ge (pc := 39) (tgt := 83) dX1_productStoredCount_39 rfl (fun _ => ?_) (fun q => absurd c3 q)
    refine zw_iload (pc := 83) dX1_productStoredCount_83 2 rfl ?_
    obtain ⟨rfl, rfl⟩ := Prod.mk.inj (Option.some.inj H)
    exact zw_iret (pc := 85) dX1_productStoredCount_85 rfl rfl rfl
  · refine zw_icmp_ge (pc := 39) (tgt := 83) dX1_productStoredCount_39 rfl (fun q => absurd q c3) (fun _ => ?_)
    refine zw_iconst (pc := 42) (v := (0 : Int32)) dX1_productStoredCount_42 (by decide) ?_
    refine zw_istore (pc := 43) (lv' := [(7, vI (0 : Int32)), (3, vR a0), (4, vR a1), (5, vI a2), (6, vI a3)]) dX1_productStoredCount_43 (by decide) rfl ?_
    refine zW_pick (lv' := [(3, vR a0), (4, vR a1), (5, vI a2), (6, vI a3), (7, vI (0 : Int32))]) [1, 2, 3, 4, 0] rfl ?_
    exact zloop_ind (body := (B_X1_productStoredCount_45 k33)) (bot := (fun _ _ _ _ _ _ => none)) (P := (fun (f : Option Nat → Option Nat → Int32 → Int32 → Int32 → zH → Option ((Int32 ⊕ Nat) × zH)) => ∀ (b0 : Option Nat) (b1 : Option Nat) (b2 : Int32) (b3 : Int32) (b4 : Int32) (h' : zH), f b0 b1 b2 b3 b4 h' = some (vo, vh) → zW G M_X1_productStoredCount 8 h0 (zoI vo) vh 45 [(3, vR b0), (4, vR b1), (5, vI b2), (6, vI b3), (7, vI b4)] [] h')) zFU (fun _ _ _ _ _ _ H => nomatch H) (fun f hf c0 c1 c2 c3 c4 h' H => wB_X1_productStoredCount_45 hk33 hf H) _ _ _ _ _ _ H
def f_X1_productStoredCount (p0 : Option Nat) (p1 : Int32) (p2 : Int32) (h : zH) : Option ((Int32 ⊕ Nat) × zH) :=
  (zrv 1 p0 h).bind fun b1 =>
  zb3 (f_X1_matrix (some b1) p1 h) (fun x6 h7 =>
  (zrv 1 p0 h7).bind fun b10 =>
  zb3 (f_X1_matrix (some b10) p2 h7) (fun x15 h16 =>
  (zgI 3 1 x6 h16).bind fun x19 =>
  (zgI 3 0 x15 h16).bind fun x21 =>
  if x19 = x21 then
  zloop (B_X1_productStoredCount_33) (fun _ _ _ _ _ => none) zFU x6 x15 (0 : Int32) (0 : Int32) h16
  else
  some (.inl (-1 : Int32), h16))
  (fun q17 h18 =>
  if zk h18 q17 = 20 then
  some (.inr q17, h18)
  else none))
  (fun q8 h9 =>
  if zk h9 q8 = 20 then
  some (.inr q8, h9)
  else none)
theorem w_X1_productStoredCount {G : zG} {p0 : Option Nat} {p1 : Int32} {p2 : Int32} {h : zH} {vo : Int32 ⊕ Nat} {vh : zH} (H : f_X1_productStoredCount p0 p1 p2 h = some (vo, vh)) : zMet G M_X1_productStoredCount 8 [vR p0, vI p1, vI p2] h (zoI vo) vh := by
  refine zMet.of (by decide +kernel) (Nat.le_of_ble_eq_true rfl) ?_
  show zW G M_X1_productStoredCount 8 h (zoI vo) vh 0 [(0, vR p0), (1, vI p1), (2, vI p2)] [] h
  unfold f_X1_productStoredCount at H
  refine zw_aload_n (pc := 0) dX1_productStoredCount_0 rfl 0 rfl ?_
  refine zw_iload_n (pc := 1) dX1_productStoredCount_1 rfl 1 rfl ?_
  obtain ⟨b1, e3, H⟩ := zbind H
  obtain ⟨e2, e4⟩ := zrv_ok e3
  rcases zbind3 H with ⟨x6, h7, e5, H⟩ | ⟨q8, h9, e5, H⟩
  · refine zw_invV (pc := 2) (M' := M_X1_matrix) (A := [vI p1]) [] dX1_productStoredCount_2 (Or.inl q1567) mf_X1_matrix ls_X1_matrix (zkq e4 rfl) (w_X1_matrix e5) (Nat.le_of_ble_eq_true rfl) rfl (by rw [← e2]; rfl) (Nat.le_of_ble_eq_true rfl) (zkv ?_) zkn9
    refine zw_astore_n (pc := 5) (lv' := [(3, vR x6), (0, vR p0), (1, vI p1), (2, vI p2)]) dX1_productStoredCount_5 rfl (by decide) rfl ?_
    refine zw_aload_n (pc := 6) dX1_productStoredCount_6 rfl 1 rfl ?_
    refine zw_iload_n (pc := 7) dX1_productStoredCount_7 rfl 3 rfl ?_
    obtain ⟨b10, e12, H⟩ := zbind H
    obtain ⟨e11, e13⟩ := zrv_ok e12
    rcases zbind3 H with ⟨x15, h16, e14, H⟩ | ⟨q17, h18, e14, H⟩
    · refine zw_invV (pc := 8) (M' := M_X1_matrix) (A := [vI p2]) [] dX1_productStoredCount_8 (Or.inl q1567) mf_X1_matrix ls_X1_matrix (zkq e13 rfl) (w_X1_matrix e14) (Nat.le_of_ble_eq_true rfl) rfl (by rw [← e11]; rfl) (Nat.le_of_ble_eq_true rfl) (zkv ?_) zkn9
      refine zw_astore (pc := 11) (lv' := [(4, vR x15), (3, vR x6), (0, vR p0), (1, vI p1), (2, vI p2)]) dX1_productStoredCount_11 (by decide) rfl ?_
      refine zw_aload_n (pc := 13) dX1_productStoredCount_13 rfl 1 rfl ?_
      obtain ⟨x19, e20, H⟩ := zbind H
      refine zy_getI (pc := 14) dX1_productStoredCount_14 lf_X1_167 (fun _ _ => rfl) e20 ?_
      refine zw_aload (pc := 17) dX1_productStoredCount_17 0 rfl ?_
      obtain ⟨x21, e22, H⟩ := zbind H
      refine zy_getI (pc := 19) dX1_productStoredCount_19 lf_X1_158 (fun _ _ => rfl) e22 ?_
      rcases zif H with ⟨c23, H⟩ | ⟨c23, H⟩
      · refine zw_icmp_eq (pc := 22) (tgt := 27) dX1_productStoredCount_22 rfl (fun _ => ?_) (fun q => absurd c23 q)
        refine zw_iconst (pc := 27) (v := (0 : Int32)) dX1_productStoredCount_27 (by decide) ?_
        refine zw_istore (pc := 28) (lv' := [(5, vI (0 : Int32)), (4, vR x15), (3, vR x6), (0, vR p0), (1, vI p1), (2, vI p2)]) dX1_productStoredCount_28 (by decide) rfl ?_
        refine zw_iconst (pc := 30) (v := (0 : Int32)) dX1_productStoredCount_30 (by decide) ?_
        refine zw_istore (pc := 31) (lv' := [(6, vI (0 : Int32)), (5, vI (0 : Int32)), (4, vR x15), (3, vR x6), (0, vR p0), (1, vI p1), (2, vI p2)]) dX1_productStoredCount_31 (by decide) rfl ?_
        refine zW_pick (lv' := [(3, vR x6), (4, vR x15), (5, vI (0 : Int32)), (6, vI (0 : Int32))]) [3, 2, 1, 0] rfl ?_
        exact zloop_ind (body := (B_X1_productStoredCount_33)) (bot := (fun _ _ _ _ _ => none)) (P := (fun (f : Option Nat → Option Nat → Int32 → Int32 → zH → Option ((Int32 ⊕ Nat) × zH)) => ∀ (b0 : Option Nat) (b1 : Option Nat) (b2 : Int32) (b3 : Int32) (h' : zH), f b0 b1 b2 b3 h' = some (vo, vh) → zW G M_X1_productStoredCount 8 h (zoI vo) vh 33 [(3, vR b0), (4, vR b1), (5, vI b2), (6, vI b3)] [] h')) zFU (fun _ _ _ _ _ H => nomatch H) (fun f hf c0 c1 c2 c3 h' H => wB_X1_productStoredCount_33 hf H) _ _ _ _ _ H
      · refine zw_icmp_eq (pc := 22) (tgt := 27) dX1_productStoredCount_22 rfl (fun q => absurd q c23) (fun _ => ?_)
        refine zw_iconst (pc := 25) (v := (-1 : Int32)) dX1_productStoredCount_25 (by decide) ?_
        obtain ⟨rfl, rfl⟩ := Prod.mk.inj (Option.some.inj H)
        exact zw_iret (pc := 26) dX1_productStoredCount_26 rfl rfl rfl
    · refine zw_invV (pc := 8) (M' := M_X1_matrix) (A := [vI p2]) [] dX1_productStoredCount_8 (Or.inl q1567) mf_X1_matrix ls_X1_matrix (zkq e13 rfl) (w_X1_matrix e14) (Nat.le_of_ble_eq_true rfl) rfl (by rw [← e11]; rfl) (Nat.le_of_ble_eq_true rfl) zkv0 (zkx ?_)
      rcases zif H with ⟨c24, H⟩ | ⟨c24, H⟩
      · have c24 := c24
        obtain ⟨rfl, rfl⟩ := Prod.mk.inj (Option.some.inj H)
        exact zx_out (zkq c24 rfl) (fun _ hz => nomatch hz) rfl rfl
      cases H
  · refine zw_invV (pc := 2) (M' := M_X1_matrix) (A := [vI p1]) [] dX1_productStoredCount_2 (Or.inl q1567) mf_X1_matrix ls_X1_matrix (zkq e4 rfl) (w_X1_matrix e5) (Nat.le_of_ble_eq_true rfl) rfl (by rw [← e2]; rfl) (Nat.le_of_ble_eq_true rfl) zkv0 (zkx ?_)
    rcases zif H with ⟨c25, H⟩ | ⟨c25, H⟩
    · have c25 := c25
      obtain ⟨rfl, rfl⟩ := Prod.mk.inj (Option.some.inj H)
      exact zx_out (zkq c25 rfl) (fun _ hz => nomatch hz) rfl rfl
    cases H
def M_X1_productWork : zM := (yX1_productWork, cX1_productWork, 5, (.some .int), [])
theorem mf_X1_productWork : zMi M_X1_productWork 2 := ⟨⟨q1922, q180, ⟨by decide +kernel, by decide +kernel⟩, by decide +kernel, by decide⟩, q1920⟩
def f_X1_productWork (p0 : Option Nat) (p1 : Int32) (p2 : Int32) (h : zH) : Option ((Int32 ⊕ Nat) × zH) :=
  (zrv 1 p0 h).bind fun b1 =>
  zb3 (f_X1_matrix (some b1) p1 h) (fun x6 h7 =>
  (zrv 1 p0 h7).bind fun b10 =>
  zb3 (f_X1_matrix (some b10) p2 h7) (fun x15 h16 =>
  (zgI 3 1 x6 h16).bind fun x19 =>
  (zgI 3 0 x15 h16).bind fun x21 =>
  if x19 = x21 then
  (zrv 3 x6 h16).bind fun b24 =>
  (f_X3_workWith (some b24) x15 h16).bind fun x29 =>
  some (.inl x29, h16)
  else
  some (.inl (-1 : Int32), h16))
  (fun q17 h18 =>
  if zk h18 q17 = 20 then
  some (.inr q17, h18)
  else none))
  (fun q8 h9 =>
  if zk h9 q8 = 20 then
  some (.inr q8, h9)
  else none)
theorem w_X1_productWork {G : zG} {p0 : Option Nat} {p1 : Int32} {p2 : Int32} {h : zH} {vo : Int32 ⊕ Nat} {vh : zH} (H : f_X1_productWork p0 p1 p2 h = some (vo, vh)) : zMet G M_X1_productWork 8 [vR p0, vI p1, vI p2] h (zoI vo) vh := by
  refine zMet.of (by decide +kernel) (Nat.le_of_ble_eq_true rfl) ?_
  show zW G M_X1_productWork 8 h (zoI vo) vh 0 [(0, vR p0), (1, vI p1), (2, vI p2)] [] h
  unfold f_X1_productWork at H
  refine zw_aload_n (pc := 0) dX1_productWork_0 rfl 0 rfl ?_
  refine zw_iload_n (pc := 1) dX1_productWork_1 rfl 1 rfl ?_
  obtain ⟨b1, e3, H⟩ := zbind H
  obtain ⟨e2, e4⟩ := zrv_ok e3
  rcases zbind3 H with ⟨x6, h7, e5, H⟩ | ⟨q8, h9, e5, H⟩
  · refine zw_invV (pc := 2) (M' := M_X1_matrix) (A := [vI p1]) [] dX1_productWork_2 (Or.inl q1567) mf_X1_matrix ls_X1_matrix (zkq e4 rfl) (w_X1_matrix e5) (Nat.le_of_ble_eq_true rfl) rfl (by rw [← e2]; rfl) (Nat.le_of_ble_eq_true rfl) (zkv ?_) zkn9
    refine zw_astore_n (pc := 5) (lv' := [(3, vR x6), (0, vR p0), (1, vI p1), (2, vI p2)]) dX1_productWork_5 rfl (by decide) rfl ?_
    refine zw_aload_n (pc := 6) dX1_productWork_6 rfl 1 rfl ?_
    refine zw_iload_n (pc := 7) dX1_productWork_7 rfl 3 rfl ?_
    obtain ⟨b10, e12, H⟩ := zbind H
    obtain ⟨e11, e13⟩ := zrv_ok e12
    rcases zbind3 H with ⟨x15, h16, e14, H⟩ | ⟨q17, h18, e14, H⟩
    · refine zw_invV (pc := 8) (M' := M_X1_matrix) (A := [vI p2]) [] dX1_productWork_8 (Or.inl q1567) mf_X1_matrix ls_X1_matrix (zkq e13 rfl) (w_X1_matrix e14) (Nat.le_of_ble_eq_true rfl) rfl (by rw [← e11]; rfl) (Nat.le_of_ble_eq_true rfl) (zkv ?_) zkn9
      refine zw_astore (pc := 11) (lv' := [(4, vR x15), (3, vR x6), (0, vR p0), (1, vI p1), (2, vI p2)]) dX1_productWork_11 (by decide) rfl ?_
      refine zw_aload_n (pc := 13) dX1_productWork_13 rfl 1 rfl ?_
      obtain ⟨x19, e20, H⟩ := zbind H
      refine zy_getI (pc := 14) dX1_productWork_14 lf_X1_167 (fun _ _ => rfl) e20 ?_
      refine zw_aload (pc := 17) dX1_productWork_17 0 rfl ?_
      obtain ⟨x21, e22, H⟩ := zbind H
      refine zy_getI (pc := 19) dX1_productWork_19 lf_X1_158 (fun _ _ => rfl) e22 ?_
      rcases zif H with ⟨c23, H⟩ | ⟨c23, H⟩
      · refine zw_icmp_ne (pc := 22) (tgt := 34) dX1_productWork_22 rfl (fun q => absurd c23 q) (fun _ => ?_)
        refine zw_aload_n (pc := 25) dX1_productWork_25 rfl 1 rfl ?_
        refine zw_aload (pc := 26) dX1_productWork_26 0 rfl ?_
        obtain ⟨b24, e26, H⟩ := zbind H
        obtain ⟨e25, e27⟩ := zrv_ok e26
        obtain ⟨x29, e28, H⟩ := zbind H
        refine zw_invV (pc := 28) (M' := M_X3_workWith) (A := [vR x15]) [] dX1_productWork_28 (Or.inl q1923) mf_X3_workWith q1434 (zkq e27 rfl) (w_X3_workWith e28) (Nat.le_of_ble_eq_true rfl) rfl (by rw [← e25]; rfl) (Nat.le_of_ble_eq_true rfl) (zkv ?_) zkn9
        refine zw_goto (pc := 31) (tgt := 35) dX1_productWork_31 rfl ?_
        obtain ⟨rfl, rfl⟩ := Prod.mk.inj (Option.some.inj H)
        exact zw_iret (pc := 35) dX1_productWork_35 rfl rfl rfl
      · refine zw_icmp_ne (pc := 22) (tgt := 34) dX1_productWork_22 rfl (fun _ => ?_) (fun q => absurd q c23)
        refine zw_iconst (pc := 34) (v := (-1 : Int32)) dX1_productWork_34 (by decide) ?_
        obtain ⟨rfl, rfl⟩ := Prod.mk.inj (Option.some.inj H)
        exact zw_iret (pc := 35) dX1_productWork_35 rfl rfl rfl
    · refine zw_invV (pc := 8) (M' := M_X1_matrix) (A := [vI p2]) [] dX1_productWork_8 (Or.inl q1567) mf_X1_matrix ls_X1_matrix (zkq e13 rfl) (w_X1_matrix e14) (Nat.le_of_ble_eq_true rfl) rfl (by rw [← e11]; rfl) (Nat.le_of_ble_eq_true rfl) zkv0 (zkx ?_)
      rcases zif H with ⟨c30, H⟩ | ⟨c30, H⟩
      · have c30 := c30
        obtain ⟨rfl, rfl⟩ := Prod.mk.inj (Option.some.inj H)
        exact zx_out (zkq c30 rfl) (fun _ hz => nomatch hz) rfl rfl
      cases H
  · refine zw_invV (pc := 2) (M' := M_X1_matrix) (A := [vI p1]) [] dX1_productWork_2 (Or.inl q1567) mf_X1_matrix ls_X1_matrix (zkq e4 rfl) (w_X1_matrix e5) (Nat.le_of_ble_eq_true rfl) rfl (by rw [← e2]; rfl) (Nat.le_of_ble_eq_true rfl) zkv0 (zkx ?_)
    rcases zif H with ⟨c31, H⟩ | ⟨c31, H⟩
    · have c31 := c31
      obtain ⟨rfl, rfl⟩ := Prod.mk.inj (Option.some.inj H)
      exact zx_out (zkq c31 rfl) (fun _ hz => nomatch hz) rfl rfl
    cases H
def M_X1_sumStoredCount : zM := (yX1_sumStoredCount, cX1_sumStoredCount, 8, (.some .int), [])
theorem mf_X1_sumStoredCount : zMi M_X1_sumStoredCount 2 := ⟨⟨q1930, q180, ⟨by decide +kernel, by decide +kernel⟩, by decide +kernel, by decide⟩, q1928⟩
def B_X1_sumStoredCount_42 (k30 : Option Nat → Option Nat → Int32 → Int32 → zH → Option ((Int32 ⊕ Nat) × zH)) (k42 : Option Nat → Option Nat → Int32 → Int32 → Int32 → zH → Option ((Int32 ⊕ Nat) × zH)) (a0 : Option Nat) (a1 : Option Nat) (a2 : Int32) (a3 : Int32) (a4 : Int32) (h : zH) : Option ((Int32 ⊕ Nat) × zH) :=
  (zgI 3 1 a0 h).bind fun x1 =>
  if x1 ≤ a4 then
  k30 a0 a1 a2 (a3 + (1 : Int32)) h
  else
  (zrv 3 a0 h).bind fun b4 =>
  (f_X3_stores (some b4) a3 a4 h).bind fun x9 =>
  if x9 = 0 then
  (zrv 3 a1 h).bind fun b11 =>
  (f_X3_stores (some b11) a3 a4 h).bind fun x16 =>
  if x16 = 0 then
  k42 a0 a1 a2 a3 (a4 + (1 : Int32)) h
  else
  k42 a0 a1 (a2 + (1 : Int32)) a3 (a4 + (1 : Int32)) h
  else
  k42 a0 a1 (a2 + (1 : Int32)) a3 (a4 + (1 : Int32)) h
theorem wB_X1_sumStoredCount_42 {G : zG} {h0 h : zH} {vo : Int32 ⊕ Nat} {vh : zH} {k30 : Option Nat → Option Nat → Int32 → Int32 → zH → Option ((Int32 ⊕ Nat) × zH)} (hk30 : ∀ (b0 : Option Nat) (b1 : Option Nat) (b2 : Int32) (b3 : Int32) (h' : zH), k30 b0 b1 b2 b3 h' = some (vo, vh) → zW G M_X1_sumStoredCount 8 h0 (zoI vo) vh 30 [(3, vR b0), (4, vR b1), (5, vI b2), (6, vI b3)] [] h') {k42 : Option Nat → Option Nat → Int32 → Int32 → Int32 → zH → Option ((Int32 ⊕ Nat) × zH)} (hk42 : ∀ (b0 : Option Nat) (b1 : Option Nat) (b2 : Int32) (b3 : Int32) (b4 : Int32) (h' : zH), k42 b0 b1 b2 b3 b4 h' = some (vo, vh) → zW G M_X1_sumStoredCount 8 h0 (zoI vo) vh 42 [(3, vR b0), (4, vR b1), (5, vI b2), (6, vI b3), (7, vI b4)] [] h') {a0 : Option Nat} {a1 : Option Nat} {a2 : Int32} {a3 : Int32} {a4 : Int32} (H : B_X1_sumStoredCount_42 k30 k42 a0 a1 a2 a3 a4 h = some (vo, vh)) : zW G M_X1_sumStoredCount 8 h0 (zoI vo) vh 42 [(3, vR a0), (4, vR a1), (5, vI a2), (6, vI a3), (7, vI a4)] [] h := by
  unfold B_X1_sumStoredCount_42 at H
  refine zw_iload (pc := 42) dX1_sumStoredCount_42 4 rfl ?_
  refine zw_aload_n (pc := 44) dX1_sumStoredCount_44 rfl 0 rfl ?_
  obtain ⟨x1, e2, H⟩ := zbind H
  refine zy_getI (pc := 45) dX1_sumStoredCount_45 lf_X1_167 (fun _ _ => rfl) e2 ?_
  rcases zif H with ⟨c3, H⟩ | ⟨c3, H⟩
  · refine zw_icmp_ge (pc := 48) (tgt := 83) dX1_sumStoredCount_48 rfl (fun _ => ?_) (fun q => absurd c3 q)
    refine zw_iinc (pc := 83) (v := (a3 + (1 : Int32))) (lv' := [(6, vI (a3 + (1 : Int32))), (3, vR a0), (4, vR a1), (5, vI a2), (7, vI a4)]) dX1_sumStoredCount_83 3 rfl rfl (by decide) rfl ?_
    refine zw_goto (pc := 86) (tgt := 30) dX1_sumStoredCount_86 rfl ?_
    refine zW_pick (lv' := [(3, vR a0), (4, vR a1), (5, vI a2), (6, vI (a3 + (1 : Int32)))]) [1, 2, 3, 0] rfl ?_
    exact hk30 _ _ _ _ _ H
  · refine zw_icmp_ge (pc := 48) (tgt := 83) dX1_sumStoredCount_48 rfl (fun q => absurd q c3) (fun _ => ?_)
    refine zw_aload_n (pc := 51) dX1_sumStoredCount_51 rfl 0 rfl ?_
    refine zw_iload (pc := 52) dX1_sumStoredCount_52 3 rfl ?_
    refine zw_iload (pc := 54) dX1_sumStoredCount_54 4 rfl ?_
    obtain ⟨b4, e6, H⟩ := zbind H
    obtain ⟨e5, e7⟩ := zrv_ok e6
    obtain ⟨x9, e8, H⟩ := zbind H
    refine zw_invV (pc := 56) (M' := M_X3_stores) (A := [vI a3, vI a4]) [] dX1_sumStoredCount_56 (Or.inl q1635) mf_X3_stores q399 (zkq e7 rfl) (w_X3_stores e8) (Nat.le_of_ble_eq_true rfl) rfl (by rw [← e5]; rfl) (Nat.le_of_ble_eq_true rfl) (zkv ?_) zkn9
    rcases zif H with ⟨c10, H⟩ | ⟨c10, H⟩
    · refine zw_if_ne (pc := 59) (tgt := 74) dX1_sumStoredCount_59 rfl (fun q => absurd c10 q) (fun _ => ?_)
      refine zw_aload (pc := 62) dX1_sumStoredCount_62 1 rfl ?_
      refine zw_iload (pc := 64) dX1_sumStoredCount_64 3 rfl ?_
      refine zw_iload (pc := 66) dX1_sumStoredCount_66 4 rfl ?_
      obtain ⟨b11, e13, H⟩ := zbind H
      obtain ⟨e12, e14⟩ := zrv_ok e13
      obtain ⟨x16, e15, H⟩ := zbind H
      refine zw_invV (pc := 68) (M' := M_X3_stores) (A := [vI a3, vI a4]) [] dX1_sumStoredCount_68 (Or.inl q1635) mf_X3_stores q399 (zkq e14 rfl) (w_X3_stores e15) (Nat.le_of_ble_eq_true rfl) rfl (by rw [← e12]; rfl) (Nat.le_of_ble_eq_true rfl) (zkv ?_) zkn9
      rcases zif H with ⟨c17, H⟩ | ⟨c17, H⟩
      · refine zw_if_eq (pc := 71) (tgt := 77) dX1_sumStoredCount_71 rfl (fun _ => ?_) (fun q => absurd c17 q)
        refine zw_iinc (pc := 77) (v := (a4 + (1 : Int32))) (lv' := [(7, vI (a4 + (1 : Int32))), (3, vR a0), (4, vR a1), (5, vI a2), (6, vI a3)]) dX1_sumStoredCount_77 4 rfl rfl (by decide) rfl ?_
        refine zw_goto (pc := 80) (tgt := 42) dX1_sumStoredCount_80 rfl ?_
        refine zW_pick (lv' := [(3, vR a0), (4, vR a1), (5, vI a2), (6, vI a3), (7, vI (a4 + (1 : Int32)))]) [1, 2, 3, 4, 0] rfl ?_
        exact hk42 _ _ _ _ _ _ H
      · refine zw_if_eq (pc := 71) (tgt := 77) dX1_sumStoredCount_71 rfl (fun q => absurd q c17) (fun _ => ?_)
        refine zw_iinc (pc := 74) (v := (a2 + (1 : Int32))) (lv' := [(5, vI (a2 + (1 : Int32))), (3, vR a0), (4, vR a1), (6, vI a3), (7, vI a4)]) dX1_sumStoredCount_74 2 rfl rfl (by decide) rfl ?_
        refine zw_iinc (pc := 77) (v := (a4 + (1 : Int32))) (lv' := [(7, vI (a4 + (1 : Int32))), (5, vI (a2 + (1 : Int32))), (3, vR a0), (4, vR a1), (6, vI a3)]) dX1_sumStoredCount_77 4 rfl rfl (by decide) rfl ?_
        refine zw_goto (pc := 80) (tgt := 42) dX1_sumStoredCount_80 rfl ?_
        refine zW_pick (lv' := [(3, vR a0), (4, vR a1), (5, vI (a2 + (1 : Int32))), (6, vI a3), (7, vI (a4 + (1 : Int32)))]) [2, 3, 1, 4, 0] rfl ?_
        exact hk42 _ _ _ _ _ _ H
    · refine zw_if_ne (pc := 59) (tgt := 74) dX1_sumStoredCount_59 rfl (fun _ => ?_) (fun q => absurd q c10)
      refine zw_iinc (pc := 74) (v := (a2 + (1 : Int32))) (lv' := [(5, vI (a2 + (1 : Int32))), (3, vR a0), (4, vR a1), (6, vI a3), (7, vI a4)]) dX1_sumStoredCount_74 2 rfl rfl (by decide) rfl ?_
      refine zw_iinc (pc := 77) (v := (a4 + (1 : Int32))) (lv' := [(7, vI (a4 + (1 : Int32))), (5, vI (a2 + (1 : Int32))), (3, vR a0), (4, vR a1), (6, vI a3)]) dX1_sumStoredCount_77 4 rfl rfl (by decide) rfl ?_
      refine zw_goto (pc := 80) (tgt := 42) dX1_sumStoredCount_80 rfl ?_
      refine zW_pick (lv' := [(3, vR a0), (4, vR a1), (5, vI (a2 + (1 : Int32))), (6, vI a3), (7, vI (a4 + (1 : Int32)))]) [2, 3, 1, 4, 0] rfl ?_
      exact hk42 _ _ _ _ _ _ H
def B_X1_sumStoredCount_30 (k30 : Option Nat → Option Nat → Int32 → Int32 → zH → Option ((Int32 ⊕ Nat) × zH)) (a0 : Option Nat) (a1 : Option Nat) (a2 : Int32) (a3 : Int32) (h : zH) : Option ((Int32 ⊕ Nat) × zH) :=
  (zgI 3 0 a0 h).bind fun x1 =>
  if x1 ≤ a3 then
  some (.inl a2, h)
  else
  zloop (B_X1_sumStoredCount_42 k30) (fun _ _ _ _ _ _ => none) zFU a0 a1 a2 a3 (0 : Int32) h
theorem wB_X1_sumStoredCount_30 {G : zG} {h0 h : zH} {vo : Int32 ⊕ Nat} {vh : zH} {k30 : Option Nat → Option Nat → Int32 → Int32 → zH → Option ((Int32 ⊕ Nat) × zH)} (hk30 : ∀ (b0 : Option Nat) (b1 : Option Nat) (b2 : Int32) (b3 : Int32) (h' : zH), k30 b0 b1 b2 b3 h' = some (vo, vh) → zW G M_X1_sumStoredCount 8 h0 (zoI vo) vh 30 [(3, vR b0), (4, vR b1), (5, vI b2), (6, vI b3)] [] h') {a0 : Option Nat} {a1 : Option Nat} {a2 : Int32} {a3 : Int32} (H : B_X1_sumStoredCount_30 k30 a0 a1 a2 a3 h = some (vo, vh)) : zW G M_X1_sumStoredCount 8 h0 (zoI vo) vh 30 [(3, vR a0), (4, vR a1), (5, vI a2), (6, vI a3)] [] h := by
  unfold B_X1_sumStoredCount_30 at H
  refine zw_iload (pc := 30) dX1_sumStoredCount_30 3 rfl ?_
  refine zw_aload_n (pc := 32) dX1_sumStoredCount_32 rfl 0 rfl ?_
  obtain ⟨x1, e2, H⟩ := zbind H
  refine zy_getI (pc := 33) dX1_sumStoredCount_33 lf_X1_158 (fun _ _ => rfl) e2 ?_
  rcases zif H with ⟨c3, H⟩ | ⟨c3, H⟩
  · refine zw_icmp_ge (pc := 36) (tgt := 89) dX1_sumStoredCount_36 rfl (fun _ => ?_) (fun q => absurd c3 q)
    refine zw_iload (pc := 89) dX1_sumStoredCount_89 2 rfl ?_
    obtain ⟨rfl, rfl⟩ := Prod.mk.inj (Option.some.inj H)
    exact zw_iret (pc := 91) dX1_sumStoredCount_91 rfl rfl rfl
  · refine zw_icmp_ge (pc := 36) (tgt := 89) dX1_sumStoredCount_36 rfl (fun q => absurd q c3) (fun _ => ?_)
    refine zw_iconst (pc := 39) (v := (0 : Int32)) dX1_sumStoredCount_39 (by decide) ?_
    refine zw_istore (pc := 40) (lv' := [(7, vI (0 : Int32)), (3, vR a0), (4, vR a1), (5, vI a2), (6, vI a3)]) dX1_sumStoredCount_40 (by decide) rfl ?_
    refine zW_pick (lv' := [(3, vR a0), (4, vR a1), (5, vI a2), (6, vI a3), (7, vI (0 : Int32))]) [1, 2, 3, 4, 0] rfl ?_
    exact zloop_ind (body := (B_X1_sumStoredCount_42 k30)) (bot := (fun _ _ _ _ _ _ => none)) (P := (fun (f : Option Nat → Option Nat → Int32 → Int32 → Int32 → zH → Option ((Int32 ⊕ Nat) × zH)) => ∀ (b0 : Option Nat) (b1 : Option Nat) (b2 : Int32) (b3 : Int32) (b4 : Int32) (h' : zH), f b0 b1 b2 b3 b4 h' = some (vo, vh) → zW G M_X1_sumStoredCount 8 h0 (zoI vo) vh 42 [(3, vR b0), (4, vR b1), (5, vI b2), (6, vI b3), (7, vI b4)] [] h')) zFU (fun _ _ _ _ _ _ H => nomatch H) (fun f hf c0 c1 c2 c3 c4 h' H => wB_X1_sumStoredCount_42 hk30 hf H) _ _ _ _ _ _ H
def f_X1_sumStoredCount (p0 : Option Nat) (p1 : Int32) (p2 : Int32) (h : zH) : Option ((Int32 ⊕ Nat) × zH) :=
  (zrv 1 p0 h).bind fun b1 =>
  zb3 (f_X1_matrix (some b1) p1 h) (fun x6 h7 =>
  (zrv 1 p0 h7).bind fun b10 =>
  zb3 (f_X1_matrix (some b10) p2 h7) (fun x15 h16 =>
  (zrv 3 x6 h16).bind fun b19 =>
  (f_X3_hasSameShape (some b19) x15 h16).bind fun x24 =>
  if x24 = 0 then
  some (.inl (-1 : Int32), h16)
  else
  zloop (B_X1_sumStoredCount_30) (fun _ _ _ _ _ => none) zFU x6 x15 (0 : Int32) (0 : Int32) h16)
  (fun q17 h18 =>
  if zk h18 q17 = 20 then
  some (.inr q17, h18)
  else none))
  (fun q8 h9 =>
  if zk h9 q8 = 20 then
  some (.inr q8, h9)
  else none)
theorem w_X1_sumStoredCount {G : zG} {p0 : Option Nat} {p1 : Int32} {p2 : Int32} {h : zH} {vo : Int32 ⊕ Nat} {vh : zH} (H : f_X1_sumStoredCount p0 p1 p2 h = some (vo, vh)) : zMet G M_X1_sumStoredCount 8 [vR p0, vI p1, vI p2] h (zoI vo) vh := by
  refine zMet.of (by decide +kernel) (Nat.le_of_ble_eq_true rfl) ?_
  show zW G M_X1_sumStoredCount 8 h (zoI vo) vh 0 [(0, vR p0), (1, vI p1), (2, vI p2)] [] h
  unfold f_X1_sumStoredCount at H
  refine zw_aload_n (pc := 0) dX1_sumStoredCount_0 rfl 0 rfl ?_
  refine zw_iload_n (pc := 1) dX1_sumStoredCount_1 rfl 1 rfl ?_
  obtain ⟨b1, e3, H⟩ := zbind H
  obtain ⟨e2, e4⟩ := zrv_ok e3
  rcases zbind3 H with ⟨x6, h7, e5, H⟩ | ⟨q8, h9, e5, H⟩
  · refine zw_invV (pc := 2) (M' := M_X1_matrix) (A := [vI p1]) [] dX1_sumStoredCount_2 (Or.inl q1567) mf_X1_matrix ls_X1_matrix (zkq e4 rfl) (w_X1_matrix e5) (Nat.le_of_ble_eq_true rfl) rfl (by rw [← e2]; rfl) (Nat.le_of_ble_eq_true rfl) (zkv ?_) zkn9
    refine zw_astore_n (pc := 5) (lv' := [(3, vR x6), (0, vR p0), (1, vI p1), (2, vI p2)]) dX1_sumStoredCount_5 rfl (by decide) rfl ?_
    refine zw_aload_n (pc := 6) dX1_sumStoredCount_6 rfl 1 rfl ?_
    refine zw_iload_n (pc := 7) dX1_sumStoredCount_7 rfl 3 rfl ?_
    obtain ⟨b10, e12, H⟩ := zbind H
    obtain ⟨e11, e13⟩ := zrv_ok e12
    rcases zbind3 H with ⟨x15, h16, e14, H⟩ | ⟨q17, h18, e14, H⟩
    · refine zw_invV (pc := 8) (M' := M_X1_matrix) (A := [vI p2]) [] dX1_sumStoredCount_8 (Or.inl q1567) mf_X1_matrix ls_X1_matrix (zkq e13 rfl) (w_X1_matrix e14) (Nat.le_of_ble_eq_true rfl) rfl (by rw [← e11]; rfl) (Nat.le_of_ble_eq_true rfl) (zkv ?_) zkn9
      refine zw_astore (pc := 11) (lv' := [(4, vR x15), (3, vR x6), (0, vR p0), (1, vI p1), (2, vI p2)]) dX1_sumStoredCount_11 (by decide) rfl ?_
      refine zw_aload_n (pc := 13) dX1_sumStoredCount_13 rfl 1 rfl ?_
      refine zw_aload (pc := 14) dX1_sumStoredCount_14 0 rfl ?_
      obtain ⟨b19, e21, H⟩ := zbind H
      obtain ⟨e20, e22⟩ := zrv_ok e21
      obtain ⟨x24, e23, H⟩ := zbind H
      refine zw_invV (pc := 16) (M' := M_X3_hasSameShape) (A := [vR x15]) [] dX1_sumStoredCount_16 (Or.inl q1931) mf_X3_hasSameShape q506 (zkq e22 rfl) (w_X3_hasSameShape e23) (Nat.le_of_ble_eq_true rfl) rfl (by rw [← e20]; rfl) (Nat.le_of_ble_eq_true rfl) (zkv ?_) zkn9
      rcases zif H with ⟨c25, H⟩ | ⟨c25, H⟩
      · refine zw_if_ne (pc := 19) (tgt := 24) dX1_sumStoredCount_19 rfl (fun q => absurd c25 q) (fun _ => ?_)
        refine zw_iconst (pc := 22) (v := (-1 : Int32)) dX1_sumStoredCount_22 (by decide) ?_
        obtain ⟨rfl, rfl⟩ := Prod.mk.inj (Option.some.inj H)
        exact zw_iret (pc := 23) dX1_sumStoredCount_23 rfl rfl rfl
      · refine zw_if_ne (pc := 19) (tgt := 24) dX1_sumStoredCount_19 rfl (fun _ => ?_) (fun q => absurd q c25)
        refine zw_iconst (pc := 24) (v := (0 : Int32)) dX1_sumStoredCount_24 (by decide) ?_
        refine zw_istore (pc := 25) (lv' := [(5, vI (0 : Int32)), (4, vR x15), (3, vR x6), (0, vR p0), (1, vI p1), (2, vI p2)]) dX1_sumStoredCount_25 (by decide) rfl ?_
        refine zw_iconst (pc := 27) (v := (0 : Int32)) dX1_sumStoredCount_27 (by decide) ?_
        refine zw_istore (pc := 28) (lv' := [(6, vI (0 : Int32)), (5, vI (0 : Int32)), (4, vR x15), (3, vR x6), (0, vR p0), (1, vI p1), (2, vI p2)]) dX1_sumStoredCount_28 (by decide) rfl ?_
        refine zW_pick (lv' := [(3, vR x6), (4, vR x15), (5, vI (0 : Int32)), (6, vI (0 : Int32))]) [3, 2, 1, 0] rfl ?_
        exact zloop_ind (body := (B_X1_sumStoredCount_30)) (bot := (fun _ _ _ _ _ => none)) (P := (fun (f : Option Nat → Option Nat → Int32 → Int32 → zH → Option ((Int32 ⊕ Nat) × zH)) => ∀ (b0 : Option Nat) (b1 : Option Nat) (b2 : Int32) (b3 : Int32) (h' : zH), f b0 b1 b2 b3 h' = some (vo, vh) → zW G M_X1_sumStoredCount 8 h (zoI vo) vh 30 [(3, vR b0), (4, vR b1), (5, vI b2), (6, vI b3)] [] h')) zFU (fun _ _ _ _ _ H => nomatch H) (fun f hf c0 c1 c2 c3 h' H => wB_X1_sumStoredCount_30 hf H) _ _ _ _ _ H
    · refine zw_invV (pc := 8) (M' := M_X1_matrix) (A := [vI p2]) [] dX1_sumStoredCount_8 (Or.inl q1567) mf_X1_matrix ls_X1_matrix (zkq e13 rfl) (w_X1_matrix e14) (Nat.le_of_ble_eq_true rfl) rfl (by rw [← e11]; rfl) (Nat.le_of_ble_eq_true rfl) zkv0 (zkx ?_)
      rcases zif H with ⟨c26, H⟩ | ⟨c26, H⟩
      · have c26 := c26
        obtain ⟨rfl, rfl⟩ := Prod.mk.inj (Option.some.inj H)
        exact zx_out (zkq c26 rfl) (fun _ hz => nomatch hz) rfl rfl
      cases H
  · refine zw_invV (pc := 2) (M' := M_X1_matrix) (A := [vI p1]) [] dX1_sumStoredCount_2 (Or.inl q1567) mf_X1_matrix ls_X1_matrix (zkq e4 rfl) (w_X1_matrix e5) (Nat.le_of_ble_eq_true rfl) rfl (by rw [← e2]; rfl) (Nat.le_of_ble_eq_true rfl) zkv0 (zkx ?_)
    rcases zif H with ⟨c27, H⟩ | ⟨c27, H⟩
    · have c27 := c27
      obtain ⟨rfl, rfl⟩ := Prod.mk.inj (Option.some.inj H)
      exact zx_out (zkq c27 rfl) (fun _ hz => nomatch hz) rfl rfl
    cases H
def M_X1_costliestEntry : zM := (yX1_costliestEntry, cX1_costliestEntry, 7, (.some .int), [])
theorem mf_X1_costliestEntry : zMi M_X1_costliestEntry 2 := ⟨⟨q1938, q180, ⟨by decide +kernel, by decide +kernel⟩, by decide +kernel, by decide⟩, q1936⟩
def B_X1_costliestEntry_19 (k19 : Option Nat → Option Nat → Int32 → Int32 → zH → Option ((Int32 ⊕ Nat) × zH)) (a0 : Option Nat) (a1 : Option Nat) (a2 : Int32) (a3 : Int32) (h : zH) : Option ((Int32 ⊕ Nat) × zH) :=
  (zrv 3 a0 h).bind fun b1 =>
  (f_X3_stored (some b1) h).bind fun x6 =>
  if x6 ≤ a3 then
  some (.inl a2, h)
  else
  (zgI 3 1 a0 h).bind fun x8 =>
  (zgI 3 0 a1 h).bind fun x10 =>
  if x8 = x10 then
  if a2 = (-1 : Int32) then
  k19 a0 a1 a3 (a3 + (1 : Int32)) h
  else
  (zgR 3 3 a0 h).bind fun x14 =>
  (zaI 50 x14 a3 h).bind fun x16 =>
  (zrv 3 a1 h).bind fun b18 =>
  (f_X3_rowLength (some b18) x16 h).bind fun x23 =>
  (zgR 3 3 a0 h).bind fun x24 =>
  (zaI 50 x24 a2 h).bind fun x26 =>
  (zrv 3 a1 h).bind fun b28 =>
  (f_X3_rowLength (some b28) x26 h).bind fun x33 =>
  if x23 ≤ x33 then
  k19 a0 a1 a2 (a3 + (1 : Int32)) h
  else
  k19 a0 a1 a3 (a3 + (1 : Int32)) h
  else
  some (.inl a2, h)
theorem wB_X1_costliestEntry_19 {G : zG} {h0 h : zH} {vo : Int32 ⊕ Nat} {vh : zH} {k19 : Option Nat → Option Nat → Int32 → Int32 → zH → Option ((Int32 ⊕ Nat) × zH)} (hk19 : ∀ (b0 : Option Nat) (b1 : Option Nat) (b2 : Int32) (b3 : Int32) (h' : zH), k19 b0 b1 b2 b3 h' = some (vo, vh) → zW G M_X1_costliestEntry 8 h0 (zoI vo) vh 19 [(3, vR b0), (4, vR b1), (5, vI b2), (6, vI b3)] [] h') {a0 : Option Nat} {a1 : Option Nat} {a2 : Int32} {a3 : Int32} (H : B_X1_costliestEntry_19 k19 a0 a1 a2 a3 h = some (vo, vh)) : zW G M_X1_costliestEntry 8 h0 (zoI vo) vh 19 [(3, vR a0), (4, vR a1), (5, vI a2), (6, vI a3)] [] h := by
  unfold B_X1_costliestEntry_19 at H
  refine zw_iload (pc := 19) dX1_costliestEntry_19 3 rfl ?_
  refine zw_aload_n (pc := 21) dX1_costliestEntry_21 rfl 0 rfl ?_
  obtain ⟨b1, e3, H⟩ := zbind H
  obtain ⟨e2, e4⟩ := zrv_ok e3
  obtain ⟨x6, e5, H⟩ := zbind H
  refine zw_invV (pc := 22) (M' := M_X3_stored) (A := []) [vI a3] dX1_costliestEntry_22 (Or.inl q1623) mf_X3_stored q510 (zkq e4 rfl) (w_X3_stored e5) (Nat.le_of_ble_eq_true rfl) rfl (by rw [← e2]; rfl) (Nat.le_of_ble_eq_true rfl) (zkv ?_) zkn9
  rcases zif H with ⟨c7, H⟩ | ⟨c7, H⟩
  · refine zw_icmp_ge (pc := 25) (tgt := 83) dX1_costliestEntry_25 rfl (fun _ => ?_) (fun q => absurd c7 q)
    refine zw_iload (pc := 83) dX1_costliestEntry_83 2 rfl ?_
    obtain ⟨rfl, rfl⟩ := Prod.mk.inj (Option.some.inj H)
    exact zw_iret (pc := 85) dX1_costliestEntry_85 rfl rfl rfl
  · refine zw_icmp_ge (pc := 25) (tgt := 83) dX1_costliestEntry_25 rfl (fun q => absurd q c7) (fun _ => ?_)
    refine zw_aload_n (pc := 28) dX1_costliestEntry_28 rfl 0 rfl ?_
    obtain ⟨x8, e9, H⟩ := zbind H
    refine zy_getI (pc := 29) dX1_costliestEntry_29 lf_X1_167 (fun _ _ => rfl) e9 ?_
    refine zw_aload (pc := 32) dX1_costliestEntry_32 1 rfl ?_
    obtain ⟨x10, e11, H⟩ := zbind H
    refine zy_getI (pc := 34) dX1_costliestEntry_34 lf_X1_158 (fun _ _ => rfl) e11 ?_
    rcases zif H with ⟨c12, H⟩ | ⟨c12, H⟩
    · refine zw_icmp_ne (pc := 37) (tgt := 83) dX1_costliestEntry_37 rfl (fun q => absurd c12 q) (fun _ => ?_)
      refine zw_iload (pc := 40) dX1_costliestEntry_40 2 rfl ?_
      refine zw_iconst (pc := 42) (v := (-1 : Int32)) dX1_costliestEntry_42 (by decide) ?_
      rcases zif H with ⟨c13, H⟩ | ⟨c13, H⟩
      · refine zw_icmp_eq (pc := 43) (tgt := 73) dX1_costliestEntry_43 rfl (fun _ => ?_) (fun q => absurd c13 q)
        refine zw_iload (pc := 73) dX1_costliestEntry_73 3 rfl ?_
        refine zw_istore (pc := 75) (lv' := [(5, vI a3), (3, vR a0), (4, vR a1), (6, vI a3)]) dX1_costliestEntry_75 (by decide) rfl ?_
        refine zw_iinc (pc := 77) (v := (a3 + (1 : Int32))) (lv' := [(6, vI (a3 + (1 : Int32))), (5, vI a3), (3, vR a0), (4, vR a1)]) dX1_costliestEntry_77 3 rfl rfl (by decide) rfl ?_
        refine zw_goto (pc := 80) (tgt := 19) dX1_costliestEntry_80 rfl ?_
        refine zW_pick (lv' := [(3, vR a0), (4, vR a1), (5, vI a3), (6, vI (a3 + (1 : Int32)))]) [2, 3, 1, 0] rfl ?_
        exact hk19 _ _ _ _ _ H
      · refine zw_icmp_eq (pc := 43) (tgt := 73) dX1_costliestEntry_43 rfl (fun q => absurd q c13) (fun _ => ?_)
        refine zw_aload (pc := 46) dX1_costliestEntry_46 1 rfl ?_
        refine zw_aload_n (pc := 48) dX1_costliestEntry_48 rfl 0 rfl ?_
        obtain ⟨x14, e15, H⟩ := zbind H
        refine zy_getR (pc := 49) dX1_costliestEntry_49 lf_X1_231 (fun _ _ => rfl) e15 ?_
        refine zw_iload (pc := 52) dX1_costliestEntry_52 3 rfl ?_
        obtain ⟨x16, e17, H⟩ := zbind H
        refine zy_iald (pc := 54) dX1_costliestEntry_54 e17 ?_
        obtain ⟨b18, e20, H⟩ := zbind H
        obtain ⟨e19, e21⟩ := zrv_ok e20
        obtain ⟨x23, e22, H⟩ := zbind H
        refine zw_invV (pc := 55) (M' := M_X3_rowLength) (A := [vI x16]) [] dX1_costliestEntry_55 (Or.inl q1668) mf_X3_rowLength q1438 (zkq e21 rfl) (w_X3_rowLength e22) (Nat.le_of_ble_eq_true rfl) rfl (by rw [← e19]; rfl) (Nat.le_of_ble_eq_true rfl) (zkv ?_) zkn9
        refine zw_aload (pc := 58) dX1_costliestEntry_58 1 rfl ?_
        refine zw_aload_n (pc := 60) dX1_costliestEntry_60 rfl 0 rfl ?_
        obtain ⟨x24, e25, H⟩ := zbind H
        refine zy_getR (pc := 61) dX1_costliestEntry_61 lf_X1_231 (fun _ _ => rfl) e25 ?_
        refine zw_iload (pc := 64) dX1_costliestEntry_64 2 rfl ?_
        obtain ⟨x26, e27, H⟩ := zbind H
        refine zy_iald (pc := 66) dX1_costliestEntry_66 e27 ?_
        obtain ⟨b28, e30, H⟩ := zbind H
        obtain ⟨e29, e31⟩ := zrv_ok e30
        obtain ⟨x33, e32, H⟩ := zbind H
        refine zw_invV (pc := 67) (M' := M_X3_rowLength) (A := [vI x26]) [vI x23] dX1_costliestEntry_67 (Or.inl q1668) mf_X3_rowLength q1438 (zkq e31 rfl) (w_X3_rowLength e32) (Nat.le_of_ble_eq_true rfl) rfl (by rw [← e29]; rfl) (Nat.le_of_ble_eq_true rfl) (zkv ?_) zkn9
        rcases zif H with ⟨c34, H⟩ | ⟨c34, H⟩
        · refine zw_icmp_le (pc := 70) (tgt := 77) dX1_costliestEntry_70 rfl (fun _ => ?_) (fun q => absurd c34 q)
          refine zw_iinc (pc := 77) (v := (a3 + (1 : Int32))) (lv' := [(6, vI (a3 + (1 : Int32))), (3, vR a0), (4, vR a1), (5, vI a2)]) dX1_costliestEntry_77 3 rfl rfl (by decide) rfl ?_
          refine zw_goto (pc := 80) (tgt := 19) dX1_costliestEntry_80 rfl ?_
          refine zW_pick (lv' := [(3, vR a0), (4, vR a1), (5, vI a2), (6, vI (a3 + (1 : Int32)))]) [1, 2, 3, 0] rfl ?_
          exact hk19 _ _ _ _ _ H
        · refine zw_icmp_le (pc := 70) (tgt := 77) dX1_costliestEntry_70 rfl (fun q => absurd q c34) (fun _ => ?_)
          refine zw_iload (pc := 73) dX1_costliestEntry_73 3 rfl ?_
          refine zw_istore (pc := 75) (lv' := [(5, vI a3), (3, vR a0), (4, vR a1), (6, vI a3)]) dX1_costliestEntry_75 (by decide) rfl ?_
          refine zw_iinc (pc := 77) (v := (a3 + (1 : Int32))) (lv' := [(6, vI (a3 + (1 : Int32))), (5, vI a3), (3, vR a0), (4, vR a1)]) dX1_costliestEntry_77 3 rfl rfl (by decide) rfl ?_
          refine zw_goto (pc := 80) (tgt := 19) dX1_costliestEntry_80 rfl ?_
          refine zW_pick (lv' := [(3, vR a0), (4, vR a1), (5, vI a3), (6, vI (a3 + (1 : Int32)))]) [2, 3, 1, 0] rfl ?_
          exact hk19 _ _ _ _ _ H
    · refine zw_icmp_ne (pc := 37) (tgt := 83) dX1_costliestEntry_37 rfl (fun _ => ?_) (fun q => absurd q c12)
      refine zw_iload (pc := 83) dX1_costliestEntry_83 2 rfl ?_
      obtain ⟨rfl, rfl⟩ := Prod.mk.inj (Option.some.inj H)
      exact zw_iret (pc := 85) dX1_costliestEntry_85 rfl rfl rfl
def f_X1_costliestEntry (p0 : Option Nat) (p1 : Int32) (p2 : Int32) (h : zH) : Option ((Int32 ⊕ Nat) × zH) :=
  (zrv 1 p0 h).bind fun b1 =>
  zb3 (f_X1_matrix (some b1) p1 h) (fun x6 h7 =>
  (zrv 1 p0 h7).bind fun b10 =>
  zb3 (f_X1_matrix (some b10) p2 h7) (fun x15 h16 =>
  zloop (B_X1_costliestEntry_19) (fun _ _ _ _ _ => none) zFU x6 x15 (-1 : Int32) (0 : Int32) h16)
  (fun q17 h18 =>
  if zk h18 q17 = 20 then
  some (.inr q17, h18)
  else none))
  (fun q8 h9 =>
  if zk h9 q8 = 20 then
  some (.inr q8, h9)
  else none)
theorem w_X1_costliestEntry {G : zG} {p0 : Option Nat} {p1 : Int32} {p2 : Int32} {h : zH} {vo : Int32 ⊕ Nat} {vh : zH} (H : f_X1_costliestEntry p0 p1 p2 h = some (vo, vh)) : zMet G M_X1_costliestEntry 8 [vR p0, vI p1, vI p2] h (zoI vo) vh := by
  refine zMet.of (by decide +kernel) (Nat.le_of_ble_eq_true rfl) ?_
  show zW G M_X1_costliestEntry 8 h (zoI vo) vh 0 [(0, vR p0), (1, vI p1), (2, vI p2)] [] h
  unfold f_X1_costliestEntry at H
  refine zw_aload_n (pc := 0) dX1_costliestEntry_0 rfl 0 rfl ?_
  refine zw_iload_n (pc := 1) dX1_costliestEntry_1 rfl 1 rfl ?_
  obtain ⟨b1, e3, H⟩ := zbind H
  obtain ⟨e2, e4⟩ := zrv_ok e3
  rcases zbind3 H with ⟨x6, h7, e5, H⟩ | ⟨q8, h9, e5, H⟩
  · refine zw_invV (pc := 2) (M' := M_X1_matrix) (A := [vI p1]) [] dX1_costliestEntry_2 (Or.inl q1567) mf_X1_matrix ls_X1_matrix (zkq e4 rfl) (w_X1_matrix e5) (Nat.le_of_ble_eq_true rfl) rfl (by rw [← e2]; rfl) (Nat.le_of_ble_eq_true rfl) (zkv ?_) zkn9
    refine zw_astore_n (pc := 5) (lv' := [(3, vR x6), (0, vR p0), (1, vI p1), (2, vI p2)]) dX1_costliestEntry_5 rfl (by decide) rfl ?_
    refine zw_aload_n (pc := 6) dX1_costliestEntry_6 rfl 1 rfl ?_
    refine zw_iload_n (pc := 7) dX1_costliestEntry_7 rfl 3 rfl ?_
    obtain ⟨b10, e12, H⟩ := zbind H
    obtain ⟨e11, e13⟩ := zrv_ok e12
    rcases zbind3 H with ⟨x15, h16, e14, H⟩ | ⟨q17, h18, e14, H⟩
    · refine zw_invV (pc := 8) (M' := M_X1_matrix) (A := [vI p2]) [] dX1_costliestEntry_8 (Or.inl q1567) mf_X1_matrix ls_X1_matrix (zkq e13 rfl) (w_X1_matrix e14) (Nat.le_of_ble_eq_true rfl) rfl (by rw [← e11]; rfl) (Nat.le_of_ble_eq_true rfl) (zkv ?_) zkn9
      refine zw_astore (pc := 11) (lv' := [(4, vR x15), (3, vR x6), (0, vR p0), (1, vI p1), (2, vI p2)]) dX1_costliestEntry_11 (by decide) rfl ?_
      refine zw_iconst (pc := 13) (v := (-1 : Int32)) dX1_costliestEntry_13 (by decide) ?_
      refine zw_istore (pc := 14) (lv' := [(5, vI (-1 : Int32)), (4, vR x15), (3, vR x6), (0, vR p0), (1, vI p1), (2, vI p2)]) dX1_costliestEntry_14 (by decide) rfl ?_
      refine zw_iconst (pc := 16) (v := (0 : Int32)) dX1_costliestEntry_16 (by decide) ?_
      refine zw_istore (pc := 17) (lv' := [(6, vI (0 : Int32)), (5, vI (-1 : Int32)), (4, vR x15), (3, vR x6), (0, vR p0), (1, vI p1), (2, vI p2)]) dX1_costliestEntry_17 (by decide) rfl ?_
      refine zW_pick (lv' := [(3, vR x6), (4, vR x15), (5, vI (-1 : Int32)), (6, vI (0 : Int32))]) [3, 2, 1, 0] rfl ?_
      exact zloop_ind (body := (B_X1_costliestEntry_19)) (bot := (fun _ _ _ _ _ => none)) (P := (fun (f : Option Nat → Option Nat → Int32 → Int32 → zH → Option ((Int32 ⊕ Nat) × zH)) => ∀ (b0 : Option Nat) (b1 : Option Nat) (b2 : Int32) (b3 : Int32) (h' : zH), f b0 b1 b2 b3 h' = some (vo, vh) → zW G M_X1_costliestEntry 8 h (zoI vo) vh 19 [(3, vR b0), (4, vR b1), (5, vI b2), (6, vI b3)] [] h')) zFU (fun _ _ _ _ _ H => nomatch H) (fun f hf c0 c1 c2 c3 h' H => wB_X1_costliestEntry_19 hf H) _ _ _ _ _ H
    · refine zw_invV (pc := 8) (M' := M_X1_matrix) (A := [vI p2]) [] dX1_costliestEntry_8 (Or.inl q1567) mf_X1_matrix ls_X1_matrix (zkq e13 rfl) (w_X1_matrix e14) (Nat.le_of_ble_eq_true rfl) rfl (by rw [← e11]; rfl) (Nat.le_of_ble_eq_true rfl) zkv0 (zkx ?_)
      rcases zif H with ⟨c19, H⟩ | ⟨c19, H⟩
      · have c19 := c19
        obtain ⟨rfl, rfl⟩ := Prod.mk.inj (Option.some.inj H)
        exact zx_out (zkq c19 rfl) (fun _ hz => nomatch hz) rfl rfl
      cases H
  · refine zw_invV (pc := 2) (M' := M_X1_matrix) (A := [vI p1]) [] dX1_costliestEntry_2 (Or.inl q1567) mf_X1_matrix ls_X1_matrix (zkq e4 rfl) (w_X1_matrix e5) (Nat.le_of_ble_eq_true rfl) rfl (by rw [← e2]; rfl) (Nat.le_of_ble_eq_true rfl) zkv0 (zkx ?_)
    rcases zif H with ⟨c20, H⟩ | ⟨c20, H⟩
    · have c20 := c20
      obtain ⟨rfl, rfl⟩ := Prod.mk.inj (Option.some.inj H)
      exact zx_out (zkq c20 rfl) (fun _ hz => nomatch hz) rfl rfl
    cases H
def M_X1_density : zM := (yX1_density, cX1_density, 3, (.some .float), [])
theorem mf_X1_density : zMi M_X1_density 1 := ⟨⟨q1945, q180, ⟨by decide +kernel, by decide +kernel⟩, by decide +kernel, by decide⟩, q1943⟩
def f_X1_density (p0 : Option Nat) (p1 : Int32) (h : zH) : Option ((UInt32 ⊕ Nat) × zH) :=
  (zrv 1 p0 h).bind fun b1 =>
  zb3 (f_X1_matrix (some b1) p1 h) (fun x6 h7 =>
  (zrv 3 x6 h7).bind fun b10 =>
  (f_X3_stored (some b10) h7).bind fun x15 =>
  (zgI 3 0 x6 h7).bind fun x16 =>
  (zgI 3 1 x6 h7).bind fun x18 =>
  if (FP.fdiv (FP.i2f x15) (FP.i2f (x16 * x18))) &&& 0x7fffffff ≤ 0x7f800000 then
  some (.inl (FP.fdiv (FP.i2f x15) (FP.i2f (x16 * x18))), h7)
  else none)
  (fun q8 h9 =>
  if zk h9 q8 = 20 then
  some (.inr q8, h9)
  else none)
theorem w_X1_density {G : zG} {p0 : Option Nat} {p1 : Int32} {h : zH} {vo : UInt32 ⊕ Nat} {vh : zH} (H : f_X1_density p0 p1 h = some (vo, vh)) : zMet G M_X1_density 8 [vR p0, vI p1] h (zoF vo) vh := by
  refine zMet.of (by decide +kernel) (Nat.le_of_ble_eq_true rfl) ?_
  show zW G M_X1_density 8 h (zoF vo) vh 0 [(0, vR p0), (1, vI p1)] [] h
  unfold f_X1_density at H
  refine zw_aload_n (pc := 0) dX1_density_0 rfl 0 rfl ?_
  refine zw_iload_n (pc := 1) dX1_density_1 rfl 1 rfl ?_
  obtain ⟨b1, e3, H⟩ := zbind H
  obtain ⟨e2, e4⟩ := zrv_ok e3
  rcases zbind3 H with ⟨x6, h7, e5, H⟩ | ⟨q8, h9, e5, H⟩
  · refine zw_invV (pc := 2) (M' := M_X1_matrix) (A := [vI p1]) [] dX1_density_2 (Or.inl q1567) mf_X1_matrix ls_X1_matrix (zkq e4 rfl) (w_X1_matrix e5) (Nat.le_of_ble_eq_true rfl) rfl (by rw [← e2]; rfl) (Nat.le_of_ble_eq_true rfl) (zkv ?_) zkn9
    refine zw_astore_n (pc := 5) (lv' := [(2, vR x6), (0, vR p0), (1, vI p1)]) dX1_density_5 rfl (by decide) rfl ?_
    refine zw_aload_n (pc := 6) dX1_density_6 rfl 0 rfl ?_
    obtain ⟨b10, e12, H⟩ := zbind H
    obtain ⟨e11, e13⟩ := zrv_ok e12
    obtain ⟨x15, e14, H⟩ := zbind H
    refine zw_invV (pc := 7) (M' := M_X3_stored) (A := []) [] dX1_density_7 (Or.inl q1623) mf_X3_stored q510 (zkq e13 rfl) (w_X3_stored e14) (Nat.le_of_ble_eq_true rfl) rfl (by rw [← e11]; rfl) (Nat.le_of_ble_eq_true rfl) (zkv ?_) zkn9
    refine zw_i2f (pc := 10) dX1_density_10 ?_
    refine zw_aload_n (pc := 11) dX1_density_11 rfl 0 rfl ?_
    obtain ⟨x16, e17, H⟩ := zbind H
    refine zy_getI (pc := 12) dX1_density_12 lf_X1_158 (fun _ _ => rfl) e17 ?_
    refine zw_aload_n (pc := 15) dX1_density_15 rfl 0 rfl ?_
    obtain ⟨x18, e19, H⟩ := zbind H
    refine zy_getI (pc := 16) dX1_density_16 lf_X1_167 (fun _ _ => rfl) e19 ?_
    refine zw_imul (pc := 19) dX1_density_19 ?_
    refine zw_i2f (pc := 20) dX1_density_20 ?_
    obtain ⟨c20, H⟩ := zgd H
    refine zw_fdiv (pc := 21) dX1_density_21 c20 ?_
    obtain ⟨rfl, rfl⟩ := Prod.mk.inj (Option.some.inj H)
    exact zw_fret (pc := 22) dX1_density_22 rfl rfl rfl
  · refine zw_invV (pc := 2) (M' := M_X1_matrix) (A := [vI p1]) [] dX1_density_2 (Or.inl q1567) mf_X1_matrix ls_X1_matrix (zkq e4 rfl) (w_X1_matrix e5) (Nat.le_of_ble_eq_true rfl) rfl (by rw [← e2]; rfl) (Nat.le_of_ble_eq_true rfl) zkv0 (zkx ?_)
    rcases zif H with ⟨c21, H⟩ | ⟨c21, H⟩
    · have c21 := c21
      obtain ⟨rfl, rfl⟩ := Prod.mk.inj (Option.some.inj H)
      exact zx_out (zkq c21 rfl) (fun _ hz => nomatch hz) rfl rfl
    cases H
def M_X1_meanStoredValue : zM := (yX1_meanStoredValue, cX1_meanStoredValue, 9, (.some .double), [])
theorem mf_X1_meanStoredValue : zMi M_X1_meanStoredValue 1 := ⟨⟨q1952, q180, ⟨by decide +kernel, by decide +kernel⟩, by decide +kernel, by decide⟩, q1950⟩
def B_X1_meanStoredValue_48 (a0 : Option Nat) (a1 : Int64) (h : zH) : Option ((UInt64 ⊕ Nat) × zH) :=
  (zrv 3 a0 h).bind fun b1 =>
  (f_X3_stored (some b1) h).bind fun x6 =>
  if x6 = 0 then
  some (.inl (0 : UInt64), h)
  else
  (zrv 3 a0 h).bind fun b8 =>
  (f_X3_stored (some b8) h).bind fun x13 =>
  if (FP.ddiv (FP.l2d a1) (FP.i2d x13)) &&& 0x7fffffffffffffff ≤ 0x7ff0000000000000 then
  some (.inl (FP.ddiv (FP.l2d a1) (FP.i2d x13)), h)
  else none
theorem wB_X1_meanStoredValue_48 {G : zG} {h0 h : zH} {vo : UInt64 ⊕ Nat} {vh : zH} {a0 : Option Nat} {a1 : Int64} (H : B_X1_meanStoredValue_48 a0 a1 h = some (vo, vh)) : zW G M_X1_meanStoredValue 8 h0 (zoD vo) vh 48 [(2, vR a0), (3, vJ a1)] [] h := by
  unfold B_X1_meanStoredValue_48 at H
  refine zw_aload_n (pc := 48) dX1_meanStoredValue_48 rfl 0 rfl ?_
  obtain ⟨b1, e3, H⟩ := zbind H
  obtain ⟨e2, e4⟩ := zrv_ok e3
  obtain ⟨x6, e5, H⟩ := zbind H
  refine zw_invV (pc := 49) (M' := M_X3_stored) (A := []) [] dX1_meanStoredValue_49 (Or.inl q1623) mf_X3_stored q510 (zkq e4 rfl) (w_X3_stored e5) (Nat.le_of_ble_eq_true rfl) rfl (by rw [← e2]; rfl) (Nat.le_of_ble_eq_true rfl) (zkv ?_) zkn9
  rcases zif H with ⟨c7, H⟩ | ⟨c7, H⟩
  · refine zw_if_ne (pc := 52) (tgt := 59) dX1_meanStoredValue_52 rfl (fun q => absurd c7 q) (fun _ => ?_)
    refine zw_dconst0 (pc := 55) dX1_meanStoredValue_55 ?_
    refine zw_goto (pc := 56) (tgt := 67) dX1_meanStoredValue_56 rfl ?_
    obtain ⟨rfl, rfl⟩ := Prod.mk.inj (Option.some.inj H)
    exact zw_dret (pc := 67) dX1_meanStoredValue_67 rfl rfl rfl
  · refine zw_if_ne (pc := 52) (tgt := 59) dX1_meanStoredValue_52 rfl (fun _ => ?_) (fun q => absurd q c7)
    refine zw_lload_n (pc := 59) dX1_meanStoredValue_59 rfl 1 rfl ?_
    refine zw_l2d (pc := 60) dX1_meanStoredValue_60 ?_
    refine zw_aload_n (pc := 61) dX1_meanStoredValue_61 rfl 0 rfl ?_
    obtain ⟨b8, e10, H⟩ := zbind H
    obtain ⟨e9, e11⟩ := zrv_ok e10
    obtain ⟨x13, e12, H⟩ := zbind H
    refine zw_invV (pc := 62) (M' := M_X3_stored) (A := []) [vD (FP.l2d a1)] dX1_meanStoredValue_62 (Or.inl q1623) mf_X3_stored q510 (zkq e11 rfl) (w_X3_stored e12) (Nat.le_of_ble_eq_true rfl) rfl (by rw [← e9]; rfl) (Nat.le_of_ble_eq_true rfl) (zkv ?_) zkn9
    refine zw_i2d (pc := 65) dX1_meanStoredValue_65 ?_
    obtain ⟨c14, H⟩ := zgd H
    refine zw_ddiv (pc := 66) dX1_meanStoredValue_66 c14 ?_
    obtain ⟨rfl, rfl⟩ := Prod.mk.inj (Option.some.inj H)
    exact zw_dret (pc := 67) dX1_meanStoredValue_67 rfl rfl rfl
def B_X1_meanStoredValue_22 (k22 : Option Nat → Int64 → Option Nat → Int32 → Int32 → zH → Option ((UInt64 ⊕ Nat) × zH)) (a0 : Option Nat) (a1 : Int64) (a2 : Option Nat) (a3 : Int32) (a4 : Int32) (h : zH) : Option ((UInt64 ⊕ Nat) × zH) :=
  if a3 ≤ a4 then
  B_X1_meanStoredValue_48 a0 a1 h
  else
  (zaI 50 a2 a4 h).bind fun x2 =>
  k22 a0 (a1 + x2.toInt64) a2 a3 (a4 + (1 : Int32)) h
theorem wB_X1_meanStoredValue_22 {G : zG} {h0 h : zH} {vo : UInt64 ⊕ Nat} {vh : zH} {k22 : Option Nat → Int64 → Option Nat → Int32 → Int32 → zH → Option ((UInt64 ⊕ Nat) × zH)} (hk22 : ∀ (b0 : Option Nat) (b1 : Int64) (b2 : Option Nat) (b3 : Int32) (b4 : Int32) (h' : zH), k22 b0 b1 b2 b3 b4 h' = some (vo, vh) → zW G M_X1_meanStoredValue 8 h0 (zoD vo) vh 22 [(2, vR b0), (3, vJ b1), (5, vR b2), (6, vI b3), (7, vI b4)] [] h') {a0 : Option Nat} {a1 : Int64} {a2 : Option Nat} {a3 : Int32} {a4 : Int32} (H : B_X1_meanStoredValue_22 k22 a0 a1 a2 a3 a4 h = some (vo, vh)) : zW G M_X1_meanStoredValue 8 h0 (zoD vo) vh 22 [(2, vR a0), (3, vJ a1), (5, vR a2), (6, vI a3), (7, vI a4)] [] h := by
  unfold B_X1_meanStoredValue_22 at H
  refine zw_iload (pc := 22) dX1_meanStoredValue_22 4 rfl ?_
  refine zw_iload (pc := 24) dX1_meanStoredValue_24 3 rfl ?_
  rcases zif H with ⟨c1, H⟩ | ⟨c1, H⟩
  · refine zw_icmp_ge (pc := 26) (tgt := 48) dX1_meanStoredValue_26 rfl (fun _ => ?_) (fun q => absurd c1 q)
    refine zW_pick (lv' := [(2, vR a0), (3, vJ a1)]) [0, 1] rfl ?_
    exact wB_X1_meanStoredValue_48 H
  · refine zw_icmp_ge (pc := 26) (tgt := 48) dX1_meanStoredValue_26 rfl (fun q => absurd q c1) (fun _ => ?_)
    refine zw_aload (pc := 29) dX1_meanStoredValue_29 2 rfl ?_
    refine zw_iload (pc := 31) dX1_meanStoredValue_31 4 rfl ?_
    obtain ⟨x2, e3, H⟩ := zbind H
    refine zy_iald (pc := 33) dX1_meanStoredValue_33 e3 ?_
    refine zw_istore (pc := 34) (lv' := [(8, vI x2), (2, vR a0), (3, vJ a1), (5, vR a2), (6, vI a3), (7, vI a4)]) dX1_meanStoredValue_34 (by decide) rfl ?_
    refine zw_lload_n (pc := 36) dX1_meanStoredValue_36 rfl 2 rfl ?_
    refine zw_iload (pc := 37) dX1_meanStoredValue_37 0 rfl ?_
    refine zw_i2l (pc := 39) dX1_meanStoredValue_39 ?_
    refine zw_ladd (pc := 40) dX1_meanStoredValue_40 ?_
    refine zw_lstore_n (pc := 41) (lv' := [(3, vJ (a1 + x2.toInt64)), (8, vI x2), (2, vR a0), (5, vR a2), (6, vI a3), (7, vI a4)]) dX1_meanStoredValue_41 rfl (by decide) rfl ?_
    refine zw_iinc (pc := 42) (v := (a4 + (1 : Int32))) (lv' := [(7, vI (a4 + (1 : Int32))), (3, vJ (a1 + x2.toInt64)), (8, vI x2), (2, vR a0), (5, vR a2), (6, vI a3)]) dX1_meanStoredValue_42 5 rfl rfl (by decide) rfl ?_
    refine zw_goto (pc := 45) (tgt := 22) dX1_meanStoredValue_45 rfl ?_
    refine zW_pick (lv' := [(2, vR a0), (3, vJ (a1 + x2.toInt64)), (5, vR a2), (6, vI a3), (7, vI (a4 + (1 : Int32)))]) [3, 1, 4, 5, 0] rfl ?_
    exact hk22 _ _ _ _ _ _ H
def f_X1_meanStoredValue (p0 : Option Nat) (p1 : Int32) (h : zH) : Option ((UInt64 ⊕ Nat) × zH) :=
  (zrv 1 p0 h).bind fun b1 =>
  zb3 (f_X1_matrix (some b1) p1 h) (fun x6 h7 =>
  (zgR 3 4 x6 h7).bind fun x10 =>
  (zaN x10 h7).bind fun x12 =>
  zloop (B_X1_meanStoredValue_22) (fun _ _ _ _ _ _ => none) zFU x6 (0 : Int64) x10 x12 (0 : Int32) h7)
  (fun q8 h9 =>
  if zk h9 q8 = 20 then
  some (.inr q8, h9)
  else none)
theorem w_X1_meanStoredValue {G : zG} {p0 : Option Nat} {p1 : Int32} {h : zH} {vo : UInt64 ⊕ Nat} {vh : zH} (H : f_X1_meanStoredValue p0 p1 h = some (vo, vh)) : zMet G M_X1_meanStoredValue 8 [vR p0, vI p1] h (zoD vo) vh := by
  refine zMet.of (by decide +kernel) (Nat.le_of_ble_eq_true rfl) ?_
  show zW G M_X1_meanStoredValue 8 h (zoD vo) vh 0 [(0, vR p0), (1, vI p1)] [] h
  unfold f_X1_meanStoredValue at H
  refine zw_aload_n (pc := 0) dX1_meanStoredValue_0 rfl 0 rfl ?_
  refine zw_iload_n (pc := 1) dX1_meanStoredValue_1 rfl 1 rfl ?_
  obtain ⟨b1, e3, H⟩ := zbind H
  obtain ⟨e2, e4⟩ := zrv_ok e3
  rcases zbind3 H with ⟨x6, h7, e5, H⟩ | ⟨q8, h9, e5, H⟩
  · refine zw_invV (pc := 2) (M' := M_X1_matrix) (A := [vI p1]) [] dX1_meanStoredValue_2 (Or.inl q1567) mf_X1_matrix ls_X1_matrix (zkq e4 rfl) (w_X1_matrix e5) (Nat.le_of_ble_eq_true rfl) rfl (by rw [← e2]; rfl) (Nat.le_of_ble_eq_true rfl) (zkv ?_) zkn9
    refine zw_astore_n (pc := 5) (lv' := [(2, vR x6), (0, vR p0), (1, vI p1)]) dX1_meanStoredValue_5 rfl (by decide) rfl ?_
    refine zw_lconst (pc := 6) (v := (0 : Int64)) dX1_meanStoredValue_6 (by decide) ?_
    refine zw_lstore_n (pc := 7) (lv' := [(3, vJ (0 : Int64)), (2, vR x6), (0, vR p0), (1, vI p1)]) dX1_meanStoredValue_7 rfl (by decide) rfl ?_
    refine zw_aload_n (pc := 8) dX1_meanStoredValue_8 rfl 1 rfl ?_
    obtain ⟨x10, e11, H⟩ := zbind H
    refine zy_getR (pc := 9) dX1_meanStoredValue_9 lf_X1_234 (fun _ _ => rfl) e11 ?_
    refine zw_astore (pc := 12) (lv' := [(5, vR x10), (3, vJ (0 : Int64)), (2, vR x6), (0, vR p0), (1, vI p1)]) dX1_meanStoredValue_12 (by decide) rfl ?_
    refine zw_aload (pc := 14) dX1_meanStoredValue_14 0 rfl ?_
    obtain ⟨x12, e13, H⟩ := zbind H
    refine zy_alen (pc := 16) dX1_meanStoredValue_16 e13 ?_
    refine zw_istore (pc := 17) (lv' := [(6, vI x12), (5, vR x10), (3, vJ (0 : Int64)), (2, vR x6), (0, vR p0), (1, vI p1)]) dX1_meanStoredValue_17 (by decide) rfl ?_
    refine zw_iconst (pc := 19) (v := (0 : Int32)) dX1_meanStoredValue_19 (by decide) ?_
    refine zw_istore (pc := 20) (lv' := [(7, vI (0 : Int32)), (6, vI x12), (5, vR x10), (3, vJ (0 : Int64)), (2, vR x6), (0, vR p0), (1, vI p1)]) dX1_meanStoredValue_20 (by decide) rfl ?_
    refine zW_pick (lv' := [(2, vR x6), (3, vJ (0 : Int64)), (5, vR x10), (6, vI x12), (7, vI (0 : Int32))]) [4, 3, 2, 1, 0] rfl ?_
    exact zloop_ind (body := (B_X1_meanStoredValue_22)) (bot := (fun _ _ _ _ _ _ => none)) (P := (fun (f : Option Nat → Int64 → Option Nat → Int32 → Int32 → zH → Option ((UInt64 ⊕ Nat) × zH)) => ∀ (b0 : Option Nat) (b1 : Int64) (b2 : Option Nat) (b3 : Int32) (b4 : Int32) (h' : zH), f b0 b1 b2 b3 b4 h' = some (vo, vh) → zW G M_X1_meanStoredValue 8 h (zoD vo) vh 22 [(2, vR b0), (3, vJ b1), (5, vR b2), (6, vI b3), (7, vI b4)] [] h')) zFU (fun _ _ _ _ _ _ H => nomatch H) (fun f hf c0 c1 c2 c3 c4 h' H => wB_X1_meanStoredValue_22 hf H) _ _ _ _ _ _ H
  · refine zw_invV (pc := 2) (M' := M_X1_matrix) (A := [vI p1]) [] dX1_meanStoredValue_2 (Or.inl q1567) mf_X1_matrix ls_X1_matrix (zkq e4 rfl) (w_X1_matrix e5) (Nat.le_of_ble_eq_true rfl) rfl (by rw [← e2]; rfl) (Nat.le_of_ble_eq_true rfl) zkv0 (zkx ?_)
    rcases zif H with ⟨c14, H⟩ | ⟨c14, H⟩
    · have c14 := c14
      obtain ⟨rfl, rfl⟩ := Prod.mk.inj (Option.some.inj H)
      exact zx_out (zkq c14 rfl) (fun _ hz => nomatch hz) rfl rfl
    cases H
def M_X1_create : zM := (yX1_create, cX1_create, 4, (.some .int), [])
theorem mf_X1_create : zMi M_X1_create 3 := ⟨⟨q1959, q180, ⟨by decide +kernel, by decide +kernel⟩, by decide +kernel, by decide⟩, q1957⟩
def f_X1_create (p0 : Option Nat) (p1 : Int32) (p2 : Int32) (p3 : Int32) (h : zH) : Option ((Int32 ⊕ Nat) × zH) :=
  (zgR 1 5 p0 h).bind fun x1 =>
  (zrv 2 x1 h).bind fun b3 =>
  zb2 (f_X2_copy (some b3) h) fun x9 h8 =>
  (zrv 1 p0 h8).bind fun b10 =>
  zb3 (f_X1_createNow (some b10) p1 p2 p3 h8) (fun x15 h16 =>
  (zrv 1 p0 h16).bind fun b19 =>
  zb2 (f_X1_kept (some b19) x9 x15 h16) fun x25 h24 =>
  some (.inl x25, h24))
  (fun q17 h18 =>
  if zk h18 q17 = 20 then
  some (.inr q17, h18)
  else if zk h18 q17 = 21 then
  some (.inr q17, h18)
  else none)
theorem w_X1_create {G : zG} {p0 : Option Nat} {p1 : Int32} {p2 : Int32} {p3 : Int32} {h : zH} {vo : Int32 ⊕ Nat} {vh : zH} (H : f_X1_create p0 p1 p2 p3 h = some (vo, vh)) : zMet G M_X1_create 9 [vR p0, vI p1, vI p2, vI p3] h (zoI vo) vh := by
  refine zMet.of (by decide +kernel) (Nat.le_of_ble_eq_true rfl) ?_
  show zW G M_X1_create 9 h (zoI vo) vh 0 [(0, vR p0), (1, vI p1), (2, vI p2), (3, vI p3)] [] h
  unfold f_X1_create at H
  refine zw_aload_n (pc := 0) dX1_create_0 rfl 0 rfl ?_
  refine zw_aload_n (pc := 1) dX1_create_1 rfl 0 rfl ?_
  obtain ⟨x1, e2, H⟩ := zbind H
  refine zy_getR (pc := 2) dX1_create_2 lf_X1_120 (fun _ _ => rfl) e2 ?_
  obtain ⟨b3, e5, H⟩ := zbind H
  obtain ⟨e4, e6⟩ := zrv_ok e5
  obtain ⟨x9, h8, e7, H⟩ := zbind2 H
  refine zw_invV (pc := 5) (M' := M_X2_copy) (A := []) [vR p0] dX1_create_5 (Or.inl q546) mf_X2_copy q548 (zkq e6 rfl) (w_X2_copy e7) (Nat.le_of_ble_eq_true rfl) rfl (by rw [← e4]; rfl) (Nat.le_of_ble_eq_true rfl) (zkv ?_) zkn9
  refine zw_aload_n (pc := 8) dX1_create_8 rfl 0 rfl ?_
  refine zw_iload_n (pc := 9) dX1_create_9 rfl 1 rfl ?_
  refine zw_iload_n (pc := 10) dX1_create_10 rfl 2 rfl ?_
  refine zw_iload_n (pc := 11) dX1_create_11 rfl 3 rfl ?_
  obtain ⟨b10, e12, H⟩ := zbind H
  obtain ⟨e11, e13⟩ := zrv_ok e12
  rcases zbind3 H with ⟨x15, h16, e14, H⟩ | ⟨q17, h18, e14, H⟩
  · refine zw_invV (pc := 12) (M' := M_X1_createNow) (A := [vI p1, vI p2, vI p3]) [vR x9, vR p0] dX1_create_12 (Or.inl q1563) mf_X1_createNow ls_X1_createNow (zkq e13 rfl) (w_X1_createNow e14) (Nat.le_of_ble_eq_true rfl) rfl (by rw [← e11]; rfl) (Nat.le_of_ble_eq_true rfl) (zkv ?_) zkn9
    obtain ⟨b19, e21, H⟩ := zbind H
    obtain ⟨e20, e22⟩ := zrv_ok e21
    obtain ⟨x25, h24, e23, H⟩ := zbind2 H
    refine zw_invV (pc := 15) (M' := M_X1_kept) (A := [vR x9, vI x15]) [] dX1_create_15 (Or.inl q1669) mf_X1_kept ls_X1_kept (zkq e22 rfl) (w_X1_kept e23) (Nat.le_of_ble_eq_true rfl) rfl (by rw [← e20]; rfl) (Nat.le_of_ble_eq_true rfl) (zkv ?_) zkn9
    obtain ⟨rfl, rfl⟩ := Prod.mk.inj (Option.some.inj H)
    exact zw_iret (pc := 18) dX1_create_18 rfl rfl rfl
  · refine zw_invV (pc := 12) (M' := M_X1_createNow) (A := [vI p1, vI p2, vI p3]) [vR x9, vR p0] dX1_create_12 (Or.inl q1563) mf_X1_createNow ls_X1_createNow (zkq e13 rfl) (w_X1_createNow e14) (Nat.le_of_ble_eq_true rfl) rfl (by rw [← e11]; rfl) (Nat.le_of_ble_eq_true rfl) zkv0 (zkx ?_)
    rcases zif H with ⟨c26, H⟩ | ⟨c26, H⟩
    · have c26 := c26
      obtain ⟨rfl, rfl⟩ := Prod.mk.inj (Option.some.inj H)
      exact zx_out (zkq c26 rfl) (fun _ hz => nomatch hz) rfl rfl
    rcases zif H with ⟨c27, H⟩ | ⟨c27, H⟩
    · have c27 := c27
      obtain ⟨rfl, rfl⟩ := Prod.mk.inj (Option.some.inj H)
      exact zx_out (zkq c27 rfl) (fun _ hz => nomatch hz) rfl rfl
    cases H
def M_X1_set : zM := (yX1_set, cX1_set, 5, (.some .int), [])
theorem mf_X1_set : zMi M_X1_set 4 := ⟨⟨q1966, q180, ⟨by decide +kernel, by decide +kernel⟩, by decide +kernel, by decide⟩, q1964⟩
def f_X1_set (p0 : Option Nat) (p1 : Int32) (p2 : Int32) (p3 : Int32) (p4 : Int32) (h : zH) : Option ((Int32 ⊕ Nat) × zH) :=
  (zgR 1 5 p0 h).bind fun x1 =>
  (zrv 2 x1 h).bind fun b3 =>
  zb2 (f_X2_copy (some b3) h) fun x9 h8 =>
  (zrv 1 p0 h8).bind fun b10 =>
  zb3 (f_X1_setNow (some b10) p1 p2 p3 p4 h8) (fun x15 h16 =>
  (zrv 1 p0 h16).bind fun b19 =>
  zb2 (f_X1_kept (some b19) x9 x15 h16) fun x25 h24 =>
  some (.inl x25, h24))
  (fun q17 h18 =>
  if zk h18 q17 = 20 then
  some (.inr q17, h18)
  else if zk h18 q17 = 21 then
  some (.inr q17, h18)
  else if zk h18 q17 = 22 then
  some (.inr q17, h18)
  else none)
theorem w_X1_set {G : zG} {p0 : Option Nat} {p1 : Int32} {p2 : Int32} {p3 : Int32} {p4 : Int32} {h : zH} {vo : Int32 ⊕ Nat} {vh : zH} (H : f_X1_set p0 p1 p2 p3 p4 h = some (vo, vh)) : zMet G M_X1_set 13 [vR p0, vI p1, vI p2, vI p3, vI p4] h (zoI vo) vh := by
  refine zMet.of (by decide +kernel) (Nat.le_of_ble_eq_true rfl) ?_
  show zW G M_X1_set 13 h (zoI vo) vh 0 [(0, vR p0), (1, vI p1), (2, vI p2), (3, vI p3), (4, vI p4)] [] h
  unfold f_X1_set at H
  refine zw_aload_n (pc := 0) dX1_set_0 rfl 0 rfl ?_
  refine zw_aload_n (pc := 1) dX1_set_1 rfl 0 rfl ?_
  obtain ⟨x1, e2, H⟩ := zbind H
  refine zy_getR (pc := 2) dX1_set_2 lf_X1_120 (fun _ _ => rfl) e2 ?_
  obtain ⟨b3, e5, H⟩ := zbind H
  obtain ⟨e4, e6⟩ := zrv_ok e5
  obtain ⟨x9, h8, e7, H⟩ := zbind2 H
  refine zw_invV (pc := 5) (M' := M_X2_copy) (A := []) [vR p0] dX1_set_5 (Or.inl q546) mf_X2_copy q548 (zkq e6 rfl) (w_X2_copy e7) (Nat.le_of_ble_eq_true rfl) rfl (by rw [← e4]; rfl) (Nat.le_of_ble_eq_true rfl) (zkv ?_) zkn9
  refine zw_aload_n (pc := 8) dX1_set_8 rfl 0 rfl ?_
  refine zw_iload_n (pc := 9) dX1_set_9 rfl 1 rfl ?_
  refine zw_iload_n (pc := 10) dX1_set_10 rfl 2 rfl ?_
  refine zw_iload_n (pc := 11) dX1_set_11 rfl 3 rfl ?_
  refine zw_iload (pc := 12) dX1_set_12 4 rfl ?_
  obtain ⟨b10, e12, H⟩ := zbind H
  obtain ⟨e11, e13⟩ := zrv_ok e12
  rcases zbind3 H with ⟨x15, h16, e14, H⟩ | ⟨q17, h18, e14, H⟩
  · refine zw_invV (pc := 14) (M' := M_X1_setNow) (A := [vI p1, vI p2, vI p3, vI p4]) [vR x9, vR p0] dX1_set_14 (Or.inl q1593) mf_X1_setNow ls_X1_setNow (zkq e13 rfl) (w_X1_setNow e14) (Nat.le_of_ble_eq_true rfl) rfl (by rw [← e11]; rfl) (Nat.le_of_ble_eq_true rfl) (zkv ?_) zkn9
    obtain ⟨b19, e21, H⟩ := zbind H
    obtain ⟨e20, e22⟩ := zrv_ok e21
    obtain ⟨x25, h24, e23, H⟩ := zbind2 H
    refine zw_invV (pc := 17) (M' := M_X1_kept) (A := [vR x9, vI x15]) [] dX1_set_17 (Or.inl q1669) mf_X1_kept ls_X1_kept (zkq e22 rfl) (w_X1_kept e23) (Nat.le_of_ble_eq_true rfl) rfl (by rw [← e20]; rfl) (Nat.le_of_ble_eq_true rfl) (zkv ?_) zkn9
    obtain ⟨rfl, rfl⟩ := Prod.mk.inj (Option.some.inj H)
    exact zw_iret (pc := 20) dX1_set_20 rfl rfl rfl
  · refine zw_invV (pc := 14) (M' := M_X1_setNow) (A := [vI p1, vI p2, vI p3, vI p4]) [vR x9, vR p0] dX1_set_14 (Or.inl q1593) mf_X1_setNow ls_X1_setNow (zkq e13 rfl) (w_X1_setNow e14) (Nat.le_of_ble_eq_true rfl) rfl (by rw [← e11]; rfl) (Nat.le_of_ble_eq_true rfl) zkv0 (zkx ?_)
    rcases zif H with ⟨c26, H⟩ | ⟨c26, H⟩
    · have c26 := c26
      obtain ⟨rfl, rfl⟩ := Prod.mk.inj (Option.some.inj H)
      exact zx_out (zkq c26 rfl) (fun _ hz => nomatch hz) rfl rfl
    rcases zif H with ⟨c27, H⟩ | ⟨c27, H⟩
    · have c27 := c27
      obtain ⟨rfl, rfl⟩ := Prod.mk.inj (Option.some.inj H)
      exact zx_out (zkq c27 rfl) (fun _ hz => nomatch hz) rfl rfl
    rcases zif H with ⟨c28, H⟩ | ⟨c28, H⟩
    · have c28 := c28
      obtain ⟨rfl, rfl⟩ := Prod.mk.inj (Option.some.inj H)
      exact zx_out (zkq c28 rfl) (fun _ hz => nomatch hz) rfl rfl
    cases H
def M_X1_erase : zM := (yX1_erase, cX1_erase, 4, (.some .int), [])
theorem mf_X1_erase : zMi M_X1_erase 3 := ⟨⟨q1973, q180, ⟨by decide +kernel, by decide +kernel⟩, by decide +kernel, by decide⟩, q1971⟩
def f_X1_erase (p0 : Option Nat) (p1 : Int32) (p2 : Int32) (p3 : Int32) (h : zH) : Option ((Int32 ⊕ Nat) × zH) :=
  (zgR 1 5 p0 h).bind fun x1 =>
  (zrv 2 x1 h).bind fun b3 =>
  zb2 (f_X2_copy (some b3) h) fun x9 h8 =>
  (zrv 1 p0 h8).bind fun b10 =>
  zb3 (f_X1_eraseNow (some b10) p1 p2 p3 h8) (fun x15 h16 =>
  (zrv 1 p0 h16).bind fun b19 =>
  zb2 (f_X1_kept (some b19) x9 x15 h16) fun x25 h24 =>
  some (.inl x25, h24))
  (fun q17 h18 =>
  if zk h18 q17 = 20 then
  some (.inr q17, h18)
  else if zk h18 q17 = 22 then
  some (.inr q17, h18)
  else none)
theorem w_X1_erase {G : zG} {p0 : Option Nat} {p1 : Int32} {p2 : Int32} {p3 : Int32} {h : zH} {vo : Int32 ⊕ Nat} {vh : zH} (H : f_X1_erase p0 p1 p2 p3 h = some (vo, vh)) : zMet G M_X1_erase 13 [vR p0, vI p1, vI p2, vI p3] h (zoI vo) vh := by
  refine zMet.of (by decide +kernel) (Nat.le_of_ble_eq_true rfl) ?_
  show zW G M_X1_erase 13 h (zoI vo) vh 0 [(0, vR p0), (1, vI p1), (2, vI p2), (3, vI p3)] [] h
  unfold f_X1_erase at H
  refine zw_aload_n (pc := 0) dX1_erase_0 rfl 0 rfl ?_
  refine zw_aload_n (pc := 1) dX1_erase_1 rfl 0 rfl ?_
  obtain ⟨x1, e2, H⟩ := zbind H
  refine zy_getR (pc := 2) dX1_erase_2 lf_X1_120 (fun _ _ => rfl) e2 ?_
  obtain ⟨b3, e5, H⟩ := zbind H
  obtain ⟨e4, e6⟩ := zrv_ok e5
  obtain ⟨x9, h8, e7, H⟩ := zbind2 H
  refine zw_invV (pc := 5) (M' := M_X2_copy) (A := []) [vR p0] dX1_erase_5 (Or.inl q546) mf_X2_copy q548 (zkq e6 rfl) (w_X2_copy e7) (Nat.le_of_ble_eq_true rfl) rfl (by rw [← e4]; rfl) (Nat.le_of_ble_eq_true rfl) (zkv ?_) zkn9
  refine zw_aload_n (pc := 8) dX1_erase_8 rfl 0 rfl ?_
  refine zw_iload_n (pc := 9) dX1_erase_9 rfl 1 rfl ?_
  refine zw_iload_n (pc := 10) dX1_erase_10 rfl 2 rfl ?_
  refine zw_iload_n (pc := 11) dX1_erase_11 rfl 3 rfl ?_
  obtain ⟨b10, e12, H⟩ := zbind H
  obtain ⟨e11, e13⟩ := zrv_ok e12
  rcases zbind3 H with ⟨x15, h16, e14, H⟩ | ⟨q17, h18, e14, H⟩
  · refine zw_invV (pc := 12) (M' := M_X1_eraseNow) (A := [vI p1, vI p2, vI p3]) [vR x9, vR p0] dX1_erase_12 (Or.inl q1631) mf_X1_eraseNow ls_X1_eraseNow (zkq e13 rfl) (w_X1_eraseNow e14) (Nat.le_of_ble_eq_true rfl) rfl (by rw [← e11]; rfl) (Nat.le_of_ble_eq_true rfl) (zkv ?_) zkn9
    obtain ⟨b19, e21, H⟩ := zbind H
    obtain ⟨e20, e22⟩ := zrv_ok e21
    obtain ⟨x25, h24, e23, H⟩ := zbind2 H
    refine zw_invV (pc := 15) (M' := M_X1_kept) (A := [vR x9, vI x15]) [] dX1_erase_15 (Or.inl q1669) mf_X1_kept ls_X1_kept (zkq e22 rfl) (w_X1_kept e23) (Nat.le_of_ble_eq_true rfl) rfl (by rw [← e20]; rfl) (Nat.le_of_ble_eq_true rfl) (zkv ?_) zkn9
    obtain ⟨rfl, rfl⟩ := Prod.mk.inj (Option.some.inj H)
    exact zw_iret (pc := 18) dX1_erase_18 rfl rfl rfl
  · refine zw_invV (pc := 12) (M' := M_X1_eraseNow) (A := [vI p1, vI p2, vI p3]) [vR x9, vR p0] dX1_erase_12 (Or.inl q1631) mf_X1_eraseNow ls_X1_eraseNow (zkq e13 rfl) (w_X1_eraseNow e14) (Nat.le_of_ble_eq_true rfl) rfl (by rw [← e11]; rfl) (Nat.le_of_ble_eq_true rfl) zkv0 (zkx ?_)
    rcases zif H with ⟨c26, H⟩ | ⟨c26, H⟩
    · have c26 := c26
      obtain ⟨rfl, rfl⟩ := Prod.mk.inj (Option.some.inj H)
      exact zx_out (zkq c26 rfl) (fun _ hz => nomatch hz) rfl rfl
    rcases zif H with ⟨c27, H⟩ | ⟨c27, H⟩
    · have c27 := c27
      obtain ⟨rfl, rfl⟩ := Prod.mk.inj (Option.some.inj H)
      exact zx_out (zkq c27 rfl) (fun _ hz => nomatch hz) rfl rfl
    cases H
def M_X1_dropZeros : zM := (yX1_dropZeros, cX1_dropZeros, 2, (.some .int), [])
theorem mf_X1_dropZeros : zMi M_X1_dropZeros 1 := ⟨⟨q1980, q180, ⟨by decide +kernel, by decide +kernel⟩, by decide +kernel, by decide⟩, q1978⟩
def f_X1_dropZeros (p0 : Option Nat) (p1 : Int32) (h : zH) : Option ((Int32 ⊕ Nat) × zH) :=
  (zgR 1 5 p0 h).bind fun x1 =>
  (zrv 2 x1 h).bind fun b3 =>
  zb2 (f_X2_copy (some b3) h) fun x9 h8 =>
  (zrv 1 p0 h8).bind fun b10 =>
  zb3 (f_X1_dropNow (some b10) p1 h8) (fun x15 h16 =>
  (zrv 1 p0 h16).bind fun b19 =>
  zb2 (f_X1_kept (some b19) x9 x15 h16) fun x25 h24 =>
  some (.inl x25, h24))
  (fun q17 h18 =>
  if zk h18 q17 = 20 then
  some (.inr q17, h18)
  else if zk h18 q17 = 22 then
  some (.inr q17, h18)
  else none)
theorem w_X1_dropZeros {G : zG} {p0 : Option Nat} {p1 : Int32} {h : zH} {vo : Int32 ⊕ Nat} {vh : zH} (H : f_X1_dropZeros p0 p1 h = some (vo, vh)) : zMet G M_X1_dropZeros 13 [vR p0, vI p1] h (zoI vo) vh := by
  refine zMet.of (by decide +kernel) (Nat.le_of_ble_eq_true rfl) ?_
  show zW G M_X1_dropZeros 13 h (zoI vo) vh 0 [(0, vR p0), (1, vI p1)] [] h
  unfold f_X1_dropZeros at H
  refine zw_aload_n (pc := 0) dX1_dropZeros_0 rfl 0 rfl ?_
  refine zw_aload_n (pc := 1) dX1_dropZeros_1 rfl 0 rfl ?_
  obtain ⟨x1, e2, H⟩ := zbind H
  refine zy_getR (pc := 2) dX1_dropZeros_2 lf_X1_120 (fun _ _ => rfl) e2 ?_
  obtain ⟨b3, e5, H⟩ := zbind H
  obtain ⟨e4, e6⟩ := zrv_ok e5
  obtain ⟨x9, h8, e7, H⟩ := zbind2 H
  refine zw_invV (pc := 5) (M' := M_X2_copy) (A := []) [vR p0] dX1_dropZeros_5 (Or.inl q546) mf_X2_copy q548 (zkq e6 rfl) (w_X2_copy e7) (Nat.le_of_ble_eq_true rfl) rfl (by rw [← e4]; rfl) (Nat.le_of_ble_eq_true rfl) (zkv ?_) zkn9
  refine zw_aload_n (pc := 8) dX1_dropZeros_8 rfl 0 rfl ?_
  refine zw_iload_n (pc := 9) dX1_dropZeros_9 rfl 1 rfl ?_
  obtain ⟨b10, e12, H⟩ := zbind H
  obtain ⟨e11, e13⟩ := zrv_ok e12
  rcases zbind3 H with ⟨x15, h16, e14, H⟩ | ⟨q17, h18, e14, H⟩
  · refine zw_invV (pc := 10) (M' := M_X1_dropNow) (A := [vI p1]) [vR x9, vR p0] dX1_dropZeros_10 (Or.inl q1624) mf_X1_dropNow ls_X1_dropNow (zkq e13 rfl) (w_X1_dropNow e14) (Nat.le_of_ble_eq_true rfl) rfl (by rw [← e11]; rfl) (Nat.le_of_ble_eq_true rfl) (zkv ?_) zkn9
    obtain ⟨b19, e21, H⟩ := zbind H
    obtain ⟨e20, e22⟩ := zrv_ok e21
    obtain ⟨x25, h24, e23, H⟩ := zbind2 H
    refine zw_invV (pc := 13) (M' := M_X1_kept) (A := [vR x9, vI x15]) [] dX1_dropZeros_13 (Or.inl q1669) mf_X1_kept ls_X1_kept (zkq e22 rfl) (w_X1_kept e23) (Nat.le_of_ble_eq_true rfl) rfl (by rw [← e20]; rfl) (Nat.le_of_ble_eq_true rfl) (zkv ?_) zkn9
    obtain ⟨rfl, rfl⟩ := Prod.mk.inj (Option.some.inj H)
    exact zw_iret (pc := 16) dX1_dropZeros_16 rfl rfl rfl
  · refine zw_invV (pc := 10) (M' := M_X1_dropNow) (A := [vI p1]) [vR x9, vR p0] dX1_dropZeros_10 (Or.inl q1624) mf_X1_dropNow ls_X1_dropNow (zkq e13 rfl) (w_X1_dropNow e14) (Nat.le_of_ble_eq_true rfl) rfl (by rw [← e11]; rfl) (Nat.le_of_ble_eq_true rfl) zkv0 (zkx ?_)
    rcases zif H with ⟨c26, H⟩ | ⟨c26, H⟩
    · have c26 := c26
      obtain ⟨rfl, rfl⟩ := Prod.mk.inj (Option.some.inj H)
      exact zx_out (zkq c26 rfl) (fun _ hz => nomatch hz) rfl rfl
    rcases zif H with ⟨c27, H⟩ | ⟨c27, H⟩
    · have c27 := c27
      obtain ⟨rfl, rfl⟩ := Prod.mk.inj (Option.some.inj H)
      exact zx_out (zkq c27 rfl) (fun _ hz => nomatch hz) rfl rfl
    cases H
def M_X1_swapRows : zM := (yX1_swapRows, cX1_swapRows, 4, (.some .int), [])
theorem mf_X1_swapRows : zMi M_X1_swapRows 3 := ⟨⟨q1987, q180, ⟨by decide +kernel, by decide +kernel⟩, by decide +kernel, by decide⟩, q1985⟩
def f_X1_swapRows (p0 : Option Nat) (p1 : Int32) (p2 : Int32) (p3 : Int32) (h : zH) : Option ((Int32 ⊕ Nat) × zH) :=
  (zgR 1 5 p0 h).bind fun x1 =>
  (zrv 2 x1 h).bind fun b3 =>
  zb2 (f_X2_copy (some b3) h) fun x9 h8 =>
  (zrv 1 p0 h8).bind fun b10 =>
  zb3 (f_X1_swapNow (some b10) p1 p2 p3 h8) (fun x15 h16 =>
  (zrv 1 p0 h16).bind fun b19 =>
  zb2 (f_X1_kept (some b19) x9 x15 h16) fun x25 h24 =>
  some (.inl x25, h24))
  (fun q17 h18 =>
  if zk h18 q17 = 20 then
  some (.inr q17, h18)
  else if zk h18 q17 = 22 then
  some (.inr q17, h18)
  else none)
theorem w_X1_swapRows {G : zG} {p0 : Option Nat} {p1 : Int32} {p2 : Int32} {p3 : Int32} {h : zH} {vo : Int32 ⊕ Nat} {vh : zH} (H : f_X1_swapRows p0 p1 p2 p3 h = some (vo, vh)) : zMet G M_X1_swapRows 13 [vR p0, vI p1, vI p2, vI p3] h (zoI vo) vh := by
  refine zMet.of (by decide +kernel) (Nat.le_of_ble_eq_true rfl) ?_
  show zW G M_X1_swapRows 13 h (zoI vo) vh 0 [(0, vR p0), (1, vI p1), (2, vI p2), (3, vI p3)] [] h
  unfold f_X1_swapRows at H
  refine zw_aload_n (pc := 0) dX1_swapRows_0 rfl 0 rfl ?_
  refine zw_aload_n (pc := 1) dX1_swapRows_1 rfl 0 rfl ?_
  obtain ⟨x1, e2, H⟩ := zbind H
  refine zy_getR (pc := 2) dX1_swapRows_2 lf_X1_120 (fun _ _ => rfl) e2 ?_
  obtain ⟨b3, e5, H⟩ := zbind H
  obtain ⟨e4, e6⟩ := zrv_ok e5
  obtain ⟨x9, h8, e7, H⟩ := zbind2 H
  refine zw_invV (pc := 5) (M' := M_X2_copy) (A := []) [vR p0] dX1_swapRows_5 (Or.inl q546) mf_X2_copy q548 (zkq e6 rfl) (w_X2_copy e7) (Nat.le_of_ble_eq_true rfl) rfl (by rw [← e4]; rfl) (Nat.le_of_ble_eq_true rfl) (zkv ?_) zkn9
  refine zw_aload_n (pc := 8) dX1_swapRows_8 rfl 0 rfl ?_
  refine zw_iload_n (pc := 9) dX1_swapRows_9 rfl 1 rfl ?_
  refine zw_iload_n (pc := 10) dX1_swapRows_10 rfl 2 rfl ?_
  refine zw_iload_n (pc := 11) dX1_swapRows_11 rfl 3 rfl ?_
  obtain ⟨b10, e12, H⟩ := zbind H
  obtain ⟨e11, e13⟩ := zrv_ok e12
  rcases zbind3 H with ⟨x15, h16, e14, H⟩ | ⟨q17, h18, e14, H⟩
  · refine zw_invV (pc := 12) (M' := M_X1_swapNow) (A := [vI p1, vI p2, vI p3]) [vR x9, vR p0] dX1_swapRows_12 (Or.inl q1649) mf_X1_swapNow ls_X1_swapNow (zkq e13 rfl) (w_X1_swapNow e14) (Nat.le_of_ble_eq_true rfl) rfl (by rw [← e11]; rfl) (Nat.le_of_ble_eq_true rfl) (zkv ?_) zkn9
    obtain ⟨b19, e21, H⟩ := zbind H
    obtain ⟨e20, e22⟩ := zrv_ok e21
    obtain ⟨x25, h24, e23, H⟩ := zbind2 H
    refine zw_invV (pc := 15) (M' := M_X1_kept) (A := [vR x9, vI x15]) [] dX1_swapRows_15 (Or.inl q1669) mf_X1_kept ls_X1_kept (zkq e22 rfl) (w_X1_kept e23) (Nat.le_of_ble_eq_true rfl) rfl (by rw [← e20]; rfl) (Nat.le_of_ble_eq_true rfl) (zkv ?_) zkn9
    obtain ⟨rfl, rfl⟩ := Prod.mk.inj (Option.some.inj H)
    exact zw_iret (pc := 18) dX1_swapRows_18 rfl rfl rfl
  · refine zw_invV (pc := 12) (M' := M_X1_swapNow) (A := [vI p1, vI p2, vI p3]) [vR x9, vR p0] dX1_swapRows_12 (Or.inl q1649) mf_X1_swapNow ls_X1_swapNow (zkq e13 rfl) (w_X1_swapNow e14) (Nat.le_of_ble_eq_true rfl) rfl (by rw [← e11]; rfl) (Nat.le_of_ble_eq_true rfl) zkv0 (zkx ?_)
    rcases zif H with ⟨c26, H⟩ | ⟨c26, H⟩
    · have c26 := c26
      obtain ⟨rfl, rfl⟩ := Prod.mk.inj (Option.some.inj H)
      exact zx_out (zkq c26 rfl) (fun _ hz => nomatch hz) rfl rfl
    rcases zif H with ⟨c27, H⟩ | ⟨c27, H⟩
    · have c27 := c27
      obtain ⟨rfl, rfl⟩ := Prod.mk.inj (Option.some.inj H)
      exact zx_out (zkq c27 rfl) (fun _ hz => nomatch hz) rfl rfl
    cases H
theorem lm_22 : zLm yX1_scaleNow 27 374 22 := ⟨_, rfl, rfl, by decide, by decide +kernel⟩
def M_X1_scaleNow : zM := (yX1_scaleNow, cX1_scaleNow, 4, (.some .int), [])
theorem mf_X1_scaleNow : zMi M_X1_scaleNow 2 := ⟨⟨q1998, q180, ⟨by decide +kernel, by decide +kernel⟩, by decide +kernel, by decide⟩, q1997⟩
def f_X1_scaleNow (p0 : Option Nat) (p1 : Int32) (p2 : Int32) (h : zH) : Option ((Int32 ⊕ Nat) × zH) :=
  (zrv 1 p0 h).bind fun b1 =>
  zb3 (f_X1_matrix (some b1) p1 h) (fun x6 h7 =>
  (f_X1_isIn p2.toInt64 (-99 : Int64) (99 : Int64) h7).bind fun x11 =>
  zb3 (f_X1_argument x11 h7) (fun _ h14 =>
  (zgR 1 5 p0 h14).bind fun x17 =>
  zb2 (zlm 22 [vR x6, vI p2] h14) fun q19 h20 =>
  zb3 (f_X1_of (some q19) h20) (fun x23 h24 =>
  (zrv 2 x17 h24).bind fun b27 =>
  zb2 (f_X2_put (some b27) p1 x23 h24) fun x33 h32 =>
  some (.inl x33, h32))
  (fun q25 h26 =>
  if zk h26 q25 = 22 then
  some (.inr q25, h26)
  else none))
  (fun q15 h16 =>
  if zk h16 q15 = 21 then
  some (.inr q15, h16)
  else none))
  (fun q8 h9 =>
  if zk h9 q8 = 20 then
  some (.inr q8, h9)
  else none)
theorem w_X1_scaleNow {G : zG} {p0 : Option Nat} {p1 : Int32} {p2 : Int32} {h : zH} {vo : Int32 ⊕ Nat} {vh : zH} (H : f_X1_scaleNow p0 p1 p2 h = some (vo, vh)) : zMet G M_X1_scaleNow 12 [vR p0, vI p1, vI p2] h (zoI vo) vh := by
  refine zMet.of (by decide +kernel) (Nat.le_of_ble_eq_true rfl) ?_
  show zW G M_X1_scaleNow 12 h (zoI vo) vh 0 [(0, vR p0), (1, vI p1), (2, vI p2)] [] h
  unfold f_X1_scaleNow at H
  refine zw_aload_n (pc := 0) dX1_scaleNow_0 rfl 0 rfl ?_
  refine zw_iload_n (pc := 1) dX1_scaleNow_1 rfl 1 rfl ?_
  obtain ⟨b1, e3, H⟩ := zbind H
  obtain ⟨e2, e4⟩ := zrv_ok e3
  rcases zbind3 H with ⟨x6, h7, e5, H⟩ | ⟨q8, h9, e5, H⟩
  · refine zw_invV (pc := 2) (M' := M_X1_matrix) (A := [vI p1]) [] dX1_scaleNow_2 (Or.inl q1567) mf_X1_matrix ls_X1_matrix (zkq e4 rfl) (w_X1_matrix e5) (Nat.le_of_ble_eq_true rfl) rfl (by rw [← e2]; rfl) (Nat.le_of_ble_eq_true rfl) (zkv ?_) zkn9
    refine zw_astore_n (pc := 5) (lv' := [(3, vR x6), (0, vR p0), (1, vI p1), (2, vI p2)]) dX1_scaleNow_5 rfl (by decide) rfl ?_
    refine zw_iload_n (pc := 6) dX1_scaleNow_6 rfl 3 rfl ?_
    refine zw_i2l (pc := 7) dX1_scaleNow_7 ?_
    refine zw_ldc2 (pc := 8) dX1_scaleNow_8 q1999 ?_
    refine zw_ldc2 (pc := 11) dX1_scaleNow_11 q2000 ?_
    obtain ⟨x11, e10, H⟩ := zbind H
    refine zw_invS (pc := 14) (M' := M_X1_isIn) (A := [vJ p2.toInt64, vJ (-99 : Int64), vJ (99 : Int64)]) [] dX1_scaleNow_14 (Or.inl q603) mf_X1_isIn (w_X1_isIn e10) (Nat.le_of_ble_eq_true rfl) rfl rfl (Nat.le_of_ble_eq_true rfl) (zkv ?_) zkn9
    rcases zbind3 H with ⟨x13, h14, e12, H⟩ | ⟨q15, h16, e12, H⟩
    · refine zw_invS (pc := 17) (M' := M_X1_argument) (A := [vI x11]) [] dX1_scaleNow_17 (Or.inl q604) mf_X1_argument (w_X1_argument e12) (Nat.le_of_ble_eq_true rfl) rfl rfl (Nat.le_of_ble_eq_true rfl) (zku ?_) zkn9
      refine zw_aload_n (pc := 20) dX1_scaleNow_20 rfl 1 rfl ?_
      obtain ⟨x17, e18, H⟩ := zbind H
      refine zy_getR (pc := 21) dX1_scaleNow_21 lf_X1_120 (fun _ _ => rfl) e18 ?_
      refine zw_iload_n (pc := 24) dX1_scaleNow_24 rfl 2 rfl ?_
      refine zw_aload_n (pc := 25) dX1_scaleNow_25 rfl 0 rfl ?_
      refine zw_iload_n (pc := 26) dX1_scaleNow_26 rfl 3 rfl ?_
      obtain ⟨q19, h20, e21, H⟩ := zbind2 H
      refine zy_lam (pc := 27) (i := 22) (A := [vR x6, vI p2]) [vI p1, vR x17] dX1_scaleNow_27 lm_22 (show zokL (zLc 22) [vR x6, vI p2] from (zokL_ref (zokL_int zokL_nil))) rfl (Nat.le_of_ble_eq_true rfl) e21 ?_
      rcases zbind3 H with ⟨x23, h24, e22, H⟩ | ⟨q25, h26, e22, H⟩
      · refine zw_invS (pc := 32) (M' := M_X1_of) (A := [vR (some q19)]) [vI p1, vR x17] dX1_scaleNow_32 (Or.inl q1610) mf_X1_of (w_X1_of e22) (Nat.le_of_ble_eq_true rfl) rfl rfl (Nat.le_of_ble_eq_true rfl) (zkv ?_) zkn9
        obtain ⟨b27, e29, H⟩ := zbind H
        obtain ⟨e28, e30⟩ := zrv_ok e29
        obtain ⟨x33, h32, e31, H⟩ := zbind2 H
        refine zw_invV (pc := 35) (M' := M_X2_put) (A := [vI p1, vR x23]) [] dX1_scaleNow_35 (Or.inl q1592) mf_X2_put q1095 (zkq e30 rfl) (w_X2_put e31) (Nat.le_of_ble_eq_true rfl) rfl (by rw [← e28]; rfl) (Nat.le_of_ble_eq_true rfl) (zkv ?_) zkn9
        obtain ⟨rfl, rfl⟩ := Prod.mk.inj (Option.some.inj H)
        exact zw_iret (pc := 38) dX1_scaleNow_38 rfl rfl rfl
      · refine zw_invS (pc := 32) (M' := M_X1_of) (A := [vR (some q19)]) [vI p1, vR x17] dX1_scaleNow_32 (Or.inl q1610) mf_X1_of (w_X1_of e22) (Nat.le_of_ble_eq_true rfl) rfl rfl (Nat.le_of_ble_eq_true rfl) zkv0 (zkx ?_)
        rcases zif H with ⟨c34, H⟩ | ⟨c34, H⟩
        · have c34 := c34
          obtain ⟨rfl, rfl⟩ := Prod.mk.inj (Option.some.inj H)
          exact zx_out (zkq c34 rfl) (fun _ hz => nomatch hz) rfl rfl
        cases H
    · refine zw_invS (pc := 17) (M' := M_X1_argument) (A := [vI x11]) [] dX1_scaleNow_17 (Or.inl q604) mf_X1_argument (w_X1_argument e12) (Nat.le_of_ble_eq_true rfl) rfl rfl (Nat.le_of_ble_eq_true rfl) zkv0 (zkx ?_)
      rcases zif H with ⟨c35, H⟩ | ⟨c35, H⟩
      · have c35 := c35
        obtain ⟨rfl, rfl⟩ := Prod.mk.inj (Option.some.inj H)
        exact zx_out (zkq c35 rfl) (fun _ hz => nomatch hz) rfl rfl
      cases H
  · refine zw_invV (pc := 2) (M' := M_X1_matrix) (A := [vI p1]) [] dX1_scaleNow_2 (Or.inl q1567) mf_X1_matrix ls_X1_matrix (zkq e4 rfl) (w_X1_matrix e5) (Nat.le_of_ble_eq_true rfl) rfl (by rw [← e2]; rfl) (Nat.le_of_ble_eq_true rfl) zkv0 (zkx ?_)
    rcases zif H with ⟨c36, H⟩ | ⟨c36, H⟩
    · have c36 := c36
      obtain ⟨rfl, rfl⟩ := Prod.mk.inj (Option.some.inj H)
      exact zx_out (zkq c36 rfl) (fun _ hz => nomatch hz) rfl rfl
    cases H
theorem ls_X1_scaleNow : Cond.selects yX1_scaleNow.cls yX1_scaleNow yX1_scaleNow ∈ lw_all := lw_g (lw_ms _ (List.mem_of_getElem? (i := 65) rfl)) rfl
def M_X1_scale : zM := (yX1_scale, cX1_scale, 3, (.some .int), [])
theorem mf_X1_scale : zMi M_X1_scale 2 := ⟨⟨q1994, q180, ⟨by decide +kernel, by decide +kernel⟩, by decide +kernel, by decide⟩, q1992⟩
def f_X1_scale (p0 : Option Nat) (p1 : Int32) (p2 : Int32) (h : zH) : Option ((Int32 ⊕ Nat) × zH) :=
  (zgR 1 5 p0 h).bind fun x1 =>
  (zrv 2 x1 h).bind fun b3 =>
  zb2 (f_X2_copy (some b3) h) fun x9 h8 =>
  (zrv 1 p0 h8).bind fun b10 =>
  zb3 (f_X1_scaleNow (some b10) p1 p2 h8) (fun x15 h16 =>
  (zrv 1 p0 h16).bind fun b19 =>
  zb2 (f_X1_kept (some b19) x9 x15 h16) fun x25 h24 =>
  some (.inl x25, h24))
  (fun q17 h18 =>
  if zk h18 q17 = 20 then
  some (.inr q17, h18)
  else if zk h18 q17 = 21 then
  some (.inr q17, h18)
  else if zk h18 q17 = 22 then
  some (.inr q17, h18)
  else none)
theorem w_X1_scale {G : zG} {p0 : Option Nat} {p1 : Int32} {p2 : Int32} {h : zH} {vo : Int32 ⊕ Nat} {vh : zH} (H : f_X1_scale p0 p1 p2 h = some (vo, vh)) : zMet G M_X1_scale 13 [vR p0, vI p1, vI p2] h (zoI vo) vh := by
  refine zMet.of (by decide +kernel) (Nat.le_of_ble_eq_true rfl) ?_
  show zW G M_X1_scale 13 h (zoI vo) vh 0 [(0, vR p0), (1, vI p1), (2, vI p2)] [] h
  unfold f_X1_scale at H
  refine zw_aload_n (pc := 0) dX1_scale_0 rfl 0 rfl ?_
  refine zw_aload_n (pc := 1) dX1_scale_1 rfl 0 rfl ?_
  obtain ⟨x1, e2, H⟩ := zbind H
  refine zy_getR (pc := 2) dX1_scale_2 lf_X1_120 (fun _ _ => rfl) e2 ?_
  obtain ⟨b3, e5, H⟩ := zbind H
  obtain ⟨e4, e6⟩ := zrv_ok e5
  obtain ⟨x9, h8, e7, H⟩ := zbind2 H
  refine zw_invV (pc := 5) (M' := M_X2_copy) (A := []) [vR p0] dX1_scale_5 (Or.inl q546) mf_X2_copy q548 (zkq e6 rfl) (w_X2_copy e7) (Nat.le_of_ble_eq_true rfl) rfl (by rw [← e4]; rfl) (Nat.le_of_ble_eq_true rfl) (zkv ?_) zkn9
  refine zw_aload_n (pc := 8) dX1_scale_8 rfl 0 rfl ?_
  refine zw_iload_n (pc := 9) dX1_scale_9 rfl 1 rfl ?_
  refine zw_iload_n (pc := 10) dX1_scale_10 rfl 2 rfl ?_
  obtain ⟨b10, e12, H⟩ := zbind H
  obtain ⟨e11, e13⟩ := zrv_ok e12
  rcases zbind3 H with ⟨x15, h16, e14, H⟩ | ⟨q17, h18, e14, H⟩
  · refine zw_invV (pc := 11) (M' := M_X1_scaleNow) (A := [vI p1, vI p2]) [vR x9, vR p0] dX1_scale_11 (Or.inl q1995) mf_X1_scaleNow ls_X1_scaleNow (zkq e13 rfl) (w_X1_scaleNow e14) (Nat.le_of_ble_eq_true rfl) rfl (by rw [← e11]; rfl) (Nat.le_of_ble_eq_true rfl) (zkv ?_) zkn9
    obtain ⟨b19, e21, H⟩ := zbind H
    obtain ⟨e20, e22⟩ := zrv_ok e21
    obtain ⟨x25, h24, e23, H⟩ := zbind2 H
    refine zw_invV (pc := 14) (M' := M_X1_kept) (A := [vR x9, vI x15]) [] dX1_scale_14 (Or.inl q1669) mf_X1_kept ls_X1_kept (zkq e22 rfl) (w_X1_kept e23) (Nat.le_of_ble_eq_true rfl) rfl (by rw [← e20]; rfl) (Nat.le_of_ble_eq_true rfl) (zkv ?_) zkn9
    obtain ⟨rfl, rfl⟩ := Prod.mk.inj (Option.some.inj H)
    exact zw_iret (pc := 17) dX1_scale_17 rfl rfl rfl
  · refine zw_invV (pc := 11) (M' := M_X1_scaleNow) (A := [vI p1, vI p2]) [vR x9, vR p0] dX1_scale_11 (Or.inl q1995) mf_X1_scaleNow ls_X1_scaleNow (zkq e13 rfl) (w_X1_scaleNow e14) (Nat.le_of_ble_eq_true rfl) rfl (by rw [← e11]; rfl) (Nat.le_of_ble_eq_true rfl) zkv0 (zkx ?_)
    rcases zif H with ⟨c26, H⟩ | ⟨c26, H⟩
    · have c26 := c26
      obtain ⟨rfl, rfl⟩ := Prod.mk.inj (Option.some.inj H)
      exact zx_out (zkq c26 rfl) (fun _ hz => nomatch hz) rfl rfl
    rcases zif H with ⟨c27, H⟩ | ⟨c27, H⟩
    · have c27 := c27
      obtain ⟨rfl, rfl⟩ := Prod.mk.inj (Option.some.inj H)
      exact zx_out (zkq c27 rfl) (fun _ hz => nomatch hz) rfl rfl
    rcases zif H with ⟨c28, H⟩ | ⟨c28, H⟩
    · have c28 := c28
      obtain ⟨rfl, rfl⟩ := Prod.mk.inj (Option.some.inj H)
      exact zx_out (zkq c28 rfl) (fun _ hz => nomatch hz) rfl rfl
    cases H
theorem lm_23 : zLm yX1_transposeNow 19 377 23 := ⟨_, rfl, rfl, by decide, by decide +kernel⟩
def M_X1_transposeNow : zM := (yX1_transposeNow, cX1_transposeNow, 5, (.some .int), [])
theorem mf_X1_transposeNow : zMi M_X1_transposeNow 2 := ⟨⟨q2014, q180, ⟨by decide +kernel, by decide +kernel⟩, by decide +kernel, by decide⟩, q2013⟩
def f_X1_transposeNow (p0 : Option Nat) (p1 : Int32) (p2 : Int32) (h : zH) : Option ((Int32 ⊕ Nat) × zH) :=
  (zrv 1 p0 h).bind fun b1 =>
  zb3 (f_X1_matrix (some b1) p1 h) (fun x6 h7 =>
  (zrv 1 p0 h7).bind fun b10 =>
  zb3 (f_X1_matrix (some b10) p2 h7) (fun x15 h16 =>
  (zgR 1 5 p0 h16).bind fun x19 =>
  zb2 (zlm 23 [vR x6] h16) fun q21 h22 =>
  zb3 (f_X1_of (some q21) h22) (fun x25 h26 =>
  (zrv 2 x19 h26).bind fun b29 =>
  zb2 (f_X2_put (some b29) p2 x25 h26) fun x35 h34 =>
  some (.inl x35, h34))
  (fun q27 h28 =>
  if zk h28 q27 = 22 then
  some (.inr q27, h28)
  else none))
  (fun q17 h18 =>
  if zk h18 q17 = 20 then
  some (.inr q17, h18)
  else none))
  (fun q8 h9 =>
  if zk h9 q8 = 20 then
  some (.inr q8, h9)
  else none)
theorem w_X1_transposeNow {G : zG} {p0 : Option Nat} {p1 : Int32} {p2 : Int32} {h : zH} {vo : Int32 ⊕ Nat} {vh : zH} (H : f_X1_transposeNow p0 p1 p2 h = some (vo, vh)) : zMet G M_X1_transposeNow 12 [vR p0, vI p1, vI p2] h (zoI vo) vh := by
  refine zMet.of (by decide +kernel) (Nat.le_of_ble_eq_true rfl) ?_
  show zW G M_X1_transposeNow 12 h (zoI vo) vh 0 [(0, vR p0), (1, vI p1), (2, vI p2)] [] h
  unfold f_X1_transposeNow at H
  refine zw_aload_n (pc := 0) dX1_transposeNow_0 rfl 0 rfl ?_
  refine zw_iload_n (pc := 1) dX1_transposeNow_1 rfl 1 rfl ?_
  obtain ⟨b1, e3, H⟩ := zbind H
  obtain ⟨e2, e4⟩ := zrv_ok e3
  rcases zbind3 H with ⟨x6, h7, e5, H⟩ | ⟨q8, h9, e5, H⟩
  · refine zw_invV (pc := 2) (M' := M_X1_matrix) (A := [vI p1]) [] dX1_transposeNow_2 (Or.inl q1567) mf_X1_matrix ls_X1_matrix (zkq e4 rfl) (w_X1_matrix e5) (Nat.le_of_ble_eq_true rfl) rfl (by rw [← e2]; rfl) (Nat.le_of_ble_eq_true rfl) (zkv ?_) zkn9
    refine zw_astore_n (pc := 5) (lv' := [(3, vR x6), (0, vR p0), (1, vI p1), (2, vI p2)]) dX1_transposeNow_5 rfl (by decide) rfl ?_
    refine zw_aload_n (pc := 6) dX1_transposeNow_6 rfl 1 rfl ?_
    refine zw_iload_n (pc := 7) dX1_transposeNow_7 rfl 3 rfl ?_
    obtain ⟨b10, e12, H⟩ := zbind H
    obtain ⟨e11, e13⟩ := zrv_ok e12
    rcases zbind3 H with ⟨x15, h16, e14, H⟩ | ⟨q17, h18, e14, H⟩
    · refine zw_invV (pc := 8) (M' := M_X1_matrix) (A := [vI p2]) [] dX1_transposeNow_8 (Or.inl q1567) mf_X1_matrix ls_X1_matrix (zkq e13 rfl) (w_X1_matrix e14) (Nat.le_of_ble_eq_true rfl) rfl (by rw [← e11]; rfl) (Nat.le_of_ble_eq_true rfl) (zkv ?_) zkn9
      refine zw_astore (pc := 11) (lv' := [(4, vR x15), (3, vR x6), (0, vR p0), (1, vI p1), (2, vI p2)]) dX1_transposeNow_11 (by decide) rfl ?_
      refine zw_aload_n (pc := 13) dX1_transposeNow_13 rfl 2 rfl ?_
      obtain ⟨x19, e20, H⟩ := zbind H
      refine zy_getR (pc := 14) dX1_transposeNow_14 lf_X1_120 (fun _ _ => rfl) e20 ?_
      refine zw_iload_n (pc := 17) dX1_transposeNow_17 rfl 4 rfl ?_
      refine zw_aload_n (pc := 18) dX1_transposeNow_18 rfl 1 rfl ?_
      obtain ⟨q21, h22, e23, H⟩ := zbind2 H
      refine zy_lam (pc := 19) (i := 23) (A := [vR x6]) [vI p2, vR x19] dX1_transposeNow_19 lm_23 (show zokL (zLc 23) [vR x6] from (zokL_ref zokL_nil)) rfl (Nat.le_of_ble_eq_true rfl) e23 ?_
      rcases zbind3 H with ⟨x25, h26, e24, H⟩ | ⟨q27, h28, e24, H⟩
      · refine zw_invS (pc := 24) (M' := M_X1_of) (A := [vR (some q21)]) [vI p2, vR x19] dX1_transposeNow_24 (Or.inl q1610) mf_X1_of (w_X1_of e24) (Nat.le_of_ble_eq_true rfl) rfl rfl (Nat.le_of_ble_eq_true rfl) (zkv ?_) zkn9
        obtain ⟨b29, e31, H⟩ := zbind H
        obtain ⟨e30, e32⟩ := zrv_ok e31
        obtain ⟨x35, h34, e33, H⟩ := zbind2 H
        refine zw_invV (pc := 27) (M' := M_X2_put) (A := [vI p2, vR x25]) [] dX1_transposeNow_27 (Or.inl q1592) mf_X2_put q1095 (zkq e32 rfl) (w_X2_put e33) (Nat.le_of_ble_eq_true rfl) rfl (by rw [← e30]; rfl) (Nat.le_of_ble_eq_true rfl) (zkv ?_) zkn9
        obtain ⟨rfl, rfl⟩ := Prod.mk.inj (Option.some.inj H)
        exact zw_iret (pc := 30) dX1_transposeNow_30 rfl rfl rfl
      · refine zw_invS (pc := 24) (M' := M_X1_of) (A := [vR (some q21)]) [vI p2, vR x19] dX1_transposeNow_24 (Or.inl q1610) mf_X1_of (w_X1_of e24) (Nat.le_of_ble_eq_true rfl) rfl rfl (Nat.le_of_ble_eq_true rfl) zkv0 (zkx ?_)
        rcases zif H with ⟨c36, H⟩ | ⟨c36, H⟩
        · have c36 := c36
          obtain ⟨rfl, rfl⟩ := Prod.mk.inj (Option.some.inj H)
          exact zx_out (zkq c36 rfl) (fun _ hz => nomatch hz) rfl rfl
        cases H
    · refine zw_invV (pc := 8) (M' := M_X1_matrix) (A := [vI p2]) [] dX1_transposeNow_8 (Or.inl q1567) mf_X1_matrix ls_X1_matrix (zkq e13 rfl) (w_X1_matrix e14) (Nat.le_of_ble_eq_true rfl) rfl (by rw [← e11]; rfl) (Nat.le_of_ble_eq_true rfl) zkv0 (zkx ?_)
      rcases zif H with ⟨c37, H⟩ | ⟨c37, H⟩
      · have c37 := c37
        obtain ⟨rfl, rfl⟩ := Prod.mk.inj (Option.some.inj H)
        exact zx_out (zkq c37 rfl) (fun _ hz => nomatch hz) rfl rfl
      cases H
  · refine zw_invV (pc := 2) (M' := M_X1_matrix) (A := [vI p1]) [] dX1_transposeNow_2 (Or.inl q1567) mf_X1_matrix ls_X1_matrix (zkq e4 rfl) (w_X1_matrix e5) (Nat.le_of_ble_eq_true rfl) rfl (by rw [← e2]; rfl) (Nat.le_of_ble_eq_true rfl) zkv0 (zkx ?_)
    rcases zif H with ⟨c38, H⟩ | ⟨c38, H⟩
    · have c38 := c38
      obtain ⟨rfl, rfl⟩ := Prod.mk.inj (Option.some.inj H)
      exact zx_out (zkq c38 rfl) (fun _ hz => nomatch hz) rfl rfl
    cases H
theorem ls_X1_transposeNow : Cond.selects yX1_transposeNow.cls yX1_transposeNow yX1_transposeNow ∈ lw_all := lw_g (lw_ms _ (List.mem_of_getElem? (i := 66) rfl)) rfl
def M_X1_transposeInto : zM := (yX1_transposeInto, cX1_transposeInto, 3, (.some .int), [])
theorem mf_X1_transposeInto : zMi M_X1_transposeInto 2 := ⟨⟨q2010, q180, ⟨by decide +kernel, by decide +kernel⟩, by decide +kernel, by decide⟩, q2008⟩
def f_X1_transposeInto (p0 : Option Nat) (p1 : Int32) (p2 : Int32) (h : zH) : Option ((Int32 ⊕ Nat) × zH) :=
  (zgR 1 5 p0 h).bind fun x1 =>
  (zrv 2 x1 h).bind fun b3 =>
  zb2 (f_X2_copy (some b3) h) fun x9 h8 =>
  (zrv 1 p0 h8).bind fun b10 =>
  zb3 (f_X1_transposeNow (some b10) p1 p2 h8) (fun x15 h16 =>
  (zrv 1 p0 h16).bind fun b19 =>
  zb2 (f_X1_kept (some b19) x9 x15 h16) fun x25 h24 =>
  some (.inl x25, h24))
  (fun q17 h18 =>
  if zk h18 q17 = 20 then
  some (.inr q17, h18)
  else if zk h18 q17 = 22 then
  some (.inr q17, h18)
  else none)
theorem w_X1_transposeInto {G : zG} {p0 : Option Nat} {p1 : Int32} {p2 : Int32} {h : zH} {vo : Int32 ⊕ Nat} {vh : zH} (H : f_X1_transposeInto p0 p1 p2 h = some (vo, vh)) : zMet G M_X1_transposeInto 13 [vR p0, vI p1, vI p2] h (zoI vo) vh := by
  refine zMet.of (by decide +kernel) (Nat.le_of_ble_eq_true rfl) ?_
  show zW G M_X1_transposeInto 13 h (zoI vo) vh 0 [(0, vR p0), (1, vI p1), (2, vI p2)] [] h
  unfold f_X1_transposeInto at H
  refine zw_aload_n (pc := 0) dX1_transposeInto_0 rfl 0 rfl ?_
  refine zw_aload_n (pc := 1) dX1_transposeInto_1 rfl 0 rfl ?_
  obtain ⟨x1, e2, H⟩ := zbind H
  refine zy_getR (pc := 2) dX1_transposeInto_2 lf_X1_120 (fun _ _ => rfl) e2 ?_
  obtain ⟨b3, e5, H⟩ := zbind H
  obtain ⟨e4, e6⟩ := zrv_ok e5
  obtain ⟨x9, h8, e7, H⟩ := zbind2 H
  refine zw_invV (pc := 5) (M' := M_X2_copy) (A := []) [vR p0] dX1_transposeInto_5 (Or.inl q546) mf_X2_copy q548 (zkq e6 rfl) (w_X2_copy e7) (Nat.le_of_ble_eq_true rfl) rfl (by rw [← e4]; rfl) (Nat.le_of_ble_eq_true rfl) (zkv ?_) zkn9
  refine zw_aload_n (pc := 8) dX1_transposeInto_8 rfl 0 rfl ?_
  refine zw_iload_n (pc := 9) dX1_transposeInto_9 rfl 1 rfl ?_
  refine zw_iload_n (pc := 10) dX1_transposeInto_10 rfl 2 rfl ?_
  obtain ⟨b10, e12, H⟩ := zbind H
  obtain ⟨e11, e13⟩ := zrv_ok e12
  rcases zbind3 H with ⟨x15, h16, e14, H⟩ | ⟨q17, h18, e14, H⟩
  · refine zw_invV (pc := 11) (M' := M_X1_transposeNow) (A := [vI p1, vI p2]) [vR x9, vR p0] dX1_transposeInto_11 (Or.inl q2011) mf_X1_transposeNow ls_X1_transposeNow (zkq e13 rfl) (w_X1_transposeNow e14) (Nat.le_of_ble_eq_true rfl) rfl (by rw [← e11]; rfl) (Nat.le_of_ble_eq_true rfl) (zkv ?_) zkn9
    obtain ⟨b19, e21, H⟩ := zbind H
    obtain ⟨e20, e22⟩ := zrv_ok e21
    obtain ⟨x25, h24, e23, H⟩ := zbind2 H
    refine zw_invV (pc := 14) (M' := M_X1_kept) (A := [vR x9, vI x15]) [] dX1_transposeInto_14 (Or.inl q1669) mf_X1_kept ls_X1_kept (zkq e22 rfl) (w_X1_kept e23) (Nat.le_of_ble_eq_true rfl) rfl (by rw [← e20]; rfl) (Nat.le_of_ble_eq_true rfl) (zkv ?_) zkn9
    obtain ⟨rfl, rfl⟩ := Prod.mk.inj (Option.some.inj H)
    exact zw_iret (pc := 17) dX1_transposeInto_17 rfl rfl rfl
  · refine zw_invV (pc := 11) (M' := M_X1_transposeNow) (A := [vI p1, vI p2]) [vR x9, vR p0] dX1_transposeInto_11 (Or.inl q2011) mf_X1_transposeNow ls_X1_transposeNow (zkq e13 rfl) (w_X1_transposeNow e14) (Nat.le_of_ble_eq_true rfl) rfl (by rw [← e11]; rfl) (Nat.le_of_ble_eq_true rfl) zkv0 (zkx ?_)
    rcases zif H with ⟨c26, H⟩ | ⟨c26, H⟩
    · have c26 := c26
      obtain ⟨rfl, rfl⟩ := Prod.mk.inj (Option.some.inj H)
      exact zx_out (zkq c26 rfl) (fun _ hz => nomatch hz) rfl rfl
    rcases zif H with ⟨c27, H⟩ | ⟨c27, H⟩
    · have c27 := c27
      obtain ⟨rfl, rfl⟩ := Prod.mk.inj (Option.some.inj H)
      exact zx_out (zkq c27 rfl) (fun _ hz => nomatch hz) rfl rfl
    cases H
theorem lm_24 : zLm yX1_addNow 30 378 24 := ⟨_, rfl, rfl, by decide, by decide +kernel⟩
def M_X1_addNow : zM := (yX1_addNow, cX1_addNow, 7, (.some .int), [])
theorem mf_X1_addNow : zMi M_X1_addNow 3 := ⟨⟨q2027, q180, ⟨by decide +kernel, by decide +kernel⟩, by decide +kernel, by decide⟩, q2026⟩
def f_X1_addNow (p0 : Option Nat) (p1 : Int32) (p2 : Int32) (p3 : Int32) (h : zH) : Option ((Int32 ⊕ Nat) × zH) :=
  (zrv 1 p0 h).bind fun b1 =>
  zb3 (f_X1_matrix (some b1) p1 h) (fun x6 h7 =>
  (zrv 1 p0 h7).bind fun b10 =>
  zb3 (f_X1_matrix (some b10) p2 h7) (fun x15 h16 =>
  (zrv 1 p0 h16).bind fun b19 =>
  zb3 (f_X1_matrix (some b19) p3 h16) (fun x24 h25 =>
  (zgR 1 5 p0 h25).bind fun x28 =>
  zb2 (zlm 24 [vR x6, vR x15] h25) fun q30 h31 =>
  zb3 (f_X1_of (some q30) h31) (fun x34 h35 =>
  (zrv 2 x28 h35).bind fun b38 =>
  zb2 (f_X2_put (some b38) p3 x34 h35) fun x44 h43 =>
  some (.inl x44, h43))
  (fun q36 h37 =>
  if zk h37 q36 = 22 then
  some (.inr q36, h37)
  else none))
  (fun q26 h27 =>
  if zk h27 q26 = 20 then
  some (.inr q26, h27)
  else none))
  (fun q17 h18 =>
  if zk h18 q17 = 20 then
  some (.inr q17, h18)
  else none))
  (fun q8 h9 =>
  if zk h9 q8 = 20 then
  some (.inr q8, h9)
  else none)
theorem w_X1_addNow {G : zG} {p0 : Option Nat} {p1 : Int32} {p2 : Int32} {p3 : Int32} {h : zH} {vo : Int32 ⊕ Nat} {vh : zH} (H : f_X1_addNow p0 p1 p2 p3 h = some (vo, vh)) : zMet G M_X1_addNow 12 [vR p0, vI p1, vI p2, vI p3] h (zoI vo) vh := by
  refine zMet.of (by decide +kernel) (Nat.le_of_ble_eq_true rfl) ?_
  show zW G M_X1_addNow 12 h (zoI vo) vh 0 [(0, vR p0), (1, vI p1), (2, vI p2), (3, vI p3)] [] h
  unfold f_X1_addNow at H
  refine zw_aload_n (pc := 0) dX1_addNow_0 rfl 0 rfl ?_
  refine zw_iload_n (pc := 1) dX1_addNow_1 rfl 1 rfl ?_
  obtain ⟨b1, e3, H⟩ := zbind H
  obtain ⟨e2, e4⟩ := zrv_ok e3
  rcases zbind3 H with ⟨x6, h7, e5, H⟩ | ⟨q8, h9, e5, H⟩
  · refine zw_invV (pc := 2) (M' := M_X1_matrix) (A := [vI p1]) [] dX1_addNow_2 (Or.inl q1567) mf_X1_matrix ls_X1_matrix (zkq e4 rfl) (w_X1_matrix e5) (Nat.le_of_ble_eq_true rfl) rfl (by rw [← e2]; rfl) (Nat.le_of_ble_eq_true rfl) (zkv ?_) zkn9
    refine zw_astore (pc := 5) (lv' := [(4, vR x6), (0, vR p0), (1, vI p1), (2, vI p2), (3, vI p3)]) dX1_addNow_5 (by decide) rfl ?_
    refine zw_aload_n (pc := 7) dX1_addNow_7 rfl 1 rfl ?_
    refine zw_iload_n (pc := 8) dX1_addNow_8 rfl 3 rfl ?_
    obtain ⟨b10, e12, H⟩ := zbind H
    obtain ⟨e11, e13⟩ := zrv_ok e12
    rcases zbind3 H with ⟨x15, h16, e14, H⟩ | ⟨q17, h18, e14, H⟩
    · refine zw_invV (pc := 9) (M' := M_X1_matrix) (A := [vI p2]) [] dX1_addNow_9 (Or.inl q1567) mf_X1_matrix ls_X1_matrix (zkq e13 rfl) (w_X1_matrix e14) (Nat.le_of_ble_eq_true rfl) rfl (by rw [← e11]; rfl) (Nat.le_of_ble_eq_true rfl) (zkv ?_) zkn9
      refine zw_astore (pc := 12) (lv' := [(5, vR x15), (4, vR x6), (0, vR p0), (1, vI p1), (2, vI p2), (3, vI p3)]) dX1_addNow_12 (by decide) rfl ?_
      refine zw_aload_n (pc := 14) dX1_addNow_14 rfl 2 rfl ?_
      refine zw_iload_n (pc := 15) dX1_addNow_15 rfl 5 rfl ?_
      obtain ⟨b19, e21, H⟩ := zbind H
      obtain ⟨e20, e22⟩ := zrv_ok e21
      rcases zbind3 H with ⟨x24, h25, e23, H⟩ | ⟨q26, h27, e23, H⟩
      · refine zw_invV (pc := 16) (M' := M_X1_matrix) (A := [vI p3]) [] dX1_addNow_16 (Or.inl q1567) mf_X1_matrix ls_X1_matrix (zkq e22 rfl) (w_X1_matrix e23) (Nat.le_of_ble_eq_true rfl) rfl (by rw [← e20]; rfl) (Nat.le_of_ble_eq_true rfl) (zkv ?_) zkn9
        refine zw_astore (pc := 19) (lv' := [(6, vR x24), (5, vR x15), (4, vR x6), (0, vR p0), (1, vI p1), (2, vI p2), (3, vI p3)]) dX1_addNow_19 (by decide) rfl ?_
        refine zw_aload_n (pc := 21) dX1_addNow_21 rfl 3 rfl ?_
        obtain ⟨x28, e29, H⟩ := zbind H
        refine zy_getR (pc := 22) dX1_addNow_22 lf_X1_120 (fun _ _ => rfl) e29 ?_
        refine zw_iload_n (pc := 25) dX1_addNow_25 rfl 6 rfl ?_
        refine zw_aload (pc := 26) dX1_addNow_26 2 rfl ?_
        refine zw_aload (pc := 28) dX1_addNow_28 1 rfl ?_
        obtain ⟨q30, h31, e32, H⟩ := zbind2 H
        refine zy_lam (pc := 30) (i := 24) (A := [vR x6, vR x15]) [vI p3, vR x28] dX1_addNow_30 lm_24 (show zokL (zLc 24) [vR x6, vR x15] from (zokL_ref (zokL_ref zokL_nil))) rfl (Nat.le_of_ble_eq_true rfl) e32 ?_
        rcases zbind3 H with ⟨x34, h35, e33, H⟩ | ⟨q36, h37, e33, H⟩
        · refine zw_invS (pc := 35) (M' := M_X1_of) (A := [vR (some q30)]) [vI p3, vR x28] dX1_addNow_35 (Or.inl q1610) mf_X1_of (w_X1_of e33) (Nat.le_of_ble_eq_true rfl) rfl rfl (Nat.le_of_ble_eq_true rfl) (zkv ?_) zkn9
          obtain ⟨b38, e40, H⟩ := zbind H
          obtain ⟨e39, e41⟩ := zrv_ok e40
          obtain ⟨x44, h43, e42, H⟩ := zbind2 H
          refine zw_invV (pc := 38) (M' := M_X2_put) (A := [vI p3, vR x34]) [] dX1_addNow_38 (Or.inl q1592) mf_X2_put q1095 (zkq e41 rfl) (w_X2_put e42) (Nat.le_of_ble_eq_true rfl) rfl (by rw [← e39]; rfl) (Nat.le_of_ble_eq_true rfl) (zkv ?_) zkn9
          obtain ⟨rfl, rfl⟩ := Prod.mk.inj (Option.some.inj H)
          exact zw_iret (pc := 41) dX1_addNow_41 rfl rfl rfl
        · refine zw_invS (pc := 35) (M' := M_X1_of) (A := [vR (some q30)]) [vI p3, vR x28] dX1_addNow_35 (Or.inl q1610) mf_X1_of (w_X1_of e33) (Nat.le_of_ble_eq_true rfl) rfl rfl (Nat.le_of_ble_eq_true rfl) zkv0 (zkx ?_)
          rcases zif H with ⟨c45, H⟩ | ⟨c45, H⟩
          · have c45 := c45
            obtain ⟨rfl, rfl⟩ := Prod.mk.inj (Option.some.inj H)
            exact zx_out (zkq c45 rfl) (fun _ hz => nomatch hz) rfl rfl
          cases H
      · refine zw_invV (pc := 16) (M' := M_X1_matrix) (A := [vI p3]) [] dX1_addNow_16 (Or.inl q1567) mf_X1_matrix ls_X1_matrix (zkq e22 rfl) (w_X1_matrix e23) (Nat.le_of_ble_eq_true rfl) rfl (by rw [← e20]; rfl) (Nat.le_of_ble_eq_true rfl) zkv0 (zkx ?_)
        rcases zif H with ⟨c46, H⟩ | ⟨c46, H⟩
        · have c46 := c46
          obtain ⟨rfl, rfl⟩ := Prod.mk.inj (Option.some.inj H)
          exact zx_out (zkq c46 rfl) (fun _ hz => nomatch hz) rfl rfl
        cases H
    · refine zw_invV (pc := 9) (M' := M_X1_matrix) (A := [vI p2]) [] dX1_addNow_9 (Or.inl q1567) mf_X1_matrix ls_X1_matrix (zkq e13 rfl) (w_X1_matrix e14) (Nat.le_of_ble_eq_true rfl) rfl (by rw [← e11]; rfl) (Nat.le_of_ble_eq_true rfl) zkv0 (zkx ?_)
      rcases zif H with ⟨c47, H⟩ | ⟨c47, H⟩
      · have c47 := c47
        obtain ⟨rfl, rfl⟩ := Prod.mk.inj (Option.some.inj H)
        exact zx_out (zkq c47 rfl) (fun _ hz => nomatch hz) rfl rfl
      cases H
  · refine zw_invV (pc := 2) (M' := M_X1_matrix) (A := [vI p1]) [] dX1_addNow_2 (Or.inl q1567) mf_X1_matrix ls_X1_matrix (zkq e4 rfl) (w_X1_matrix e5) (Nat.le_of_ble_eq_true rfl) rfl (by rw [← e2]; rfl) (Nat.le_of_ble_eq_true rfl) zkv0 (zkx ?_)
    rcases zif H with ⟨c48, H⟩ | ⟨c48, H⟩
    · have c48 := c48
      obtain ⟨rfl, rfl⟩ := Prod.mk.inj (Option.some.inj H)
      exact zx_out (zkq c48 rfl) (fun _ hz => nomatch hz) rfl rfl
    cases H
theorem ls_X1_addNow : Cond.selects yX1_addNow.cls yX1_addNow yX1_addNow ∈ lw_all := lw_g (lw_ms _ (List.mem_of_getElem? (i := 67) rfl)) rfl
def M_X1_addInto : zM := (yX1_addInto, cX1_addInto, 4, (.some .int), [])
theorem mf_X1_addInto : zMi M_X1_addInto 3 := ⟨⟨q2023, q180, ⟨by decide +kernel, by decide +kernel⟩, by decide +kernel, by decide⟩, q2021⟩
def f_X1_addInto (p0 : Option Nat) (p1 : Int32) (p2 : Int32) (p3 : Int32) (h : zH) : Option ((Int32 ⊕ Nat) × zH) :=
  (zgR 1 5 p0 h).bind fun x1 =>
  (zrv 2 x1 h).bind fun b3 =>
  zb2 (f_X2_copy (some b3) h) fun x9 h8 =>
  (zrv 1 p0 h8).bind fun b10 =>
  zb3 (f_X1_addNow (some b10) p1 p2 p3 h8) (fun x15 h16 =>
  (zrv 1 p0 h16).bind fun b19 =>
  zb2 (f_X1_kept (some b19) x9 x15 h16) fun x25 h24 =>
  some (.inl x25, h24))
  (fun q17 h18 =>
  if zk h18 q17 = 20 then
  some (.inr q17, h18)
  else if zk h18 q17 = 22 then
  some (.inr q17, h18)
  else none)
theorem w_X1_addInto {G : zG} {p0 : Option Nat} {p1 : Int32} {p2 : Int32} {p3 : Int32} {h : zH} {vo : Int32 ⊕ Nat} {vh : zH} (H : f_X1_addInto p0 p1 p2 p3 h = some (vo, vh)) : zMet G M_X1_addInto 13 [vR p0, vI p1, vI p2, vI p3] h (zoI vo) vh := by
  refine zMet.of (by decide +kernel) (Nat.le_of_ble_eq_true rfl) ?_
  show zW G M_X1_addInto 13 h (zoI vo) vh 0 [(0, vR p0), (1, vI p1), (2, vI p2), (3, vI p3)] [] h
  unfold f_X1_addInto at H
  refine zw_aload_n (pc := 0) dX1_addInto_0 rfl 0 rfl ?_
  refine zw_aload_n (pc := 1) dX1_addInto_1 rfl 0 rfl ?_
  obtain ⟨x1, e2, H⟩ := zbind H
  refine zy_getR (pc := 2) dX1_addInto_2 lf_X1_120 (fun _ _ => rfl) e2 ?_
  obtain ⟨b3, e5, H⟩ := zbind H
  obtain ⟨e4, e6⟩ := zrv_ok e5
  obtain ⟨x9, h8, e7, H⟩ := zbind2 H
  refine zw_invV (pc := 5) (M' := M_X2_copy) (A := []) [vR p0] dX1_addInto_5 (Or.inl q546) mf_X2_copy q548 (zkq e6 rfl) (w_X2_copy e7) (Nat.le_of_ble_eq_true rfl) rfl (by rw [← e4]; rfl) (Nat.le_of_ble_eq_true rfl) (zkv ?_) zkn9
  refine zw_aload_n (pc := 8) dX1_addInto_8 rfl 0 rfl ?_
  refine zw_iload_n (pc := 9) dX1_addInto_9 rfl 1 rfl ?_
  refine zw_iload_n (pc := 10) dX1_addInto_10 rfl 2 rfl ?_
  refine zw_iload_n (pc := 11) dX1_addInto_11 rfl 3 rfl ?_
  obtain ⟨b10, e12, H⟩ := zbind H
  obtain ⟨e11, e13⟩ := zrv_ok e12
  rcases zbind3 H with ⟨x15, h16, e14, H⟩ | ⟨q17, h18, e14, H⟩
  · refine zw_invV (pc := 12) (M' := M_X1_addNow) (A := [vI p1, vI p2, vI p3]) [vR x9, vR p0] dX1_addInto_12 (Or.inl q2024) mf_X1_addNow ls_X1_addNow (zkq e13 rfl) (w_X1_addNow e14) (Nat.le_of_ble_eq_true rfl) rfl (by rw [← e11]; rfl) (Nat.le_of_ble_eq_true rfl) (zkv ?_) zkn9
    obtain ⟨b19, e21, H⟩ := zbind H
    obtain ⟨e20, e22⟩ := zrv_ok e21
    obtain ⟨x25, h24, e23, H⟩ := zbind2 H
    refine zw_invV (pc := 15) (M' := M_X1_kept) (A := [vR x9, vI x15]) [] dX1_addInto_15 (Or.inl q1669) mf_X1_kept ls_X1_kept (zkq e22 rfl) (w_X1_kept e23) (Nat.le_of_ble_eq_true rfl) rfl (by rw [← e20]; rfl) (Nat.le_of_ble_eq_true rfl) (zkv ?_) zkn9
    obtain ⟨rfl, rfl⟩ := Prod.mk.inj (Option.some.inj H)
    exact zw_iret (pc := 18) dX1_addInto_18 rfl rfl rfl
  · refine zw_invV (pc := 12) (M' := M_X1_addNow) (A := [vI p1, vI p2, vI p3]) [vR x9, vR p0] dX1_addInto_12 (Or.inl q2024) mf_X1_addNow ls_X1_addNow (zkq e13 rfl) (w_X1_addNow e14) (Nat.le_of_ble_eq_true rfl) rfl (by rw [← e11]; rfl) (Nat.le_of_ble_eq_true rfl) zkv0 (zkx ?_)
    rcases zif H with ⟨c26, H⟩ | ⟨c26, H⟩
    · have c26 := c26
      obtain ⟨rfl, rfl⟩ := Prod.mk.inj (Option.some.inj H)
      exact zx_out (zkq c26 rfl) (fun _ hz => nomatch hz) rfl rfl
    rcases zif H with ⟨c27, H⟩ | ⟨c27, H⟩
    · have c27 := c27
      obtain ⟨rfl, rfl⟩ := Prod.mk.inj (Option.some.inj H)
      exact zx_out (zkq c27 rfl) (fun _ hz => nomatch hz) rfl rfl
    cases H
theorem lm_25 : zLm yX1_multiplyNow 25 381 25 := ⟨_, rfl, rfl, by decide, by decide +kernel⟩
theorem lp_X1_309 {nm : String} : zFp "CsrCalculator" nm 309 2 1 := ⟨_, "CsrCalculator$World", by decide, rfl, by decide, Or.inl rfl, Or.inl ⟨Or.inr (by decide +kernel), rfl⟩⟩
def M_X1_multiplyNow : zM := (yX1_multiplyNow, cX1_multiplyNow, 8, (.some .int), [])
theorem mf_X1_multiplyNow : zMi M_X1_multiplyNow 3 := ⟨⟨q2040, q180, ⟨by decide +kernel, by decide +kernel⟩, by decide +kernel, by decide⟩, q2039⟩
def f_X1_multiplyNow (p0 : Option Nat) (p1 : Int32) (p2 : Int32) (p3 : Int32) (h : zH) : Option ((Int32 ⊕ Nat) × zH) :=
  (zrv 1 p0 h).bind fun b1 =>
  zb3 (f_X1_matrix (some b1) p1 h) (fun x6 h7 =>
  (zrv 1 p0 h7).bind fun b10 =>
  zb3 (f_X1_matrix (some b10) p2 h7) (fun x15 h16 =>
  (zrv 1 p0 h16).bind fun b19 =>
  zb3 (f_X1_matrix (some b19) p3 h16) (fun x24 h25 =>
  zb2 (zlm 25 [vR x6, vR x15] h25) fun q28 h29 =>
  zb3 (f_X1_of (some q28) h29) (fun x32 h33 =>
  (zgR 1 5 p0 h33).bind fun x36 =>
  (zgI 2 1 x36 h33).bind fun x38 =>
  (zrv 3 x6 h33).bind fun b40 =>
  (f_X3_workWith (some b40) x15 h33).bind fun x45 =>
  (zpI 2 1 x36 (x38 + x45) h33).bind fun h46 =>
  (zgR 1 5 p0 h46).bind fun x48 =>
  (zrv 2 x48 h46).bind fun b50 =>
  zb2 (f_X2_put (some b50) p3 x32 h46) fun x56 h55 =>
  some (.inl x56, h55))
  (fun q34 h35 =>
  if zk h35 q34 = 22 then
  some (.inr q34, h35)
  else none))
  (fun q26 h27 =>
  if zk h27 q26 = 20 then
  some (.inr q26, h27)
  else none))
  (fun q17 h18 =>
  if zk h18 q17 = 20 then
  some (.inr q17, h18)
  else none))
  (fun q8 h9 =>
  if zk h9 q8 = 20 then
  some (.inr q8, h9)
  else none)
theorem w_X1_multiplyNow {G : zG} {p0 : Option Nat} {p1 : Int32} {p2 : Int32} {p3 : Int32} {h : zH} {vo : Int32 ⊕ Nat} {vh : zH} (H : f_X1_multiplyNow p0 p1 p2 p3 h = some (vo, vh)) : zMet G M_X1_multiplyNow 12 [vR p0, vI p1, vI p2, vI p3] h (zoI vo) vh := by
  refine zMet.of (by decide +kernel) (Nat.le_of_ble_eq_true rfl) ?_
  show zW G M_X1_multiplyNow 12 h (zoI vo) vh 0 [(0, vR p0), (1, vI p1), (2, vI p2), (3, vI p3)] [] h
  unfold f_X1_multiplyNow at H
  refine zw_aload_n (pc := 0) dX1_multiplyNow_0 rfl 0 rfl ?_
  refine zw_iload_n (pc := 1) dX1_multiplyNow_1 rfl 1 rfl ?_
  obtain ⟨b1, e3, H⟩ := zbind H
  obtain ⟨e2, e4⟩ := zrv_ok e3
  rcases zbind3 H with ⟨x6, h7, e5, H⟩ | ⟨q8, h9, e5, H⟩
  · refine zw_invV (pc := 2) (M' := M_X1_matrix) (A := [vI p1]) [] dX1_multiplyNow_2 (Or.inl q1567) mf_X1_matrix ls_X1_matrix (zkq e4 rfl) (w_X1_matrix e5) (Nat.le_of_ble_eq_true rfl) rfl (by rw [← e2]; rfl) (Nat.le_of_ble_eq_true rfl) (zkv ?_) zkn9
    refine zw_astore (pc := 5) (lv' := [(4, vR x6), (0, vR p0), (1, vI p1), (2, vI p2), (3, vI p3)]) dX1_multiplyNow_5 (by decide) rfl ?_
    refine zw_aload_n (pc := 7) dX1_multiplyNow_7 rfl 1 rfl ?_
    refine zw_iload_n (pc := 8) dX1_multiplyNow_8 rfl 3 rfl ?_
    obtain ⟨b10, e12, H⟩ := zbind H
    obtain ⟨e11, e13⟩ := zrv_ok e12
    rcases zbind3 H with ⟨x15, h16, e14, H⟩ | ⟨q17, h18, e14, H⟩
    · refine zw_invV (pc := 9) (M' := M_X1_matrix) (A := [vI p2]) [] dX1_multiplyNow_9 (Or.inl q1567) mf_X1_matrix ls_X1_matrix (zkq e13 rfl) (w_X1_matrix e14) (Nat.le_of_ble_eq_true rfl) rfl (by rw [← e11]; rfl) (Nat.le_of_ble_eq_true rfl) (zkv ?_) zkn9
      refine zw_astore (pc := 12) (lv' := [(5, vR x15), (4, vR x6), (0, vR p0), (1, vI p1), (2, vI p2), (3, vI p3)]) dX1_multiplyNow_12 (by decide) rfl ?_
      refine zw_aload_n (pc := 14) dX1_multiplyNow_14 rfl 2 rfl ?_
      refine zw_iload_n (pc := 15) dX1_multiplyNow_15 rfl 5 rfl ?_
      obtain ⟨b19, e21, H⟩ := zbind H
      obtain ⟨e20, e22⟩ := zrv_ok e21
      rcases zbind3 H with ⟨x24, h25, e23, H⟩ | ⟨q26, h27, e23, H⟩
      · refine zw_invV (pc := 16) (M' := M_X1_matrix) (A := [vI p3]) [] dX1_multiplyNow_16 (Or.inl q1567) mf_X1_matrix ls_X1_matrix (zkq e22 rfl) (w_X1_matrix e23) (Nat.le_of_ble_eq_true rfl) rfl (by rw [← e20]; rfl) (Nat.le_of_ble_eq_true rfl) (zkv ?_) zkn9
        refine zw_astore (pc := 19) (lv' := [(6, vR x24), (5, vR x15), (4, vR x6), (0, vR p0), (1, vI p1), (2, vI p2), (3, vI p3)]) dX1_multiplyNow_19 (by decide) rfl ?_
        refine zw_aload (pc := 21) dX1_multiplyNow_21 2 rfl ?_
        refine zw_aload (pc := 23) dX1_multiplyNow_23 1 rfl ?_
        obtain ⟨q28, h29, e30, H⟩ := zbind2 H
        refine zy_lam (pc := 25) (i := 25) (A := [vR x6, vR x15]) [] dX1_multiplyNow_25 lm_25 (show zokL (zLc 25) [vR x6, vR x15] from (zokL_ref (zokL_ref zokL_nil))) rfl (Nat.le_of_ble_eq_true rfl) e30 ?_
        rcases zbind3 H with ⟨x32, h33, e31, H⟩ | ⟨q34, h35, e31, H⟩
        · refine zw_invS (pc := 30) (M' := M_X1_of) (A := [vR (some q28)]) [] dX1_multiplyNow_30 (Or.inl q1610) mf_X1_of (w_X1_of e31) (Nat.le_of_ble_eq_true rfl) rfl rfl (Nat.le_of_ble_eq_true rfl) (zkv ?_) zkn9
          refine zw_astore (pc := 33) (lv' := [(7, vR x32), (6, vR x24), (5, vR x15), (4, vR x6), (0, vR p0), (1, vI p1), (2, vI p2), (3, vI p3)]) dX1_multiplyNow_33 (by decide) rfl ?_
          refine zw_aload_n (pc := 35) dX1_multiplyNow_35 rfl 4 rfl ?_
          obtain ⟨x36, e37, H⟩ := zbind H
          refine zy_getR (pc := 36) dX1_multiplyNow_36 lf_X1_120 (fun _ _ => rfl) e37 ?_
          refine zw_dup (pc := 39) dX1_multiplyNow_39 rfl ?_
          obtain ⟨x38, e39, H⟩ := zbind H
          refine zy_getI (pc := 40) dX1_multiplyNow_40 lf_X1_309 (fun _ _ => rfl) e39 ?_
          refine zw_aload (pc := 43) dX1_multiplyNow_43 3 rfl ?_
          refine zw_aload (pc := 45) dX1_multiplyNow_45 2 rfl ?_
          obtain ⟨b40, e42, H⟩ := zbind H
          obtain ⟨e41, e43⟩ := zrv_ok e42
          obtain ⟨x45, e44, H⟩ := zbind H
          refine zw_invV (pc := 47) (M' := M_X3_workWith) (A := [vR x15]) [vI x38, vR x36] dX1_multiplyNow_47 (Or.inl q1923) mf_X3_workWith q1434 (zkq e43 rfl) (w_X3_workWith e44) (Nat.le_of_ble_eq_true rfl) rfl (by rw [← e41]; rfl) (Nat.le_of_ble_eq_true rfl) (zkv ?_) zkn9
          refine zw_iadd (pc := 50) dX1_multiplyNow_50 ?_
          obtain ⟨h46, e47, H⟩ := zbind H
          refine zy_putI (pc := 51) dX1_multiplyNow_51 lp_X1_309 rfl e47 ?_
          refine zw_aload_n (pc := 54) dX1_multiplyNow_54 rfl 4 rfl ?_
          obtain ⟨x48, e49, H⟩ := zbind H
          refine zy_getR (pc := 55) dX1_multiplyNow_55 lf_X1_120 (fun _ _ => rfl) e49 ?_
          refine zw_iload_n (pc := 58) dX1_multiplyNow_58 rfl 7 rfl ?_
          refine zw_aload (pc := 59) dX1_multiplyNow_59 0 rfl ?_
          obtain ⟨b50, e52, H⟩ := zbind H
          obtain ⟨e51, e53⟩ := zrv_ok e52
          obtain ⟨x56, h55, e54, H⟩ := zbind2 H
          refine zw_invV (pc := 61) (M' := M_X2_put) (A := [vI p3, vR x32]) [] dX1_multiplyNow_61 (Or.inl q1592) mf_X2_put q1095 (zkq e53 rfl) (w_X2_put e54) (Nat.le_of_ble_eq_true rfl) rfl (by rw [← e51]; rfl) (Nat.le_of_ble_eq_true rfl) (zkv ?_) zkn9
          obtain ⟨rfl, rfl⟩ := Prod.mk.inj (Option.some.inj H)
          exact zw_iret (pc := 64) dX1_multiplyNow_64 rfl rfl rfl
        · refine zw_invS (pc := 30) (M' := M_X1_of) (A := [vR (some q28)]) [] dX1_multiplyNow_30 (Or.inl q1610) mf_X1_of (w_X1_of e31) (Nat.le_of_ble_eq_true rfl) rfl rfl (Nat.le_of_ble_eq_true rfl) zkv0 (zkx ?_)
          rcases zif H with ⟨c57, H⟩ | ⟨c57, H⟩
          · have c57 := c57
            obtain ⟨rfl, rfl⟩ := Prod.mk.inj (Option.some.inj H)
            exact zx_out (zkq c57 rfl) (fun _ hz => nomatch hz) rfl rfl
          cases H
      · refine zw_invV (pc := 16) (M' := M_X1_matrix) (A := [vI p3]) [] dX1_multiplyNow_16 (Or.inl q1567) mf_X1_matrix ls_X1_matrix (zkq e22 rfl) (w_X1_matrix e23) (Nat.le_of_ble_eq_true rfl) rfl (by rw [← e20]; rfl) (Nat.le_of_ble_eq_true rfl) zkv0 (zkx ?_)
        rcases zif H with ⟨c58, H⟩ | ⟨c58, H⟩
        · have c58 := c58
          obtain ⟨rfl, rfl⟩ := Prod.mk.inj (Option.some.inj H)
          exact zx_out (zkq c58 rfl) (fun _ hz => nomatch hz) rfl rfl
        cases H
    · refine zw_invV (pc := 9) (M' := M_X1_matrix) (A := [vI p2]) [] dX1_multiplyNow_9 (Or.inl q1567) mf_X1_matrix ls_X1_matrix (zkq e13 rfl) (w_X1_matrix e14) (Nat.le_of_ble_eq_true rfl) rfl (by rw [← e11]; rfl) (Nat.le_of_ble_eq_true rfl) zkv0 (zkx ?_)
      rcases zif H with ⟨c59, H⟩ | ⟨c59, H⟩
      · have c59 := c59
        obtain ⟨rfl, rfl⟩ := Prod.mk.inj (Option.some.inj H)
        exact zx_out (zkq c59 rfl) (fun _ hz => nomatch hz) rfl rfl
      cases H
  · refine zw_invV (pc := 2) (M' := M_X1_matrix) (A := [vI p1]) [] dX1_multiplyNow_2 (Or.inl q1567) mf_X1_matrix ls_X1_matrix (zkq e4 rfl) (w_X1_matrix e5) (Nat.le_of_ble_eq_true rfl) rfl (by rw [← e2]; rfl) (Nat.le_of_ble_eq_true rfl) zkv0 (zkx ?_)
    rcases zif H with ⟨c60, H⟩ | ⟨c60, H⟩
    · have c60 := c60
      obtain ⟨rfl, rfl⟩ := Prod.mk.inj (Option.some.inj H)
      exact zx_out (zkq c60 rfl) (fun _ hz => nomatch hz) rfl rfl
    cases H
theorem ls_X1_multiplyNow : Cond.selects yX1_multiplyNow.cls yX1_multiplyNow yX1_multiplyNow ∈ lw_all := lw_g (lw_ms _ (List.mem_of_getElem? (i := 68) rfl)) rfl
def M_X1_multiplyInto : zM := (yX1_multiplyInto, cX1_multiplyInto, 4, (.some .int), [])
theorem mf_X1_multiplyInto : zMi M_X1_multiplyInto 3 := ⟨⟨q2036, q180, ⟨by decide +kernel, by decide +kernel⟩, by decide +kernel, by decide⟩, q2034⟩
def f_X1_multiplyInto (p0 : Option Nat) (p1 : Int32) (p2 : Int32) (p3 : Int32) (h : zH) : Option ((Int32 ⊕ Nat) × zH) :=
  (zgR 1 5 p0 h).bind fun x1 =>
  (zrv 2 x1 h).bind fun b3 =>
  zb2 (f_X2_copy (some b3) h) fun x9 h8 =>
  (zrv 1 p0 h8).bind fun b10 =>
  zb3 (f_X1_multiplyNow (some b10) p1 p2 p3 h8) (fun x15 h16 =>
  (zrv 1 p0 h16).bind fun b19 =>
  zb2 (f_X1_kept (some b19) x9 x15 h16) fun x25 h24 =>
  some (.inl x25, h24))
  (fun q17 h18 =>
  if zk h18 q17 = 20 then
  some (.inr q17, h18)
  else if zk h18 q17 = 22 then
  some (.inr q17, h18)
  else none)
theorem w_X1_multiplyInto {G : zG} {p0 : Option Nat} {p1 : Int32} {p2 : Int32} {p3 : Int32} {h : zH} {vo : Int32 ⊕ Nat} {vh : zH} (H : f_X1_multiplyInto p0 p1 p2 p3 h = some (vo, vh)) : zMet G M_X1_multiplyInto 13 [vR p0, vI p1, vI p2, vI p3] h (zoI vo) vh := by
  refine zMet.of (by decide +kernel) (Nat.le_of_ble_eq_true rfl) ?_
  show zW G M_X1_multiplyInto 13 h (zoI vo) vh 0 [(0, vR p0), (1, vI p1), (2, vI p2), (3, vI p3)] [] h
  unfold f_X1_multiplyInto at H
  refine zw_aload_n (pc := 0) dX1_multiplyInto_0 rfl 0 rfl ?_
  refine zw_aload_n (pc := 1) dX1_multiplyInto_1 rfl 0 rfl ?_
  obtain ⟨x1, e2, H⟩ := zbind H
  refine zy_getR (pc := 2) dX1_multiplyInto_2 lf_X1_120 (fun _ _ => rfl) e2 ?_
  obtain ⟨b3, e5, H⟩ := zbind H
  obtain ⟨e4, e6⟩ := zrv_ok e5
  obtain ⟨x9, h8, e7, H⟩ := zbind2 H
  refine zw_invV (pc := 5) (M' := M_X2_copy) (A := []) [vR p0] dX1_multiplyInto_5 (Or.inl q546) mf_X2_copy q548 (zkq e6 rfl) (w_X2_copy e7) (Nat.le_of_ble_eq_true rfl) rfl (by rw [← e4]; rfl) (Nat.le_of_ble_eq_true rfl) (zkv ?_) zkn9
  refine zw_aload_n (pc := 8) dX1_multiplyInto_8 rfl 0 rfl ?_
  refine zw_iload_n (pc := 9) dX1_multiplyInto_9 rfl 1 rfl ?_
  refine zw_iload_n (pc := 10) dX1_multiplyInto_10 rfl 2 rfl ?_
  refine zw_iload_n (pc := 11) dX1_multiplyInto_11 rfl 3 rfl ?_
  obtain ⟨b10, e12, H⟩ := zbind H
  obtain ⟨e11, e13⟩ := zrv_ok e12
  rcases zbind3 H with ⟨x15, h16, e14, H⟩ | ⟨q17, h18, e14, H⟩
  · refine zw_invV (pc := 12) (M' := M_X1_multiplyNow) (A := [vI p1, vI p2, vI p3]) [vR x9, vR p0] dX1_multiplyInto_12 (Or.inl q2037) mf_X1_multiplyNow ls_X1_multiplyNow (zkq e13 rfl) (w_X1_multiplyNow e14) (Nat.le_of_ble_eq_true rfl) rfl (by rw [← e11]; rfl) (Nat.le_of_ble_eq_true rfl) (zkv ?_) zkn9
    obtain ⟨b19, e21, H⟩ := zbind H
    obtain ⟨e20, e22⟩ := zrv_ok e21
    obtain ⟨x25, h24, e23, H⟩ := zbind2 H
    refine zw_invV (pc := 15) (M' := M_X1_kept) (A := [vR x9, vI x15]) [] dX1_multiplyInto_15 (Or.inl q1669) mf_X1_kept ls_X1_kept (zkq e22 rfl) (w_X1_kept e23) (Nat.le_of_ble_eq_true rfl) rfl (by rw [← e20]; rfl) (Nat.le_of_ble_eq_true rfl) (zkv ?_) zkn9
    obtain ⟨rfl, rfl⟩ := Prod.mk.inj (Option.some.inj H)
    exact zw_iret (pc := 18) dX1_multiplyInto_18 rfl rfl rfl
  · refine zw_invV (pc := 12) (M' := M_X1_multiplyNow) (A := [vI p1, vI p2, vI p3]) [vR x9, vR p0] dX1_multiplyInto_12 (Or.inl q2037) mf_X1_multiplyNow ls_X1_multiplyNow (zkq e13 rfl) (w_X1_multiplyNow e14) (Nat.le_of_ble_eq_true rfl) rfl (by rw [← e11]; rfl) (Nat.le_of_ble_eq_true rfl) zkv0 (zkx ?_)
    rcases zif H with ⟨c26, H⟩ | ⟨c26, H⟩
    · have c26 := c26
      obtain ⟨rfl, rfl⟩ := Prod.mk.inj (Option.some.inj H)
      exact zx_out (zkq c26 rfl) (fun _ hz => nomatch hz) rfl rfl
    rcases zif H with ⟨c27, H⟩ | ⟨c27, H⟩
    · have c27 := c27
      obtain ⟨rfl, rfl⟩ := Prod.mk.inj (Option.some.inj H)
      exact zx_out (zkq c27 rfl) (fun _ hz => nomatch hz) rfl rfl
    cases H
def M_X1_undo : zM := (yX1_undo, cX1_undo, 1, (.some .int), [])
theorem mf_X1_undo : zMi M_X1_undo 0 := ⟨⟨q2049, q180, ⟨by decide +kernel, by decide +kernel⟩, by decide +kernel, by decide⟩, q2047⟩
def B_X1_undo_15 (a0 : Option Nat) (a1 : Int32) (h : zH) : Option ((Int32 ⊕ Nat) × zH) :=
  zb3 (f_X1_may a1 h) (fun _ h3 =>
  (zgR 1 7 a0 h3).bind fun x6 =>
  (zrv 17 x6 h3).bind fun b8 =>
  zb2 (f_J1_removeLast (some b8) h3) fun x14 h13 =>
  if zct [2] x14 h13 = true then
  (zpR 1 5 a0 x14 h13).bind fun h16 =>
  (zgR 1 7 a0 h16).bind fun x18 =>
  (zrv 17 x18 h16).bind fun b20 =>
  (f_J1_size (some b20) h16).bind fun x25 =>
  some (.inl x25, h16)
  else none)
  (fun q4 h5 =>
  if zk h5 q4 = 22 then
  some (.inr q4, h5)
  else none)
theorem wB_X1_undo_15 {G : zG} {h0 h : zH} {vo : Int32 ⊕ Nat} {vh : zH} {a0 : Option Nat} {a1 : Int32} (H : B_X1_undo_15 a0 a1 h = some (vo, vh)) : zW G M_X1_undo 7 h0 (zoI vo) vh 15 [(0, vR a0)] [vI a1] h := by
  unfold B_X1_undo_15 at H
  rcases zbind3 H with ⟨x2, h3, e1, H⟩ | ⟨q4, h5, e1, H⟩
  · refine zw_invS (pc := 15) (M' := M_X1_may) (A := [vI a1]) [] dX1_undo_15 (Or.inl q565) mf_X1_may (w_X1_may e1) (Nat.le_of_ble_eq_true rfl) rfl rfl (Nat.le_of_ble_eq_true rfl) (zku ?_) zkn9
    refine zw_aload_n (pc := 18) dX1_undo_18 rfl 0 rfl ?_
    refine zw_aload_n (pc := 19) dX1_undo_19 rfl 0 rfl ?_
    obtain ⟨x6, e7, H⟩ := zbind H
    refine zy_getR (pc := 20) dX1_undo_20 lf_X1_127 (fun _ _ => rfl) e7 ?_
    obtain ⟨b8, e10, H⟩ := zbind H
    obtain ⟨e9, e11⟩ := zrv_ok e10
    obtain ⟨x14, h13, e12, H⟩ := zbind2 H
    refine zw_invV (pc := 23) (M' := M_J1_removeLast) (A := []) [vR a0] dX1_undo_23 (Or.inl q2054) mf_J1_removeLast q2056 (zkq e11 rfl) (w_J1_removeLast e12) (Nat.le_of_ble_eq_true rfl) rfl (by rw [← e9]; rfl) (Nat.le_of_ble_eq_true rfl) (zkv ?_) zkn9
    obtain ⟨c15, H⟩ := zgd H
    refine zy_cast (pc := 26) [2] dX1_undo_26 lc_X1_117 c15 ?_
    obtain ⟨h16, e17, H⟩ := zbind H
    refine zy_putR (pc := 29) dX1_undo_29 lp_X1_120 rfl e17 ?_
    refine zw_aload_n (pc := 32) dX1_undo_32 rfl 0 rfl ?_
    obtain ⟨x18, e19, H⟩ := zbind H
    refine zy_getR (pc := 33) dX1_undo_33 lf_X1_127 (fun _ _ => rfl) e19 ?_
    obtain ⟨b20, e22, H⟩ := zbind H
    obtain ⟨e21, e23⟩ := zrv_ok e22
    obtain ⟨x25, e24, H⟩ := zbind H
    refine zw_invV (pc := 36) (M' := M_J1_size) (A := []) [] dX1_undo_36 (Or.inl q1698) mf_J1_size q1700 (zkq e23 rfl) (w_J1_size e24) (Nat.le_of_ble_eq_true rfl) rfl (by rw [← e21]; rfl) (Nat.le_of_ble_eq_true rfl) (zkv ?_) zkn9
    obtain ⟨rfl, rfl⟩ := Prod.mk.inj (Option.some.inj H)
    exact zw_iret (pc := 39) dX1_undo_39 rfl rfl rfl
  · refine zw_invS (pc := 15) (M' := M_X1_may) (A := [vI a1]) [] dX1_undo_15 (Or.inl q565) mf_X1_may (w_X1_may e1) (Nat.le_of_ble_eq_true rfl) rfl rfl (Nat.le_of_ble_eq_true rfl) zkv0 (zkx ?_)
    rcases zif H with ⟨c26, H⟩ | ⟨c26, H⟩
    · have c26 := c26
      obtain ⟨rfl, rfl⟩ := Prod.mk.inj (Option.some.inj H)
      exact zx_out (zkq c26 rfl) (fun _ hz => nomatch hz) rfl rfl
    cases H
def f_X1_undo (p0 : Option Nat) (h : zH) : Option ((Int32 ⊕ Nat) × zH) :=
  (zgR 1 7 p0 h).bind fun x1 =>
  (zrv 17 x1 h).bind fun b3 =>
  (f_J1_isEmpty (some b3) h).bind fun x8 =>
  if x8 = 0 then
  B_X1_undo_15 p0 (1 : Int32) h
  else
  B_X1_undo_15 p0 (0 : Int32) h
theorem w_X1_undo {G : zG} {p0 : Option Nat} {h : zH} {vo : Int32 ⊕ Nat} {vh : zH} (H : f_X1_undo p0 h = some (vo, vh)) : zMet G M_X1_undo 7 [vR p0] h (zoI vo) vh := by
  refine zMet.of (by decide +kernel) (Nat.le_of_ble_eq_true rfl) ?_
  show zW G M_X1_undo 7 h (zoI vo) vh 0 [(0, vR p0)] [] h
  unfold f_X1_undo at H
  refine zw_aload_n (pc := 0) dX1_undo_0 rfl 0 rfl ?_
  obtain ⟨x1, e2, H⟩ := zbind H
  refine zy_getR (pc := 1) dX1_undo_1 lf_X1_127 (fun _ _ => rfl) e2 ?_
  obtain ⟨b3, e5, H⟩ := zbind H
  obtain ⟨e4, e6⟩ := zrv_ok e5
  obtain ⟨x8, e7, H⟩ := zbind H
  refine zw_invV (pc := 4) (M' := M_J1_isEmpty) (A := []) [] dX1_undo_4 (Or.inl q2050) mf_J1_isEmpty q2052 (zkq e6 rfl) (w_J1_isEmpty e7) (Nat.le_of_ble_eq_true rfl) rfl (by rw [← e4]; rfl) (Nat.le_of_ble_eq_true rfl) (zkv ?_) zkn9
  rcases zif H with ⟨c9, H⟩ | ⟨c9, H⟩
  · refine zw_if_ne (pc := 7) (tgt := 14) dX1_undo_7 rfl (fun q => absurd c9 q) (fun _ => ?_)
    refine zw_iconst (pc := 10) (v := (1 : Int32)) dX1_undo_10 (by decide) ?_
    refine zw_goto (pc := 11) (tgt := 15) dX1_undo_11 rfl ?_
    refine zW_pick (lv' := [(0, vR p0)]) [0] rfl ?_
    exact wB_X1_undo_15 H
  · refine zw_if_ne (pc := 7) (tgt := 14) dX1_undo_7 rfl (fun _ => ?_) (fun q => absurd q c9)
    refine zw_iconst (pc := 14) (v := (0 : Int32)) dX1_undo_14 (by decide) ?_
    refine zW_pick (lv' := [(0, vR p0)]) [0] rfl ?_
    exact wB_X1_undo_15 H
theorem lf_X1_134 : zFl "CsrCalculator" 134 1 8 := ⟨_, "CsrCalculator", by decide, rfl, by decide, Or.inl q345, Or.inl rfl⟩
def M_X1_printMatrix : zM := (yX1_printMatrix, cX1_printMatrix, 5, (.some .int), [])
theorem mf_X1_printMatrix : zMi M_X1_printMatrix 1 := ⟨⟨q2071, q180, ⟨by decide +kernel, by decide +kernel⟩, by decide +kernel, by decide⟩, q2069⟩
def B_X1_printMatrix_51 (k27 : Option Nat → Option Nat → Int32 → Int32 → zH → Option ((Int32 ⊕ Nat) × zH)) (a0 : Option Nat) (a1 : Option Nat) (a2 : Int32) (a3 : Int32) (h : zH) : Option ((Int32 ⊕ Nat) × zH) :=
  (zrv 3 a1 h).bind fun b1 =>
  (f_X3_stores (some b1) a2 a3 h).bind fun x6 =>
  if x6 = 0 then
  (zgR 1 8 a0 h).bind fun x8 =>
  (zrv 18 x8 h).bind fun b10 =>
  zb2 (f_J3_append (some b10) (46 : Int32) h) fun x16 h15 =>
  k27 a0 a1 a2 (a3 + (1 : Int32)) h15
  else
  (zgR 1 8 a0 h).bind fun x17 =>
  (zrv 3 a1 h).bind fun b19 =>
  (f_X3_value (some b19) a2 a3 h).bind fun x24 =>
  (zrv 18 x17 h).bind fun b25 =>
  zb2 (f_J3_append_2 (some b25) x24 h) fun x31 h30 =>
  k27 a0 a1 a2 (a3 + (1 : Int32)) h30
theorem wB_X1_printMatrix_51 {G : zG} {h0 h : zH} {vo : Int32 ⊕ Nat} {vh : zH} {k27 : Option Nat → Option Nat → Int32 → Int32 → zH → Option ((Int32 ⊕ Nat) × zH)} (hk27 : ∀ (b0 : Option Nat) (b1 : Option Nat) (b2 : Int32) (b3 : Int32) (h' : zH), k27 b0 b1 b2 b3 h' = some (vo, vh) → zW G M_X1_printMatrix 10 h0 (zoI vo) vh 27 [(0, vR b0), (2, vR b1), (3, vI b2), (4, vI b3)] [] h') {a0 : Option Nat} {a1 : Option Nat} {a2 : Int32} {a3 : Int32} (H : B_X1_printMatrix_51 k27 a0 a1 a2 a3 h = some (vo, vh)) : zW G M_X1_printMatrix 10 h0 (zoI vo) vh 51 [(0, vR a0), (2, vR a1), (3, vI a2), (4, vI a3)] [] h := by
  unfold B_X1_printMatrix_51 at H
  refine zw_aload_n (pc := 51) dX1_printMatrix_51 rfl 1 rfl ?_
  refine zw_iload_n (pc := 52) dX1_printMatrix_52 rfl 2 rfl ?_
  refine zw_iload (pc := 53) dX1_printMatrix_53 3 rfl ?_
  obtain ⟨b1, e3, H⟩ := zbind H
  obtain ⟨e2, e4⟩ := zrv_ok e3
  obtain ⟨x6, e5, H⟩ := zbind H
  refine zw_invV (pc := 55) (M' := M_X3_stores) (A := [vI a2, vI a3]) [] dX1_printMatrix_55 (Or.inl q1635) mf_X3_stores q399 (zkq e4 rfl) (w_X3_stores e5) (Nat.le_of_ble_eq_true rfl) rfl (by rw [← e2]; rfl) (Nat.le_of_ble_eq_true rfl) (zkv ?_) zkn9
  rcases zif H with ⟨c7, H⟩ | ⟨c7, H⟩
  · refine zw_if_eq (pc := 58) (tgt := 79) dX1_printMatrix_58 rfl (fun _ => ?_) (fun q => absurd c7 q)
    refine zw_aload_n (pc := 79) dX1_printMatrix_79 rfl 0 rfl ?_
    obtain ⟨x8, e9, H⟩ := zbind H
    refine zy_getR (pc := 80) dX1_printMatrix_80 lf_X1_134 (fun _ _ => rfl) e9 ?_
    refine zw_bipush (pc := 83) (v := (46 : Int32)) dX1_printMatrix_83 (by decide) ?_
    obtain ⟨b10, e12, H⟩ := zbind H
    obtain ⟨e11, e13⟩ := zrv_ok e12
    obtain ⟨x16, h15, e14, H⟩ := zbind2 H
    refine zw_invV (pc := 85) (M' := M_J3_append) (A := [vI (46 : Int32)]) [] dX1_printMatrix_85 (Or.inl q2124) mf_J3_append q706 (zkq e13 rfl) (w_J3_append e14) (Nat.le_of_ble_eq_true rfl) rfl (by rw [← e11]; rfl) (Nat.le_of_ble_eq_true rfl) (zkv ?_) zkn9
    refine zw_pop (pc := 88) dX1_printMatrix_88 rfl ?_
    refine zw_iinc (pc := 89) (v := (a3 + (1 : Int32))) (lv' := [(4, vI (a3 + (1 : Int32))), (0, vR a0), (2, vR a1), (3, vI a2)]) dX1_printMatrix_89 3 rfl rfl (by decide) rfl ?_
    refine zw_goto (pc := 92) (tgt := 27) dX1_printMatrix_92 rfl ?_
    refine zW_pick (lv' := [(0, vR a0), (2, vR a1), (3, vI a2), (4, vI (a3 + (1 : Int32)))]) [1, 2, 3, 0] rfl ?_
    exact hk27 _ _ _ _ _ H
  · refine zw_if_eq (pc := 58) (tgt := 79) dX1_printMatrix_58 rfl (fun q => absurd q c7) (fun _ => ?_)
    refine zw_aload_n (pc := 61) dX1_printMatrix_61 rfl 0 rfl ?_
    obtain ⟨x17, e18, H⟩ := zbind H
    refine zy_getR (pc := 62) dX1_printMatrix_62 lf_X1_134 (fun _ _ => rfl) e18 ?_
    refine zw_aload_n (pc := 65) dX1_printMatrix_65 rfl 1 rfl ?_
    refine zw_iload_n (pc := 66) dX1_printMatrix_66 rfl 2 rfl ?_
    refine zw_iload (pc := 67) dX1_printMatrix_67 3 rfl ?_
    obtain ⟨b19, e21, H⟩ := zbind H
    obtain ⟨e20, e22⟩ := zrv_ok e21
    obtain ⟨x24, e23, H⟩ := zbind H
    refine zw_invV (pc := 69) (M' := M_X3_value) (A := [vI a2, vI a3]) [vR x17] dX1_printMatrix_69 (Or.inl q1648) mf_X3_value q410 (zkq e22 rfl) (w_X3_value e23) (Nat.le_of_ble_eq_true rfl) rfl (by rw [← e20]; rfl) (Nat.le_of_ble_eq_true rfl) (zkv ?_) zkn9
    obtain ⟨b25, e27, H⟩ := zbind H
    obtain ⟨e26, e28⟩ := zrv_ok e27
    obtain ⟨x31, h30, e29, H⟩ := zbind2 H
    refine zw_invV (pc := 72) (M' := M_J3_append_2) (A := [vI x24]) [] dX1_printMatrix_72 (Or.inl q2125) mf_J3_append_2 q831 (zkq e28 rfl) (w_J3_append_2 e29) (Nat.le_of_ble_eq_true rfl) rfl (by rw [← e26]; rfl) (Nat.le_of_ble_eq_true rfl) (zkv ?_) zkn9
    refine zw_pop (pc := 75) dX1_printMatrix_75 rfl ?_
    refine zw_goto (pc := 76) (tgt := 89) dX1_printMatrix_76 rfl ?_
    refine zw_iinc (pc := 89) (v := (a3 + (1 : Int32))) (lv' := [(4, vI (a3 + (1 : Int32))), (0, vR a0), (2, vR a1), (3, vI a2)]) dX1_printMatrix_89 3 rfl rfl (by decide) rfl ?_
    refine zw_goto (pc := 92) (tgt := 27) dX1_printMatrix_92 rfl ?_
    refine zW_pick (lv' := [(0, vR a0), (2, vR a1), (3, vI a2), (4, vI (a3 + (1 : Int32)))]) [1, 2, 3, 0] rfl ?_
    exact hk27 _ _ _ _ _ H
def B_X1_printMatrix_27 (k16 : Option Nat → Option Nat → Int32 → zH → Option ((Int32 ⊕ Nat) × zH)) (k27 : Option Nat → Option Nat → Int32 → Int32 → zH → Option ((Int32 ⊕ Nat) × zH)) (a0 : Option Nat) (a1 : Option Nat) (a2 : Int32) (a3 : Int32) (h : zH) : Option ((Int32 ⊕ Nat) × zH) :=
  (zgI 3 1 a1 h).bind fun x1 =>
  if x1 ≤ a3 then
  (zgR 1 8 a0 h).bind fun x4 =>
  (zrv 18 x4 h).bind fun b6 =>
  zb2 (f_J3_append (some b6) (10 : Int32) h) fun x12 h11 =>
  k16 a0 a1 (a2 + (1 : Int32)) h11
  else
  if a3 ≤ 0 then
  B_X1_printMatrix_51 k27 a0 a1 a2 a3 h
  else
  (zgR 1 8 a0 h).bind fun x14 =>
  (zrv 18 x14 h).bind fun b16 =>
  zb2 (f_J3_append (some b16) (32 : Int32) h) fun x22 h21 =>
  B_X1_printMatrix_51 k27 a0 a1 a2 a3 h21
theorem wB_X1_printMatrix_27 {G : zG} {h0 h : zH} {vo : Int32 ⊕ Nat} {vh : zH} {k16 : Option Nat → Option Nat → Int32 → zH → Option ((Int32 ⊕ Nat) × zH)} (hk16 : ∀ (b0 : Option Nat) (b1 : Option Nat) (b2 : Int32) (h' : zH), k16 b0 b1 b2 h' = some (vo, vh) → zW G M_X1_printMatrix 10 h0 (zoI vo) vh 16 [(0, vR b0), (2, vR b1), (3, vI b2)] [] h') {k27 : Option Nat → Option Nat → Int32 → Int32 → zH → Option ((Int32 ⊕ Nat) × zH)} (hk27 : ∀ (b0 : Option Nat) (b1 : Option Nat) (b2 : Int32) (b3 : Int32) (h' : zH), k27 b0 b1 b2 b3 h' = some (vo, vh) → zW G M_X1_printMatrix 10 h0 (zoI vo) vh 27 [(0, vR b0), (2, vR b1), (3, vI b2), (4, vI b3)] [] h') {a0 : Option Nat} {a1 : Option Nat} {a2 : Int32} {a3 : Int32} (H : B_X1_printMatrix_27 k16 k27 a0 a1 a2 a3 h = some (vo, vh)) : zW G M_X1_printMatrix 10 h0 (zoI vo) vh 27 [(0, vR a0), (2, vR a1), (3, vI a2), (4, vI a3)] [] h := by
  unfold B_X1_printMatrix_27 at H
  refine zw_iload (pc := 27) dX1_printMatrix_27 3 rfl ?_
  refine zw_aload_n (pc := 29) dX1_printMatrix_29 rfl 1 rfl ?_
  obtain ⟨x1, e2, H⟩ := zbind H
  refine zy_getI (pc := 30) dX1_printMatrix_30 lf_X1_167 (fun _ _ => rfl) e2 ?_
  rcases zif H with ⟨c3, H⟩ | ⟨c3, H⟩
  · refine zw_icmp_ge (pc := 33) (tgt := 95) dX1_printMatrix_33 rfl (fun _ => ?_) (fun q => absurd c3 q)
    refine zw_aload_n (pc := 95) dX1_printMatrix_95 rfl 0 rfl ?_
    obtain ⟨x4, e5, H⟩ := zbind H
    refine zy_getR (pc := 96) dX1_printMatrix_96 lf_X1_134 (fun _ _ => rfl) e5 ?_
    refine zw_bipush (pc := 99) (v := (10 : Int32)) dX1_printMatrix_99 (by decide) ?_
    obtain ⟨b6, e8, H⟩ := zbind H
    obtain ⟨e7, e9⟩ := zrv_ok e8
    obtain ⟨x12, h11, e10, H⟩ := zbind2 H
    refine zw_invV (pc := 101) (M' := M_J3_append) (A := [vI (10 : Int32)]) [] dX1_printMatrix_101 (Or.inl q2124) mf_J3_append q706 (zkq e9 rfl) (w_J3_append e10) (Nat.le_of_ble_eq_true rfl) rfl (by rw [← e7]; rfl) (Nat.le_of_ble_eq_true rfl) (zkv ?_) zkn9
    refine zw_pop (pc := 104) dX1_printMatrix_104 rfl ?_
    refine zw_iinc (pc := 105) (v := (a2 + (1 : Int32))) (lv' := [(3, vI (a2 + (1 : Int32))), (0, vR a0), (2, vR a1), (4, vI a3)]) dX1_printMatrix_105 2 rfl rfl (by decide) rfl ?_
    refine zw_goto (pc := 108) (tgt := 16) dX1_printMatrix_108 rfl ?_
    refine zW_pick (lv' := [(0, vR a0), (2, vR a1), (3, vI (a2 + (1 : Int32)))]) [1, 2, 0] rfl ?_
    exact hk16 _ _ _ _ H
  · refine zw_icmp_ge (pc := 33) (tgt := 95) dX1_printMatrix_33 rfl (fun q => absurd q c3) (fun _ => ?_)
    refine zw_iload (pc := 36) dX1_printMatrix_36 3 rfl ?_
    rcases zif H with ⟨c13, H⟩ | ⟨c13, H⟩
    · refine zw_if_le (pc := 38) (tgt := 51) dX1_printMatrix_38 rfl (fun _ => ?_) (fun q => absurd c13 q)
      refine zW_pick (lv' := [(0, vR a0), (2, vR a1), (3, vI a2), (4, vI a3)]) [0, 1, 2, 3] rfl ?_
      exact wB_X1_printMatrix_51 hk27 H
    · refine zw_if_le (pc := 38) (tgt := 51) dX1_printMatrix_38 rfl (fun q => absurd q c13) (fun _ => ?_)
      refine zw_aload_n (pc := 41) dX1_printMatrix_41 rfl 0 rfl ?_
      obtain ⟨x14, e15, H⟩ := zbind H
      refine zy_getR (pc := 42) dX1_printMatrix_42 lf_X1_134 (fun _ _ => rfl) e15 ?_
      refine zw_bipush (pc := 45) (v := (32 : Int32)) dX1_printMatrix_45 (by decide) ?_
      obtain ⟨b16, e18, H⟩ := zbind H
      obtain ⟨e17, e19⟩ := zrv_ok e18
      obtain ⟨x22, h21, e20, H⟩ := zbind2 H
      refine zw_invV (pc := 47) (M' := M_J3_append) (A := [vI (32 : Int32)]) [] dX1_printMatrix_47 (Or.inl q2124) mf_J3_append q706 (zkq e19 rfl) (w_J3_append e20) (Nat.le_of_ble_eq_true rfl) rfl (by rw [← e17]; rfl) (Nat.le_of_ble_eq_true rfl) (zkv ?_) zkn9
      refine zw_pop (pc := 50) dX1_printMatrix_50 rfl ?_
      refine zW_pick (lv' := [(0, vR a0), (2, vR a1), (3, vI a2), (4, vI a3)]) [0, 1, 2, 3] rfl ?_
      exact wB_X1_printMatrix_51 hk27 H
def B_X1_printMatrix_16 (k16 : Option Nat → Option Nat → Int32 → zH → Option ((Int32 ⊕ Nat) × zH)) (a0 : Option Nat) (a1 : Option Nat) (a2 : Int32) (h : zH) : Option ((Int32 ⊕ Nat) × zH) :=
  (zgI 3 0 a1 h).bind fun x1 =>
  if x1 ≤ a2 then
  (zgR 1 8 a0 h).bind fun x4 =>
  (zrv 18 x4 h).bind fun b6 =>
  (f_J3_length (some b6) h).bind fun x11 =>
  some (.inl x11, h)
  else
  zloop (B_X1_printMatrix_27 k16) (fun _ _ _ _ _ => none) zFU a0 a1 a2 (0 : Int32) h
theorem wB_X1_printMatrix_16 {G : zG} {h0 h : zH} {vo : Int32 ⊕ Nat} {vh : zH} {k16 : Option Nat → Option Nat → Int32 → zH → Option ((Int32 ⊕ Nat) × zH)} (hk16 : ∀ (b0 : Option Nat) (b1 : Option Nat) (b2 : Int32) (h' : zH), k16 b0 b1 b2 h' = some (vo, vh) → zW G M_X1_printMatrix 10 h0 (zoI vo) vh 16 [(0, vR b0), (2, vR b1), (3, vI b2)] [] h') {a0 : Option Nat} {a1 : Option Nat} {a2 : Int32} (H : B_X1_printMatrix_16 k16 a0 a1 a2 h = some (vo, vh)) : zW G M_X1_printMatrix 10 h0 (zoI vo) vh 16 [(0, vR a0), (2, vR a1), (3, vI a2)] [] h := by
  unfold B_X1_printMatrix_16 at H
  refine zw_iload_n (pc := 16) dX1_printMatrix_16 rfl 2 rfl ?_
  refine zw_aload_n (pc := 17) dX1_printMatrix_17 rfl 1 rfl ?_
  obtain ⟨x1, e2, H⟩ := zbind H
  refine zy_getI (pc := 18) dX1_printMatrix_18 lf_X1_158 (fun _ _ => rfl) e2 ?_
  rcases zif H with ⟨c3, H⟩ | ⟨c3, H⟩
  · refine zw_icmp_ge (pc := 21) (tgt := 111) dX1_printMatrix_21 rfl (fun _ => ?_) (fun q => absurd c3 q)
    refine zw_aload_n (pc := 111) dX1_printMatrix_111 rfl 0 rfl ?_
    obtain ⟨x4, e5, H⟩ := zbind H
    refine zy_getR (pc := 112) dX1_printMatrix_112 lf_X1_134 (fun _ _ => rfl) e5 ?_
    obtain ⟨b6, e8, H⟩ := zbind H
    obtain ⟨e7, e9⟩ := zrv_ok e8
    obtain ⟨x11, e10, H⟩ := zbind H
    refine zw_invV (pc := 115) (M' := M_J3_length) (A := []) [] dX1_printMatrix_115 (Or.inl q2126) mf_J3_length q699 (zkq e9 rfl) (w_J3_length e10) (Nat.le_of_ble_eq_true rfl) rfl (by rw [← e7]; rfl) (Nat.le_of_ble_eq_true rfl) (zkv ?_) zkn9
    obtain ⟨rfl, rfl⟩ := Prod.mk.inj (Option.some.inj H)
    exact zw_iret (pc := 118) dX1_printMatrix_118 rfl rfl rfl
  · refine zw_icmp_ge (pc := 21) (tgt := 111) dX1_printMatrix_21 rfl (fun q => absurd q c3) (fun _ => ?_)
    refine zw_iconst (pc := 24) (v := (0 : Int32)) dX1_printMatrix_24 (by decide) ?_
    refine zw_istore (pc := 25) (lv' := [(4, vI (0 : Int32)), (0, vR a0), (2, vR a1), (3, vI a2)]) dX1_printMatrix_25 (by decide) rfl ?_
    refine zW_pick (lv' := [(0, vR a0), (2, vR a1), (3, vI a2), (4, vI (0 : Int32))]) [1, 2, 3, 0] rfl ?_
    exact zloop_ind (body := (B_X1_printMatrix_27 k16)) (bot := (fun _ _ _ _ _ => none)) (P := (fun (f : Option Nat → Option Nat → Int32 → Int32 → zH → Option ((Int32 ⊕ Nat) × zH)) => ∀ (b0 : Option Nat) (b1 : Option Nat) (b2 : Int32) (b3 : Int32) (h' : zH), f b0 b1 b2 b3 h' = some (vo, vh) → zW G M_X1_printMatrix 10 h0 (zoI vo) vh 27 [(0, vR b0), (2, vR b1), (3, vI b2), (4, vI b3)] [] h')) zFU (fun _ _ _ _ _ H => nomatch H) (fun f hf c0 c1 c2 c3 h' H => wB_X1_printMatrix_27 hk16 hf H) _ _ _ _ _ H
def f_X1_printMatrix (p0 : Option Nat) (p1 : Int32) (h : zH) : Option ((Int32 ⊕ Nat) × zH) :=
  (zrv 1 p0 h).bind fun b1 =>
  zb3 (f_X1_matrix (some b1) p1 h) (fun x6 h7 =>
  (zgR 1 8 p0 h7).bind fun x10 =>
  (zrv 18 x10 h7).bind fun b12 =>
  (f_J3_setLength (some b12) (0 : Int32) h7).bind fun h17 =>
  zloop (B_X1_printMatrix_16) (fun _ _ _ _ => none) zFU p0 x6 (0 : Int32) h17)
  (fun q8 h9 =>
  if zk h9 q8 = 20 then
  some (.inr q8, h9)
  else none)
theorem w_X1_printMatrix {G : zG} {p0 : Option Nat} {p1 : Int32} {h : zH} {vo : Int32 ⊕ Nat} {vh : zH} (H : f_X1_printMatrix p0 p1 h = some (vo, vh)) : zMet G M_X1_printMatrix 10 [vR p0, vI p1] h (zoI vo) vh := by
  refine zMet.of (by decide +kernel) (Nat.le_of_ble_eq_true rfl) ?_
  show zW G M_X1_printMatrix 10 h (zoI vo) vh 0 [(0, vR p0), (1, vI p1)] [] h
  unfold f_X1_printMatrix at H
  refine zw_aload_n (pc := 0) dX1_printMatrix_0 rfl 0 rfl ?_
  refine zw_iload_n (pc := 1) dX1_printMatrix_1 rfl 1 rfl ?_
  obtain ⟨b1, e3, H⟩ := zbind H
  obtain ⟨e2, e4⟩ := zrv_ok e3
  rcases zbind3 H with ⟨x6, h7, e5, H⟩ | ⟨q8, h9, e5, H⟩
  · refine zw_invV (pc := 2) (M' := M_X1_matrix) (A := [vI p1]) [] dX1_printMatrix_2 (Or.inl q1567) mf_X1_matrix ls_X1_matrix (zkq e4 rfl) (w_X1_matrix e5) (Nat.le_of_ble_eq_true rfl) rfl (by rw [← e2]; rfl) (Nat.le_of_ble_eq_true rfl) (zkv ?_) zkn9
    refine zw_astore_n (pc := 5) (lv' := [(2, vR x6), (0, vR p0), (1, vI p1)]) dX1_printMatrix_5 rfl (by decide) rfl ?_
    refine zw_aload_n (pc := 6) dX1_printMatrix_6 rfl 1 rfl ?_
    obtain ⟨x10, e11, H⟩ := zbind H
    refine zy_getR (pc := 7) dX1_printMatrix_7 lf_X1_134 (fun _ _ => rfl) e11 ?_
    refine zw_iconst (pc := 10) (v := (0 : Int32)) dX1_printMatrix_10 (by decide) ?_
    obtain ⟨b12, e14, H⟩ := zbind H
    obtain ⟨e13, e15⟩ := zrv_ok e14
    obtain ⟨h17, e16, H⟩ := zbind H
    refine zw_invV (pc := 11) (M' := M_J3_setLength) (A := [vI (0 : Int32)]) [] dX1_printMatrix_11 (Or.inl q2072) mf_J3_setLength q2074 (zkq e15 rfl) (w_J3_setLength e16) (Nat.le_of_ble_eq_true rfl) rfl (by rw [← e13]; rfl) (Nat.le_of_ble_eq_true rfl) (zku ?_) zkn9
    refine zw_iconst (pc := 14) (v := (0 : Int32)) dX1_printMatrix_14 (by decide) ?_
    refine zw_istore_n (pc := 15) (lv' := [(3, vI (0 : Int32)), (2, vR x6), (0, vR p0), (1, vI p1)]) dX1_printMatrix_15 rfl (by decide) rfl ?_
    refine zW_pick (lv' := [(0, vR p0), (2, vR x6), (3, vI (0 : Int32))]) [2, 1, 0] rfl ?_
    exact zloop_ind (body := (B_X1_printMatrix_16)) (bot := (fun _ _ _ _ => none)) (P := (fun (f : Option Nat → Option Nat → Int32 → zH → Option ((Int32 ⊕ Nat) × zH)) => ∀ (b0 : Option Nat) (b1 : Option Nat) (b2 : Int32) (h' : zH), f b0 b1 b2 h' = some (vo, vh) → zW G M_X1_printMatrix 10 h (zoI vo) vh 16 [(0, vR b0), (2, vR b1), (3, vI b2)] [] h')) zFU (fun _ _ _ _ H => nomatch H) (fun f hf c0 c1 c2 h' H => wB_X1_printMatrix_16 hf H) _ _ _ _ H
  · refine zw_invV (pc := 2) (M' := M_X1_matrix) (A := [vI p1]) [] dX1_printMatrix_2 (Or.inl q1567) mf_X1_matrix ls_X1_matrix (zkq e4 rfl) (w_X1_matrix e5) (Nat.le_of_ble_eq_true rfl) rfl (by rw [← e2]; rfl) (Nat.le_of_ble_eq_true rfl) zkv0 (zkx ?_)
    rcases zif H with ⟨c18, H⟩ | ⟨c18, H⟩
    · have c18 := c18
      obtain ⟨rfl, rfl⟩ := Prod.mk.inj (Option.some.inj H)
      exact zx_out (zkq c18 rfl) (fun _ hz => nomatch hz) rfl rfl
    cases H
def M_X1_outputByte : zM := (yX1_outputByte, cX1_outputByte, 2, (.some .int), [])
theorem mf_X1_outputByte : zMi M_X1_outputByte 1 := ⟨⟨q2133, q180, ⟨by decide +kernel, by decide +kernel⟩, by decide +kernel, by decide⟩, q2131⟩
def f_X1_outputByte (p0 : Option Nat) (p1 : Int32) (h : zH) : Option ((Int32 ⊕ Nat) × zH) :=
  (zgR 1 8 p0 h).bind fun x1 =>
  (zrv 18 x1 h).bind fun b3 =>
  (f_J3_length (some b3) h).bind fun x8 =>
  (f_X1_isIn p1.toInt64 (0 : Int64) (x8 - (1 : Int32)).toInt64 h).bind fun x10 =>
  zb3 (f_X1_index x10 h) (fun _ h13 =>
  (zgR 1 8 p0 h13).bind fun x16 =>
  (zrv 18 x16 h13).bind fun b18 =>
  (f_J3_charAt (some b18) p1 h13).bind fun x23 =>
  some (.inl x23, h13))
  (fun q14 h15 =>
  if zk h15 q14 = 20 then
  some (.inr q14, h15)
  else none)
theorem w_X1_outputByte {G : zG} {p0 : Option Nat} {p1 : Int32} {h : zH} {vo : Int32 ⊕ Nat} {vh : zH} (H : f_X1_outputByte p0 p1 h = some (vo, vh)) : zMet G M_X1_outputByte 7 [vR p0, vI p1] h (zoI vo) vh := by
  refine zMet.of (by decide +kernel) (Nat.le_of_ble_eq_true rfl) ?_
  show zW G M_X1_outputByte 7 h (zoI vo) vh 0 [(0, vR p0), (1, vI p1)] [] h
  unfold f_X1_outputByte at H
  refine zw_iload_n (pc := 0) dX1_outputByte_0 rfl 1 rfl ?_
  refine zw_i2l (pc := 1) dX1_outputByte_1 ?_
  refine zw_lconst (pc := 2) (v := (0 : Int64)) dX1_outputByte_2 (by decide) ?_
  refine zw_aload_n (pc := 3) dX1_outputByte_3 rfl 0 rfl ?_
  obtain ⟨x1, e2, H⟩ := zbind H
  refine zy_getR (pc := 4) dX1_outputByte_4 lf_X1_134 (fun _ _ => rfl) e2 ?_
  obtain ⟨b3, e5, H⟩ := zbind H
  obtain ⟨e4, e6⟩ := zrv_ok e5
  obtain ⟨x8, e7, H⟩ := zbind H
  refine zw_invV (pc := 7) (M' := M_J3_length) (A := []) [vJ (0 : Int64), vJ p1.toInt64] dX1_outputByte_7 (Or.inl q2126) mf_J3_length q699 (zkq e6 rfl) (w_J3_length e7) (Nat.le_of_ble_eq_true rfl) rfl (by rw [← e4]; rfl) (Nat.le_of_ble_eq_true rfl) (zkv ?_) zkn9
  refine zw_iconst (pc := 10) (v := (1 : Int32)) dX1_outputByte_10 (by decide) ?_
  refine zw_isub (pc := 11) dX1_outputByte_11 ?_
  refine zw_i2l (pc := 12) dX1_outputByte_12 ?_
  obtain ⟨x10, e9, H⟩ := zbind H
  refine zw_invS (pc := 13) (M' := M_X1_isIn) (A := [vJ p1.toInt64, vJ (0 : Int64), vJ (x8 - (1 : Int32)).toInt64]) [] dX1_outputByte_13 (Or.inl q603) mf_X1_isIn (w_X1_isIn e9) (Nat.le_of_ble_eq_true rfl) rfl rfl (Nat.le_of_ble_eq_true rfl) (zkv ?_) zkn9
  rcases zbind3 H with ⟨x12, h13, e11, H⟩ | ⟨q14, h15, e11, H⟩
  · refine zw_invS (pc := 16) (M' := M_X1_index) (A := [vI x10]) [] dX1_outputByte_16 (Or.inl q1572) mf_X1_index (w_X1_index e11) (Nat.le_of_ble_eq_true rfl) rfl rfl (Nat.le_of_ble_eq_true rfl) (zku ?_) zkn9
    refine zw_aload_n (pc := 19) dX1_outputByte_19 rfl 0 rfl ?_
    obtain ⟨x16, e17, H⟩ := zbind H
    refine zy_getR (pc := 20) dX1_outputByte_20 lf_X1_134 (fun _ _ => rfl) e17 ?_
    refine zw_iload_n (pc := 23) dX1_outputByte_23 rfl 1 rfl ?_
    obtain ⟨b18, e20, H⟩ := zbind H
    obtain ⟨e19, e21⟩ := zrv_ok e20
    obtain ⟨x23, e22, H⟩ := zbind H
    refine zw_invV (pc := 24) (M' := M_J3_charAt) (A := [vI p1]) [] dX1_outputByte_24 (Or.inl q2134) mf_J3_charAt q2136 (zkq e21 rfl) (w_J3_charAt e22) (Nat.le_of_ble_eq_true rfl) rfl (by rw [← e19]; rfl) (Nat.le_of_ble_eq_true rfl) (zkv ?_) zkn9
    obtain ⟨rfl, rfl⟩ := Prod.mk.inj (Option.some.inj H)
    exact zw_iret (pc := 27) dX1_outputByte_27 rfl rfl rfl
  · refine zw_invS (pc := 16) (M' := M_X1_index) (A := [vI x10]) [] dX1_outputByte_16 (Or.inl q1572) mf_X1_index (w_X1_index e11) (Nat.le_of_ble_eq_true rfl) rfl rfl (Nat.le_of_ble_eq_true rfl) zkv0 (zkx ?_)
    rcases zif H with ⟨c24, H⟩ | ⟨c24, H⟩
    · have c24 := c24
      obtain ⟨rfl, rfl⟩ := Prod.mk.inj (Option.some.inj H)
      exact zx_out (zkq c24 rfl) (fun _ hz => nomatch hz) rfl rfl
    cases H
theorem lf_X1_420 : zFl "CsrCalculator" 420 1 6 := ⟨_, "CsrCalculator", by decide, rfl, by decide, Or.inl q343, Or.inl rfl⟩
def M_X1_restoreState : zM := (yX1_restoreState, cX1_restoreState, 1, (.some .int), [])
theorem mf_X1_restoreState : zMi M_X1_restoreState 0 := ⟨⟨q2150, q180, ⟨by decide +kernel, by decide +kernel⟩, by decide +kernel, by decide⟩, q2148⟩
def B_X1_restoreState_12 (a0 : Option Nat) (a1 : Int32) (h : zH) : Option ((Int32 ⊕ Nat) × zH) :=
  zb3 (f_X1_may a1 h) (fun _ h3 =>
  (zgR 1 6 a0 h3).bind fun x6 =>
  (zrv 2 x6 h3).bind fun b8 =>
  zb2 (f_X2_copy (some b8) h3) fun x14 h13 =>
  (zpR 1 5 a0 x14 h13).bind fun h15 =>
  (zgR 1 7 a0 h15).bind fun x17 =>
  (zrv 17 x17 h15).bind fun b19 =>
  (f_J1_clear (some b19) h15).bind fun h24 =>
  (zgR 1 5 a0 h24).bind fun x25 =>
  (zrv 2 x25 h24).bind fun b27 =>
  (f_X2_stored (some b27) h24).bind fun x32 =>
  some (.inl x32, h24))
  (fun q4 h5 =>
  if zk h5 q4 = 22 then
  some (.inr q4, h5)
  else none)
theorem wB_X1_restoreState_12 {G : zG} {h0 h : zH} {vo : Int32 ⊕ Nat} {vh : zH} {a0 : Option Nat} {a1 : Int32} (H : B_X1_restoreState_12 a0 a1 h = some (vo, vh)) : zW G M_X1_restoreState 7 h0 (zoI vo) vh 12 [(0, vR a0)] [vI a1] h := by
  unfold B_X1_restoreState_12 at H
  rcases zbind3 H with ⟨x2, h3, e1, H⟩ | ⟨q4, h5, e1, H⟩
  · refine zw_invS (pc := 12) (M' := M_X1_may) (A := [vI a1]) [] dX1_restoreState_12 (Or.inl q565) mf_X1_may (w_X1_may e1) (Nat.le_of_ble_eq_true rfl) rfl rfl (Nat.le_of_ble_eq_true rfl) (zku ?_) zkn9
    refine zw_aload_n (pc := 15) dX1_restoreState_15 rfl 0 rfl ?_
    refine zw_aload_n (pc := 16) dX1_restoreState_16 rfl 0 rfl ?_
    obtain ⟨x6, e7, H⟩ := zbind H
    refine zy_getR (pc := 17) dX1_restoreState_17 lf_X1_420 (fun _ _ => rfl) e7 ?_
    obtain ⟨b8, e10, H⟩ := zbind H
    obtain ⟨e9, e11⟩ := zrv_ok e10
    obtain ⟨x14, h13, e12, H⟩ := zbind2 H
    refine zw_invV (pc := 20) (M' := M_X2_copy) (A := []) [vR a0] dX1_restoreState_20 (Or.inl q546) mf_X2_copy q548 (zkq e11 rfl) (w_X2_copy e12) (Nat.le_of_ble_eq_true rfl) rfl (by rw [← e9]; rfl) (Nat.le_of_ble_eq_true rfl) (zkv ?_) zkn9
    obtain ⟨h15, e16, H⟩ := zbind H
    refine zy_putR (pc := 23) dX1_restoreState_23 lp_X1_120 rfl e16 ?_
    refine zw_aload_n (pc := 26) dX1_restoreState_26 rfl 0 rfl ?_
    obtain ⟨x17, e18, H⟩ := zbind H
    refine zy_getR (pc := 27) dX1_restoreState_27 lf_X1_127 (fun _ _ => rfl) e18 ?_
    obtain ⟨b19, e21, H⟩ := zbind H
    obtain ⟨e20, e22⟩ := zrv_ok e21
    obtain ⟨h24, e23, H⟩ := zbind H
    refine zw_invV (pc := 30) (M' := M_J1_clear) (A := []) [] dX1_restoreState_30 (Or.inl q1451) mf_J1_clear q1453 (zkq e22 rfl) (w_J1_clear e23) (Nat.le_of_ble_eq_true rfl) rfl (by rw [← e20]; rfl) (Nat.le_of_ble_eq_true rfl) (zku ?_) zkn9
    refine zw_aload_n (pc := 33) dX1_restoreState_33 rfl 0 rfl ?_
    obtain ⟨x25, e26, H⟩ := zbind H
    refine zy_getR (pc := 34) dX1_restoreState_34 lf_X1_120 (fun _ _ => rfl) e26 ?_
    obtain ⟨b27, e29, H⟩ := zbind H
    obtain ⟨e28, e30⟩ := zrv_ok e29
    obtain ⟨x32, e31, H⟩ := zbind H
    refine zw_invV (pc := 37) (M' := M_X2_stored) (A := []) [] dX1_restoreState_37 (Or.inl q552) mf_X2_stored q554 (zkq e30 rfl) (w_X2_stored e31) (Nat.le_of_ble_eq_true rfl) rfl (by rw [← e28]; rfl) (Nat.le_of_ble_eq_true rfl) (zkv ?_) zkn9
    obtain ⟨rfl, rfl⟩ := Prod.mk.inj (Option.some.inj H)
    exact zw_iret (pc := 40) dX1_restoreState_40 rfl rfl rfl
  · refine zw_invS (pc := 12) (M' := M_X1_may) (A := [vI a1]) [] dX1_restoreState_12 (Or.inl q565) mf_X1_may (w_X1_may e1) (Nat.le_of_ble_eq_true rfl) rfl rfl (Nat.le_of_ble_eq_true rfl) zkv0 (zkx ?_)
    rcases zif H with ⟨c33, H⟩ | ⟨c33, H⟩
    · have c33 := c33
      obtain ⟨rfl, rfl⟩ := Prod.mk.inj (Option.some.inj H)
      exact zx_out (zkq c33 rfl) (fun _ hz => nomatch hz) rfl rfl
    cases H
def f_X1_restoreState (p0 : Option Nat) (h : zH) : Option ((Int32 ⊕ Nat) × zH) :=
  (zgR 1 6 p0 h).bind fun x1 =>
  if x1 = none then
  B_X1_restoreState_12 p0 (0 : Int32) h
  else
  B_X1_restoreState_12 p0 (1 : Int32) h
theorem w_X1_restoreState {G : zG} {p0 : Option Nat} {h : zH} {vo : Int32 ⊕ Nat} {vh : zH} (H : f_X1_restoreState p0 h = some (vo, vh)) : zMet G M_X1_restoreState 7 [vR p0] h (zoI vo) vh := by
  refine zMet.of (by decide +kernel) (Nat.le_of_ble_eq_true rfl) ?_
  show zW G M_X1_restoreState 7 h (zoI vo) vh 0 [(0, vR p0)] [] h
  unfold f_X1_restoreState at H
  refine zw_aload_n (pc := 0) dX1_restoreState_0 rfl 0 rfl ?_
  obtain ⟨x1, e2, H⟩ := zbind H
  refine zy_getR (pc := 1) dX1_restoreState_1 lf_X1_420 (fun _ _ => rfl) e2 ?_
  rcases zif H with ⟨c3, H⟩ | ⟨c3, H⟩
  · refine zw_ifnull (pc := 4) (tgt := 11) dX1_restoreState_4 rfl (fun _ => ?_) (fun q => absurd c3 q)
    refine zw_iconst (pc := 11) (v := (0 : Int32)) dX1_restoreState_11 (by decide) ?_
    refine zW_pick (lv' := [(0, vR p0)]) [0] rfl ?_
    exact wB_X1_restoreState_12 H
  · refine zw_ifnull (pc := 4) (tgt := 11) dX1_restoreState_4 rfl (fun q => absurd q c3) (fun _ => ?_)
    refine zw_iconst (pc := 7) (v := (1 : Int32)) dX1_restoreState_7 (by decide) ?_
    refine zw_goto (pc := 8) (tgt := 12) dX1_restoreState_8 rfl ?_
    refine zW_pick (lv' := [(0, vR p0)]) [0] rfl ?_
    exact wB_X1_restoreState_12 H
