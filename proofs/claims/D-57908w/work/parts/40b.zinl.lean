/-! THE z LAYER, 21: a call of a method by its body (no word says that its class is initialised) -/
section ZIN
variable {G : zG} {M : zM} {d : Nat} {h0 h9 h : zH} {o : zO} {pc : Nat} {lv : zL} {st : List zV}
theorem zinl {p : Program} {e : Env} {R : Room} {s : State} {m : MethodId} {args : Array Value} {below : List Frame} {meth : Method} {c : Code} {Q : State → Prop} {H : Heap} {locs : List Loc} {ls : Array Slot}
    (C : zC G M d h0 o h9 p e R s m args below meth c Q) (hr : zRep G h H) (h1 : h.1 = h0.1) (hz : zz h0 ≤ zz h) (hs : zs h0 ≤ zs h) (hL : ∀ q ∈ locs, zb h0 ≤ q.base) (hlv : lv_has ls M.2.2.1 (lv.map zvl))
    {M' : zM} {d' : Nat} {A rest : List zV} {v : Option zV} {h2 : zH} (hB : zW G M' d' h (.inl v) h2 0 (zargs 0 A) [] h) (hd' : d' + 1 ≤ d) (hnl : M'.2.2.1 ≤ 60) (hA : (A.map zc).sum ≤ M'.2.2.1) (hcw : zcw M' ∈ lw_all) (hx : plainFor M'.1 = true) (hw : (rest.map zc).sum ≤ 8)
    {T : State} {vm₁ : Vm} {mk : MethodId} {ig : Instr} {len : Nat} {stk : List Value} (hT : T.heap = H) (X₁ : Stand p G.1 e R s m args below meth c (T.setVm vm₁) locs (zz h - zz h0) (zs h - zs h0)) (hn : (T.setVm vm₁).methodNamed? M'.1 = some mk) (hdg : decode c.code pc = .ok (ig, len))
    (hstep : ∀ target, Steps p.tables e below (doInvoke e ((T.setVm vm₁).setTop (F0 m pc ls (rest.map zv))) [] mk (A.map zv).toArray).1 target → Steps p.tables e below (T.setTop (F0 m pc ls stk)) target)
    (kv : zW G M d h0 o h9 (pc + len) lv (v.toList ++ rest) h2) : ∃ t, Steps p.tables e below (T.setTop (F0 m pc ls stk)) t ∧ Q t := by
  obtain ⟨rf, rl, rc, rs⟩ := C.2.2.2.2.2.2.2.2.2.2.2.1
  have hts := C.2.2.2.2.2.1
  have eCX : zCX h = zCX h0 := by show h.1.2.1 = h0.1.2.1; rw [h1]
  have eSX : zSX h = zSX h0 := by show h.1.2.2.1 = h0.1.2.2.1; rw [h1]
  have hF : zF G h.1 (T.setVm vm₁) := by rw [h1]; exact C.2.2.2.2.2.2.2.2.2.1.rides X₁.warmed X₁.same
  obtain ⟨-, hc1, hc2⟩ := hr.2.1
  have hlo : zlo d' + 80 ≤ zlo d := by unfold zlo; omega
  have hws := pay_in hts lw_self
  have hc' : (zcw M').before args (T.setVm vm₁) = true := hws _ hcw _ _ X₁.warmed
  obtain ⟨methY, cY, y1, y2, y3, y4, y5, y6, y7, -⟩ := zcw_spec hn hc'
  have hwd : ((rest.map zv).map fun v => v.category).sum = (rest.map zc).sum := zcats rest
  obtain ⟨Y, hin⟩ := X₁.into (g := F0 m pc ls (rest.map zv)) rfl (by rw [C.2.2.2.1]; exact hlv.1) hdg (A.map zv).toArray (R' := { frames := d', cells := zCX h - zz h, slots := zSX h - zs h, locals := zlo d' }) y1 y2 y6 (State.plainMethod.of_named hx hn y1) (Nat.le_trans hd' rf)
    (by show 2 * 0 + _ + _ + zlo d' ≤ _; rw [hwd, y4]; omega) (by show _ + (zCX h - zz h) ≤ _; omega) (by show _ + (zSX h - zs h) ≤ _; omega)
  have hA9 : (lg_sl (A.map zv)).length ≤ M'.2.2.1 := by rw [zsl_len]; exact hA
  have hlv' := lv_entry (A.map zv) (n := M'.2.2.1) hA9
  rw [← zargs_ok] at hlv'
  have hT2 : ((T.setVm vm₁).calling (F0 m pc ls (rest.map zv)) mk (A.map zv).toArray).heap = H := hT
  have hk := hB p e ({ frames := d', cells := zCX h - zz h, slots := zSX h - zs h, locals := zlo d' } : Room) ((T.setVm vm₁).calling (F0 m pc ls (rest.map zv)) mk (A.map zv).toArray) mk (A.map zv).toArray (.java (F0 m pc ls (rest.map zv)) :: below) methY cY
    (fun t => ∃ L : List Loc, Ended t (.java (F0 m pc ls (rest.map zv)) :: below) (zoc (.inl v)) ∧ ((T.setVm vm₁).calling (F0 m pc ls (rest.map zv)) mk (A.map zv).toArray).WarmedH t.vm ∧ ((T.setVm vm₁).calling (F0 m pc ls (rest.map zv)) mk (A.map zv).toArray).sameButNew ({ t with vm := ((T.setVm vm₁).calling (F0 m pc ls (rest.map zv)) mk (A.map zv).toArray).vm } : State) L (zz h2 - zz h) (zs h2 - zs h) ∧ zRep G h2 t.heap ∧ h2.1 = h.1 ∧ zz h ≤ zz h2 ∧ zs h ≤ zs h2 ∧ ∀ q ∈ L, zb h ≤ q.base)
    H [] _
    ⟨C.1, y3, y5, y4, findClass_of_methodNamed hn, fun w hw => hws w hw _ _ X₁.warmed, y6, y7, ⟨(name_of_methodNamed hn y1).1, hn⟩, zF.calling _ _ _ hF, by rw [hT2]; exact hr, ⟨Nat.le_refl _, Nat.le_refl _, (by show zCX h ≤ zz h + (zCX h - zz h); omega), (by show zSX h ≤ zs h + (zSX h - zs h); omega)⟩, by rw [eSX]; exact C.2.2.2.2.2.2.2.2.2.2.2.2.1, C.2.2.2.2.2.2.2.2.2.2.2.2.2.1,
      fun t L q1 q2 q3 q4 q5 q6 q7 q8 q9 => ⟨L, q2, q3, q4, q5, q6, q7, q8, q9⟩⟩ hr rfl (Nat.le_refl _) (Nat.le_refl _) (fun q hq => by cases hq) hlv'
  rw [Nat.sub_self, Nat.sub_self] at hk
  obtain ⟨t, a1, L, b1, b2, b3, b4, b5, b6, b7, b8⟩ := hk _ (show ((((T.setVm vm₁).setTop (F0 m pc ls (rest.map zv))).pushFrame (.java (entryFrame mk (A.map zv).toArray cY.maxLocals))).heap = H) from hT) Y
  obtain ⟨T', X', hW', -, ht⟩ := X₁.outOf (g := F0 m pc ls (rest.map zv)) rfl hdg b1 b2 b3
  have q1 : zz h - zz h0 + (zz h2 - zz h) = zz h2 - zz h0 := by omega
  have q2 : zs h - zs h0 + (zs h2 - zs h) = zs h2 - zs h0 := by omega
  rw [q1, q2] at X'
  have hL2 : ∀ q ∈ locs ++ L, zb h0 ≤ q.base := fun x hx => by
    rcases List.mem_append.mp hx with hx | hx
    · exact hL x hx
    · have := b8 x hx
      show h0.1.1 ≤ x.base
      rw [← h1]; exact this
  have hth : t.heap = T'.heap := by rw [ht]; rfl
  obtain ⟨t2, a2, c2⟩ := kv p e R s m args below meth c Q T'.heap (locs ++ L) ls C (by rw [← hth]; exact b4) (b5.trans h1) (Nat.le_trans hz b6) (Nat.le_trans hs b7) hL2 hlv T' rfl X'
  refine ⟨t2, hstep t2 ?_, c2⟩
  rw [hin]
  have hent : entryFrame mk (A.map zv).toArray cY.maxLocals = F0 mk 0 ((lg_sl (A.map zv) ++ List.replicate (M'.2.2.1 - (lg_sl (A.map zv)).length) Slot.unset).toArray) [] := by rw [lg_entry_eq, y4]
  have a1' : Steps p.tables e below ((((T.setVm vm₁).setTop (F0 m pc ls (rest.map zv))).pushFrame (.java (entryFrame mk (A.map zv).toArray cY.maxLocals))).setTop (entryFrame mk (A.map zv).toArray cY.maxLocals)) t := by
    refine Steps.weaken (mid := [.java (F0 m pc ls (rest.map zv))]) ?_
    rw [hent] at a1 ⊢
    exact a1
  refine a1'.trans ?_
  rw [ht]
  have ev : (v.map zv).toList ++ rest.map zv = (v.toList ++ rest).map zv := by cases v <;> simp
  show Steps p.tables e below (T'.setTop (F0 m (pc + len) ls ((v.map zv).toList ++ rest.map zv))) t2
  rw [ev]
  exact a2
/-- a Join's 'of' -/
theorem zw_joinOf {M' : zM} {d' idx b : Nat} {x y w : Int64} (rest : List zV) {cn : String} (hd : decode M.2.1 pc = .ok (.invokevirtual idx, 3)) (hl : Cond.methodLink M.1.cls idx ⟨"CsrCalculator$Join", "of", "(JJ)J"⟩ ∈ lw_all)
    (hcw : zcw M' ∈ lw_all) (hinst : Cond.instanceMethod M'.1 ∈ lw_all) (hnl : M'.2.2.1 = 5) (hx : plainFor M'.1 = true) (hsel : Cond.selects cn ⟨"CsrCalculator$Join", "of", "(JJ)J"⟩ M'.1 ∈ lw_all) (hq : zkn (zk h b) = some cn)
    (hB : zW G M' d' h (.inl (some (vJ w))) h 0 (zargs 0 [vR (some b), vJ x, vJ y]) [] h) (hd' : d' + 1 ≤ d) (hst : st = vJ y :: vJ x :: vR (some b) :: rest) (hw : (rest.map zc).sum ≤ 8)
    (kk : zW G M d h0 o h9 (pc + 3) lv (vJ w :: rest) h) : zW G M d h0 o h9 pc lv st h := by
  intro p e R s m args below meth c Q H locs ls C hr h1 hz hs hL hlv
  intro T hT X
  have hts := C.2.2.2.2.2.1
  obtain ⟨cell, b1, b2, b3, b4, -⟩ := zcls hr C.2.2.2.2.2.2.2.2.2.1 hq
  obtain ⟨r0, r, hn0, hrm, hstR, hsigR⟩ : va_Decl s ⟨"CsrCalculator$Join", "of", "(JJ)J"⟩ := Cond.declares_spec (va_Nw.use (A := args) rfl (C.2.2.2.2.2.2.2.2.2.1.1.2.2.2.2.2.2.2.2.1 _ (by decide +kernel)))
  have hsame : Cond.sameMethod "CsrCalculator$Join" "CsrCalculator$Join" "of" "(JJ)J" ∈ lw_all := q1419
  obtain ⟨cn9, ck, r1, hcn, hck, hni, hf, hn1⟩ := Cond.sameMethod_found (hts _ hsame)
  cases hn0.symm.trans hn1
  obtain ⟨mk, methM, hnamed, hmethM, -, habM⟩ := Cond.instanceMethod_spec (hts _ hinst)
  obtain ⟨c2, r2, m2, q1, q2, q3, q4, kP, hkP, hkPi⟩ := Cond.selects_spec (hts _ hsel)
  cases b4.symm.trans q1
  cases hf.symm.trans q2
  cases hnamed.symm.trans q3
  have hselP : selectMethod e.platform s.vm cell.cls r0 = .method mk := by rw [Launch.admits_selectMethod X.admits]; exact q4
  have hlen : ([vJ x, vJ y].map zv).length = r.sig.parameters.length := by
    have h5 : parseMethodDescriptor "(JJ)J" = some { parameters := [.long, .long], returnType := some .long } := by decide +kernel
    have h6 := hsigR
    rw [show (⟨"CsrCalculator$Join", "of", "(JJ)J"⟩ : MethodName).desc = "(JJ)J" from rfl, h5] at h6
    rw [← Option.some.inj h6]
    rfl
  subst hst
  obtain ⟨vm₁, X₁, hstep₁⟩ := X.invokevirtualUp C.1 C.2.2.2.2.1 (hts _ hl) (hts _ hsame) (by decide) hn0 hrm hstR (a := b) (cell := cell) (by rw [hT]; exact b1) (fun z h => by rw [h] at b3; cases b3) hselP hmethM habM hkP hkPi (g := F0 m pc ls ((vJ y :: vJ x :: vR (some b) :: rest).map zv)) rfl (argsL := [vJ x, vJ y].map zv) (rest := rest.map zv) hlen rfl (by rw [C.2.1]; exact hd)
  exact zinl C hr h1 hz hs hL hlv (A := [vR (some b), vJ x, vJ y]) (rest := rest) hB hd' (by rw [hnl]; decide) (by rw [hnl]; exact Nat.le_refl 5) hcw hx hw hT X₁ (X₁.named hnamed) (by rw [C.2.1]; exact hd) (fun target ht => hstep₁ _ fun acts => by rw [doInvoke_state]; exact ht) kk
end ZIN
